/-! Leaves: Day, Rain, Road, Named, Place, Seen, Leg and World made, the arithmetic of RainWalk -/
set_option maxRecDepth 100000
set_option maxHeartbeats 1000000 in
/-- RainWalk.in -/
theorem ct_X1_in {G : Gm} {l : Launch} (v : Int) (lo : Int) (hi : Int) (wl : va_W) (h1 : -2147483648 ≤ v ∧ v < 2147483648) (h2 : -2147483648 ≤ lo ∧ lo < 2147483648) (h3 : -2147483648 ≤ hi ∧ hi < 2147483648) : Ct G l yX1_in (ws_ yX1_in cX1_in 3 (some .boolean)) ({ frames := 0, cells := 0, slots := 0, locals := 0 } : Room) [.int (iI v), .int (iI lo), .int (iI hi)] ([] ++ wl) (fun _ : Unit => True) (fun _ : Unit => ((some (.int (iI (pI (lo ≤ v ∧ v ≤ hi))))) : Option Value)) (fun _ : Unit => (([] ++ wl) : va_W)) := by
  refine Ct.of (by decide) rfl ?_
  intro pP eE sS mM below meth cC A ls Q F hE hA hP hD hS hl hQ
  have hl : lv_has ls 3 [(0, .int (iI v)), (1, .int (iI lo)), (2, .int (iI hi))] := hl
  refine lv_iload_n F.1 F.2.1 dX1_in_0 rfl (lv_at hl 0 rfl) ?_
  refine lv_iload_n F.1 F.2.1 dX1_in_1 rfl (lv_at hl 1 rfl) ?_
  refine r_icmp_lt F (tgt := 14) (by omega) (by omega) dX1_in_2 (by decide) (fun c_1 => ?_) (fun c_1 => ?_)
  · refine lv_iconst (v := iI 0) F.1 F.2.1 dX1_in_14 rfl ?_
    exact rt_z F hQ hS (Nat.le_of_ble_eq_true rfl) (Nat.le_of_ble_eq_true rfl) (Or.inl rfl) () (congrArg (fun z => some (Value.int (iI z))) (show (pI (lo ≤ v ∧ v ≤ hi)) = 0 from by exact pI_f (by omega))) trivial hP hD dX1_in_15
  · refine lv_iload_n F.1 F.2.1 dX1_in_5 rfl (lv_at hl 0 rfl) ?_
    refine lv_iload_n F.1 F.2.1 dX1_in_6 rfl (lv_at hl 2 rfl) ?_
    refine r_icmp_gt F (tgt := 14) (by omega) (by omega) dX1_in_7 (by decide) (fun c_2 => ?_) (fun c_2 => ?_)
    · refine lv_iconst (v := iI 0) F.1 F.2.1 dX1_in_14 rfl ?_
      exact rt_z F hQ hS (Nat.le_of_ble_eq_true rfl) (Nat.le_of_ble_eq_true rfl) (Or.inl rfl) () (congrArg (fun z => some (Value.int (iI z))) (show (pI (lo ≤ v ∧ v ≤ hi)) = 0 from by exact pI_f (by omega))) trivial hP hD dX1_in_15
    · refine lv_iconst (v := iI 1) F.1 F.2.1 dX1_in_10 rfl ?_
      refine lv_goto (tgt := 15) F.1 F.2.1 dX1_in_11 (by decide) ?_
      exact rt_z F hQ hS (Nat.le_of_ble_eq_true rfl) (Nat.le_of_ble_eq_true rfl) (Or.inr rfl) () (congrArg (fun z => some (Value.int (iI z))) (show (pI (lo ≤ v ∧ v ≤ hi)) = 1 from by exact pI_t (by omega))) trivial hP hD dX1_in_15
set_option maxHeartbeats 1000000 in
/-- RainWalk.has -/
theorem ct_X1_has {G : Gm} {l : Launch} (t : Int) (k : Int) (wl : va_W) (h1 : 0 ≤ t ∧ t < 2147483648) (h2 : 0 ≤ k ∧ k < 31) : Ct G l yX1_has (ws_ yX1_has cX1_has 2 (some .boolean)) ({ frames := 0, cells := 0, slots := 0, locals := 0 } : Room) [.int (iI t), .int (iI k)] ([] ++ wl) (fun _ : Unit => True) (fun _ : Unit => ((some (.int (iI (pI (t / 2 ^ k.toNat % 2 = 1))))) : Option Value)) (fun _ : Unit => (([] ++ wl) : va_W)) := by
  refine Ct.of (by decide) rfl ?_
  intro pP eE sS mM below meth cC A ls Q F hE hA hP hD hS hl hQ
  have hl : lv_has ls 2 [(0, .int (iI t)), (1, .int (iI k))] := hl
  refine lv_iload_n F.1 F.2.1 dX1_has_0 rfl (lv_at hl 0 rfl) ?_
  refine lv_iload_n F.1 F.2.1 dX1_has_1 rfl (lv_at hl 1 rfl) ?_
  refine r_ishr F (by omega) k.toNat (by omega) (by omega) dX1_has_2 ?_
  refine lv_iconst (v := iI 1) F.1 F.2.1 dX1_has_3 rfl ?_
  refine r_andm F 1 (by decide) (by decide +kernel) dX1_has_4 ?_
  refine lv_iconst (v := iI 1) F.1 F.2.1 dX1_has_5 rfl ?_
  refine r_icmp_ne F (tgt := 13) (by omega) (by decide) dX1_has_6 (by decide) (fun c_1 => ?_) (fun c_1 => ?_)
  · refine lv_iconst (v := iI 0) F.1 F.2.1 dX1_has_13 rfl ?_
    exact rt_z F hQ hS (Nat.le_of_ble_eq_true rfl) (Nat.le_of_ble_eq_true rfl) (Or.inl rfl) () (congrArg (fun z => some (Value.int (iI z))) (show (pI (t / 2 ^ k.toNat % 2 = 1)) = 0 from by first | exact pI_t (by simpa using ‹_›) | exact pI_f (by simpa using ‹_›))) trivial hP hD dX1_has_14
  · refine lv_iconst (v := iI 1) F.1 F.2.1 dX1_has_9 rfl ?_
    refine lv_goto (tgt := 14) F.1 F.2.1 dX1_has_10 (by decide) ?_
    exact rt_z F hQ hS (Nat.le_of_ble_eq_true rfl) (Nat.le_of_ble_eq_true rfl) (Or.inr rfl) () (congrArg (fun z => some (Value.int (iI z))) (show (pI (t / 2 ^ k.toNat % 2 = 1)) = 1 from by first | exact pI_t (by simpa using ‹_›) | exact pI_f (by simpa using ‹_›))) trivial hP hD dX1_has_14
set_option maxHeartbeats 1000000 in
/-- RainWalk.common: the greatest common divisor -/
theorem ct_X1_common {G : Gm} {l : Launch} (a : Int) (b : Int) (wl : va_W) (h1 : 0 ≤ a ∧ a < 9223372036854775808) (h2 : 0 ≤ b ∧ b < 9223372036854775808) : Ct G l yX1_common (ws_ yX1_common cX1_common 10 (some .long)) ({ frames := 0, cells := 0, slots := 0, locals := 0 } : Room) [.long (lI a), .long (lI b)] ([] ++ wl) (fun _ : Unit => True) (fun _ : Unit => ((some (.long (lI (gI a b)))) : Option Value)) (fun _ : Unit => (([] ++ wl) : va_W)) := by
  refine Ct.of (by decide) rfl ?_
  intro pP eE sS mM below meth cC A ls Q F hE hA hP hD hS hl hQ
  have hl : lv_has ls 10 [(0, .long (lI a)), (2, .long (lI b))] := hl
  refine lv_lload_n F.1 F.2.1 dX1_common_0 rfl (lv_at hl 0 rfl) ?_
  refine lv_lstore (lv' := [(4, .long (lI a)), (0, .long (lI a)), (2, .long (lI b))]) F.1 F.2.1 dX1_common_1 hl (Nat.le_of_ble_eq_true rfl) rfl (fun ls hl => ?_)
  refine lv_lload_n F.1 F.2.1 dX1_common_3 rfl (lv_at hl 2 rfl) ?_
  refine lv_lstore (lv' := [(6, .long (lI b)), (4, .long (lI a)), (0, .long (lI a)), (2, .long (lI b))]) F.1 F.2.1 dX1_common_4 hl (Nat.le_of_ble_eq_true rfl) rfl (fun ls hl => ?_)
  have hl : lv_has ls 10 [(4, .long (lI a)), (6, .long (lI b))] := lv_sub hl [1, 0] rfl
  have hl : lv_has ls 10 [(4, .long (lI a)), (6, .long (lI b))] := hl
  refine lp_s (σ := Int × Int) (hd := 6) (st := []) (fun x => match x with | (x, y) => y.toNat) (fun x H locs ls => match x with | (x, y) => va_P G.1 clG ([] ++ wl) H ∧ va_D A ([] ++ wl) ∧ va_S A sS.heap H locs ∧ lv_has ls 10 [(4, .long (lI x)), (6, .long (lI y))] ∧ (0 ≤ x ∧ x < 9223372036854775808) ∧ (0 ≤ y ∧ y < 9223372036854775808) ∧ (gI x y = gI a b)) (fun x => match x with | (x, y) => 0) (fun x => match x with | (x, y) => 0) ?_ (a, b) _ _ _ ⟨hP, hD, hS, hl, (by omega), (by omega), rfl⟩
  rintro ⟨x, y⟩ H locs ls ⟨hP, hD, hS, hl, i1, i2, i3⟩ ih_6
  refine lv_lload F.1 F.2.1 dX1_common_6 (lv_at hl 1 rfl) ?_
  refine lv_lconst (v := lI 0) F.1 F.2.1 dX1_common_8 (by decide +kernel) ?_
  refine r_lcmp F (by omega) (by decide) dX1_common_9 ?_
  refine r_if_eq F (tgt := 31) cmp_in dX1_common_10 (by decide) (fun c_1 => ?_) (fun c_1 => ?_)
  · have c_1 := cmpI_eq.mp c_1
    refine lv_lload F.1 F.2.1 dX1_common_31 (lv_at hl 0 rfl) ?_
    exact rt_l F hQ hS (Nat.le_of_ble_eq_true rfl) (Nat.le_of_ble_eq_true rfl) () (congrArg (fun z => some (Value.long (lI z))) (show (gI a b) = x from by rw [← i3, show y = 0 by omega, gI_0 (by omega)])) trivial hP hD dX1_common_33
  · have c_1 := cmpI_ne0 c_1
    refine lv_lload F.1 F.2.1 dX1_common_13 (lv_at hl 0 rfl) ?_
    refine lv_lload F.1 F.2.1 dX1_common_15 (lv_at hl 1 rfl) ?_
    refine r_lrem F (by omega) (by omega) dX1_common_17 ?_
    refine lv_lstore (lv' := [(8, .long (lI (x % y))), (4, .long (lI x)), (6, .long (lI y))]) F.1 F.2.1 dX1_common_18 hl (Nat.le_of_ble_eq_true rfl) rfl (fun ls hl => ?_)
    refine lv_lload F.1 F.2.1 dX1_common_20 (lv_at hl 2 rfl) ?_
    refine lv_lstore (lv' := [(4, .long (lI y)), (8, .long (lI (x % y))), (6, .long (lI y))]) F.1 F.2.1 dX1_common_22 hl (Nat.le_of_ble_eq_true rfl) rfl (fun ls hl => ?_)
    refine lv_lload F.1 F.2.1 dX1_common_24 (lv_at hl 1 rfl) ?_
    refine lv_lstore (lv' := [(6, .long (lI (x % y))), (4, .long (lI y)), (8, .long (lI (x % y)))]) F.1 F.2.1 dX1_common_26 hl (Nat.le_of_ble_eq_true rfl) rfl (fun ls hl => ?_)
    refine lv_goto (tgt := 6) F.1 F.2.1 dX1_common_28 (by decide) ?_
    have m0 := Int.emod_nonneg x (show y ≠ 0 by omega)
    have m1 := Int.emod_lt_of_pos x (show 0 < y by omega)
    have hl : lv_has ls 10 [(4, .long (lI y)), (6, .long (lI (x % y)))] := lv_sub hl [1, 0] rfl
    have hl : lv_has ls 10 [(4, .long (lI y)), (6, .long (lI (x % y)))] := hl
    exact ih_6 (y, x % y) _ _ _ (by dsimp only; omega) ⟨hP, hD, hS, hl, (by omega), (by omega), (by rw [gI_step (by omega) (by omega)]; exact i3)⟩
theorem hd_X1_common : Hd yX1_common 2 := ⟨by decide +kernel, by decide +kernel, by decide +kernel⟩
set_option maxHeartbeats 1000000 in
/-- RainWalk.part: a fraction in lowest terms -/
theorem ct_X1_part {G : Gm} {l : Launch} (u : Int) (d : Int) (lw : Prop) [Decidable lw] (wl : va_W) (h1 : 0 ≤ u ∧ u < 9223372036854775808) (h2 : 0 < d ∧ d < 9223372036854775808) : Ct G l yX1_part (ws_ yX1_part cX1_part 7 (some .long)) ({ frames := 1, cells := 0, slots := 0, locals := 29 } : Room) [.long (lI u), .long (lI d), .int (iI (pI lw))] ([] ++ wl) (fun _ : Unit => True) (fun _ : Unit => ((some (.long (lI (partM u d lw)))) : Option Value)) (fun _ : Unit => (([] ++ wl) : va_W)) := by
  refine Ct.of (by decide) rfl ?_
  intro pP eE sS mM below meth cC A ls Q F hE hA hP hD hS hl hQ
  have hl : lv_has ls 7 [(0, .long (lI u)), (2, .long (lI d)), (4, .int (iI (pI lw)))] := hl
  have g0 := gI_pos (a := u) (b := d) (by omega)
  have g1 := gI_le (a := u) (b := d) (by omega)
  refine lv_lload_n F.1 F.2.1 dX1_part_0 rfl (lv_at hl 0 rfl) ?_
  refine lv_lload_n F.1 F.2.1 dX1_part_1 rfl (lv_at hl 1 rfl) ?_
  refine cl_S F (ct_X1_common u d wl h1 (by omega)) hd_X1_common q1104 q1105 q112 q1106 hE hP hD hS hA (X := []) (pl := wl) (cx := []) (wr := []) [] [] rfl rfl rfl rfl (by decide) rfl rfl rfl (Nat.le_of_ble_eq_true rfl) hl.1 dX1_part_2 ⟨Nat.le_of_ble_eq_true rfl, Nat.le_of_ble_eq_true rfl⟩ ⟨Nat.le_of_ble_eq_true rfl, Nat.le_of_ble_eq_true rfl⟩ (fun _ H locs _ hP hD hS => ?_)
  have hP : va_P G.1 clG ([] ++ wl) _ := hP
  have hD : va_D A ([] ++ wl) := hD
  refine W.eq (g2 := F0 mM 5 ls [.long (lI (gI u d))]) rfl ?_
  refine lv_lstore (lv' := [(5, .long (lI (gI u d))), (0, .long (lI u)), (2, .long (lI d)), (4, .int (iI (pI lw)))]) F.1 F.2.1 dX1_part_5 hl (Nat.le_of_ble_eq_true rfl) rfl (fun ls hl => ?_)
  refine lv_iload F.1 F.2.1 dX1_part_7 (lv_at hl 3 rfl) ?_
  refine r_ifz F (tgt := 16) dX1_part_9 (by decide) (fun c_3 => ?_) (fun c_3 => ?_)
  · refine lv_lload_n F.1 F.2.1 dX1_part_16 rfl (lv_at hl 1 rfl) ?_
    refine lv_lload F.1 F.2.1 dX1_part_17 (lv_at hl 0 rfl) ?_
    refine r_ldiv F (by omega) (by omega) dX1_part_19 ?_
    exact rt_l F hQ hS (Nat.le_of_ble_eq_true rfl) (Nat.le_of_ble_eq_true rfl) () (congrArg (fun z => some (Value.long (lI z))) (show (partM u d lw) = (u / (gI u d)) from by unfold partM; first | rw [if_pos ‹lw›] | rw [if_neg ‹¬ lw›])) trivial hP hD dX1_part_20
  · refine lv_lload_n F.1 F.2.1 dX1_part_12 rfl (lv_at hl 2 rfl) ?_
    refine lv_goto (tgt := 17) F.1 F.2.1 dX1_part_13 (by decide) ?_
    refine lv_lload F.1 F.2.1 dX1_part_17 (lv_at hl 0 rfl) ?_
    refine r_ldiv F (by omega) (by omega) dX1_part_19 ?_
    exact rt_l F hQ hS (Nat.le_of_ble_eq_true rfl) (Nat.le_of_ble_eq_true rfl) () (congrArg (fun z => some (Value.long (lI z))) (show (partM u d lw) = (d / (gI u d)) from by unfold partM; first | rw [if_pos ‹lw›] | rw [if_neg ‹¬ lw›])) trivial hP hD dX1_part_20
set_option maxHeartbeats 1000000 in
/-- Day() -/
theorem ct_X6_init {G : Gm} {l : Launch} (h0 : Nat) (wl : va_W) : Ct G l yX6_init (ws_ yX6_init cX6_init 1 none) ({ frames := 1, cells := 1, slots := 5, locals := 12 } : Room) [.ref h0] ([(h0, .inr (5, [.null, .int (iI 0), .int (iI 0)]))] ++ wl) (fun (q : Nat) => True) (fun (q : Nat) => (none : Option Value)) (fun (q : Nat) => (([(h0, .inr (5, [.ref q, .int (iI 0), .int (iI 0)])), (q, .inl (G.2.1 3, 5, .inr (.inl (aL (fun _ => 0)))))] ++ wl) : va_W)) := by
  refine Ct.of (by decide) rfl ?_
  intro pP eE sS mM below meth cC A ls Q F hE hA hP hD hS hl hQ
  have hl : lv_has ls 1 [(0, .ref h0)] := hl
  refine lv_aload_n F.1 F.2.1 dX6_init_0 rfl (lv_at hl 0 rfl) ?_
  refine r_oinit F q328 q148 q149 hl.1 dX6_init_1 (Nat.le_of_ble_eq_true rfl) (Nat.le_of_ble_eq_true rfl) ?_
  refine lv_aload_n F.1 F.2.1 dX6_init_4 rfl (lv_at hl 0 rfl) ?_
  refine lv_iconst (v := iI 5) F.1 F.2.1 dX6_init_5 rfl ?_
  refine r_newa F (atype := .long) (a0 := (5, .inr (.inl (aL (fun _ => 0))))) 3 rfl rfl rfl q289 hE hP hD hS hA 5 rfl (by decide) new_J (Nat.le_of_ble_eq_true rfl) (Nat.le_of_ble_eq_true rfl) dX6_init_6 (fun q H hP hD hS => ?_)
  have hP : va_P G.1 clG ([(h0, .inr (5, [.null, .int (iI 0), .int (iI 0)])), (q, .inl (G.2.1 3, 5, .inr (.inl (aL (fun _ => 0)))))] ++ wl) _ := hP
  have hD : va_D A ([(h0, .inr (5, [.null, .int (iI 0), .int (iI 0)])), (q, .inl (G.2.1 3, 5, .inr (.inl (aL (fun _ => 0)))))] ++ wl) := hD
  refine W.cs (cells' := 1) (slots' := 5) rfl rfl ?_
  refine r_putF F (ci := 5) (v := .ref q) b_X6 hE hP hD hS 0 rfl 0 (by decide) q329 (fun _ h9 => h9) rfl rfl rfl rfl (Nat.le_of_ble_eq_true rfl) dX6_init_8 (fun H locs hP hD hS => ?_)
  have hP : va_P G.1 clG ([(h0, .inr (5, [.ref q, .int (iI 0), .int (iI 0)])), (q, .inl (G.2.1 3, 5, .inr (.inl (aL (fun _ => 0)))))] ++ wl) _ := hP
  have hD : va_D A ([(h0, .inr (5, [.ref q, .int (iI 0), .int (iI 0)])), (q, .inl (G.2.1 3, 5, .inr (.inl (aL (fun _ => 0)))))] ++ wl) := hD
  exact rt_v F hQ hS (Nat.le_of_ble_eq_true rfl) (Nat.le_of_ble_eq_true rfl) q rfl trivial hP hD dX6_init_11
set_option maxHeartbeats 1000000 in
/-- Day.all -/
theorem ct_X6_all {G : Gm} {l : Launch} (h0 : Nat) (a0 : Nat) (g : Nat → Int) (pl : Int) (mi : Int) (wl : va_W) : Ct G l yX6_all (ws_ yX6_all cX6_all 4 (some .long)) ({ frames := 0, cells := 0, slots := 0, locals := 0 } : Room) [.ref h0] ([(h0, .inr (5, [.ref a0, .int (iI pl), .int (iI mi)])), (a0, .inl (G.2.1 3, 5, .inr (.inl (aL g))))] ++ wl) (fun _ : Unit => True) (fun _ : Unit => ((some (.long (lI (sum5 g)))) : Option Value)) (fun _ : Unit => (([(h0, .inr (5, [.ref a0, .int (iI pl), .int (iI mi)])), (a0, .inl (G.2.1 3, 5, .inr (.inl (aL g))))] ++ wl) : va_W)) := by
  refine Ct.of (by decide) rfl ?_
  intro pP eE sS mM below meth cC A ls Q F hE hA hP hD hS hl hQ
  have hl : lv_has ls 4 [(0, .ref h0)] := hl
  refine lv_lconst (v := lI 0) F.1 F.2.1 dX6_all_0 (by decide +kernel) ?_
  refine lv_lstore_n (lv' := [(1, .long (lI 0)), (0, .ref h0)]) F.1 F.2.1 dX6_all_1 rfl hl (Nat.le_of_ble_eq_true rfl) rfl (fun ls hl => ?_)
  refine lv_iconst (v := iI 0) F.1 F.2.1 dX6_all_2 rfl ?_
  refine lv_istore_n (lv' := [(3, .int (iI 0)), (1, .long (lI 0)), (0, .ref h0)]) F.1 F.2.1 dX6_all_3 rfl hl (Nat.le_of_ble_eq_true rfl) rfl (fun ls hl => ?_)
  have hl : lv_has ls 4 [(0, .ref h0), (1, .long (lI 0)), (3, .int (iI 0))] := lv_sub hl [2, 1, 0] rfl
  have hl := lv_cv (fun zZ : Int => [(0, .ref h0), (1, .long (lI zZ)), (3, .int (iI 0))]) (show 0 = (sumI g 0) from by first | rfl | omega | (simp; done) | (simp; omega)) hl
  have hl := lv_cv (fun zZ : Int => [(0, .ref h0), (1, .long (lI (sumI g 0))), (3, .int (iI zZ))]) (show 0 = (0 : Int) from by first | rfl | omega | (simp; done) | (simp; omega)) hl
  have hl : lv_has ls 4 [(0, .ref h0), (1, .long (lI (sumI g 0))), (3, .int (iI (0 : Int)))] := hl
  refine lp_s (σ := Nat) (hd := 4) (st := []) (fun (i : Nat) => 5 - i) (fun (i : Nat) H locs ls => va_P G.1 clG ([(h0, .inr (5, [.ref a0, .int (iI pl), .int (iI mi)])), (a0, .inl (G.2.1 3, 5, .inr (.inl (aL g))))] ++ wl) H ∧ va_D A ([(h0, .inr (5, [.ref a0, .int (iI pl), .int (iI mi)])), (a0, .inl (G.2.1 3, 5, .inr (.inl (aL g))))] ++ wl) ∧ va_S A sS.heap H locs ∧ lv_has ls 4 [(0, .ref h0), (1, .long (lI (sumI g i))), (3, .int (iI (i : Int)))] ∧ (i ≤ 5)) (fun (i : Nat) => 0) (fun (i : Nat) => 0) ?_ 0 _ _ _ ⟨hP, hD, hS, hl, (by omega)⟩
  rintro i H locs ls ⟨hP, hD, hS, hl, hi⟩ ih_4
  refine lv_iload_n F.1 F.2.1 dX6_all_4 rfl (lv_at hl 2 rfl) ?_
  refine lv_iconst (v := iI 5) F.1 F.2.1 dX6_all_5 rfl ?_
  refine r_icmp_ge F (tgt := 24) (by omega) (by decide) dX6_all_6 (by decide) (fun c_1 => ?_) (fun c_1 => ?_)
  · refine lv_lload_n F.1 F.2.1 dX6_all_24 rfl (lv_at hl 1 rfl) ?_
    exact rt_l F hQ hS (Nat.le_of_ble_eq_true rfl) (Nat.le_of_ble_eq_true rfl) () (congrArg (fun z => some (Value.long (lI z))) (show (sum5 g) = (sumI g i) from by (obtain rfl : i = 5 := (by omega)); rfl)) trivial hP hD dX6_all_25
  · refine lv_lload_n F.1 F.2.1 dX6_all_9 rfl (lv_at hl 1 rfl) ?_
    refine lv_aload_n F.1 F.2.1 dX6_all_10 rfl (lv_at hl 0 rfl) ?_
    refine r_get F (ci := 5) (v := .ref a0) b_X6 hE hP 0 rfl 0 (by decide) q329 (fun _ h9 => h9) rfl dX6_all_11 ?_
    refine lv_iload_n F.1 F.2.1 dX6_all_14 rfl (lv_at hl 2 rfl) ?_
    refine r_lald F (g := g) hE hP 1 rfl i rfl (by omega) (by decide) dX6_all_15 ?_
    refine r_ladd F dX6_all_16 ?_
    refine lv_lstore_n (lv' := [(1, .long (lI ((sumI g i) + (g i)))), (0, .ref h0), (3, .int (iI (i : Int)))]) F.1 F.2.1 dX6_all_17 rfl hl (Nat.le_of_ble_eq_true rfl) rfl (fun ls hl => ?_)
    refine lv_iinc (v := iI ((i : Int) + 1)) (lv' := [(3, .int (iI ((i : Int) + 1))), (1, .long (lI ((sumI g i) + (g i)))), (0, .ref h0)]) (k := 2) F.1 F.2.1 dX6_all_18 hl rfl (iI_add _ _) (Nat.le_of_ble_eq_true rfl) rfl (fun ls hl => ?_)
    refine lv_goto (tgt := 4) F.1 F.2.1 dX6_all_21 (by decide) ?_
    have hl : lv_has ls 4 [(0, .ref h0), (1, .long (lI ((sumI g i) + (g i)))), (3, .int (iI ((i : Int) + 1)))] := lv_sub hl [2, 1, 0] rfl
    have hl := lv_cv (fun zZ : Int => [(0, .ref h0), (1, .long (lI zZ)), (3, .int (iI ((i : Int) + 1)))]) (show ((sumI g i) + (g i)) = (sumI g (i + 1)) from by first | rfl | omega | (simp; done) | (simp; omega)) hl
    have hl := lv_cv (fun zZ : Int => [(0, .ref h0), (1, .long (lI (sumI g (i + 1)))), (3, .int (iI zZ))]) (show ((i : Int) + 1) = ((i + 1) : Int) from by first | rfl | omega | (simp; done) | (simp; omega)) hl
    have hl : lv_has ls 4 [(0, .ref h0), (1, .long (lI (sumI g (i + 1)))), (3, .int (iI ((i + 1) : Int)))] := hl
    exact ih_4 (i + 1) _ _ _ (by first | omega | (dsimp only; omega)) ⟨hP, hD, hS, hl, (by omega)⟩
set_option maxHeartbeats 1000000 in
/-- Day.become -/
theorem ct_X6_become {G : Gm} {l : Launch} (h0 : Nat) (a0 : Nat) (h1 : Nat) (a1 : Nat) (g : Nat → Int) (g1 : Nat → Int) (pl : Int) (mi : Int) (pl1 : Int) (mi1 : Int) (wl : va_W) : Ct G l yX6_become (ws_ yX6_become cX6_become 2 none) ({ frames := 1, cells := 0, slots := 0, locals := 60 } : Room) [.ref h0, .ref h1] ([(h0, .inr (5, [.ref a0, .int (iI pl), .int (iI mi)])), (a0, .inl (G.2.1 3, 5, .inr (.inl (aL g)))), (h1, .inr (5, [.ref a1, .int (iI pl1), .int (iI mi1)])), (a1, .inl (G.2.1 3, 5, .inr (.inl (aL g1))))] ++ wl) (fun _ : Unit => True) (fun _ : Unit => (none : Option Value)) (fun _ : Unit => (([(h0, .inr (5, [.ref a0, .int (iI pl1), .int (iI mi1)])), (a0, .inl (G.2.1 3, 5, .inr (.inl (aL g1)))), (h1, .inr (5, [.ref a1, .int (iI pl1), .int (iI mi1)])), (a1, .inl (G.2.1 3, 5, .inr (.inl (aL g1))))] ++ wl) : va_W)) := by
  refine Ct.of (by decide) rfl ?_
  intro pP eE sS mM below meth cC A ls Q F hE hA hP hD hS hl hQ
  have hl : lv_has ls 2 [(0, .ref h0), (1, .ref h1)] := hl
  refine lv_aload_n F.1 F.2.1 dX6_become_0 rfl (lv_at hl 0 rfl) ?_
  refine lv_aload_n F.1 F.2.1 dX6_become_1 rfl (lv_at hl 1 rfl) ?_
  refine r_get F (ci := 5) (v := .int (iI pl1)) b_X6 hE hP 2 rfl 1 (by decide) q331 (fun _ h9 => h9) rfl dX6_become_2 ?_
  refine r_put F (ci := 5) (v := .int (iI pl1)) b_X6 hE hP hD hS 0 rfl 1 (by decide) q331 (fun _ h9 => h9) rfl rfl rfl (Nat.le_of_ble_eq_true rfl) dX6_become_5 (fun H locs hP hD hS => ?_)
  have hP : va_P G.1 clG ([(h0, .inr (5, [.ref a0, .int (iI pl1), .int (iI mi)])), (a0, .inl (G.2.1 3, 5, .inr (.inl (aL g)))), (h1, .inr (5, [.ref a1, .int (iI pl1), .int (iI mi1)])), (a1, .inl (G.2.1 3, 5, .inr (.inl (aL g1))))] ++ wl) _ := hP
  have hD : va_D A ([(h0, .inr (5, [.ref a0, .int (iI pl1), .int (iI mi)])), (a0, .inl (G.2.1 3, 5, .inr (.inl (aL g)))), (h1, .inr (5, [.ref a1, .int (iI pl1), .int (iI mi1)])), (a1, .inl (G.2.1 3, 5, .inr (.inl (aL g1))))] ++ wl) := hD
  refine lv_aload_n F.1 F.2.1 dX6_become_8 rfl (lv_at hl 0 rfl) ?_
  refine lv_aload_n F.1 F.2.1 dX6_become_9 rfl (lv_at hl 1 rfl) ?_
  refine r_get F (ci := 5) (v := .int (iI mi1)) b_X6 hE hP 2 rfl 2 (by decide) q333 (fun _ h9 => h9) rfl dX6_become_10 ?_
  refine r_put F (ci := 5) (v := .int (iI mi1)) b_X6 hE hP hD hS 0 rfl 2 (by decide) q333 (fun _ h9 => h9) rfl rfl rfl (Nat.le_of_ble_eq_true rfl) dX6_become_13 (fun H locs hP hD hS => ?_)
  have hP : va_P G.1 clG ([(h0, .inr (5, [.ref a0, .int (iI pl1), .int (iI mi1)])), (a0, .inl (G.2.1 3, 5, .inr (.inl (aL g)))), (h1, .inr (5, [.ref a1, .int (iI pl1), .int (iI mi1)])), (a1, .inl (G.2.1 3, 5, .inr (.inl (aL g1))))] ++ wl) _ := hP
  have hD : va_D A ([(h0, .inr (5, [.ref a0, .int (iI pl1), .int (iI mi1)])), (a0, .inl (G.2.1 3, 5, .inr (.inl (aL g)))), (h1, .inr (5, [.ref a1, .int (iI pl1), .int (iI mi1)])), (a1, .inl (G.2.1 3, 5, .inr (.inl (aL g1))))] ++ wl) := hD
  refine lv_aload_n F.1 F.2.1 dX6_become_16 rfl (lv_at hl 1 rfl) ?_
  refine r_get F (ci := 5) (v := .ref a1) b_X6 hE hP 2 rfl 0 (by decide) q329 (fun _ h9 => h9) rfl dX6_become_17 ?_
  refine lv_iconst (v := iI 0) F.1 F.2.1 dX6_become_20 rfl ?_
  refine lv_aload_n F.1 F.2.1 dX6_become_21 rfl (lv_at hl 0 rfl) ?_
  refine r_get F (ci := 5) (v := .ref a0) b_X6 hE hP 0 rfl 0 (by decide) q329 (fun _ h9 => h9) rfl dX6_become_22 ?_
  refine lv_iconst (v := iI 0) F.1 F.2.1 dX6_become_25 rfl ?_
  refine lv_iconst (v := iI 5) F.1 F.2.1 dX6_become_26 rfl ?_
  refine r_copy F (f := g1) (g := g) q1349 q1351 q1350 q140 hl.1 hE hP hD hS 3 1 rfl rfl (by decide) (Nat.le_of_ble_eq_true rfl) (by decide +kernel) dX6_become_27 (fun H locs hP hD hS => ?_)
  have hP : va_P G.1 clG ([(h0, .inr (5, [.ref a0, .int (iI pl1), .int (iI mi1)])), (a0, .inl (G.2.1 3, 5, .inr (.inl (aL (fun k => if k < 5 then g1 k else g k))))), (h1, .inr (5, [.ref a1, .int (iI pl1), .int (iI mi1)])), (a1, .inl (G.2.1 3, 5, .inr (.inl (aL g1))))] ++ wl) _ := hP
  have hD : va_D A ([(h0, .inr (5, [.ref a0, .int (iI pl1), .int (iI mi1)])), (a0, .inl (G.2.1 3, 5, .inr (.inl (aL (fun k => if k < 5 then g1 k else g k))))), (h1, .inr (5, [.ref a1, .int (iI pl1), .int (iI mi1)])), (a1, .inl (G.2.1 3, 5, .inr (.inl (aL g1))))] ++ wl) := hD
  obtain ⟨hP, hD⟩ := cvJ (g := (fun k => if k < 5 then g1 k else g k)) (g' := g1) hP hD 1 rfl (fun k hk => by first | (with_reducible rfl) | ((try dsimp only); rw [if_pos hk]))
  have hP : va_P G.1 clG ([(h0, .inr (5, [.ref a0, .int (iI pl1), .int (iI mi1)])), (a0, .inl (G.2.1 3, 5, .inr (.inl (aL g1)))), (h1, .inr (5, [.ref a1, .int (iI pl1), .int (iI mi1)])), (a1, .inl (G.2.1 3, 5, .inr (.inl (aL g1))))] ++ wl) _ := hP
  have hD : va_D A ([(h0, .inr (5, [.ref a0, .int (iI pl1), .int (iI mi1)])), (a0, .inl (G.2.1 3, 5, .inr (.inl (aL g1)))), (h1, .inr (5, [.ref a1, .int (iI pl1), .int (iI mi1)])), (a1, .inl (G.2.1 3, 5, .inr (.inl (aL g1))))] ++ wl) := hD
  exact rt_v F hQ hS (Nat.le_of_ble_eq_true rfl) (Nat.le_of_ble_eq_true rfl) () rfl trivial hP hD dX6_become_30
set_option maxHeartbeats 1000000 in
/-- Rain(..) -/
theorem ct_X9_init {G : Gm} {l : Launch} (h0 : Nat) (dr : Int) (dn : Int) (sd : Int) (wi : Int) (ch : Int) (wl : va_W) : Ct G l yX9_init (ws_ yX9_init cX9_init 6 none) ({ frames := 1, cells := 0, slots := 0, locals := 12 } : Room) [.ref h0, .int (iI dr), .int (iI dn), .int (iI sd), .int (iI wi), .int (iI ch)] ([(h0, .inr (7, [.int (iI 0), .int (iI 0), .int (iI 0), .int (iI 0), .int (iI 0)]))] ++ wl) (fun _ : Unit => True) (fun _ : Unit => (none : Option Value)) (fun _ : Unit => (([(h0, .inr (7, [.int (iI dr), .int (iI dn), .int (iI wi), .int (iI sd), .int (iI ch)]))] ++ wl) : va_W)) := by
  refine Ct.of (by decide) rfl ?_
  intro pP eE sS mM below meth cC A ls Q F hE hA hP hD hS hl hQ
  have hl : lv_has ls 6 [(0, .ref h0), (1, .int (iI dr)), (2, .int (iI dn)), (3, .int (iI sd)), (4, .int (iI wi)), (5, .int (iI ch))] := hl
  refine lv_aload_n F.1 F.2.1 dX9_init_0 rfl (lv_at hl 0 rfl) ?_
  refine r_oinit F q721 q148 q149 hl.1 dX9_init_1 (Nat.le_of_ble_eq_true rfl) (Nat.le_of_ble_eq_true rfl) ?_
  refine lv_aload_n F.1 F.2.1 dX9_init_4 rfl (lv_at hl 0 rfl) ?_
  refine lv_iload_n F.1 F.2.1 dX9_init_5 rfl (lv_at hl 1 rfl) ?_
  refine r_putF F (ci := 7) (v := .int (iI dr)) b_X9 hE hP hD hS 0 rfl 0 (by decide) q722 (fun _ h9 => h9) rfl rfl rfl rfl (Nat.le_of_ble_eq_true rfl) dX9_init_6 (fun H locs hP hD hS => ?_)
  have hP : va_P G.1 clG ([(h0, .inr (7, [.int (iI dr), .int (iI 0), .int (iI 0), .int (iI 0), .int (iI 0)]))] ++ wl) _ := hP
  have hD : va_D A ([(h0, .inr (7, [.int (iI dr), .int (iI 0), .int (iI 0), .int (iI 0), .int (iI 0)]))] ++ wl) := hD
  refine lv_aload_n F.1 F.2.1 dX9_init_9 rfl (lv_at hl 0 rfl) ?_
  refine lv_iload_n F.1 F.2.1 dX9_init_10 rfl (lv_at hl 2 rfl) ?_
  refine r_putF F (ci := 7) (v := .int (iI dn)) b_X9 hE hP hD hS 0 rfl 1 (by decide) q724 (fun _ h9 => h9) rfl rfl rfl rfl (Nat.le_of_ble_eq_true rfl) dX9_init_11 (fun H locs hP hD hS => ?_)
  have hP : va_P G.1 clG ([(h0, .inr (7, [.int (iI dr), .int (iI dn), .int (iI 0), .int (iI 0), .int (iI 0)]))] ++ wl) _ := hP
  have hD : va_D A ([(h0, .inr (7, [.int (iI dr), .int (iI dn), .int (iI 0), .int (iI 0), .int (iI 0)]))] ++ wl) := hD
  refine lv_aload_n F.1 F.2.1 dX9_init_14 rfl (lv_at hl 0 rfl) ?_
  refine lv_iload_n F.1 F.2.1 dX9_init_15 rfl (lv_at hl 3 rfl) ?_
  refine r_putF F (ci := 7) (v := .int (iI sd)) b_X9 hE hP hD hS 0 rfl 3 (by decide) q728 (fun _ h9 => h9) rfl rfl rfl rfl (Nat.le_of_ble_eq_true rfl) dX9_init_16 (fun H locs hP hD hS => ?_)
  have hP : va_P G.1 clG ([(h0, .inr (7, [.int (iI dr), .int (iI dn), .int (iI 0), .int (iI sd), .int (iI 0)]))] ++ wl) _ := hP
  have hD : va_D A ([(h0, .inr (7, [.int (iI dr), .int (iI dn), .int (iI 0), .int (iI sd), .int (iI 0)]))] ++ wl) := hD
  refine lv_aload_n F.1 F.2.1 dX9_init_19 rfl (lv_at hl 0 rfl) ?_
  refine lv_iload F.1 F.2.1 dX9_init_20 (lv_at hl 4 rfl) ?_
  refine r_putF F (ci := 7) (v := .int (iI wi)) b_X9 hE hP hD hS 0 rfl 2 (by decide) q726 (fun _ h9 => h9) rfl rfl rfl rfl (Nat.le_of_ble_eq_true rfl) dX9_init_22 (fun H locs hP hD hS => ?_)
  have hP : va_P G.1 clG ([(h0, .inr (7, [.int (iI dr), .int (iI dn), .int (iI wi), .int (iI sd), .int (iI 0)]))] ++ wl) _ := hP
  have hD : va_D A ([(h0, .inr (7, [.int (iI dr), .int (iI dn), .int (iI wi), .int (iI sd), .int (iI 0)]))] ++ wl) := hD
  refine lv_aload_n F.1 F.2.1 dX9_init_25 rfl (lv_at hl 0 rfl) ?_
  refine lv_iload F.1 F.2.1 dX9_init_26 (lv_at hl 5 rfl) ?_
  refine r_putF F (ci := 7) (v := .int (iI ch)) b_X9 hE hP hD hS 0 rfl 4 (by decide) q729 (fun _ h9 => h9) rfl rfl rfl rfl (Nat.le_of_ble_eq_true rfl) dX9_init_28 (fun H locs hP hD hS => ?_)
  have hP : va_P G.1 clG ([(h0, .inr (7, [.int (iI dr), .int (iI dn), .int (iI wi), .int (iI sd), .int (iI ch)]))] ++ wl) _ := hP
  have hD : va_D A ([(h0, .inr (7, [.int (iI dr), .int (iI dn), .int (iI wi), .int (iI sd), .int (iI ch)]))] ++ wl) := hD
  exact rt_v F hQ hS (Nat.le_of_ble_eq_true rfl) (Nat.le_of_ble_eq_true rfl) () rfl trivial hP hD dX9_init_31
set_option maxHeartbeats 1000000 in
/-- Rain.along -/
theorem ct_X9_along {G : Gm} {l : Launch} (h0 : Nat) (dr : Int) (dn : Int) (wi : Int) (sd : Int) (ch : Int) (to : Int) (wl : va_W) (h1 : 0 ≤ sd ∧ sd < 4) (h2 : 0 ≤ to ∧ to < 4) (hm : (h0, .inr (7, [.int (iI dr), .int (iI dn), .int (iI wi), .int (iI sd), .int (iI ch)])) ∈ wl) : Ct G l yX9_along (ws_ yX9_along cX9_along 2 (some .int)) ({ frames := 0, cells := 0, slots := 0, locals := 0 } : Room) [.ref h0, .int (iI to)] ([] ++ wl) (fun _ : Unit => True) (fun _ : Unit => ((some (.int (iI (if sd = to then wi else if sd = (to + 2) % 4 then -wi else 0)))) : Option Value)) (fun _ : Unit => (([] ++ wl) : va_W)) := by
  refine Ct.of (by decide) rfl ?_
  intro pP eE sS mM below meth cC A ls Q F hE hA hP hD hS hl hQ
  have hl : lv_has ls 2 [(0, .ref h0), (1, .int (iI to))] := hl
  refine lv_aload_n F.1 F.2.1 dX9_along_0 rfl (lv_at hl 0 rfl) ?_
  obtain ⟨k_1, hk_2⟩ := mem_at (X := []) hm
  refine r_get F (ci := 7) (v := .int (iI sd)) b_X9 hE hP k_1 hk_2 3 (by decide) q728 (fun _ h9 => h9) rfl dX9_along_1 ?_
  refine lv_iload_n F.1 F.2.1 dX9_along_4 rfl (lv_at hl 1 rfl) ?_
  refine r_icmp_ne F (tgt := 15) (by omega) (by omega) dX9_along_5 (by decide) (fun c_3 => ?_) (fun c_3 => ?_)
  · refine lv_aload_n F.1 F.2.1 dX9_along_15 rfl (lv_at hl 0 rfl) ?_
    obtain ⟨k_4, hk_5⟩ := mem_at (X := []) hm
    refine r_get F (ci := 7) (v := .int (iI sd)) b_X9 hE hP k_4 hk_5 3 (by decide) q728 (fun _ h9 => h9) rfl dX9_along_16 ?_
    refine lv_iload_n F.1 F.2.1 dX9_along_19 rfl (lv_at hl 1 rfl) ?_
    refine lv_iconst (v := iI 2) F.1 F.2.1 dX9_along_20 rfl ?_
    refine r_iadd F dX9_along_21 ?_
    refine lv_iconst (v := iI 4) F.1 F.2.1 dX9_along_22 rfl ?_
    refine r_irem F (by omega) (by decide) dX9_along_23 ?_
    refine r_icmp_ne F (tgt := 35) (by omega) (by omega) dX9_along_24 (by decide) (fun c_6 => ?_) (fun c_6 => ?_)
    · refine lv_iconst (v := iI 0) F.1 F.2.1 dX9_along_35 rfl ?_
      exact rt_i F hQ hS (Nat.le_of_ble_eq_true rfl) (Nat.le_of_ble_eq_true rfl) () (congrArg (fun z => some (Value.int (iI z))) (show (if sd = to then wi else if sd = (to + 2) % 4 then -wi else 0) = 0 from by split <;> omega)) trivial hP hD dX9_along_36
    · refine lv_aload_n F.1 F.2.1 dX9_along_27 rfl (lv_at hl 0 rfl) ?_
      obtain ⟨k_7, hk_8⟩ := mem_at (X := []) hm
      refine r_get F (ci := 7) (v := .int (iI wi)) b_X9 hE hP k_7 hk_8 2 (by decide) q726 (fun _ h9 => h9) rfl dX9_along_28 ?_
      refine r_ineg F dX9_along_31 ?_
      refine lv_goto (tgt := 36) F.1 F.2.1 dX9_along_32 (by decide) ?_
      exact rt_i F hQ hS (Nat.le_of_ble_eq_true rfl) (Nat.le_of_ble_eq_true rfl) () (congrArg (fun z => some (Value.int (iI z))) (show (if sd = to then wi else if sd = (to + 2) % 4 then -wi else 0) = (-wi) from by split <;> omega)) trivial hP hD dX9_along_36
  · refine lv_aload_n F.1 F.2.1 dX9_along_8 rfl (lv_at hl 0 rfl) ?_
    obtain ⟨k_9, hk_10⟩ := mem_at (X := []) hm
    refine r_get F (ci := 7) (v := .int (iI wi)) b_X9 hE hP k_9 hk_10 2 (by decide) q726 (fun _ h9 => h9) rfl dX9_along_9 ?_
    refine lv_goto (tgt := 36) F.1 F.2.1 dX9_along_12 (by decide) ?_
    exact rt_i F hQ hS (Nat.le_of_ble_eq_true rfl) (Nat.le_of_ble_eq_true rfl) () (congrArg (fun z => some (Value.int (iI z))) (show (if sd = to then wi else if sd = (to + 2) % 4 then -wi else 0) = wi from by split <;> omega)) trivial hP hD dX9_along_36
set_option maxHeartbeats 1000000 in
/-- Rain.aside -/
theorem ct_X9_aside {G : Gm} {l : Launch} (h0 : Nat) (dr : Int) (dn : Int) (wi : Int) (sd : Int) (ch : Int) (to : Int) (wl : va_W) (h1 : 0 ≤ sd ∧ sd < 4) (h2 : 0 ≤ to ∧ to < 4) (hm : (h0, .inr (7, [.int (iI dr), .int (iI dn), .int (iI wi), .int (iI sd), .int (iI ch)])) ∈ wl) : Ct G l yX9_aside (ws_ yX9_aside cX9_aside 2 (some .int)) ({ frames := 0, cells := 0, slots := 0, locals := 0 } : Room) [.ref h0, .int (iI to)] ([] ++ wl) (fun _ : Unit => True) (fun _ : Unit => ((some (.int (iI (if sd = (to + 1) % 4 then 3 else if sd = (to + 3) % 4 then 4 else -1)))) : Option Value)) (fun _ : Unit => (([] ++ wl) : va_W)) := by
  refine Ct.of (by decide) rfl ?_
  intro pP eE sS mM below meth cC A ls Q F hE hA hP hD hS hl hQ
  have hl : lv_has ls 2 [(0, .ref h0), (1, .int (iI to))] := hl
  refine lv_aload_n F.1 F.2.1 dX9_aside_0 rfl (lv_at hl 0 rfl) ?_
  obtain ⟨k_1, hk_2⟩ := mem_at (X := []) hm
  refine r_get F (ci := 7) (v := .int (iI sd)) b_X9 hE hP k_1 hk_2 3 (by decide) q728 (fun _ h9 => h9) rfl dX9_aside_1 ?_
  refine lv_iload_n F.1 F.2.1 dX9_aside_4 rfl (lv_at hl 1 rfl) ?_
  refine lv_iconst (v := iI 1) F.1 F.2.1 dX9_aside_5 rfl ?_
  refine r_iadd F dX9_aside_6 ?_
  refine lv_iconst (v := iI 4) F.1 F.2.1 dX9_aside_7 rfl ?_
  refine r_irem F (by omega) (by decide) dX9_aside_8 ?_
  refine r_icmp_ne F (tgt := 16) (by omega) (by omega) dX9_aside_9 (by decide) (fun c_3 => ?_) (fun c_3 => ?_)
  · refine lv_aload_n F.1 F.2.1 dX9_aside_16 rfl (lv_at hl 0 rfl) ?_
    obtain ⟨k_4, hk_5⟩ := mem_at (X := []) hm
    refine r_get F (ci := 7) (v := .int (iI sd)) b_X9 hE hP k_4 hk_5 3 (by decide) q728 (fun _ h9 => h9) rfl dX9_aside_17 ?_
    refine lv_iload_n F.1 F.2.1 dX9_aside_20 rfl (lv_at hl 1 rfl) ?_
    refine lv_iconst (v := iI 3) F.1 F.2.1 dX9_aside_21 rfl ?_
    refine r_iadd F dX9_aside_22 ?_
    refine lv_iconst (v := iI 4) F.1 F.2.1 dX9_aside_23 rfl ?_
    refine r_irem F (by omega) (by decide) dX9_aside_24 ?_
    refine r_icmp_ne F (tgt := 32) (by omega) (by omega) dX9_aside_25 (by decide) (fun c_6 => ?_) (fun c_6 => ?_)
    · refine lv_iconst (v := iI (-1)) F.1 F.2.1 dX9_aside_32 rfl ?_
      exact rt_i F hQ hS (Nat.le_of_ble_eq_true rfl) (Nat.le_of_ble_eq_true rfl) () (congrArg (fun z => some (Value.int (iI z))) (show (if sd = (to + 1) % 4 then 3 else if sd = (to + 3) % 4 then 4 else -1) = (-1) from by split <;> omega)) trivial hP hD dX9_aside_33
    · refine lv_iconst (v := iI 4) F.1 F.2.1 dX9_aside_28 rfl ?_
      refine lv_goto (tgt := 33) F.1 F.2.1 dX9_aside_29 (by decide) ?_
      exact rt_i F hQ hS (Nat.le_of_ble_eq_true rfl) (Nat.le_of_ble_eq_true rfl) () (congrArg (fun z => some (Value.int (iI z))) (show (if sd = (to + 1) % 4 then 3 else if sd = (to + 3) % 4 then 4 else -1) = 4 from by split <;> omega)) trivial hP hD dX9_aside_33
  · refine lv_iconst (v := iI 3) F.1 F.2.1 dX9_aside_12 rfl ?_
    refine lv_goto (tgt := 33) F.1 F.2.1 dX9_aside_13 (by decide) ?_
    exact rt_i F hQ hS (Nat.le_of_ble_eq_true rfl) (Nat.le_of_ble_eq_true rfl) () (congrArg (fun z => some (Value.int (iI z))) (show (if sd = (to + 1) % 4 then 3 else if sd = (to + 3) % 4 then 4 else -1) = 3 from by split <;> omega)) trivial hP hD dX9_aside_33
set_option maxHeartbeats 1000000 in
/-- Road(..) -/
theorem ct_X12_init {G : Gm} {l : Launch} (h0 : Nat) (fr : Int) (sd : Int) (le : Int) (to : Int) (wl : va_W) : Ct G l yX12_init (ws_ yX12_init cX12_init 5 none) ({ frames := 1, cells := 0, slots := 0, locals := 12 } : Room) [.ref h0, .int (iI fr), .int (iI sd), .int (iI le), .int (iI to)] ([(h0, .inr (9, [.int (iI 0), .int (iI 0), .int (iI 0), .int (iI 0), .int (iI 0)]))] ++ wl) (fun _ : Unit => True) (fun _ : Unit => (none : Option Value)) (fun _ : Unit => (([(h0, .inr (9, [.int (iI fr), .int (iI to), .int (iI sd), .int (iI le), .int (iI 0)]))] ++ wl) : va_W)) := by
  refine Ct.of (by decide) rfl ?_
  intro pP eE sS mM below meth cC A ls Q F hE hA hP hD hS hl hQ
  have hl : lv_has ls 5 [(0, .ref h0), (1, .int (iI fr)), (2, .int (iI sd)), (3, .int (iI le)), (4, .int (iI to))] := hl
  refine lv_aload_n F.1 F.2.1 dX12_init_0 rfl (lv_at hl 0 rfl) ?_
  refine r_oinit F q812 q148 q149 hl.1 dX12_init_1 (Nat.le_of_ble_eq_true rfl) (Nat.le_of_ble_eq_true rfl) ?_
  refine lv_aload_n F.1 F.2.1 dX12_init_4 rfl (lv_at hl 0 rfl) ?_
  refine lv_iload_n F.1 F.2.1 dX12_init_5 rfl (lv_at hl 1 rfl) ?_
  refine r_putF F (ci := 9) (v := .int (iI fr)) b_X12 hE hP hD hS 0 rfl 0 (by decide) q813 (fun _ h9 => h9) rfl rfl rfl rfl (Nat.le_of_ble_eq_true rfl) dX12_init_6 (fun H locs hP hD hS => ?_)
  have hP : va_P G.1 clG ([(h0, .inr (9, [.int (iI fr), .int (iI 0), .int (iI 0), .int (iI 0), .int (iI 0)]))] ++ wl) _ := hP
  have hD : va_D A ([(h0, .inr (9, [.int (iI fr), .int (iI 0), .int (iI 0), .int (iI 0), .int (iI 0)]))] ++ wl) := hD
  refine lv_aload_n F.1 F.2.1 dX12_init_9 rfl (lv_at hl 0 rfl) ?_
  refine lv_iload_n F.1 F.2.1 dX12_init_10 rfl (lv_at hl 2 rfl) ?_
  refine r_putF F (ci := 9) (v := .int (iI sd)) b_X12 hE hP hD hS 0 rfl 2 (by decide) q817 (fun _ h9 => h9) rfl rfl rfl rfl (Nat.le_of_ble_eq_true rfl) dX12_init_11 (fun H locs hP hD hS => ?_)
  have hP : va_P G.1 clG ([(h0, .inr (9, [.int (iI fr), .int (iI 0), .int (iI sd), .int (iI 0), .int (iI 0)]))] ++ wl) _ := hP
  have hD : va_D A ([(h0, .inr (9, [.int (iI fr), .int (iI 0), .int (iI sd), .int (iI 0), .int (iI 0)]))] ++ wl) := hD
  refine lv_aload_n F.1 F.2.1 dX12_init_14 rfl (lv_at hl 0 rfl) ?_
  refine lv_iload_n F.1 F.2.1 dX12_init_15 rfl (lv_at hl 3 rfl) ?_
  refine r_putF F (ci := 9) (v := .int (iI le)) b_X12 hE hP hD hS 0 rfl 3 (by decide) q819 (fun _ h9 => h9) rfl rfl rfl rfl (Nat.le_of_ble_eq_true rfl) dX12_init_16 (fun H locs hP hD hS => ?_)
  have hP : va_P G.1 clG ([(h0, .inr (9, [.int (iI fr), .int (iI 0), .int (iI sd), .int (iI le), .int (iI 0)]))] ++ wl) _ := hP
  have hD : va_D A ([(h0, .inr (9, [.int (iI fr), .int (iI 0), .int (iI sd), .int (iI le), .int (iI 0)]))] ++ wl) := hD
  refine lv_aload_n F.1 F.2.1 dX12_init_19 rfl (lv_at hl 0 rfl) ?_
  refine lv_iload F.1 F.2.1 dX12_init_20 (lv_at hl 4 rfl) ?_
  refine r_putF F (ci := 9) (v := .int (iI to)) b_X12 hE hP hD hS 0 rfl 1 (by decide) q815 (fun _ h9 => h9) rfl rfl rfl rfl (Nat.le_of_ble_eq_true rfl) dX12_init_22 (fun H locs hP hD hS => ?_)
  have hP : va_P G.1 clG ([(h0, .inr (9, [.int (iI fr), .int (iI to), .int (iI sd), .int (iI le), .int (iI 0)]))] ++ wl) _ := hP
  have hD : va_D A ([(h0, .inr (9, [.int (iI fr), .int (iI to), .int (iI sd), .int (iI le), .int (iI 0)]))] ++ wl) := hD
  exact rt_v F hQ hS (Nat.le_of_ble_eq_true rfl) (Nat.le_of_ble_eq_true rfl) () rfl trivial hP hD dX12_init_25
set_option maxHeartbeats 1000000 in
/-- Road.begin -/
theorem ct_X12_begin {G : Gm} {l : Launch} (h0 : Nat) (fr : Int) (to : Int) (sd : Int) (le : Int) (aw : Int) (way : Int) (wl : va_W) (h1 : -2147483648 ≤ way ∧ way < 2147483648) (hm : (h0, .inr (9, [.int (iI fr), .int (iI to), .int (iI sd), .int (iI le), .int (iI aw)])) ∈ wl) : Ct G l yX12_begin (ws_ yX12_begin cX12_begin 2 (some .int)) ({ frames := 0, cells := 0, slots := 0, locals := 0 } : Room) [.ref h0, .int (iI way)] ([] ++ wl) (fun _ : Unit => True) (fun _ : Unit => ((some (.int (iI (if way = 0 then fr else to)))) : Option Value)) (fun _ : Unit => (([] ++ wl) : va_W)) := by
  refine Ct.of (by decide) rfl ?_
  intro pP eE sS mM below meth cC A ls Q F hE hA hP hD hS hl hQ
  have hl : lv_has ls 2 [(0, .ref h0), (1, .int (iI way))] := hl
  refine lv_iload_n F.1 F.2.1 dX12_begin_0 rfl (lv_at hl 1 rfl) ?_
  refine r_if_ne F (tgt := 11) (by omega) dX12_begin_1 (by decide) (fun c_1 => ?_) (fun c_1 => ?_)
  · refine lv_aload_n F.1 F.2.1 dX12_begin_11 rfl (lv_at hl 0 rfl) ?_
    obtain ⟨k_2, hk_3⟩ := mem_at (X := []) hm
    refine r_get F (ci := 9) (v := .int (iI to)) b_X12 hE hP k_2 hk_3 1 (by decide) q815 (fun _ h9 => h9) rfl dX12_begin_12 ?_
    exact rt_i F hQ hS (Nat.le_of_ble_eq_true rfl) (Nat.le_of_ble_eq_true rfl) () (congrArg (fun z => some (Value.int (iI z))) (show (if way = 0 then fr else to) = to from by split <;> omega)) trivial hP hD dX12_begin_15
  · refine lv_aload_n F.1 F.2.1 dX12_begin_4 rfl (lv_at hl 0 rfl) ?_
    obtain ⟨k_4, hk_5⟩ := mem_at (X := []) hm
    refine r_get F (ci := 9) (v := .int (iI fr)) b_X12 hE hP k_4 hk_5 0 (by decide) q813 (fun _ h9 => h9) rfl dX12_begin_5 ?_
    refine lv_goto (tgt := 15) F.1 F.2.1 dX12_begin_8 (by decide) ?_
    exact rt_i F hQ hS (Nat.le_of_ble_eq_true rfl) (Nat.le_of_ble_eq_true rfl) () (congrArg (fun z => some (Value.int (iI z))) (show (if way = 0 then fr else to) = fr from by split <;> omega)) trivial hP hD dX12_begin_15
set_option maxHeartbeats 1000000 in
/-- Road.end -/
theorem ct_X12_end {G : Gm} {l : Launch} (h0 : Nat) (fr : Int) (to : Int) (sd : Int) (le : Int) (aw : Int) (way : Int) (wl : va_W) (h1 : -2147483648 ≤ way ∧ way < 2147483648) (hm : (h0, .inr (9, [.int (iI fr), .int (iI to), .int (iI sd), .int (iI le), .int (iI aw)])) ∈ wl) : Ct G l yX12_end (ws_ yX12_end cX12_end 2 (some .int)) ({ frames := 0, cells := 0, slots := 0, locals := 0 } : Room) [.ref h0, .int (iI way)] ([] ++ wl) (fun _ : Unit => True) (fun _ : Unit => ((some (.int (iI (if way = 0 then to else fr)))) : Option Value)) (fun _ : Unit => (([] ++ wl) : va_W)) := by
  refine Ct.of (by decide) rfl ?_
  intro pP eE sS mM below meth cC A ls Q F hE hA hP hD hS hl hQ
  have hl : lv_has ls 2 [(0, .ref h0), (1, .int (iI way))] := hl
  refine lv_iload_n F.1 F.2.1 dX12_end_0 rfl (lv_at hl 1 rfl) ?_
  refine r_if_ne F (tgt := 11) (by omega) dX12_end_1 (by decide) (fun c_1 => ?_) (fun c_1 => ?_)
  · refine lv_aload_n F.1 F.2.1 dX12_end_11 rfl (lv_at hl 0 rfl) ?_
    obtain ⟨k_2, hk_3⟩ := mem_at (X := []) hm
    refine r_get F (ci := 9) (v := .int (iI fr)) b_X12 hE hP k_2 hk_3 0 (by decide) q813 (fun _ h9 => h9) rfl dX12_end_12 ?_
    exact rt_i F hQ hS (Nat.le_of_ble_eq_true rfl) (Nat.le_of_ble_eq_true rfl) () (congrArg (fun z => some (Value.int (iI z))) (show (if way = 0 then to else fr) = fr from by split <;> omega)) trivial hP hD dX12_end_15
  · refine lv_aload_n F.1 F.2.1 dX12_end_4 rfl (lv_at hl 0 rfl) ?_
    obtain ⟨k_4, hk_5⟩ := mem_at (X := []) hm
    refine r_get F (ci := 9) (v := .int (iI to)) b_X12 hE hP k_4 hk_5 1 (by decide) q815 (fun _ h9 => h9) rfl dX12_end_5 ?_
    refine lv_goto (tgt := 15) F.1 F.2.1 dX12_end_8 (by decide) ?_
    exact rt_i F hQ hS (Nat.le_of_ble_eq_true rfl) (Nat.le_of_ble_eq_true rfl) () (congrArg (fun z => some (Value.int (iI z))) (show (if way = 0 then to else fr) = to from by split <;> omega)) trivial hP hD dX12_end_15
set_option maxHeartbeats 1000000 in
/-- Road.toSide -/
theorem ct_X12_toSide {G : Gm} {l : Launch} (h0 : Nat) (fr : Int) (to : Int) (sd : Int) (le : Int) (aw : Int) (way : Int) (wl : va_W) (h1 : 0 ≤ sd ∧ sd < 4) (h2 : 0 ≤ way ∧ way < 2) (hm : (h0, .inr (9, [.int (iI fr), .int (iI to), .int (iI sd), .int (iI le), .int (iI aw)])) ∈ wl) : Ct G l yX12_toSide (ws_ yX12_toSide cX12_toSide 2 (some .int)) ({ frames := 0, cells := 0, slots := 0, locals := 0 } : Room) [.ref h0, .int (iI way)] ([] ++ wl) (fun _ : Unit => True) (fun _ : Unit => ((some (.int (iI ((sd + 2 * way) % 4)))) : Option Value)) (fun _ : Unit => (([] ++ wl) : va_W)) := by
  refine Ct.of (by decide) rfl ?_
  intro pP eE sS mM below meth cC A ls Q F hE hA hP hD hS hl hQ
  have hl : lv_has ls 2 [(0, .ref h0), (1, .int (iI way))] := hl
  refine lv_aload_n F.1 F.2.1 dX12_toSide_0 rfl (lv_at hl 0 rfl) ?_
  obtain ⟨k_1, hk_2⟩ := mem_at (X := []) hm
  refine r_get F (ci := 9) (v := .int (iI sd)) b_X12 hE hP k_1 hk_2 2 (by decide) q817 (fun _ h9 => h9) rfl dX12_toSide_1 ?_
  refine lv_iconst (v := iI 2) F.1 F.2.1 dX12_toSide_4 rfl ?_
  refine lv_iload_n F.1 F.2.1 dX12_toSide_5 rfl (lv_at hl 1 rfl) ?_
  refine r_imul F dX12_toSide_6 ?_
  refine r_iadd F dX12_toSide_7 ?_
  refine lv_iconst (v := iI 4) F.1 F.2.1 dX12_toSide_8 rfl ?_
  refine r_irem F (by omega) (by decide) dX12_toSide_9 ?_
  exact rt_i F hQ hS (Nat.le_of_ble_eq_true rfl) (Nat.le_of_ble_eq_true rfl) () (congrArg (fun z => some (Value.int (iI z))) (show ((sd + 2 * way) % 4) = ((sd + (2 * way)) % 4) from by first | rfl | omega | (simp; done) | (simp; omega))) trivial hP hD dX12_toSide_10
set_option maxHeartbeats 1000000 in
/-- Road.minutes -/
theorem ct_X12_minutes {G : Gm} {l : Launch} (h0 : Nat) (fr : Int) (to : Int) (sd : Int) (le : Int) (aw : Int) (v : Int) (wl : va_W) (h1 : 0 ≤ le ∧ le < 10000) (h2 : 1 ≤ v ∧ v < 100) (hm : (h0, .inr (9, [.int (iI fr), .int (iI to), .int (iI sd), .int (iI le), .int (iI aw)])) ∈ wl) : Ct G l yX12_minutes (ws_ yX12_minutes cX12_minutes 2 (some .int)) ({ frames := 0, cells := 0, slots := 0, locals := 0 } : Room) [.ref h0, .int (iI v)] ([] ++ wl) (fun _ : Unit => True) (fun _ : Unit => ((some (.int (iI ((le + v - 1) / v)))) : Option Value)) (fun _ : Unit => (([] ++ wl) : va_W)) := by
  refine Ct.of (by decide) rfl ?_
  intro pP eE sS mM below meth cC A ls Q F hE hA hP hD hS hl hQ
  have hl : lv_has ls 2 [(0, .ref h0), (1, .int (iI v))] := hl
  refine lv_aload_n F.1 F.2.1 dX12_minutes_0 rfl (lv_at hl 0 rfl) ?_
  obtain ⟨k_1, hk_2⟩ := mem_at (X := []) hm
  refine r_get F (ci := 9) (v := .int (iI le)) b_X12 hE hP k_1 hk_2 3 (by decide) q819 (fun _ h9 => h9) rfl dX12_minutes_1 ?_
  refine lv_iload_n F.1 F.2.1 dX12_minutes_4 rfl (lv_at hl 1 rfl) ?_
  refine r_iadd F dX12_minutes_5 ?_
  refine lv_iconst (v := iI 1) F.1 F.2.1 dX12_minutes_6 rfl ?_
  refine r_isub F dX12_minutes_7 ?_
  refine lv_iload_n F.1 F.2.1 dX12_minutes_8 rfl (lv_at hl 1 rfl) ?_
  refine r_idiv F (by omega) (by omega) dX12_minutes_9 ?_
  exact rt_i F hQ hS (Nat.le_of_ble_eq_true rfl) (Nat.le_of_ble_eq_true rfl) () (congrArg (fun z => some (Value.int (iI z))) (show ((le + v - 1) / v) = (((le + v) - 1) / v) from by first | rfl | omega | (simp; done) | (simp; omega))) trivial hP hD dX12_minutes_10
set_option maxHeartbeats 1000000 in
/-- Road.open -/
theorem ct_X12_open {G : Gm} {l : Launch} (h0 : Nat) (fr : Int) (to : Int) (sd : Int) (le : Int) (aw : Int) (v : Int) (wl : va_W) (h1 : 0 ≤ le ∧ le < 10000) (h2 : 1 ≤ v ∧ v < 100) (h3 : 0 ≤ aw ∧ aw < 10000) (hm : (h0, .inr (9, [.int (iI fr), .int (iI to), .int (iI sd), .int (iI le), .int (iI aw)])) ∈ wl) : Ct G l yX12_open (ws_ yX12_open cX12_open 2 (some .long)) ({ frames := 0, cells := 0, slots := 0, locals := 0 } : Room) [.ref h0, .int (iI v)] ([] ++ wl) (fun _ : Unit => True) (fun _ : Unit => ((some (.long (lI ((le - aw) * (2520 / v))))) : Option Value)) (fun _ : Unit => (([] ++ wl) : va_W)) := by
  refine Ct.of (by decide) rfl ?_
  intro pP eE sS mM below meth cC A ls Q F hE hA hP hD hS hl hQ
  have hl : lv_has ls 2 [(0, .ref h0), (1, .int (iI v))] := hl
  have d1 := Int.ediv_nonneg (show (0 : Int) ≤ 2520 by decide) (show 0 ≤ v by omega)
  have d2 := Int.ediv_le_self v (show (0 : Int) ≤ 2520 by decide)
  refine lv_aload_n F.1 F.2.1 dX12_open_0 rfl (lv_at hl 0 rfl) ?_
  obtain ⟨k_1, hk_2⟩ := mem_at (X := []) hm
  refine r_get F (ci := 9) (v := .int (iI le)) b_X12 hE hP k_1 hk_2 3 (by decide) q819 (fun _ h9 => h9) rfl dX12_open_1 ?_
  refine lv_aload_n F.1 F.2.1 dX12_open_4 rfl (lv_at hl 0 rfl) ?_
  obtain ⟨k_3, hk_4⟩ := mem_at (X := []) hm
  refine r_get F (ci := 9) (v := .int (iI aw)) b_X12 hE hP k_3 hk_4 4 (by decide) q821 (fun _ h9 => h9) rfl dX12_open_5 ?_
  refine r_isub F dX12_open_8 ?_
  refine r_i2l F (by omega) dX12_open_9 ?_
  refine lv_sipush (v := iI 2520) F.1 F.2.1 dX12_open_10 (sip_ok (by decide)) ?_
  refine lv_iload_n F.1 F.2.1 dX12_open_13 rfl (lv_at hl 1 rfl) ?_
  refine r_idiv F (by decide) (by omega) dX12_open_14 ?_
  refine r_i2l F (by omega) dX12_open_15 ?_
  refine r_lmul F dX12_open_16 ?_
  exact rt_l F hQ hS (Nat.le_of_ble_eq_true rfl) (Nat.le_of_ble_eq_true rfl) () rfl trivial hP hD dX12_open_17
set_option maxHeartbeats 1000000 in
/-- Seen() -/
theorem ct_X18_init {G : Gm} {l : Launch} (h0 : Nat) (wl : va_W) : Ct G l yX18_init (ws_ yX18_init cX18_init 1 none) ({ frames := 1, cells := 1, slots := 5, locals := 12 } : Room) [.ref h0] ([(h0, .inr (14, [.null, .int (iI 0)]))] ++ wl) (fun (q : Nat) => True) (fun (q : Nat) => (none : Option Value)) (fun (q : Nat) => (([(h0, .inr (14, [.ref q, .int (iI 0)])), (q, .inl (G.2.1 2, 5, .inl (aI (fun _ => 0))))] ++ wl) : va_W)) := by
  refine Ct.of (by decide) rfl ?_
  intro pP eE sS mM below meth cC A ls Q F hE hA hP hD hS hl hQ
  have hl : lv_has ls 1 [(0, .ref h0)] := hl
  refine lv_aload_n F.1 F.2.1 dX18_init_0 rfl (lv_at hl 0 rfl) ?_
  refine r_oinit F q963 q148 q149 hl.1 dX18_init_1 (Nat.le_of_ble_eq_true rfl) (Nat.le_of_ble_eq_true rfl) ?_
  refine lv_aload_n F.1 F.2.1 dX18_init_4 rfl (lv_at hl 0 rfl) ?_
  refine lv_iconst (v := iI 5) F.1 F.2.1 dX18_init_5 rfl ?_
  refine r_newa F (atype := .int) (a0 := (5, .inl (aI (fun _ => 0)))) 2 rfl rfl rfl q974 hE hP hD hS hA 5 rfl (by decide) new_I (Nat.le_of_ble_eq_true rfl) (Nat.le_of_ble_eq_true rfl) dX18_init_6 (fun q H hP hD hS => ?_)
  have hP : va_P G.1 clG ([(h0, .inr (14, [.null, .int (iI 0)])), (q, .inl (G.2.1 2, 5, .inl (aI (fun _ => 0))))] ++ wl) _ := hP
  have hD : va_D A ([(h0, .inr (14, [.null, .int (iI 0)])), (q, .inl (G.2.1 2, 5, .inl (aI (fun _ => 0))))] ++ wl) := hD
  refine W.cs (cells' := 1) (slots' := 5) rfl rfl ?_
  refine r_putF F (ci := 14) (v := .ref q) b_X18 hE hP hD hS 0 rfl 0 (by decide) q964 (fun _ h9 => h9) rfl rfl rfl rfl (Nat.le_of_ble_eq_true rfl) dX18_init_8 (fun H locs hP hD hS => ?_)
  have hP : va_P G.1 clG ([(h0, .inr (14, [.ref q, .int (iI 0)])), (q, .inl (G.2.1 2, 5, .inl (aI (fun _ => 0))))] ++ wl) _ := hP
  have hD : va_D A ([(h0, .inr (14, [.ref q, .int (iI 0)])), (q, .inl (G.2.1 2, 5, .inl (aI (fun _ => 0))))] ++ wl) := hD
  exact rt_v F hQ hS (Nat.le_of_ble_eq_true rfl) (Nat.le_of_ble_eq_true rfl) q rfl trivial hP hD dX18_init_11
set_option maxHeartbeats 1000000 in
/-- Leg() -/
theorem ct_X4_init {G : Gm} {l : Launch} (h0 : Nat) (wl : va_W) : Ct G l yX4_init (ws_ yX4_init cX4_init 1 none) ({ frames := 1, cells := 1, slots := 5, locals := 12 } : Room) [.ref h0] ([(h0, .inr (3, [.null, .int (iI 0), .null, .int (iI 0), .long (lI 0), .int (iI 0)]))] ++ wl) (fun (q : Nat) => True) (fun (q : Nat) => (none : Option Value)) (fun (q : Nat) => (([(h0, .inr (3, [.ref q, .int (iI 0), .null, .int (iI 0), .long (lI 0), .int (iI 0)])), (q, .inl (G.2.1 3, 5, .inr (.inl (aL (fun _ => 0)))))] ++ wl) : va_W)) := by
  refine Ct.of (by decide) rfl ?_
  intro pP eE sS mM below meth cC A ls Q F hE hA hP hD hS hl hQ
  have hl : lv_has ls 1 [(0, .ref h0)] := hl
  refine lv_aload_n F.1 F.2.1 dX4_init_0 rfl (lv_at hl 0 rfl) ?_
  refine r_oinit F q267 q148 q149 hl.1 dX4_init_1 (Nat.le_of_ble_eq_true rfl) (Nat.le_of_ble_eq_true rfl) ?_
  refine lv_aload_n F.1 F.2.1 dX4_init_4 rfl (lv_at hl 0 rfl) ?_
  refine lv_iconst (v := iI 5) F.1 F.2.1 dX4_init_5 rfl ?_
  refine r_newa F (atype := .long) (a0 := (5, .inr (.inl (aL (fun _ => 0))))) 3 rfl rfl rfl q289 hE hP hD hS hA 5 rfl (by decide) new_J (Nat.le_of_ble_eq_true rfl) (Nat.le_of_ble_eq_true rfl) dX4_init_6 (fun q H hP hD hS => ?_)
  have hP : va_P G.1 clG ([(h0, .inr (3, [.null, .int (iI 0), .null, .int (iI 0), .long (lI 0), .int (iI 0)])), (q, .inl (G.2.1 3, 5, .inr (.inl (aL (fun _ => 0)))))] ++ wl) _ := hP
  have hD : va_D A ([(h0, .inr (3, [.null, .int (iI 0), .null, .int (iI 0), .long (lI 0), .int (iI 0)])), (q, .inl (G.2.1 3, 5, .inr (.inl (aL (fun _ => 0)))))] ++ wl) := hD
  refine W.cs (cells' := 1) (slots' := 5) rfl rfl ?_
  refine r_putF F (ci := 3) (v := .ref q) b_X4 hE hP hD hS 0 rfl 0 (by decide) q268 (fun _ h9 => h9) rfl rfl rfl rfl (Nat.le_of_ble_eq_true rfl) dX4_init_8 (fun H locs hP hD hS => ?_)
  have hP : va_P G.1 clG ([(h0, .inr (3, [.ref q, .int (iI 0), .null, .int (iI 0), .long (lI 0), .int (iI 0)])), (q, .inl (G.2.1 3, 5, .inr (.inl (aL (fun _ => 0)))))] ++ wl) _ := hP
  have hD : va_D A ([(h0, .inr (3, [.ref q, .int (iI 0), .null, .int (iI 0), .long (lI 0), .int (iI 0)])), (q, .inl (G.2.1 3, 5, .inr (.inl (aL (fun _ => 0)))))] ++ wl) := hD
  exact rt_v F hQ hS (Nat.le_of_ble_eq_true rfl) (Nat.le_of_ble_eq_true rfl) q rfl trivial hP hD dX4_init_11
set_option maxHeartbeats 1000000 in
/-- World() -/
theorem ct_X8_init {G : Gm} {l : Launch} (h0 : Nat) (wl : va_W) : Ct G l yX8_init (ws_ yX8_init cX8_init 1 none) ({ frames := 1, cells := 5, slots := 34, locals := 12 } : Room) [.ref h0] ([(h0, .inr (6, [.null, .null, .null, .null, .null, .int (iI 0), .int (iI 0), .int (iI 0), .int (iI 0), .int (iI 0), .int (iI 0)]))] ++ wl) (fun (u : Nat × Nat × Nat × Nat × Nat) => match u with | (qh, qp, qr, qw, qs) => True) (fun (u : Nat × Nat × Nat × Nat × Nat) => match u with | (qh, qp, qr, qw, qs) => (none : Option Value)) (fun (u : Nat × Nat × Nat × Nat × Nat) => match u with | (qh, qp, qr, qw, qs) => (([(h0, .inr (6, [.ref qh, .ref qp, .ref qr, .ref qw, .ref qs, .int (iI 0), .int (iI 0), .int (iI 0), .int (iI 0), .int (iI 0), .int (iI 0)])), (qh, .inl (G.2.1 6, 6, .inr (.inr (.inr (.inr (fun _ => none)))))), (qp, .inl (G.2.1 7, 8, .inr (.inr (.inr (.inr (fun _ => none)))))), (qr, .inl (G.2.1 8, 12, .inr (.inr (.inr (.inr (fun _ => none)))))), (qw, .inl (G.2.1 9, 4, .inr (.inr (.inr (.inr (fun _ => none)))))), (qs, .inl (G.2.1 10, 4, .inr (.inr (.inr (.inr (fun _ => none))))))] ++ wl) : va_W)) := by
  refine Ct.of (by decide) rfl ?_
  intro pP eE sS mM below meth cC A ls Q F hE hA hP hD hS hl hQ
  have hl : lv_has ls 1 [(0, .ref h0)] := hl
  refine lv_aload_n F.1 F.2.1 dX8_init_0 rfl (lv_at hl 0 rfl) ?_
  refine r_oinit F q431 q148 q149 hl.1 dX8_init_1 (Nat.le_of_ble_eq_true rfl) (Nat.le_of_ble_eq_true rfl) ?_
  refine lv_aload_n F.1 F.2.1 dX8_init_4 rfl (lv_at hl 0 rfl) ?_
  refine lv_bipush (v := iI 6) F.1 F.2.1 dX8_init_5 (bip_ok (by decide)) ?_
  refine r_newq F (C := "RainWalk$Rain") 6 rfl q432 (by decide) hE hP hD hS hA 6 rfl (by decide) (Nat.le_of_ble_eq_true rfl) (Nat.le_of_ble_eq_true rfl) dX8_init_7 (fun q_1 H hP hD hS => ?_)
  have hP : va_P G.1 clG ([(h0, .inr (6, [.null, .null, .null, .null, .null, .int (iI 0), .int (iI 0), .int (iI 0), .int (iI 0), .int (iI 0), .int (iI 0)])), (q_1, .inl (G.2.1 6, 6, .inr (.inr (.inr (.inr (fun _ => none))))))] ++ wl) _ := hP
  have hD : va_D A ([(h0, .inr (6, [.null, .null, .null, .null, .null, .int (iI 0), .int (iI 0), .int (iI 0), .int (iI 0), .int (iI 0), .int (iI 0)])), (q_1, .inl (G.2.1 6, 6, .inr (.inr (.inr (.inr (fun _ => none))))))] ++ wl) := hD
  refine W.cs (cells' := 1) (slots' := 6) rfl rfl ?_
  refine r_putF F (ci := 6) (v := .ref q_1) b_X8 hE hP hD hS 0 rfl 0 (by decide) q442 (fun _ h9 => h9) rfl rfl rfl rfl (Nat.le_of_ble_eq_true rfl) dX8_init_10 (fun H locs hP hD hS => ?_)
  have hP : va_P G.1 clG ([(h0, .inr (6, [.ref q_1, .null, .null, .null, .null, .int (iI 0), .int (iI 0), .int (iI 0), .int (iI 0), .int (iI 0), .int (iI 0)])), (q_1, .inl (G.2.1 6, 6, .inr (.inr (.inr (.inr (fun _ => none))))))] ++ wl) _ := hP
  have hD : va_D A ([(h0, .inr (6, [.ref q_1, .null, .null, .null, .null, .int (iI 0), .int (iI 0), .int (iI 0), .int (iI 0), .int (iI 0), .int (iI 0)])), (q_1, .inl (G.2.1 6, 6, .inr (.inr (.inr (.inr (fun _ => none))))))] ++ wl) := hD
  refine lv_aload_n F.1 F.2.1 dX8_init_13 rfl (lv_at hl 0 rfl) ?_
  refine lv_bipush (v := iI 8) F.1 F.2.1 dX8_init_14 (bip_ok (by decide)) ?_
  refine r_newq F (C := "RainWalk$Place") 7 rfl q434 (by decide) hE hP hD hS hA 8 rfl (by decide) (Nat.le_of_ble_eq_true rfl) (Nat.le_of_ble_eq_true rfl) dX8_init_16 (fun q_2 H hP hD hS => ?_)
  have hP : va_P G.1 clG ([(h0, .inr (6, [.ref q_1, .null, .null, .null, .null, .int (iI 0), .int (iI 0), .int (iI 0), .int (iI 0), .int (iI 0), .int (iI 0)])), (q_1, .inl (G.2.1 6, 6, .inr (.inr (.inr (.inr (fun _ => none)))))), (q_2, .inl (G.2.1 7, 8, .inr (.inr (.inr (.inr (fun _ => none))))))] ++ wl) _ := hP
  have hD : va_D A ([(h0, .inr (6, [.ref q_1, .null, .null, .null, .null, .int (iI 0), .int (iI 0), .int (iI 0), .int (iI 0), .int (iI 0), .int (iI 0)])), (q_1, .inl (G.2.1 6, 6, .inr (.inr (.inr (.inr (fun _ => none)))))), (q_2, .inl (G.2.1 7, 8, .inr (.inr (.inr (.inr (fun _ => none))))))] ++ wl) := hD
  refine W.cs (cells' := 2) (slots' := 14) rfl rfl ?_
  refine r_putF F (ci := 6) (v := .ref q_2) b_X8 hE hP hD hS 0 rfl 1 (by decide) q446 (fun _ h9 => h9) rfl rfl rfl rfl (Nat.le_of_ble_eq_true rfl) dX8_init_19 (fun H locs hP hD hS => ?_)
  have hP : va_P G.1 clG ([(h0, .inr (6, [.ref q_1, .ref q_2, .null, .null, .null, .int (iI 0), .int (iI 0), .int (iI 0), .int (iI 0), .int (iI 0), .int (iI 0)])), (q_1, .inl (G.2.1 6, 6, .inr (.inr (.inr (.inr (fun _ => none)))))), (q_2, .inl (G.2.1 7, 8, .inr (.inr (.inr (.inr (fun _ => none))))))] ++ wl) _ := hP
  have hD : va_D A ([(h0, .inr (6, [.ref q_1, .ref q_2, .null, .null, .null, .int (iI 0), .int (iI 0), .int (iI 0), .int (iI 0), .int (iI 0), .int (iI 0)])), (q_1, .inl (G.2.1 6, 6, .inr (.inr (.inr (.inr (fun _ => none)))))), (q_2, .inl (G.2.1 7, 8, .inr (.inr (.inr (.inr (fun _ => none))))))] ++ wl) := hD
  refine lv_aload_n F.1 F.2.1 dX8_init_22 rfl (lv_at hl 0 rfl) ?_
  refine lv_bipush (v := iI 12) F.1 F.2.1 dX8_init_23 (bip_ok (by decide)) ?_
  refine r_newq F (C := "RainWalk$Road") 8 rfl q436 (by decide) hE hP hD hS hA 12 rfl (by decide) (Nat.le_of_ble_eq_true rfl) (Nat.le_of_ble_eq_true rfl) dX8_init_25 (fun q_3 H hP hD hS => ?_)
  have hP : va_P G.1 clG ([(h0, .inr (6, [.ref q_1, .ref q_2, .null, .null, .null, .int (iI 0), .int (iI 0), .int (iI 0), .int (iI 0), .int (iI 0), .int (iI 0)])), (q_1, .inl (G.2.1 6, 6, .inr (.inr (.inr (.inr (fun _ => none)))))), (q_2, .inl (G.2.1 7, 8, .inr (.inr (.inr (.inr (fun _ => none)))))), (q_3, .inl (G.2.1 8, 12, .inr (.inr (.inr (.inr (fun _ => none))))))] ++ wl) _ := hP
  have hD : va_D A ([(h0, .inr (6, [.ref q_1, .ref q_2, .null, .null, .null, .int (iI 0), .int (iI 0), .int (iI 0), .int (iI 0), .int (iI 0), .int (iI 0)])), (q_1, .inl (G.2.1 6, 6, .inr (.inr (.inr (.inr (fun _ => none)))))), (q_2, .inl (G.2.1 7, 8, .inr (.inr (.inr (.inr (fun _ => none)))))), (q_3, .inl (G.2.1 8, 12, .inr (.inr (.inr (.inr (fun _ => none))))))] ++ wl) := hD
  refine W.cs (cells' := 3) (slots' := 26) rfl rfl ?_
  refine r_putF F (ci := 6) (v := .ref q_3) b_X8 hE hP hD hS 0 rfl 2 (by decide) q450 (fun _ h9 => h9) rfl rfl rfl rfl (Nat.le_of_ble_eq_true rfl) dX8_init_28 (fun H locs hP hD hS => ?_)
  have hP : va_P G.1 clG ([(h0, .inr (6, [.ref q_1, .ref q_2, .ref q_3, .null, .null, .int (iI 0), .int (iI 0), .int (iI 0), .int (iI 0), .int (iI 0), .int (iI 0)])), (q_1, .inl (G.2.1 6, 6, .inr (.inr (.inr (.inr (fun _ => none)))))), (q_2, .inl (G.2.1 7, 8, .inr (.inr (.inr (.inr (fun _ => none)))))), (q_3, .inl (G.2.1 8, 12, .inr (.inr (.inr (.inr (fun _ => none))))))] ++ wl) _ := hP
  have hD : va_D A ([(h0, .inr (6, [.ref q_1, .ref q_2, .ref q_3, .null, .null, .int (iI 0), .int (iI 0), .int (iI 0), .int (iI 0), .int (iI 0), .int (iI 0)])), (q_1, .inl (G.2.1 6, 6, .inr (.inr (.inr (.inr (fun _ => none)))))), (q_2, .inl (G.2.1 7, 8, .inr (.inr (.inr (.inr (fun _ => none)))))), (q_3, .inl (G.2.1 8, 12, .inr (.inr (.inr (.inr (fun _ => none))))))] ++ wl) := hD
  refine lv_aload_n F.1 F.2.1 dX8_init_31 rfl (lv_at hl 0 rfl) ?_
  refine lv_iconst (v := iI 4) F.1 F.2.1 dX8_init_32 rfl ?_
  refine r_newq F (C := "RainWalk$Walker") 9 rfl q438 (by decide) hE hP hD hS hA 4 rfl (by decide) (Nat.le_of_ble_eq_true rfl) (Nat.le_of_ble_eq_true rfl) dX8_init_33 (fun q_4 H hP hD hS => ?_)
  have hP : va_P G.1 clG ([(h0, .inr (6, [.ref q_1, .ref q_2, .ref q_3, .null, .null, .int (iI 0), .int (iI 0), .int (iI 0), .int (iI 0), .int (iI 0), .int (iI 0)])), (q_1, .inl (G.2.1 6, 6, .inr (.inr (.inr (.inr (fun _ => none)))))), (q_2, .inl (G.2.1 7, 8, .inr (.inr (.inr (.inr (fun _ => none)))))), (q_3, .inl (G.2.1 8, 12, .inr (.inr (.inr (.inr (fun _ => none)))))), (q_4, .inl (G.2.1 9, 4, .inr (.inr (.inr (.inr (fun _ => none))))))] ++ wl) _ := hP
  have hD : va_D A ([(h0, .inr (6, [.ref q_1, .ref q_2, .ref q_3, .null, .null, .int (iI 0), .int (iI 0), .int (iI 0), .int (iI 0), .int (iI 0), .int (iI 0)])), (q_1, .inl (G.2.1 6, 6, .inr (.inr (.inr (.inr (fun _ => none)))))), (q_2, .inl (G.2.1 7, 8, .inr (.inr (.inr (.inr (fun _ => none)))))), (q_3, .inl (G.2.1 8, 12, .inr (.inr (.inr (.inr (fun _ => none)))))), (q_4, .inl (G.2.1 9, 4, .inr (.inr (.inr (.inr (fun _ => none))))))] ++ wl) := hD
  refine W.cs (cells' := 4) (slots' := 30) rfl rfl ?_
  refine r_putF F (ci := 6) (v := .ref q_4) b_X8 hE hP hD hS 0 rfl 3 (by decide) q454 (fun _ h9 => h9) rfl rfl rfl rfl (Nat.le_of_ble_eq_true rfl) dX8_init_36 (fun H locs hP hD hS => ?_)
  have hP : va_P G.1 clG ([(h0, .inr (6, [.ref q_1, .ref q_2, .ref q_3, .ref q_4, .null, .int (iI 0), .int (iI 0), .int (iI 0), .int (iI 0), .int (iI 0), .int (iI 0)])), (q_1, .inl (G.2.1 6, 6, .inr (.inr (.inr (.inr (fun _ => none)))))), (q_2, .inl (G.2.1 7, 8, .inr (.inr (.inr (.inr (fun _ => none)))))), (q_3, .inl (G.2.1 8, 12, .inr (.inr (.inr (.inr (fun _ => none)))))), (q_4, .inl (G.2.1 9, 4, .inr (.inr (.inr (.inr (fun _ => none))))))] ++ wl) _ := hP
  have hD : va_D A ([(h0, .inr (6, [.ref q_1, .ref q_2, .ref q_3, .ref q_4, .null, .int (iI 0), .int (iI 0), .int (iI 0), .int (iI 0), .int (iI 0), .int (iI 0)])), (q_1, .inl (G.2.1 6, 6, .inr (.inr (.inr (.inr (fun _ => none)))))), (q_2, .inl (G.2.1 7, 8, .inr (.inr (.inr (.inr (fun _ => none)))))), (q_3, .inl (G.2.1 8, 12, .inr (.inr (.inr (.inr (fun _ => none)))))), (q_4, .inl (G.2.1 9, 4, .inr (.inr (.inr (.inr (fun _ => none))))))] ++ wl) := hD
  refine lv_aload_n F.1 F.2.1 dX8_init_39 rfl (lv_at hl 0 rfl) ?_
  refine lv_iconst (v := iI 4) F.1 F.2.1 dX8_init_40 rfl ?_
  refine r_newq F (C := "RainWalk$Seen") 10 rfl q440 (by decide) hE hP hD hS hA 4 rfl (by decide) (Nat.le_of_ble_eq_true rfl) (Nat.le_of_ble_eq_true rfl) dX8_init_41 (fun q_5 H hP hD hS => ?_)
  have hP : va_P G.1 clG ([(h0, .inr (6, [.ref q_1, .ref q_2, .ref q_3, .ref q_4, .null, .int (iI 0), .int (iI 0), .int (iI 0), .int (iI 0), .int (iI 0), .int (iI 0)])), (q_1, .inl (G.2.1 6, 6, .inr (.inr (.inr (.inr (fun _ => none)))))), (q_2, .inl (G.2.1 7, 8, .inr (.inr (.inr (.inr (fun _ => none)))))), (q_3, .inl (G.2.1 8, 12, .inr (.inr (.inr (.inr (fun _ => none)))))), (q_4, .inl (G.2.1 9, 4, .inr (.inr (.inr (.inr (fun _ => none)))))), (q_5, .inl (G.2.1 10, 4, .inr (.inr (.inr (.inr (fun _ => none))))))] ++ wl) _ := hP
  have hD : va_D A ([(h0, .inr (6, [.ref q_1, .ref q_2, .ref q_3, .ref q_4, .null, .int (iI 0), .int (iI 0), .int (iI 0), .int (iI 0), .int (iI 0), .int (iI 0)])), (q_1, .inl (G.2.1 6, 6, .inr (.inr (.inr (.inr (fun _ => none)))))), (q_2, .inl (G.2.1 7, 8, .inr (.inr (.inr (.inr (fun _ => none)))))), (q_3, .inl (G.2.1 8, 12, .inr (.inr (.inr (.inr (fun _ => none)))))), (q_4, .inl (G.2.1 9, 4, .inr (.inr (.inr (.inr (fun _ => none)))))), (q_5, .inl (G.2.1 10, 4, .inr (.inr (.inr (.inr (fun _ => none))))))] ++ wl) := hD
  refine W.cs (cells' := 5) (slots' := 34) rfl rfl ?_
  refine r_putF F (ci := 6) (v := .ref q_5) b_X8 hE hP hD hS 0 rfl 4 (by decide) q457 (fun _ h9 => h9) rfl rfl rfl rfl (Nat.le_of_ble_eq_true rfl) dX8_init_44 (fun H locs hP hD hS => ?_)
  have hP : va_P G.1 clG ([(h0, .inr (6, [.ref q_1, .ref q_2, .ref q_3, .ref q_4, .ref q_5, .int (iI 0), .int (iI 0), .int (iI 0), .int (iI 0), .int (iI 0), .int (iI 0)])), (q_1, .inl (G.2.1 6, 6, .inr (.inr (.inr (.inr (fun _ => none)))))), (q_2, .inl (G.2.1 7, 8, .inr (.inr (.inr (.inr (fun _ => none)))))), (q_3, .inl (G.2.1 8, 12, .inr (.inr (.inr (.inr (fun _ => none)))))), (q_4, .inl (G.2.1 9, 4, .inr (.inr (.inr (.inr (fun _ => none)))))), (q_5, .inl (G.2.1 10, 4, .inr (.inr (.inr (.inr (fun _ => none))))))] ++ wl) _ := hP
  have hD : va_D A ([(h0, .inr (6, [.ref q_1, .ref q_2, .ref q_3, .ref q_4, .ref q_5, .int (iI 0), .int (iI 0), .int (iI 0), .int (iI 0), .int (iI 0), .int (iI 0)])), (q_1, .inl (G.2.1 6, 6, .inr (.inr (.inr (.inr (fun _ => none)))))), (q_2, .inl (G.2.1 7, 8, .inr (.inr (.inr (.inr (fun _ => none)))))), (q_3, .inl (G.2.1 8, 12, .inr (.inr (.inr (.inr (fun _ => none)))))), (q_4, .inl (G.2.1 9, 4, .inr (.inr (.inr (.inr (fun _ => none)))))), (q_5, .inl (G.2.1 10, 4, .inr (.inr (.inr (.inr (fun _ => none))))))] ++ wl) := hD
  exact rt_v F hQ hS (Nat.le_of_ble_eq_true rfl) (Nat.le_of_ble_eq_true rfl) (q_1, q_2, q_3, q_4, q_5) rfl trivial hP hD dX8_init_47
set_option maxHeartbeats 1000000 in
/-- Named(..) on a Place -/
theorem ct_X10_init_P {G : Gm} {l : Launch} (h0 : Nat) (nm : Nat) (nu : Int) (wl : va_W) : Ct G l yX10_init (ws_ yX10_init cX10_init 3 none) ({ frames := 1, cells := 0, slots := 0, locals := 12 } : Room) [.ref h0, .ref nm, .int (iI nu)] ([(h0, .inr (8, [.null, .int (iI 0), .int (iI 0), .int (iI 0), .int (iI 0)]))] ++ wl) (fun _ : Unit => True) (fun _ : Unit => (none : Option Value)) (fun _ : Unit => (([(h0, .inr (8, [.ref nm, .int (iI nu), .int (iI 0), .int (iI 0), .int (iI 0)]))] ++ wl) : va_W)) := by
  refine Ct.of (by decide) rfl ?_
  intro pP eE sS mM below meth cC A ls Q F hE hA hP hD hS hl hQ
  have hl : lv_has ls 3 [(0, .ref h0), (1, .ref nm), (2, .int (iI nu))] := hl
  refine lv_aload_n F.1 F.2.1 dX10_init_0 rfl (lv_at hl 0 rfl) ?_
  refine r_oinit F q774 q148 q149 hl.1 dX10_init_1 (Nat.le_of_ble_eq_true rfl) (Nat.le_of_ble_eq_true rfl) ?_
  refine lv_aload_n F.1 F.2.1 dX10_init_4 rfl (lv_at hl 0 rfl) ?_
  refine lv_aload_n F.1 F.2.1 dX10_init_5 rfl (lv_at hl 1 rfl) ?_
  refine r_putF F (ci := 8) (v := .ref nm) b_X11 hE hP hD hS 0 rfl 0 (by decide) q782 (fun _ h9 => h9) rfl rfl rfl rfl (Nat.le_of_ble_eq_true rfl) dX10_init_6 (fun H locs hP hD hS => ?_)
  have hP : va_P G.1 clG ([(h0, .inr (8, [.ref nm, .int (iI 0), .int (iI 0), .int (iI 0), .int (iI 0)]))] ++ wl) _ := hP
  have hD : va_D A ([(h0, .inr (8, [.ref nm, .int (iI 0), .int (iI 0), .int (iI 0), .int (iI 0)]))] ++ wl) := hD
  refine lv_aload_n F.1 F.2.1 dX10_init_9 rfl (lv_at hl 0 rfl) ?_
  refine lv_iload_n F.1 F.2.1 dX10_init_10 rfl (lv_at hl 2 rfl) ?_
  refine r_putF F (ci := 8) (v := .int (iI nu)) b_X11 hE hP hD hS 0 rfl 1 (by decide) q784 (fun _ h9 => h9) rfl rfl rfl rfl (Nat.le_of_ble_eq_true rfl) dX10_init_11 (fun H locs hP hD hS => ?_)
  have hP : va_P G.1 clG ([(h0, .inr (8, [.ref nm, .int (iI nu), .int (iI 0), .int (iI 0), .int (iI 0)]))] ++ wl) _ := hP
  have hD : va_D A ([(h0, .inr (8, [.ref nm, .int (iI nu), .int (iI 0), .int (iI 0), .int (iI 0)]))] ++ wl) := hD
  exact rt_v F hQ hS (Nat.le_of_ble_eq_true rfl) (Nat.le_of_ble_eq_true rfl) () rfl trivial hP hD dX10_init_14
theorem hd_X10_init : Hd yX10_init 2 := ⟨by decide +kernel, by decide +kernel, by decide +kernel⟩
set_option maxHeartbeats 1000000 in
/-- Place(..) -/
theorem ct_X11_init {G : Gm} {l : Launch} (h0 : Nat) (nm : Nat) (nu : Int) (wl : va_W) : Ct G l yX11_init (ws_ yX11_init cX11_init 3 none) ({ frames := 2, cells := 0, slots := 0, locals := 34 } : Room) [.ref h0, .ref nm, .int (iI nu)] ([(h0, .inr (8, [.null, .int (iI 0), .int (iI 0), .int (iI 0), .int (iI 0)]))] ++ wl) (fun _ : Unit => True) (fun _ : Unit => (none : Option Value)) (fun _ : Unit => (([(h0, .inr (8, [.ref nm, .int (iI nu), .int (iI 0), .int (iI 0), .int (iI 0)]))] ++ wl) : va_W)) := by
  refine Ct.of (by decide) rfl ?_
  intro pP eE sS mM below meth cC A ls Q F hE hA hP hD hS hl hQ
  have hl : lv_has ls 3 [(0, .ref h0), (1, .ref nm), (2, .int (iI nu))] := hl
  refine lv_aload_n F.1 F.2.1 dX11_init_0 rfl (lv_at hl 0 rfl) ?_
  refine lv_aload_n F.1 F.2.1 dX11_init_1 rfl (lv_at hl 1 rfl) ?_
  refine lv_iload_n F.1 F.2.1 dX11_init_2 rfl (lv_at hl 2 rfl) ?_
  refine cl_I F (ct_X10_init_P h0 nm nu wl) hd_X10_init rfl q771 q772 q129 q773 hE hP hD hS hA (X := [(h0, .inr (8, [.null, .int (iI 0), .int (iI 0), .int (iI 0), .int (iI 0)]))]) (pl := wl) (cx := [(h0, .inr (8, [.null, .int (iI 0), .int (iI 0), .int (iI 0), .int (iI 0)]))]) (wr := []) [0] [] rfl rfl rfl rfl (by decide) rfl rfl rfl (Nat.le_of_ble_eq_true rfl) hl.1 dX11_init_3 ⟨Nat.le_of_ble_eq_true rfl, Nat.le_of_ble_eq_true rfl⟩ ⟨Nat.le_of_ble_eq_true rfl, Nat.le_of_ble_eq_true rfl⟩ (fun _ H locs _ hP hD hS => ?_)
  have hP : va_P G.1 clG ([(h0, .inr (8, [.ref nm, .int (iI nu), .int (iI 0), .int (iI 0), .int (iI 0)]))] ++ wl) _ := hP
  have hD : va_D A ([(h0, .inr (8, [.ref nm, .int (iI nu), .int (iI 0), .int (iI 0), .int (iI 0)]))] ++ wl) := hD
  refine W.eq (g2 := F0 mM 6 ls []) rfl ?_
  exact rt_v F hQ hS (Nat.le_of_ble_eq_true rfl) (Nat.le_of_ble_eq_true rfl) () rfl trivial hP hD dX11_init_6
set_option maxHeartbeats 1000000 in
/-- Place.isShelter -/
theorem ct_X11_isShelter {G : Gm} {l : Launch} (h0 : Nat) (nm : Nat) (nu : Int) (inn : Int) (tr : Int) (dp : Int) (wl : va_W) (h1 : inn = 0 ∨ inn = 1) (h2 : tr = 0 ∨ tr = 1) (hm : (h0, .inr (8, [.ref nm, .int (iI nu), .int (iI inn), .int (iI tr), .int (iI dp)])) ∈ wl) : Ct G l yX11_isShelter (ws_ yX11_isShelter cX11_isShelter 1 (some .boolean)) ({ frames := 0, cells := 0, slots := 0, locals := 0 } : Room) [.ref h0] ([] ++ wl) (fun _ : Unit => True) (fun _ : Unit => ((some (.int (iI (pI (inn = 1 ∨ tr = 1))))) : Option Value)) (fun _ : Unit => (([] ++ wl) : va_W)) := by
  refine Ct.of (by decide) rfl ?_
  intro pP eE sS mM below meth cC A ls Q F hE hA hP hD hS hl hQ
  have hl : lv_has ls 1 [(0, .ref h0)] := hl
  refine lv_aload_n F.1 F.2.1 dX11_isShelter_0 rfl (lv_at hl 0 rfl) ?_
  obtain ⟨k_1, hk_2⟩ := mem_at (X := []) hm
  refine r_get F (ci := 8) (v := .int (iI inn)) b_X11 hE hP k_1 hk_2 2 (by decide) q775 (fun _ h9 => h9) rfl dX11_isShelter_1 ?_
  refine r_if_ne F (tgt := 14) (by omega) dX11_isShelter_4 (by decide) (fun c_3 => ?_) (fun c_3 => ?_)
  · refine lv_iconst (v := iI 1) F.1 F.2.1 dX11_isShelter_14 rfl ?_
    refine lv_goto (tgt := 19) F.1 F.2.1 dX11_isShelter_15 (by decide) ?_
    exact rt_z F hQ hS (Nat.le_of_ble_eq_true rfl) (Nat.le_of_ble_eq_true rfl) (Or.inr rfl) () (congrArg (fun z => some (Value.int (iI z))) (show (pI (inn = 1 ∨ tr = 1)) = 1 from by exact pI_t (by omega))) trivial hP hD dX11_isShelter_19
  · refine lv_aload_n F.1 F.2.1 dX11_isShelter_7 rfl (lv_at hl 0 rfl) ?_
    obtain ⟨k_4, hk_5⟩ := mem_at (X := []) hm
    refine r_get F (ci := 8) (v := .int (iI tr)) b_X11 hE hP k_4 hk_5 3 (by decide) q777 (fun _ h9 => h9) rfl dX11_isShelter_8 ?_
    refine r_if_eq F (tgt := 18) (by omega) dX11_isShelter_11 (by decide) (fun c_6 => ?_) (fun c_6 => ?_)
    · refine lv_iconst (v := iI 0) F.1 F.2.1 dX11_isShelter_18 rfl ?_
      exact rt_z F hQ hS (Nat.le_of_ble_eq_true rfl) (Nat.le_of_ble_eq_true rfl) (Or.inl rfl) () (congrArg (fun z => some (Value.int (iI z))) (show (pI (inn = 1 ∨ tr = 1)) = 0 from by exact pI_f (by omega))) trivial hP hD dX11_isShelter_19
    · refine lv_iconst (v := iI 1) F.1 F.2.1 dX11_isShelter_14 rfl ?_
      refine lv_goto (tgt := 19) F.1 F.2.1 dX11_isShelter_15 (by decide) ?_
      exact rt_z F hQ hS (Nat.le_of_ble_eq_true rfl) (Nat.le_of_ble_eq_true rfl) (Or.inr rfl) () (congrArg (fun z => some (Value.int (iI z))) (show (pI (inn = 1 ∨ tr = 1)) = 1 from by exact pI_t (by omega))) trivial hP hD dX11_isShelter_19
