/-! Walkers of four kinds; Math's max and min -/
set_option maxRecDepth 100000
def bentK (k : Nat) (z : Int) : Int := match k with
  | 1 => z
  | _ => 0
def holdsK (k : Nat) (z : Int) : Int := match k with
  | 2 => z
  | _ => -1
def shieldK (k : Nat) (z : Int) : Int := match k with
  | 0 => 0
  | 1 => 0
  | 2 => 0
  | _ => z
def kindK (k : Nat) : Int := match k with
  | 0 => 0
  | 1 => 1
  | 2 => 2
  | _ => 3
theorem bentK_in {k : Nat} {z A B : Int} (h : A ≤ z ∧ z ≤ B) (hA : A ≤ 0) (hB : 0 ≤ B) : A ≤ bentK k z ∧ bentK k z ≤ B := kW (P := fun k => A ≤ bentK k z ∧ bentK k z ≤ B) ⟨hA, hB⟩ h ⟨hA, hB⟩ (fun _ => ⟨hA, hB⟩) k
theorem shieldK_in {k : Nat} {z A B : Int} (h : A ≤ z ∧ z ≤ B) (hA : A ≤ 0) (hB : 0 ≤ B) : A ≤ shieldK k z ∧ shieldK k z ≤ B := kW (P := fun k => A ≤ shieldK k z ∧ shieldK k z ≤ B) ⟨hA, hB⟩ ⟨hA, hB⟩ ⟨hA, hB⟩ (fun _ => h) k
theorem holdsK_in {k : Nat} {z A B : Int} (h : A ≤ z ∧ z ≤ B) (hA : A ≤ -1) (hB : -1 ≤ B) : A ≤ holdsK k z ∧ holdsK k z ≤ B := kW (P := fun k => A ≤ holdsK k z ∧ holdsK k z ≤ B) ⟨hA, hB⟩ ⟨hA, hB⟩ h (fun _ => ⟨hA, hB⟩) k
theorem mulR {a b A B : Int} (ha : 0 ≤ a ∧ a ≤ A) (hb : 0 ≤ b ∧ b ≤ B) : 0 ≤ a * b ∧ a * b ≤ A * B := ⟨Int.mul_nonneg ha.1 hb.1, Int.mul_le_mul ha.2 hb.2 hb.1 (Int.le_trans ha.1 ha.2)⟩
theorem recvW {s : State} {A : Nat → Prop} {H : Heap} {G : Gm} {a q0 kd : Nat} {fs : List Value} {ws : va_W} (hE : Ev G A s) (hP : va_P G.1 clG ws H) (he : ws[q0]? = some (a, .inr (ciW kd, fs))) : ∃ cell : Cell, H[a]? = some cell ∧ cell.vm.isStatics = false ∧ s.vm.findClass (clsW kd) = some cell.cls := va_recv hE.1 hP (b_W kd).2.2.2 he
theorem selW_hasSpeed (k : Nat) : Cond.selects (clsW k) yX13_hasSpeed yX13_hasSpeed ∈ lw_all := kW (P := fun k => Cond.selects (clsW k) yX13_hasSpeed yX13_hasSpeed ∈ lw_all) q1008 q1006 q1007 (fun _ => q1009) k
theorem selW_topLeft (k : Nat) : Cond.selects (clsW k) yX13_topLeft yX13_topLeft ∈ lw_all := kW (P := fun k => Cond.selects (clsW k) yX13_topLeft yX13_topLeft ∈ lw_all) q1037 q1035 q1036 (fun _ => q1038) k
theorem selW_top (k : Nat) : Cond.selects (clsW k) yX13_top yX13_top ∈ lw_all := kW (P := fun k => Cond.selects (clsW k) yX13_top yX13_top ∈ lw_all) q1045 q1043 q1044 (fun _ => q1046) k
theorem selW_front (k : Nat) : Cond.selects (clsW k) yX13_front yX13_front ∈ lw_all := kW (P := fun k => Cond.selects (clsW k) yX13_front yX13_front ∈ lw_all) q1071 q1069 q1070 (fun _ => q1072) k
theorem selW_frontLeft (k : Nat) : Cond.selects (clsW k) yX13_frontLeft yX13_frontLeft ∈ lw_all := kW (P := fun k => Cond.selects (clsW k) yX13_frontLeft yX13_frontLeft ∈ lw_all) q1084 q1082 q1083 (fun _ => q1085) k
theorem selW_side (k : Nat) : Cond.selects (clsW k) yX13_side yX13_side ∈ lw_all := kW (P := fun k => Cond.selects (clsW k) yX13_side yX13_side ∈ lw_all) q1097 q1095 q1096 (fun _ => q1098) k
section FMM
variable {p : Program} {l : Launch} {e : Env} {R : Room} {s : State} {m : MethodId} {args : Array Value} {below : List Frame} {meth : Method} {c : Code} {H : Heap} {locs : List Loc} {cells slots : Nat} {Q : State → Prop}
variable {cc : ByteArray} {nL : Nat} {own nm : String} {ret : Option FieldType} {pc : Nat} {ls : Array Slot} {rest : List Value}
theorem r_mmaxI (F : Fx p s m meth c args cc nL own ret nm) {index : Nat} {a b : Int} (q1 : Cond.methodLink own index Lib.Math.max.name ∈ lw_all) (q2 : Cond.static Lib.Math.max.name ∈ lw_all) (q3 : Cond.initialized "java/lang/Math" ∈ lw_all) (q4 : Cond.code Lib.Math.max.name Lib.Math.max.code 2 (some .int) ∈ lw_all) (ha : -2147483648 ≤ a ∧ a < 2147483648) (hb : -2147483648 ≤ b ∧ b < 2147483648) (hsz : ls.size = nL) (h1 : 1 ≤ R.frames) (h2 : (rest.map fun v => v.category).sum + 13 ≤ R.locals) (h3 : cells ≤ R.cells) (h4 : slots ≤ R.slots) (hdg : decode cc pc = .ok (.invokestatic index, 3)) (k : W p l e R s m args below meth c H locs cells slots Q (F0 m (pc + 3) ls (.int (iI (max a b)) :: rest))) : W p l e R s m args below meth c H locs cells slots Q (F0 m pc ls (.int (iI b) :: .int (iI a) :: rest)) := by
  refine va_mmax F.1 F.2.1 (by rw [F.2.2.1]; exact hsz.symm) F.2.2.2.1 (F.2.2.2.2.1 _ q1) (F.2.2.2.2.1 _ q2) (F.2.2.2.2.1 _ q3) (F.2.2.2.2.1 _ q4) h1 h2 h3 h4 hdg ?_
  by_cases q : a < b
  · rw [if_pos ((iI_lt ha hb).mpr q)]
    rw [show max a b = b by omega] at k
    exact k
  · rw [if_neg (fun z => q ((iI_lt ha hb).mp z))]
    rw [show max a b = a by omega] at k
    exact k
theorem r_mmaxL (F : Fx p s m meth c args cc nL own ret nm) {index : Nat} {a b : Int} (q1 : Cond.methodLink own index Lib.MathLoose.max_long.x ∈ lw_all) (q2 : Cond.static Lib.MathLoose.max_long.x ∈ lw_all) (q3 : Cond.initialized "java/lang/Math" ∈ lw_all) (q4 : Cond.code Lib.MathLoose.max_long.x Lib.MathLoose.max_long.code 4 (some .long) ∈ lw_all) (ha : -9223372036854775808 ≤ a ∧ a < 9223372036854775808) (hb : -9223372036854775808 ≤ b ∧ b < 9223372036854775808) (hsz : ls.size = nL) (h1 : 1 ≤ R.frames) (h2 : (rest.map fun v => v.category).sum + 15 ≤ R.locals) (h3 : cells ≤ R.cells) (h4 : slots ≤ R.slots) (hdg : decode cc pc = .ok (.invokestatic index, 3)) (k : W p l e R s m args below meth c H locs cells slots Q (F0 m (pc + 3) ls (.long (lI (max a b)) :: rest))) : W p l e R s m args below meth c H locs cells slots Q (F0 m pc ls (.long (lI b) :: .long (lI a) :: rest)) := by
  refine va_mmax_long F.1 F.2.1 (by rw [F.2.2.1]; exact hsz.symm) F.2.2.2.1 (F.2.2.2.2.1 _ q1) (F.2.2.2.2.1 _ q2) (F.2.2.2.2.1 _ q3) (F.2.2.2.2.1 _ q4) h1 h2 h3 h4 hdg ?_
  by_cases q : b < a
  · rw [if_pos ((lI_lt hb ha).mpr q)]
    rw [show max a b = a by omega] at k
    exact k
  · rw [if_neg (fun z => q ((lI_lt hb ha).mp z))]
    rw [show max a b = b by omega] at k
    exact k
theorem r_mminL (F : Fx p s m meth c args cc nL own ret nm) {index : Nat} {a b : Int} (q1 : Cond.methodLink own index Lib.MathLoose.min_long.x ∈ lw_all) (q2 : Cond.static Lib.MathLoose.min_long.x ∈ lw_all) (q3 : Cond.initialized "java/lang/Math" ∈ lw_all) (q4 : Cond.code Lib.MathLoose.min_long.x Lib.MathLoose.min_long.code 4 (some .long) ∈ lw_all) (ha : -9223372036854775808 ≤ a ∧ a < 9223372036854775808) (hb : -9223372036854775808 ≤ b ∧ b < 9223372036854775808) (hsz : ls.size = nL) (h1 : 1 ≤ R.frames) (h2 : (rest.map fun v => v.category).sum + 15 ≤ R.locals) (h3 : cells ≤ R.cells) (h4 : slots ≤ R.slots) (hdg : decode cc pc = .ok (.invokestatic index, 3)) (k : W p l e R s m args below meth c H locs cells slots Q (F0 m (pc + 3) ls (.long (lI (min a b)) :: rest))) : W p l e R s m args below meth c H locs cells slots Q (F0 m pc ls (.long (lI b) :: .long (lI a) :: rest)) := by
  refine va_mmin_long F.1 F.2.1 (by rw [F.2.2.1]; exact hsz.symm) F.2.2.2.1 (F.2.2.2.2.1 _ q1) (F.2.2.2.2.1 _ q2) (F.2.2.2.2.1 _ q3) (F.2.2.2.2.1 _ q4) h1 h2 h3 h4 hdg ?_
  by_cases q : b < a
  · rw [if_pos ((lI_lt hb ha).mpr q)]
    rw [show min a b = b by omega] at k
    exact k
  · rw [if_neg (fun z => q ((lI_lt hb ha).mp z))]
    rw [show min a b = a by omega] at k
    exact k
end FMM
def topR (kd : Nat) (by_ br dp : Int) : Int := br * (dp + bentK kd by_)
def frontR (kd : Nat) (by_ br hg : Int) : Int := br * (hg - bentK kd by_)
def sideR (kd : Nat) (by_ dp hg : Int) : Int := (dp + bentK kd by_) * (hg - bentK kd by_)
def topLR (kd : Nat) (by_ br dp : Int) : Int := max 0 (topR kd by_ br dp - shieldK kd by_)
def frontLR (kd : Nat) (by_ br hg : Int) : Int := max 0 (frontR kd by_ br hg - shieldK kd by_)
/-- what a world's walker keeps to -/
def WkOk (kd : Nat) (by_ br dp hg sl fa : Int) : Prop := (0 ≤ by_ ∧ by_ ≤ 999) ∧ (1 ≤ br ∧ br ≤ 9) ∧ (1 ≤ dp ∧ dp ≤ 9) ∧ (bentK kd by_ + 1 ≤ hg ∧ hg ≤ 9) ∧ (1 ≤ sl ∧ sl ≤ fa) ∧ fa ≤ 9
theorem WkOk.speeds {kd : Nat} {by_ br dp hg sl fa : Int} (h : WkOk kd by_ br dp hg sl fa) : 1 ≤ sl ∧ sl ≤ fa ∧ fa ≤ 9 := ⟨h.2.2.2.2.1.1, h.2.2.2.2.1.2, h.2.2.2.2.2⟩
theorem WkOk.kinds {kd : Nat} {by_ br dp hg sl fa : Int} (h : WkOk kd by_ br dp hg sl fa) : (0 ≤ bentK kd by_ ∧ bentK kd by_ ≤ 8) ∧ (0 ≤ shieldK kd by_ ∧ shieldK kd by_ ≤ 999) ∧ (-1 ≤ holdsK kd by_ ∧ holdsK kd by_ ≤ 999) := by
  have h1 := bentK_in (k := kd) h.1 (by omega) (by omega)
  have h2 := h.2.2.2.1
  exact ⟨by omega, shieldK_in h.1 (by omega) (by omega), holdsK_in (A := -1) ⟨by have := h.1; omega, h.1.2⟩ (by omega) (by omega)⟩
theorem WkOk.tops {kd : Nat} {by_ br dp hg sl fa : Int} (h : WkOk kd by_ br dp hg sl fa) : (0 ≤ topR kd by_ br dp ∧ topR kd by_ br dp ≤ 153) ∧ (0 ≤ frontR kd by_ br hg ∧ frontR kd by_ br hg ≤ 81) ∧ (0 ≤ sideR kd by_ dp hg ∧ sideR kd by_ dp hg ≤ 153) ∧ (0 ≤ topLR kd by_ br dp ∧ topLR kd by_ br dp ≤ 153) ∧ (0 ≤ frontLR kd by_ br hg ∧ frontLR kd by_ br hg ≤ 81) := by
  have hk := h.kinds
  obtain ⟨h1, h2, h3, h4, h5, h6⟩ := h
  have t0 := mulR (a := br) (b := dp + bentK kd by_) (A := 9) (B := 17) (by omega) (by omega)
  have t1 := mulR (a := br) (b := hg - bentK kd by_) (A := 9) (B := 9) (by omega) (by omega)
  have t2 := mulR (a := dp + bentK kd by_) (b := hg - bentK kd by_) (A := 17) (B := 9) (by omega) (by omega)
  unfold topLR frontLR topR frontR sideR
  omega
theorem hd_X13_bent : Hd yX13_bent 0 := ⟨by decide +kernel, by decide +kernel, by decide +kernel⟩
theorem hd_X13_holds : Hd yX13_holds 0 := ⟨by decide +kernel, by decide +kernel, by decide +kernel⟩
theorem hd_X13_shield : Hd yX13_shield 0 := ⟨by decide +kernel, by decide +kernel, by decide +kernel⟩
theorem hd_X14_kind : Hd yX14_kind 0 := ⟨by decide +kernel, by decide +kernel, by decide +kernel⟩
theorem hd_X15_bent : Hd yX15_bent 0 := ⟨by decide +kernel, by decide +kernel, by decide +kernel⟩
theorem hd_X15_kind : Hd yX15_kind 0 := ⟨by decide +kernel, by decide +kernel, by decide +kernel⟩
theorem hd_X16_holds : Hd yX16_holds 0 := ⟨by decide +kernel, by decide +kernel, by decide +kernel⟩
theorem hd_X16_kind : Hd yX16_kind 0 := ⟨by decide +kernel, by decide +kernel, by decide +kernel⟩
theorem hd_X17_kind : Hd yX17_kind 0 := ⟨by decide +kernel, by decide +kernel, by decide +kernel⟩
theorem hd_X17_shield : Hd yX17_shield 0 := ⟨by decide +kernel, by decide +kernel, by decide +kernel⟩
set_option maxHeartbeats 1000000 in
/-- Named(..) on a walker -/
theorem ct_X10_init_W {G : Gm} {l : Launch} (h0 : Nat) (nm : Nat) (kd : Nat) (nu : Int) (wl : va_W) : Ct G l yX10_init (ws_ yX10_init cX10_init 3 none) ({ frames := 1, cells := 0, slots := 0, locals := 12 } : Room) [.ref h0, .ref nm, .int (iI nu)] ([(h0, .inr (ciW kd, [.int (iI 0), .int (iI 0), .int (iI 0), .int (iI 0), .int (iI 0), .int (iI 0), .null, .int (iI 0)]))] ++ wl) (fun _ : Unit => True) (fun _ : Unit => (none : Option Value)) (fun _ : Unit => (([(h0, .inr (ciW kd, [.int (iI 0), .int (iI 0), .int (iI 0), .int (iI 0), .int (iI 0), .int (iI 0), .ref nm, .int (iI nu)]))] ++ wl) : va_W)) := by
  refine Ct.of (by decide) rfl ?_
  intro pP eE sS mM below meth cC A ls Q F hE hA hP hD hS hl hQ
  have hl : lv_has ls 3 [(0, .ref h0), (1, .ref nm), (2, .int (iI nu))] := hl
  refine lv_aload_n F.1 F.2.1 dX10_init_0 rfl (lv_at hl 0 rfl) ?_
  refine r_oinit F q774 q148 q149 hl.1 dX10_init_1 (Nat.le_of_ble_eq_true rfl) (Nat.le_of_ble_eq_true rfl) ?_
  refine lv_aload_n F.1 F.2.1 dX10_init_4 rfl (lv_at hl 0 rfl) ?_
  refine lv_aload_n F.1 F.2.1 dX10_init_5 rfl (lv_at hl 1 rfl) ?_
  refine r_putWF F (v := .ref nm) hE hP hD hS 0 rfl 6 (by decide) rfl q782 (fun _ h9 => h9) rfl rfl rfl (Nat.le_of_ble_eq_true rfl) dX10_init_6 (fun H locs hP hD hS => ?_)
  have hP : va_P G.1 clG ([(h0, .inr (ciW kd, [.int (iI 0), .int (iI 0), .int (iI 0), .int (iI 0), .int (iI 0), .int (iI 0), .ref nm, .int (iI 0)]))] ++ wl) _ := hP
  have hD : va_D A ([(h0, .inr (ciW kd, [.int (iI 0), .int (iI 0), .int (iI 0), .int (iI 0), .int (iI 0), .int (iI 0), .ref nm, .int (iI 0)]))] ++ wl) := hD
  refine lv_aload_n F.1 F.2.1 dX10_init_9 rfl (lv_at hl 0 rfl) ?_
  refine lv_iload_n F.1 F.2.1 dX10_init_10 rfl (lv_at hl 2 rfl) ?_
  refine r_putWF F (v := .int (iI nu)) hE hP hD hS 0 rfl 7 (by decide) rfl q784 (fun _ h9 => h9) rfl rfl rfl (Nat.le_of_ble_eq_true rfl) dX10_init_11 (fun H locs hP hD hS => ?_)
  have hP : va_P G.1 clG ([(h0, .inr (ciW kd, [.int (iI 0), .int (iI 0), .int (iI 0), .int (iI 0), .int (iI 0), .int (iI 0), .ref nm, .int (iI nu)]))] ++ wl) _ := hP
  have hD : va_D A ([(h0, .inr (ciW kd, [.int (iI 0), .int (iI 0), .int (iI 0), .int (iI 0), .int (iI 0), .int (iI 0), .ref nm, .int (iI nu)]))] ++ wl) := hD
  exact rt_v F hQ hS (Nat.le_of_ble_eq_true rfl) (Nat.le_of_ble_eq_true rfl) () rfl trivial hP hD dX10_init_14
set_option maxHeartbeats 1000000 in
/-- Walker(..) -/
theorem ct_X13_init {G : Gm} {l : Launch} (h0 : Nat) (nm : Nat) (kd : Nat) (nu : Int) (b : Int) (wl : va_W) : Ct G l yX13_init (ws_ yX13_init cX13_init 4 none) ({ frames := 2, cells := 0, slots := 0, locals := 34 } : Room) [.ref h0, .ref nm, .int (iI nu), .int (iI b)] ([(h0, .inr (ciW kd, [.int (iI 0), .int (iI 0), .int (iI 0), .int (iI 0), .int (iI 0), .int (iI 0), .null, .int (iI 0)]))] ++ wl) (fun _ : Unit => True) (fun _ : Unit => (none : Option Value)) (fun _ : Unit => (([(h0, .inr (ciW kd, [.int (iI b), .int (iI 0), .int (iI 0), .int (iI 0), .int (iI 0), .int (iI 0), .ref nm, .int (iI nu)]))] ++ wl) : va_W)) := by
  refine Ct.of (by decide) rfl ?_
  intro pP eE sS mM below meth cC A ls Q F hE hA hP hD hS hl hQ
  have hl : lv_has ls 4 [(0, .ref h0), (1, .ref nm), (2, .int (iI nu)), (3, .int (iI b))] := hl
  refine lv_aload_n F.1 F.2.1 dX13_init_0 rfl (lv_at hl 0 rfl) ?_
  refine lv_aload_n F.1 F.2.1 dX13_init_1 rfl (lv_at hl 1 rfl) ?_
  refine lv_iload_n F.1 F.2.1 dX13_init_2 rfl (lv_at hl 2 rfl) ?_
  refine cl_I F (ct_X10_init_W h0 nm kd nu wl) hd_X10_init rfl q852 q772 q129 q773 hE hP hD hS hA (X := [(h0, .inr (ciW kd, [.int (iI 0), .int (iI 0), .int (iI 0), .int (iI 0), .int (iI 0), .int (iI 0), .null, .int (iI 0)]))]) (pl := wl) (cx := [(h0, .inr (ciW kd, [.int (iI 0), .int (iI 0), .int (iI 0), .int (iI 0), .int (iI 0), .int (iI 0), .null, .int (iI 0)]))]) (wr := []) [0] [] rfl rfl rfl rfl (by decide) rfl rfl rfl (Nat.le_of_ble_eq_true rfl) hl.1 dX13_init_3 ⟨Nat.le_of_ble_eq_true rfl, Nat.le_of_ble_eq_true rfl⟩ ⟨Nat.le_of_ble_eq_true rfl, Nat.le_of_ble_eq_true rfl⟩ (fun _ H locs _ hP hD hS => ?_)
  have hP : va_P G.1 clG ([(h0, .inr (ciW kd, [.int (iI 0), .int (iI 0), .int (iI 0), .int (iI 0), .int (iI 0), .int (iI 0), .ref nm, .int (iI nu)]))] ++ wl) _ := hP
  have hD : va_D A ([(h0, .inr (ciW kd, [.int (iI 0), .int (iI 0), .int (iI 0), .int (iI 0), .int (iI 0), .int (iI 0), .ref nm, .int (iI nu)]))] ++ wl) := hD
  refine W.eq (g2 := F0 mM 6 ls []) rfl ?_
  refine lv_aload_n F.1 F.2.1 dX13_init_6 rfl (lv_at hl 0 rfl) ?_
  refine lv_iload_n F.1 F.2.1 dX13_init_7 rfl (lv_at hl 3 rfl) ?_
  refine r_putWF F (v := .int (iI b)) hE hP hD hS 0 rfl 0 (by decide) rfl q853 (fun _ h9 => h9) rfl rfl rfl (Nat.le_of_ble_eq_true rfl) dX13_init_8 (fun H locs hP hD hS => ?_)
  have hP : va_P G.1 clG ([(h0, .inr (ciW kd, [.int (iI b), .int (iI 0), .int (iI 0), .int (iI 0), .int (iI 0), .int (iI 0), .ref nm, .int (iI nu)]))] ++ wl) _ := hP
  have hD : va_D A ([(h0, .inr (ciW kd, [.int (iI b), .int (iI 0), .int (iI 0), .int (iI 0), .int (iI 0), .int (iI 0), .ref nm, .int (iI nu)]))] ++ wl) := hD
  exact rt_v F hQ hS (Nat.le_of_ble_eq_true rfl) (Nat.le_of_ble_eq_true rfl) () rfl trivial hP hD dX13_init_11
theorem hd_X13_init : Hd yX13_init 3 := ⟨by decide +kernel, by decide +kernel, by decide +kernel⟩
set_option maxHeartbeats 1000000 in
/-- Plain(..) -/
theorem ct_X14_init {G : Gm} {l : Launch} (h0 : Nat) (nm : Nat) (nu : Int) (wl : va_W) : Ct G l yX14_init (ws_ yX14_init cX14_init 3 none) ({ frames := 3, cells := 0, slots := 0, locals := 57 } : Room) [.ref h0, .ref nm, .int (iI nu)] ([(h0, .inr (10, [.int (iI 0), .int (iI 0), .int (iI 0), .int (iI 0), .int (iI 0), .int (iI 0), .null, .int (iI 0)]))] ++ wl) (fun _ : Unit => True) (fun _ : Unit => (none : Option Value)) (fun _ : Unit => (([(h0, .inr (10, [.int (iI 0), .int (iI 0), .int (iI 0), .int (iI 0), .int (iI 0), .int (iI 0), .ref nm, .int (iI nu)]))] ++ wl) : va_W)) := by
  refine Ct.of (by decide) rfl ?_
  intro pP eE sS mM below meth cC A ls Q F hE hA hP hD hS hl hQ
  have hl : lv_has ls 3 [(0, .ref h0), (1, .ref nm), (2, .int (iI nu))] := hl
  refine lv_aload_n F.1 F.2.1 dX14_init_0 rfl (lv_at hl 0 rfl) ?_
  refine lv_aload_n F.1 F.2.1 dX14_init_1 rfl (lv_at hl 1 rfl) ?_
  refine lv_iload_n F.1 F.2.1 dX14_init_2 rfl (lv_at hl 2 rfl) ?_
  refine lv_iconst (v := iI 0) F.1 F.2.1 dX14_init_3 rfl ?_
  refine cl_I F (ct_X13_init h0 nm 0 nu 0 wl) hd_X13_init rfl q849 q850 q132 q851 hE hP hD hS hA (X := [(h0, .inr (10, [.int (iI 0), .int (iI 0), .int (iI 0), .int (iI 0), .int (iI 0), .int (iI 0), .null, .int (iI 0)]))]) (pl := wl) (cx := [(h0, .inr (10, [.int (iI 0), .int (iI 0), .int (iI 0), .int (iI 0), .int (iI 0), .int (iI 0), .null, .int (iI 0)]))]) (wr := []) [0] [] rfl rfl rfl rfl (by decide) rfl rfl rfl (Nat.le_of_ble_eq_true rfl) hl.1 dX14_init_4 ⟨Nat.le_of_ble_eq_true rfl, Nat.le_of_ble_eq_true rfl⟩ ⟨Nat.le_of_ble_eq_true rfl, Nat.le_of_ble_eq_true rfl⟩ (fun _ H locs _ hP hD hS => ?_)
  have hP : va_P G.1 clG ([(h0, .inr (ciW 0, [.int (iI 0), .int (iI 0), .int (iI 0), .int (iI 0), .int (iI 0), .int (iI 0), .ref nm, .int (iI nu)]))] ++ wl) _ := hP
  have hD : va_D A ([(h0, .inr (ciW 0, [.int (iI 0), .int (iI 0), .int (iI 0), .int (iI 0), .int (iI 0), .int (iI 0), .ref nm, .int (iI nu)]))] ++ wl) := hD
  refine W.eq (g2 := F0 mM 7 ls []) rfl ?_
  exact rt_v F hQ hS (Nat.le_of_ble_eq_true rfl) (Nat.le_of_ble_eq_true rfl) () rfl trivial hP hD dX14_init_7
set_option maxHeartbeats 1000000 in
theorem ct_X14_kind {G : Gm} {l : Launch} (h0 : Nat) (wl : va_W) : Ct G l yX14_kind (ws_ yX14_kind cX14_kind 1 (some .int)) ({ frames := 0, cells := 0, slots := 0, locals := 0 } : Room) [.ref h0] ([] ++ wl) (fun _ : Unit => True) (fun _ : Unit => ((some (.int (iI 0))) : Option Value)) (fun _ : Unit => (([] ++ wl) : va_W)) := by
  refine Ct.of (by decide) rfl ?_
  intro pP eE sS mM below meth cC A ls Q F hE hA hP hD hS hl hQ
  have hl : lv_has ls 1 [(0, .ref h0)] := hl
  refine lv_iconst (v := iI 0) F.1 F.2.1 dX14_kind_0 rfl ?_
  exact rt_i F hQ hS (Nat.le_of_ble_eq_true rfl) (Nat.le_of_ble_eq_true rfl) () rfl trivial hP hD dX14_kind_1
set_option maxHeartbeats 1000000 in
/-- RainWalk$Bent -/
theorem ct_X15_init {G : Gm} {l : Launch} (h0 : Nat) (nm : Nat) (nu : Int) (b : Int) (wl : va_W) : Ct G l yX15_init (ws_ yX15_init cX15_init 4 none) ({ frames := 3, cells := 0, slots := 0, locals := 57 } : Room) [.ref h0, .ref nm, .int (iI nu), .int (iI b)] ([(h0, .inr (11, [.int (iI 0), .int (iI 0), .int (iI 0), .int (iI 0), .int (iI 0), .int (iI 0), .null, .int (iI 0)]))] ++ wl) (fun _ : Unit => True) (fun _ : Unit => (none : Option Value)) (fun _ : Unit => (([(h0, .inr (11, [.int (iI b), .int (iI 0), .int (iI 0), .int (iI 0), .int (iI 0), .int (iI 0), .ref nm, .int (iI nu)]))] ++ wl) : va_W)) := by
  refine Ct.of (by decide) rfl ?_
  intro pP eE sS mM below meth cC A ls Q F hE hA hP hD hS hl hQ
  have hl : lv_has ls 4 [(0, .ref h0), (1, .ref nm), (2, .int (iI nu)), (3, .int (iI b))] := hl
  refine lv_aload_n F.1 F.2.1 dX15_init_0 rfl (lv_at hl 0 rfl) ?_
  refine lv_aload_n F.1 F.2.1 dX15_init_1 rfl (lv_at hl 1 rfl) ?_
  refine lv_iload_n F.1 F.2.1 dX15_init_2 rfl (lv_at hl 2 rfl) ?_
  refine lv_iload_n F.1 F.2.1 dX15_init_3 rfl (lv_at hl 3 rfl) ?_
  refine cl_I F (ct_X13_init h0 nm 1 nu b wl) hd_X13_init rfl q896 q850 q132 q851 hE hP hD hS hA (X := [(h0, .inr (11, [.int (iI 0), .int (iI 0), .int (iI 0), .int (iI 0), .int (iI 0), .int (iI 0), .null, .int (iI 0)]))]) (pl := wl) (cx := [(h0, .inr (11, [.int (iI 0), .int (iI 0), .int (iI 0), .int (iI 0), .int (iI 0), .int (iI 0), .null, .int (iI 0)]))]) (wr := []) [0] [] rfl rfl rfl rfl (by decide) rfl rfl rfl (Nat.le_of_ble_eq_true rfl) hl.1 dX15_init_4 ⟨Nat.le_of_ble_eq_true rfl, Nat.le_of_ble_eq_true rfl⟩ ⟨Nat.le_of_ble_eq_true rfl, Nat.le_of_ble_eq_true rfl⟩ (fun _ H locs _ hP hD hS => ?_)
  have hP : va_P G.1 clG ([(h0, .inr (ciW 1, [.int (iI b), .int (iI 0), .int (iI 0), .int (iI 0), .int (iI 0), .int (iI 0), .ref nm, .int (iI nu)]))] ++ wl) _ := hP
  have hD : va_D A ([(h0, .inr (ciW 1, [.int (iI b), .int (iI 0), .int (iI 0), .int (iI 0), .int (iI 0), .int (iI 0), .ref nm, .int (iI nu)]))] ++ wl) := hD
  refine W.eq (g2 := F0 mM 7 ls []) rfl ?_
  exact rt_v F hQ hS (Nat.le_of_ble_eq_true rfl) (Nat.le_of_ble_eq_true rfl) () rfl trivial hP hD dX15_init_7
set_option maxHeartbeats 1000000 in
theorem ct_X15_kind {G : Gm} {l : Launch} (h0 : Nat) (wl : va_W) : Ct G l yX15_kind (ws_ yX15_kind cX15_kind 1 (some .int)) ({ frames := 0, cells := 0, slots := 0, locals := 0 } : Room) [.ref h0] ([] ++ wl) (fun _ : Unit => True) (fun _ : Unit => ((some (.int (iI 1))) : Option Value)) (fun _ : Unit => (([] ++ wl) : va_W)) := by
  refine Ct.of (by decide) rfl ?_
  intro pP eE sS mM below meth cC A ls Q F hE hA hP hD hS hl hQ
  have hl : lv_has ls 1 [(0, .ref h0)] := hl
  refine lv_iconst (v := iI 1) F.1 F.2.1 dX15_kind_0 rfl ?_
  exact rt_i F hQ hS (Nat.le_of_ble_eq_true rfl) (Nat.le_of_ble_eq_true rfl) () rfl trivial hP hD dX15_kind_1
set_option maxHeartbeats 1000000 in
/-- RainWalk$Coated -/
theorem ct_X16_init {G : Gm} {l : Launch} (h0 : Nat) (nm : Nat) (nu : Int) (b : Int) (wl : va_W) : Ct G l yX16_init (ws_ yX16_init cX16_init 4 none) ({ frames := 3, cells := 0, slots := 0, locals := 57 } : Room) [.ref h0, .ref nm, .int (iI nu), .int (iI b)] ([(h0, .inr (12, [.int (iI 0), .int (iI 0), .int (iI 0), .int (iI 0), .int (iI 0), .int (iI 0), .null, .int (iI 0)]))] ++ wl) (fun _ : Unit => True) (fun _ : Unit => (none : Option Value)) (fun _ : Unit => (([(h0, .inr (12, [.int (iI b), .int (iI 0), .int (iI 0), .int (iI 0), .int (iI 0), .int (iI 0), .ref nm, .int (iI nu)]))] ++ wl) : va_W)) := by
  refine Ct.of (by decide) rfl ?_
  intro pP eE sS mM below meth cC A ls Q F hE hA hP hD hS hl hQ
  have hl : lv_has ls 4 [(0, .ref h0), (1, .ref nm), (2, .int (iI nu)), (3, .int (iI b))] := hl
  refine lv_aload_n F.1 F.2.1 dX16_init_0 rfl (lv_at hl 0 rfl) ?_
  refine lv_aload_n F.1 F.2.1 dX16_init_1 rfl (lv_at hl 1 rfl) ?_
  refine lv_iload_n F.1 F.2.1 dX16_init_2 rfl (lv_at hl 2 rfl) ?_
  refine lv_iload_n F.1 F.2.1 dX16_init_3 rfl (lv_at hl 3 rfl) ?_
  refine cl_I F (ct_X13_init h0 nm 2 nu b wl) hd_X13_init rfl q912 q850 q132 q851 hE hP hD hS hA (X := [(h0, .inr (12, [.int (iI 0), .int (iI 0), .int (iI 0), .int (iI 0), .int (iI 0), .int (iI 0), .null, .int (iI 0)]))]) (pl := wl) (cx := [(h0, .inr (12, [.int (iI 0), .int (iI 0), .int (iI 0), .int (iI 0), .int (iI 0), .int (iI 0), .null, .int (iI 0)]))]) (wr := []) [0] [] rfl rfl rfl rfl (by decide) rfl rfl rfl (Nat.le_of_ble_eq_true rfl) hl.1 dX16_init_4 ⟨Nat.le_of_ble_eq_true rfl, Nat.le_of_ble_eq_true rfl⟩ ⟨Nat.le_of_ble_eq_true rfl, Nat.le_of_ble_eq_true rfl⟩ (fun _ H locs _ hP hD hS => ?_)
  have hP : va_P G.1 clG ([(h0, .inr (ciW 2, [.int (iI b), .int (iI 0), .int (iI 0), .int (iI 0), .int (iI 0), .int (iI 0), .ref nm, .int (iI nu)]))] ++ wl) _ := hP
  have hD : va_D A ([(h0, .inr (ciW 2, [.int (iI b), .int (iI 0), .int (iI 0), .int (iI 0), .int (iI 0), .int (iI 0), .ref nm, .int (iI nu)]))] ++ wl) := hD
  refine W.eq (g2 := F0 mM 7 ls []) rfl ?_
  exact rt_v F hQ hS (Nat.le_of_ble_eq_true rfl) (Nat.le_of_ble_eq_true rfl) () rfl trivial hP hD dX16_init_7
set_option maxHeartbeats 1000000 in
theorem ct_X16_kind {G : Gm} {l : Launch} (h0 : Nat) (wl : va_W) : Ct G l yX16_kind (ws_ yX16_kind cX16_kind 1 (some .int)) ({ frames := 0, cells := 0, slots := 0, locals := 0 } : Room) [.ref h0] ([] ++ wl) (fun _ : Unit => True) (fun _ : Unit => ((some (.int (iI 2))) : Option Value)) (fun _ : Unit => (([] ++ wl) : va_W)) := by
  refine Ct.of (by decide) rfl ?_
  intro pP eE sS mM below meth cC A ls Q F hE hA hP hD hS hl hQ
  have hl : lv_has ls 1 [(0, .ref h0)] := hl
  refine lv_iconst (v := iI 2) F.1 F.2.1 dX16_kind_0 rfl ?_
  exact rt_i F hQ hS (Nat.le_of_ble_eq_true rfl) (Nat.le_of_ble_eq_true rfl) () rfl trivial hP hD dX16_kind_1
set_option maxHeartbeats 1000000 in
/-- RainWalk$Shielded -/
theorem ct_X17_init {G : Gm} {l : Launch} (h0 : Nat) (nm : Nat) (nu : Int) (b : Int) (wl : va_W) : Ct G l yX17_init (ws_ yX17_init cX17_init 4 none) ({ frames := 3, cells := 0, slots := 0, locals := 57 } : Room) [.ref h0, .ref nm, .int (iI nu), .int (iI b)] ([(h0, .inr (13, [.int (iI 0), .int (iI 0), .int (iI 0), .int (iI 0), .int (iI 0), .int (iI 0), .null, .int (iI 0)]))] ++ wl) (fun _ : Unit => True) (fun _ : Unit => (none : Option Value)) (fun _ : Unit => (([(h0, .inr (13, [.int (iI b), .int (iI 0), .int (iI 0), .int (iI 0), .int (iI 0), .int (iI 0), .ref nm, .int (iI nu)]))] ++ wl) : va_W)) := by
  refine Ct.of (by decide) rfl ?_
  intro pP eE sS mM below meth cC A ls Q F hE hA hP hD hS hl hQ
  have hl : lv_has ls 4 [(0, .ref h0), (1, .ref nm), (2, .int (iI nu)), (3, .int (iI b))] := hl
  refine lv_aload_n F.1 F.2.1 dX17_init_0 rfl (lv_at hl 0 rfl) ?_
  refine lv_aload_n F.1 F.2.1 dX17_init_1 rfl (lv_at hl 1 rfl) ?_
  refine lv_iload_n F.1 F.2.1 dX17_init_2 rfl (lv_at hl 2 rfl) ?_
  refine lv_iload_n F.1 F.2.1 dX17_init_3 rfl (lv_at hl 3 rfl) ?_
  refine cl_I F (ct_X13_init h0 nm 3 nu b wl) hd_X13_init rfl q928 q850 q132 q851 hE hP hD hS hA (X := [(h0, .inr (13, [.int (iI 0), .int (iI 0), .int (iI 0), .int (iI 0), .int (iI 0), .int (iI 0), .null, .int (iI 0)]))]) (pl := wl) (cx := [(h0, .inr (13, [.int (iI 0), .int (iI 0), .int (iI 0), .int (iI 0), .int (iI 0), .int (iI 0), .null, .int (iI 0)]))]) (wr := []) [0] [] rfl rfl rfl rfl (by decide) rfl rfl rfl (Nat.le_of_ble_eq_true rfl) hl.1 dX17_init_4 ⟨Nat.le_of_ble_eq_true rfl, Nat.le_of_ble_eq_true rfl⟩ ⟨Nat.le_of_ble_eq_true rfl, Nat.le_of_ble_eq_true rfl⟩ (fun _ H locs _ hP hD hS => ?_)
  have hP : va_P G.1 clG ([(h0, .inr (ciW 3, [.int (iI b), .int (iI 0), .int (iI 0), .int (iI 0), .int (iI 0), .int (iI 0), .ref nm, .int (iI nu)]))] ++ wl) _ := hP
  have hD : va_D A ([(h0, .inr (ciW 3, [.int (iI b), .int (iI 0), .int (iI 0), .int (iI 0), .int (iI 0), .int (iI 0), .ref nm, .int (iI nu)]))] ++ wl) := hD
  refine W.eq (g2 := F0 mM 7 ls []) rfl ?_
  exact rt_v F hQ hS (Nat.le_of_ble_eq_true rfl) (Nat.le_of_ble_eq_true rfl) () rfl trivial hP hD dX17_init_7
set_option maxHeartbeats 1000000 in
theorem ct_X17_kind {G : Gm} {l : Launch} (h0 : Nat) (wl : va_W) : Ct G l yX17_kind (ws_ yX17_kind cX17_kind 1 (some .int)) ({ frames := 0, cells := 0, slots := 0, locals := 0 } : Room) [.ref h0] ([] ++ wl) (fun _ : Unit => True) (fun _ : Unit => ((some (.int (iI 3))) : Option Value)) (fun _ : Unit => (([] ++ wl) : va_W)) := by
  refine Ct.of (by decide) rfl ?_
  intro pP eE sS mM below meth cC A ls Q F hE hA hP hD hS hl hQ
  have hl : lv_has ls 1 [(0, .ref h0)] := hl
  refine lv_iconst (v := iI 3) F.1 F.2.1 dX17_kind_0 rfl ?_
  exact rt_i F hQ hS (Nat.le_of_ble_eq_true rfl) (Nat.le_of_ble_eq_true rfl) () rfl trivial hP hD dX17_kind_1
set_option maxHeartbeats 1000000 in
theorem ct_X13_bent {G : Gm} {l : Launch} (h0 : Nat) (wl : va_W) : Ct G l yX13_bent (ws_ yX13_bent cX13_bent 1 (some .int)) ({ frames := 0, cells := 0, slots := 0, locals := 0 } : Room) [.ref h0] ([] ++ wl) (fun _ : Unit => True) (fun _ : Unit => ((some (.int (iI 0))) : Option Value)) (fun _ : Unit => (([] ++ wl) : va_W)) := by
  refine Ct.of (by decide) rfl ?_
  intro pP eE sS mM below meth cC A ls Q F hE hA hP hD hS hl hQ
  have hl : lv_has ls 1 [(0, .ref h0)] := hl
  refine lv_iconst (v := iI 0) F.1 F.2.1 dX13_bent_0 rfl ?_
  exact rt_i F hQ hS (Nat.le_of_ble_eq_true rfl) (Nat.le_of_ble_eq_true rfl) () rfl trivial hP hD dX13_bent_1
set_option maxHeartbeats 1000000 in
theorem ct_X13_holds {G : Gm} {l : Launch} (h0 : Nat) (wl : va_W) : Ct G l yX13_holds (ws_ yX13_holds cX13_holds 1 (some .int)) ({ frames := 0, cells := 0, slots := 0, locals := 0 } : Room) [.ref h0] ([] ++ wl) (fun _ : Unit => True) (fun _ : Unit => ((some (.int (iI (-1)))) : Option Value)) (fun _ : Unit => (([] ++ wl) : va_W)) := by
  refine Ct.of (by decide) rfl ?_
  intro pP eE sS mM below meth cC A ls Q F hE hA hP hD hS hl hQ
  have hl : lv_has ls 1 [(0, .ref h0)] := hl
  refine lv_iconst (v := iI (-1)) F.1 F.2.1 dX13_holds_0 rfl ?_
  exact rt_i F hQ hS (Nat.le_of_ble_eq_true rfl) (Nat.le_of_ble_eq_true rfl) () rfl trivial hP hD dX13_holds_1
set_option maxHeartbeats 1000000 in
theorem ct_X13_shield {G : Gm} {l : Launch} (h0 : Nat) (wl : va_W) : Ct G l yX13_shield (ws_ yX13_shield cX13_shield 1 (some .int)) ({ frames := 0, cells := 0, slots := 0, locals := 0 } : Room) [.ref h0] ([] ++ wl) (fun _ : Unit => True) (fun _ : Unit => ((some (.int (iI 0))) : Option Value)) (fun _ : Unit => (([] ++ wl) : va_W)) := by
  refine Ct.of (by decide) rfl ?_
  intro pP eE sS mM below meth cC A ls Q F hE hA hP hD hS hl hQ
  have hl : lv_has ls 1 [(0, .ref h0)] := hl
  refine lv_iconst (v := iI 0) F.1 F.2.1 dX13_shield_0 rfl ?_
  exact rt_i F hQ hS (Nat.le_of_ble_eq_true rfl) (Nat.le_of_ble_eq_true rfl) () rfl trivial hP hD dX13_shield_1
set_option maxHeartbeats 1000000 in
theorem ct_X15_bent {G : Gm} {l : Launch} (h0 : Nat) (by_ : Int) (br : Int) (dp : Int) (hg : Int) (sl : Int) (fa : Int) (nu : Int) (nm : Nat) (wl : va_W) (hm : (h0, .inr (11, [.int (iI by_), .int (iI br), .int (iI dp), .int (iI hg), .int (iI sl), .int (iI fa), .ref nm, .int (iI nu)])) ∈ wl) : Ct G l yX15_bent (ws_ yX15_bent cX15_bent 1 (some .int)) ({ frames := 0, cells := 0, slots := 0, locals := 0 } : Room) [.ref h0] ([] ++ wl) (fun _ : Unit => True) (fun _ : Unit => ((some (.int (iI by_))) : Option Value)) (fun _ : Unit => (([] ++ wl) : va_W)) := by
  refine Ct.of (by decide) rfl ?_
  intro pP eE sS mM below meth cC A ls Q F hE hA hP hD hS hl hQ
  have hl : lv_has ls 1 [(0, .ref h0)] := hl
  refine lv_aload_n F.1 F.2.1 dX15_bent_0 rfl (lv_at hl 0 rfl) ?_
  obtain ⟨k_1, hk_2⟩ := mem_at (X := []) hm
  refine r_get F (ci := 11) (v := .int (iI by_)) b_X15 hE hP k_1 hk_2 0 (by decide) q854 (fun x9 h9 => u_same (F.2.2.2.2.1 _ q855) x9 h9) rfl dX15_bent_1 ?_
  exact rt_i F hQ hS (Nat.le_of_ble_eq_true rfl) (Nat.le_of_ble_eq_true rfl) () rfl trivial hP hD dX15_bent_4
set_option maxHeartbeats 1000000 in
theorem ct_X16_holds {G : Gm} {l : Launch} (h0 : Nat) (by_ : Int) (br : Int) (dp : Int) (hg : Int) (sl : Int) (fa : Int) (nu : Int) (nm : Nat) (wl : va_W) (hm : (h0, .inr (12, [.int (iI by_), .int (iI br), .int (iI dp), .int (iI hg), .int (iI sl), .int (iI fa), .ref nm, .int (iI nu)])) ∈ wl) : Ct G l yX16_holds (ws_ yX16_holds cX16_holds 1 (some .int)) ({ frames := 0, cells := 0, slots := 0, locals := 0 } : Room) [.ref h0] ([] ++ wl) (fun _ : Unit => True) (fun _ : Unit => ((some (.int (iI by_))) : Option Value)) (fun _ : Unit => (([] ++ wl) : va_W)) := by
  refine Ct.of (by decide) rfl ?_
  intro pP eE sS mM below meth cC A ls Q F hE hA hP hD hS hl hQ
  have hl : lv_has ls 1 [(0, .ref h0)] := hl
  refine lv_aload_n F.1 F.2.1 dX16_holds_0 rfl (lv_at hl 0 rfl) ?_
  obtain ⟨k_1, hk_2⟩ := mem_at (X := []) hm
  refine r_get F (ci := 12) (v := .int (iI by_)) b_X16 hE hP k_1 hk_2 0 (by decide) q858 (fun x9 h9 => u_same (F.2.2.2.2.1 _ q859) x9 h9) rfl dX16_holds_1 ?_
  exact rt_i F hQ hS (Nat.le_of_ble_eq_true rfl) (Nat.le_of_ble_eq_true rfl) () rfl trivial hP hD dX16_holds_4
set_option maxHeartbeats 1000000 in
theorem ct_X17_shield {G : Gm} {l : Launch} (h0 : Nat) (by_ : Int) (br : Int) (dp : Int) (hg : Int) (sl : Int) (fa : Int) (nu : Int) (nm : Nat) (wl : va_W) (hm : (h0, .inr (13, [.int (iI by_), .int (iI br), .int (iI dp), .int (iI hg), .int (iI sl), .int (iI fa), .ref nm, .int (iI nu)])) ∈ wl) : Ct G l yX17_shield (ws_ yX17_shield cX17_shield 1 (some .int)) ({ frames := 0, cells := 0, slots := 0, locals := 0 } : Room) [.ref h0] ([] ++ wl) (fun _ : Unit => True) (fun _ : Unit => ((some (.int (iI by_))) : Option Value)) (fun _ : Unit => (([] ++ wl) : va_W)) := by
  refine Ct.of (by decide) rfl ?_
  intro pP eE sS mM below meth cC A ls Q F hE hA hP hD hS hl hQ
  have hl : lv_has ls 1 [(0, .ref h0)] := hl
  refine lv_aload_n F.1 F.2.1 dX17_shield_0 rfl (lv_at hl 0 rfl) ?_
  obtain ⟨k_1, hk_2⟩ := mem_at (X := []) hm
  refine r_get F (ci := 13) (v := .int (iI by_)) b_X17 hE hP k_1 hk_2 0 (by decide) q856 (fun x9 h9 => u_same (F.2.2.2.2.1 _ q857) x9 h9) rfl dX17_shield_1 ?_
  exact rt_i F hQ hS (Nat.le_of_ble_eq_true rfl) (Nat.le_of_ble_eq_true rfl) () rfl trivial hP hD dX17_shield_4
section FV
variable {p : Program} {l : Launch} {e : Env} {R : Room} {s : State} {m : MethodId} {args : Array Value} {below : List Frame} {meth : Method} {c : Code} {H : Heap} {locs : List Loc} {cells slots : Nat} {Q : State → Prop}
variable {cc : ByteArray} {nL : Nat} {own nn : String} {ret : Option FieldType} {G : Gm} {A : Nat → Prop} {pc : Nat} {ls : Array Slot} {rest st0 : List Value}
theorem cwOD {own C owner : String} {index maxL : Nat} {x y : MethodName} {bytes : ByteArray} {ret : Option FieldType} {rm : Room} (n : Nat) (ht : ∀ w ∈ lw_all, w.before args s = true) (q1 : Cond.methodLink own index x ∈ lw_all) (qs : Cond.sameMethod x.cls owner x.name x.desc ∈ lw_all) (q3 : Cond.selects C x y ∈ lw_all) (q2 : Cond.instanceMethod y ∈ lw_all) (q4 : Cond.initialized y.cls ∈ lw_all) (q5 : Cond.code y bytes maxL ret ∈ lw_all) (hz : va_Nw (.declares ⟨owner, x.name, x.desc⟩) s)
    (hd : owner ≠ "java/lang/invoke/MethodHandle" ∧ owner ≠ "java/lang/invoke/VarHandle" ∧ (parseMethodDescriptor x.desc).map (fun d => d.parameters.length) = some n) (hR : rm.frames + 1 ≤ R.frames ∧ 8 + (maxL + 11) + rm.locals ≤ R.locals) : va_CU R s args own C owner index x y bytes maxL ret (ws_ y bytes maxL ret) rm rm.cells rm.slots n := by
  refine ⟨⟨rfl, rfl, hR.1, hR.2, pay_in ht (lw_meth q5), List.mem_cons_self⟩, ht _ q5, ht _ q4, ⟨hd.1, hd.2.1⟩, fun sig h => ?_, ht _ q1, ht _ qs, va_Decl.abs hz, ht _ q3, ht _ q2⟩
  have h2 := hd.2.2
  rw [h] at h2
  exact (Option.some.inj h2).symm
theorem cl_vbent (F : Fx p s m meth c args cc nL own ret nn) {index b q0 nm : Nat} (kd : Nat) {z f1 f2 f3 f4 f5 f7 : Int} {ws : va_W} (q1 : Cond.methodLink own index yX13_bent ∈ lw_all) (hE : Ev G A s) (hP : va_P G.1 clG ws H) (hD : va_D A ws) (hS : va_S A s.heap H locs) (hA : ∀ q : Nat, s.heap.size ≤ q → A q) (he : ws[q0]? = some (b, .inr (ciW kd, [.int (iI z), .int (iI f1), .int (iI f2), .int (iI f3), .int (iI f4), .int (iI f5), .ref nm, .int (iI f7)]))) (hst : st0 = .ref b :: rest) (hW : (rest.map fun v => v.category).sum ≤ 8) (hsz : ls.size = nL) (hdg : decode cc pc = .ok (.invokevirtual index, 3)) (hR1 : 0 + 1 ≤ R.frames ∧ 8 + (1 + 11) + 0 ≤ R.locals) (hf : cells + 0 ≤ R.cells ∧ slots + 0 ≤ R.slots)
    (kk : ∀ (H : Heap) (locs : List Loc), va_P G.1 clG ws H → va_D A ws → va_S A s.heap H locs → W p l e R s m args below meth c H locs cells slots Q (F0 m (pc + 3) ls (.int (iI (bentK kd z)) :: rest))) : W p l e R s m args below meth c H locs cells slots Q (F0 m pc ls st0) := by
  have hm := List.mem_of_getElem? he
  match kd, he, hm, kk with
  | 0, he, hm, kk => exact cl_CU F (ct_X13_bent b ws) (va_cwU (C := "RainWalk$Plain") (owner := "RainWalk$Walker") (x := yX13_bent) 0 F.2.2.2.2.1 (lw_U q1 q943 q948 q942 q132 q950) rfl rfl rfl rfl hd_X13_bent hR1) (va_recv hE.1 hP (ci := 10) (q0 := q0) rfl he) hE hP hD hS hA (X := []) (pl := ws) (cx := []) (wr := []) [] [] rfl rfl rfl rfl (by decide) rfl rfl hst hW hsz hdg ⟨trivial, trivial⟩ hf (fun _ H locs _ hP hD hS => kk H locs hP hD hS)
  | 1, he, hm, kk => exact cl_CU F (ct_X15_bent b z f1 f2 f3 f4 f5 f7 nm ws hm) (va_cwO (C := "RainWalk$Bent") (owner := "RainWalk$Walker") (x := yX13_bent) (y := yX15_bent) 0 F.2.2.2.2.1 (lw_O q1 q943 q942 q944 q945 q134 q946) rfl rfl rfl q950 hd_X13_bent hR1) (va_recv hE.1 hP (ci := 11) (q0 := q0) rfl he) hE hP hD hS hA (X := []) (pl := ws) (cx := []) (wr := []) [] [] rfl rfl rfl rfl (by decide) rfl rfl hst hW hsz hdg ⟨trivial, trivial⟩ hf (fun _ H locs _ hP hD hS => kk H locs hP hD hS)
  | 2, he, hm, kk => exact cl_CU F (ct_X13_bent b ws) (va_cwU (C := "RainWalk$Coated") (owner := "RainWalk$Walker") (x := yX13_bent) 0 F.2.2.2.2.1 (lw_U q1 q943 q947 q942 q132 q950) rfl rfl rfl rfl hd_X13_bent hR1) (va_recv hE.1 hP (ci := 12) (q0 := q0) rfl he) hE hP hD hS hA (X := []) (pl := ws) (cx := []) (wr := []) [] [] rfl rfl rfl rfl (by decide) rfl rfl hst hW hsz hdg ⟨trivial, trivial⟩ hf (fun _ H locs _ hP hD hS => kk H locs hP hD hS)
  | n + 3, he, hm, kk => exact cl_CU F (ct_X13_bent b ws) (va_cwU (C := "RainWalk$Shielded") (owner := "RainWalk$Walker") (x := yX13_bent) 0 F.2.2.2.2.1 (lw_U q1 q943 q949 q942 q132 q950) rfl rfl rfl rfl hd_X13_bent hR1) (va_recv hE.1 hP (ci := 13) (q0 := q0) rfl he) hE hP hD hS hA (X := []) (pl := ws) (cx := []) (wr := []) [] [] rfl rfl rfl rfl (by decide) rfl rfl hst hW hsz hdg ⟨trivial, trivial⟩ hf (fun _ H locs _ hP hD hS => kk H locs hP hD hS)
theorem cl_vholds (F : Fx p s m meth c args cc nL own ret nn) {index b q0 nm : Nat} (kd : Nat) {z f1 f2 f3 f4 f5 f7 : Int} {ws : va_W} (q1 : Cond.methodLink own index yX13_holds ∈ lw_all) (hE : Ev G A s) (hP : va_P G.1 clG ws H) (hD : va_D A ws) (hS : va_S A s.heap H locs) (hA : ∀ q : Nat, s.heap.size ≤ q → A q) (he : ws[q0]? = some (b, .inr (ciW kd, [.int (iI z), .int (iI f1), .int (iI f2), .int (iI f3), .int (iI f4), .int (iI f5), .ref nm, .int (iI f7)]))) (hst : st0 = .ref b :: rest) (hW : (rest.map fun v => v.category).sum ≤ 8) (hsz : ls.size = nL) (hdg : decode cc pc = .ok (.invokevirtual index, 3)) (hR1 : 0 + 1 ≤ R.frames ∧ 8 + (1 + 11) + 0 ≤ R.locals) (hf : cells + 0 ≤ R.cells ∧ slots + 0 ≤ R.slots)
    (kk : ∀ (H : Heap) (locs : List Loc), va_P G.1 clG ws H → va_D A ws → va_S A s.heap H locs → W p l e R s m args below meth c H locs cells slots Q (F0 m (pc + 3) ls (.int (iI (holdsK kd z)) :: rest))) : W p l e R s m args below meth c H locs cells slots Q (F0 m pc ls st0) := by
  have hm := List.mem_of_getElem? he
  match kd, he, hm, kk with
  | 0, he, hm, kk => exact cl_CU F (ct_X13_holds b ws) (va_cwU (C := "RainWalk$Plain") (owner := "RainWalk$Walker") (x := yX13_holds) 0 F.2.2.2.2.1 (lw_U q1 q1385 q1390 q1384 q132 q1392) rfl rfl rfl rfl hd_X13_holds hR1) (va_recv hE.1 hP (ci := 10) (q0 := q0) rfl he) hE hP hD hS hA (X := []) (pl := ws) (cx := []) (wr := []) [] [] rfl rfl rfl rfl (by decide) rfl rfl hst hW hsz hdg ⟨trivial, trivial⟩ hf (fun _ H locs _ hP hD hS => kk H locs hP hD hS)
  | 1, he, hm, kk => exact cl_CU F (ct_X13_holds b ws) (va_cwU (C := "RainWalk$Bent") (owner := "RainWalk$Walker") (x := yX13_holds) 0 F.2.2.2.2.1 (lw_U q1 q1385 q1386 q1384 q132 q1392) rfl rfl rfl rfl hd_X13_holds hR1) (va_recv hE.1 hP (ci := 11) (q0 := q0) rfl he) hE hP hD hS hA (X := []) (pl := ws) (cx := []) (wr := []) [] [] rfl rfl rfl rfl (by decide) rfl rfl hst hW hsz hdg ⟨trivial, trivial⟩ hf (fun _ H locs _ hP hD hS => kk H locs hP hD hS)
  | 2, he, hm, kk => exact cl_CU F (ct_X16_holds b z f1 f2 f3 f4 f5 f7 nm ws hm) (va_cwO (C := "RainWalk$Coated") (owner := "RainWalk$Walker") (x := yX13_holds) (y := yX16_holds) 0 F.2.2.2.2.1 (lw_O q1 q1385 q1384 q1387 q1388 q135 q1389) rfl rfl rfl q1392 hd_X13_holds hR1) (va_recv hE.1 hP (ci := 12) (q0 := q0) rfl he) hE hP hD hS hA (X := []) (pl := ws) (cx := []) (wr := []) [] [] rfl rfl rfl rfl (by decide) rfl rfl hst hW hsz hdg ⟨trivial, trivial⟩ hf (fun _ H locs _ hP hD hS => kk H locs hP hD hS)
  | n + 3, he, hm, kk => exact cl_CU F (ct_X13_holds b ws) (va_cwU (C := "RainWalk$Shielded") (owner := "RainWalk$Walker") (x := yX13_holds) 0 F.2.2.2.2.1 (lw_U q1 q1385 q1391 q1384 q132 q1392) rfl rfl rfl rfl hd_X13_holds hR1) (va_recv hE.1 hP (ci := 13) (q0 := q0) rfl he) hE hP hD hS hA (X := []) (pl := ws) (cx := []) (wr := []) [] [] rfl rfl rfl rfl (by decide) rfl rfl hst hW hsz hdg ⟨trivial, trivial⟩ hf (fun _ H locs _ hP hD hS => kk H locs hP hD hS)
theorem cl_vshield (F : Fx p s m meth c args cc nL own ret nn) {index b q0 nm : Nat} (kd : Nat) {z f1 f2 f3 f4 f5 f7 : Int} {ws : va_W} (q1 : Cond.methodLink own index yX13_shield ∈ lw_all) (hE : Ev G A s) (hP : va_P G.1 clG ws H) (hD : va_D A ws) (hS : va_S A s.heap H locs) (hA : ∀ q : Nat, s.heap.size ≤ q → A q) (he : ws[q0]? = some (b, .inr (ciW kd, [.int (iI z), .int (iI f1), .int (iI f2), .int (iI f3), .int (iI f4), .int (iI f5), .ref nm, .int (iI f7)]))) (hst : st0 = .ref b :: rest) (hW : (rest.map fun v => v.category).sum ≤ 8) (hsz : ls.size = nL) (hdg : decode cc pc = .ok (.invokevirtual index, 3)) (hR1 : 0 + 1 ≤ R.frames ∧ 8 + (1 + 11) + 0 ≤ R.locals) (hf : cells + 0 ≤ R.cells ∧ slots + 0 ≤ R.slots)
    (kk : ∀ (H : Heap) (locs : List Loc), va_P G.1 clG ws H → va_D A ws → va_S A s.heap H locs → W p l e R s m args below meth c H locs cells slots Q (F0 m (pc + 3) ls (.int (iI (shieldK kd z)) :: rest))) : W p l e R s m args below meth c H locs cells slots Q (F0 m pc ls st0) := by
  have hm := List.mem_of_getElem? he
  match kd, he, hm, kk with
  | 0, he, hm, kk => exact cl_CU F (ct_X13_shield b ws) (va_cwU (C := "RainWalk$Plain") (owner := "RainWalk$Walker") (x := yX13_shield) 0 F.2.2.2.2.1 (lw_U q1 q1051 q1054 q1050 q132 q1058) rfl rfl rfl rfl hd_X13_shield hR1) (va_recv hE.1 hP (ci := 10) (q0 := q0) rfl he) hE hP hD hS hA (X := []) (pl := ws) (cx := []) (wr := []) [] [] rfl rfl rfl rfl (by decide) rfl rfl hst hW hsz hdg ⟨trivial, trivial⟩ hf (fun _ H locs _ hP hD hS => kk H locs hP hD hS)
  | 1, he, hm, kk => exact cl_CU F (ct_X13_shield b ws) (va_cwU (C := "RainWalk$Bent") (owner := "RainWalk$Walker") (x := yX13_shield) 0 F.2.2.2.2.1 (lw_U q1 q1051 q1052 q1050 q132 q1058) rfl rfl rfl rfl hd_X13_shield hR1) (va_recv hE.1 hP (ci := 11) (q0 := q0) rfl he) hE hP hD hS hA (X := []) (pl := ws) (cx := []) (wr := []) [] [] rfl rfl rfl rfl (by decide) rfl rfl hst hW hsz hdg ⟨trivial, trivial⟩ hf (fun _ H locs _ hP hD hS => kk H locs hP hD hS)
  | 2, he, hm, kk => exact cl_CU F (ct_X13_shield b ws) (va_cwU (C := "RainWalk$Coated") (owner := "RainWalk$Walker") (x := yX13_shield) 0 F.2.2.2.2.1 (lw_U q1 q1051 q1053 q1050 q132 q1058) rfl rfl rfl rfl hd_X13_shield hR1) (va_recv hE.1 hP (ci := 12) (q0 := q0) rfl he) hE hP hD hS hA (X := []) (pl := ws) (cx := []) (wr := []) [] [] rfl rfl rfl rfl (by decide) rfl rfl hst hW hsz hdg ⟨trivial, trivial⟩ hf (fun _ H locs _ hP hD hS => kk H locs hP hD hS)
  | n + 3, he, hm, kk => exact cl_CU F (ct_X17_shield b z f1 f2 f3 f4 f5 f7 nm ws hm) (va_cwO (C := "RainWalk$Shielded") (owner := "RainWalk$Walker") (x := yX13_shield) (y := yX17_shield) 0 F.2.2.2.2.1 (lw_O q1 q1051 q1050 q1055 q1056 q136 q1057) rfl rfl rfl q1058 hd_X13_shield hR1) (va_recv hE.1 hP (ci := 13) (q0 := q0) rfl he) hE hP hD hS hA (X := []) (pl := ws) (cx := []) (wr := []) [] [] rfl rfl rfl rfl (by decide) rfl rfl hst hW hsz hdg ⟨trivial, trivial⟩ hf (fun _ H locs _ hP hD hS => kk H locs hP hD hS)
theorem cl_vkind (F : Fx p s m meth c args cc nL own ret nn) {index b q0 nm : Nat} (kd : Nat) {z f1 f2 f3 f4 f5 f7 : Int} {ws : va_W} (q1 : Cond.methodLink own index ⟨"RainWalk$Walker", "kind", "()I"⟩ ∈ lw_all) (hE : Ev G A s) (hP : va_P G.1 clG ws H) (hD : va_D A ws) (hS : va_S A s.heap H locs) (hA : ∀ q : Nat, s.heap.size ≤ q → A q) (he : ws[q0]? = some (b, .inr (ciW kd, [.int (iI z), .int (iI f1), .int (iI f2), .int (iI f3), .int (iI f4), .int (iI f5), .ref nm, .int (iI f7)]))) (hst : st0 = .ref b :: rest) (hW : (rest.map fun v => v.category).sum ≤ 8) (hsz : ls.size = nL) (hdg : decode cc pc = .ok (.invokevirtual index, 3)) (hR1 : 0 + 1 ≤ R.frames ∧ 8 + (1 + 11) + 0 ≤ R.locals) (hf : cells + 0 ≤ R.cells ∧ slots + 0 ≤ R.slots)
    (kk : ∀ (H : Heap) (locs : List Loc), va_P G.1 clG ws H → va_D A ws → va_S A s.heap H locs → W p l e R s m args below meth c H locs cells slots Q (F0 m (pc + 3) ls (.int (iI (kindK kd)) :: rest))) : W p l e R s m args below meth c H locs cells slots Q (F0 m pc ls st0) := by
  have hm := List.mem_of_getElem? he
  match kd, he, hm, kk with
  | 0, he, hm, kk => exact cl_CU F (ct_X14_kind b ws) (cwOD (C := "RainWalk$Plain") (owner := "RainWalk$Walker") (x := (⟨"RainWalk$Walker", "kind", "()I"⟩ : MethodName)) (y := yX14_kind) 0 F.2.2.2.2.1 q1 q1423 q1430 q1431 q133 q1432 (hE.2.1.1 _ q1422 rfl) ⟨by decide +kernel, by decide +kernel, by decide +kernel⟩ hR1) (va_recv hE.1 hP (ci := 10) (q0 := q0) rfl he) hE hP hD hS hA (X := []) (pl := ws) (cx := []) (wr := []) [] [] rfl rfl rfl rfl (by decide) rfl rfl hst hW hsz hdg ⟨trivial, trivial⟩ hf (fun _ H locs _ hP hD hS => kk H locs hP hD hS)
  | 1, he, hm, kk => exact cl_CU F (ct_X15_kind b ws) (cwOD (C := "RainWalk$Bent") (owner := "RainWalk$Walker") (x := (⟨"RainWalk$Walker", "kind", "()I"⟩ : MethodName)) (y := yX15_kind) 0 F.2.2.2.2.1 q1 q1423 q1424 q1425 q134 q1426 (hE.2.1.1 _ q1422 rfl) ⟨by decide +kernel, by decide +kernel, by decide +kernel⟩ hR1) (va_recv hE.1 hP (ci := 11) (q0 := q0) rfl he) hE hP hD hS hA (X := []) (pl := ws) (cx := []) (wr := []) [] [] rfl rfl rfl rfl (by decide) rfl rfl hst hW hsz hdg ⟨trivial, trivial⟩ hf (fun _ H locs _ hP hD hS => kk H locs hP hD hS)
  | 2, he, hm, kk => exact cl_CU F (ct_X16_kind b ws) (cwOD (C := "RainWalk$Coated") (owner := "RainWalk$Walker") (x := (⟨"RainWalk$Walker", "kind", "()I"⟩ : MethodName)) (y := yX16_kind) 0 F.2.2.2.2.1 q1 q1423 q1427 q1428 q135 q1429 (hE.2.1.1 _ q1422 rfl) ⟨by decide +kernel, by decide +kernel, by decide +kernel⟩ hR1) (va_recv hE.1 hP (ci := 12) (q0 := q0) rfl he) hE hP hD hS hA (X := []) (pl := ws) (cx := []) (wr := []) [] [] rfl rfl rfl rfl (by decide) rfl rfl hst hW hsz hdg ⟨trivial, trivial⟩ hf (fun _ H locs _ hP hD hS => kk H locs hP hD hS)
  | n + 3, he, hm, kk => exact cl_CU F (ct_X17_kind b ws) (cwOD (C := "RainWalk$Shielded") (owner := "RainWalk$Walker") (x := (⟨"RainWalk$Walker", "kind", "()I"⟩ : MethodName)) (y := yX17_kind) 0 F.2.2.2.2.1 q1 q1423 q1433 q1434 q136 q1435 (hE.2.1.1 _ q1422 rfl) ⟨by decide +kernel, by decide +kernel, by decide +kernel⟩ hR1) (va_recv hE.1 hP (ci := 13) (q0 := q0) rfl he) hE hP hD hS hA (X := []) (pl := ws) (cx := []) (wr := []) [] [] rfl rfl rfl rfl (by decide) rfl rfl hst hW hsz hdg ⟨trivial, trivial⟩ hf (fun _ H locs _ hP hD hS => kk H locs hP hD hS)
end FV
set_option maxHeartbeats 1000000 in
theorem ct_X13_top {G : Gm} {l : Launch} (h0 : Nat) (kd : Nat) (by_ : Int) (br : Int) (dp : Int) (hg : Int) (sl : Int) (fa : Int) (nu : Int) (nm : Nat) (wl : va_W) (hm : (h0, .inr (ciW kd, [.int (iI by_), .int (iI br), .int (iI dp), .int (iI hg), .int (iI sl), .int (iI fa), .ref nm, .int (iI nu)])) ∈ wl) : Ct G l yX13_top (ws_ yX13_top cX13_top 1 (some .int)) ({ frames := 1, cells := 0, slots := 0, locals := 20 } : Room) [.ref h0] ([] ++ wl) (fun _ : Unit => True) (fun _ : Unit => ((some (.int (iI (topR kd by_ br dp)))) : Option Value)) (fun _ : Unit => (([] ++ wl) : va_W)) := by
  refine Ct.of (by decide) rfl ?_
  intro pP eE sS mM below meth cC A ls Q F hE hA hP hD hS hl hQ
  have hl : lv_has ls 1 [(0, .ref h0)] := hl
  refine lv_aload_n F.1 F.2.1 dX13_top_0 rfl (lv_at hl 0 rfl) ?_
  obtain ⟨k_1, hk_2⟩ := mem_at (X := []) hm
  refine r_getW F (v := .int (iI br)) hE hP k_1 hk_2 1 (by decide) q861 (fun _ h9 => h9) rfl dX13_top_1 ?_
  refine lv_aload_n F.1 F.2.1 dX13_top_4 rfl (lv_at hl 0 rfl) ?_
  obtain ⟨k_3, hk_4⟩ := mem_at (X := []) hm
  refine r_getW F (v := .int (iI dp)) hE hP k_3 hk_4 2 (by decide) q863 (fun _ h9 => h9) rfl dX13_top_5 ?_
  refine lv_aload_n F.1 F.2.1 dX13_top_8 rfl (lv_at hl 0 rfl) ?_
  obtain ⟨k_5, hk_6⟩ := mem_at (X := []) hm
  refine cl_vbent F (q0 := k_5) kd q1048 hE hP hD hS hA hk_6 rfl (Nat.le_of_ble_eq_true rfl) hl.1 dX13_top_9 ⟨Nat.le_of_ble_eq_true rfl, Nat.le_of_ble_eq_true rfl⟩ ⟨Nat.le_of_ble_eq_true rfl, Nat.le_of_ble_eq_true rfl⟩ (fun H locs hP hD hS => ?_)
  refine W.eq (g2 := F0 mM 12 ls [.int (iI (bentK kd by_)), .int (iI dp), .int (iI br)]) rfl ?_
  refine r_iadd F dX13_top_12 ?_
  refine r_imul F dX13_top_13 ?_
  exact rt_i F hQ hS (Nat.le_of_ble_eq_true rfl) (Nat.le_of_ble_eq_true rfl) () (congrArg (fun z => some (Value.int (iI z))) (show (topR kd by_ br dp) = (br * (dp + (bentK kd by_))) from by first | rfl | omega | (simp; done) | (simp; omega))) trivial hP hD dX13_top_14
set_option maxHeartbeats 1000000 in
theorem ct_X13_front {G : Gm} {l : Launch} (h0 : Nat) (kd : Nat) (by_ : Int) (br : Int) (dp : Int) (hg : Int) (sl : Int) (fa : Int) (nu : Int) (nm : Nat) (wl : va_W) (hm : (h0, .inr (ciW kd, [.int (iI by_), .int (iI br), .int (iI dp), .int (iI hg), .int (iI sl), .int (iI fa), .ref nm, .int (iI nu)])) ∈ wl) : Ct G l yX13_front (ws_ yX13_front cX13_front 1 (some .int)) ({ frames := 1, cells := 0, slots := 0, locals := 20 } : Room) [.ref h0] ([] ++ wl) (fun _ : Unit => True) (fun _ : Unit => ((some (.int (iI (frontR kd by_ br hg)))) : Option Value)) (fun _ : Unit => (([] ++ wl) : va_W)) := by
  refine Ct.of (by decide) rfl ?_
  intro pP eE sS mM below meth cC A ls Q F hE hA hP hD hS hl hQ
  have hl : lv_has ls 1 [(0, .ref h0)] := hl
  refine lv_aload_n F.1 F.2.1 dX13_front_0 rfl (lv_at hl 0 rfl) ?_
  obtain ⟨k_1, hk_2⟩ := mem_at (X := []) hm
  refine r_getW F (v := .int (iI br)) hE hP k_1 hk_2 1 (by decide) q861 (fun _ h9 => h9) rfl dX13_front_1 ?_
  refine lv_aload_n F.1 F.2.1 dX13_front_4 rfl (lv_at hl 0 rfl) ?_
  obtain ⟨k_3, hk_4⟩ := mem_at (X := []) hm
  refine r_getW F (v := .int (iI hg)) hE hP k_3 hk_4 3 (by decide) q865 (fun _ h9 => h9) rfl dX13_front_5 ?_
  refine lv_aload_n F.1 F.2.1 dX13_front_8 rfl (lv_at hl 0 rfl) ?_
  obtain ⟨k_5, hk_6⟩ := mem_at (X := []) hm
  refine cl_vbent F (q0 := k_5) kd q1048 hE hP hD hS hA hk_6 rfl (Nat.le_of_ble_eq_true rfl) hl.1 dX13_front_9 ⟨Nat.le_of_ble_eq_true rfl, Nat.le_of_ble_eq_true rfl⟩ ⟨Nat.le_of_ble_eq_true rfl, Nat.le_of_ble_eq_true rfl⟩ (fun H locs hP hD hS => ?_)
  refine W.eq (g2 := F0 mM 12 ls [.int (iI (bentK kd by_)), .int (iI hg), .int (iI br)]) rfl ?_
  refine r_isub F dX13_front_12 ?_
  refine r_imul F dX13_front_13 ?_
  exact rt_i F hQ hS (Nat.le_of_ble_eq_true rfl) (Nat.le_of_ble_eq_true rfl) () (congrArg (fun z => some (Value.int (iI z))) (show (frontR kd by_ br hg) = (br * (hg - (bentK kd by_))) from by first | rfl | omega | (simp; done) | (simp; omega))) trivial hP hD dX13_front_14
set_option maxHeartbeats 1000000 in
theorem ct_X13_side {G : Gm} {l : Launch} (h0 : Nat) (kd : Nat) (by_ : Int) (br : Int) (dp : Int) (hg : Int) (sl : Int) (fa : Int) (nu : Int) (nm : Nat) (wl : va_W) (hm : (h0, .inr (ciW kd, [.int (iI by_), .int (iI br), .int (iI dp), .int (iI hg), .int (iI sl), .int (iI fa), .ref nm, .int (iI nu)])) ∈ wl) : Ct G l yX13_side (ws_ yX13_side cX13_side 1 (some .int)) ({ frames := 1, cells := 0, slots := 0, locals := 20 } : Room) [.ref h0] ([] ++ wl) (fun _ : Unit => True) (fun _ : Unit => ((some (.int (iI (sideR kd by_ dp hg)))) : Option Value)) (fun _ : Unit => (([] ++ wl) : va_W)) := by
  refine Ct.of (by decide) rfl ?_
  intro pP eE sS mM below meth cC A ls Q F hE hA hP hD hS hl hQ
  have hl : lv_has ls 1 [(0, .ref h0)] := hl
  refine lv_aload_n F.1 F.2.1 dX13_side_0 rfl (lv_at hl 0 rfl) ?_
  obtain ⟨k_1, hk_2⟩ := mem_at (X := []) hm
  refine r_getW F (v := .int (iI dp)) hE hP k_1 hk_2 2 (by decide) q863 (fun _ h9 => h9) rfl dX13_side_1 ?_
  refine lv_aload_n F.1 F.2.1 dX13_side_4 rfl (lv_at hl 0 rfl) ?_
  obtain ⟨k_3, hk_4⟩ := mem_at (X := []) hm
  refine cl_vbent F (q0 := k_3) kd q1048 hE hP hD hS hA hk_4 rfl (Nat.le_of_ble_eq_true rfl) hl.1 dX13_side_5 ⟨Nat.le_of_ble_eq_true rfl, Nat.le_of_ble_eq_true rfl⟩ ⟨Nat.le_of_ble_eq_true rfl, Nat.le_of_ble_eq_true rfl⟩ (fun H locs hP hD hS => ?_)
  refine W.eq (g2 := F0 mM 8 ls [.int (iI (bentK kd by_)), .int (iI dp)]) rfl ?_
  refine r_iadd F dX13_side_8 ?_
  refine lv_aload_n F.1 F.2.1 dX13_side_9 rfl (lv_at hl 0 rfl) ?_
  obtain ⟨k_5, hk_6⟩ := mem_at (X := []) hm
  refine r_getW F (v := .int (iI hg)) hE hP k_5 hk_6 3 (by decide) q865 (fun _ h9 => h9) rfl dX13_side_10 ?_
  refine lv_aload_n F.1 F.2.1 dX13_side_13 rfl (lv_at hl 0 rfl) ?_
  obtain ⟨k_7, hk_8⟩ := mem_at (X := []) hm
  refine cl_vbent F (q0 := k_7) kd q1048 hE hP hD hS hA hk_8 rfl (Nat.le_of_ble_eq_true rfl) hl.1 dX13_side_14 ⟨Nat.le_of_ble_eq_true rfl, Nat.le_of_ble_eq_true rfl⟩ ⟨Nat.le_of_ble_eq_true rfl, Nat.le_of_ble_eq_true rfl⟩ (fun H locs hP hD hS => ?_)
  refine W.eq (g2 := F0 mM 17 ls [.int (iI (bentK kd by_)), .int (iI hg), .int (iI (dp + (bentK kd by_)))]) rfl ?_
  refine r_isub F dX13_side_17 ?_
  refine r_imul F dX13_side_18 ?_
  exact rt_i F hQ hS (Nat.le_of_ble_eq_true rfl) (Nat.le_of_ble_eq_true rfl) () (congrArg (fun z => some (Value.int (iI z))) (show (sideR kd by_ dp hg) = ((dp + (bentK kd by_)) * (hg - (bentK kd by_))) from by first | rfl | omega | (simp; done) | (simp; omega))) trivial hP hD dX13_side_19
theorem hd_X13_top : Hd yX13_top 0 := ⟨by decide +kernel, by decide +kernel, by decide +kernel⟩
set_option maxHeartbeats 1000000 in
theorem ct_X13_topLeft {G : Gm} {l : Launch} (h0 : Nat) (kd : Nat) (by_ : Int) (br : Int) (dp : Int) (hg : Int) (sl : Int) (fa : Int) (nu : Int) (nm : Nat) (wl : va_W) (hk : WkOk kd by_ br dp hg sl fa) (hm : (h0, .inr (ciW kd, [.int (iI by_), .int (iI br), .int (iI dp), .int (iI hg), .int (iI sl), .int (iI fa), .ref nm, .int (iI nu)])) ∈ wl) : Ct G l yX13_topLeft (ws_ yX13_topLeft cX13_topLeft 1 (some .int)) ({ frames := 2, cells := 0, slots := 0, locals := 40 } : Room) [.ref h0] ([] ++ wl) (fun _ : Unit => True) (fun _ : Unit => ((some (.int (iI (topLR kd by_ br dp)))) : Option Value)) (fun _ : Unit => (([] ++ wl) : va_W)) := by
  refine Ct.of (by decide) rfl ?_
  intro pP eE sS mM below meth cC A ls Q F hE hA hP hD hS hl hQ
  have hl : lv_has ls 1 [(0, .ref h0)] := hl
  have t0 := hk.tops
  have b0 := hk.kinds
  refine lv_iconst (v := iI 0) F.1 F.2.1 dX13_topLeft_0 rfl ?_
  refine lv_aload_n F.1 F.2.1 dX13_topLeft_1 rfl (lv_at hl 0 rfl) ?_
  obtain ⟨k_3, hk_4⟩ := mem_at (X := []) hm
  refine cl_U F (C := clsW kd) (ct_X13_top h0 kd by_ br dp hg sl fa nu nm wl hm) hd_X13_top q1040 q1042 q1041 (selW_top kd) q132 q1047 (recvW hE hP (q0 := k_3) hk_4) hE hP hD hS hA (X := []) (pl := wl) (cx := []) (wr := []) [] [] rfl rfl rfl rfl (by decide) rfl rfl rfl (Nat.le_of_ble_eq_true rfl) hl.1 dX13_topLeft_2 ⟨Nat.le_of_ble_eq_true rfl, Nat.le_of_ble_eq_true rfl⟩ ⟨Nat.le_of_ble_eq_true rfl, Nat.le_of_ble_eq_true rfl⟩ (fun _ H locs _ hP hD hS => ?_)
  have hP : va_P G.1 clG ([] ++ wl) _ := hP
  have hD : va_D A ([] ++ wl) := hD
  refine W.eq (g2 := F0 mM 5 ls [.int (iI (topR kd by_ br dp)), .int (iI 0)]) rfl ?_
  refine lv_aload_n F.1 F.2.1 dX13_topLeft_5 rfl (lv_at hl 0 rfl) ?_
  obtain ⟨k_5, hk_6⟩ := mem_at (X := []) hm
  refine cl_vshield F (q0 := k_5) kd q1049 hE hP hD hS hA hk_6 rfl (Nat.le_of_ble_eq_true rfl) hl.1 dX13_topLeft_6 ⟨Nat.le_of_ble_eq_true rfl, Nat.le_of_ble_eq_true rfl⟩ ⟨Nat.le_of_ble_eq_true rfl, Nat.le_of_ble_eq_true rfl⟩ (fun H locs hP hD hS => ?_)
  refine W.eq (g2 := F0 mM 9 ls [.int (iI (shieldK kd by_)), .int (iI (topR kd by_ br dp)), .int (iI 0)]) rfl ?_
  refine r_isub F dX13_topLeft_9 ?_
  refine r_mmaxI F q1059 q1060 q139 q1061 (by decide) (by omega) hl.1 (Nat.le_of_ble_eq_true rfl) (Nat.le_of_ble_eq_true rfl) (Nat.le_of_ble_eq_true rfl) (Nat.le_of_ble_eq_true rfl) dX13_topLeft_10 ?_
  exact rt_i F hQ hS (Nat.le_of_ble_eq_true rfl) (Nat.le_of_ble_eq_true rfl) () (congrArg (fun z => some (Value.int (iI z))) (show (topLR kd by_ br dp) = (max 0 ((topR kd by_ br dp) - (shieldK kd by_))) from by first | rfl | omega | (simp; done) | (simp; omega))) trivial hP hD dX13_topLeft_13
theorem hd_X13_front : Hd yX13_front 0 := ⟨by decide +kernel, by decide +kernel, by decide +kernel⟩
set_option maxHeartbeats 1000000 in
theorem ct_X13_frontLeft {G : Gm} {l : Launch} (h0 : Nat) (kd : Nat) (by_ : Int) (br : Int) (dp : Int) (hg : Int) (sl : Int) (fa : Int) (nu : Int) (nm : Nat) (wl : va_W) (hk : WkOk kd by_ br dp hg sl fa) (hm : (h0, .inr (ciW kd, [.int (iI by_), .int (iI br), .int (iI dp), .int (iI hg), .int (iI sl), .int (iI fa), .ref nm, .int (iI nu)])) ∈ wl) : Ct G l yX13_frontLeft (ws_ yX13_frontLeft cX13_frontLeft 1 (some .int)) ({ frames := 2, cells := 0, slots := 0, locals := 40 } : Room) [.ref h0] ([] ++ wl) (fun _ : Unit => True) (fun _ : Unit => ((some (.int (iI (frontLR kd by_ br hg)))) : Option Value)) (fun _ : Unit => (([] ++ wl) : va_W)) := by
  refine Ct.of (by decide) rfl ?_
  intro pP eE sS mM below meth cC A ls Q F hE hA hP hD hS hl hQ
  have hl : lv_has ls 1 [(0, .ref h0)] := hl
  have t0 := hk.tops
  have b0 := hk.kinds
  refine lv_iconst (v := iI 0) F.1 F.2.1 dX13_frontLeft_0 rfl ?_
  refine lv_aload_n F.1 F.2.1 dX13_frontLeft_1 rfl (lv_at hl 0 rfl) ?_
  obtain ⟨k_3, hk_4⟩ := mem_at (X := []) hm
  refine cl_U F (C := clsW kd) (ct_X13_front h0 kd by_ br dp hg sl fa nu nm wl hm) hd_X13_front q1087 q1068 q1067 (selW_front kd) q132 q1073 (recvW hE hP (q0 := k_3) hk_4) hE hP hD hS hA (X := []) (pl := wl) (cx := []) (wr := []) [] [] rfl rfl rfl rfl (by decide) rfl rfl rfl (Nat.le_of_ble_eq_true rfl) hl.1 dX13_frontLeft_2 ⟨Nat.le_of_ble_eq_true rfl, Nat.le_of_ble_eq_true rfl⟩ ⟨Nat.le_of_ble_eq_true rfl, Nat.le_of_ble_eq_true rfl⟩ (fun _ H locs _ hP hD hS => ?_)
  have hP : va_P G.1 clG ([] ++ wl) _ := hP
  have hD : va_D A ([] ++ wl) := hD
  refine W.eq (g2 := F0 mM 5 ls [.int (iI (frontR kd by_ br hg)), .int (iI 0)]) rfl ?_
  refine lv_aload_n F.1 F.2.1 dX13_frontLeft_5 rfl (lv_at hl 0 rfl) ?_
  obtain ⟨k_5, hk_6⟩ := mem_at (X := []) hm
  refine cl_vshield F (q0 := k_5) kd q1049 hE hP hD hS hA hk_6 rfl (Nat.le_of_ble_eq_true rfl) hl.1 dX13_frontLeft_6 ⟨Nat.le_of_ble_eq_true rfl, Nat.le_of_ble_eq_true rfl⟩ ⟨Nat.le_of_ble_eq_true rfl, Nat.le_of_ble_eq_true rfl⟩ (fun H locs hP hD hS => ?_)
  refine W.eq (g2 := F0 mM 9 ls [.int (iI (shieldK kd by_)), .int (iI (frontR kd by_ br hg)), .int (iI 0)]) rfl ?_
  refine r_isub F dX13_frontLeft_9 ?_
  refine r_mmaxI F q1059 q1060 q139 q1061 (by decide) (by omega) hl.1 (Nat.le_of_ble_eq_true rfl) (Nat.le_of_ble_eq_true rfl) (Nat.le_of_ble_eq_true rfl) (Nat.le_of_ble_eq_true rfl) dX13_frontLeft_10 ?_
  exact rt_i F hQ hS (Nat.le_of_ble_eq_true rfl) (Nat.le_of_ble_eq_true rfl) () (congrArg (fun z => some (Value.int (iI z))) (show (frontLR kd by_ br hg) = (max 0 ((frontR kd by_ br hg) - (shieldK kd by_))) from by first | rfl | omega | (simp; done) | (simp; omega))) trivial hP hD dX13_frontLeft_13
theorem hd_X1_in : Hd yX1_in 3 := ⟨by decide +kernel, by decide +kernel, by decide +kernel⟩
set_option maxHeartbeats 1000000 in
theorem ct_X13_hasSpeed {G : Gm} {l : Launch} (h0 : Nat) (kd : Nat) (by_ : Int) (br : Int) (dp : Int) (hg : Int) (sl : Int) (fa : Int) (nu : Int) (nm : Nat) (v : Int) (wl : va_W) (h1 : -2147483648 ≤ v ∧ v < 2147483648) (hk : WkOk kd by_ br dp hg sl fa) (hm : (h0, .inr (ciW kd, [.int (iI by_), .int (iI br), .int (iI dp), .int (iI hg), .int (iI sl), .int (iI fa), .ref nm, .int (iI nu)])) ∈ wl) : Ct G l yX13_hasSpeed (ws_ yX13_hasSpeed cX13_hasSpeed 2 (some .boolean)) ({ frames := 1, cells := 0, slots := 0, locals := 22 } : Room) [.ref h0, .int (iI v)] ([] ++ wl) (fun _ : Unit => True) (fun _ : Unit => ((some (.int (iI (pI (sl ≤ v ∧ v ≤ fa))))) : Option Value)) (fun _ : Unit => (([] ++ wl) : va_W)) := by
  refine Ct.of (by decide) rfl ?_
  intro pP eE sS mM below meth cC A ls Q F hE hA hP hD hS hl hQ
  have hl : lv_has ls 2 [(0, .ref h0), (1, .int (iI v))] := hl
  have b0 := hk.speeds
  refine lv_iload_n F.1 F.2.1 dX13_hasSpeed_0 rfl (lv_at hl 1 rfl) ?_
  refine lv_aload_n F.1 F.2.1 dX13_hasSpeed_1 rfl (lv_at hl 0 rfl) ?_
  obtain ⟨k_1, hk_2⟩ := mem_at (X := []) hm
  refine r_getW F (v := .int (iI sl)) hE hP k_1 hk_2 4 (by decide) q868 (fun _ h9 => h9) rfl dX13_hasSpeed_2 ?_
  refine lv_aload_n F.1 F.2.1 dX13_hasSpeed_5 rfl (lv_at hl 0 rfl) ?_
  obtain ⟨k_3, hk_4⟩ := mem_at (X := []) hm
  refine r_getW F (v := .int (iI fa)) hE hP k_3 hk_4 5 (by decide) q872 (fun _ h9 => h9) rfl dX13_hasSpeed_6 ?_
  refine cl_SN F (ct_X1_in v sl fa wl h1 (by omega) (by omega)) hd_X1_in q1011 q416 q112 q417 hE hP hD hS hA (X := []) (pl := wl) (cx := []) (wr := []) [] [] rfl rfl rfl rfl (by decide) rfl rfl rfl (Nat.le_of_ble_eq_true rfl) hl.1 dX13_hasSpeed_9 ⟨Nat.le_of_ble_eq_true rfl, Nat.le_of_ble_eq_true rfl⟩ ⟨Nat.le_of_ble_eq_true rfl, Nat.le_of_ble_eq_true rfl⟩ (fun _ H locs _ hP hD hS => ?_)
  have hP : va_P G.1 clG ([] ++ wl) _ := hP
  have hD : va_D A ([] ++ wl) := hD
  refine W.eq (g2 := F0 mM 12 ls [.int (iI (pI (sl ≤ v ∧ v ≤ fa)))]) rfl ?_
  exact rt_z F hQ hS (Nat.le_of_ble_eq_true rfl) (Nat.le_of_ble_eq_true rfl) pI_01 () rfl trivial hP hD dX13_hasSpeed_12
