/-! The reader: what has been told so far -/
set_option maxRecDepth 100000
/-- what has been told lies in the tail -/
def PX (G : Gm) (w : Wd) (nm : Nm) (z : Wx) (nh nz : Nat → Int) (wl : va_W) : Prop := (∀ k : Nat, (k : Int) < wnH w → (z 2 k, .inr (7, [.int (iI (wDr w k)), .int (iI (wDn w k)), .int (iI (wWi w k)), .int (iI (wSd w k)), .int (iI (wCh w k))])) ∈ wl) ∧
  (∀ k : Nat, (k : Int) < wnP w → (z 3 k, .inr (8, [.ref (z 8 k), .int (iI (k : Int)), .int (iI (wInn w k)), .int (iI (wIsT w k)), .int (iI (wDrip w k))])) ∈ wl ∧ (z 8 k, .inr (17, [.ref (z 10 k), .int (iI 0), .int (iI (nh k)), .int (iI (nz k))])) ∈ wl ∧ (z 10 k, .inl (G.2.1 0, (nm k).length, .inl (aI (lf (nm k))))) ∈ wl ∧ WdL (nm k)) ∧
  (∀ k : Nat, (k : Int) < wnR w → (z 4 k, .inr (9, [.int (iI (wFr w k)), .int (iI (wTo w k)), .int (iI (wRs w k)), .int (iI (wLe w k)), .int (iI (wAw w k))])) ∈ wl) ∧
  (∀ k : Nat, (k : Int) < wnW w → (z 5 k, .inr (ciW (wKd w k), [.int (iI (wBy w k)), .int (iI (wBr w k)), .int (iI (wDp w k)), .int (iI (wHg w k)), .int (iI (wSl w k)), .int (iI (wFa w k)), .ref (z 9 k), .int (iI (k : Int))])) ∈ wl ∧ (z 9 k, .inr (17, [.ref (z 11 k), .int (iI 0), .int (iI (nh (8 + k))), .int (iI (nz (8 + k)))])) ∈ wl ∧ (z 11 k, .inl (G.2.1 0, (nm (8 + k)).length, .inl (aI (lf (nm (8 + k)))))) ∈ wl ∧ WdL (nm (8 + k))) ∧
  (∀ k : Nat, (k : Int) < wnS w → (z 6 k, .inr (14, [.ref (z 7 k), .int (iI (wWho w k))])) ∈ wl ∧ (z 7 k, .inl (G.2.1 2, 5, .inl (aI (sF w k)))) ∈ wl)
theorem PX.rain {G : Gm} {w : Wd} {nm : Nm} {z : Wx} {nh nz : Nat → Int} {wl : va_W} (h : PX G w nm z nh nz wl) : ∀ k : Nat, (k : Int) < wnH w → (z 2 k, .inr (7, [.int (iI (wDr w k)), .int (iI (wDn w k)), .int (iI (wWi w k)), .int (iI (wSd w k)), .int (iI (wCh w k))])) ∈ wl := h.1
theorem PX.place {G : Gm} {w : Wd} {nm : Nm} {z : Wx} {nh nz : Nat → Int} {wl : va_W} (h : PX G w nm z nh nz wl) : ∀ k : Nat, (k : Int) < wnP w → (z 3 k, .inr (8, [.ref (z 8 k), .int (iI (k : Int)), .int (iI (wInn w k)), .int (iI (wIsT w k)), .int (iI (wDrip w k))])) ∈ wl ∧ (z 8 k, .inr (17, [.ref (z 10 k), .int (iI 0), .int (iI (nh k)), .int (iI (nz k))])) ∈ wl ∧ (z 10 k, .inl (G.2.1 0, (nm k).length, .inl (aI (lf (nm k))))) ∈ wl ∧ WdL (nm k) := h.2.1
theorem PX.road {G : Gm} {w : Wd} {nm : Nm} {z : Wx} {nh nz : Nat → Int} {wl : va_W} (h : PX G w nm z nh nz wl) : ∀ k : Nat, (k : Int) < wnR w → (z 4 k, .inr (9, [.int (iI (wFr w k)), .int (iI (wTo w k)), .int (iI (wRs w k)), .int (iI (wLe w k)), .int (iI (wAw w k))])) ∈ wl := h.2.2.1
theorem PX.walker {G : Gm} {w : Wd} {nm : Nm} {z : Wx} {nh nz : Nat → Int} {wl : va_W} (h : PX G w nm z nh nz wl) : ∀ k : Nat, (k : Int) < wnW w → (z 5 k, .inr (ciW (wKd w k), [.int (iI (wBy w k)), .int (iI (wBr w k)), .int (iI (wDp w k)), .int (iI (wHg w k)), .int (iI (wSl w k)), .int (iI (wFa w k)), .ref (z 9 k), .int (iI (k : Int))])) ∈ wl ∧ (z 9 k, .inr (17, [.ref (z 11 k), .int (iI 0), .int (iI (nh (8 + k))), .int (iI (nz (8 + k)))])) ∈ wl ∧ (z 11 k, .inl (G.2.1 0, (nm (8 + k)).length, .inl (aI (lf (nm (8 + k)))))) ∈ wl ∧ WdL (nm (8 + k)) := h.2.2.2.1
theorem PX.seen {G : Gm} {w : Wd} {nm : Nm} {z : Wx} {nh nz : Nat → Int} {wl : va_W} (h : PX G w nm z nh nz wl) : ∀ k : Nat, (k : Int) < wnS w → (z 6 k, .inr (14, [.ref (z 7 k), .int (iI (wWho w k))])) ∈ wl ∧ (z 7 k, .inl (G.2.1 2, 5, .inl (aI (sF w k)))) ∈ wl := h.2.2.2.2
def fndR (w : Wd) (nm : Nm) (z : Wx) (ws : List Int) : Option Nat := match fndP w nm ws with
  | some j => some (z 3 j)
  | none => (fndW w nm ws).map (z 5)
theorem fnd_in {nm : Nm} {ws : List Int} {b : Nat} : ∀ n j : Nat, fnd nm ws b n = some j → j < n ∧ nm (b + j) = ws
  | 0, j, h => by cases h
  | n + 1, j, h => by
    unfold fnd at h
    cases e : fnd nm ws b n with
    | some i =>
      rw [e] at h
      have h2 : some i = some j := h
      obtain ⟨h3, h4⟩ := fnd_in n j (e.trans h2)
      exact ⟨by omega, h4⟩
    | none =>
      rw [e] at h
      have h2 : (if nm (b + n) = ws then some n else none) = some j := h
      by_cases q : nm (b + n) = ws
      · rw [if_pos q] at h2
        cases h2
        exact ⟨Nat.lt_succ_self _, q⟩
      · rw [if_neg q] at h2
        cases h2
theorem fnd_y {nm : Nm} {ws : List Int} {b n : Nat} (h : fnd nm ws b n = none) (q : nm (b + n) = ws) : fnd nm ws b (n + 1) = some n := by
  unfold fnd
  rw [h]
  exact if_pos q
theorem fnd_n {nm : Nm} {ws : List Int} {b n : Nat} (h : fnd nm ws b n = none) (q : ¬ nm (b + n) = ws) : fnd nm ws b (n + 1) = none := by
  unfold fnd
  rw [h]
  exact if_neg q
theorem fnd_s {nm : Nm} {ws : List Int} {b x : Nat} : ∀ m n : Nat, n ≤ m → fnd nm ws b n = some x → fnd nm ws b m = some x
  | 0, n, hn, q => by rw [show n = 0 by omega] at q; exact q
  | m + 1, n, hn, q => by
    rcases (show n = m + 1 ∨ n ≤ m by omega) with e | e
    · rw [← e]; exact q
    · have q1 := fnd_s m n e q
      unfold fnd
      rw [q1]
set_option maxHeartbeats 1000000 in
theorem ct_X8_among_P {G : Gm} {l : Launch} (w : Wd) (nm : Nm) (z : Wx) (nh : Nat → Int) (nz : Nat → Int) (wa : Nat) (wv : Nat) (ws : List Int) (hs : Int) (hz : Int) (ar : Nat) (wl : va_W) (hPX : PX G w nm z nh nz wl) (hwd : WdL ws) (hn : 0 ≤ wnP w ∧ wnP w ≤ 8) : Ct G l yX8_among (ws_ yX8_among cX8_among 4 (some (.object "RainWalk$Named"))) ({ frames := 2, cells := 0, slots := 0, locals := 44 } : Room) [.ref ar, .int (iI (wnP w)), .ref wa] ([(ar, .inl (G.2.1 7, 8, .inr (.inr (.inr (.inr (oA (wnP w) (z 3))))))), (wa, .inr (17, [.ref wv, .int (iI 0), .int (iI hs), .int (iI hz)])), (wv, .inl (G.2.1 0, ws.length, .inl (aI (lf ws))))] ++ wl) (fun _ : Unit => True) (fun _ : Unit => ((some (va_rf ((fnd nm ws 0 (wnP w).toNat).map (z 3)))) : Option Value)) (fun _ : Unit => (([(ar, .inl (G.2.1 7, 8, .inr (.inr (.inr (.inr (oA (wnP w) (z 3))))))), (wa, .inr (17, [.ref wv, .int (iI 0), .int (iI hs), .int (iI hz)])), (wv, .inl (G.2.1 0, ws.length, .inl (aI (lf ws))))] ++ wl) : va_W)) := by
  refine Ct.of (by decide) rfl ?_
  intro pP eE sS mM below meth cC A ls Q F hE hA hP hD hS hl hQ
  have hl : lv_has ls 4 [(0, .ref ar), (1, .int (iI (wnP w))), (2, .ref wa)] := hl
  refine lv_iconst (v := iI 0) F.1 F.2.1 dX8_among_0 rfl ?_
  refine lv_istore_n (lv' := [(3, .int (iI 0)), (0, .ref ar), (1, .int (iI (wnP w))), (2, .ref wa)]) F.1 F.2.1 dX8_among_1 rfl hl (Nat.le_of_ble_eq_true rfl) rfl (fun ls hl => ?_)
  have hl : lv_has ls 4 [(0, .ref ar), (1, .int (iI (wnP w))), (2, .ref wa), (3, .int (iI 0))] := lv_sub hl [1, 2, 3, 0] rfl
  have hl := lv_cv (fun zZ : Int => [(0, .ref ar), (1, .int (iI (wnP w))), (2, .ref wa), (3, .int (iI zZ))]) (show 0 = (0 : Int) from by first | rfl | omega | (simp; done) | (simp; omega)) hl
  have hl : lv_has ls 4 [(0, .ref ar), (1, .int (iI (wnP w))), (2, .ref wa), (3, .int (iI (0 : Int)))] := hl
  refine lp_s (σ := Nat) (hd := 2) (st := []) (fun (j : Nat) => 9 - j) (fun (j : Nat) H locs ls => va_P G.1 clG ([(ar, .inl (G.2.1 7, 8, .inr (.inr (.inr (.inr (oA (wnP w) (z 3))))))), (wa, .inr (17, [.ref wv, .int (iI 0), .int (iI hs), .int (iI hz)])), (wv, .inl (G.2.1 0, ws.length, .inl (aI (lf ws))))] ++ wl) H ∧ va_D A ([(ar, .inl (G.2.1 7, 8, .inr (.inr (.inr (.inr (oA (wnP w) (z 3))))))), (wa, .inr (17, [.ref wv, .int (iI 0), .int (iI hs), .int (iI hz)])), (wv, .inl (G.2.1 0, ws.length, .inl (aI (lf ws))))] ++ wl) ∧ va_S A sS.heap H locs ∧ lv_has ls 4 [(0, .ref ar), (1, .int (iI (wnP w))), (2, .ref wa), (3, .int (iI (j : Int)))] ∧ ((j : Int) ≤ wnP w) ∧ (fnd nm ws 0 j = none)) (fun (j : Nat) => 0) (fun (j : Nat) => 0) ?_ 0 _ _ _ ⟨hP, hD, hS, hl, (by omega), rfl⟩
  rintro j H locs ls ⟨hP, hD, hS, hl, hj, hq⟩ ih_2
  have hlen := hwd.len
  refine lv_iload_n F.1 F.2.1 dX8_among_2 rfl (lv_at hl 3 rfl) ?_
  refine lv_iload_n F.1 F.2.1 dX8_among_3 rfl (lv_at hl 1 rfl) ?_
  refine r_icmp_ge F (tgt := 30) (by omega) (by omega) dX8_among_4 (by decide) (fun c_1 => ?_) (fun c_1 => ?_)
  · refine lv_null F.1 F.2.1 dX8_among_30 ?_
    exact rt_a F hQ hS (Nat.le_of_ble_eq_true rfl) (Nat.le_of_ble_eq_true rfl) (Or.inl ⟨_, rfl⟩) (Or.inl rfl) () (congrArg (fun z => some (va_rf z)) (show ((fnd nm ws 0 (wnP w).toNat).map (z 3)) = (none : Option Nat) from by rw [show (wnP w).toNat = j by omega, hq]; rfl)) trivial hP hD dX8_among_31
  · have hnk := (hPX.place j (by omega)).2.2.2
    refine lv_aload_n F.1 F.2.1 dX8_among_7 rfl (lv_at hl 0 rfl) ?_
    refine lv_iload_n F.1 F.2.1 dX8_among_8 rfl (lv_at hl 3 rfl) ?_
    refine r_aald F (f := (oA (wnP w) (z 3))) (v := .ref (z 3 j)) hE hP 0 rfl rfl j rfl (by omega) (by decide) (oA_at (by omega)) dX8_among_9 ?_
    obtain ⟨k_2, hk_3⟩ := mem_at (X := [(ar, .inl (G.2.1 7, 8, .inr (.inr (.inr (.inr (oA (wnP w) (z 3))))))), (wa, .inr (17, [.ref wv, .int (iI 0), .int (iI hs), .int (iI hz)])), (wv, .inl (G.2.1 0, ws.length, .inl (aI (lf ws))))]) ((hPX.place j (by omega)).1)
    refine r_get F (ci := 8) (v := .ref (z 8 j)) b_X11 hE hP k_2 hk_3 0 (by decide) q783 (fun _ h9 => h9) rfl dX8_among_10 ?_
    refine lv_aload_n F.1 F.2.1 dX8_among_13 rfl (lv_at hl 2 rfl) ?_
    obtain ⟨k_6, hk_7⟩ := mem_at (X := [(ar, .inl (G.2.1 7, 8, .inr (.inr (.inr (.inr (oA (wnP w) (z 3))))))), (wa, .inr (17, [.ref wv, .int (iI 0), .int (iI hs), .int (iI hz)])), (wv, .inl (G.2.1 0, ws.length, .inl (aI (lf ws))))]) ((hPX.place j (by omega)).2.1)
    refine cl_V F (C := "java/lang/String") (ct_J3_equals_rc (z 8 j) (z 10 j) (nm j) (nh j) (nz j) wa wv ws hs hz wl hnk.tx hwd.tx (by have := hnk.len; omega) (by omega) ((hPX.place j (by omega)).2.1) ((hPX.place j (by omega)).2.2.1)) hd_J3_equals rfl q767 q663 q664 q123 q665 (va_recv hE.1 hP (ci := 17) (q0 := k_6) rfl hk_7) hE hP hD hS hA (X := [(ar, .inl (G.2.1 7, 8, .inr (.inr (.inr (.inr (oA (wnP w) (z 3))))))), (wa, .inr (17, [.ref wv, .int (iI 0), .int (iI hs), .int (iI hz)])), (wv, .inl (G.2.1 0, ws.length, .inl (aI (lf ws))))]) (pl := wl) (cx := [(wa, .inr (17, [.ref wv, .int (iI 0), .int (iI hs), .int (iI hz)])), (wv, .inl (G.2.1 0, ws.length, .inl (aI (lf ws))))]) (wr := [(ar, .inl (G.2.1 7, 8, .inr (.inr (.inr (.inr (oA (wnP w) (z 3)))))))]) [1, 2] [0] rfl rfl rfl rfl (by decide) rfl rfl rfl (Nat.le_of_ble_eq_true rfl) hl.1 dX8_among_14 ⟨Nat.le_of_ble_eq_true rfl, Nat.le_of_ble_eq_true rfl⟩ ⟨Nat.le_of_ble_eq_true rfl, Nat.le_of_ble_eq_true rfl⟩ (fun _ H locs _ hP hD hS => ?_)
    have hP : va_P G.1 clG ([(ar, .inl (G.2.1 7, 8, .inr (.inr (.inr (.inr (oA (wnP w) (z 3))))))), (wa, .inr (17, [.ref wv, .int (iI 0), .int (iI hs), .int (iI hz)])), (wv, .inl (G.2.1 0, ws.length, .inl (aI (lf ws))))] ++ wl) _ := hP
    have hD : va_D A ([(ar, .inl (G.2.1 7, 8, .inr (.inr (.inr (.inr (oA (wnP w) (z 3))))))), (wa, .inr (17, [.ref wv, .int (iI 0), .int (iI hs), .int (iI hz)])), (wv, .inl (G.2.1 0, ws.length, .inl (aI (lf ws))))] ++ wl) := hD
    refine W.eq (g2 := F0 mM 17 ls [.int (iI (pI ((nm j) = ws)))]) rfl ?_
    refine r_ifz F (tgt := 24) dX8_among_17 (by decide) (fun c_8 => ?_) (fun c_8 => ?_)
    · refine lv_iinc (v := iI ((j : Int) + 1)) (lv' := [(3, .int (iI ((j : Int) + 1))), (0, .ref ar), (1, .int (iI (wnP w))), (2, .ref wa)]) (k := 3) F.1 F.2.1 dX8_among_24 hl rfl (iI_add _ _) (Nat.le_of_ble_eq_true rfl) rfl (fun ls hl => ?_)
      refine lv_goto (tgt := 2) F.1 F.2.1 dX8_among_27 (by decide) ?_
      have hl : lv_has ls 4 [(0, .ref ar), (1, .int (iI (wnP w))), (2, .ref wa), (3, .int (iI ((j : Int) + 1)))] := lv_sub hl [1, 2, 3, 0] rfl
      have hl := lv_cv (fun zZ : Int => [(0, .ref ar), (1, .int (iI (wnP w))), (2, .ref wa), (3, .int (iI zZ))]) (show ((j : Int) + 1) = ((j + 1) : Int) from by first | rfl | omega | (simp; done) | (simp; omega)) hl
      have hl : lv_has ls 4 [(0, .ref ar), (1, .int (iI (wnP w))), (2, .ref wa), (3, .int (iI ((j + 1) : Int)))] := hl
      exact ih_2 (j + 1) _ _ _ (by first | omega | (dsimp only; omega)) ⟨hP, hD, hS, hl, (by omega), (fnd_n hq (by rw [Nat.zero_add]; assumption))⟩
    · refine lv_aload_n F.1 F.2.1 dX8_among_20 rfl (lv_at hl 0 rfl) ?_
      refine lv_iload_n F.1 F.2.1 dX8_among_21 rfl (lv_at hl 3 rfl) ?_
      refine r_aald F (f := (oA (wnP w) (z 3))) (v := .ref (z 3 j)) hE hP 0 rfl rfl j rfl (by omega) (by decide) (oA_at (by omega)) dX8_among_22 ?_
      exact rt_a F hQ hS (Nat.le_of_ble_eq_true rfl) (Nat.le_of_ble_eq_true rfl) (Or.inl ⟨_, rfl⟩) (Or.inr ⟨_, rfl⟩) () (congrArg (fun z => some (va_rf z)) (show ((fnd nm ws 0 (wnP w).toNat).map (z 3)) = (some (z 3 j)) from by rw [fnd_s (wnP w).toNat (j + 1) (by omega) (fnd_y hq (by rw [Nat.zero_add]; assumption))]; rfl)) trivial hP hD dX8_among_23
set_option maxHeartbeats 1000000 in
theorem ct_X8_among_W {G : Gm} {l : Launch} (w : Wd) (nm : Nm) (z : Wx) (nh : Nat → Int) (nz : Nat → Int) (wa : Nat) (wv : Nat) (ws : List Int) (hs : Int) (hz : Int) (ar : Nat) (wl : va_W) (hPX : PX G w nm z nh nz wl) (hwd : WdL ws) (hn : 0 ≤ wnW w ∧ wnW w ≤ 4) : Ct G l yX8_among (ws_ yX8_among cX8_among 4 (some (.object "RainWalk$Named"))) ({ frames := 2, cells := 0, slots := 0, locals := 44 } : Room) [.ref ar, .int (iI (wnW w)), .ref wa] ([(ar, .inl (G.2.1 9, 4, .inr (.inr (.inr (.inr (oA (wnW w) (z 5))))))), (wa, .inr (17, [.ref wv, .int (iI 0), .int (iI hs), .int (iI hz)])), (wv, .inl (G.2.1 0, ws.length, .inl (aI (lf ws))))] ++ wl) (fun _ : Unit => True) (fun _ : Unit => ((some (va_rf ((fnd nm ws 8 (wnW w).toNat).map (z 5)))) : Option Value)) (fun _ : Unit => (([(ar, .inl (G.2.1 9, 4, .inr (.inr (.inr (.inr (oA (wnW w) (z 5))))))), (wa, .inr (17, [.ref wv, .int (iI 0), .int (iI hs), .int (iI hz)])), (wv, .inl (G.2.1 0, ws.length, .inl (aI (lf ws))))] ++ wl) : va_W)) := by
  refine Ct.of (by decide) rfl ?_
  intro pP eE sS mM below meth cC A ls Q F hE hA hP hD hS hl hQ
  have hl : lv_has ls 4 [(0, .ref ar), (1, .int (iI (wnW w))), (2, .ref wa)] := hl
  refine lv_iconst (v := iI 0) F.1 F.2.1 dX8_among_0 rfl ?_
  refine lv_istore_n (lv' := [(3, .int (iI 0)), (0, .ref ar), (1, .int (iI (wnW w))), (2, .ref wa)]) F.1 F.2.1 dX8_among_1 rfl hl (Nat.le_of_ble_eq_true rfl) rfl (fun ls hl => ?_)
  have hl : lv_has ls 4 [(0, .ref ar), (1, .int (iI (wnW w))), (2, .ref wa), (3, .int (iI 0))] := lv_sub hl [1, 2, 3, 0] rfl
  have hl := lv_cv (fun zZ : Int => [(0, .ref ar), (1, .int (iI (wnW w))), (2, .ref wa), (3, .int (iI zZ))]) (show 0 = (0 : Int) from by first | rfl | omega | (simp; done) | (simp; omega)) hl
  have hl : lv_has ls 4 [(0, .ref ar), (1, .int (iI (wnW w))), (2, .ref wa), (3, .int (iI (0 : Int)))] := hl
  refine lp_s (σ := Nat) (hd := 2) (st := []) (fun (j : Nat) => 5 - j) (fun (j : Nat) H locs ls => va_P G.1 clG ([(ar, .inl (G.2.1 9, 4, .inr (.inr (.inr (.inr (oA (wnW w) (z 5))))))), (wa, .inr (17, [.ref wv, .int (iI 0), .int (iI hs), .int (iI hz)])), (wv, .inl (G.2.1 0, ws.length, .inl (aI (lf ws))))] ++ wl) H ∧ va_D A ([(ar, .inl (G.2.1 9, 4, .inr (.inr (.inr (.inr (oA (wnW w) (z 5))))))), (wa, .inr (17, [.ref wv, .int (iI 0), .int (iI hs), .int (iI hz)])), (wv, .inl (G.2.1 0, ws.length, .inl (aI (lf ws))))] ++ wl) ∧ va_S A sS.heap H locs ∧ lv_has ls 4 [(0, .ref ar), (1, .int (iI (wnW w))), (2, .ref wa), (3, .int (iI (j : Int)))] ∧ ((j : Int) ≤ wnW w) ∧ (fnd nm ws 8 j = none)) (fun (j : Nat) => 0) (fun (j : Nat) => 0) ?_ 0 _ _ _ ⟨hP, hD, hS, hl, (by omega), rfl⟩
  rintro j H locs ls ⟨hP, hD, hS, hl, hj, hq⟩ ih_2
  have hlen := hwd.len
  refine lv_iload_n F.1 F.2.1 dX8_among_2 rfl (lv_at hl 3 rfl) ?_
  refine lv_iload_n F.1 F.2.1 dX8_among_3 rfl (lv_at hl 1 rfl) ?_
  refine r_icmp_ge F (tgt := 30) (by omega) (by omega) dX8_among_4 (by decide) (fun c_1 => ?_) (fun c_1 => ?_)
  · refine lv_null F.1 F.2.1 dX8_among_30 ?_
    exact rt_a F hQ hS (Nat.le_of_ble_eq_true rfl) (Nat.le_of_ble_eq_true rfl) (Or.inl ⟨_, rfl⟩) (Or.inl rfl) () (congrArg (fun z => some (va_rf z)) (show ((fnd nm ws 8 (wnW w).toNat).map (z 5)) = (none : Option Nat) from by rw [show (wnW w).toNat = j by omega, hq]; rfl)) trivial hP hD dX8_among_31
  · have hnk := (hPX.walker j (by omega)).2.2.2
    refine lv_aload_n F.1 F.2.1 dX8_among_7 rfl (lv_at hl 0 rfl) ?_
    refine lv_iload_n F.1 F.2.1 dX8_among_8 rfl (lv_at hl 3 rfl) ?_
    refine r_aald F (f := (oA (wnW w) (z 5))) (v := .ref (z 5 j)) hE hP 0 rfl rfl j rfl (by omega) (by decide) (oA_at (by omega)) dX8_among_9 ?_
    obtain ⟨k_2, hk_3⟩ := mem_at (X := [(ar, .inl (G.2.1 9, 4, .inr (.inr (.inr (.inr (oA (wnW w) (z 5))))))), (wa, .inr (17, [.ref wv, .int (iI 0), .int (iI hs), .int (iI hz)])), (wv, .inl (G.2.1 0, ws.length, .inl (aI (lf ws))))]) ((hPX.walker j (by omega)).1)
    refine r_getW F (v := .ref (z 9 j)) hE hP k_2 hk_3 6 (by decide) q783 (fun _ h9 => h9) rfl dX8_among_10 ?_
    refine lv_aload_n F.1 F.2.1 dX8_among_13 rfl (lv_at hl 2 rfl) ?_
    obtain ⟨k_6, hk_7⟩ := mem_at (X := [(ar, .inl (G.2.1 9, 4, .inr (.inr (.inr (.inr (oA (wnW w) (z 5))))))), (wa, .inr (17, [.ref wv, .int (iI 0), .int (iI hs), .int (iI hz)])), (wv, .inl (G.2.1 0, ws.length, .inl (aI (lf ws))))]) ((hPX.walker j (by omega)).2.1)
    refine cl_V F (C := "java/lang/String") (ct_J3_equals_rc (z 9 j) (z 11 j) (nm (8 + j)) (nh (8 + j)) (nz (8 + j)) wa wv ws hs hz wl hnk.tx hwd.tx (by have := hnk.len; omega) (by omega) ((hPX.walker j (by omega)).2.1) ((hPX.walker j (by omega)).2.2.1)) hd_J3_equals rfl q767 q663 q664 q123 q665 (va_recv hE.1 hP (ci := 17) (q0 := k_6) rfl hk_7) hE hP hD hS hA (X := [(ar, .inl (G.2.1 9, 4, .inr (.inr (.inr (.inr (oA (wnW w) (z 5))))))), (wa, .inr (17, [.ref wv, .int (iI 0), .int (iI hs), .int (iI hz)])), (wv, .inl (G.2.1 0, ws.length, .inl (aI (lf ws))))]) (pl := wl) (cx := [(wa, .inr (17, [.ref wv, .int (iI 0), .int (iI hs), .int (iI hz)])), (wv, .inl (G.2.1 0, ws.length, .inl (aI (lf ws))))]) (wr := [(ar, .inl (G.2.1 9, 4, .inr (.inr (.inr (.inr (oA (wnW w) (z 5)))))))]) [1, 2] [0] rfl rfl rfl rfl (by decide) rfl rfl rfl (Nat.le_of_ble_eq_true rfl) hl.1 dX8_among_14 ⟨Nat.le_of_ble_eq_true rfl, Nat.le_of_ble_eq_true rfl⟩ ⟨Nat.le_of_ble_eq_true rfl, Nat.le_of_ble_eq_true rfl⟩ (fun _ H locs _ hP hD hS => ?_)
    have hP : va_P G.1 clG ([(ar, .inl (G.2.1 9, 4, .inr (.inr (.inr (.inr (oA (wnW w) (z 5))))))), (wa, .inr (17, [.ref wv, .int (iI 0), .int (iI hs), .int (iI hz)])), (wv, .inl (G.2.1 0, ws.length, .inl (aI (lf ws))))] ++ wl) _ := hP
    have hD : va_D A ([(ar, .inl (G.2.1 9, 4, .inr (.inr (.inr (.inr (oA (wnW w) (z 5))))))), (wa, .inr (17, [.ref wv, .int (iI 0), .int (iI hs), .int (iI hz)])), (wv, .inl (G.2.1 0, ws.length, .inl (aI (lf ws))))] ++ wl) := hD
    refine W.eq (g2 := F0 mM 17 ls [.int (iI (pI ((nm (8 + j)) = ws)))]) rfl ?_
    refine r_ifz F (tgt := 24) dX8_among_17 (by decide) (fun c_8 => ?_) (fun c_8 => ?_)
    · refine lv_iinc (v := iI ((j : Int) + 1)) (lv' := [(3, .int (iI ((j : Int) + 1))), (0, .ref ar), (1, .int (iI (wnW w))), (2, .ref wa)]) (k := 3) F.1 F.2.1 dX8_among_24 hl rfl (iI_add _ _) (Nat.le_of_ble_eq_true rfl) rfl (fun ls hl => ?_)
      refine lv_goto (tgt := 2) F.1 F.2.1 dX8_among_27 (by decide) ?_
      have hl : lv_has ls 4 [(0, .ref ar), (1, .int (iI (wnW w))), (2, .ref wa), (3, .int (iI ((j : Int) + 1)))] := lv_sub hl [1, 2, 3, 0] rfl
      have hl := lv_cv (fun zZ : Int => [(0, .ref ar), (1, .int (iI (wnW w))), (2, .ref wa), (3, .int (iI zZ))]) (show ((j : Int) + 1) = ((j + 1) : Int) from by first | rfl | omega | (simp; done) | (simp; omega)) hl
      have hl : lv_has ls 4 [(0, .ref ar), (1, .int (iI (wnW w))), (2, .ref wa), (3, .int (iI ((j + 1) : Int)))] := hl
      exact ih_2 (j + 1) _ _ _ (by first | omega | (dsimp only; omega)) ⟨hP, hD, hS, hl, (by omega), (fnd_n hq (by assumption))⟩
    · refine lv_aload_n F.1 F.2.1 dX8_among_20 rfl (lv_at hl 0 rfl) ?_
      refine lv_iload_n F.1 F.2.1 dX8_among_21 rfl (lv_at hl 3 rfl) ?_
      refine r_aald F (f := (oA (wnW w) (z 5))) (v := .ref (z 5 j)) hE hP 0 rfl rfl j rfl (by omega) (by decide) (oA_at (by omega)) dX8_among_22 ?_
      exact rt_a F hQ hS (Nat.le_of_ble_eq_true rfl) (Nat.le_of_ble_eq_true rfl) (Or.inl ⟨_, rfl⟩) (Or.inr ⟨_, rfl⟩) () (congrArg (fun z => some (va_rf z)) (show ((fnd nm ws 8 (wnW w).toNat).map (z 5)) = (some (z 5 j)) from by rw [fnd_s (wnW w).toNat (j + 1) (by omega) (fnd_y hq (by assumption))]; rfl)) trivial hP hD dX8_among_23
theorem hd_X8_among : Hd yX8_among 3 := ⟨by decide +kernel, by decide +kernel, by decide +kernel⟩
set_option maxHeartbeats 1000000 in
theorem ct_X8_find {G : Gm} {l : Launch} (w : Wd) (nm : Nm) (z : Wx) (nh : Nat → Int) (nz : Nat → Int) (wa0 : Nat) (a1 : Nat) (a2 : Nat) (a3 : Nat) (a4 : Nat) (a5 : Nat) (wa : Nat) (wv : Nat) (ws : List Int) (hs : Int) (hz : Int) (wl : va_W) (hPX : PX G w nm z nh nz wl) (hnm : (0 ≤ wnH w ∧ wnH w ≤ 6) ∧ (0 ≤ wnP w ∧ wnP w ≤ 8) ∧ (0 ≤ wnR w ∧ wnR w ≤ 12) ∧ (0 ≤ wnW w ∧ wnW w ≤ 4) ∧ (0 ≤ wnS w ∧ wnS w ≤ 4) ∧ (wHour w = 0 ∨ (5 ≤ wHour w ∧ wHour w ≤ 60))) (hwd : WdL ws) : Ct G l yX8_find (ws_ yX8_find cX8_find 3 (some (.object "RainWalk$Named"))) ({ frames := 3, cells := 0, slots := 0, locals := 67 } : Room) [.ref wa0, .ref wa] ([(wa0, .inr (6, [.ref a1, .ref a2, .ref a3, .ref a4, .ref a5, .int (iI (wHour w)), .int (iI (wnH w)), .int (iI (wnP w)), .int (iI (wnR w)), .int (iI (wnW w)), .int (iI (wnS w))])), (a2, .inl (G.2.1 7, 8, .inr (.inr (.inr (.inr (oA (wnP w) (z 3))))))), (a4, .inl (G.2.1 9, 4, .inr (.inr (.inr (.inr (oA (wnW w) (z 5))))))), (wa, .inr (17, [.ref wv, .int (iI 0), .int (iI hs), .int (iI hz)])), (wv, .inl (G.2.1 0, ws.length, .inl (aI (lf ws))))] ++ wl) (fun _ : Unit => True) (fun _ : Unit => ((some (va_rf (fndR w nm z ws))) : Option Value)) (fun _ : Unit => (([(wa0, .inr (6, [.ref a1, .ref a2, .ref a3, .ref a4, .ref a5, .int (iI (wHour w)), .int (iI (wnH w)), .int (iI (wnP w)), .int (iI (wnR w)), .int (iI (wnW w)), .int (iI (wnS w))])), (a2, .inl (G.2.1 7, 8, .inr (.inr (.inr (.inr (oA (wnP w) (z 3))))))), (a4, .inl (G.2.1 9, 4, .inr (.inr (.inr (.inr (oA (wnW w) (z 5))))))), (wa, .inr (17, [.ref wv, .int (iI 0), .int (iI hs), .int (iI hz)])), (wv, .inl (G.2.1 0, ws.length, .inl (aI (lf ws))))] ++ wl) : va_W)) := by
  refine Ct.of (by decide) rfl ?_
  intro pP eE sS mM below meth cC A ls Q F hE hA hP hD hS hl hQ
  have hl : lv_has ls 3 [(0, .ref wa0), (1, .ref wa)] := hl
  refine lv_aload_n F.1 F.2.1 dX8_find_0 rfl (lv_at hl 0 rfl) ?_
  refine r_get F (ci := 6) (v := .ref a2) b_X8 hE hP 0 rfl 1 (by decide) q446 (fun _ h9 => h9) rfl dX8_find_1 ?_
  refine lv_aload_n F.1 F.2.1 dX8_find_4 rfl (lv_at hl 0 rfl) ?_
  refine r_get F (ci := 6) (v := .int (iI (wnP w))) b_X8 hE hP 0 rfl 7 (by decide) q467 (fun _ h9 => h9) rfl dX8_find_5 ?_
  refine lv_aload_n F.1 F.2.1 dX8_find_8 rfl (lv_at hl 1 rfl) ?_
  refine cl_S F (ct_X8_among_P w nm z nh nz wa wv ws hs hz a2 wl hPX hwd (by omega)) hd_X8_among q764 q765 q122 q766 hE hP hD hS hA (X := [(wa0, .inr (6, [.ref a1, .ref a2, .ref a3, .ref a4, .ref a5, .int (iI (wHour w)), .int (iI (wnH w)), .int (iI (wnP w)), .int (iI (wnR w)), .int (iI (wnW w)), .int (iI (wnS w))])), (a2, .inl (G.2.1 7, 8, .inr (.inr (.inr (.inr (oA (wnP w) (z 3))))))), (a4, .inl (G.2.1 9, 4, .inr (.inr (.inr (.inr (oA (wnW w) (z 5))))))), (wa, .inr (17, [.ref wv, .int (iI 0), .int (iI hs), .int (iI hz)])), (wv, .inl (G.2.1 0, ws.length, .inl (aI (lf ws))))]) (pl := wl) (cx := [(a2, .inl (G.2.1 7, 8, .inr (.inr (.inr (.inr (oA (wnP w) (z 3))))))), (wa, .inr (17, [.ref wv, .int (iI 0), .int (iI hs), .int (iI hz)])), (wv, .inl (G.2.1 0, ws.length, .inl (aI (lf ws))))]) (wr := [(wa0, .inr (6, [.ref a1, .ref a2, .ref a3, .ref a4, .ref a5, .int (iI (wHour w)), .int (iI (wnH w)), .int (iI (wnP w)), .int (iI (wnR w)), .int (iI (wnW w)), .int (iI (wnS w))])), (a4, .inl (G.2.1 9, 4, .inr (.inr (.inr (.inr (oA (wnW w) (z 5)))))))]) [1, 3, 4] [0, 2] rfl rfl rfl rfl (by decide) rfl rfl rfl (Nat.le_of_ble_eq_true rfl) hl.1 dX8_find_9 ⟨Nat.le_of_ble_eq_true rfl, Nat.le_of_ble_eq_true rfl⟩ ⟨Nat.le_of_ble_eq_true rfl, Nat.le_of_ble_eq_true rfl⟩ (fun _ H locs _ hP hD hS => ?_)
  have hP : va_P G.1 clG ([(wa0, .inr (6, [.ref a1, .ref a2, .ref a3, .ref a4, .ref a5, .int (iI (wHour w)), .int (iI (wnH w)), .int (iI (wnP w)), .int (iI (wnR w)), .int (iI (wnW w)), .int (iI (wnS w))])), (a4, .inl (G.2.1 9, 4, .inr (.inr (.inr (.inr (oA (wnW w) (z 5))))))), (a2, .inl (G.2.1 7, 8, .inr (.inr (.inr (.inr (oA (wnP w) (z 3))))))), (wa, .inr (17, [.ref wv, .int (iI 0), .int (iI hs), .int (iI hz)])), (wv, .inl (G.2.1 0, ws.length, .inl (aI (lf ws))))] ++ wl) _ := hP
  have hD : va_D A ([(wa0, .inr (6, [.ref a1, .ref a2, .ref a3, .ref a4, .ref a5, .int (iI (wHour w)), .int (iI (wnH w)), .int (iI (wnP w)), .int (iI (wnR w)), .int (iI (wnW w)), .int (iI (wnS w))])), (a4, .inl (G.2.1 9, 4, .inr (.inr (.inr (.inr (oA (wnW w) (z 5))))))), (a2, .inl (G.2.1 7, 8, .inr (.inr (.inr (.inr (oA (wnP w) (z 3))))))), (wa, .inr (17, [.ref wv, .int (iI 0), .int (iI hs), .int (iI hz)])), (wv, .inl (G.2.1 0, ws.length, .inl (aI (lf ws))))] ++ wl) := hD
  refine W.eq (g2 := F0 mM 12 ls [va_rf ((fnd nm ws 0 (wnP w).toNat).map (z 3))]) rfl ?_
  rcases hf : fnd nm ws 0 (wnP w).toNat with _ | jj
  · refine lv_astore_nN (lv' := [(2, .null), (0, .ref wa0), (1, .ref wa)]) F.1 F.2.1 dX8_find_12 rfl hl (Nat.le_of_ble_eq_true rfl) rfl (fun ls hl => ?_)
    refine lv_aload_nN F.1 F.2.1 dX8_find_13 rfl (lv_at hl 0 rfl) ?_
    refine lv_ifnonnullN F.1 F.2.1 dX8_find_14 ?_
    refine lv_aload_n F.1 F.2.1 dX8_find_17 rfl (lv_at hl 1 rfl) ?_
    refine r_get F (ci := 6) (v := .ref a4) b_X8 hE hP 0 rfl 3 (by decide) q454 (fun _ h9 => h9) rfl dX8_find_18 ?_
    refine lv_aload_n F.1 F.2.1 dX8_find_21 rfl (lv_at hl 1 rfl) ?_
    refine r_get F (ci := 6) (v := .int (iI (wnW w))) b_X8 hE hP 0 rfl 9 (by decide) q474 (fun _ h9 => h9) rfl dX8_find_22 ?_
    refine lv_aload_n F.1 F.2.1 dX8_find_25 rfl (lv_at hl 2 rfl) ?_
    refine cl_S F (ct_X8_among_W w nm z nh nz wa wv ws hs hz a4 wl hPX hwd (by omega)) hd_X8_among q764 q765 q122 q766 hE hP hD hS hA (X := [(wa0, .inr (6, [.ref a1, .ref a2, .ref a3, .ref a4, .ref a5, .int (iI (wHour w)), .int (iI (wnH w)), .int (iI (wnP w)), .int (iI (wnR w)), .int (iI (wnW w)), .int (iI (wnS w))])), (a4, .inl (G.2.1 9, 4, .inr (.inr (.inr (.inr (oA (wnW w) (z 5))))))), (a2, .inl (G.2.1 7, 8, .inr (.inr (.inr (.inr (oA (wnP w) (z 3))))))), (wa, .inr (17, [.ref wv, .int (iI 0), .int (iI hs), .int (iI hz)])), (wv, .inl (G.2.1 0, ws.length, .inl (aI (lf ws))))]) (pl := wl) (cx := [(a4, .inl (G.2.1 9, 4, .inr (.inr (.inr (.inr (oA (wnW w) (z 5))))))), (wa, .inr (17, [.ref wv, .int (iI 0), .int (iI hs), .int (iI hz)])), (wv, .inl (G.2.1 0, ws.length, .inl (aI (lf ws))))]) (wr := [(wa0, .inr (6, [.ref a1, .ref a2, .ref a3, .ref a4, .ref a5, .int (iI (wHour w)), .int (iI (wnH w)), .int (iI (wnP w)), .int (iI (wnR w)), .int (iI (wnW w)), .int (iI (wnS w))])), (a2, .inl (G.2.1 7, 8, .inr (.inr (.inr (.inr (oA (wnP w) (z 3)))))))]) [1, 3, 4] [0, 2] rfl rfl rfl rfl (by decide) rfl rfl rfl (Nat.le_of_ble_eq_true rfl) hl.1 dX8_find_26 ⟨Nat.le_of_ble_eq_true rfl, Nat.le_of_ble_eq_true rfl⟩ ⟨Nat.le_of_ble_eq_true rfl, Nat.le_of_ble_eq_true rfl⟩ (fun _ H locs _ hP hD hS => ?_)
    have hP : va_P G.1 clG ([(wa0, .inr (6, [.ref a1, .ref a2, .ref a3, .ref a4, .ref a5, .int (iI (wHour w)), .int (iI (wnH w)), .int (iI (wnP w)), .int (iI (wnR w)), .int (iI (wnW w)), .int (iI (wnS w))])), (a2, .inl (G.2.1 7, 8, .inr (.inr (.inr (.inr (oA (wnP w) (z 3))))))), (a4, .inl (G.2.1 9, 4, .inr (.inr (.inr (.inr (oA (wnW w) (z 5))))))), (wa, .inr (17, [.ref wv, .int (iI 0), .int (iI hs), .int (iI hz)])), (wv, .inl (G.2.1 0, ws.length, .inl (aI (lf ws))))] ++ wl) _ := hP
    have hD : va_D A ([(wa0, .inr (6, [.ref a1, .ref a2, .ref a3, .ref a4, .ref a5, .int (iI (wHour w)), .int (iI (wnH w)), .int (iI (wnP w)), .int (iI (wnR w)), .int (iI (wnW w)), .int (iI (wnS w))])), (a2, .inl (G.2.1 7, 8, .inr (.inr (.inr (.inr (oA (wnP w) (z 3))))))), (a4, .inl (G.2.1 9, 4, .inr (.inr (.inr (.inr (oA (wnW w) (z 5))))))), (wa, .inr (17, [.ref wv, .int (iI 0), .int (iI hs), .int (iI hz)])), (wv, .inl (G.2.1 0, ws.length, .inl (aI (lf ws))))] ++ wl) := hD
    refine W.eq (g2 := F0 mM 29 ls [va_rf ((fnd nm ws 8 (wnW w).toNat).map (z 5))]) rfl ?_
    refine lv_goto (tgt := 33) F.1 F.2.1 dX8_find_29 (by decide) ?_
    exact rt_a F hQ hS (Nat.le_of_ble_eq_true rfl) (Nat.le_of_ble_eq_true rfl) (Or.inl ⟨_, rfl⟩) (va_rf_or _) () (congrArg (fun z => some (va_rf z)) (show (fndR w nm z ws) = ((fnd nm ws 8 (wnW w).toNat).map (z 5)) from by unfold fndR fndP; rw [hf]; first | done | rfl)) trivial hP hD dX8_find_33
  · refine lv_astore_n (lv' := [(2, .ref (z 3 jj)), (0, .ref wa0), (1, .ref wa)]) F.1 F.2.1 dX8_find_12 rfl hl (Nat.le_of_ble_eq_true rfl) rfl (fun ls hl => ?_)
    refine lv_aload_n F.1 F.2.1 dX8_find_13 rfl (lv_at hl 0 rfl) ?_
    refine lv_ifnonnull (tgt := 32) F.1 F.2.1 dX8_find_14 (by decide) ?_
    refine lv_aload_n F.1 F.2.1 dX8_find_32 rfl (lv_at hl 0 rfl) ?_
    have hD : va_D A ([(wa0, .inr (6, [.ref a1, .ref a2, .ref a3, .ref a4, .ref a5, .int (iI (wHour w)), .int (iI (wnH w)), .int (iI (wnP w)), .int (iI (wnR w)), .int (iI (wnW w)), .int (iI (wnS w))])), (a2, .inl (G.2.1 7, 8, .inr (.inr (.inr (.inr (oA (wnP w) (z 3))))))), (a4, .inl (G.2.1 9, 4, .inr (.inr (.inr (.inr (oA (wnW w) (z 5))))))), (wa, .inr (17, [.ref wv, .int (iI 0), .int (iI hs), .int (iI hz)])), (wv, .inl (G.2.1 0, ws.length, .inl (aI (lf ws))))] ++ wl) := hD.part (cx := [(wa0, .inr (6, [.ref a1, .ref a2, .ref a3, .ref a4, .ref a5, .int (iI (wHour w)), .int (iI (wnH w)), .int (iI (wnP w)), .int (iI (wnR w)), .int (iI (wnW w)), .int (iI (wnS w))])), (a2, .inl (G.2.1 7, 8, .inr (.inr (.inr (.inr (oA (wnP w) (z 3))))))), (a4, .inl (G.2.1 9, 4, .inr (.inr (.inr (.inr (oA (wnW w) (z 5))))))), (wa, .inr (17, [.ref wv, .int (iI 0), .int (iI hs), .int (iI hz)])), (wv, .inl (G.2.1 0, ws.length, .inl (aI (lf ws))))]) [0, 2, 1, 3, 4] (by decide) rfl
    have hP : va_P G.1 clG ([(wa0, .inr (6, [.ref a1, .ref a2, .ref a3, .ref a4, .ref a5, .int (iI (wHour w)), .int (iI (wnH w)), .int (iI (wnP w)), .int (iI (wnR w)), .int (iI (wnW w)), .int (iI (wnS w))])), (a2, .inl (G.2.1 7, 8, .inr (.inr (.inr (.inr (oA (wnP w) (z 3))))))), (a4, .inl (G.2.1 9, 4, .inr (.inr (.inr (.inr (oA (wnW w) (z 5))))))), (wa, .inr (17, [.ref wv, .int (iI 0), .int (iI hs), .int (iI hz)])), (wv, .inl (G.2.1 0, ws.length, .inl (aI (lf ws))))] ++ wl) _ := hP.part (cx := [(wa0, .inr (6, [.ref a1, .ref a2, .ref a3, .ref a4, .ref a5, .int (iI (wHour w)), .int (iI (wnH w)), .int (iI (wnP w)), .int (iI (wnR w)), .int (iI (wnW w)), .int (iI (wnS w))])), (a2, .inl (G.2.1 7, 8, .inr (.inr (.inr (.inr (oA (wnP w) (z 3))))))), (a4, .inl (G.2.1 9, 4, .inr (.inr (.inr (.inr (oA (wnW w) (z 5))))))), (wa, .inr (17, [.ref wv, .int (iI 0), .int (iI hs), .int (iI hz)])), (wv, .inl (G.2.1 0, ws.length, .inl (aI (lf ws))))]) [0, 2, 1, 3, 4] rfl
    exact rt_a F hQ hS (Nat.le_of_ble_eq_true rfl) (Nat.le_of_ble_eq_true rfl) (Or.inl ⟨_, rfl⟩) (Or.inr ⟨_, rfl⟩) () (congrArg (fun z => some (va_rf z)) (show (fndR w nm z ws) = (some (z 3 jj)) from by unfold fndR fndP; rw [hf]; first | done | rfl)) trivial hP hD dX8_find_33
