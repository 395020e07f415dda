/-! Texts of the JDK: made of letters, compared, hashed -/
set_option maxRecDepth 100000
set_option maxHeartbeats 1000000 in
theorem ct_J7_signedHashCode {G : Gm} {l : Launch} (sv : Nat) (sws : List Int) (wl : va_W) (ht : TxL sws) (hn8 : sws.length ≤ 1000) : Ct G l yJ7_signedHashCode (ws_ yJ7_signedHashCode cJ7_signedHashCode 6 (some .int)) ({ frames := 0, cells := 0, slots := 0, locals := 0 } : Room) [.int (iI 0), .ref sv, .int (iI 0), .int (iI (sws.length : Int))] ([(sv, .inl (G.2.1 0, sws.length, .inl (aI (lf sws))))] ++ wl) (fun _ : Unit => True) (fun _ : Unit => ((some (.int (iI (hsM sws sws.length)))) : Option Value)) (fun _ : Unit => (([(sv, .inl (G.2.1 0, sws.length, .inl (aI (lf sws))))] ++ wl) : va_W)) := by
  refine Ct.of (by decide) rfl ?_
  intro pP eE sS mM below meth cC A ls Q F hE hA hP hD hS hl hQ
  have hl : lv_has ls 6 [(0, .int (iI 0)), (1, .ref sv), (2, .int (iI 0)), (3, .int (iI (sws.length : Int)))] := hl
  refine lv_iload_n F.1 F.2.1 dJ7_signedHashCode_0 rfl (lv_at hl 2 rfl) ?_
  refine lv_iload_n F.1 F.2.1 dJ7_signedHashCode_1 rfl (lv_at hl 3 rfl) ?_
  refine r_iadd F dJ7_signedHashCode_2 ?_
  refine lv_istore (lv' := [(4, .int (iI (0 + (sws.length : Int)))), (0, .int (iI 0)), (1, .ref sv), (2, .int (iI 0)), (3, .int (iI (sws.length : Int)))]) F.1 F.2.1 dJ7_signedHashCode_3 hl (Nat.le_of_ble_eq_true rfl) rfl (fun ls hl => ?_)
  refine lv_iload_n F.1 F.2.1 dJ7_signedHashCode_5 rfl (lv_at hl 3 rfl) ?_
  refine lv_istore (lv' := [(5, .int (iI 0)), (4, .int (iI (0 + (sws.length : Int)))), (0, .int (iI 0)), (1, .ref sv), (2, .int (iI 0)), (3, .int (iI (sws.length : Int)))]) F.1 F.2.1 dJ7_signedHashCode_6 hl (Nat.le_of_ble_eq_true rfl) rfl (fun ls hl => ?_)
  have hl : lv_has ls 6 [(1, .ref sv), (4, .int (iI (0 + (sws.length : Int)))), (0, .int (iI 0)), (5, .int (iI 0))] := lv_sub hl [3, 1, 2, 0] rfl
  have hl := lv_cv (fun zZ : Int => [(1, .ref sv), (4, .int (iI zZ)), (0, .int (iI 0)), (5, .int (iI 0))]) (show (0 + (sws.length : Int)) = (sws.length : Int) from by omega) hl
  have hl := lv_cv (fun zZ : Int => [(1, .ref sv), (4, .int (iI (sws.length : Int))), (0, .int (iI zZ)), (5, .int (iI 0))]) (show 0 = (hsM sws 0) from by rfl) hl
  have hl := lv_cv (fun zZ : Int => [(1, .ref sv), (4, .int (iI (sws.length : Int))), (0, .int (iI (hsM sws 0))), (5, .int (iI zZ))]) (show 0 = (0 : Int) from by first | rfl | omega | (simp; done) | (simp; omega)) hl
  have hl : lv_has ls 6 [(1, .ref sv), (4, .int (iI (sws.length : Int))), (0, .int (iI (hsM sws 0))), (5, .int (iI (0 : Int)))] := hl
  refine lp_s (σ := Nat) (hd := 8) (st := []) (fun (j : Nat) => sws.length - j) (fun (j : Nat) H locs ls => va_P G.1 clG ([(sv, .inl (G.2.1 0, sws.length, .inl (aI (lf sws))))] ++ wl) H ∧ va_D A ([(sv, .inl (G.2.1 0, sws.length, .inl (aI (lf sws))))] ++ wl) ∧ va_S A sS.heap H locs ∧ lv_has ls 6 [(1, .ref sv), (4, .int (iI (sws.length : Int))), (0, .int (iI (hsM sws j))), (5, .int (iI (j : Int)))] ∧ (j ≤ sws.length)) (fun (j : Nat) => 0) (fun (j : Nat) => 0) ?_ 0 _ _ _ ⟨hP, hD, hS, hl, (by omega)⟩
  rintro j H locs ls ⟨hP, hD, hS, hl, hj⟩ ih_8
  have hlj := ht j
  refine lv_iload F.1 F.2.1 dJ7_signedHashCode_8 (lv_at hl 3 rfl) ?_
  refine lv_iload F.1 F.2.1 dJ7_signedHashCode_10 (lv_at hl 1 rfl) ?_
  refine r_icmp_ge F (tgt := 35) (by omega) (by omega) dJ7_signedHashCode_12 (by decide) (fun c_1 => ?_) (fun c_1 => ?_)
  · refine lv_iload_n F.1 F.2.1 dJ7_signedHashCode_35 rfl (lv_at hl 2 rfl) ?_
    exact rt_i F hQ hS (Nat.le_of_ble_eq_true rfl) (Nat.le_of_ble_eq_true rfl) () (congrArg (fun z => some (Value.int (iI z))) (show (hsM sws sws.length) = (hsM sws j) from by rw [show j = sws.length by omega])) trivial hP hD dJ7_signedHashCode_36
  · refine lv_bipush (v := iI 31) F.1 F.2.1 dJ7_signedHashCode_15 (bip_ok (by decide)) ?_
    refine lv_iload_n F.1 F.2.1 dJ7_signedHashCode_17 rfl (lv_at hl 2 rfl) ?_
    refine r_imul F dJ7_signedHashCode_18 ?_
    refine lv_aload_n F.1 F.2.1 dJ7_signedHashCode_19 rfl (lv_at hl 0 rfl) ?_
    refine lv_iload F.1 F.2.1 dJ7_signedHashCode_20 (lv_at hl 3 rfl) ?_
    refine r_bald F (g := (lf sws)) hE hP 0 rfl j rfl (by omega) (by omega) dJ7_signedHashCode_22 ?_
    refine lv_sipush (v := iI 255) F.1 F.2.1 dJ7_signedHashCode_23 (sip_ok (by decide)) ?_
    refine r_andm F 8 (by decide) (by decide +kernel) dJ7_signedHashCode_26 ?_
    refine r_iadd F dJ7_signedHashCode_27 ?_
    refine lv_istore_n (lv' := [(0, .int (iI ((31 * (hsM sws j)) + (((lf sws) j) % 2 ^ 8)))), (1, .ref sv), (4, .int (iI (sws.length : Int))), (5, .int (iI (j : Int)))]) F.1 F.2.1 dJ7_signedHashCode_28 rfl hl (Nat.le_of_ble_eq_true rfl) rfl (fun ls hl => ?_)
    refine lv_iinc (v := iI ((j : Int) + 1)) (lv' := [(5, .int (iI ((j : Int) + 1))), (0, .int (iI ((31 * (hsM sws j)) + (((lf sws) j) % 2 ^ 8)))), (1, .ref sv), (4, .int (iI (sws.length : Int)))]) (k := 3) F.1 F.2.1 dJ7_signedHashCode_29 hl rfl (iI_add _ _) (Nat.le_of_ble_eq_true rfl) rfl (fun ls hl => ?_)
    refine lv_goto (tgt := 8) F.1 F.2.1 dJ7_signedHashCode_32 (by decide) ?_
    have hl : lv_has ls 6 [(1, .ref sv), (4, .int (iI (sws.length : Int))), (0, .int (iI ((31 * (hsM sws j)) + (((lf sws) j) % 2 ^ 8)))), (5, .int (iI ((j : Int) + 1)))] := lv_sub hl [2, 3, 1, 0] rfl
    have hl := lv_cv (fun zZ : Int => [(1, .ref sv), (4, .int (iI (sws.length : Int))), (0, .int (iI zZ)), (5, .int (iI ((j : Int) + 1)))]) (show ((31 * (hsM sws j)) + (((lf sws) j) % 2 ^ 8)) = (hsM sws (j + 1)) from by show _ = 31 * hsM sws j + lf sws j; omega) hl
    have hl := lv_cv (fun zZ : Int => [(1, .ref sv), (4, .int (iI (sws.length : Int))), (0, .int (iI (hsM sws (j + 1)))), (5, .int (iI zZ))]) (show ((j : Int) + 1) = ((j + 1) : Int) from by first | rfl | omega | (simp; done) | (simp; omega)) hl
    have hl : lv_has ls 6 [(1, .ref sv), (4, .int (iI (sws.length : Int))), (0, .int (iI (hsM sws (j + 1)))), (5, .int (iI ((j + 1) : Int)))] := hl
    exact ih_8 (j + 1) _ _ _ (by first | omega | (dsimp only; omega)) ⟨hP, hD, hS, hl, (by omega)⟩
theorem hd_J7_signedHashCode : Hd yJ7_signedHashCode 4 := ⟨by decide +kernel, by decide +kernel, by decide +kernel⟩
set_option maxHeartbeats 1000000 in
theorem ct_J7_vectorizedHashCode {G : Gm} {l : Launch} (sv : Nat) (sws : List Int) (wl : va_W) (ht : TxL sws) (hn8 : sws.length ≤ 1000) : Ct G l yJ7_vectorizedHashCode (ws_ yJ7_vectorizedHashCode cJ7_vectorizedHashCode 5 (some .int)) ({ frames := 1, cells := 0, slots := 0, locals := 25 } : Room) [.ref sv, .int (iI 0), .int (iI (sws.length : Int)), .int (iI 0), .int (iI 4)] ([(sv, .inl (G.2.1 0, sws.length, .inl (aI (lf sws))))] ++ wl) (fun _ : Unit => True) (fun _ : Unit => ((some (.int (iI (hsM sws sws.length)))) : Option Value)) (fun _ : Unit => (([(sv, .inl (G.2.1 0, sws.length, .inl (aI (lf sws))))] ++ wl) : va_W)) := by
  refine Ct.of (by decide) rfl ?_
  intro pP eE sS mM below meth cC A ls Q F hE hA hP hD hS hl hQ
  have hl : lv_has ls 5 [(0, .ref sv), (1, .int (iI 0)), (2, .int (iI (sws.length : Int))), (3, .int (iI 0)), (4, .int (iI 4))] := hl
  refine lv_iload F.1 F.2.1 dJ7_vectorizedHashCode_0 (lv_at hl 4 rfl) ?_
  refine r_tswIn F (tgt := 44) (k0 := 4) rfl (by decide) (by decide) (by decide) rfl dJ7_vectorizedHashCode_2 (by decide) ?_
  refine lv_iload_n F.1 F.2.1 dJ7_vectorizedHashCode_44 rfl (lv_at hl 3 rfl) ?_
  refine lv_aload_n F.1 F.2.1 dJ7_vectorizedHashCode_45 rfl (lv_at hl 0 rfl) ?_
  refine r_castB F q622 hE hP 0 rfl dJ7_vectorizedHashCode_46 ?_
  refine lv_iload_n F.1 F.2.1 dJ7_vectorizedHashCode_49 rfl (lv_at hl 1 rfl) ?_
  refine lv_iload_n F.1 F.2.1 dJ7_vectorizedHashCode_50 rfl (lv_at hl 2 rfl) ?_
  refine cl_S F (ct_J7_signedHashCode sv sws wl ht hn8) hd_J7_signedHashCode q623 q624 q127 q625 hE hP hD hS hA (X := [(sv, .inl (G.2.1 0, sws.length, .inl (aI (lf sws))))]) (pl := wl) (cx := [(sv, .inl (G.2.1 0, sws.length, .inl (aI (lf sws))))]) (wr := []) [0] [] rfl rfl rfl rfl (by decide) rfl rfl rfl (Nat.le_of_ble_eq_true rfl) hl.1 dJ7_vectorizedHashCode_51 ⟨Nat.le_of_ble_eq_true rfl, Nat.le_of_ble_eq_true rfl⟩ ⟨Nat.le_of_ble_eq_true rfl, Nat.le_of_ble_eq_true rfl⟩ (fun _ H locs _ hP hD hS => ?_)
  have hP : va_P G.1 clG ([(sv, .inl (G.2.1 0, sws.length, .inl (aI (lf sws))))] ++ wl) _ := hP
  have hD : va_D A ([(sv, .inl (G.2.1 0, sws.length, .inl (aI (lf sws))))] ++ wl) := hD
  refine W.eq (g2 := F0 mM 54 ls [.int (iI (hsM sws sws.length))]) rfl ?_
  refine lv_goto (tgt := 157) F.1 F.2.1 dJ7_vectorizedHashCode_54 (by decide) ?_
  exact rt_i F hQ hS (Nat.le_of_ble_eq_true rfl) (Nat.le_of_ble_eq_true rfl) () rfl trivial hP hD dJ7_vectorizedHashCode_157
theorem hd_J7_vectorizedHashCode : Hd yJ7_vectorizedHashCode 5 := ⟨by decide +kernel, by decide +kernel, by decide +kernel⟩
set_option maxHeartbeats 1000000 in
theorem ct_J6_hashCode {G : Gm} {l : Launch} (sv : Nat) (sws : List Int) (wl : va_W) (ht : TxL sws) (hn8 : sws.length ≤ 1000) : Ct G l yJ6_hashCode (ws_ yJ6_hashCode cJ6_hashCode 1 (some .int)) ({ frames := 2, cells := 0, slots := 0, locals := 49 } : Room) [.ref sv] ([(sv, .inl (G.2.1 0, sws.length, .inl (aI (lf sws))))] ++ wl) (fun _ : Unit => True) (fun _ : Unit => ((some (.int (iI (hsM sws sws.length)))) : Option Value)) (fun _ : Unit => (([(sv, .inl (G.2.1 0, sws.length, .inl (aI (lf sws))))] ++ wl) : va_W)) := by
  refine Ct.of (by decide) rfl ?_
  intro pP eE sS mM below meth cC A ls Q F hE hA hP hD hS hl hQ
  have hl : lv_has ls 1 [(0, .ref sv)] := hl
  refine lv_aload_n F.1 F.2.1 dJ6_hashCode_0 rfl (lv_at hl 0 rfl) ?_
  refine r_alen F (t := 0) (n := sws.length) hE hP 0 rfl rfl dJ6_hashCode_1 ?_
  by_cases c_1 : (sws.length : Int) = 0
  · refine r_lsw F (tgt := 28) (off := 26) (by omega) dJ6_hashCode_2 (by decide) (by rw [c_1]; exact los_y) (by decide) ?_
    refine lv_iconst (v := iI 0) F.1 F.2.1 dJ6_hashCode_28 rfl ?_
    refine lv_goto (tgt := 51) F.1 F.2.1 dJ6_hashCode_29 (by decide) ?_
    exact rt_i F hQ hS (Nat.le_of_ble_eq_true rfl) (Nat.le_of_ble_eq_true rfl) () (congrArg (fun z => some (Value.int (iI z))) (show (hsM sws sws.length) = 0 from by first | rfl | (rw [show sws.length = 0 by omega]; rfl) | (rw [show sws.length = 1 by omega]; show 31 * 0 + lf sws 0 = _; have := ht 0; omega))) trivial hP hD dJ6_hashCode_51
  · by_cases c_2 : (sws.length : Int) = 1
    · refine r_lsw F (tgt := 32) (off := 30) (by omega) dJ6_hashCode_2 (by decide) (by rw [c_2]; rw [los_n (by decide)]; exact los_y) (by decide) ?_
      refine lv_aload_n F.1 F.2.1 dJ6_hashCode_32 rfl (lv_at hl 0 rfl) ?_
      refine lv_iconst (v := iI 0) F.1 F.2.1 dJ6_hashCode_33 rfl ?_
      refine r_bald F (g := (lf sws)) hE hP 0 rfl 0 rfl (by omega) (by omega) dJ6_hashCode_34 ?_
      refine lv_sipush (v := iI 255) F.1 F.2.1 dJ6_hashCode_35 (sip_ok (by decide)) ?_
      refine r_andm F 8 (by decide) (by decide +kernel) dJ6_hashCode_38 ?_
      refine lv_goto (tgt := 51) F.1 F.2.1 dJ6_hashCode_39 (by decide) ?_
      exact rt_i F hQ hS (Nat.le_of_ble_eq_true rfl) (Nat.le_of_ble_eq_true rfl) () (congrArg (fun z => some (Value.int (iI z))) (show (hsM sws sws.length) = (((lf sws) 0) % 2 ^ 8) from by first | rfl | (rw [show sws.length = 0 by omega]; rfl) | (rw [show sws.length = 1 by omega]; show 31 * 0 + lf sws 0 = _; have := ht 0; omega))) trivial hP hD dJ6_hashCode_51
    · refine r_lsw F (tgt := 42) (off := 40) (by omega) dJ6_hashCode_2 (by decide) (by rw [los_n (by omega), los_n (by omega)]; rfl) (by decide) ?_
      refine lv_aload_n F.1 F.2.1 dJ6_hashCode_42 rfl (lv_at hl 0 rfl) ?_
      refine lv_iconst (v := iI 0) F.1 F.2.1 dJ6_hashCode_43 rfl ?_
      refine lv_aload_n F.1 F.2.1 dJ6_hashCode_44 rfl (lv_at hl 0 rfl) ?_
      refine r_alen F (t := 0) (n := sws.length) hE hP 0 rfl rfl dJ6_hashCode_45 ?_
      refine lv_iconst (v := iI 0) F.1 F.2.1 dJ6_hashCode_46 rfl ?_
      refine lv_iconst (v := iI 4) F.1 F.2.1 dJ6_hashCode_47 rfl ?_
      refine cl_S F (ct_J7_vectorizedHashCode sv sws wl ht hn8) hd_J7_vectorizedHashCode q619 q620 q127 q621 hE hP hD hS hA (X := [(sv, .inl (G.2.1 0, sws.length, .inl (aI (lf sws))))]) (pl := wl) (cx := [(sv, .inl (G.2.1 0, sws.length, .inl (aI (lf sws))))]) (wr := []) [0] [] rfl rfl rfl rfl (by decide) rfl rfl rfl (Nat.le_of_ble_eq_true rfl) hl.1 dJ6_hashCode_48 ⟨Nat.le_of_ble_eq_true rfl, Nat.le_of_ble_eq_true rfl⟩ ⟨Nat.le_of_ble_eq_true rfl, Nat.le_of_ble_eq_true rfl⟩ (fun _ H locs _ hP hD hS => ?_)
      have hP : va_P G.1 clG ([(sv, .inl (G.2.1 0, sws.length, .inl (aI (lf sws))))] ++ wl) _ := hP
      have hD : va_D A ([(sv, .inl (G.2.1 0, sws.length, .inl (aI (lf sws))))] ++ wl) := hD
      refine W.eq (g2 := F0 mM 51 ls [.int (iI (hsM sws sws.length))]) rfl ?_
      exact rt_i F hQ hS (Nat.le_of_ble_eq_true rfl) (Nat.le_of_ble_eq_true rfl) () rfl trivial hP hD dJ6_hashCode_51
set_option maxHeartbeats 1000000 in
theorem ct_J3_isLatin1 {G : Gm} {l : Launch} (sa : Nat) (sv : Nat) (shs : Int) (shz : Int) (wl : va_W) : Ct G l yJ3_isLatin1 (ws_ yJ3_isLatin1 cJ3_isLatin1 1 (some .boolean)) ({ frames := 0, cells := 0, slots := 0, locals := 0 } : Room) [.ref sa] ([(sa, .inr (17, [.ref sv, .int (iI 0), .int (iI shs), .int (iI shz)]))] ++ wl) (fun _ : Unit => True) (fun _ : Unit => ((some (.int (iI 1))) : Option Value)) (fun _ : Unit => (([(sa, .inr (17, [.ref sv, .int (iI 0), .int (iI shs), .int (iI shz)]))] ++ wl) : va_W)) := by
  refine Ct.of (by decide) rfl ?_
  intro pP eE sS mM below meth cC A ls Q F hE hA hP hD hS hl hQ
  have hl : lv_has ls 1 [(0, .ref sa)] := hl
  refine r_compact F hE hS q535 dJ3_isLatin1_0 ?_
  refine r_if_eq F (tgt := 17) (by decide) dJ3_isLatin1_3 (by decide) (fun c_1 => ?_) (fun c_1 => ?_)
  · exact absurd c_1 (by decide)
  · refine lv_aload_n F.1 F.2.1 dJ3_isLatin1_6 rfl (lv_at hl 0 rfl) ?_
    refine r_get F (ci := 17) (v := .int (iI 0)) b_J3 hE hP 0 rfl 1 (by decide) q580 (fun _ h9 => h9) rfl dJ3_isLatin1_7 ?_
    refine r_if_ne F (tgt := 17) (by decide) dJ3_isLatin1_10 (by decide) (fun c_2 => ?_) (fun c_2 => ?_)
    · exact absurd c_2 (by decide)
    · refine lv_iconst (v := iI 1) F.1 F.2.1 dJ3_isLatin1_13 rfl ?_
      refine lv_goto (tgt := 18) F.1 F.2.1 dJ3_isLatin1_14 (by decide) ?_
      exact rt_z F hQ hS (Nat.le_of_ble_eq_true rfl) (Nat.le_of_ble_eq_true rfl) (Or.inr rfl) () rfl trivial hP hD dJ3_isLatin1_18
theorem hd_J3_isLatin1 : Hd yJ3_isLatin1 0 := ⟨by decide +kernel, by decide +kernel, by decide +kernel⟩
theorem hd_J6_hashCode : Hd yJ6_hashCode 1 := ⟨by decide +kernel, by decide +kernel, by decide +kernel⟩
set_option maxHeartbeats 1000000 in
theorem ct_J3_hashCode {G : Gm} {l : Launch} (sa : Nat) (sv : Nat) (sws : List Int) (shs : Int) (shz : Int) (wl : va_W) (ht : TxL sws) (hn8 : sws.length ≤ 1000) (hh : (shs = 0 ∨ shs = hsW sws) ∧ (shz = 0 ∨ (shz = 1 ∧ hsW sws = 0))) : Ct G l yJ3_hashCode (ws_ yJ3_hashCode cJ3_hashCode 2 (some .int)) ({ frames := 3, cells := 0, slots := 0, locals := 69 } : Room) [.ref sa] ([(sa, .inr (17, [.ref sv, .int (iI 0), .int (iI shs), .int (iI shz)])), (sv, .inl (G.2.1 0, sws.length, .inl (aI (lf sws))))] ++ wl) (fun (u : Int × Int) => match u with | (h1, z1) => (h1 = 0 ∨ h1 = hsW sws) ∧ (z1 = 0 ∨ (z1 = 1 ∧ hsW sws = 0))) (fun (u : Int × Int) => match u with | (h1, z1) => ((some (.int (iI (hsW sws)))) : Option Value)) (fun (u : Int × Int) => match u with | (h1, z1) => (([(sa, .inr (17, [.ref sv, .int (iI 0), .int (iI h1), .int (iI z1)])), (sv, .inl (G.2.1 0, sws.length, .inl (aI (lf sws))))] ++ wl) : va_W)) := by
  refine Ct.of (by decide) rfl ?_
  intro pP eE sS mM below meth cC A ls Q F hE hA hP hD hS hl hQ
  have hl : lv_has ls 2 [(0, .ref sa)] := hl
  have h3 : -2147483648 ≤ hsW sws ∧ hsW sws < 2147483648 := h32_in _
  refine lv_aload_n F.1 F.2.1 dJ3_hashCode_0 rfl (lv_at hl 0 rfl) ?_
  refine r_get F (ci := 17) (v := .int (iI shs)) b_J3 hE hP 0 rfl 2 (by decide) q581 (fun _ h9 => h9) rfl dJ3_hashCode_1 ?_
  refine lv_istore_n (lv' := [(1, .int (iI shs)), (0, .ref sa)]) F.1 F.2.1 dJ3_hashCode_4 rfl hl (Nat.le_of_ble_eq_true rfl) rfl (fun ls hl => ?_)
  refine lv_iload_n F.1 F.2.1 dJ3_hashCode_5 rfl (lv_at hl 0 rfl) ?_
  refine r_if_ne F (tgt := 58) (by omega) dJ3_hashCode_6 (by decide) (fun c_1 => ?_) (fun c_1 => ?_)
  · refine lv_iload_n F.1 F.2.1 dJ3_hashCode_58 rfl (lv_at hl 0 rfl) ?_
    exact rt_i F hQ hS (Nat.le_of_ble_eq_true rfl) (Nat.le_of_ble_eq_true rfl) (shs, shz) (congrArg (fun z => some (Value.int (iI z))) (show (hsW sws) = shs from by omega)) (by omega) hP hD dJ3_hashCode_59
  · refine lv_aload_n F.1 F.2.1 dJ3_hashCode_9 rfl (lv_at hl 1 rfl) ?_
    refine r_get F (ci := 17) (v := .int (iI shz)) b_J3 hE hP 0 rfl 3 (by decide) q582 (fun _ h9 => h9) rfl dJ3_hashCode_10 ?_
    refine r_if_ne F (tgt := 58) (by omega) dJ3_hashCode_13 (by decide) (fun c_2 => ?_) (fun c_2 => ?_)
    · refine lv_iload_n F.1 F.2.1 dJ3_hashCode_58 rfl (lv_at hl 0 rfl) ?_
      exact rt_i F hQ hS (Nat.le_of_ble_eq_true rfl) (Nat.le_of_ble_eq_true rfl) (shs, shz) (congrArg (fun z => some (Value.int (iI z))) (show (hsW sws) = shs from by omega)) (by omega) hP hD dJ3_hashCode_59
    · refine lv_aload_n F.1 F.2.1 dJ3_hashCode_16 rfl (lv_at hl 1 rfl) ?_
      refine cl_V F (C := "java/lang/String") (ct_J3_isLatin1 sa sv shs shz wl) hd_J3_isLatin1 rfl q612 q613 q614 q123 q615 (va_recv hE.1 hP (ci := 17) (q0 := 0) rfl rfl) hE hP hD hS hA (X := [(sa, .inr (17, [.ref sv, .int (iI 0), .int (iI shs), .int (iI shz)])), (sv, .inl (G.2.1 0, sws.length, .inl (aI (lf sws))))]) (pl := wl) (cx := [(sa, .inr (17, [.ref sv, .int (iI 0), .int (iI shs), .int (iI shz)]))]) (wr := [(sv, .inl (G.2.1 0, sws.length, .inl (aI (lf sws))))]) [0] [1] rfl rfl rfl rfl (by decide) rfl rfl rfl (Nat.le_of_ble_eq_true rfl) hl.1 dJ3_hashCode_17 ⟨Nat.le_of_ble_eq_true rfl, Nat.le_of_ble_eq_true rfl⟩ ⟨Nat.le_of_ble_eq_true rfl, Nat.le_of_ble_eq_true rfl⟩ (fun _ H locs _ hP hD hS => ?_)
      have hP : va_P G.1 clG ([(sv, .inl (G.2.1 0, sws.length, .inl (aI (lf sws)))), (sa, .inr (17, [.ref sv, .int (iI 0), .int (iI shs), .int (iI shz)]))] ++ wl) _ := hP
      have hD : va_D A ([(sv, .inl (G.2.1 0, sws.length, .inl (aI (lf sws)))), (sa, .inr (17, [.ref sv, .int (iI 0), .int (iI shs), .int (iI shz)]))] ++ wl) := hD
      refine W.eq (g2 := F0 mM 20 ls [.int (iI 1)]) rfl ?_
      refine r_if_eq F (tgt := 33) (by decide) dJ3_hashCode_20 (by decide) (fun c_5 => ?_) (fun c_5 => ?_)
      · exact absurd c_5 (by decide)
      · refine lv_aload_n F.1 F.2.1 dJ3_hashCode_23 rfl (lv_at hl 1 rfl) ?_
        refine r_get F (ci := 17) (v := .ref sv) b_J3 hE hP 1 rfl 0 (by decide) q579 (fun _ h9 => h9) rfl dJ3_hashCode_24 ?_
        refine cl_S F (ct_J6_hashCode sv sws wl ht hn8) hd_J6_hashCode q616 q617 q126 q618 hE hP hD hS hA (X := [(sv, .inl (G.2.1 0, sws.length, .inl (aI (lf sws)))), (sa, .inr (17, [.ref sv, .int (iI 0), .int (iI shs), .int (iI shz)]))]) (pl := wl) (cx := [(sv, .inl (G.2.1 0, sws.length, .inl (aI (lf sws))))]) (wr := [(sa, .inr (17, [.ref sv, .int (iI 0), .int (iI shs), .int (iI shz)]))]) [0] [1] rfl rfl rfl rfl (by decide) rfl rfl rfl (Nat.le_of_ble_eq_true rfl) hl.1 dJ3_hashCode_27 ⟨Nat.le_of_ble_eq_true rfl, Nat.le_of_ble_eq_true rfl⟩ ⟨Nat.le_of_ble_eq_true rfl, Nat.le_of_ble_eq_true rfl⟩ (fun _ H locs _ hP hD hS => ?_)
        have hP : va_P G.1 clG ([(sa, .inr (17, [.ref sv, .int (iI 0), .int (iI shs), .int (iI shz)])), (sv, .inl (G.2.1 0, sws.length, .inl (aI (lf sws))))] ++ wl) _ := hP
        have hD : va_D A ([(sa, .inr (17, [.ref sv, .int (iI 0), .int (iI shs), .int (iI shz)])), (sv, .inl (G.2.1 0, sws.length, .inl (aI (lf sws))))] ++ wl) := hD
        refine W.eq (g2 := F0 mM 30 ls [.int (iI (hsM sws sws.length))]) rfl ?_
        refine lv_goto (tgt := 40) F.1 F.2.1 dJ3_hashCode_30 (by decide) ?_
        refine top_i (x := iI (hsM sws sws.length)) (a := hsW sws) (iI_h32 _) ?_
        refine lv_istore_n (lv' := [(1, .int (iI (hsW sws))), (0, .ref sa)]) F.1 F.2.1 dJ3_hashCode_40 rfl hl (Nat.le_of_ble_eq_true rfl) rfl (fun ls hl => ?_)
        refine lv_iload_n F.1 F.2.1 dJ3_hashCode_41 rfl (lv_at hl 0 rfl) ?_
        refine r_if_ne F (tgt := 53) (by omega) dJ3_hashCode_42 (by decide) (fun c_8 => ?_) (fun c_8 => ?_)
        · refine lv_aload_n F.1 F.2.1 dJ3_hashCode_53 rfl (lv_at hl 1 rfl) ?_
          refine lv_iload_n F.1 F.2.1 dJ3_hashCode_54 rfl (lv_at hl 0 rfl) ?_
          refine r_put F (ci := 17) (v := .int (iI (hsW sws))) b_J3 hE hP hD hS 0 rfl 2 (by decide) q581 (fun _ h9 => h9) rfl rfl rfl (Nat.le_of_ble_eq_true rfl) dJ3_hashCode_55 (fun H locs hP hD hS => ?_)
          have hP : va_P G.1 clG ([(sa, .inr (17, [.ref sv, .int (iI 0), .int (iI (hsW sws)), .int (iI shz)])), (sv, .inl (G.2.1 0, sws.length, .inl (aI (lf sws))))] ++ wl) _ := hP
          have hD : va_D A ([(sa, .inr (17, [.ref sv, .int (iI 0), .int (iI (hsW sws)), .int (iI shz)])), (sv, .inl (G.2.1 0, sws.length, .inl (aI (lf sws))))] ++ wl) := hD
          refine lv_iload_n F.1 F.2.1 dJ3_hashCode_58 rfl (lv_at hl 0 rfl) ?_
          exact rt_i F hQ hS (Nat.le_of_ble_eq_true rfl) (Nat.le_of_ble_eq_true rfl) (hsW sws, shz) rfl (by omega) hP hD dJ3_hashCode_59
        · refine lv_aload_n F.1 F.2.1 dJ3_hashCode_45 rfl (lv_at hl 1 rfl) ?_
          refine lv_iconst (v := iI 1) F.1 F.2.1 dJ3_hashCode_46 rfl ?_
          refine r_put F (ci := 17) (v := .int (iI 1)) b_J3 hE hP hD hS 0 rfl 3 (by decide) q582 (fun _ h9 => h9) rfl (nb_p (Or.inr rfl)) (ft_z (Or.inr rfl)) (Nat.le_of_ble_eq_true rfl) dJ3_hashCode_47 (fun H locs hP hD hS => ?_)
          have hP : va_P G.1 clG ([(sa, .inr (17, [.ref sv, .int (iI 0), .int (iI shs), .int (iI 1)])), (sv, .inl (G.2.1 0, sws.length, .inl (aI (lf sws))))] ++ wl) _ := hP
          have hD : va_D A ([(sa, .inr (17, [.ref sv, .int (iI 0), .int (iI shs), .int (iI 1)])), (sv, .inl (G.2.1 0, sws.length, .inl (aI (lf sws))))] ++ wl) := hD
          refine lv_goto (tgt := 58) F.1 F.2.1 dJ3_hashCode_50 (by decide) ?_
          refine lv_iload_n F.1 F.2.1 dJ3_hashCode_58 rfl (lv_at hl 0 rfl) ?_
          exact rt_i F hQ hS (Nat.le_of_ble_eq_true rfl) (Nat.le_of_ble_eq_true rfl) (shs, 1) rfl (by omega) hP hD dJ3_hashCode_59
set_option maxHeartbeats 1000000 in
theorem ct_J6_equals_cr {G : Gm} {l : Launch} (av : Nat) (bv : Nat) (aws : List Int) (bws : List Int) (wl : va_W) (ha : TxL aws) (hb : TxL bws) (hna : aws.length ≤ 1000) (hnb : bws.length ≤ 1000) (hbv : (bv, .inl (G.2.1 0, bws.length, .inl (aI (lf bws)))) ∈ wl) : Ct G l yJ6_equals (ws_ yJ6_equals cJ6_equals 3 (some .boolean)) ({ frames := 0, cells := 0, slots := 0, locals := 0 } : Room) [.ref av, .ref bv] ([(av, .inl (G.2.1 0, aws.length, .inl (aI (lf aws))))] ++ wl) (fun _ : Unit => True) (fun _ : Unit => ((some (.int (iI (pI (aws = bws))))) : Option Value)) (fun _ : Unit => (([(av, .inl (G.2.1 0, aws.length, .inl (aI (lf aws))))] ++ wl) : va_W)) := by
  refine Ct.of (by decide) rfl ?_
  intro pP eE sS mM below meth cC A ls Q F hE hA hP hD hS hl hQ
  have hl : lv_has ls 3 [(0, .ref av), (1, .ref bv)] := hl
  refine lv_aload_n F.1 F.2.1 dJ6_equals_0 rfl (lv_at hl 0 rfl) ?_
  refine r_alen F (t := 0) (n := aws.length) hE hP 0 rfl rfl dJ6_equals_1 ?_
  refine lv_aload_n F.1 F.2.1 dJ6_equals_2 rfl (lv_at hl 1 rfl) ?_
  obtain ⟨k_1, hk_2⟩ := mem_at (X := [(av, .inl (G.2.1 0, aws.length, .inl (aI (lf aws))))]) hbv
  refine r_alen F (t := 0) (n := bws.length) hE hP k_1 hk_2 rfl dJ6_equals_3 ?_
  refine r_icmp_ne F (tgt := 34) (by omega) (by omega) dJ6_equals_4 (by decide) (fun c_3 => ?_) (fun c_3 => ?_)
  · refine lv_iconst (v := iI 0) F.1 F.2.1 dJ6_equals_34 rfl ?_
    exact rt_z F hQ hS (Nat.le_of_ble_eq_true rfl) (Nat.le_of_ble_eq_true rfl) (Or.inl rfl) () (congrArg (fun z => some (Value.int (iI z))) (show (pI (aws = bws)) = 0 from by exact pI_f (fun q => by subst q; omega))) trivial hP hD dJ6_equals_35
  · refine lv_iconst (v := iI 0) F.1 F.2.1 dJ6_equals_7 rfl ?_
    refine lv_istore_n (lv' := [(2, .int (iI 0)), (0, .ref av), (1, .ref bv)]) F.1 F.2.1 dJ6_equals_8 rfl hl (Nat.le_of_ble_eq_true rfl) rfl (fun ls hl => ?_)
    have hl : lv_has ls 3 [(0, .ref av), (1, .ref bv), (2, .int (iI 0))] := lv_sub hl [1, 2, 0] rfl
    have hl := lv_cv (fun zZ : Int => [(0, .ref av), (1, .ref bv), (2, .int (iI zZ))]) (show 0 = (0 : Int) from by first | rfl | omega | (simp; done) | (simp; omega)) hl
    have hl : lv_has ls 3 [(0, .ref av), (1, .ref bv), (2, .int (iI (0 : Int)))] := hl
    refine lp_s (σ := Nat) (hd := 9) (st := []) (fun (j : Nat) => aws.length - j) (fun (j : Nat) H locs ls => va_P G.1 clG ([(av, .inl (G.2.1 0, aws.length, .inl (aI (lf aws))))] ++ wl) H ∧ va_D A ([(av, .inl (G.2.1 0, aws.length, .inl (aI (lf aws))))] ++ wl) ∧ va_S A sS.heap H locs ∧ lv_has ls 3 [(0, .ref av), (1, .ref bv), (2, .int (iI (j : Int)))] ∧ (j ≤ aws.length) ∧ (∀ i, i < j → lf aws i = lf bws i)) (fun (j : Nat) => 0) (fun (j : Nat) => 0) ?_ 0 _ _ _ ⟨hP, hD, hS, hl, (by omega), (fun i hi => absurd hi (Nat.not_lt_zero _))⟩
    rintro j H locs ls ⟨hP, hD, hS, hl, hj, hq⟩ ih_9
    have haj := ha j
    have hbj := hb j
    refine lv_iload_n F.1 F.2.1 dJ6_equals_9 rfl (lv_at hl 2 rfl) ?_
    refine lv_aload_n F.1 F.2.1 dJ6_equals_10 rfl (lv_at hl 0 rfl) ?_
    refine r_alen F (t := 0) (n := aws.length) hE hP 0 rfl rfl dJ6_equals_11 ?_
    refine r_icmp_ge F (tgt := 32) (by omega) (by omega) dJ6_equals_12 (by decide) (fun c_4 => ?_) (fun c_4 => ?_)
    · refine lv_iconst (v := iI 1) F.1 F.2.1 dJ6_equals_32 rfl ?_
      exact rt_z F hQ hS (Nat.le_of_ble_eq_true rfl) (Nat.le_of_ble_eq_true rfl) (Or.inr rfl) () (congrArg (fun z => some (Value.int (iI z))) (show (pI (aws = bws)) = 1 from by exact pI_t (lf_eq (by omega) (fun i hi => hq i (by omega))))) trivial hP hD dJ6_equals_33
    · refine lv_aload_n F.1 F.2.1 dJ6_equals_15 rfl (lv_at hl 0 rfl) ?_
      refine lv_iload_n F.1 F.2.1 dJ6_equals_16 rfl (lv_at hl 2 rfl) ?_
      refine r_bald F (g := (lf aws)) hE hP 0 rfl j rfl (by omega) (by omega) dJ6_equals_17 ?_
      refine lv_aload_n F.1 F.2.1 dJ6_equals_18 rfl (lv_at hl 1 rfl) ?_
      refine lv_iload_n F.1 F.2.1 dJ6_equals_19 rfl (lv_at hl 2 rfl) ?_
      obtain ⟨k_5, hk_6⟩ := mem_at (X := [(av, .inl (G.2.1 0, aws.length, .inl (aI (lf aws))))]) hbv
      refine r_bald F (g := (lf bws)) hE hP k_5 hk_6 j rfl (by omega) (by omega) dJ6_equals_20 ?_
      refine r_icmp_eq F (tgt := 26) (by omega) (by omega) dJ6_equals_21 (by decide) (fun c_7 => ?_) (fun c_7 => ?_)
      · refine lv_iinc (v := iI ((j : Int) + 1)) (lv' := [(2, .int (iI ((j : Int) + 1))), (0, .ref av), (1, .ref bv)]) (k := 2) F.1 F.2.1 dJ6_equals_26 hl rfl (iI_add _ _) (Nat.le_of_ble_eq_true rfl) rfl (fun ls hl => ?_)
        refine lv_goto (tgt := 9) F.1 F.2.1 dJ6_equals_29 (by decide) ?_
        have hl : lv_has ls 3 [(0, .ref av), (1, .ref bv), (2, .int (iI ((j : Int) + 1)))] := lv_sub hl [1, 2, 0] rfl
        have hl := lv_cv (fun zZ : Int => [(0, .ref av), (1, .ref bv), (2, .int (iI zZ))]) (show ((j : Int) + 1) = ((j + 1) : Int) from by first | rfl | omega | (simp; done) | (simp; omega)) hl
        have hl : lv_has ls 3 [(0, .ref av), (1, .ref bv), (2, .int (iI ((j + 1) : Int)))] := hl
        exact ih_9 (j + 1) _ _ _ (by first | omega | (dsimp only; omega)) ⟨hP, hD, hS, hl, (by omega), (fun i hi => by rcases (show i < j ∨ i = j by omega) with q | rfl; exact hq i q; assumption)⟩
      · refine lv_iconst (v := iI 0) F.1 F.2.1 dJ6_equals_24 rfl ?_
        exact rt_z F hQ hS (Nat.le_of_ble_eq_true rfl) (Nat.le_of_ble_eq_true rfl) (Or.inl rfl) () (congrArg (fun z => some (Value.int (iI z))) (show (pI (aws = bws)) = 0 from by exact pI_f (fun q => by subst q; exact absurd rfl (by assumption)))) trivial hP hD dJ6_equals_25
set_option maxHeartbeats 1000000 in
theorem ct_J6_equals_rc {G : Gm} {l : Launch} (av : Nat) (bv : Nat) (aws : List Int) (bws : List Int) (wl : va_W) (ha : TxL aws) (hb : TxL bws) (hna : aws.length ≤ 1000) (hnb : bws.length ≤ 1000) (hav : (av, .inl (G.2.1 0, aws.length, .inl (aI (lf aws)))) ∈ wl) : Ct G l yJ6_equals (ws_ yJ6_equals cJ6_equals 3 (some .boolean)) ({ frames := 0, cells := 0, slots := 0, locals := 0 } : Room) [.ref av, .ref bv] ([(bv, .inl (G.2.1 0, bws.length, .inl (aI (lf bws))))] ++ wl) (fun _ : Unit => True) (fun _ : Unit => ((some (.int (iI (pI (aws = bws))))) : Option Value)) (fun _ : Unit => (([(bv, .inl (G.2.1 0, bws.length, .inl (aI (lf bws))))] ++ wl) : va_W)) := by
  refine Ct.of (by decide) rfl ?_
  intro pP eE sS mM below meth cC A ls Q F hE hA hP hD hS hl hQ
  have hl : lv_has ls 3 [(0, .ref av), (1, .ref bv)] := hl
  refine lv_aload_n F.1 F.2.1 dJ6_equals_0 rfl (lv_at hl 0 rfl) ?_
  obtain ⟨k_1, hk_2⟩ := mem_at (X := [(bv, .inl (G.2.1 0, bws.length, .inl (aI (lf bws))))]) hav
  refine r_alen F (t := 0) (n := aws.length) hE hP k_1 hk_2 rfl dJ6_equals_1 ?_
  refine lv_aload_n F.1 F.2.1 dJ6_equals_2 rfl (lv_at hl 1 rfl) ?_
  refine r_alen F (t := 0) (n := bws.length) hE hP 0 rfl rfl dJ6_equals_3 ?_
  refine r_icmp_ne F (tgt := 34) (by omega) (by omega) dJ6_equals_4 (by decide) (fun c_3 => ?_) (fun c_3 => ?_)
  · refine lv_iconst (v := iI 0) F.1 F.2.1 dJ6_equals_34 rfl ?_
    exact rt_z F hQ hS (Nat.le_of_ble_eq_true rfl) (Nat.le_of_ble_eq_true rfl) (Or.inl rfl) () (congrArg (fun z => some (Value.int (iI z))) (show (pI (aws = bws)) = 0 from by exact pI_f (fun q => by subst q; omega))) trivial hP hD dJ6_equals_35
  · refine lv_iconst (v := iI 0) F.1 F.2.1 dJ6_equals_7 rfl ?_
    refine lv_istore_n (lv' := [(2, .int (iI 0)), (0, .ref av), (1, .ref bv)]) F.1 F.2.1 dJ6_equals_8 rfl hl (Nat.le_of_ble_eq_true rfl) rfl (fun ls hl => ?_)
    have hl : lv_has ls 3 [(0, .ref av), (1, .ref bv), (2, .int (iI 0))] := lv_sub hl [1, 2, 0] rfl
    have hl := lv_cv (fun zZ : Int => [(0, .ref av), (1, .ref bv), (2, .int (iI zZ))]) (show 0 = (0 : Int) from by first | rfl | omega | (simp; done) | (simp; omega)) hl
    have hl : lv_has ls 3 [(0, .ref av), (1, .ref bv), (2, .int (iI (0 : Int)))] := hl
    refine lp_s (σ := Nat) (hd := 9) (st := []) (fun (j : Nat) => aws.length - j) (fun (j : Nat) H locs ls => va_P G.1 clG ([(bv, .inl (G.2.1 0, bws.length, .inl (aI (lf bws))))] ++ wl) H ∧ va_D A ([(bv, .inl (G.2.1 0, bws.length, .inl (aI (lf bws))))] ++ wl) ∧ va_S A sS.heap H locs ∧ lv_has ls 3 [(0, .ref av), (1, .ref bv), (2, .int (iI (j : Int)))] ∧ (j ≤ aws.length) ∧ (∀ i, i < j → lf aws i = lf bws i)) (fun (j : Nat) => 0) (fun (j : Nat) => 0) ?_ 0 _ _ _ ⟨hP, hD, hS, hl, (by omega), (fun i hi => absurd hi (Nat.not_lt_zero _))⟩
    rintro j H locs ls ⟨hP, hD, hS, hl, hj, hq⟩ ih_9
    have haj := ha j
    have hbj := hb j
    refine lv_iload_n F.1 F.2.1 dJ6_equals_9 rfl (lv_at hl 2 rfl) ?_
    refine lv_aload_n F.1 F.2.1 dJ6_equals_10 rfl (lv_at hl 0 rfl) ?_
    obtain ⟨k_4, hk_5⟩ := mem_at (X := [(bv, .inl (G.2.1 0, bws.length, .inl (aI (lf bws))))]) hav
    refine r_alen F (t := 0) (n := aws.length) hE hP k_4 hk_5 rfl dJ6_equals_11 ?_
    refine r_icmp_ge F (tgt := 32) (by omega) (by omega) dJ6_equals_12 (by decide) (fun c_6 => ?_) (fun c_6 => ?_)
    · refine lv_iconst (v := iI 1) F.1 F.2.1 dJ6_equals_32 rfl ?_
      exact rt_z F hQ hS (Nat.le_of_ble_eq_true rfl) (Nat.le_of_ble_eq_true rfl) (Or.inr rfl) () (congrArg (fun z => some (Value.int (iI z))) (show (pI (aws = bws)) = 1 from by exact pI_t (lf_eq (by omega) (fun i hi => hq i (by omega))))) trivial hP hD dJ6_equals_33
    · refine lv_aload_n F.1 F.2.1 dJ6_equals_15 rfl (lv_at hl 0 rfl) ?_
      refine lv_iload_n F.1 F.2.1 dJ6_equals_16 rfl (lv_at hl 2 rfl) ?_
      obtain ⟨k_7, hk_8⟩ := mem_at (X := [(bv, .inl (G.2.1 0, bws.length, .inl (aI (lf bws))))]) hav
      refine r_bald F (g := (lf aws)) hE hP k_7 hk_8 j rfl (by omega) (by omega) dJ6_equals_17 ?_
      refine lv_aload_n F.1 F.2.1 dJ6_equals_18 rfl (lv_at hl 1 rfl) ?_
      refine lv_iload_n F.1 F.2.1 dJ6_equals_19 rfl (lv_at hl 2 rfl) ?_
      refine r_bald F (g := (lf bws)) hE hP 0 rfl j rfl (by omega) (by omega) dJ6_equals_20 ?_
      refine r_icmp_eq F (tgt := 26) (by omega) (by omega) dJ6_equals_21 (by decide) (fun c_9 => ?_) (fun c_9 => ?_)
      · refine lv_iinc (v := iI ((j : Int) + 1)) (lv' := [(2, .int (iI ((j : Int) + 1))), (0, .ref av), (1, .ref bv)]) (k := 2) F.1 F.2.1 dJ6_equals_26 hl rfl (iI_add _ _) (Nat.le_of_ble_eq_true rfl) rfl (fun ls hl => ?_)
        refine lv_goto (tgt := 9) F.1 F.2.1 dJ6_equals_29 (by decide) ?_
        have hl : lv_has ls 3 [(0, .ref av), (1, .ref bv), (2, .int (iI ((j : Int) + 1)))] := lv_sub hl [1, 2, 0] rfl
        have hl := lv_cv (fun zZ : Int => [(0, .ref av), (1, .ref bv), (2, .int (iI zZ))]) (show ((j : Int) + 1) = ((j + 1) : Int) from by first | rfl | omega | (simp; done) | (simp; omega)) hl
        have hl : lv_has ls 3 [(0, .ref av), (1, .ref bv), (2, .int (iI ((j + 1) : Int)))] := hl
        exact ih_9 (j + 1) _ _ _ (by first | omega | (dsimp only; omega)) ⟨hP, hD, hS, hl, (by omega), (fun i hi => by rcases (show i < j ∨ i = j by omega) with q | rfl; exact hq i q; assumption)⟩
      · refine lv_iconst (v := iI 0) F.1 F.2.1 dJ6_equals_24 rfl ?_
        exact rt_z F hQ hS (Nat.le_of_ble_eq_true rfl) (Nat.le_of_ble_eq_true rfl) (Or.inl rfl) () (congrArg (fun z => some (Value.int (iI z))) (show (pI (aws = bws)) = 0 from by exact pI_f (fun q => by subst q; exact absurd rfl (by assumption)))) trivial hP hD dJ6_equals_25
theorem hd_J6_equals : Hd yJ6_equals 2 := ⟨by decide +kernel, by decide +kernel, by decide +kernel⟩
set_option maxHeartbeats 1000000 in
theorem ct_J3_equals_cr {G : Gm} {l : Launch} (aa : Nat) (av : Nat) (aws : List Int) (ahs : Int) (ahz : Int) (ba : Nat) (bv : Nat) (bws : List Int) (bhs : Int) (bhz : Int) (wl : va_W) (ha : TxL aws) (hb : TxL bws) (hna : aws.length ≤ 1000) (hnb : bws.length ≤ 1000) (hbo : (ba, .inr (17, [.ref bv, .int (iI 0), .int (iI bhs), .int (iI bhz)])) ∈ wl) (hbv : (bv, .inl (G.2.1 0, bws.length, .inl (aI (lf bws)))) ∈ wl) : Ct G l yJ3_equals (ws_ yJ3_equals cJ3_equals 3 (some .boolean)) ({ frames := 1, cells := 0, slots := 0, locals := 22 } : Room) [.ref aa, .ref ba] ([(aa, .inr (17, [.ref av, .int (iI 0), .int (iI ahs), .int (iI ahz)])), (av, .inl (G.2.1 0, aws.length, .inl (aI (lf aws))))] ++ wl) (fun _ : Unit => True) (fun _ : Unit => ((some (.int (iI (pI (aws = bws))))) : Option Value)) (fun _ : Unit => (([(aa, .inr (17, [.ref av, .int (iI 0), .int (iI ahs), .int (iI ahz)])), (av, .inl (G.2.1 0, aws.length, .inl (aI (lf aws))))] ++ wl) : va_W)) := by
  refine Ct.of (by decide) rfl ?_
  intro pP eE sS mM below meth cC A ls Q F hE hA hP hD hS hl hQ
  have hl : lv_has ls 3 [(0, .ref aa), (1, .ref ba)] := hl
  refine lv_aload_n F.1 F.2.1 dJ3_equals_0 rfl (lv_at hl 0 rfl) ?_
  refine lv_aload_n F.1 F.2.1 dJ3_equals_1 rfl (lv_at hl 1 rfl) ?_
  refine r_acmp_ne F (tgt := 7) (apart (X := [(aa, .inr (17, [.ref av, .int (iI 0), .int (iI ahs), .int (iI ahz)])), (av, .inl (G.2.1 0, aws.length, .inl (aI (lf aws))))]) hD (i := 0) rfl hbo) dJ3_equals_2 (by decide) ?_
  refine lv_aload_n F.1 F.2.1 dJ3_equals_7 rfl (lv_at hl 1 rfl) ?_
  obtain ⟨k_1, hk_2⟩ := mem_at (X := [(aa, .inr (17, [.ref av, .int (iI 0), .int (iI ahs), .int (iI ahz)])), (av, .inl (G.2.1 0, aws.length, .inl (aI (lf aws))))]) hbo
  refine r_instS F b_J3 q666 hE hP k_1 hk_2 dJ3_equals_8 ?_
  refine r_if_eq F (tgt := 54) (by decide) dJ3_equals_11 (by decide) (fun c_3 => ?_) (fun c_3 => ?_)
  · exact absurd c_3 (by decide)
  · refine lv_aload_n F.1 F.2.1 dJ3_equals_14 rfl (lv_at hl 1 rfl) ?_
    obtain ⟨k_4, hk_5⟩ := mem_at (X := [(aa, .inr (17, [.ref av, .int (iI 0), .int (iI ahs), .int (iI ahz)])), (av, .inl (G.2.1 0, aws.length, .inl (aI (lf aws))))]) hbo
    refine r_castS F b_J3 q666 hE hP k_4 hk_5 dJ3_equals_15 ?_
    refine lv_astore_n (lv' := [(2, .ref ba), (0, .ref aa), (1, .ref ba)]) F.1 F.2.1 dJ3_equals_18 rfl hl (Nat.le_of_ble_eq_true rfl) rfl (fun ls hl => ?_)
    refine r_compact F hE hS q535 dJ3_equals_19 ?_
    refine r_if_eq F (tgt := 36) (by decide) dJ3_equals_22 (by decide) (fun c_6 => ?_) (fun c_6 => ?_)
    · exact absurd c_6 (by decide)
    · refine lv_aload_n F.1 F.2.1 dJ3_equals_25 rfl (lv_at hl 1 rfl) ?_
      refine r_get F (ci := 17) (v := .int (iI 0)) b_J3 hE hP 0 rfl 1 (by decide) q580 (fun _ h9 => h9) rfl dJ3_equals_26 ?_
      refine lv_aload_n F.1 F.2.1 dJ3_equals_29 rfl (lv_at hl 0 rfl) ?_
      obtain ⟨k_7, hk_8⟩ := mem_at (X := [(aa, .inr (17, [.ref av, .int (iI 0), .int (iI ahs), .int (iI ahz)])), (av, .inl (G.2.1 0, aws.length, .inl (aI (lf aws))))]) hbo
      refine r_get F (ci := 17) (v := .int (iI 0)) b_J3 hE hP k_7 hk_8 1 (by decide) q580 (fun _ h9 => h9) rfl dJ3_equals_30 ?_
      refine r_icmp_ne F (tgt := 54) (by decide) (by decide) dJ3_equals_33 (by decide) (fun c_9 => ?_) (fun c_9 => ?_)
      · exact absurd c_9 (by decide)
      · refine lv_aload_n F.1 F.2.1 dJ3_equals_36 rfl (lv_at hl 1 rfl) ?_
        refine r_get F (ci := 17) (v := .ref av) b_J3 hE hP 0 rfl 0 (by decide) q579 (fun _ h9 => h9) rfl dJ3_equals_37 ?_
        refine lv_aload_n F.1 F.2.1 dJ3_equals_40 rfl (lv_at hl 0 rfl) ?_
        obtain ⟨k_10, hk_11⟩ := mem_at (X := [(aa, .inr (17, [.ref av, .int (iI 0), .int (iI ahs), .int (iI ahz)])), (av, .inl (G.2.1 0, aws.length, .inl (aI (lf aws))))]) hbo
        refine r_get F (ci := 17) (v := .ref bv) b_J3 hE hP k_10 hk_11 0 (by decide) q579 (fun _ h9 => h9) rfl dJ3_equals_41 ?_
        refine cl_S F (ct_J6_equals_cr av bv aws bws wl ha hb hna hnb hbv) hd_J6_equals q667 q668 q126 q669 hE hP hD hS hA (X := [(aa, .inr (17, [.ref av, .int (iI 0), .int (iI ahs), .int (iI ahz)])), (av, .inl (G.2.1 0, aws.length, .inl (aI (lf aws))))]) (pl := wl) (cx := [(av, .inl (G.2.1 0, aws.length, .inl (aI (lf aws))))]) (wr := [(aa, .inr (17, [.ref av, .int (iI 0), .int (iI ahs), .int (iI ahz)]))]) [1] [0] rfl rfl rfl rfl (by decide) rfl rfl rfl (Nat.le_of_ble_eq_true rfl) hl.1 dJ3_equals_44 ⟨Nat.le_of_ble_eq_true rfl, Nat.le_of_ble_eq_true rfl⟩ ⟨Nat.le_of_ble_eq_true rfl, Nat.le_of_ble_eq_true rfl⟩ (fun _ H locs _ hP hD hS => ?_)
        have hP : va_P G.1 clG ([(aa, .inr (17, [.ref av, .int (iI 0), .int (iI ahs), .int (iI ahz)])), (av, .inl (G.2.1 0, aws.length, .inl (aI (lf aws))))] ++ wl) _ := hP
        have hD : va_D A ([(aa, .inr (17, [.ref av, .int (iI 0), .int (iI ahs), .int (iI ahz)])), (av, .inl (G.2.1 0, aws.length, .inl (aI (lf aws))))] ++ wl) := hD
        refine W.eq (g2 := F0 mM 47 ls [.int (iI (pI (aws = bws)))]) rfl ?_
        refine r_ifz F (tgt := 54) dJ3_equals_47 (by decide) (fun c_14 => ?_) (fun c_14 => ?_)
        · refine lv_iconst (v := iI 0) F.1 F.2.1 dJ3_equals_54 rfl ?_
          exact rt_z F hQ hS (Nat.le_of_ble_eq_true rfl) (Nat.le_of_ble_eq_true rfl) (Or.inl rfl) () (congrArg (fun z => some (Value.int (iI z))) (show (pI (aws = bws)) = 0 from by exact pI_f (by omega))) trivial hP hD dJ3_equals_55
        · refine lv_iconst (v := iI 1) F.1 F.2.1 dJ3_equals_50 rfl ?_
          refine lv_goto (tgt := 55) F.1 F.2.1 dJ3_equals_51 (by decide) ?_
          exact rt_z F hQ hS (Nat.le_of_ble_eq_true rfl) (Nat.le_of_ble_eq_true rfl) (Or.inr rfl) () (congrArg (fun z => some (Value.int (iI z))) (show (pI (aws = bws)) = 1 from by exact pI_t (by omega))) trivial hP hD dJ3_equals_55
set_option maxHeartbeats 1000000 in
theorem ct_J3_equals_rc {G : Gm} {l : Launch} (aa : Nat) (av : Nat) (aws : List Int) (ahs : Int) (ahz : Int) (ba : Nat) (bv : Nat) (bws : List Int) (bhs : Int) (bhz : Int) (wl : va_W) (ha : TxL aws) (hb : TxL bws) (hna : aws.length ≤ 1000) (hnb : bws.length ≤ 1000) (hao : (aa, .inr (17, [.ref av, .int (iI 0), .int (iI ahs), .int (iI ahz)])) ∈ wl) (hav : (av, .inl (G.2.1 0, aws.length, .inl (aI (lf aws)))) ∈ wl) : Ct G l yJ3_equals (ws_ yJ3_equals cJ3_equals 3 (some .boolean)) ({ frames := 1, cells := 0, slots := 0, locals := 22 } : Room) [.ref aa, .ref ba] ([(ba, .inr (17, [.ref bv, .int (iI 0), .int (iI bhs), .int (iI bhz)])), (bv, .inl (G.2.1 0, bws.length, .inl (aI (lf bws))))] ++ wl) (fun _ : Unit => True) (fun _ : Unit => ((some (.int (iI (pI (aws = bws))))) : Option Value)) (fun _ : Unit => (([(ba, .inr (17, [.ref bv, .int (iI 0), .int (iI bhs), .int (iI bhz)])), (bv, .inl (G.2.1 0, bws.length, .inl (aI (lf bws))))] ++ wl) : va_W)) := by
  refine Ct.of (by decide) rfl ?_
  intro pP eE sS mM below meth cC A ls Q F hE hA hP hD hS hl hQ
  have hl : lv_has ls 3 [(0, .ref aa), (1, .ref ba)] := hl
  refine lv_aload_n F.1 F.2.1 dJ3_equals_0 rfl (lv_at hl 0 rfl) ?_
  refine lv_aload_n F.1 F.2.1 dJ3_equals_1 rfl (lv_at hl 1 rfl) ?_
  refine r_acmp_ne F (tgt := 7) (fun q => apart (X := [(ba, .inr (17, [.ref bv, .int (iI 0), .int (iI bhs), .int (iI bhz)])), (bv, .inl (G.2.1 0, bws.length, .inl (aI (lf bws))))]) hD (i := 0) rfl hao q.symm) dJ3_equals_2 (by decide) ?_
  refine lv_aload_n F.1 F.2.1 dJ3_equals_7 rfl (lv_at hl 1 rfl) ?_
  refine r_instS F b_J3 q666 hE hP 0 rfl dJ3_equals_8 ?_
  refine r_if_eq F (tgt := 54) (by decide) dJ3_equals_11 (by decide) (fun c_1 => ?_) (fun c_1 => ?_)
  · exact absurd c_1 (by decide)
  · refine lv_aload_n F.1 F.2.1 dJ3_equals_14 rfl (lv_at hl 1 rfl) ?_
    refine r_castS F b_J3 q666 hE hP 0 rfl dJ3_equals_15 ?_
    refine lv_astore_n (lv' := [(2, .ref ba), (0, .ref aa), (1, .ref ba)]) F.1 F.2.1 dJ3_equals_18 rfl hl (Nat.le_of_ble_eq_true rfl) rfl (fun ls hl => ?_)
    refine r_compact F hE hS q535 dJ3_equals_19 ?_
    refine r_if_eq F (tgt := 36) (by decide) dJ3_equals_22 (by decide) (fun c_2 => ?_) (fun c_2 => ?_)
    · exact absurd c_2 (by decide)
    · refine lv_aload_n F.1 F.2.1 dJ3_equals_25 rfl (lv_at hl 1 rfl) ?_
      obtain ⟨k_3, hk_4⟩ := mem_at (X := [(ba, .inr (17, [.ref bv, .int (iI 0), .int (iI bhs), .int (iI bhz)])), (bv, .inl (G.2.1 0, bws.length, .inl (aI (lf bws))))]) hao
      refine r_get F (ci := 17) (v := .int (iI 0)) b_J3 hE hP k_3 hk_4 1 (by decide) q580 (fun _ h9 => h9) rfl dJ3_equals_26 ?_
      refine lv_aload_n F.1 F.2.1 dJ3_equals_29 rfl (lv_at hl 0 rfl) ?_
      refine r_get F (ci := 17) (v := .int (iI 0)) b_J3 hE hP 0 rfl 1 (by decide) q580 (fun _ h9 => h9) rfl dJ3_equals_30 ?_
      refine r_icmp_ne F (tgt := 54) (by decide) (by decide) dJ3_equals_33 (by decide) (fun c_5 => ?_) (fun c_5 => ?_)
      · exact absurd c_5 (by decide)
      · refine lv_aload_n F.1 F.2.1 dJ3_equals_36 rfl (lv_at hl 1 rfl) ?_
        obtain ⟨k_6, hk_7⟩ := mem_at (X := [(ba, .inr (17, [.ref bv, .int (iI 0), .int (iI bhs), .int (iI bhz)])), (bv, .inl (G.2.1 0, bws.length, .inl (aI (lf bws))))]) hao
        refine r_get F (ci := 17) (v := .ref av) b_J3 hE hP k_6 hk_7 0 (by decide) q579 (fun _ h9 => h9) rfl dJ3_equals_37 ?_
        refine lv_aload_n F.1 F.2.1 dJ3_equals_40 rfl (lv_at hl 0 rfl) ?_
        refine r_get F (ci := 17) (v := .ref bv) b_J3 hE hP 0 rfl 0 (by decide) q579 (fun _ h9 => h9) rfl dJ3_equals_41 ?_
        refine cl_S F (ct_J6_equals_rc av bv aws bws wl ha hb hna hnb hav) hd_J6_equals q667 q668 q126 q669 hE hP hD hS hA (X := [(ba, .inr (17, [.ref bv, .int (iI 0), .int (iI bhs), .int (iI bhz)])), (bv, .inl (G.2.1 0, bws.length, .inl (aI (lf bws))))]) (pl := wl) (cx := [(bv, .inl (G.2.1 0, bws.length, .inl (aI (lf bws))))]) (wr := [(ba, .inr (17, [.ref bv, .int (iI 0), .int (iI bhs), .int (iI bhz)]))]) [1] [0] rfl rfl rfl rfl (by decide) rfl rfl rfl (Nat.le_of_ble_eq_true rfl) hl.1 dJ3_equals_44 ⟨Nat.le_of_ble_eq_true rfl, Nat.le_of_ble_eq_true rfl⟩ ⟨Nat.le_of_ble_eq_true rfl, Nat.le_of_ble_eq_true rfl⟩ (fun _ H locs _ hP hD hS => ?_)
        have hP : va_P G.1 clG ([(ba, .inr (17, [.ref bv, .int (iI 0), .int (iI bhs), .int (iI bhz)])), (bv, .inl (G.2.1 0, bws.length, .inl (aI (lf bws))))] ++ wl) _ := hP
        have hD : va_D A ([(ba, .inr (17, [.ref bv, .int (iI 0), .int (iI bhs), .int (iI bhz)])), (bv, .inl (G.2.1 0, bws.length, .inl (aI (lf bws))))] ++ wl) := hD
        refine W.eq (g2 := F0 mM 47 ls [.int (iI (pI (aws = bws)))]) rfl ?_
        refine r_ifz F (tgt := 54) dJ3_equals_47 (by decide) (fun c_10 => ?_) (fun c_10 => ?_)
        · refine lv_iconst (v := iI 0) F.1 F.2.1 dJ3_equals_54 rfl ?_
          exact rt_z F hQ hS (Nat.le_of_ble_eq_true rfl) (Nat.le_of_ble_eq_true rfl) (Or.inl rfl) () (congrArg (fun z => some (Value.int (iI z))) (show (pI (aws = bws)) = 0 from by exact pI_f (by omega))) trivial hP hD dJ3_equals_55
        · refine lv_iconst (v := iI 1) F.1 F.2.1 dJ3_equals_50 rfl ?_
          refine lv_goto (tgt := 55) F.1 F.2.1 dJ3_equals_51 (by decide) ?_
          exact rt_z F hQ hS (Nat.le_of_ble_eq_true rfl) (Nat.le_of_ble_eq_true rfl) (Or.inr rfl) () (congrArg (fun z => some (Value.int (iI z))) (show (pI (aws = bws)) = 1 from by exact pI_t (by omega))) trivial hP hD dJ3_equals_55
set_option maxHeartbeats 1000000 in
theorem ct_J3_coder {G : Gm} {l : Launch} (sa : Nat) (sv : Nat) (shs : Int) (shz : Int) (wl : va_W) (ho : (sa, .inr (17, [.ref sv, .int (iI 0), .int (iI shs), .int (iI shz)])) ∈ wl) : Ct G l yJ3_coder (ws_ yJ3_coder cJ3_coder 1 (some .byte)) ({ frames := 0, cells := 0, slots := 0, locals := 0 } : Room) [.ref sa] ([] ++ wl) (fun _ : Unit => True) (fun _ : Unit => ((some (.int (iI 0))) : Option Value)) (fun _ : Unit => (([] ++ wl) : va_W)) := by
  refine Ct.of (by decide) rfl ?_
  intro pP eE sS mM below meth cC A ls Q F hE hA hP hD hS hl hQ
  have hl : lv_has ls 1 [(0, .ref sa)] := hl
  refine r_compact F hE hS q535 dJ3_coder_0 ?_
  refine r_if_eq F (tgt := 13) (by decide) dJ3_coder_3 (by decide) (fun c_1 => ?_) (fun c_1 => ?_)
  · exact absurd c_1 (by decide)
  · refine lv_aload_n F.1 F.2.1 dJ3_coder_6 rfl (lv_at hl 0 rfl) ?_
    obtain ⟨k_2, hk_3⟩ := mem_at (X := []) ho
    refine r_get F (ci := 17) (v := .int (iI 0)) b_J3 hE hP k_2 hk_3 1 (by decide) q580 (fun _ h9 => h9) rfl dJ3_coder_7 ?_
    refine lv_goto (tgt := 14) F.1 F.2.1 dJ3_coder_10 (by decide) ?_
    exact rt_n F hQ hS (Nat.le_of_ble_eq_true rfl) (Nat.le_of_ble_eq_true rfl) rfl () rfl trivial hP hD dJ3_coder_14
set_option maxHeartbeats 1000000 in
theorem ct_J4_checkIndex {G : Gm} {l : Launch} (i : Int) (n : Int) (fx : Option Nat) (wl : va_W) (h1 : 0 ≤ i ∧ i < n) (h2 : n < 2147483648) : Ct G l yJ4_checkIndex (ws_ yJ4_checkIndex cJ4_checkIndex 3 (some .int)) ({ frames := 0, cells := 0, slots := 0, locals := 0 } : Room) [.int (iI i), .int (iI n), va_rf fx] ([] ++ wl) (fun _ : Unit => True) (fun _ : Unit => ((some (.int (iI i))) : Option Value)) (fun _ : Unit => (([] ++ wl) : va_W)) := by
  refine Ct.of (by decide) (by cases fx <;>  rfl) ?_
  intro pP eE sS mM below meth cC A ls Q F hE hA hP hD hS hl hQ
  have hl : lv_has ls 3 [(0, .int (iI i)), (1, .int (iI n)), (2, va_rf fx)] := hl
  refine lv_iload_n F.1 F.2.1 dJ4_checkIndex_0 rfl (lv_at hl 0 rfl) ?_
  refine r_if_lt F (tgt := 9) (by omega) dJ4_checkIndex_1 (by decide) (fun c_1 => ?_) (fun c_1 => ?_)
  · exfalso; omega
  · refine lv_iload_n F.1 F.2.1 dJ4_checkIndex_4 rfl (lv_at hl 0 rfl) ?_
    refine lv_iload_n F.1 F.2.1 dJ4_checkIndex_5 rfl (lv_at hl 1 rfl) ?_
    refine r_icmp_lt F (tgt := 16) (by omega) (by omega) dJ4_checkIndex_6 (by decide) (fun c_2 => ?_) (fun c_2 => ?_)
    · refine lv_iload_n F.1 F.2.1 dJ4_checkIndex_16 rfl (lv_at hl 0 rfl) ?_
      exact rt_i F hQ hS (Nat.le_of_ble_eq_true rfl) (Nat.le_of_ble_eq_true rfl) () rfl trivial hP hD dJ4_checkIndex_17
    · exfalso; omega
set_option maxHeartbeats 1000000 in
theorem ct_J4_checkFromIndexSize {G : Gm} {l : Launch} (f : Int) (z : Int) (n : Int) (fx : Option Nat) (wl : va_W) (h1 : 0 ≤ f ∧ 0 ≤ z ∧ f + z ≤ n) (h2 : n < 2147483648) : Ct G l yJ4_checkFromIndexSize (ws_ yJ4_checkFromIndexSize cJ4_checkFromIndexSize 4 (some .int)) ({ frames := 0, cells := 0, slots := 0, locals := 0 } : Room) [.int (iI f), .int (iI z), .int (iI n), va_rf fx] ([] ++ wl) (fun _ : Unit => True) (fun _ : Unit => ((some (.int (iI f))) : Option Value)) (fun _ : Unit => (([] ++ wl) : va_W)) := by
  refine Ct.of (by decide) (by cases fx <;>  rfl) ?_
  intro pP eE sS mM below meth cC A ls Q F hE hA hP hD hS hl hQ
  have hl : lv_has ls 4 [(0, .int (iI f)), (1, .int (iI z)), (2, .int (iI n)), (3, va_rf fx)] := hl
  obtain ⟨o1, ho1r, ho1⟩ := or_nn (a := n) (b := f) (by omega) (by omega)
  obtain ⟨o2, ho2r, ho2⟩ := or_nn (a := o1) (b := z) (by omega) (by omega)
  refine lv_iload_n F.1 F.2.1 dJ4_checkFromIndexSize_0 rfl (lv_at hl 2 rfl) ?_
  refine lv_iload_n F.1 F.2.1 dJ4_checkFromIndexSize_1 rfl (lv_at hl 0 rfl) ?_
  refine r_ior F (z := o1) ho1 dJ4_checkFromIndexSize_2 ?_
  refine lv_iload_n F.1 F.2.1 dJ4_checkFromIndexSize_3 rfl (lv_at hl 1 rfl) ?_
  refine r_ior F (z := o2) ho2 dJ4_checkFromIndexSize_4 ?_
  refine r_if_lt F (tgt := 15) (by omega) dJ4_checkFromIndexSize_5 (by decide) (fun c_1 => ?_) (fun c_1 => ?_)
  · exfalso; omega
  · refine lv_iload_n F.1 F.2.1 dJ4_checkFromIndexSize_8 rfl (lv_at hl 1 rfl) ?_
    refine lv_iload_n F.1 F.2.1 dJ4_checkFromIndexSize_9 rfl (lv_at hl 2 rfl) ?_
    refine lv_iload_n F.1 F.2.1 dJ4_checkFromIndexSize_10 rfl (lv_at hl 0 rfl) ?_
    refine r_isub F dJ4_checkFromIndexSize_11 ?_
    refine r_icmp_le F (tgt := 23) (by omega) (by omega) dJ4_checkFromIndexSize_12 (by decide) (fun c_2 => ?_) (fun c_2 => ?_)
    · refine lv_iload_n F.1 F.2.1 dJ4_checkFromIndexSize_23 rfl (lv_at hl 0 rfl) ?_
      exact rt_i F hQ hS (Nat.le_of_ble_eq_true rfl) (Nat.le_of_ble_eq_true rfl) () rfl trivial hP hD dJ4_checkFromIndexSize_24
    · exfalso; omega
theorem hd_J4_checkIndex : Hd yJ4_checkIndex 3 := ⟨by decide +kernel, by decide +kernel, by decide +kernel⟩
set_option maxHeartbeats 1000000 in
theorem ct_J3_checkIndex {G : Gm} {l : Launch} (i : Int) (n : Int) (wl : va_W) (h1 : 0 ≤ i ∧ i < n) (h2 : n < 2147483648) : Ct G l yJ3_checkIndex (ws_ yJ3_checkIndex cJ3_checkIndex 2 none) ({ frames := 1, cells := 0, slots := 0, locals := 22 } : Room) [.int (iI i), .int (iI n)] ([] ++ wl) (fun _ : Unit => True) (fun _ : Unit => (none : Option Value)) (fun _ : Unit => (([] ++ wl) : va_W)) := by
  refine Ct.of (by decide) rfl ?_
  intro pP eE sS mM below meth cC A ls Q F hE hA hP hD hS hl hQ
  have hl : lv_has ls 2 [(0, .int (iI i)), (1, .int (iI n))] := hl
  refine lv_iload_n F.1 F.2.1 dJ3_checkIndex_0 rfl (lv_at hl 0 rfl) ?_
  refine lv_iload_n F.1 F.2.1 dJ3_checkIndex_1 rfl (lv_at hl 1 rfl) ?_
  refine r_sioobe F hE hS q525 dJ3_checkIndex_2 (fun fx => ?_)
  refine cl_S F (ct_J4_checkIndex i n fx wl h1 h2) hd_J4_checkIndex q1756 q1757 q124 q1758 hE hP hD hS hA (X := []) (pl := wl) (cx := []) (wr := []) [] [] rfl rfl rfl rfl (by decide) rfl rfl rfl (Nat.le_of_ble_eq_true rfl) hl.1 dJ3_checkIndex_5 ⟨Nat.le_of_ble_eq_true rfl, Nat.le_of_ble_eq_true rfl⟩ ⟨Nat.le_of_ble_eq_true rfl, Nat.le_of_ble_eq_true rfl⟩ (fun _ H locs _ hP hD hS => ?_)
  have hP : va_P G.1 clG ([] ++ wl) _ := hP
  have hD : va_D A ([] ++ wl) := hD
  refine W.eq (g2 := F0 mM 8 ls [.int (iI i)]) rfl ?_
  refine lv_pop F.1 F.2.1 dJ3_checkIndex_8 rfl ?_
  exact rt_v F hQ hS (Nat.le_of_ble_eq_true rfl) (Nat.le_of_ble_eq_true rfl) () rfl trivial hP hD dJ3_checkIndex_9
theorem hd_J4_checkFromIndexSize : Hd yJ4_checkFromIndexSize 4 := ⟨by decide +kernel, by decide +kernel, by decide +kernel⟩
set_option maxHeartbeats 1000000 in
theorem ct_J3_checkBoundsOffCount {G : Gm} {l : Launch} (f : Int) (z : Int) (n : Int) (wl : va_W) (h1 : 0 ≤ f ∧ 0 ≤ z ∧ f + z ≤ n) (h2 : n < 2147483648) : Ct G l yJ3_checkBoundsOffCount (ws_ yJ3_checkBoundsOffCount cJ3_checkBoundsOffCount 3 (some .int)) ({ frames := 1, cells := 0, slots := 0, locals := 23 } : Room) [.int (iI f), .int (iI z), .int (iI n)] ([] ++ wl) (fun _ : Unit => True) (fun _ : Unit => ((some (.int (iI f))) : Option Value)) (fun _ : Unit => (([] ++ wl) : va_W)) := by
  refine Ct.of (by decide) rfl ?_
  intro pP eE sS mM below meth cC A ls Q F hE hA hP hD hS hl hQ
  have hl : lv_has ls 3 [(0, .int (iI f)), (1, .int (iI z)), (2, .int (iI n))] := hl
  refine lv_iload_n F.1 F.2.1 dJ3_checkBoundsOffCount_0 rfl (lv_at hl 0 rfl) ?_
  refine lv_iload_n F.1 F.2.1 dJ3_checkBoundsOffCount_1 rfl (lv_at hl 1 rfl) ?_
  refine lv_iload_n F.1 F.2.1 dJ3_checkBoundsOffCount_2 rfl (lv_at hl 2 rfl) ?_
  refine r_sioobe F hE hS q525 dJ3_checkBoundsOffCount_3 (fun fx => ?_)
  refine cl_S F (ct_J4_checkFromIndexSize f z n fx wl h1 h2) hd_J4_checkFromIndexSize q527 q528 q124 q529 hE hP hD hS hA (X := []) (pl := wl) (cx := []) (wr := []) [] [] rfl rfl rfl rfl (by decide) rfl rfl rfl (Nat.le_of_ble_eq_true rfl) hl.1 dJ3_checkBoundsOffCount_6 ⟨Nat.le_of_ble_eq_true rfl, Nat.le_of_ble_eq_true rfl⟩ ⟨Nat.le_of_ble_eq_true rfl, Nat.le_of_ble_eq_true rfl⟩ (fun _ H locs _ hP hD hS => ?_)
  have hP : va_P G.1 clG ([] ++ wl) _ := hP
  have hD : va_D A ([] ++ wl) := hD
  refine W.eq (g2 := F0 mM 9 ls [.int (iI f)]) rfl ?_
  exact rt_i F hQ hS (Nat.le_of_ble_eq_true rfl) (Nat.le_of_ble_eq_true rfl) () rfl trivial hP hD dJ3_checkBoundsOffCount_9
theorem hd_J3_checkBoundsOffCount : Hd yJ3_checkBoundsOffCount 3 := ⟨by decide +kernel, by decide +kernel, by decide +kernel⟩
set_option maxHeartbeats 1000000 in
theorem ct_J3_rangeCheck {G : Gm} {l : Launch} (ca : Nat) (gc : Nat → Int) (z : Int) (wl : va_W) (h1 : 0 ≤ z ∧ z ≤ 8) : Ct G l yJ3_rangeCheck (ws_ yJ3_rangeCheck cJ3_rangeCheck 3 (some (.object "java/lang/Void"))) ({ frames := 2, cells := 0, slots := 0, locals := 45 } : Room) [.ref ca, .int (iI 0), .int (iI z)] ([(ca, .inl (G.2.1 1, 8, .inl (aI gc)))] ++ wl) (fun _ : Unit => True) (fun _ : Unit => ((some (.null)) : Option Value)) (fun _ : Unit => (([(ca, .inl (G.2.1 1, 8, .inl (aI gc)))] ++ wl) : va_W)) := by
  refine Ct.of (by decide) rfl ?_
  intro pP eE sS mM below meth cC A ls Q F hE hA hP hD hS hl hQ
  have hl : lv_has ls 3 [(0, .ref ca), (1, .int (iI 0)), (2, .int (iI z))] := hl
  refine lv_iload_n F.1 F.2.1 dJ3_rangeCheck_0 rfl (lv_at hl 1 rfl) ?_
  refine lv_iload_n F.1 F.2.1 dJ3_rangeCheck_1 rfl (lv_at hl 2 rfl) ?_
  refine lv_aload_n F.1 F.2.1 dJ3_rangeCheck_2 rfl (lv_at hl 0 rfl) ?_
  refine r_alen F (t := 1) (n := 8) hE hP 0 rfl rfl dJ3_rangeCheck_3 ?_
  refine cl_S F (ct_J3_checkBoundsOffCount 0 z 8 wl (by omega) (by omega)) hd_J3_checkBoundsOffCount q522 q523 q123 q524 hE hP hD hS hA (X := [(ca, .inl (G.2.1 1, 8, .inl (aI gc)))]) (pl := wl) (cx := []) (wr := [(ca, .inl (G.2.1 1, 8, .inl (aI gc)))]) [] [0] rfl rfl rfl rfl (by decide) rfl rfl rfl (Nat.le_of_ble_eq_true rfl) hl.1 dJ3_rangeCheck_4 ⟨Nat.le_of_ble_eq_true rfl, Nat.le_of_ble_eq_true rfl⟩ ⟨Nat.le_of_ble_eq_true rfl, Nat.le_of_ble_eq_true rfl⟩ (fun _ H locs _ hP hD hS => ?_)
  have hP : va_P G.1 clG ([(ca, .inl (G.2.1 1, 8, .inl (aI gc)))] ++ wl) _ := hP
  have hD : va_D A ([(ca, .inl (G.2.1 1, 8, .inl (aI gc)))] ++ wl) := hD
  refine W.eq (g2 := F0 mM 7 ls [.int (iI 0)]) rfl ?_
  refine lv_pop F.1 F.2.1 dJ3_rangeCheck_7 rfl ?_
  refine lv_null F.1 F.2.1 dJ3_rangeCheck_8 ?_
  exact rt_a F hQ hS (Nat.le_of_ble_eq_true rfl) (Nat.le_of_ble_eq_true rfl) (Or.inl ⟨_, rfl⟩) (Or.inl rfl) () rfl trivial hP hD dJ3_rangeCheck_9
set_option maxHeartbeats 1000000 in
theorem ct_J5_compress_2 {G : Gm} {l : Launch} (ca : Nat) (gc : Nat → Int) (ws : List Int) (bv : Nat) (gb : Nat → Int) (wl : va_W) (hlen : 1 ≤ ws.length ∧ ws.length ≤ 8) (ht : TxL ws) (hgc : ∀ i, i < ws.length → gc i = lf ws i) : Ct G l yJ5_compress_2 (ws_ yJ5_compress_2 cJ5_compress_2 7 (some .int)) ({ frames := 0, cells := 0, slots := 0, locals := 0 } : Room) [.ref ca, .int (iI 0), .ref bv, .int (iI 0), .int (iI (ws.length : Int))] ([(ca, .inl (G.2.1 1, 8, .inl (aI gc))), (bv, .inl (G.2.1 0, ws.length, .inl (aI gb)))] ++ wl) (fun _ : Unit => True) (fun _ : Unit => ((some (.int (iI (ws.length : Int)))) : Option Value)) (fun _ : Unit => (([(ca, .inl (G.2.1 1, 8, .inl (aI gc))), (bv, .inl (G.2.1 0, ws.length, .inl (aI (lf ws))))] ++ wl) : va_W)) := by
  refine Ct.of (by decide) rfl ?_
  intro pP eE sS mM below meth cC A ls Q F hE hA hP hD hS hl hQ
  have hl : lv_has ls 7 [(0, .ref ca), (1, .int (iI 0)), (2, .ref bv), (3, .int (iI 0)), (4, .int (iI (ws.length : Int)))] := hl
  refine lv_iconst (v := iI 0) F.1 F.2.1 dJ5_compress_2_0 rfl ?_
  refine lv_istore (lv' := [(5, .int (iI 0)), (0, .ref ca), (1, .int (iI 0)), (2, .ref bv), (3, .int (iI 0)), (4, .int (iI (ws.length : Int)))]) F.1 F.2.1 dJ5_compress_2_1 hl (Nat.le_of_ble_eq_true rfl) rfl (fun ls hl => ?_)
  obtain ⟨hP, hD⟩ := cvI (g := gb) (g' := (fun q => if q < 0 then lf ws q else gb q)) hP hD 1 rfl (fun k hk => by first | (with_reducible rfl) | ((try dsimp only); exact (if_neg (Nat.not_lt_zero _)).symm))
  have hP : va_P G.1 clG ([(ca, .inl (G.2.1 1, 8, .inl (aI gc))), (bv, .inl (G.2.1 0, ws.length, .inl (aI (fun q => if q < 0 then lf ws q else gb q))))] ++ wl) _ := hP
  have hD : va_D A ([(ca, .inl (G.2.1 1, 8, .inl (aI gc))), (bv, .inl (G.2.1 0, ws.length, .inl (aI (fun q => if q < 0 then lf ws q else gb q))))] ++ wl) := hD
  have hl : lv_has ls 7 [(0, .ref ca), (2, .ref bv), (4, .int (iI (ws.length : Int))), (1, .int (iI 0)), (3, .int (iI 0)), (5, .int (iI 0))] := lv_sub hl [1, 3, 5, 2, 4, 0] rfl
  have hl := lv_cv (fun zZ : Int => [(0, .ref ca), (2, .ref bv), (4, .int (iI (ws.length : Int))), (1, .int (iI zZ)), (3, .int (iI 0)), (5, .int (iI 0))]) (show 0 = (0 : Int) from by first | rfl | omega | (simp; done) | (simp; omega)) hl
  have hl := lv_cv (fun zZ : Int => [(0, .ref ca), (2, .ref bv), (4, .int (iI (ws.length : Int))), (1, .int (iI (0 : Int))), (3, .int (iI zZ)), (5, .int (iI 0))]) (show 0 = (0 : Int) from by first | rfl | omega | (simp; done) | (simp; omega)) hl
  have hl := lv_cv (fun zZ : Int => [(0, .ref ca), (2, .ref bv), (4, .int (iI (ws.length : Int))), (1, .int (iI (0 : Int))), (3, .int (iI (0 : Int))), (5, .int (iI zZ))]) (show 0 = (0 : Int) from by first | rfl | omega | (simp; done) | (simp; omega)) hl
  have hl : lv_has ls 7 [(0, .ref ca), (2, .ref bv), (4, .int (iI (ws.length : Int))), (1, .int (iI (0 : Int))), (3, .int (iI (0 : Int))), (5, .int (iI (0 : Int)))] := hl
  refine lp_s (σ := Nat) (hd := 3) (st := []) (fun (j : Nat) => ws.length - j) (fun (j : Nat) H locs ls => va_P G.1 clG ([(ca, .inl (G.2.1 1, 8, .inl (aI gc))), (bv, .inl (G.2.1 0, ws.length, .inl (aI (fun q => if q < j then lf ws q else gb q))))] ++ wl) H ∧ va_D A ([(ca, .inl (G.2.1 1, 8, .inl (aI gc))), (bv, .inl (G.2.1 0, ws.length, .inl (aI (fun q => if q < j then lf ws q else gb q))))] ++ wl) ∧ va_S A sS.heap H locs ∧ lv_has ls 7 [(0, .ref ca), (2, .ref bv), (4, .int (iI (ws.length : Int))), (1, .int (iI (j : Int))), (3, .int (iI (j : Int))), (5, .int (iI (j : Int)))] ∧ (j ≤ ws.length)) (fun (j : Nat) => 0) (fun (j : Nat) => 0) ?_ 0 _ _ _ ⟨hP, hD, hS, hl, (by omega)⟩
  rintro j H locs ls ⟨hP, hD, hS, hl, hj⟩ ih_3
  have hlj := ht j
  refine lv_iload F.1 F.2.1 dJ5_compress_2_3 (lv_at hl 5 rfl) ?_
  refine lv_iload F.1 F.2.1 dJ5_compress_2_5 (lv_at hl 2 rfl) ?_
  refine r_icmp_ge F (tgt := 44) (by omega) (by omega) dJ5_compress_2_7 (by decide) (fun c_1 => ?_) (fun c_1 => ?_)
  · refine lv_iload F.1 F.2.1 dJ5_compress_2_44 (lv_at hl 2 rfl) ?_
    obtain ⟨hP, hD⟩ := cvI (g := (fun q => if q < j then lf ws q else gb q)) (g' := (lf ws)) hP hD 1 rfl (fun k hk => by first | (with_reducible rfl) | ((try dsimp only); exact if_pos (by omega)))
    have hP : va_P G.1 clG ([(ca, .inl (G.2.1 1, 8, .inl (aI gc))), (bv, .inl (G.2.1 0, ws.length, .inl (aI (lf ws))))] ++ wl) _ := hP
    have hD : va_D A ([(ca, .inl (G.2.1 1, 8, .inl (aI gc))), (bv, .inl (G.2.1 0, ws.length, .inl (aI (lf ws))))] ++ wl) := hD
    exact rt_i F hQ hS (Nat.le_of_ble_eq_true rfl) (Nat.le_of_ble_eq_true rfl) () rfl trivial hP hD dJ5_compress_2_46
  · refine lv_aload_n F.1 F.2.1 dJ5_compress_2_10 rfl (lv_at hl 0 rfl) ?_
    refine lv_iload_n F.1 F.2.1 dJ5_compress_2_11 rfl (lv_at hl 3 rfl) ?_
    refine r_cald F (g := gc) hE hP 0 rfl j rfl (by omega) (by decide) dJ5_compress_2_12 ?_
    refine top_ci (b := (lf ws j)) (by exact hgc j (by omega)) ?_
    refine lv_istore (lv' := [(6, .int (iI (lf ws j))), (0, .ref ca), (2, .ref bv), (4, .int (iI (ws.length : Int))), (1, .int (iI (j : Int))), (3, .int (iI (j : Int))), (5, .int (iI (j : Int)))]) F.1 F.2.1 dJ5_compress_2_13 hl (Nat.le_of_ble_eq_true rfl) rfl (fun ls hl => ?_)
    refine lv_iload F.1 F.2.1 dJ5_compress_2_15 (lv_at hl 0 rfl) ?_
    refine lv_sipush (v := iI 255) F.1 F.2.1 dJ5_compress_2_17 (sip_ok (by decide)) ?_
    refine r_icmp_le F (tgt := 26) (by omega) (by decide) dJ5_compress_2_20 (by decide) (fun c_2 => ?_) (fun c_2 => ?_)
    · refine lv_aload_n F.1 F.2.1 dJ5_compress_2_26 rfl (lv_at hl 2 rfl) ?_
      refine lv_iload_n F.1 F.2.1 dJ5_compress_2_27 rfl (lv_at hl 5 rfl) ?_
      refine lv_iload F.1 F.2.1 dJ5_compress_2_28 (lv_at hl 0 rfl) ?_
      refine r_i2b F dJ5_compress_2_30 ?_
      refine r_bast F (g := (fun q => if q < j then lf ws q else gb q)) (x := (bt (lf ws j))) hE hP hD hS 1 rfl j rfl (by omega) (by omega) (bt_in _) dJ5_compress_2_31 (fun H locs hP hD hS => ?_)
      have hP : va_P G.1 clG ([(ca, .inl (G.2.1 1, 8, .inl (aI gc))), (bv, .inl (G.2.1 0, ws.length, .inl (aI (up (fun q => if q < j then lf ws q else gb q) j (bt (lf ws j))))))] ++ wl) _ := hP
      have hD : va_D A ([(ca, .inl (G.2.1 1, 8, .inl (aI gc))), (bv, .inl (G.2.1 0, ws.length, .inl (aI (up (fun q => if q < j then lf ws q else gb q) j (bt (lf ws j))))))] ++ wl) := hD
      refine lv_iinc (v := iI ((j : Int) + 1)) (lv' := [(1, .int (iI ((j : Int) + 1))), (6, .int (iI (lf ws j))), (0, .ref ca), (2, .ref bv), (4, .int (iI (ws.length : Int))), (3, .int (iI (j : Int))), (5, .int (iI (j : Int)))]) (k := 4) F.1 F.2.1 dJ5_compress_2_32 hl rfl (iI_add _ _) (Nat.le_of_ble_eq_true rfl) rfl (fun ls hl => ?_)
      refine lv_iinc (v := iI ((j : Int) + 1)) (lv' := [(3, .int (iI ((j : Int) + 1))), (1, .int (iI ((j : Int) + 1))), (6, .int (iI (lf ws j))), (0, .ref ca), (2, .ref bv), (4, .int (iI (ws.length : Int))), (5, .int (iI (j : Int)))]) (k := 5) F.1 F.2.1 dJ5_compress_2_35 hl rfl (iI_add _ _) (Nat.le_of_ble_eq_true rfl) rfl (fun ls hl => ?_)
      refine lv_iinc (v := iI ((j : Int) + 1)) (lv' := [(5, .int (iI ((j : Int) + 1))), (3, .int (iI ((j : Int) + 1))), (1, .int (iI ((j : Int) + 1))), (6, .int (iI (lf ws j))), (0, .ref ca), (2, .ref bv), (4, .int (iI (ws.length : Int)))]) (k := 6) F.1 F.2.1 dJ5_compress_2_38 hl rfl (iI_add _ _) (Nat.le_of_ble_eq_true rfl) rfl (fun ls hl => ?_)
      refine lv_goto (tgt := 3) F.1 F.2.1 dJ5_compress_2_41 (by decide) ?_
      obtain ⟨hP, hD⟩ := cvI (g := (up (fun q => if q < j then lf ws q else gb q) j (bt (lf ws j)))) (g' := (fun q => if q < (j + 1) then lf ws q else gb q)) hP hD 1 rfl (fun k hk => by first | (with_reducible rfl) | ((try dsimp only); exact lf_up ht k))
      have hP : va_P G.1 clG ([(ca, .inl (G.2.1 1, 8, .inl (aI gc))), (bv, .inl (G.2.1 0, ws.length, .inl (aI (fun q => if q < (j + 1) then lf ws q else gb q))))] ++ wl) _ := hP
      have hD : va_D A ([(ca, .inl (G.2.1 1, 8, .inl (aI gc))), (bv, .inl (G.2.1 0, ws.length, .inl (aI (fun q => if q < (j + 1) then lf ws q else gb q))))] ++ wl) := hD
      have hl : lv_has ls 7 [(0, .ref ca), (2, .ref bv), (4, .int (iI (ws.length : Int))), (1, .int (iI ((j : Int) + 1))), (3, .int (iI ((j : Int) + 1))), (5, .int (iI ((j : Int) + 1)))] := lv_sub hl [4, 5, 6, 2, 1, 0] rfl
      have hl := lv_cv (fun zZ : Int => [(0, .ref ca), (2, .ref bv), (4, .int (iI (ws.length : Int))), (1, .int (iI zZ)), (3, .int (iI ((j : Int) + 1))), (5, .int (iI ((j : Int) + 1)))]) (show ((j : Int) + 1) = ((j + 1) : Int) from by first | rfl | omega | (simp; done) | (simp; omega)) hl
      have hl := lv_cv (fun zZ : Int => [(0, .ref ca), (2, .ref bv), (4, .int (iI (ws.length : Int))), (1, .int (iI ((j + 1) : Int))), (3, .int (iI zZ)), (5, .int (iI ((j : Int) + 1)))]) (show ((j : Int) + 1) = ((j + 1) : Int) from by first | rfl | omega | (simp; done) | (simp; omega)) hl
      have hl := lv_cv (fun zZ : Int => [(0, .ref ca), (2, .ref bv), (4, .int (iI (ws.length : Int))), (1, .int (iI ((j + 1) : Int))), (3, .int (iI ((j + 1) : Int))), (5, .int (iI zZ))]) (show ((j : Int) + 1) = ((j + 1) : Int) from by first | rfl | omega | (simp; done) | (simp; omega)) hl
      have hl : lv_has ls 7 [(0, .ref ca), (2, .ref bv), (4, .int (iI (ws.length : Int))), (1, .int (iI ((j + 1) : Int))), (3, .int (iI ((j + 1) : Int))), (5, .int (iI ((j + 1) : Int)))] := hl
      exact ih_3 (j + 1) _ _ _ (by first | omega | (dsimp only; omega)) ⟨hP, hD, hS, hl, (by omega)⟩
    · exfalso; omega
theorem hd_J5_compress_2 : Hd yJ5_compress_2 5 := ⟨by decide +kernel, by decide +kernel, by decide +kernel⟩
set_option maxHeartbeats 1000000 in
theorem ct_J5_compress {G : Gm} {l : Launch} (ca : Nat) (gc : Nat → Int) (ws : List Int) (wl : va_W) (hlen : 1 ≤ ws.length ∧ ws.length ≤ 8) (ht : TxL ws) (hgc : ∀ i, i < ws.length → gc i = lf ws i) : Ct G l yJ5_compress (ws_ yJ5_compress cJ5_compress 6 (some (.array .byte))) ({ frames := 1, cells := 1, slots := 8, locals := 26 } : Room) [.ref ca, .int (iI 0), .int (iI (ws.length : Int))] ([(ca, .inl (G.2.1 1, 8, .inl (aI gc)))] ++ wl) (fun (q : Nat) => True) (fun (q : Nat) => ((some (.ref q)) : Option Value)) (fun (q : Nat) => (([(ca, .inl (G.2.1 1, 8, .inl (aI gc))), (q, .inl (G.2.1 0, ws.length, .inl (aI (lf ws))))] ++ wl) : va_W)) := by
  refine Ct.of (by decide) rfl ?_
  intro pP eE sS mM below meth cC A ls Q F hE hA hP hD hS hl hQ
  have hl : lv_has ls 6 [(0, .ref ca), (1, .int (iI 0)), (2, .int (iI (ws.length : Int)))] := hl
  refine lv_iload_n F.1 F.2.1 dJ5_compress_0 rfl (lv_at hl 2 rfl) ?_
  refine r_newa F (atype := .byte) (a0 := (ws.length, .inl (aI (fun _ => 0)))) 0 rfl rfl rfl q229 hE hP hD hS hA ws.length rfl (by omega) new_B (Nat.le_of_ble_eq_true rfl) (by show 0 + ws.length ≤ 8; omega) dJ5_compress_1 (fun q H hP hD hS => ?_)
  have hP : va_P G.1 clG ([(ca, .inl (G.2.1 1, 8, .inl (aI gc))), (q, .inl (G.2.1 0, ws.length, .inl (aI (fun _ => 0))))] ++ wl) _ := hP
  have hD : va_D A ([(ca, .inl (G.2.1 1, 8, .inl (aI gc))), (q, .inl (G.2.1 0, ws.length, .inl (aI (fun _ => 0))))] ++ wl) := hD
  refine W.cs (cells' := 1) (slots' := 0 + ws.length) (by omega) (by omega) ?_
  refine lv_astore_n (lv' := [(3, .ref q), (0, .ref ca), (1, .int (iI 0)), (2, .int (iI (ws.length : Int)))]) F.1 F.2.1 dJ5_compress_3 rfl hl (Nat.le_of_ble_eq_true rfl) rfl (fun ls hl => ?_)
  refine lv_aload_n F.1 F.2.1 dJ5_compress_4 rfl (lv_at hl 1 rfl) ?_
  refine lv_iload_n F.1 F.2.1 dJ5_compress_5 rfl (lv_at hl 2 rfl) ?_
  refine lv_aload_n F.1 F.2.1 dJ5_compress_6 rfl (lv_at hl 0 rfl) ?_
  refine lv_iconst (v := iI 0) F.1 F.2.1 dJ5_compress_7 rfl ?_
  refine lv_iload_n F.1 F.2.1 dJ5_compress_8 rfl (lv_at hl 3 rfl) ?_
  refine cl_S F (ct_J5_compress_2 ca gc ws q (fun _ => 0) wl hlen ht hgc) hd_J5_compress_2 q540 q541 q125 q542 hE hP hD hS hA (X := [(ca, .inl (G.2.1 1, 8, .inl (aI gc))), (q, .inl (G.2.1 0, ws.length, .inl (aI (fun _ => 0))))]) (pl := wl) (cx := [(ca, .inl (G.2.1 1, 8, .inl (aI gc))), (q, .inl (G.2.1 0, ws.length, .inl (aI (fun _ => 0))))]) (wr := []) [0, 1] [] rfl rfl rfl rfl (by decide) rfl rfl rfl (Nat.le_of_ble_eq_true rfl) hl.1 dJ5_compress_9 ⟨Nat.le_of_ble_eq_true rfl, Nat.le_of_ble_eq_true rfl⟩ ⟨(Nat.le_of_ble_eq_true rfl), (by show 0 + ws.length + 0 ≤ 8; omega)⟩ (fun _ H locs _ hP hD hS => ?_)
  have hP : va_P G.1 clG ([(ca, .inl (G.2.1 1, 8, .inl (aI gc))), (q, .inl (G.2.1 0, ws.length, .inl (aI (lf ws))))] ++ wl) _ := hP
  have hD : va_D A ([(ca, .inl (G.2.1 1, 8, .inl (aI gc))), (q, .inl (G.2.1 0, ws.length, .inl (aI (lf ws))))] ++ wl) := hD
  refine W.eq (g2 := F0 mM 12 ls [.int (iI (ws.length : Int))]) rfl ?_
  refine lv_istore (lv' := [(4, .int (iI (ws.length : Int))), (3, .ref q), (0, .ref ca), (1, .int (iI 0)), (2, .int (iI (ws.length : Int)))]) F.1 F.2.1 dJ5_compress_12 hl (Nat.le_of_ble_eq_true rfl) rfl (fun ls hl => ?_)
  refine lv_iload F.1 F.2.1 dJ5_compress_14 (lv_at hl 0 rfl) ?_
  refine lv_iload_n F.1 F.2.1 dJ5_compress_16 rfl (lv_at hl 4 rfl) ?_
  refine r_icmp_eq F (tgt := 57) (by omega) (by omega) dJ5_compress_17 (by decide) (fun c_3 => ?_) (fun c_3 => ?_)
  · refine lv_aload_n F.1 F.2.1 dJ5_compress_57 rfl (lv_at hl 1 rfl) ?_
    exact rt_a F hQ hS (Nat.le_of_ble_eq_true rfl) (by show 0 + ws.length + 0 ≤ 8; omega) (Or.inr ⟨_, rfl⟩) (Or.inr ⟨_, rfl⟩) q rfl trivial hP hD dJ5_compress_58
  · exact absurd rfl c_3
set_option maxHeartbeats 1000000 in
theorem ct_J5_coderFromArrayLen {G : Gm} {l : Launch} (bv : Nat) (ws : List Int) (wl : va_W) (hlen : ws.length ≤ 8) : Ct G l yJ5_coderFromArrayLen (ws_ yJ5_coderFromArrayLen cJ5_coderFromArrayLen 2 (some .byte)) ({ frames := 0, cells := 0, slots := 0, locals := 0 } : Room) [.ref bv, .int (iI (ws.length : Int))] ([(bv, .inl (G.2.1 0, ws.length, .inl (aI (lf ws))))] ++ wl) (fun _ : Unit => True) (fun _ : Unit => ((some (.int (iI 0))) : Option Value)) (fun _ : Unit => (([(bv, .inl (G.2.1 0, ws.length, .inl (aI (lf ws))))] ++ wl) : va_W)) := by
  refine Ct.of (by decide) rfl ?_
  intro pP eE sS mM below meth cC A ls Q F hE hA hP hD hS hl hQ
  have hl : lv_has ls 2 [(0, .ref bv), (1, .int (iI (ws.length : Int)))] := hl
  refine lv_iload_n F.1 F.2.1 dJ5_coderFromArrayLen_0 rfl (lv_at hl 1 rfl) ?_
  refine lv_aload_n F.1 F.2.1 dJ5_coderFromArrayLen_1 rfl (lv_at hl 0 rfl) ?_
  refine r_alen F (t := 0) (n := ws.length) hE hP 0 rfl rfl dJ5_coderFromArrayLen_2 ?_
  refine r_isub F dJ5_coderFromArrayLen_3 ?_
  refine lv_bipush (v := iI 31) F.1 F.2.1 dJ5_coderFromArrayLen_4 (bip_ok (by decide)) ?_
  refine r_ushr0 F (by omega) dJ5_coderFromArrayLen_6 ?_
  refine r_i2b F dJ5_coderFromArrayLen_7 ?_
  exact rt_n F hQ hS (Nat.le_of_ble_eq_true rfl) (Nat.le_of_ble_eq_true rfl) (nrb (bt_in _)) () (congrArg (fun z => some (Value.int (iI z))) (show 0 = (bt 0) from by rfl)) trivial hP hD dJ5_coderFromArrayLen_8
theorem hd_J5_coderFromArrayLen : Hd yJ5_coderFromArrayLen 2 := ⟨by decide +kernel, by decide +kernel, by decide +kernel⟩
theorem hd_J5_compress : Hd yJ5_compress 3 := ⟨by decide +kernel, by decide +kernel, by decide +kernel⟩
set_option maxHeartbeats 1000000 in
theorem ct_J3_init_2 {G : Gm} {l : Launch} (sa : Nat) (ca : Nat) (gc : Nat → Int) (ws : List Int) (wl : va_W) (hlen : 1 ≤ ws.length ∧ ws.length ≤ 8) (ht : TxL ws) (hgc : ∀ i, i < ws.length → gc i = lf ws i) : Ct G l yJ3_init_2 (ws_ yJ3_init_2 cJ3_init_2 6 none) ({ frames := 2, cells := 1, slots := 8, locals := 51 } : Room) [.ref sa, .ref ca, .int (iI 0), .int (iI (ws.length : Int)), .null] ([(sa, .inr (17, [.null, .int (iI 0), .int (iI 0), .int (iI 0)])), (ca, .inl (G.2.1 1, 8, .inl (aI gc)))] ++ wl) (fun (q : Nat) => True) (fun (q : Nat) => (none : Option Value)) (fun (q : Nat) => (([(ca, .inl (G.2.1 1, 8, .inl (aI gc))), (sa, .inr (17, [.ref q, .int (iI 0), .int (iI 0), .int (iI 0)])), (q, .inl (G.2.1 0, ws.length, .inl (aI (lf ws))))] ++ wl) : va_W)) := by
  refine Ct.of (by decide) rfl ?_
  intro pP eE sS mM below meth cC A ls Q F hE hA hP hD hS hl hQ
  have hl : lv_has ls 6 [(0, .ref sa), (1, .ref ca), (2, .int (iI 0)), (3, .int (iI (ws.length : Int))), (4, .null)] := hl
  refine lv_aload_n F.1 F.2.1 dJ3_init_2_0 rfl (lv_at hl 0 rfl) ?_
  refine r_oinit F q533 q148 q149 hl.1 dJ3_init_2_1 (Nat.le_of_ble_eq_true rfl) (Nat.le_of_ble_eq_true rfl) ?_
  refine lv_iload_n F.1 F.2.1 dJ3_init_2_4 rfl (lv_at hl 3 rfl) ?_
  refine r_if_ne F (tgt := 27) (by omega) dJ3_init_2_5 (by decide) (fun c_1 => ?_) (fun c_1 => ?_)
  · refine r_compact F hE hS q535 dJ3_init_2_27 ?_
    refine r_if_eq F (tgt := 58) (by decide) dJ3_init_2_30 (by decide) (fun c_2 => ?_) (fun c_2 => ?_)
    · exact absurd c_2 (by decide)
    · refine lv_aload_n F.1 F.2.1 dJ3_init_2_33 rfl (lv_at hl 1 rfl) ?_
      refine lv_iload_n F.1 F.2.1 dJ3_init_2_34 rfl (lv_at hl 2 rfl) ?_
      refine lv_iload_n F.1 F.2.1 dJ3_init_2_35 rfl (lv_at hl 3 rfl) ?_
      refine cl_S F (ct_J5_compress ca gc ws wl hlen ht hgc) hd_J5_compress q537 q538 q125 q539 hE hP hD hS hA (X := [(sa, .inr (17, [.null, .int (iI 0), .int (iI 0), .int (iI 0)])), (ca, .inl (G.2.1 1, 8, .inl (aI gc)))]) (pl := wl) (cx := [(ca, .inl (G.2.1 1, 8, .inl (aI gc)))]) (wr := [(sa, .inr (17, [.null, .int (iI 0), .int (iI 0), .int (iI 0)]))]) [1] [0] rfl rfl rfl rfl (by decide) rfl rfl rfl (Nat.le_of_ble_eq_true rfl) hl.1 dJ3_init_2_36 ⟨Nat.le_of_ble_eq_true rfl, Nat.le_of_ble_eq_true rfl⟩ ⟨Nat.le_of_ble_eq_true rfl, Nat.le_of_ble_eq_true rfl⟩ (fun u_3 H locs _ hP hD hS => ?_)
      obtain ⟨q, rfl⟩ : ∃ z, z = u_3 := ⟨_, rfl⟩
      have hP : va_P G.1 clG ([(sa, .inr (17, [.null, .int (iI 0), .int (iI 0), .int (iI 0)])), (ca, .inl (G.2.1 1, 8, .inl (aI gc))), (q, .inl (G.2.1 0, ws.length, .inl (aI (lf ws))))] ++ wl) _ := hP
      have hD : va_D A ([(sa, .inr (17, [.null, .int (iI 0), .int (iI 0), .int (iI 0)])), (ca, .inl (G.2.1 1, 8, .inl (aI gc))), (q, .inl (G.2.1 0, ws.length, .inl (aI (lf ws))))] ++ wl) := hD
      refine W.eq (g2 := F0 mM 39 ls [.ref q]) rfl ?_
      refine W.cs (cells' := 1) (slots' := 8) rfl rfl ?_
      refine lv_astore (lv' := [(5, .ref q), (0, .ref sa), (1, .ref ca), (2, .int (iI 0)), (3, .int (iI (ws.length : Int))), (4, .null)]) F.1 F.2.1 dJ3_init_2_39 hl (Nat.le_of_ble_eq_true rfl) rfl (fun ls hl => ?_)
      refine lv_aload_n F.1 F.2.1 dJ3_init_2_41 rfl (lv_at hl 1 rfl) ?_
      refine lv_aload F.1 F.2.1 dJ3_init_2_42 (lv_at hl 0 rfl) ?_
      refine lv_iload_n F.1 F.2.1 dJ3_init_2_44 rfl (lv_at hl 4 rfl) ?_
      refine cl_S F (ct_J5_coderFromArrayLen q ws wl (by omega)) hd_J5_coderFromArrayLen q575 q576 q125 q577 hE hP hD hS hA (X := [(sa, .inr (17, [.null, .int (iI 0), .int (iI 0), .int (iI 0)])), (ca, .inl (G.2.1 1, 8, .inl (aI gc))), (q, .inl (G.2.1 0, ws.length, .inl (aI (lf ws))))]) (pl := wl) (cx := [(q, .inl (G.2.1 0, ws.length, .inl (aI (lf ws))))]) (wr := [(sa, .inr (17, [.null, .int (iI 0), .int (iI 0), .int (iI 0)])), (ca, .inl (G.2.1 1, 8, .inl (aI gc)))]) [2] [0, 1] rfl rfl rfl rfl (by decide) rfl rfl rfl (Nat.le_of_ble_eq_true rfl) hl.1 dJ3_init_2_45 ⟨Nat.le_of_ble_eq_true rfl, Nat.le_of_ble_eq_true rfl⟩ ⟨Nat.le_of_ble_eq_true rfl, Nat.le_of_ble_eq_true rfl⟩ (fun _ H locs _ hP hD hS => ?_)
      have hP : va_P G.1 clG ([(sa, .inr (17, [.null, .int (iI 0), .int (iI 0), .int (iI 0)])), (ca, .inl (G.2.1 1, 8, .inl (aI gc))), (q, .inl (G.2.1 0, ws.length, .inl (aI (lf ws))))] ++ wl) _ := hP
      have hD : va_D A ([(sa, .inr (17, [.null, .int (iI 0), .int (iI 0), .int (iI 0)])), (ca, .inl (G.2.1 1, 8, .inl (aI gc))), (q, .inl (G.2.1 0, ws.length, .inl (aI (lf ws))))] ++ wl) := hD
      refine W.eq (g2 := F0 mM 48 ls [.int (iI 0), .ref sa]) rfl ?_
      refine r_putF F (ci := 17) (v := .int (iI 0)) b_J3 hE hP hD hS 0 rfl 1 (by decide) q580 (fun _ h9 => h9) rfl rfl (nrb (by omega)) (ftb (by omega)) (Nat.le_of_ble_eq_true rfl) dJ3_init_2_48 (fun H locs hP hD hS => ?_)
      have hP : va_P G.1 clG ([(sa, .inr (17, [.null, .int (iI 0), .int (iI 0), .int (iI 0)])), (ca, .inl (G.2.1 1, 8, .inl (aI gc))), (q, .inl (G.2.1 0, ws.length, .inl (aI (lf ws))))] ++ wl) _ := hP
      have hD : va_D A ([(sa, .inr (17, [.null, .int (iI 0), .int (iI 0), .int (iI 0)])), (ca, .inl (G.2.1 1, 8, .inl (aI gc))), (q, .inl (G.2.1 0, ws.length, .inl (aI (lf ws))))] ++ wl) := hD
      refine lv_aload_n F.1 F.2.1 dJ3_init_2_51 rfl (lv_at hl 1 rfl) ?_
      refine lv_aload F.1 F.2.1 dJ3_init_2_52 (lv_at hl 0 rfl) ?_
      refine r_putF F (ci := 17) (v := .ref q) b_J3 hE hP hD hS 0 rfl 0 (by decide) q579 (fun _ h9 => h9) rfl rfl rfl rfl (Nat.le_of_ble_eq_true rfl) dJ3_init_2_54 (fun H locs hP hD hS => ?_)
      have hP : va_P G.1 clG ([(sa, .inr (17, [.ref q, .int (iI 0), .int (iI 0), .int (iI 0)])), (ca, .inl (G.2.1 1, 8, .inl (aI gc))), (q, .inl (G.2.1 0, ws.length, .inl (aI (lf ws))))] ++ wl) _ := hP
      have hD : va_D A ([(sa, .inr (17, [.ref q, .int (iI 0), .int (iI 0), .int (iI 0)])), (ca, .inl (G.2.1 1, 8, .inl (aI gc))), (q, .inl (G.2.1 0, ws.length, .inl (aI (lf ws))))] ++ wl) := hD
      have hD : va_D A ([(ca, .inl (G.2.1 1, 8, .inl (aI gc))), (sa, .inr (17, [.ref q, .int (iI 0), .int (iI 0), .int (iI 0)])), (q, .inl (G.2.1 0, ws.length, .inl (aI (lf ws))))] ++ wl) := hD.part (cx := [(ca, .inl (G.2.1 1, 8, .inl (aI gc))), (sa, .inr (17, [.ref q, .int (iI 0), .int (iI 0), .int (iI 0)])), (q, .inl (G.2.1 0, ws.length, .inl (aI (lf ws))))]) [1, 0, 2] (by decide) rfl
      have hP : va_P G.1 clG ([(ca, .inl (G.2.1 1, 8, .inl (aI gc))), (sa, .inr (17, [.ref q, .int (iI 0), .int (iI 0), .int (iI 0)])), (q, .inl (G.2.1 0, ws.length, .inl (aI (lf ws))))] ++ wl) _ := hP.part (cx := [(ca, .inl (G.2.1 1, 8, .inl (aI gc))), (sa, .inr (17, [.ref q, .int (iI 0), .int (iI 0), .int (iI 0)])), (q, .inl (G.2.1 0, ws.length, .inl (aI (lf ws))))]) [1, 0, 2] rfl
      exact rt_v F hQ hS (Nat.le_of_ble_eq_true rfl) (Nat.le_of_ble_eq_true rfl) q rfl trivial hP hD dJ3_init_2_57
  · exfalso; omega
theorem hd_J3_init_2 : Hd yJ3_init_2 4 := ⟨by decide +kernel, by decide +kernel, by decide +kernel⟩
theorem hd_J3_rangeCheck : Hd yJ3_rangeCheck 3 := ⟨by decide +kernel, by decide +kernel, by decide +kernel⟩
set_option maxHeartbeats 1000000 in
theorem ct_J3_init {G : Gm} {l : Launch} (sa : Nat) (ca : Nat) (gc : Nat → Int) (ws : List Int) (wl : va_W) (hlen : 1 ≤ ws.length ∧ ws.length ≤ 8) (ht : TxL ws) (hgc : ∀ i, i < ws.length → gc i = lf ws i) : Ct G l yJ3_init (ws_ yJ3_init cJ3_init 4 none) ({ frames := 3, cells := 1, slots := 8, locals := 76 } : Room) [.ref sa, .ref ca, .int (iI 0), .int (iI (ws.length : Int))] ([(sa, .inr (17, [.null, .int (iI 0), .int (iI 0), .int (iI 0)])), (ca, .inl (G.2.1 1, 8, .inl (aI gc)))] ++ wl) (fun (q : Nat) => True) (fun (q : Nat) => (none : Option Value)) (fun (q : Nat) => (([(ca, .inl (G.2.1 1, 8, .inl (aI gc))), (sa, .inr (17, [.ref q, .int (iI 0), .int (iI 0), .int (iI 0)])), (q, .inl (G.2.1 0, ws.length, .inl (aI (lf ws))))] ++ wl) : va_W)) := by
  refine Ct.of (by decide) rfl ?_
  intro pP eE sS mM below meth cC A ls Q F hE hA hP hD hS hl hQ
  have hl : lv_has ls 4 [(0, .ref sa), (1, .ref ca), (2, .int (iI 0)), (3, .int (iI (ws.length : Int)))] := hl
  refine lv_aload_n F.1 F.2.1 dJ3_init_0 rfl (lv_at hl 0 rfl) ?_
  refine lv_aload_n F.1 F.2.1 dJ3_init_1 rfl (lv_at hl 1 rfl) ?_
  refine lv_iload_n F.1 F.2.1 dJ3_init_2 rfl (lv_at hl 2 rfl) ?_
  refine lv_iload_n F.1 F.2.1 dJ3_init_3 rfl (lv_at hl 3 rfl) ?_
  refine lv_aload_n F.1 F.2.1 dJ3_init_4 rfl (lv_at hl 1 rfl) ?_
  refine lv_iload_n F.1 F.2.1 dJ3_init_5 rfl (lv_at hl 2 rfl) ?_
  refine lv_iload_n F.1 F.2.1 dJ3_init_6 rfl (lv_at hl 3 rfl) ?_
  refine cl_S F (ct_J3_rangeCheck ca gc (ws.length : Int) wl (by omega)) hd_J3_rangeCheck q519 q520 q123 q521 hE hP hD hS hA (X := [(sa, .inr (17, [.null, .int (iI 0), .int (iI 0), .int (iI 0)])), (ca, .inl (G.2.1 1, 8, .inl (aI gc)))]) (pl := wl) (cx := [(ca, .inl (G.2.1 1, 8, .inl (aI gc)))]) (wr := [(sa, .inr (17, [.null, .int (iI 0), .int (iI 0), .int (iI 0)]))]) [1] [0] rfl rfl rfl rfl (by decide) rfl rfl rfl (Nat.le_of_ble_eq_true rfl) hl.1 dJ3_init_7 ⟨Nat.le_of_ble_eq_true rfl, Nat.le_of_ble_eq_true rfl⟩ ⟨Nat.le_of_ble_eq_true rfl, Nat.le_of_ble_eq_true rfl⟩ (fun _ H locs _ hP hD hS => ?_)
  have hP : va_P G.1 clG ([(sa, .inr (17, [.null, .int (iI 0), .int (iI 0), .int (iI 0)])), (ca, .inl (G.2.1 1, 8, .inl (aI gc)))] ++ wl) _ := hP
  have hD : va_D A ([(sa, .inr (17, [.null, .int (iI 0), .int (iI 0), .int (iI 0)])), (ca, .inl (G.2.1 1, 8, .inl (aI gc)))] ++ wl) := hD
  refine W.eq (g2 := F0 mM 10 ls [.null, .int (iI (ws.length : Int)), .int (iI 0), .ref ca, .ref sa]) rfl ?_
  refine cl_I F (ct_J3_init_2 sa ca gc ws wl hlen ht hgc) hd_J3_init_2 rfl q530 q531 q123 q532 hE hP hD hS hA (X := [(sa, .inr (17, [.null, .int (iI 0), .int (iI 0), .int (iI 0)])), (ca, .inl (G.2.1 1, 8, .inl (aI gc)))]) (pl := wl) (cx := [(sa, .inr (17, [.null, .int (iI 0), .int (iI 0), .int (iI 0)])), (ca, .inl (G.2.1 1, 8, .inl (aI gc)))]) (wr := []) [0, 1] [] rfl rfl rfl rfl (by decide) rfl rfl rfl (Nat.le_of_ble_eq_true rfl) hl.1 dJ3_init_10 ⟨Nat.le_of_ble_eq_true rfl, Nat.le_of_ble_eq_true rfl⟩ ⟨Nat.le_of_ble_eq_true rfl, Nat.le_of_ble_eq_true rfl⟩ (fun u_3 H locs _ hP hD hS => ?_)
  obtain ⟨q, rfl⟩ : ∃ z, z = u_3 := ⟨_, rfl⟩
  have hP : va_P G.1 clG ([(ca, .inl (G.2.1 1, 8, .inl (aI gc))), (sa, .inr (17, [.ref q, .int (iI 0), .int (iI 0), .int (iI 0)])), (q, .inl (G.2.1 0, ws.length, .inl (aI (lf ws))))] ++ wl) _ := hP
  have hD : va_D A ([(ca, .inl (G.2.1 1, 8, .inl (aI gc))), (sa, .inr (17, [.ref q, .int (iI 0), .int (iI 0), .int (iI 0)])), (q, .inl (G.2.1 0, ws.length, .inl (aI (lf ws))))] ++ wl) := hD
  refine W.eq (g2 := F0 mM 13 ls []) rfl ?_
  refine W.cs (cells' := 1) (slots' := 8) rfl rfl ?_
  exact rt_v F hQ hS (Nat.le_of_ble_eq_true rfl) (Nat.le_of_ble_eq_true rfl) q rfl trivial hP hD dJ3_init_13
set_option maxHeartbeats 1000000 in
theorem ct_J3_isLatin1_r {G : Gm} {l : Launch} (sa : Nat) (sv : Nat) (shs : Int) (shz : Int) (wl : va_W) (ho : (sa, .inr (17, [.ref sv, .int (iI 0), .int (iI shs), .int (iI shz)])) ∈ wl) : Ct G l yJ3_isLatin1 (ws_ yJ3_isLatin1 cJ3_isLatin1 1 (some .boolean)) ({ frames := 0, cells := 0, slots := 0, locals := 0 } : Room) [.ref sa] ([] ++ wl) (fun _ : Unit => True) (fun _ : Unit => ((some (.int (iI 1))) : Option Value)) (fun _ : Unit => (([] ++ wl) : va_W)) := by
  refine Ct.of (by decide) rfl ?_
  intro pP eE sS mM below meth cC A ls Q F hE hA hP hD hS hl hQ
  have hl : lv_has ls 1 [(0, .ref sa)] := hl
  refine r_compact F hE hS q535 dJ3_isLatin1_0 ?_
  refine r_if_eq F (tgt := 17) (by decide) dJ3_isLatin1_3 (by decide) (fun c_1 => ?_) (fun c_1 => ?_)
  · exact absurd c_1 (by decide)
  · refine lv_aload_n F.1 F.2.1 dJ3_isLatin1_6 rfl (lv_at hl 0 rfl) ?_
    obtain ⟨k_2, hk_3⟩ := mem_at (X := []) ho
    refine r_get F (ci := 17) (v := .int (iI 0)) b_J3 hE hP k_2 hk_3 1 (by decide) q580 (fun _ h9 => h9) rfl dJ3_isLatin1_7 ?_
    refine r_if_ne F (tgt := 17) (by decide) dJ3_isLatin1_10 (by decide) (fun c_4 => ?_) (fun c_4 => ?_)
    · exact absurd c_4 (by decide)
    · refine lv_iconst (v := iI 1) F.1 F.2.1 dJ3_isLatin1_13 rfl ?_
      refine lv_goto (tgt := 18) F.1 F.2.1 dJ3_isLatin1_14 (by decide) ?_
      exact rt_z F hQ hS (Nat.le_of_ble_eq_true rfl) (Nat.le_of_ble_eq_true rfl) (Or.inr rfl) () rfl trivial hP hD dJ3_isLatin1_18
theorem hd_J3_coder : Hd yJ3_coder 0 := ⟨by decide +kernel, by decide +kernel, by decide +kernel⟩
set_option maxHeartbeats 1000000 in
theorem ct_J3_length {G : Gm} {l : Launch} (sa : Nat) (sv : Nat) (sws : List Int) (shs : Int) (shz : Int) (wl : va_W) (hn8 : sws.length ≤ 1000) (ho : (sa, .inr (17, [.ref sv, .int (iI 0), .int (iI shs), .int (iI shz)])) ∈ wl) (hv : (sv, .inl (G.2.1 0, sws.length, .inl (aI (lf sws)))) ∈ wl) : Ct G l yJ3_length (ws_ yJ3_length cJ3_length 1 (some .int)) ({ frames := 1, cells := 0, slots := 0, locals := 20 } : Room) [.ref sa] ([] ++ wl) (fun _ : Unit => True) (fun _ : Unit => ((some (.int (iI (sws.length : Int)))) : Option Value)) (fun _ : Unit => (([] ++ wl) : va_W)) := by
  refine Ct.of (by decide) rfl ?_
  intro pP eE sS mM below meth cC A ls Q F hE hA hP hD hS hl hQ
  have hl : lv_has ls 1 [(0, .ref sa)] := hl
  refine lv_aload_n F.1 F.2.1 dJ3_length_0 rfl (lv_at hl 0 rfl) ?_
  obtain ⟨k_1, hk_2⟩ := mem_at (X := []) ho
  refine r_get F (ci := 17) (v := .ref sv) b_J3 hE hP k_1 hk_2 0 (by decide) q579 (fun _ h9 => h9) rfl dJ3_length_1 ?_
  obtain ⟨k_3, hk_4⟩ := mem_at (X := []) hv
  refine r_alen F (t := 0) (n := sws.length) hE hP k_3 hk_4 rfl dJ3_length_4 ?_
  refine lv_aload_n F.1 F.2.1 dJ3_length_5 rfl (lv_at hl 0 rfl) ?_
  obtain ⟨k_7, hk_8⟩ := mem_at (X := []) ho
  refine cl_V F (C := "java/lang/String") (ct_J3_coder sa sv shs shz wl ho) hd_J3_coder rfl q1742 q1743 q1744 q123 q1745 (va_recv hE.1 hP (ci := 17) (q0 := k_7) rfl hk_8) hE hP hD hS hA (X := []) (pl := wl) (cx := []) (wr := []) [] [] rfl rfl rfl rfl (by decide) rfl rfl rfl (Nat.le_of_ble_eq_true rfl) hl.1 dJ3_length_6 ⟨Nat.le_of_ble_eq_true rfl, Nat.le_of_ble_eq_true rfl⟩ ⟨Nat.le_of_ble_eq_true rfl, Nat.le_of_ble_eq_true rfl⟩ (fun _ H locs _ hP hD hS => ?_)
  have hP : va_P G.1 clG ([] ++ wl) _ := hP
  have hD : va_D A ([] ++ wl) := hD
  refine W.eq (g2 := F0 mM 9 ls [.int (iI 0), .int (iI (sws.length : Int))]) rfl ?_
  refine r_ishr F (by omega) 0 rfl (by decide) dJ3_length_9 ?_
  exact rt_i F hQ hS (Nat.le_of_ble_eq_true rfl) (Nat.le_of_ble_eq_true rfl) () (congrArg (fun z => some (Value.int (iI z))) (show (sws.length : Int) = ((sws.length : Int) / 2 ^ 0) from by first | rfl | omega | (simp; done) | (simp; omega))) trivial hP hD dJ3_length_10
theorem hd_J3_checkIndex : Hd yJ3_checkIndex 2 := ⟨by decide +kernel, by decide +kernel, by decide +kernel⟩
set_option maxHeartbeats 1000000 in
theorem ct_J6_charAt {G : Gm} {l : Launch} (sv : Nat) (sws : List Int) (i : Int) (wl : va_W) (ht : TxL sws) (hn8 : sws.length ≤ 1000) (hi : 0 ≤ i ∧ i < sws.length) (hv : (sv, .inl (G.2.1 0, sws.length, .inl (aI (lf sws)))) ∈ wl) : Ct G l yJ6_charAt (ws_ yJ6_charAt cJ6_charAt 2 (some .char)) ({ frames := 2, cells := 0, slots := 0, locals := 43 } : Room) [.ref sv, .int (iI i)] ([] ++ wl) (fun _ : Unit => True) (fun _ : Unit => ((some (.int (iI (lf sws i.toNat)))) : Option Value)) (fun _ : Unit => (([] ++ wl) : va_W)) := by
  refine Ct.of (by decide) rfl ?_
  intro pP eE sS mM below meth cC A ls Q F hE hA hP hD hS hl hQ
  have hl : lv_has ls 2 [(0, .ref sv), (1, .int (iI i))] := hl
  have hti := ht i.toNat
  refine lv_iload_n F.1 F.2.1 dJ6_charAt_0 rfl (lv_at hl 1 rfl) ?_
  refine lv_aload_n F.1 F.2.1 dJ6_charAt_1 rfl (lv_at hl 0 rfl) ?_
  obtain ⟨k_1, hk_2⟩ := mem_at (X := []) hv
  refine r_alen F (t := 0) (n := sws.length) hE hP k_1 hk_2 rfl dJ6_charAt_2 ?_
  refine cl_S F (ct_J3_checkIndex i (sws.length : Int) wl (by omega) (by omega)) hd_J3_checkIndex q1753 q1754 q123 q1755 hE hP hD hS hA (X := []) (pl := wl) (cx := []) (wr := []) [] [] rfl rfl rfl rfl (by decide) rfl rfl rfl (Nat.le_of_ble_eq_true rfl) hl.1 dJ6_charAt_3 ⟨Nat.le_of_ble_eq_true rfl, Nat.le_of_ble_eq_true rfl⟩ ⟨Nat.le_of_ble_eq_true rfl, Nat.le_of_ble_eq_true rfl⟩ (fun _ H locs _ hP hD hS => ?_)
  have hP : va_P G.1 clG ([] ++ wl) _ := hP
  have hD : va_D A ([] ++ wl) := hD
  refine W.eq (g2 := F0 mM 6 ls []) rfl ?_
  refine lv_aload_n F.1 F.2.1 dJ6_charAt_6 rfl (lv_at hl 0 rfl) ?_
  refine lv_iload_n F.1 F.2.1 dJ6_charAt_7 rfl (lv_at hl 1 rfl) ?_
  obtain ⟨k_5, hk_6⟩ := mem_at (X := []) hv
  refine r_bald F (g := (lf sws)) hE hP k_5 hk_6 i.toNat (by omega) (by omega) (by omega) dJ6_charAt_8 ?_
  refine lv_sipush (v := iI 255) F.1 F.2.1 dJ6_charAt_9 (sip_ok (by decide)) ?_
  refine r_andm F 8 (by decide) (by decide +kernel) dJ6_charAt_12 ?_
  refine r_i2c F (by omega) dJ6_charAt_13 ?_
  exact rt_n F hQ hS (Nat.le_of_ble_eq_true rfl) (Nat.le_of_ble_eq_true rfl) (nrc (by omega)) () (congrArg (fun z => some (Value.int (iI z))) (show (lf sws i.toNat) = (((lf sws) i.toNat) % 2 ^ 8) from by first | rfl | omega | (simp; done) | (simp; omega))) trivial hP hD dJ6_charAt_14
theorem hd_J6_charAt : Hd yJ6_charAt 2 := ⟨by decide +kernel, by decide +kernel, by decide +kernel⟩
set_option maxHeartbeats 1000000 in
theorem ct_J3_charAt {G : Gm} {l : Launch} (sa : Nat) (sv : Nat) (sws : List Int) (shs : Int) (shz : Int) (i : Int) (wl : va_W) (ht : TxL sws) (hn8 : sws.length ≤ 1000) (hi : 0 ≤ i ∧ i < sws.length) (ho : (sa, .inr (17, [.ref sv, .int (iI 0), .int (iI shs), .int (iI shz)])) ∈ wl) (hv : (sv, .inl (G.2.1 0, sws.length, .inl (aI (lf sws)))) ∈ wl) : Ct G l yJ3_charAt (ws_ yJ3_charAt cJ3_charAt 2 (some .char)) ({ frames := 3, cells := 0, slots := 0, locals := 64 } : Room) [.ref sa, .int (iI i)] ([] ++ wl) (fun _ : Unit => True) (fun _ : Unit => ((some (.int (iI (lf sws i.toNat)))) : Option Value)) (fun _ : Unit => (([] ++ wl) : va_W)) := by
  refine Ct.of (by decide) rfl ?_
  intro pP eE sS mM below meth cC A ls Q F hE hA hP hD hS hl hQ
  have hl : lv_has ls 2 [(0, .ref sa), (1, .int (iI i))] := hl
  have hti := ht i.toNat
  refine lv_aload_n F.1 F.2.1 dJ3_charAt_0 rfl (lv_at hl 0 rfl) ?_
  obtain ⟨k_3, hk_4⟩ := mem_at (X := []) ho
  refine cl_V F (C := "java/lang/String") (ct_J3_isLatin1_r sa sv shs shz wl ho) hd_J3_isLatin1 rfl q612 q613 q614 q123 q615 (va_recv hE.1 hP (ci := 17) (q0 := k_3) rfl hk_4) hE hP hD hS hA (X := []) (pl := wl) (cx := []) (wr := []) [] [] rfl rfl rfl rfl (by decide) rfl rfl rfl (Nat.le_of_ble_eq_true rfl) hl.1 dJ3_charAt_1 ⟨Nat.le_of_ble_eq_true rfl, Nat.le_of_ble_eq_true rfl⟩ ⟨Nat.le_of_ble_eq_true rfl, Nat.le_of_ble_eq_true rfl⟩ (fun _ H locs _ hP hD hS => ?_)
  have hP : va_P G.1 clG ([] ++ wl) _ := hP
  have hD : va_D A ([] ++ wl) := hD
  refine W.eq (g2 := F0 mM 4 ls [.int (iI 1)]) rfl ?_
  refine r_if_eq F (tgt := 16) (by decide) dJ3_charAt_4 (by decide) (fun c_5 => ?_) (fun c_5 => ?_)
  · exact absurd c_5 (by decide)
  · refine lv_aload_n F.1 F.2.1 dJ3_charAt_7 rfl (lv_at hl 0 rfl) ?_
    obtain ⟨k_6, hk_7⟩ := mem_at (X := []) ho
    refine r_get F (ci := 17) (v := .ref sv) b_J3 hE hP k_6 hk_7 0 (by decide) q579 (fun _ h9 => h9) rfl dJ3_charAt_8 ?_
    refine lv_iload_n F.1 F.2.1 dJ3_charAt_11 rfl (lv_at hl 1 rfl) ?_
    refine cl_S F (ct_J6_charAt sv sws i wl ht hn8 hi hv) hd_J6_charAt q1750 q1751 q126 q1752 hE hP hD hS hA (X := []) (pl := wl) (cx := []) (wr := []) [] [] rfl rfl rfl rfl (by decide) rfl rfl rfl (Nat.le_of_ble_eq_true rfl) hl.1 dJ3_charAt_12 ⟨Nat.le_of_ble_eq_true rfl, Nat.le_of_ble_eq_true rfl⟩ ⟨Nat.le_of_ble_eq_true rfl, Nat.le_of_ble_eq_true rfl⟩ (fun _ H locs _ hP hD hS => ?_)
    have hP : va_P G.1 clG ([] ++ wl) _ := hP
    have hD : va_D A ([] ++ wl) := hD
    refine W.eq (g2 := F0 mM 15 ls [.int (iI (lf sws i.toNat))]) rfl ?_
    exact rt_n F hQ hS (Nat.le_of_ble_eq_true rfl) (Nat.le_of_ble_eq_true rfl) (nrc (by omega)) () rfl trivial hP hD dJ3_charAt_15
