/-! ROWS of what the JDK's texts want: statics, casts, lookups, texts apart -/
set_option maxRecDepth 100000
theorem nrb {x : Int} (h : -128 ≤ x ∧ x < 128) : narrow .byte (.int (iI x)) = .int (iI x) := by
  show Value.int ((iI x).toInt8.toInt32) = _
  rw [iI_b, bt_id h]
theorem ftb {x : Int} (h : -128 ≤ x ∧ x < 128) : fits .byte (.int (iI x)) = true := by
  show (decide (-128 ≤ iI x) && decide (iI x ≤ 127)) = true
  have e1 : (-128 : Int32) = iI (-128) := by decide +kernel
  have e2 : (127 : Int32) = iI 127 := by decide +kernel
  rw [e1, e2, Bool.and_eq_true, decide_eq_true_eq, decide_eq_true_eq, iI_le (by decide) (by omega), iI_le (by omega) (by decide)]
  omega
theorem nrc {x : Int} (hx : 0 ≤ x ∧ x < 65536) : narrow .char (.int (iI x)) = .int (iI x) := by
  show Value.int ((iI x).toUInt32.toUInt16.toUInt32.toInt32) = _
  have e1 : (iI x).toUInt32.toUInt16.toUInt32.toInt32 = ((iI x).toUInt32 % 65536).toInt32 := by
    refine Int32.toBitVec_inj.mp (BitVec.eq_of_toNat_eq ?_)
    show ((iI x).toUInt32.toUInt16.toUInt32).toNat = ((iI x).toUInt32 % 65536).toNat
    simp
  rw [e1, pk_char, iI_tn, Int.emod_eq_of_lt hx.1 (by omega)]
  refine congrArg Value.int ?_
  show Int32.ofNat _ = _
  rw [iI_nat]
  exact congrArg iI (by omega)
section FJ
variable {p : Program} {l : Launch} {e : Env} {R : Room} {s : State} {m : MethodId} {args : Array Value} {below : List Frame} {meth : Method} {c : Code} {H : Heap} {locs : List Loc} {cells slots : Nat} {Q : State → Prop}
variable {cc : ByteArray} {nL : Nat} {own nm : String} {ret : Option FieldType} {G : Gm} {A : Nat → Prop} {pc : Nat} {ls : Array Slot} {rest : List Value}
theorem r_compact (F : Fx p s m meth c args cc nL own ret nm) (hE : Ev G A s) (hS : va_S A s.heap H locs) {index : Nat} (q : Cond.fieldLink own index "java/lang/String" "COMPACT_STRINGS" "Z" ∈ lw_all) (hdg : decode cc pc = .ok (.getstatic index, 3)) (k : W p l e R s m args below meth c H locs cells slots Q (F0 m (pc + 3) ls (.int (iI 1) :: rest))) : W p l e R s m args below meth c H locs cells slots Q (F0 m pc ls rest) :=
  va_gets F.1 F.2.1 hE.2.2.1.1 hS F.2.2.2.1 (F.2.2.2.2.1 _ q) (fun _ h => h) hdg k
theorem r_sioobe (F : Fx p s m meth c args cc nL own ret nm) (hE : Ev G A s) (hS : va_S A s.heap H locs) {index : Nat} (q : Cond.fieldLink own index "jdk/internal/util/Preconditions" "SIOOBE_FORMATTER" "Ljava/util/function/BiFunction;" ∈ lw_all) (hdg : decode cc pc = .ok (.getstatic index, 3)) (k : ∀ x : Option Nat, W p l e R s m args below meth c H locs cells slots Q (F0 m (pc + 3) ls (va_rf x :: rest))) : W p l e R s m args below meth c H locs cells slots Q (F0 m pc ls rest) := by
  rcases hE.2.2.1.2.2.2 with h | ⟨t, h⟩
  · exact va_gets F.1 F.2.1 h hS F.2.2.2.1 (F.2.2.2.2.1 _ q) (fun _ h => h) hdg (k none)
  · exact va_gets F.1 F.2.1 h hS F.2.2.2.1 (F.2.2.2.2.1 _ q) (fun _ h => h) hdg (k (some t))
theorem r_lsw (F : Fx p s m meth c args cc nL own ret nm) {dflt : Int} {ps : Array (Int × Int)} {len tgt : Nat} {a off : Int} (ha : -2147483648 ≤ a ∧ a < 2147483648) (hdg : decode cc pc = .ok (.lookupswitch dflt ps, len)) (hp : (ps.toList.zip (ps.toList.drop 1)).all (fun (a, next) => a.1 < next.1) = true) (ho : Op.lookupswitch.offset ps.toList dflt a = off) (ht : (pc : Int) + off = (tgt : Int)) (k : W p l e R s m args below meth c H locs cells slots Q (F0 m tgt ls rest)) : W p l e R s m args below meth c H locs cells slots Q (F0 m pc ls (.int (iI a) :: rest)) :=
  lv_lookup F.1 F.2.1 hdg hp (by rw [iI_toInt ha]; exact ho) ht k
theorem los_n {a k0 o d : Int} {r : List (Int × Int)} (h : ¬ a = k0) : Op.lookupswitch.offset ((k0, o) :: r) d a = Op.lookupswitch.offset r d a := by
  rw [Op.lookupswitch.offset_cons, if_neg]
  intro q
  exact h q.symm
theorem los_y {k0 o d : Int} {r : List (Int × Int)} : Op.lookupswitch.offset ((k0, o) :: r) d k0 = o := by
  rw [Op.lookupswitch.offset_cons, if_pos rfl]
/-- a thing's cell, found for a cast -/
theorem r_isS {C : String} {T : u_T} {N ci a q0 : Nat} {ty : Nat → FieldType} {ws : va_W} {fs : List Value} (hb : Cb ci C T N ty) (hE : Ev G A s) (hP : va_P G.1 clG ws H) (he : ws[q0]? = some (a, .inr (ci, fs))) : ∃ cell : Cell, H[a]? = some cell ∧ cell.vm.isStatics = false ∧ s.vm.findClass C = some cell.cls := va_recv hE.1 hP hb.2.2.2 he
theorem r_instS (F : Fx p s m meth c args cc nL own ret nm) {C : String} {T : u_T} {N ci a index : Nat} {ty : Nat → FieldType} {ws : va_W} {fs : List Value} (hb : Cb ci C T N ty) (q1 : Cond.classLink own index C ∈ lw_all) (hE : Ev G A s) (hP : va_P G.1 clG ws H) (q0 : Nat) (he : ws[q0]? = some (a, .inr (ci, fs))) (hdg : decode cc pc = .ok (.instanceof index, 3)) (k : W p l e R s m args below meth c H locs cells slots Q (F0 m (pc + 3) ls (.int (iI 1) :: rest))) : W p l e R s m args below meth c H locs cells slots Q (F0 m pc ls (.ref a :: rest)) :=
  va_instS F.1 F.2.1 F.2.2.2.1 (F.2.2.2.2.1 _ q1) (hE.1.1 ci _ hb.2.2.2).2 (r_isS hb hE hP he) hdg (by rw [show (1 : Int32) = iI 1 from by decide +kernel]; exact k)
theorem r_castS (F : Fx p s m meth c args cc nL own ret nm) {C : String} {T : u_T} {N ci a index : Nat} {ty : Nat → FieldType} {ws : va_W} {fs : List Value} (hb : Cb ci C T N ty) (q1 : Cond.classLink own index C ∈ lw_all) (hE : Ev G A s) (hP : va_P G.1 clG ws H) (q0 : Nat) (he : ws[q0]? = some (a, .inr (ci, fs))) (hdg : decode cc pc = .ok (.checkcast index, 3)) (k : W p l e R s m args below meth c H locs cells slots Q (F0 m (pc + 3) ls (.ref a :: rest))) : W p l e R s m args below meth c H locs cells slots Q (F0 m pc ls (.ref a :: rest)) :=
  va_castS F.1 F.2.1 F.2.2.2.1 (F.2.2.2.2.1 _ q1) (hE.1.1 ci _ hb.2.2.2).2 (r_isS hb hE hP he) hdg k
theorem r_instY (F : Fx p s m meth c args cc nL own ret nm) {C nm2 : String} {T : u_T} {N ci a index : Nat} {ty : Nat → FieldType} {ws : va_W} {fs : List Value} (hb : Cb ci C T N ty) (q1 : Cond.classLink own index nm2 ∈ lw_all) (q2 : Cond.castable C nm2 ∈ lw_tbl) (hE : Ev G A s) (hP : va_P G.1 clG ws H) (q0 : Nat) (he : ws[q0]? = some (a, .inr (ci, fs))) (hdg : decode cc pc = .ok (.instanceof index, 3)) (k : W p l e R s m args below meth c H locs cells slots Q (F0 m (pc + 3) ls (.int (iI 1) :: rest))) : W p l e R s m args below meth c H locs cells slots Q (F0 m pc ls (.ref a :: rest)) :=
  va_instY F.1 F.2.1 F.2.2.2.1 (F.2.2.2.2.1 _ q1) (hE.2.1.1 _ q2 rfl) (r_isS hb hE hP he) hdg (by rw [show (1 : Int32) = iI 1 from by decide +kernel]; exact k)
theorem r_instN (F : Fx p s m meth c args cc nL own ret nm) {C nm2 : String} {T : u_T} {N ci a index : Nat} {ty : Nat → FieldType} {ws : va_W} {fs : List Value} (hb : Cb ci C T N ty) (q1 : Cond.classLink own index nm2 ∈ lw_all) (q2 : (C, nm2) ∈ ncG) (hE : Ev G A s) (hP : va_P G.1 clG ws H) (q0 : Nat) (he : ws[q0]? = some (a, .inr (ci, fs))) (hdg : decode cc pc = .ok (.instanceof index, 3)) (k : W p l e R s m args below meth c H locs cells slots Q (F0 m (pc + 3) ls (.int (iI 0) :: rest))) : W p l e R s m args below meth c H locs cells slots Q (F0 m pc ls (.ref a :: rest)) :=
  va_instNo F.1 F.2.1 F.2.2.2.1 (F.2.2.2.2.1 _ q1) (hE.2.1.2.2 _ q2) (r_isS hb hE hP he) hdg (by rw [show (0 : Int32) = iI 0 from by decide +kernel]; exact k)
theorem r_castB (F : Fx p s m meth c args cc nL own ret nm) {a n index : Nat} {ws : va_W} {g : Nat → Int} (q1 : Cond.classLink own index "[B" ∈ lw_all) (hE : Ev G A s) (hP : va_P G.1 clG ws H) (q0 : Nat) (he : ws[q0]? = some (a, .inl (G.2.1 0, n, .inl (aI g)))) (hdg : decode cc pc = .ok (.checkcast index, 3)) (k : W p l e R s m args below meth c H locs cells slots Q (F0 m (pc + 3) ls (.ref a :: rest))) : W p l e R s m args below meth c H locs cells slots Q (F0 m pc ls (.ref a :: rest)) :=
  va_castA F.1 F.2.1 F.2.2.2.1 (F.2.2.2.2.1 _ q1) hP q0 he (hE.1.2 0 _ rfl).2 hdg k
theorem r_acmp_ne (F : Fx p s m meth c args cc nL own ret nm) {x y : Nat} {off : Int} {tgt : Nat} (h : ¬ x = y) (hdg : decode cc pc = .ok (.if_acmp .ne off, 3)) (ht : (pc : Int) + off = (tgt : Int)) (k : W p l e R s m args below meth c H locs cells slots Q (F0 m tgt ls rest)) : W p l e R s m args below meth c H locs cells slots Q (F0 m pc ls (.ref y :: .ref x :: rest)) :=
  lv_acmp_ne (rx := some x) (ry := some y) F.1 F.2.1 hdg ht (fun _ => k) (fun q => absurd (Option.some.inj q) h)
theorem r_ushr0 (F : Fx p s m meth c args cc nL own ret nm) {a : Int} (h : a = 0) (hdg : decode cc pc = .ok (.iushr, 1)) (k : W p l e R s m args below meth c H locs cells slots Q (F0 m (pc + 1) ls (.int (iI 0) :: rest))) : W p l e R s m args below meth c H locs cells slots Q (F0 m pc ls (.int (iI 31) :: .int (iI a) :: rest)) := by
  subst h
  exact lv_iushr F.1 F.2.1 hdg (by decide +kernel) k
end FJ
theorem or_nn {a b : Int} (ha : 0 ≤ a ∧ a < 2147483648) (hb : 0 ≤ b ∧ b < 2147483648) : ∃ z : Int, (0 ≤ z ∧ z < 2147483648) ∧ iI a ||| iI b = iI z := by
  refine ⟨((a.toNat ||| b.toNat : Nat) : Int), ⟨by omega, ?_⟩, ?_⟩
  · have h : a.toNat ||| b.toNat < 2 ^ 31 := Nat.or_lt_two_pow (by omega) (by omega)
    omega
  · have e1 : iI a = Int32.ofNat a.toNat := by rw [iI_nat]; exact congrArg iI (by omega)
    have e2 : iI b = Int32.ofNat b.toNat := by rw [iI_nat]; exact congrArg iI (by omega)
    rw [e1, e2, ← iI_nat]
    refine Int32.toBitVec_inj.mp ?_
    rw [Int32.toBitVec_or]
    show BitVec.ofNat 32 _ ||| BitVec.ofNat 32 _ = BitVec.ofNat 32 _
    exact BitVec.ofNat_or.symm
/-- a thing of the world's own and one of the tail's lie apart -/
theorem apart {A : Nat → Prop} {X pl : va_W} {p q : Nat × va_E} {i : Nat} (hD : va_D A (X ++ pl)) (hi : X[i]? = some p) (hq : q ∈ pl) : ¬ p.1 = q.1 := by
  obtain ⟨k, hk⟩ := List.getElem?_of_mem hq
  have hl : i < X.length := (List.getElem?_eq_some_iff.mp hi).1
  intro e
  have h := hD.1 i (X.length + k) p q (by rw [List.getElem?_append_left hl]; exact hi) (by rw [List.getElem?_append_right (by omega), show X.length + k - X.length = k by omega]; exact hk) e
  omega
/-- the letters of a text -/
def lf (ws : List Int) : Nat → Int := fun i => ws.getD i 0
theorem lf_at {ws : List Int} {i : Nat} {x : Int} (h : ws[i]? = some x) : lf ws i = x := by
  unfold lf
  rw [List.getD_eq_getElem?_getD, h]
  rfl
theorem lf_eq {ws vs : List Int} (h : ws.length = vs.length) (h2 : ∀ i, i < ws.length → lf ws i = lf vs i) : ws = vs := by
  refine List.ext_getElem? fun i => ?_
  by_cases q : i < ws.length
  · have q2 : i < vs.length := by omega
    have h3 := h2 i q
    rw [lf_at (List.getElem?_eq_getElem q), lf_at (List.getElem?_eq_getElem q2)] at h3
    rw [List.getElem?_eq_getElem q, List.getElem?_eq_getElem q2, h3]
  · rw [List.getElem?_eq_none (by omega), List.getElem?_eq_none (by omega)]
/-- plain letters -/
def TxL (ws : List Int) : Prop := ∀ i, 0 ≤ lf ws i ∧ lf ws i ≤ 127
def hsM (ws : List Int) : Nat → Int
  | 0 => 0
  | j + 1 => 31 * hsM ws j + lf ws j
def h32 (a : Int) : Int := Int.bmod a 4294967296
theorem h32_in (a : Int) : -2147483648 ≤ h32 a ∧ h32 a < 2147483648 := by
  unfold h32
  have h1 := Int.le_bmod (x := a) (m := 4294967296) (by decide)
  have h2 := Int.bmod_lt (x := a) (m := 4294967296) (by decide)
  omega
theorem iI_h32 (a : Int) : iI a = iI (h32 a) := by
  unfold h32
  refine Int32.toInt_inj.mp ?_
  show (Int32.ofInt a).toInt = (Int32.ofInt (Int.bmod a 4294967296)).toInt
  rw [Int32.toInt_ofInt, Int32.toInt_ofInt]
  exact (Int.bmod_bmod).symm
theorem lf_up {ws : List Int} {g : Nat → Int} {j : Nat} (ht : TxL ws) (i : Nat) : up (fun q => if q < j then lf ws q else g q) j (bt (lf ws j)) i = if i < j + 1 then lf ws i else g i := by
  by_cases e : i = j
  · subst e
    have := ht i
    rw [up_s, if_pos (Nat.lt_succ_self i), bt_id (by omega)]
  · rw [up_n e]
    by_cases q : i < j
    · rw [if_pos q, if_pos (by omega)]
    · rw [if_neg q, if_neg (by omega)]
abbrev hsW (ws : List Int) : Int := h32 (hsM ws ws.length)
