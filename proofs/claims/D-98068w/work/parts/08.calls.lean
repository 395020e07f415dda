/-! CALLS, things made, texts -/
set_option maxRecDepth 100000
theorem pg_blind {G : Gm} {As : List Value} {wc : va_W} {sz : Nat} : FrameBlind (PG G As wc sz) := by
  intro a U g mk h
  obtain ⟨h0, h1, h2, h3, h4⟩ := h
  exact ⟨h0, h1, h2, h3, h4.blind g mk a⟩
/-- what of the tail lies in the world -/
theorem mem_at {X pl : va_W} {q : Nat × va_E} (h : q ∈ pl) : ∃ k : Nat, (X ++ pl)[k]? = some q := by
  obtain ⟨k, hk⟩ := List.getElem?_of_mem h
  refine ⟨X.length + k, ?_⟩
  rw [List.getElem?_append_right (by omega), show X.length + k - X.length = k by omega]
  exact hk
section FC
variable {p : Program} {l : Launch} {e : Env} {R : Room} {s : State} {m : MethodId} {args : Array Value} {below : List Frame} {meth : Method} {c : Code} {H : Heap} {locs : List Loc} {cells slots : Nat} {Q : State → Prop}
variable {cc : ByteArray} {nL : Nat} {own nm : String} {ret : Option FieldType} {G : Gm} {A : Nat → Prop} {pc : Nat} {ls : Array Slot} {rest st0 : List Value}
theorem pg_of {X cx pl wc : va_W} {As : List Value} {isC : List Nat} (hE : Ev G A s) (hP : va_P G.1 clG (X ++ pl) H) (hD : va_D A (X ++ pl)) (hS : va_S A s.heap H locs) (hA : ∀ q : Nat, s.heap.size ≤ q → A q) (hn : va_nd isC = true) (hC : isC.map (fun i => X[i]?) = cx.map some) (hwc : wc = cx ++ pl) : ∀ U : State, U.heap = H → s.WarmedH U.vm → PG G As wc H.size As.toArray U := by
  subst hwc
  intro U hU hW
  exact ⟨rfl, by rw [hU], by rw [hU]; exact hP.part isC hC, (hD.part isC hn hC).weaken (fun _ _ _ _ => trivial), hE.call hS hU hW (va_freeP hD hS hA isC hC)⟩
theorem cl_run {S : Type} {φ : S → Prop} {res : S → Option Value} {w1 : S → va_W} {X cx wr pl wc : va_W} {mc ms : Nat} {a : Array Value} (hr : va_Run p l e R s m args below meth c H locs cells slots mc ms (F0 m pc ls st0) rest (QG φ res (BG G w1 (va_A wc H.size)) (va_A wc H.size) a) (va_A wc H.size)) (hP : va_P G.1 clG (X ++ pl) H) (hD : va_D A (X ++ pl)) (hS : va_S A s.heap H locs) (hA : ∀ q : Nat, s.heap.size ≤ q → A q) (isC isR : List Nat) (hC : isC.map (fun i => X[i]?) = cx.map some) (hR : isR.map (fun i => X[i]?) = wr.map some) (hn : va_nd isR = true) (hdis : ∀ i ∈ isR, i ∉ isC) (hwc : wc = cx ++ pl)
    (kk : ∀ (u : S) (H1 : Heap) (locs1 : List Loc), φ u → va_P G.1 clG (wr ++ w1 u) H1 → va_D A (wr ++ w1 u) → va_S A s.heap H1 locs1 → W p l e R s m args below meth c H1 locs1 (cells + mc) (slots + ms) Q (F0 m (pc + 3) ls ((res u).toList ++ rest))) : W p l e R s m args below meth c H locs cells slots Q (F0 m pc ls st0) := by
  subst hwc
  have hF := va_freeP hD hS hA isC hC
  intro T hT X0
  obtain ⟨v, st₀, t, T', L, h0, X', hL, e1, e2, ⟨⟨u, hv, hφ, hP1, hD1⟩, hz, hk⟩, st⟩ := hr T hT X0
  cases hv
  rw [h0] at hz hk
  obtain ⟨hP2, hD2⟩ := va_joinP (rx := []) (pl1 := w1 u) hP hD isC isR hC hR hn hdis hk hF hP1 hD1
  rw [List.append_nil] at hP2 hD2
  obtain ⟨t2, a1, b1⟩ := kk u T'.heap (locs ++ L) hφ (by rw [e1]; exact hP2) hD2 ⟨Nat.le_trans hS.1 (by rw [e1]; exact hz), fun q h1 h2 => by rw [e1, hk q (Nat.lt_of_lt_of_le h1 hS.1) (fun z => h2 (hF q z))]; exact hS.2.1 q h1 h2, fun q hq => by
      rcases List.mem_append.mp hq with h | h
      · exact hS.2.2 q h
      · exact hF _ (hL q h)⟩ T' rfl X'
  exact ⟨t2, st t2 a1, b1⟩
/-- what is fixed of a callee -/
def Hd (y : MethodName) (n : Nat) : Prop := y.cls ≠ "java/lang/invoke/MethodHandle" ∧ y.cls ≠ "java/lang/invoke/VarHandle" ∧ (parseMethodDescriptor y.desc).map (fun d => d.parameters.length) = some n
theorem cl_V (F : Fx p s m meth c args cc nL own ret nm) {S : Type} {φ : S → Prop} {res : S → Option Value} {w1 : S → va_W} {X cx wr pl wc : va_W} {y : MethodName} {bytes : ByteArray} {maxL n index b : Nat} {rt : Option FieldType} {rm : Room} {As : List Value} {C : String}
    (hM : Ct G l y (ws_ y bytes maxL rt) rm (.ref b :: As) wc φ res w1) (hd : Hd y n) (hyc : y.cls = C) (q1 : Cond.methodLink own index y ∈ lw_all) (q2 : Cond.instanceMethod y ∈ lw_all) (q3 : Cond.selects C y y ∈ lw_all) (q4 : Cond.initialized C ∈ lw_all) (q5 : Cond.code y bytes maxL rt ∈ lw_all)
    (recv : ∃ cell : Cell, H[b]? = some cell ∧ cell.vm.isStatics = false ∧ s.vm.findClass C = some cell.cls) (hE : Ev G A s) (hP : va_P G.1 clG (X ++ pl) H) (hD : va_D A (X ++ pl)) (hS : va_S A s.heap H locs) (hA : ∀ q : Nat, s.heap.size ≤ q → A q) (isC isR : List Nat) (hC : isC.map (fun i => X[i]?) = cx.map some) (hR : isR.map (fun i => X[i]?) = wr.map some) (hnC : va_nd isC = true) (hn : va_nd isR = true) (hdis : ∀ i ∈ isR, i ∉ isC) (hwc : wc = cx ++ pl)
    (hAs : As.length = n) (hst : st0 = As.reverse ++ .ref b :: rest) (hW : (rest.map fun v => v.category).sum ≤ 8) (hsz : ls.size = nL) (hdg : decode cc pc = .ok (.invokevirtual index, 3)) (hR1 : rm.frames + 1 ≤ R.frames ∧ 8 + (maxL + 11) + rm.locals ≤ R.locals) (hf : cells + rm.cells ≤ R.cells ∧ slots + rm.slots ≤ R.slots)
    (kk : ∀ (u : S) (H : Heap) (locs : List Loc), φ u → va_P G.1 clG (wr ++ w1 u) H → va_D A (wr ++ w1 u) → va_S A s.heap H locs → W p l e R s m args below meth c H locs (cells + rm.cells) (slots + rm.slots) Q (F0 m (pc + 3) ls ((res u).toList ++ rest))) : W p l e R s m args below meth c H locs cells slots Q (F0 m pc ls st0) :=
  cl_run (va_runV F.cf (hM H.size) (cwV n F.2.2.2.2.1 (lw_V q1 q2 q3 q4 q5) rfl rfl rfl ⟨hyc, hd⟩ hR1) ⟨pg_blind, recv, pg_of hE hP hD hS hA hnC hC hwc⟩ rfl hAs hsz hst (lv_room hW) hdg hf) hP hD hS hA isC isR hC hR hn hdis hwc kk
theorem cl_S (F : Fx p s m meth c args cc nL own ret nm) {S : Type} {φ : S → Prop} {res : S → Option Value} {w1 : S → va_W} {X cx wr pl wc : va_W} {y : MethodName} {bytes : ByteArray} {maxL n index : Nat} {rt : Option FieldType} {rm : Room} {As : List Value}
    (hM : Ct G l y (ws_ y bytes maxL rt) rm As wc φ res w1) (hd : Hd y n) (q1 : Cond.methodLink own index y ∈ lw_all) (q2 : Cond.static y ∈ lw_all) (q4 : Cond.initialized y.cls ∈ lw_all) (q5 : Cond.code y bytes maxL rt ∈ lw_all)
    (hE : Ev G A s) (hP : va_P G.1 clG (X ++ pl) H) (hD : va_D A (X ++ pl)) (hS : va_S A s.heap H locs) (hA : ∀ q : Nat, s.heap.size ≤ q → A q) (isC isR : List Nat) (hC : isC.map (fun i => X[i]?) = cx.map some) (hR : isR.map (fun i => X[i]?) = wr.map some) (hnC : va_nd isC = true) (hn : va_nd isR = true) (hdis : ∀ i ∈ isR, i ∉ isC) (hwc : wc = cx ++ pl)
    (hAs : As.length = n) (hst : st0 = As.reverse ++ rest) (hW : (rest.map fun v => v.category).sum ≤ 8) (hsz : ls.size = nL) (hdg : decode cc pc = .ok (.invokestatic index, 3)) (hR1 : rm.frames + 1 ≤ R.frames ∧ 8 + (maxL + 11) + rm.locals ≤ R.locals) (hf : cells + rm.cells ≤ R.cells ∧ slots + rm.slots ≤ R.slots)
    (kk : ∀ (u : S) (H : Heap) (locs : List Loc), φ u → va_P G.1 clG (wr ++ w1 u) H → va_D A (wr ++ w1 u) → va_S A s.heap H locs → W p l e R s m args below meth c H locs (cells + rm.cells) (slots + rm.slots) Q (F0 m (pc + 3) ls ((res u).toList ++ rest))) : W p l e R s m args below meth c H locs cells slots Q (F0 m pc ls st0) :=
  cl_run (va_runS F.cf (hM H.size) (va_cwS n F.2.2.2.2.1 (lw_S q1 q2 q4 q5) rfl rfl rfl hd hR1) ⟨pg_blind, pg_of hE hP hD hS hA hnC hC hwc⟩ rfl hAs hsz hst (lv_room hW) hdg hf) hP hD hS hA isC isR hC hR hn hdis hwc kk
theorem cl_I (F : Fx p s m meth c args cc nL own ret nm) {S : Type} {φ : S → Prop} {res : S → Option Value} {w1 : S → va_W} {X cx wr pl wc : va_W} {y : MethodName} {bytes : ByteArray} {maxL n index b : Nat} {rm : Room} {As : List Value}
    (hM : Ct G l y (ws_ y bytes maxL none) rm (.ref b :: As) wc φ res w1) (hd : Hd y n) (hyn : y.name = "<init>") (q1 : Cond.methodLink own index y ∈ lw_all) (q2 : Cond.instanceMethod y ∈ lw_all) (q4 : Cond.initialized y.cls ∈ lw_all) (q5 : Cond.code y bytes maxL none ∈ lw_all)
    (hE : Ev G A s) (hP : va_P G.1 clG (X ++ pl) H) (hD : va_D A (X ++ pl)) (hS : va_S A s.heap H locs) (hA : ∀ q : Nat, s.heap.size ≤ q → A q) (isC isR : List Nat) (hC : isC.map (fun i => X[i]?) = cx.map some) (hR : isR.map (fun i => X[i]?) = wr.map some) (hnC : va_nd isC = true) (hn : va_nd isR = true) (hdis : ∀ i ∈ isR, i ∉ isC) (hwc : wc = cx ++ pl)
    (hAs : As.length = n) (hst : st0 = As.reverse ++ .ref b :: rest) (hW : (rest.map fun v => v.category).sum ≤ 8) (hsz : ls.size = nL) (hdg : decode cc pc = .ok (.invokespecial index, 3)) (hR1 : rm.frames + 1 ≤ R.frames ∧ 8 + (maxL + 11) + rm.locals ≤ R.locals) (hf : cells + rm.cells ≤ R.cells ∧ slots + rm.slots ≤ R.slots)
    (kk : ∀ (u : S) (H : Heap) (locs : List Loc), φ u → va_P G.1 clG (wr ++ w1 u) H → va_D A (wr ++ w1 u) → va_S A s.heap H locs → W p l e R s m args below meth c H locs (cells + rm.cells) (slots + rm.slots) Q (F0 m (pc + 3) ls ((res u).toList ++ rest))) : W p l e R s m args below meth c H locs cells slots Q (F0 m pc ls st0) :=
  cl_run (va_runI F.cf (hM H.size) (cwI n F.2.2.2.2.1 (lw_meth q5) rfl rfl rfl (F.2.2.2.2.1 _ q4) (F.2.2.2.2.1 _ q1) (F.2.2.2.2.1 _ q2) hyn hd hR1) ⟨pg_blind, pg_of hE hP hD hS hA hnC hC hwc⟩ rfl hAs hsz hst (lv_room hW) hdg hf) hP hD hS hA isC isR hC hR hn hdis hwc kk
/-! things made -/
theorem r_new (F : Fx p s m meth c args cc nL own ret nm) {C : String} {T : u_T} {N ci index : Nat} {ty : Nat → FieldType} {X pl : va_W} (hb : Cb ci C T N ty) (q1 : Cond.classLink own index C ∈ lw_all) (q2 : Cond.instantiable C N ∈ lw_all) (q3 : Cond.initialized C ∈ lw_all) (hE : Ev G A s) (hP : va_P G.1 clG (X ++ pl) H) (hD : va_D A (X ++ pl)) (hS : va_S A s.heap H locs) (hA : ∀ q : Nat, s.heap.size ≤ q → A q) {fs : List Value} (hfs : ∀ j, j < N → defaultValue (ty j) = vp_V fs j) (hcells : cells + 1 ≤ R.cells) (hslots : slots + N ≤ R.slots) (hdg : decode cc pc = .ok (.new index, 3))
    (kk : ∀ (q : Nat) (H : Heap), va_P G.1 clG ((X ++ [(q, .inr (ci, fs))]) ++ pl) H → va_D A ((X ++ [(q, .inr (ci, fs))]) ++ pl) → va_S A s.heap H locs → W p l e R s m args below meth c H locs (cells + 1) (slots + N) Q (F0 m (pc + 3) ls (.ref q :: rest))) : W p l e R s m args below meth c H locs cells slots Q (F0 m pc ls rest) :=
  va_new F.1 F.2.1 F.2.2.2.2.1 hb.1 ty hb.2.1 F.2.2.2.1 (F.2.2.2.2.1 _ q1) (F.2.2.2.2.1 _ q2) (F.2.2.2.2.1 _ q3) hE.1 hP hD hS hA hb.2.2.2 hfs hcells hslots hdg (fun q H1 h1 h2 h3 => kk q H1 h1.swap h2.swap h3)
theorem r_newa (F : Fx p s m meth c args cc nL own ret nm) {X pl : va_W} {atype : ArrayType} (t : Nat) {ty : FieldType} (hty : newarray.typeOf atype = ty) (hpr : refKind ty = false) (ht : (tyG G)[t]? = some (G.2.1 t, ty)) (q1 : Cond.arrayClass (newarray.typeOf atype) ∈ lw_all) (hE : Ev G A s) (hP : va_P G.1 clG (X ++ pl) H) (hD : va_D A (X ++ pl)) (hS : va_S A s.heap H locs) (hA : ∀ q : Nat, s.heap.size ≤ q → A q)
    {i : Int} {a0 : vp_A} (n : Nat) (hi : i = (n : Int)) (hn : n < 65536) (ha : ∀ cA : ClassId, vp_cell cA a0 = arrV cA n (fun _ => defaultValue ty)) (hcells : cells + 1 ≤ R.cells) (hslots : slots + n ≤ R.slots) (hdg : decode cc pc = .ok (.newarray atype, 2))
    (kk : ∀ (q : Nat) (H : Heap), va_P G.1 clG ((X ++ [(q, .inl (G.2.1 t, a0))]) ++ pl) H → va_D A ((X ++ [(q, .inl (G.2.1 t, a0))]) ++ pl) → va_S A s.heap H locs → W p l e R s m args below meth c H locs (cells + 1) (slots + n) Q (F0 m (pc + 2) ls (.ref q :: rest))) : W p l e R s m args below meth c H locs cells slots Q (F0 m pc ls (.int (iI i) :: rest)) := by
  have hcb : n * componentBytes ty ≤ 536870912 := by
    have : componentBytes ty ≤ 8 := by cases ty <;> simp [componentBytes]
    calc n * componentBytes ty ≤ 65536 * 8 := Nat.mul_le_mul (by omega) this
      _ ≤ 536870912 := by decide
  refine va_newa F.1 F.2.1 (F.2.2.2.2.1 _ q1) hty hE.1 hP hD hS hA ha (by subst hi; rw [iI_0, iI_lt (by omega) (by decide)]; omega) (iI_clN hi (by omega)) hcb hcells hslots hdg (fun q cA H1 hK1 h1 h2 h3 => ?_)
  have k1 := (hK1.2 (tyG G).length (cA, ty) (by rw [List.getElem?_append_right (Nat.le_refl _), Nat.sub_self]; rfl)).2
  have k2 := (hE.1.2 t _ ht).2
  have e : cA = G.2.1 t := by
    cases ty with
    | object C => cases hpr
    | _ => exact Option.some.inj ((show s.vm.findClass _ = some cA from k1).symm.trans (show s.vm.findClass _ = some (G.2.1 t) from k2))
  subst e
  exact kk q H1 h1.swap h2.swap h3
theorem r_newq (F : Fx p s m meth c args cc nL own ret nm) {X pl : va_W} {C : String} {index : Nat} (t : Nat) (ht : (tyG G)[t]? = some (G.2.1 t, .object C)) (q1 : Cond.classLink own index C ∈ lw_all) (hao : C ∈ aoG) (hE : Ev G A s) (hP : va_P G.1 clG (X ++ pl) H) (hD : va_D A (X ++ pl)) (hS : va_S A s.heap H locs) (hA : ∀ q : Nat, s.heap.size ≤ q → A q)
    {i : Int} (n : Nat) (hi : i = (n : Int)) (hn : n < 65536) (hcells : cells + 1 ≤ R.cells) (hslots : slots + n ≤ R.slots) (hdg : decode cc pc = .ok (.anewarray index, 3))
    (kk : ∀ (q : Nat) (H : Heap), va_P G.1 clG ((X ++ [(q, .inl (G.2.1 t, n, .inr (.inr (.inr (.inr (fun _ => none))))))]) ++ pl) H → va_D A ((X ++ [(q, .inl (G.2.1 t, n, .inr (.inr (.inr (.inr (fun _ => none))))))]) ++ pl) → va_S A s.heap H locs → W p l e R s m args below meth c H locs (cells + 1) (slots + n) Q (F0 m (pc + 3) ls (.ref q :: rest))) : W p l e R s m args below meth c H locs cells slots Q (F0 m pc ls (.int (iI i) :: rest)) := by
  refine va_newq F.1 F.2.1 F.2.2.2.1 (F.2.2.2.2.1 _ q1) (hE.2.1.2.1 C hao) hE.1 hP hD hS hA (by subst hi; rw [iI_0, iI_lt (by omega) (by decide)]; omega) (iI_clN hi (by omega)) (by omega) hcells hslots hdg (fun q cA H1 hK1 h1 h2 h3 => ?_)
  have k1 := (hK1.2 (tyG G).length (cA, .object C) (by rw [List.getElem?_append_right (Nat.le_refl _), Nat.sub_self]; rfl)).2
  have k2 := (hE.1.2 t _ ht).2
  obtain ⟨_, _, _, _, _, f1⟩ := k1
  obtain ⟨_, _, _, _, _, f2⟩ := k2
  have e : cA = G.2.1 t := Option.some.inj (f1.symm.trans f2)
  subst e
  exact kk q H1 h1.swap h2.swap h3
theorem r_aast (F : Fx p s m meth c args cc nL own ret nm) {ws : va_W} {a n v t ci qk : Nat} {vs : List Value} {f : Nat → Option Nat} {i : Int} {r : vw_C} (hE : Ev G A s) (hP : va_P G.1 clG ws H) (hD : va_D A ws) (hS : va_S A s.heap H locs) (q0 : Nat) (ha : ws[q0]? = some (a, .inl (G.2.1 t, n, .inr (.inr (.inr (.inr f)))))) (ht : (tyG G)[t]? = some (G.2.1 t, .object r.1)) (hv : ws[qk]? = some (v, .inr (ci, vs))) (hc : clG[ci]? = some r) (j : Nat) (hi : i = (j : Int)) (hj : j < n) (hn : n < 2147483648) (hdg : decode cc pc = .ok (.aastore, 1))
    (kk : ∀ (H : Heap) (locs : List Loc), va_P G.1 clG (ws.set q0 (a, .inl (G.2.1 t, n, .inr (.inr (.inr (.inr (up f j (some v)))))))) H → va_D A (ws.set q0 (a, .inl (G.2.1 t, n, .inr (.inr (.inr (.inr (up f j (some v)))))))) → va_S A s.heap H locs → W p l e R s m args below meth c H locs cells slots Q (F0 m (pc + 1) ls rest)) : W p l e R s m args below meth c H locs cells slots Q (F0 m pc ls (.ref v :: .int (iI i) :: .ref a :: rest)) := by
  refine va_astq F.1 F.2.1 hE.1 hP hD hS q0 t qk ci ha ht hv hc (iI_inN hi hj hn) hdg (fun H1 L1 h1 h2 h3 => ?_)
  have e : va_up f (iI i).toNatClampNeg (some v) = up f j (some v) := by
    rw [iI_clN hi (by omega)]
    rfl
  rw [e] at h1 h2
  exact kk H1 L1 h1 h2 h3
theorem r_oinit (F : Fx p s m meth c args cc nL own ret nm) {index b : Nat} (q1 : Cond.methodLink own index Lib.objectInit ∈ lw_all) (q2 : Cond.instanceMethod Lib.objectInit ∈ lw_all) (q3 : Cond.code Lib.objectInit ⟨#[0xb1]⟩ 1 none ∈ lw_all) (hsz : ls.size = nL) (hdg : decode cc pc = .ok (.invokespecial index, 3)) (h1 : 1 ≤ R.frames) (h2 : (rest.map fun v => v.category).sum + 12 ≤ R.locals) (k : W p l e R s m args below meth c H locs cells slots Q (F0 m (pc + 3) ls rest)) : W p l e R s m args below meth c H locs cells slots Q (F0 m pc ls (.ref b :: rest)) := by
  refine W.objInit F.1 F.2.1 F.2.2.2.1 (F.2.2.2.2.1 _ q1) (F.2.2.2.2.1 _ q2) (F.2.2.2.2.1 _ q3) rfl (by rw [F.2.2.1]; exact hsz) rfl hdg h1 ?_ k
  have e : (F0 m pc ls (.ref b :: rest)).monitorRoom = 0 := rfl
  rw [e]
  omega
/-! texts -/
theorem r_ldcS (F : Fx p s m meth c args cc nL own ret nm) {index : Nat} {tx : String} (hE : Ev G A s) (hq : (own, index, tx) ∈ ksG) (hdg : decode cc pc = .ok (.ldc index, 2)) (k : W p l e R s m args below meth c H locs cells slots Q (F0 m (pc + 2) ls (.ref (G.2.2 tx) :: rest))) : W p l e R s m args below meth c H locs cells slots Q (F0 m pc ls rest) :=
  va_ldcS F.1 F.2.1 F.2.2.2.1 (hE.2.2.2 _ hq) hdg k
theorem ldcSW {T : State} (X : Stand p l e R s m args below meth c T locs cells slots) (hexec : p.tables.exec = Jvm.exec) {text : String} {index : Nat} {a : Addr} (hown : s.vm.findClass own = some m.cls) (hconst : (Cond.stringRef own index text).before args s = true) (hev : (Term.string own index).eval args s none [] s = some (.ref a)) {g : JFrame} (hg : g.method = m) (hdg : decode c.code g.pc = .ok (.ldc_w index, 3)) :
    ∀ target, Steps p.tables e below (T.setTop { g with pc := g.pc + 3, stack := .ref a :: g.stack }) target → Steps p.tables e below (T.setTop g) target := by
  obtain ⟨k, cf, i, a', hk, hcf, hcp, -, hr, hev'⟩ := Cond.stringRef_spec hown hconst
  cases hev.symm.trans hev'
  obtain ⟨k', hk', he⟩ := X.warmed.alike.2.2 _ _ hk
  have hr' : k'.resolved[index]? = some (some (.string a)) := by
    rcases X.warmed.entry hk hk' index with h | ⟨h, -⟩
    · rw [h]; exact hr
    · rw [hr] at h; cases h
  intro target hrest
  subst hg
  jvm_step X.here [hexec, hdg, ldc_w.wp_string (e := e) (s := T) (f := g) X.here.top hk' (by rw [he]; exact hcf) hcp hr']
  exact hrest
theorem r_ldcSW (F : Fx p s m meth c args cc nL own ret nm) {index : Nat} {tx : String} (hE : Ev G A s) (hq : (own, index, tx) ∈ ksG) (hdg : decode cc pc = .ok (.ldc_w index, 3)) (k : W p l e R s m args below meth c H locs cells slots Q (F0 m (pc + 3) ls (.ref (G.2.2 tx) :: rest))) : W p l e R s m args below meth c H locs cells slots Q (F0 m pc ls rest) := by
  have hZ := hE.2.2.2 _ hq
  intro T hT X
  obtain ⟨t, a1, b1⟩ := k T hT X
  exact ⟨t, ldcSW X F.1 F.2.2.2.1 (text := tx) (a := G.2.2 tx) hZ.1 hZ.2 (g := F0 m pc ls rest) rfl (by rw [F.2.1]; exact hdg) t a1, b1⟩
end FC
