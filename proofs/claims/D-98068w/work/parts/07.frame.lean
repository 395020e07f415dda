/-! FRAME: the classes, the one environment, contracts, entry and return, rows over integers, calls, loops, joins -/
set_option maxRecDepth 100000
abbrev clG : List vw_C := [(RX1, TX1, 18), (RX2, TX2, 10), (RX3, TX3, 8), (RX4, TX4, 6), (RX5, TX5, 8), (RX6, TX6, 3), (RX8, TX8, 11), (RX9, TX9, 5), (RX11, TX11, 5), (RX12, TX12, 5), (RX14, TX14, 8), (RX15, TX15, 8), (RX16, TX16, 8), (RX17, TX17, 8), (RX18, TX18, 2), (RX7, TX7, 26), (RX19, TX19, 31), (RJ3, TJ3, 4), (RJ9, TJ9, 6)]
abbrev Gm : Type := va_G × (Nat → ClassId) × (String → Nat)
abbrev tyG (G : Gm) : List (ClassId × FieldType) := [(G.2.1 0, .byte), (G.2.1 1, .char), (G.2.1 2, .int), (G.2.1 3, .long), (G.2.1 4, .boolean), (G.2.1 5, .object "RainWalk$Day"), (G.2.1 6, .object "RainWalk$Rain"), (G.2.1 7, .object "RainWalk$Place"), (G.2.1 8, .object "RainWalk$Road"), (G.2.1 9, .object "RainWalk$Walker"), (G.2.1 10, .object "RainWalk$Seen")]
/-- a class, its fields, its place among the world's classes -/
def Cb (ci : Nat) (C : String) (T : u_T) (N : Nat) (ty : Nat → FieldType) : Prop := (∀ w ∈ u_ws C T N, w ∈ lw_all) ∧ (∀ k, k < N → parseFieldDescriptor (T k).2.2.1 = some (ty k)) ∧ (∀ a, a < N → ∀ b, b < N → a ≠ b → (T a).2.1 ≠ (T b).2.1) ∧ clG[ci]? = some (C, T, N)
theorem b_X1 : Cb 0 RX1 TX1 18 tyX1 := ⟨in_X1, tyX1_ok, nmX1, rfl⟩
theorem b_X2 : Cb 1 RX2 TX2 10 tyX2 := ⟨in_X2, tyX2_ok, nmX2, rfl⟩
theorem b_X3 : Cb 2 RX3 TX3 8 tyX3 := ⟨in_X3, tyX3_ok, nmX3, rfl⟩
theorem b_X4 : Cb 3 RX4 TX4 6 tyX4 := ⟨in_X4, tyX4_ok, nmX4, rfl⟩
theorem b_X5 : Cb 4 RX5 TX5 8 tyX5 := ⟨in_X5, tyX5_ok, nmX5, rfl⟩
theorem b_X6 : Cb 5 RX6 TX6 3 tyX6 := ⟨in_X6, tyX6_ok, nmX6, rfl⟩
theorem b_X8 : Cb 6 RX8 TX8 11 tyX8 := ⟨in_X8, tyX8_ok, nmX8, rfl⟩
theorem b_X9 : Cb 7 RX9 TX9 5 tyX9 := ⟨in_X9, tyX9_ok, nmX9, rfl⟩
theorem b_X11 : Cb 8 RX11 TX11 5 tyX11 := ⟨in_X11, tyX11_ok, nmX11, rfl⟩
theorem b_X12 : Cb 9 RX12 TX12 5 tyX12 := ⟨in_X12, tyX12_ok, nmX12, rfl⟩
theorem b_X14 : Cb 10 RX14 TX14 8 tyX14 := ⟨in_X14, tyX14_ok, nmX14, rfl⟩
theorem b_X15 : Cb 11 RX15 TX15 8 tyX15 := ⟨in_X15, tyX15_ok, nmX15, rfl⟩
theorem b_X16 : Cb 12 RX16 TX16 8 tyX16 := ⟨in_X16, tyX16_ok, nmX16, rfl⟩
theorem b_X17 : Cb 13 RX17 TX17 8 tyX17 := ⟨in_X17, tyX17_ok, nmX17, rfl⟩
theorem b_X18 : Cb 14 RX18 TX18 2 tyX18 := ⟨in_X18, tyX18_ok, nmX18, rfl⟩
theorem b_X7 : Cb 15 RX7 TX7 26 tyX7 := ⟨in_X7, tyX7_ok, nmX7, rfl⟩
theorem b_X19 : Cb 16 RX19 TX19 31 tyX19 := ⟨in_X19, tyX19_ok, nmX19, rfl⟩
theorem b_J3 : Cb 17 RJ3 TJ3 4 tyJ3 := ⟨in_J3, tyJ3_ok, nmJ3, rfl⟩
theorem b_J9 : Cb 18 RJ9 TJ9 6 tyJ9 := ⟨in_J9, tyJ9_ok, nmJ9, rfl⟩
/-- the tables' words that don't ride in the lists -/
def isNst (w : Cond) : Bool := match w with
  | .castable _ _ => true
  | .methodLinkNest _ _ _ _ => true
  | .fieldLinkNest _ _ _ _ _ _ => true
  | .declares _ => true
  | _ => false
def aoG : List String := ["RainWalk$Day", "RainWalk$Rain", "RainWalk$Place", "RainWalk$Road", "RainWalk$Walker", "RainWalk$Seen"]
def ncG : List (String × String) := [(RX14, RX11), (RX15, RX11), (RX16, RX11), (RX17, RX11), (RX11, RX13)]
def Tb (U : State) : Prop := (∀ w ∈ lw_tbl, isNst w = true → va_Nw w U) ∧ (∀ C ∈ aoG, va_AO C U) ∧ ∀ q ∈ ncG, va_Nc q.1 q.2 U
theorem nst_tab {w : Cond} (h : isNst w = true) : w.onTables = true := by
  cases w <;> first | rfl | (cases h)
theorem Tb.warm {s U : State} (hW : s.WarmedH U.vm) (h : Tb s) : Tb U := by
  refine ⟨fun w hw hn => ?_, fun C hC => (h.2.1 C hC).moved hW.alike, fun q hq => (h.2.2 q hq).moved hW.alike⟩
  have h1 := h.1 w hw hn
  cases w <;> first | (cases hn; done) | exact va_Nw.warmC hW h1 | exact va_Nw.warmM hW h1 | exact va_Nw.warmF hW h1 | exact va_Nw.warmD hW h1
theorem Tb.same {s U : State} (hv : s.vm = U.vm) (h : Tb s) : Tb U := by
  have ha : s.vm.Alike U.vm := by rw [hv]; exact Vm.Alike.refl _
  exact ⟨fun w hw hn => va_Nw.same (nst_tab hn) hv (h.1 w hw hn), fun C hC => (h.2.1 C hC).moved ha, fun q hq => (h.2.2 q hq).moved ha⟩
/-- the text constants: class, place, text -/
def ksG : List (String × Nat × String) := [("RainWalk$Reader", 59, ""), ("RainWalk$Reader", 90, "world"), ("RainWalk$Reader", 92, "rain"), ("RainWalk$Reader", 94, "place"), ("RainWalk$Reader", 96, "road"), ("RainWalk$Reader", 98, "walker"), ("RainWalk$Reader", 100, "seen"), ("RainWalk$Reader", 164, "hour"), ("RainWalk$Reader", 176, "drops"), ("RainWalk$Reader", 178, "down"), ("RainWalk$Reader", 180, "wind"), ("RainWalk$Reader", 130, "north"), ("RainWalk$Reader", 132, "east"), ("RainWalk$Reader", 134, "south"), ("RainWalk$Reader", 136, "west"), ("RainWalk$Reader", 191, "chance"), ("RainWalk$Reader", 102, "inn"), ("RainWalk$Reader", 104, "tree"), ("RainWalk$Reader", 106, "awning"), ("RainWalk$Reader", 237, "plain"), ("RainWalk$Reader", 242, "bent"), ("RainWalk$Reader", 249, "coat"), ("RainWalk$Reader", 254, "shield"), ("RainWalk$Reader", 263, "broad"), ("RainWalk$Reader", 269, "deep"), ("RainWalk$Reader", 273, "high"), ("RainWalk$Reader", 279, "from"), ("RainWalk$Reader", 284, "to"), ("RainWalkModel", 130, "world"), ("RainWalkModel", 214, "hour"), ("RainWalkModel", 132, "rain"), ("RainWalkModel", 226, "drops"), ("RainWalkModel", 228, "down"), ("RainWalkModel", 230, "wind"), ("RainWalkModel", 176, "north"), ("RainWalkModel", 178, "east"), ("RainWalkModel", 180, "south"), ("RainWalkModel", 182, "west"), ("RainWalkModel", 235, "chance"), ("RainWalkModel", 134, "place"), ("RainWalkModel", 135, "road"), ("RainWalkModel", 137, "walker"), ("RainWalkModel", 139, "seen"), ("RainWalkModel", 141, "inn"), ("RainWalkModel", 143, "tree"), ("RainWalkModel", 145, "awning"), ("RainWalkModel", 284, "plain"), ("RainWalkModel", 286, "bent"), ("RainWalkModel", 288, "coat"), ("RainWalkModel", 290, "shield"), ("RainWalkModel", 292, "broad"), ("RainWalkModel", 294, "deep"), ("RainWalkModel", 296, "high"), ("RainWalkModel", 298, "from"), ("RainWalkModel", 300, "to")]
def Rk (G : Gm) (U : State) : Prop := ∀ q ∈ ksG, vk_R q.1 q.2.1 q.2.2 (G.2.2 q.2.2) U
/-- statics that nobody writes -/
def Sx (A : Nat → Prop) (U : State) (H : Heap) : Prop := va_Z "java/lang/String" "COMPACT_STRINGS" "Z" (.int (iI 1)) A U H ∧ va_Zq "java/lang/Throwable" "UNASSIGNED_STACK" "[Ljava/lang/StackTraceElement;" A U H ∧ va_Zq "java/lang/Throwable" "SUPPRESSED_SENTINEL" "Ljava/util/List;" A U H ∧ va_Zq "jdk/internal/util/Preconditions" "SIOOBE_FORMATTER" "Ljava/util/function/BiFunction;" A U H
def Ev (G : Gm) (A : Nat → Prop) (U : State) : Prop := va_K G.1 clG (tyG G) U ∧ Tb U ∧ Sx A U U.heap ∧ Rk G U
theorem Ev.call {G : Gm} {A A1 : Nat → Prop} {s U : State} {H : Heap} {locs : List Loc} (h : Ev G A s) (hS : va_S A s.heap H locs) (hU : U.heap = H) (hW : s.WarmedH U.vm) (hF : ∀ q, A1 q → A q) : Ev G A1 U := by
  obtain ⟨h1, h2, ⟨z1, z2, z3, z4⟩, h4⟩ := h
  subst hU
  exact ⟨va_K.moved hW.alike h1, h2.warm hW, ⟨((z1.kept hS.2.1).narrow hF).moved hW.alike, ((z2.kept hS.2.1).narrow hF).moved hW.alike, ((z3.kept hS.2.1).narrow hF).moved hW.alike, ((z4.kept hS.2.1).narrow hF).moved hW.alike⟩, fun q hq => (h4 q hq).warm hW⟩
theorem Ev.blind {G : Gm} {A : Nat → Prop} {U : State} (g : JFrame) (mk : MethodId) (a : Array Value) (h : Ev G A U) : Ev G A (U.calling g mk a) := by
  obtain ⟨h1, h2, ⟨z1, z2, z3, z4⟩, h4⟩ := h
  have ha : U.vm.Alike (U.calling g mk a).vm := Vm.Alike.refl U.vm
  exact ⟨va_K.moved ha h1, Tb.same (s := U) (U := U.calling g mk a) rfl h2, ⟨z1.moved ha, z2.moved ha, z3.moved ha, z4.moved ha⟩, fun q hq => vk_R.same (u := U) (U := U.calling g mk a) rfl (h4 q hq)⟩
/-- what stays fixed through a method -/
def Fx (p : Program) (s : State) (m : MethodId) (meth : Method) (c : Code) (args : Array Value) (cc : ByteArray) (nL : Nat) (own : String) (ret : Option FieldType) (nm : String) : Prop :=
  p.tables.exec = Jvm.exec ∧ c.code = cc ∧ c.maxLocals = nL ∧ s.vm.findClass own = some m.cls ∧ (∀ w ∈ lw_all, w.before args s = true) ∧ meth.sig.returnType = ret ∧ meth.locks = false ∧ meth.name = nm
theorem Fx.cf {p : Program} {s : State} {m : MethodId} {meth : Method} {c : Code} {args : Array Value} {cc : ByteArray} {nL : Nat} {own : String} {ret : Option FieldType} {nm : String} (F : Fx p s m meth c args cc nL own ret nm) : CallFix p m c cc nL s args lw_all own := ⟨F.1, F.2.1, F.2.2.1, F.2.2.2.1, F.2.2.2.2.1⟩
/-- a method's end -/
def QG {S : Type} (φ : S → Prop) (res : S → Option Value) (B : S → State → Prop) (A : Nat → Prop) : Array Value → State → Outcome → State → Prop := fun _ st oc t => (∃ u : S, oc = .returned (res u) ∧ φ u ∧ B u t) ∧ va_F A st t
def BG {S : Type} (G : Gm) (w1 : S → va_W) (A : Nat → Prop) : S → State → Prop := fun u t => va_P G.1 clG (w1 u) t.heap ∧ va_D A (w1 u)
/-- a contract's start -/
def PG (G : Gm) (As : List Value) (wc : va_W) (sz : Nat) : Array Value → State → Prop := va_Pc As (fun U => U.heap.size = sz ∧ va_P G.1 clG wc U.heap ∧ va_D (fun _ => True) wc ∧ Ev G (va_A wc sz) U)
def Ct {S : Type} (G : Gm) (l : Launch) (y : MethodName) (ws : List Cond) (rm : Room) (As : List Value) (wc : va_W) (φ : S → Prop) (res : S → Option Value) (w1 : S → va_W) : Prop :=
  ∀ sz : Nat, Met l y ws rm (PG G As wc sz) (QG φ res (BG G w1 (va_A wc sz)) (va_A wc sz)) rm.cells rm.slots (va_A wc sz)
theorem Ct.of {S : Type} {G : Gm} {l : Launch} {y : MethodName} {cc : ByteArray} {nL : Nat} {ret : Option FieldType} {rm : Room} {As : List Value} {wc : va_W} {φ : S → Prop} {res : S → Option Value} {w1 : S → va_W}
    (hy : plainName y.cls = true) (hn : Nat.ble (lg_sl As).length nL = true)
    (body : ∀ (p : Program) (e : Env) (s : State) (m : MethodId) (below : List Frame) (meth : Method) (c : Code) (A : Nat → Prop) (ls : Array Slot) (Q : State → Prop), Fx p s m meth c As.toArray cc nL y.cls ret y.name → Ev G A s → (∀ q : Nat, s.heap.size ≤ q → A q) →
      va_P G.1 clG wc s.heap → va_D A wc → va_S A s.heap s.heap [] → lv_has ls nL (lv_args 0 As) → Q = MQ below (QG φ res (BG G w1 A) A) As.toArray s rm.cells rm.slots A →
      W p l e rm s m As.toArray below meth c s.heap [] 0 0 Q (F0 m 0 ls [])) : Ct G l y (ws_ y cc nL ret) rm As wc φ res w1 := by
  intro sz
  refine Met.ofW (cc := cc) (maxL := nL) (ret := ret) hy rfl ?_
  intro p e s m args below meth c s₁ B hml hv
  obtain ⟨rfl, hsz, hP, hD0, hE⟩ := hv
  have hts := atoms_spec (ws := ws_ y cc nL ret) B.pre
  subst hsz
  have hl := lv_entry As (n := nL) (Nat.le_of_ble_eq_true hn)
  rw [lg_entry_eq]
  generalize (lg_sl As ++ List.replicate (nL - (lg_sl As).length) Slot.unset).toArray = ls at hl ⊢
  exact body p e s m below meth c (va_A wc s.heap.size) ls _ ⟨B.exec, B.bytes, hml, findClass_of_methodNamed B.named, fun w h => hts w (List.mem_cons_of_mem _ h), B.returns, B.notSynchronized, (name_of_methodNamed B.named B.method).1⟩ hE (fun q h => Or.inr h) hP (hD0.self (sz := s.heap.size)) va_S.rf hl rfl
section FW
variable {p : Program} {l : Launch} {e : Env} {R : Room} {s : State} {m : MethodId} {args : Array Value} {below : List Frame} {meth : Method} {c : Code} {H : Heap} {locs : List Loc} {cells slots : Nat} {Q : State → Prop}
variable {cc : ByteArray} {nL : Nat} {own nm : String} {ret : Option FieldType} {G : Gm} {A : Nat → Prop} {pc : Nat} {ls : Array Slot} {rest : List Value}
/-! the end of a method -/
theorem rt_q {S : Type} {φ : S → Prop} {res : S → Option Value} {w1 : S → va_W} (hS : va_S A s.heap H locs) (u : S) (hφ : φ u) (hP : va_P G.1 clG (w1 u) H) (hD : va_D A (w1 u)) (t : State) (ht : t.heap = H) (a : Array Value) : QG φ res (BG G w1 A) A a s (.returned (res u)) t :=
  ⟨⟨u, rfl, hφ, by rw [ht]; exact hP, hD⟩, hS.F ht⟩
theorem rt_i {S : Type} {φ : S → Prop} {res : S → Option Value} {w1 : S → va_W} {mc ms : Nat} {v : Int} (F : Fx p s m meth c args cc nL own (some .int) nm) (hQ : Q = MQ below (QG φ res (BG G w1 A) A) args s mc ms A) (hS : va_S A s.heap H locs) (h1 : cells ≤ mc) (h2 : slots ≤ ms) (u : S) (hr : res u = some (.int (iI v))) (hφ : φ u) (hP : va_P G.1 clG (w1 u) H) (hD : va_D A (w1 u)) (hdg : decode cc pc = .ok (.ireturn, 1)) : W p l e R s m args below meth c H locs cells slots Q (F0 m pc ls [.int (iI v)]) := by
  subst hQ
  refine W.widen h1 h2 ?_
  exact W.iret F.1 F.2.1 F.2.2.2.2.2.1 (fun t ht hW => by rw [← hr]; exact rt_q hS u hφ hP hD t ht _) hS.2.2 hdg F.2.2.2.2.2.2.1
theorem rt_z {S : Type} {φ : S → Prop} {res : S → Option Value} {w1 : S → va_W} {mc ms : Nat} {v : Int} (F : Fx p s m meth c args cc nL own (some .boolean) nm) (hQ : Q = MQ below (QG φ res (BG G w1 A) A) args s mc ms A) (hS : va_S A s.heap H locs) (h1 : cells ≤ mc) (h2 : slots ≤ ms) (hv : v = 0 ∨ v = 1) (u : S) (hr : res u = some (.int (iI v))) (hφ : φ u) (hP : va_P G.1 clG (w1 u) H) (hD : va_D A (w1 u)) (hdg : decode cc pc = .ok (.ireturn, 1)) : W p l e R s m args below meth c H locs cells slots Q (F0 m pc ls [.int (iI v)]) := by
  subst hQ
  refine W.widen h1 h2 ?_
  exact W.zret F.1 F.2.1 F.2.2.2.2.2.1 (nb_p hv) (fun t ht hW => by rw [← hr]; exact rt_q hS u hφ hP hD t ht _) hS.2.2 hdg F.2.2.2.2.2.2.1
theorem rt_n {S : Type} {φ : S → Prop} {res : S → Option Value} {w1 : S → va_W} {mc ms : Nat} {v : Int} {rt : FieldType} (F : Fx p s m meth c args cc nL own (some rt) nm) (hQ : Q = MQ below (QG φ res (BG G w1 A) A) args s mc ms A) (hS : va_S A s.heap H locs) (h1 : cells ≤ mc) (h2 : slots ≤ ms) (hv : narrow rt (.int (iI v)) = .int (iI v)) (u : S) (hr : res u = some (.int (iI v))) (hφ : φ u) (hP : va_P G.1 clG (w1 u) H) (hD : va_D A (w1 u)) (hdg : decode cc pc = .ok (.ireturn, 1)) : W p l e R s m args below meth c H locs cells slots Q (F0 m pc ls [.int (iI v)]) := by
  subst hQ
  refine W.widen h1 h2 ?_
  exact W.zret F.1 F.2.1 F.2.2.2.2.2.1 hv (fun t ht hW => by rw [← hr]; exact rt_q hS u hφ hP hD t ht _) hS.2.2 hdg F.2.2.2.2.2.2.1
theorem rt_l {S : Type} {φ : S → Prop} {res : S → Option Value} {w1 : S → va_W} {mc ms : Nat} {v : Int64} (F : Fx p s m meth c args cc nL own (some .long) nm) (hQ : Q = MQ below (QG φ res (BG G w1 A) A) args s mc ms A) (hS : va_S A s.heap H locs) (h1 : cells ≤ mc) (h2 : slots ≤ ms) (u : S) (hr : res u = some (.long v)) (hφ : φ u) (hP : va_P G.1 clG (w1 u) H) (hD : va_D A (w1 u)) (hdg : decode cc pc = .ok (.lreturn, 1)) : W p l e R s m args below meth c H locs cells slots Q (F0 m pc ls [.long v]) := by
  subst hQ
  refine W.widen h1 h2 ?_
  exact W.lret F.1 F.2.1 F.2.2.2.2.2.1 (fun t ht hW => by rw [← hr]; exact rt_q hS u hφ hP hD t ht _) hS.2.2 hdg F.2.2.2.2.2.2.1
theorem rt_v {S : Type} {φ : S → Prop} {res : S → Option Value} {w1 : S → va_W} {mc ms : Nat} (F : Fx p s m meth c args cc nL own none nm) (hQ : Q = MQ below (QG φ res (BG G w1 A) A) args s mc ms A) (hS : va_S A s.heap H locs) (h1 : cells ≤ mc) (h2 : slots ≤ ms) (u : S) (hr : res u = none) (hφ : φ u) (hP : va_P G.1 clG (w1 u) H) (hD : va_D A (w1 u)) (hdg : decode cc pc = .ok (.return_, 1)) : W p l e R s m args below meth c H locs cells slots Q (F0 m pc ls []) := by
  subst hQ
  refine W.widen h1 h2 ?_
  exact W.vret F.1 F.2.1 F.2.2.2.2.2.1 (fun t ht hW => by rw [← hr]; exact rt_q hS u hφ hP hD t ht _) hS.2.2 hdg F.2.2.2.2.2.2.1
theorem rt_a {S : Type} {φ : S → Prop} {res : S → Option Value} {w1 : S → va_W} {mc ms : Nat} {v : Value} {rt : FieldType} (F : Fx p s m meth c args cc nL own (some rt) nm) (hQ : Q = MQ below (QG φ res (BG G w1 A) A) args s mc ms A) (hS : va_S A s.heap H locs) (h1 : cells ≤ mc) (h2 : slots ≤ ms) (hrt : (∃ n, rt = .object n) ∨ ∃ t, rt = .array t) (hv : v = .null ∨ ∃ a, v = .ref a) (u : S) (hr : res u = some v) (hφ : φ u) (hP : va_P G.1 clG (w1 u) H) (hD : va_D A (w1 u)) (hdg : decode cc pc = .ok (.areturn, 1)) : W p l e R s m args below meth c H locs cells slots Q (F0 m pc ls [v]) := by
  subst hQ
  refine W.widen h1 h2 ?_
  exact W.aret F.1 F.2.1 F.2.2.2.2.2.1 hrt hv (fun t ht hW => by rw [← hr]; exact rt_q hS u hφ hP hD t ht _) hS.2.2 hdg F.2.2.2.2.2.2.1
/-! arithmetic -/
theorem r_iadd (F : Fx p s m meth c args cc nL own ret nm) {a b : Int} (hdg : decode cc pc = .ok (.iadd, 1)) (k : W p l e R s m args below meth c H locs cells slots Q (F0 m (pc + 1) ls (.int (iI (a + b)) :: rest))) : W p l e R s m args below meth c H locs cells slots Q (F0 m pc ls (.int (iI b) :: .int (iI a) :: rest)) := lv_iadd F.1 F.2.1 hdg (by rw [iI_add]; exact k)
theorem r_isub (F : Fx p s m meth c args cc nL own ret nm) {a b : Int} (hdg : decode cc pc = .ok (.isub, 1)) (k : W p l e R s m args below meth c H locs cells slots Q (F0 m (pc + 1) ls (.int (iI (a - b)) :: rest))) : W p l e R s m args below meth c H locs cells slots Q (F0 m pc ls (.int (iI b) :: .int (iI a) :: rest)) := lv_isub F.1 F.2.1 hdg (by rw [iI_sub]; exact k)
theorem r_imul (F : Fx p s m meth c args cc nL own ret nm) {a b : Int} (hdg : decode cc pc = .ok (.imul, 1)) (k : W p l e R s m args below meth c H locs cells slots Q (F0 m (pc + 1) ls (.int (iI (a * b)) :: rest))) : W p l e R s m args below meth c H locs cells slots Q (F0 m pc ls (.int (iI b) :: .int (iI a) :: rest)) := lv_imul F.1 F.2.1 hdg (by rw [iI_mul]; exact k)
theorem r_ineg (F : Fx p s m meth c args cc nL own ret nm) {a : Int} (hdg : decode cc pc = .ok (.ineg, 1)) (k : W p l e R s m args below meth c H locs cells slots Q (F0 m (pc + 1) ls (.int (iI (-a)) :: rest))) : W p l e R s m args below meth c H locs cells slots Q (F0 m pc ls (.int (iI a) :: rest)) := lv_ineg F.1 F.2.1 hdg (by rw [iI_neg]; exact k)
theorem r_idiv (F : Fx p s m meth c args cc nL own ret nm) {a b : Int} (ha : 0 ≤ a ∧ a < 2147483648) (hb : 0 < b ∧ b < 2147483648) (hdg : decode cc pc = .ok (.idiv, 1)) (k : W p l e R s m args below meth c H locs cells slots Q (F0 m (pc + 1) ls (.int (iI (a / b)) :: rest))) : W p l e R s m args below meth c H locs cells slots Q (F0 m pc ls (.int (iI b) :: .int (iI a) :: rest)) := lv_idiv F.1 F.2.1 hdg (iI_ne0 (by omega) (by omega)) (by rw [iI_div ha hb]; exact k)
theorem r_irem (F : Fx p s m meth c args cc nL own ret nm) {a b : Int} (ha : 0 ≤ a ∧ a < 2147483648) (hb : 0 < b ∧ b < 2147483648) (hdg : decode cc pc = .ok (.irem, 1)) (k : W p l e R s m args below meth c H locs cells slots Q (F0 m (pc + 1) ls (.int (iI (a % b)) :: rest))) : W p l e R s m args below meth c H locs cells slots Q (F0 m pc ls (.int (iI b) :: .int (iI a) :: rest)) := lv_irem F.1 F.2.1 hdg (iI_ne0 (by omega) (by omega)) (by rw [iI_rem ha hb]; exact k)
theorem r_ladd (F : Fx p s m meth c args cc nL own ret nm) {a b : Int} (hdg : decode cc pc = .ok (.ladd, 1)) (k : W p l e R s m args below meth c H locs cells slots Q (F0 m (pc + 1) ls (.long (lI (a + b)) :: rest))) : W p l e R s m args below meth c H locs cells slots Q (F0 m pc ls (.long (lI b) :: .long (lI a) :: rest)) := lv_ladd F.1 F.2.1 hdg (by rw [lI_add]; exact k)
theorem r_lsub (F : Fx p s m meth c args cc nL own ret nm) {a b : Int} (hdg : decode cc pc = .ok (.lsub, 1)) (k : W p l e R s m args below meth c H locs cells slots Q (F0 m (pc + 1) ls (.long (lI (a - b)) :: rest))) : W p l e R s m args below meth c H locs cells slots Q (F0 m pc ls (.long (lI b) :: .long (lI a) :: rest)) := lv_lsub F.1 F.2.1 hdg (by rw [lI_sub]; exact k)
theorem r_lmul (F : Fx p s m meth c args cc nL own ret nm) {a b : Int} (hdg : decode cc pc = .ok (.lmul, 1)) (k : W p l e R s m args below meth c H locs cells slots Q (F0 m (pc + 1) ls (.long (lI (a * b)) :: rest))) : W p l e R s m args below meth c H locs cells slots Q (F0 m pc ls (.long (lI b) :: .long (lI a) :: rest)) := lv_lmul F.1 F.2.1 hdg (by rw [lI_mul]; exact k)
theorem r_ldiv (F : Fx p s m meth c args cc nL own ret nm) {a b : Int} (ha : 0 ≤ a ∧ a < 9223372036854775808) (hb : 0 < b ∧ b < 9223372036854775808) (hdg : decode cc pc = .ok (.ldiv, 1)) (k : W p l e R s m args below meth c H locs cells slots Q (F0 m (pc + 1) ls (.long (lI (a / b)) :: rest))) : W p l e R s m args below meth c H locs cells slots Q (F0 m pc ls (.long (lI b) :: .long (lI a) :: rest)) := lv_ldiv F.1 F.2.1 hdg (lI_ne0 (by omega) (by omega)) (by rw [lI_div ha hb]; exact k)
theorem r_lrem (F : Fx p s m meth c args cc nL own ret nm) {a b : Int} (ha : 0 ≤ a ∧ a < 9223372036854775808) (hb : 0 < b ∧ b < 9223372036854775808) (hdg : decode cc pc = .ok (.lrem, 1)) (k : W p l e R s m args below meth c H locs cells slots Q (F0 m (pc + 1) ls (.long (lI (a % b)) :: rest))) : W p l e R s m args below meth c H locs cells slots Q (F0 m pc ls (.long (lI b) :: .long (lI a) :: rest)) := lv_lrem F.1 F.2.1 hdg (lI_ne0 (by omega) (by omega)) (by rw [lI_rem ha hb]; exact k)
theorem r_i2l (F : Fx p s m meth c args cc nL own ret nm) {a : Int} (ha : -2147483648 ≤ a ∧ a < 2147483648) (hdg : decode cc pc = .ok (.i2l, 1)) (k : W p l e R s m args below meth c H locs cells slots Q (F0 m (pc + 1) ls (.long (lI a) :: rest))) : W p l e R s m args below meth c H locs cells slots Q (F0 m pc ls (.int (iI a) :: rest)) := lv_i2l F.1 F.2.1 hdg (iI_l ha) k
theorem r_l2i (F : Fx p s m meth c args cc nL own ret nm) {a : Int} (hdg : decode cc pc = .ok (.l2i, 1)) (k : W p l e R s m args below meth c H locs cells slots Q (F0 m (pc + 1) ls (.int (iI a) :: rest))) : W p l e R s m args below meth c H locs cells slots Q (F0 m pc ls (.long (lI a) :: rest)) := lv_l2i F.1 F.2.1 hdg (lI_i a) k
theorem r_i2b (F : Fx p s m meth c args cc nL own ret nm) {a : Int} (hdg : decode cc pc = .ok (.i2b, 1)) (k : W p l e R s m args below meth c H locs cells slots Q (F0 m (pc + 1) ls (.int (iI (bt a)) :: rest))) : W p l e R s m args below meth c H locs cells slots Q (F0 m pc ls (.int (iI a) :: rest)) := lv_i2b F.1 F.2.1 hdg (iI_b a) k
theorem r_i2c (F : Fx p s m meth c args cc nL own ret nm) {a : Int} (ha : 0 ≤ a ∧ a < 65536) (hdg : decode cc pc = .ok (.i2c, 1)) (k : W p l e R s m args below meth c H locs cells slots Q (F0 m (pc + 1) ls (.int (iI a) :: rest))) : W p l e R s m args below meth c H locs cells slots Q (F0 m pc ls (.int (iI a) :: rest)) := lv_i2c F.1 F.2.1 hdg (by
  rw [pk_char, iI_tn, Int.emod_eq_of_lt ha.1 (by omega)]
  show Int32.ofNat _ = _
  rw [iI_nat]
  exact congrArg iI (by omega)) k
theorem r_andm (F : Fx p s m meth c args cc nL own ret nm) {a : Int} {b : Int} (k0 : Nat) (hk : k0 ≤ 32) (hm : (iI b).toBitVec.toNat = 2 ^ k0 - 1) (hdg : decode cc pc = .ok (.iand, 1)) (k : W p l e R s m args below meth c H locs cells slots Q (F0 m (pc + 1) ls (.int (iI (a % 2 ^ k0)) :: rest))) : W p l e R s m args below meth c H locs cells slots Q (F0 m pc ls (.int (iI b) :: .int (iI a) :: rest)) := lv_iand F.1 F.2.1 hdg (by rw [iI_and a k0 hk hm]; exact k)
theorem r_ishr (F : Fx p s m meth c args cc nL own ret nm) {a b : Int} (ha : -2147483648 ≤ a ∧ a < 2147483648) (k0 : Nat) (hb : b = (k0 : Int)) (hk : k0 < 31) (hdg : decode cc pc = .ok (.ishr, 1)) (k : W p l e R s m args below meth c H locs cells slots Q (F0 m (pc + 1) ls (.int (iI (a / 2 ^ k0)) :: rest))) : W p l e R s m args below meth c H locs cells slots Q (F0 m pc ls (.int (iI b) :: .int (iI a) :: rest)) := by
  subst hb
  exact lv_ishr F.1 F.2.1 hdg (by rw [iI_shr ha k0 (sh_k k0 hk)]; exact k)
theorem r_shl1 (F : Fx p s m meth c args cc nL own ret nm) {b : Int} (k0 : Nat) (hb : b = (k0 : Int)) (hk : k0 < 31) (hdg : decode cc pc = .ok (.ishl, 1)) (k : W p l e R s m args below meth c H locs cells slots Q (F0 m (pc + 1) ls (.int (iI (2 ^ k0)) :: rest))) : W p l e R s m args below meth c H locs cells slots Q (F0 m pc ls (.int (iI b) :: .int (iI 1) :: rest)) := by
  subst hb
  exact lv_ishl F.1 F.2.1 hdg (by rw [sh_1 k0 hk]; exact k)
/-! branches -/
theorem r_icmp_lt (F : Fx p s m meth c args cc nL own ret nm) {a b : Int} {off : Int} {tgt : Nat} (ha : -2147483648 ≤ a ∧ a < 2147483648) (hb : -2147483648 ≤ b ∧ b < 2147483648) (hdg : decode cc pc = .ok (.if_icmp .lt off, 3)) (ht : (pc : Int) + off = (tgt : Int)) (kt : a < b → W p l e R s m args below meth c H locs cells slots Q (F0 m tgt ls rest)) (kf : b ≤ a → W p l e R s m args below meth c H locs cells slots Q (F0 m (pc + 3) ls rest)) : W p l e R s m args below meth c H locs cells slots Q (F0 m pc ls (.int (iI b) :: .int (iI a) :: rest)) :=
  lv_icmp_lt F.1 F.2.1 hdg ht (fun q => kt ((iI_lt ha hb).mp q)) (fun q => kf (Int.not_lt.mp fun z => q ((iI_lt ha hb).mpr z)))
theorem r_icmp_ge (F : Fx p s m meth c args cc nL own ret nm) {a b : Int} {off : Int} {tgt : Nat} (ha : -2147483648 ≤ a ∧ a < 2147483648) (hb : -2147483648 ≤ b ∧ b < 2147483648) (hdg : decode cc pc = .ok (.if_icmp .ge off, 3)) (ht : (pc : Int) + off = (tgt : Int)) (kt : b ≤ a → W p l e R s m args below meth c H locs cells slots Q (F0 m tgt ls rest)) (kf : a < b → W p l e R s m args below meth c H locs cells slots Q (F0 m (pc + 3) ls rest)) : W p l e R s m args below meth c H locs cells slots Q (F0 m pc ls (.int (iI b) :: .int (iI a) :: rest)) :=
  lv_icmp_ge F.1 F.2.1 hdg ht (fun q => kt ((iI_le hb ha).mp q)) (fun q => kf (Int.not_le.mp fun z => q ((iI_le hb ha).mpr z)))
theorem r_icmp_gt (F : Fx p s m meth c args cc nL own ret nm) {a b : Int} {off : Int} {tgt : Nat} (ha : -2147483648 ≤ a ∧ a < 2147483648) (hb : -2147483648 ≤ b ∧ b < 2147483648) (hdg : decode cc pc = .ok (.if_icmp .gt off, 3)) (ht : (pc : Int) + off = (tgt : Int)) (kt : b < a → W p l e R s m args below meth c H locs cells slots Q (F0 m tgt ls rest)) (kf : a ≤ b → W p l e R s m args below meth c H locs cells slots Q (F0 m (pc + 3) ls rest)) : W p l e R s m args below meth c H locs cells slots Q (F0 m pc ls (.int (iI b) :: .int (iI a) :: rest)) :=
  lv_icmp_gt F.1 F.2.1 hdg ht (fun q => kt ((iI_lt hb ha).mp q)) (fun q => kf (Int.not_lt.mp fun z => q ((iI_lt hb ha).mpr z)))
theorem r_icmp_le (F : Fx p s m meth c args cc nL own ret nm) {a b : Int} {off : Int} {tgt : Nat} (ha : -2147483648 ≤ a ∧ a < 2147483648) (hb : -2147483648 ≤ b ∧ b < 2147483648) (hdg : decode cc pc = .ok (.if_icmp .le off, 3)) (ht : (pc : Int) + off = (tgt : Int)) (kt : a ≤ b → W p l e R s m args below meth c H locs cells slots Q (F0 m tgt ls rest)) (kf : b < a → W p l e R s m args below meth c H locs cells slots Q (F0 m (pc + 3) ls rest)) : W p l e R s m args below meth c H locs cells slots Q (F0 m pc ls (.int (iI b) :: .int (iI a) :: rest)) :=
  lv_icmp_le F.1 F.2.1 hdg ht (fun q => kt ((iI_le ha hb).mp q)) (fun q => kf (Int.not_le.mp fun z => q ((iI_le ha hb).mpr z)))
theorem r_icmp_eq (F : Fx p s m meth c args cc nL own ret nm) {a b : Int} {off : Int} {tgt : Nat} (ha : -2147483648 ≤ a ∧ a < 2147483648) (hb : -2147483648 ≤ b ∧ b < 2147483648) (hdg : decode cc pc = .ok (.if_icmp .eq off, 3)) (ht : (pc : Int) + off = (tgt : Int)) (kt : a = b → W p l e R s m args below meth c H locs cells slots Q (F0 m tgt ls rest)) (kf : ¬ a = b → W p l e R s m args below meth c H locs cells slots Q (F0 m (pc + 3) ls rest)) : W p l e R s m args below meth c H locs cells slots Q (F0 m pc ls (.int (iI b) :: .int (iI a) :: rest)) :=
  lv_icmp_eq F.1 F.2.1 hdg ht (fun q => kt ((iI_inj ha hb).mp q)) (fun q => kf fun z => q ((iI_inj ha hb).mpr z))
theorem r_icmp_ne (F : Fx p s m meth c args cc nL own ret nm) {a b : Int} {off : Int} {tgt : Nat} (ha : -2147483648 ≤ a ∧ a < 2147483648) (hb : -2147483648 ≤ b ∧ b < 2147483648) (hdg : decode cc pc = .ok (.if_icmp .ne off, 3)) (ht : (pc : Int) + off = (tgt : Int)) (kt : ¬ a = b → W p l e R s m args below meth c H locs cells slots Q (F0 m tgt ls rest)) (kf : a = b → W p l e R s m args below meth c H locs cells slots Q (F0 m (pc + 3) ls rest)) : W p l e R s m args below meth c H locs cells slots Q (F0 m pc ls (.int (iI b) :: .int (iI a) :: rest)) :=
  lv_icmp_ne F.1 F.2.1 hdg ht (fun q => kt fun z => q ((iI_inj ha hb).mpr z)) (fun q => kf ((iI_inj ha hb).mp q))
theorem r_if_lt (F : Fx p s m meth c args cc nL own ret nm) {a : Int} {off : Int} {tgt : Nat} (ha : -2147483648 ≤ a ∧ a < 2147483648) (hdg : decode cc pc = .ok (.ifCond .lt off, 3)) (ht : (pc : Int) + off = (tgt : Int)) (kt : a < 0 → W p l e R s m args below meth c H locs cells slots Q (F0 m tgt ls rest)) (kf : 0 ≤ a → W p l e R s m args below meth c H locs cells slots Q (F0 m (pc + 3) ls rest)) : W p l e R s m args below meth c H locs cells slots Q (F0 m pc ls (.int (iI a) :: rest)) :=
  lv_if_lt F.1 F.2.1 hdg ht (fun q => kt ((iI_lt ha (by decide)).mp (iI_0 ▸ q))) (fun q => kf (Int.not_lt.mp fun z => q (by rw [iI_0]; exact (iI_lt ha (by decide)).mpr z)))
theorem r_if_ge (F : Fx p s m meth c args cc nL own ret nm) {a : Int} {off : Int} {tgt : Nat} (ha : -2147483648 ≤ a ∧ a < 2147483648) (hdg : decode cc pc = .ok (.ifCond .ge off, 3)) (ht : (pc : Int) + off = (tgt : Int)) (kt : 0 ≤ a → W p l e R s m args below meth c H locs cells slots Q (F0 m tgt ls rest)) (kf : a < 0 → W p l e R s m args below meth c H locs cells slots Q (F0 m (pc + 3) ls rest)) : W p l e R s m args below meth c H locs cells slots Q (F0 m pc ls (.int (iI a) :: rest)) :=
  lv_if_ge F.1 F.2.1 hdg ht (fun q => kt ((iI_le (by decide) ha).mp (iI_0 ▸ q))) (fun q => kf (Int.not_le.mp fun z => q (by rw [iI_0]; exact (iI_le (by decide) ha).mpr z)))
theorem r_if_gt (F : Fx p s m meth c args cc nL own ret nm) {a : Int} {off : Int} {tgt : Nat} (ha : -2147483648 ≤ a ∧ a < 2147483648) (hdg : decode cc pc = .ok (.ifCond .gt off, 3)) (ht : (pc : Int) + off = (tgt : Int)) (kt : 0 < a → W p l e R s m args below meth c H locs cells slots Q (F0 m tgt ls rest)) (kf : a ≤ 0 → W p l e R s m args below meth c H locs cells slots Q (F0 m (pc + 3) ls rest)) : W p l e R s m args below meth c H locs cells slots Q (F0 m pc ls (.int (iI a) :: rest)) :=
  lv_if_gt F.1 F.2.1 hdg ht (fun q => kt ((iI_lt (by decide) ha).mp (iI_0 ▸ q))) (fun q => kf (Int.not_lt.mp fun z => q (by rw [iI_0]; exact (iI_lt (by decide) ha).mpr z)))
theorem r_if_le (F : Fx p s m meth c args cc nL own ret nm) {a : Int} {off : Int} {tgt : Nat} (ha : -2147483648 ≤ a ∧ a < 2147483648) (hdg : decode cc pc = .ok (.ifCond .le off, 3)) (ht : (pc : Int) + off = (tgt : Int)) (kt : a ≤ 0 → W p l e R s m args below meth c H locs cells slots Q (F0 m tgt ls rest)) (kf : 0 < a → W p l e R s m args below meth c H locs cells slots Q (F0 m (pc + 3) ls rest)) : W p l e R s m args below meth c H locs cells slots Q (F0 m pc ls (.int (iI a) :: rest)) :=
  lv_if_le F.1 F.2.1 hdg ht (fun q => kt ((iI_le ha (by decide)).mp (iI_0 ▸ q))) (fun q => kf (Int.not_le.mp fun z => q (by rw [iI_0]; exact (iI_le ha (by decide)).mpr z)))
theorem r_if_eq (F : Fx p s m meth c args cc nL own ret nm) {a : Int} {off : Int} {tgt : Nat} (ha : -2147483648 ≤ a ∧ a < 2147483648) (hdg : decode cc pc = .ok (.ifCond .eq off, 3)) (ht : (pc : Int) + off = (tgt : Int)) (kt : a = 0 → W p l e R s m args below meth c H locs cells slots Q (F0 m tgt ls rest)) (kf : ¬ a = 0 → W p l e R s m args below meth c H locs cells slots Q (F0 m (pc + 3) ls rest)) : W p l e R s m args below meth c H locs cells slots Q (F0 m pc ls (.int (iI a) :: rest)) :=
  lv_if_eq F.1 F.2.1 hdg ht (fun q => kt ((iI_inj ha (by decide)).mp (iI_0 ▸ q))) (fun q => kf fun z => q (by rw [iI_0]; exact (iI_inj ha (by decide)).mpr z))
theorem r_if_ne (F : Fx p s m meth c args cc nL own ret nm) {a : Int} {off : Int} {tgt : Nat} (ha : -2147483648 ≤ a ∧ a < 2147483648) (hdg : decode cc pc = .ok (.ifCond .ne off, 3)) (ht : (pc : Int) + off = (tgt : Int)) (kt : ¬ a = 0 → W p l e R s m args below meth c H locs cells slots Q (F0 m tgt ls rest)) (kf : a = 0 → W p l e R s m args below meth c H locs cells slots Q (F0 m (pc + 3) ls rest)) : W p l e R s m args below meth c H locs cells slots Q (F0 m pc ls (.int (iI a) :: rest)) :=
  lv_if_ne F.1 F.2.1 hdg ht (fun q => kt fun z => q (by rw [iI_0]; exact (iI_inj ha (by decide)).mpr z)) (fun q => kf ((iI_inj ha (by decide)).mp (iI_0 ▸ q)))
theorem pI_in {P : Prop} [Decidable P] : -2147483648 ≤ pI P ∧ pI P < 2147483648 := by
  rcases (pI_01 (P := P)) with h | h <;> omega
theorem pI_0 {P : Prop} [Decidable P] (h : pI P = 0) : ¬ P := fun q => by rw [pI_t q] at h; omega
theorem pI_n {P : Prop} [Decidable P] (h : ¬ pI P = 0) : P := by
  by_cases q : P
  · exact q
  · exact absurd (pI_f q) h
theorem r_ifz (F : Fx p s m meth c args cc nL own ret nm) {P : Prop} [Decidable P] {off : Int} {tgt : Nat} (hdg : decode cc pc = .ok (.ifCond .eq off, 3)) (ht : (pc : Int) + off = (tgt : Int)) (kt : ¬ P → W p l e R s m args below meth c H locs cells slots Q (F0 m tgt ls rest)) (kf : P → W p l e R s m args below meth c H locs cells slots Q (F0 m (pc + 3) ls rest)) : W p l e R s m args below meth c H locs cells slots Q (F0 m pc ls (.int (iI (pI P)) :: rest)) :=
  r_if_eq F pI_in hdg ht (fun q => kt (pI_0 q)) (fun q => kf (pI_n q))
theorem r_ifnz (F : Fx p s m meth c args cc nL own ret nm) {P : Prop} [Decidable P] {off : Int} {tgt : Nat} (hdg : decode cc pc = .ok (.ifCond .ne off, 3)) (ht : (pc : Int) + off = (tgt : Int)) (kt : P → W p l e R s m args below meth c H locs cells slots Q (F0 m tgt ls rest)) (kf : ¬ P → W p l e R s m args below meth c H locs cells slots Q (F0 m (pc + 3) ls rest)) : W p l e R s m args below meth c H locs cells slots Q (F0 m pc ls (.int (iI (pI P)) :: rest)) :=
  r_if_ne F pI_in hdg ht (fun q => kt (pI_n q)) (fun q => kf (pI_0 q))
theorem r_lcmp (F : Fx p s m meth c args cc nL own ret nm) {a b : Int} (ha : -9223372036854775808 ≤ a ∧ a < 9223372036854775808) (hb : -9223372036854775808 ≤ b ∧ b < 9223372036854775808) (hdg : decode cc pc = .ok (.lcmp, 1)) (k : W p l e R s m args below meth c H locs cells slots Q (F0 m (pc + 1) ls (.int (iI (cmpI a b)) :: rest))) : W p l e R s m args below meth c H locs cells slots Q (F0 m pc ls (.long (lI b) :: .long (lI a) :: rest)) := by
  refine W.lcmp F.1 F.2.1 hdg ?_
  have he : lg_cmp (lI a) (lI b) = iI (cmpI a b) := by
    unfold lg_cmp cmpI
    by_cases h1 : b < a
    · rw [if_pos (show lI a > lI b from (lI_lt hb ha).mpr h1), if_neg (by omega), if_neg (by omega)]; decide +kernel
    · rw [if_neg (show ¬ lI a > lI b from fun q => h1 ((lI_lt hb ha).mp q))]
      by_cases h2 : a = b
      · rw [if_pos (show lI a = lI b from (lI_inj ha hb).mpr h2), if_neg (by omega), if_pos h2]; decide +kernel
      · rw [if_neg (show ¬ lI a = lI b from fun q => h2 ((lI_inj ha hb).mp q)), if_pos (by omega)]; decide +kernel
  rw [he]
  exact k
theorem cmp_in {a b : Int} : -2147483648 ≤ cmpI a b ∧ cmpI a b < 2147483648 := by
  have := @cmpI_in a b
  omega
/-! joins and loops -/
theorem jn_i {j : Nat} {st : List Value} {ls0 : Array Slot} (V : Int → Prop) (k : ∀ v : Int, V v → W p l e R s m args below meth c H locs cells slots Q (F0 m j ls (.int (iI v) :: rest))) (b : (∀ v : Int, V v → W p l e R s m args below meth c H locs cells slots Q (F0 m j ls (.int (iI v) :: rest))) → W p l e R s m args below meth c H locs cells slots Q (F0 m pc ls st)) : W p l e R s m args below meth c H locs cells slots Q (F0 m pc ls st) := b k
theorem jn_l {j : Nat} {st : List Value} (V : Int → Prop) (k : ∀ v : Int, V v → W p l e R s m args below meth c H locs cells slots Q (F0 m j ls (.long (lI v) :: rest))) (b : (∀ v : Int, V v → W p l e R s m args below meth c H locs cells slots Q (F0 m j ls (.long (lI v) :: rest))) → W p l e R s m args below meth c H locs cells slots Q (F0 m pc ls st)) : W p l e R s m args below meth c H locs cells slots Q (F0 m pc ls st) := b k
/-- a join of states: locals, heap and counts may differ -/
theorem jn_s {σ : Type} {j : Nat} {st st' : List Value} (V : σ → Heap → List Loc → Array Slot → Prop) (kf nf : Nat) (k : ∀ (x : σ) (H : Heap) (locs : List Loc) (ls : Array Slot), V x H locs ls → W p l e R s m args below meth c H locs kf nf Q (F0 m j ls st')) (b : (∀ (x : σ) (H : Heap) (locs : List Loc) (ls : Array Slot), V x H locs ls → W p l e R s m args below meth c H locs kf nf Q (F0 m j ls st')) → W p l e R s m args below meth c H locs cells slots Q (F0 m pc ls st)) : W p l e R s m args below meth c H locs cells slots Q (F0 m pc ls st) := b k
theorem lp_s {σ : Type} {hd : Nat} {st : List Value} (μ : σ → Nat) (I : σ → Heap → List Loc → Array Slot → Prop) (kf nf : σ → Nat)
    (step : ∀ (x : σ) (H : Heap) (locs : List Loc) (ls : Array Slot), I x H locs ls → (∀ (y : σ) (H' : Heap) (locs' : List Loc) (ls' : Array Slot), μ y < μ x → I y H' locs' ls' → W p l e R s m args below meth c H' locs' (kf y) (nf y) Q (F0 m hd ls' st)) → W p l e R s m args below meth c H locs (kf x) (nf x) Q (F0 m hd ls st))
    (x : σ) (H : Heap) (locs : List Loc) (ls : Array Slot) (h : I x H locs ls) : W p l e R s m args below meth c H locs (kf x) (nf x) Q (F0 m hd ls st) := by
  have key : ∀ (n : Nat) (x : σ) (H : Heap) (locs : List Loc) (ls : Array Slot), μ x < n → I x H locs ls → W p l e R s m args below meth c H locs (kf x) (nf x) Q (F0 m hd ls st) := by
    intro n
    induction n with
    | zero => intro x H locs ls h; omega
    | succ n ih => exact fun x H locs ls hn hI => step x H locs ls hI (fun y H' locs' ls' hy hI' => ih y H' locs' ls' (by omega) hI')
  exact key (μ x + 1) x H locs ls (Nat.lt_succ_self _) h
/-! fields -/
theorem r_get (F : Fx p s m meth c args cc nL own ret nm) {C : String} {T : u_T} {N ci index a : Nat} {ty : Nat → FieldType} {ref : String} {ws : va_W} (hb : Cb ci C T N ty) (hE : Ev G A s) (hP : va_P G.1 clG ws H) (q0 : Nat) {fs : List Value} (he : ws[q0]? = some (a, .inr (ci, fs))) (k : Nat) (hk : k < N) (hlink : Cond.fieldLink own index ref (T k).2.1 (T k).2.2.1 ∈ lw_all) (hsame : ∀ x, s.fieldFound? (T k).1 (T k).2.1 (T k).2.2.1 = some x → s.fieldFound? ref (T k).2.1 (T k).2.2.1 = some x) {v : Value} (hv : fs[k]? = some v) (hdg : decode cc pc = .ok (.getfield index, 3))
    (kk : W p l e R s m args below meth c H locs cells slots Q (F0 m (pc + 3) ls (v :: rest))) : W p l e R s m args below meth c H locs cells slots Q (F0 m pc ls (.ref a :: rest)) :=
  va_get F.1 F.2.1 F.2.2.2.2.1 hb.1 F.2.2.2.1 hE.1 hP q0 he hb.2.2.2 k hk (F.2.2.2.2.1 _ hlink) hsame hv hdg kk
theorem r_getN (F : Fx p s m meth c args cc nL own ret nm) {C : String} {T : u_T} {N ci index a : Nat} {ty : Nat → FieldType} {ref host : String} {ws : va_W} (hb : Cb ci C T N ty) (hE : Ev G A s) (hP : va_P G.1 clG ws H) (q0 : Nat) {fs : List Value} (he : ws[q0]? = some (a, .inr (ci, fs))) (k : Nat) (hk : k < N) (hlink : Cond.fieldLinkNest own index ref (T k).2.1 (T k).2.2.1 host ∈ lw_tbl) (hsame : ∀ x, s.fieldFound? (T k).1 (T k).2.1 (T k).2.2.1 = some x → s.fieldFound? ref (T k).2.1 (T k).2.2.1 = some x) {v : Value} (hv : fs[k]? = some v) (hdg : decode cc pc = .ok (.getfield index, 3))
    (kk : W p l e R s m args below meth c H locs cells slots Q (F0 m (pc + 3) ls (v :: rest))) : W p l e R s m args below meth c H locs cells slots Q (F0 m pc ls (.ref a :: rest)) :=
  va_getN F.1 F.2.1 F.2.2.2.2.1 hb.1 F.2.2.2.1 hE.1 hP q0 he hb.2.2.2 k hk (va_Nw.use rfl (hE.2.1.1 _ hlink rfl)) hsame hv hdg kk
theorem r_put (F : Fx p s m meth c args cc nL own ret nm) {C : String} {T : u_T} {N ci index a : Nat} {ty : Nat → FieldType} {ref : String} {ws : va_W} (hb : Cb ci C T N ty) (hE : Ev G A s) (hP : va_P G.1 clG ws H) (hD : va_D A ws) (hS : va_S A s.heap H locs) (q0 : Nat) {fs : List Value} (he : ws[q0]? = some (a, .inr (ci, fs))) (k : Nat) (hk : k < N) (hlink : Cond.fieldLink own index ref (T k).2.1 (T k).2.2.1 ∈ lw_all) (hsame : ∀ x, s.fieldFound? (T k).1 (T k).2.1 (T k).2.2.1 = some x → s.fieldFound? ref (T k).2.1 (T k).2.2.1 = some x) (hfin : (T k).2.2.2 = false) {v : Value} (hn : narrow (ty k) v = v) (hfit : fits (ty k) v = true) (hl : k < fs.length) (hdg : decode cc pc = .ok (.putfield index, 3))
    (kk : ∀ (H : Heap) (locs : List Loc), va_P G.1 clG (ws.set q0 (a, .inr (ci, fs.set k v))) H → va_D A (ws.set q0 (a, .inr (ci, fs.set k v))) → va_S A s.heap H locs → W p l e R s m args below meth c H locs cells slots Q (F0 m (pc + 3) ls rest)) : W p l e R s m args below meth c H locs cells slots Q (F0 m pc ls (v :: .ref a :: rest)) :=
  va_put F.1 F.2.1 F.2.2.2.2.1 hb.1 ty hb.2.1 hb.2.2.1 F.2.2.2.1 hE.1 hP hD hS q0 he hb.2.2.2 k hk (F.2.2.2.2.1 _ hlink) hsame hfin (hb.2.1 k hk) hn hfit hl hdg kk
theorem r_putN (F : Fx p s m meth c args cc nL own ret nm) {C : String} {T : u_T} {N ci index a : Nat} {ty : Nat → FieldType} {ref host : String} {ws : va_W} (hb : Cb ci C T N ty) (hE : Ev G A s) (hP : va_P G.1 clG ws H) (hD : va_D A ws) (hS : va_S A s.heap H locs) (q0 : Nat) {fs : List Value} (he : ws[q0]? = some (a, .inr (ci, fs))) (k : Nat) (hk : k < N) (hlink : Cond.fieldLinkNest own index ref (T k).2.1 (T k).2.2.1 host ∈ lw_tbl) (hsame : ∀ x, s.fieldFound? (T k).1 (T k).2.1 (T k).2.2.1 = some x → s.fieldFound? ref (T k).2.1 (T k).2.2.1 = some x) (hfin : (T k).2.2.2 = false) {v : Value} (hn : narrow (ty k) v = v) (hfit : fits (ty k) v = true) (hl : k < fs.length) (hdg : decode cc pc = .ok (.putfield index, 3))
    (kk : ∀ (H : Heap) (locs : List Loc), va_P G.1 clG (ws.set q0 (a, .inr (ci, fs.set k v))) H → va_D A (ws.set q0 (a, .inr (ci, fs.set k v))) → va_S A s.heap H locs → W p l e R s m args below meth c H locs cells slots Q (F0 m (pc + 3) ls rest)) : W p l e R s m args below meth c H locs cells slots Q (F0 m pc ls (v :: .ref a :: rest)) :=
  va_putN F.1 F.2.1 F.2.2.2.2.1 hb.1 ty hb.2.1 hb.2.2.1 F.2.2.2.1 hE.1 hP hD hS q0 he hb.2.2.2 k hk (va_Nw.use rfl (hE.2.1.1 _ hlink rfl)) hsame hfin (hb.2.1 k hk) hn hfit hl hdg kk
theorem r_putF (F : Fx p s m meth c args cc nL own ret "<init>") {C : String} {T : u_T} {N ci index a : Nat} {ty : Nat → FieldType} {ref : String} {ws : va_W} (hb : Cb ci C T N ty) (hE : Ev G A s) (hP : va_P G.1 clG ws H) (hD : va_D A ws) (hS : va_S A s.heap H locs) (q0 : Nat) {fs : List Value} (he : ws[q0]? = some (a, .inr (ci, fs))) (k : Nat) (hk : k < N) (hlink : Cond.fieldLink own index ref (T k).2.1 (T k).2.2.1 ∈ lw_all) (hsame : ∀ x, s.fieldFound? (T k).1 (T k).2.1 (T k).2.2.1 = some x → s.fieldFound? ref (T k).2.1 (T k).2.2.1 = some x) (hfin : (T k).2.2.2 = true) (hdecl : (T k).1 = own) {v : Value} (hn : narrow (ty k) v = v) (hfit : fits (ty k) v = true) (hl : k < fs.length) (hdg : decode cc pc = .ok (.putfield index, 3))
    (kk : ∀ (H : Heap) (locs : List Loc), va_P G.1 clG (ws.set q0 (a, .inr (ci, fs.set k v))) H → va_D A (ws.set q0 (a, .inr (ci, fs.set k v))) → va_S A s.heap H locs → W p l e R s m args below meth c H locs cells slots Q (F0 m (pc + 3) ls rest)) : W p l e R s m args below meth c H locs cells slots Q (F0 m pc ls (v :: .ref a :: rest)) :=
  va_putF F.1 F.2.1 F.2.2.2.2.1 hb.1 ty hb.2.1 hb.2.2.1 F.2.2.2.1 hE.1 hP hD hS q0 he hb.2.2.2 k hk (F.2.2.2.2.1 _ hlink) hsame hfin F.2.2.2.2.2.2.2 hdecl (hb.2.1 k hk) hn hfit hl hdg kk
/-! arrays -/
theorem r_alen (F : Fx p s m meth c args cc nL own ret nm) {ws : va_W} {a t n : Nat} {x : (Nat → Int32) ⊕ (Nat → Int64) ⊕ (Nat → UInt32) ⊕ (Nat → UInt64) ⊕ (Nat → Option Nat)} {ty : FieldType} (hE : Ev G A s) (hP : va_P G.1 clG ws H) (q0 : Nat) (ha : ws[q0]? = some (a, .inl (G.2.1 t, n, x))) (ht : (tyG G)[t]? = some (G.2.1 t, ty)) (hdg : decode cc pc = .ok (.arraylength, 1)) (k : W p l e R s m args below meth c H locs cells slots Q (F0 m (pc + 1) ls (.int (iI (n : Int)) :: rest))) : W p l e R s m args below meth c H locs cells slots Q (F0 m pc ls (.ref a :: rest)) := va_alen F.1 F.2.1 hE.1 hP q0 t ha ht (iI_nat n) hdg k
theorem r_iald (F : Fx p s m meth c args cc nL own ret nm) {ws : va_W} {a n : Nat} {g : Nat → Int} {i : Int} (hE : Ev G A s) (hP : va_P G.1 clG ws H) (q0 : Nat) (ha : ws[q0]? = some (a, .inl (G.2.1 2, n, .inl (aI g)))) (j : Nat) (hi : i = (j : Int)) (hj : j < n) (hn : n < 2147483648) (hdg : decode cc pc = .ok (.iaload, 1)) (k : W p l e R s m args below meth c H locs cells slots Q (F0 m (pc + 1) ls (.int (iI (g j)) :: rest))) : W p l e R s m args below meth c H locs cells slots Q (F0 m pc ls (.int (iI i) :: .ref a :: rest)) :=
  va_iald F.1 F.2.1 hE.1 hP q0 2 ha rfl (iI_inN hi hj hn) hdg (by rw [iI_clN hi (by omega)]; exact k)
theorem r_bald (F : Fx p s m meth c args cc nL own ret nm) {ws : va_W} {a n : Nat} {g : Nat → Int} {i : Int} (hE : Ev G A s) (hP : va_P G.1 clG ws H) (q0 : Nat) (ha : ws[q0]? = some (a, .inl (G.2.1 0, n, .inl (aI g)))) (j : Nat) (hi : i = (j : Int)) (hj : j < n) (hn : n < 2147483648) (hdg : decode cc pc = .ok (.baload, 1)) (k : W p l e R s m args below meth c H locs cells slots Q (F0 m (pc + 1) ls (.int (iI (g j)) :: rest))) : W p l e R s m args below meth c H locs cells slots Q (F0 m pc ls (.int (iI i) :: .ref a :: rest)) :=
  va_bald F.1 F.2.1 hE.1 hP q0 0 ha rfl (iI_inN hi hj hn) hdg (by rw [iI_clN hi (by omega)]; exact k)
theorem r_zald (F : Fx p s m meth c args cc nL own ret nm) {ws : va_W} {a n : Nat} {g : Nat → Int} {i : Int} (hE : Ev G A s) (hP : va_P G.1 clG ws H) (q0 : Nat) (ha : ws[q0]? = some (a, .inl (G.2.1 4, n, .inl (aI g)))) (j : Nat) (hi : i = (j : Int)) (hj : j < n) (hn : n < 2147483648) (hdg : decode cc pc = .ok (.baload, 1)) (k : W p l e R s m args below meth c H locs cells slots Q (F0 m (pc + 1) ls (.int (iI (g j)) :: rest))) : W p l e R s m args below meth c H locs cells slots Q (F0 m pc ls (.int (iI i) :: .ref a :: rest)) :=
  va_zald F.1 F.2.1 hE.1 hP q0 4 ha rfl (iI_inN hi hj hn) hdg (by rw [iI_clN hi (by omega)]; exact k)
theorem r_cald (F : Fx p s m meth c args cc nL own ret nm) {ws : va_W} {a n : Nat} {g : Nat → Int} {i : Int} (hE : Ev G A s) (hP : va_P G.1 clG ws H) (q0 : Nat) (ha : ws[q0]? = some (a, .inl (G.2.1 1, n, .inl (aI g)))) (j : Nat) (hi : i = (j : Int)) (hj : j < n) (hn : n < 2147483648) (hdg : decode cc pc = .ok (.caload, 1)) (k : W p l e R s m args below meth c H locs cells slots Q (F0 m (pc + 1) ls (.int (iI (g j)) :: rest))) : W p l e R s m args below meth c H locs cells slots Q (F0 m pc ls (.int (iI i) :: .ref a :: rest)) :=
  va_cald F.1 F.2.1 hE.1 hP q0 1 ha rfl (iI_inN hi hj hn) hdg (by rw [iI_clN hi (by omega)]; exact k)
theorem r_lald (F : Fx p s m meth c args cc nL own ret nm) {ws : va_W} {a n : Nat} {g : Nat → Int} {i : Int} (hE : Ev G A s) (hP : va_P G.1 clG ws H) (q0 : Nat) (ha : ws[q0]? = some (a, .inl (G.2.1 3, n, .inr (.inl (aL g))))) (j : Nat) (hi : i = (j : Int)) (hj : j < n) (hn : n < 2147483648) (hdg : decode cc pc = .ok (.laload, 1)) (k : W p l e R s m args below meth c H locs cells slots Q (F0 m (pc + 1) ls (.long (lI (g j)) :: rest))) : W p l e R s m args below meth c H locs cells slots Q (F0 m pc ls (.int (iI i) :: .ref a :: rest)) :=
  va_lald F.1 F.2.1 hE.1 hP q0 3 ha rfl (iI_inN hi hj hn) hdg (by rw [iI_clN hi (by omega)]; exact k)
theorem r_aald (F : Fx p s m meth c args cc nL own ret nm) {ws : va_W} {a n t : Nat} {C : String} {f : Nat → Option Nat} {i : Int} (hE : Ev G A s) (hP : va_P G.1 clG ws H) (q0 : Nat) (ha : ws[q0]? = some (a, .inl (G.2.1 t, n, .inr (.inr (.inr (.inr f)))))) (ht : (tyG G)[t]? = some (G.2.1 t, .object C)) (j : Nat) (hi : i = (j : Int)) (hj : j < n) (hn : n < 2147483648) {v : Value} (hv : va_rf (f j) = v) (hdg : decode cc pc = .ok (.aaload, 1)) (k : W p l e R s m args below meth c H locs cells slots Q (F0 m (pc + 1) ls (v :: rest))) : W p l e R s m args below meth c H locs cells slots Q (F0 m pc ls (.int (iI i) :: .ref a :: rest)) :=
  va_aldq F.1 F.2.1 hE.1 hP q0 t ha ht (iI_inN hi hj hn) hdg (by rw [iI_clN hi (by omega), hv]; exact k)
theorem r_iast (F : Fx p s m meth c args cc nL own ret nm) {ws : va_W} {a n : Nat} {g : Nat → Int} {i x : Int} (hE : Ev G A s) (hP : va_P G.1 clG ws H) (hD : va_D A ws) (hS : va_S A s.heap H locs) (q0 : Nat) (ha : ws[q0]? = some (a, .inl (G.2.1 2, n, .inl (aI g)))) (j : Nat) (hi : i = (j : Int)) (hj : j < n) (hn : n < 2147483648) (hdg : decode cc pc = .ok (.iastore, 1))
    (kk : ∀ (H : Heap) (locs : List Loc), va_P G.1 clG (ws.set q0 (a, .inl (G.2.1 2, n, .inl (aI (up g j x))))) H → va_D A (ws.set q0 (a, .inl (G.2.1 2, n, .inl (aI (up g j x))))) → va_S A s.heap H locs → W p l e R s m args below meth c H locs cells slots Q (F0 m (pc + 1) ls rest)) : W p l e R s m args below meth c H locs cells slots Q (F0 m pc ls (.int (iI x) :: .int (iI i) :: .ref a :: rest)) := by
  refine va_iast F.1 F.2.1 hE.1 hP hD hS q0 2 ha rfl (iI_inN hi hj hn) hdg (fun H1 L1 h1 h2 h3 => ?_)
  rw [iI_clN hi (by omega), up_aI] at h1 h2
  exact kk H1 L1 h1 h2 h3
theorem r_last (F : Fx p s m meth c args cc nL own ret nm) {ws : va_W} {a n : Nat} {g : Nat → Int} {i x : Int} (hE : Ev G A s) (hP : va_P G.1 clG ws H) (hD : va_D A ws) (hS : va_S A s.heap H locs) (q0 : Nat) (ha : ws[q0]? = some (a, .inl (G.2.1 3, n, .inr (.inl (aL g))))) (j : Nat) (hi : i = (j : Int)) (hj : j < n) (hn : n < 2147483648) (hdg : decode cc pc = .ok (.lastore, 1))
    (kk : ∀ (H : Heap) (locs : List Loc), va_P G.1 clG (ws.set q0 (a, .inl (G.2.1 3, n, .inr (.inl (aL (up g j x)))))) H → va_D A (ws.set q0 (a, .inl (G.2.1 3, n, .inr (.inl (aL (up g j x)))))) → va_S A s.heap H locs → W p l e R s m args below meth c H locs cells slots Q (F0 m (pc + 1) ls rest)) : W p l e R s m args below meth c H locs cells slots Q (F0 m pc ls (.long (lI x) :: .int (iI i) :: .ref a :: rest)) := by
  refine va_last F.1 F.2.1 hE.1 hP hD hS q0 3 ha rfl (iI_inN hi hj hn) hdg (fun H1 L1 h1 h2 h3 => ?_)
  rw [iI_clN hi (by omega), up_aL] at h1 h2
  exact kk H1 L1 h1 h2 h3
theorem r_bast (F : Fx p s m meth c args cc nL own ret nm) {ws : va_W} {a n : Nat} {g : Nat → Int} {i x : Int} (hE : Ev G A s) (hP : va_P G.1 clG ws H) (hD : va_D A ws) (hS : va_S A s.heap H locs) (q0 : Nat) (ha : ws[q0]? = some (a, .inl (G.2.1 0, n, .inl (aI g)))) (j : Nat) (hi : i = (j : Int)) (hj : j < n) (hn : n < 2147483648) (hx : -128 ≤ x ∧ x < 128) (hdg : decode cc pc = .ok (.bastore, 1))
    (kk : ∀ (H : Heap) (locs : List Loc), va_P G.1 clG (ws.set q0 (a, .inl (G.2.1 0, n, .inl (aI (up g j x))))) H → va_D A (ws.set q0 (a, .inl (G.2.1 0, n, .inl (aI (up g j x))))) → va_S A s.heap H locs → W p l e R s m args below meth c H locs cells slots Q (F0 m (pc + 1) ls rest)) : W p l e R s m args below meth c H locs cells slots Q (F0 m pc ls (.int (iI x) :: .int (iI i) :: .ref a :: rest)) := by
  refine va_bast F.1 F.2.1 hE.1 hP hD hS q0 0 ha rfl (iI_inN hi hj hn) hdg (fun H1 L1 h1 h2 h3 => ?_)
  rw [iI_clN hi (by omega), vp_nar_byte, iI_b, bt_id hx, up_aI] at h1 h2
  exact kk H1 L1 h1 h2 h3
theorem r_zast (F : Fx p s m meth c args cc nL own ret nm) {ws : va_W} {a n : Nat} {g : Nat → Int} {i x : Int} (hE : Ev G A s) (hP : va_P G.1 clG ws H) (hD : va_D A ws) (hS : va_S A s.heap H locs) (q0 : Nat) (ha : ws[q0]? = some (a, .inl (G.2.1 4, n, .inl (aI g)))) (j : Nat) (hi : i = (j : Int)) (hj : j < n) (hn : n < 2147483648) (hx : x = 0 ∨ x = 1) (hdg : decode cc pc = .ok (.bastore, 1))
    (kk : ∀ (H : Heap) (locs : List Loc), va_P G.1 clG (ws.set q0 (a, .inl (G.2.1 4, n, .inl (aI (up g j x))))) H → va_D A (ws.set q0 (a, .inl (G.2.1 4, n, .inl (aI (up g j x))))) → va_S A s.heap H locs → W p l e R s m args below meth c H locs cells slots Q (F0 m (pc + 1) ls rest)) : W p l e R s m args below meth c H locs cells slots Q (F0 m pc ls (.int (iI x) :: .int (iI i) :: .ref a :: rest)) := by
  have hz : vp_nar .boolean (iI x) = iI x := by
    unfold vp_nar
    rw [nb_p hx]
  refine va_zast F.1 F.2.1 hE.1 hP hD hS q0 4 ha rfl (iI_inN hi hj hn) hdg (fun H1 L1 h1 h2 h3 => ?_)
  rw [iI_clN hi (by omega), hz, up_aI] at h1 h2
  exact kk H1 L1 h1 h2 h3
theorem r_cast (F : Fx p s m meth c args cc nL own ret nm) {ws : va_W} {a n : Nat} {g : Nat → Int} {i x : Int} (hE : Ev G A s) (hP : va_P G.1 clG ws H) (hD : va_D A ws) (hS : va_S A s.heap H locs) (q0 : Nat) (ha : ws[q0]? = some (a, .inl (G.2.1 1, n, .inl (aI g)))) (j : Nat) (hi : i = (j : Int)) (hj : j < n) (hn : n < 2147483648) (hx : 0 ≤ x ∧ x < 65536) (hdg : decode cc pc = .ok (.castore, 1))
    (kk : ∀ (H : Heap) (locs : List Loc), va_P G.1 clG (ws.set q0 (a, .inl (G.2.1 1, n, .inl (aI (up g j x))))) H → va_D A (ws.set q0 (a, .inl (G.2.1 1, n, .inl (aI (up g j x))))) → va_S A s.heap H locs → W p l e R s m args below meth c H locs cells slots Q (F0 m (pc + 1) ls rest)) : W p l e R s m args below meth c H locs cells slots Q (F0 m pc ls (.int (iI x) :: .int (iI i) :: .ref a :: rest)) := by
  have hz : vp_nar .char (iI x) = iI x := by
    rw [vp_nar_char]
    have e1 : (iI x).toUInt32.toUInt16.toUInt32.toInt32 = ((iI x).toUInt32 % 65536).toInt32 := by
      refine Int32.toBitVec_inj.mp (BitVec.eq_of_toNat_eq ?_)
      show ((iI x).toUInt32.toUInt16.toUInt32).toNat = ((iI x).toUInt32 % 65536).toNat
      simp
    rw [e1, pk_char, iI_tn, Int.emod_eq_of_lt hx.1 (by omega)]
    show Int32.ofNat _ = _
    rw [iI_nat]
    exact congrArg iI (by omega)
  refine va_cast F.1 F.2.1 hE.1 hP hD hS q0 1 ha rfl (iI_inN hi hj hn) hdg (fun H1 L1 h1 h2 h3 => ?_)
  rw [iI_clN hi (by omega), hz, up_aI] at h1 h2
  exact kk H1 L1 h1 h2 h3
end FW
