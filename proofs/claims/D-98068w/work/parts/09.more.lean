/-! MORE ROWS: equations carried into worlds and locals, switches, inherited and nest calls, walkers of any kind -/
set_option maxRecDepth 100000
theorem cv {α : Type} {a b : α} {G : Gm} {A : Nat → Prop} {H : Heap} (M : α → va_W) (e : a = b) (h : va_P G.1 clG (M a) H ∧ va_D A (M a)) : va_P G.1 clG (M b) H ∧ va_D A (M b) := e ▸ h
theorem cvE {G : Gm} {A : Nat → Prop} {H : Heap} {ws : va_W} {a : Nat} {x x' : ClassId × vp_A} (hP : va_P G.1 clG ws H) (hD : va_D A ws) (i : Nat) (h : ws[i]? = some (a, .inl x)) (e : vp_cell x.1 x.2 = vp_cell x'.1 x'.2) : va_P G.1 clG (ws.set i (a, .inl x')) H ∧ va_D A (ws.set i (a, .inl x')) := by
  refine ⟨hP.set hD h ?_ (fun _ _ => rfl), hD.set h⟩
  have h1 : H[a]? = some (vp_cell x.1 x.2) := hP i _ h
  show H[a]? = some (vp_cell x'.1 x'.2)
  rw [← e]
  exact h1
theorem arrV_ext {cA : ClassId} {n : Nat} {f g : Nat → Value} (h : ∀ k, k < n → f k = g k) : arrV cA n f = arrV cA n g := by
  unfold arrV
  congr 1
  refine Array.ext (by simp) (fun i h1 h2 => ?_)
  simp at h1 h2 ⊢
  exact h i h1
theorem cvJ {G : Gm} {A : Nat → Prop} {H : Heap} {ws : va_W} {a n : Nat} {cA : ClassId} {g g' : Nat → Int} (hP : va_P G.1 clG ws H) (hD : va_D A ws) (i : Nat) (h : ws[i]? = some (a, .inl (cA, n, .inr (.inl (aL g))))) (e : ∀ k, k < n → g k = g' k) : va_P G.1 clG (ws.set i (a, .inl (cA, n, .inr (.inl (aL g'))))) H ∧ va_D A (ws.set i (a, .inl (cA, n, .inr (.inl (aL g'))))) :=
  cvE hP hD i h (show arrV cA n (fun j => .long (aL g j)) = arrV cA n (fun j => .long (aL g' j)) from arrV_ext (fun k hk => by show Value.long (lI (g k)) = Value.long (lI (g' k)); rw [e k hk]))
theorem cvI {G : Gm} {A : Nat → Prop} {H : Heap} {ws : va_W} {a n : Nat} {cA : ClassId} {g g' : Nat → Int} (hP : va_P G.1 clG ws H) (hD : va_D A ws) (i : Nat) (h : ws[i]? = some (a, .inl (cA, n, .inl (aI g)))) (e : ∀ k, k < n → g k = g' k) : va_P G.1 clG (ws.set i (a, .inl (cA, n, .inl (aI g')))) H ∧ va_D A (ws.set i (a, .inl (cA, n, .inl (aI g')))) :=
  cvE hP hD i h (show arrV cA n (fun j => .int (aI g j)) = arrV cA n (fun j => .int (aI g' j)) from arrV_ext (fun k hk => by show Value.int (iI (g k)) = Value.int (iI (g' k)); rw [e k hk]))
theorem cvQ {G : Gm} {A : Nat → Prop} {H : Heap} {ws : va_W} {a n : Nat} {cA : ClassId} {g g' : Nat → Option Nat} (hP : va_P G.1 clG ws H) (hD : va_D A ws) (i : Nat) (h : ws[i]? = some (a, .inl (cA, n, .inr (.inr (.inr (.inr g)))))) (e : ∀ k, k < n → g k = g' k) : va_P G.1 clG (ws.set i (a, .inl (cA, n, .inr (.inr (.inr (.inr g')))))) H ∧ va_D A (ws.set i (a, .inl (cA, n, .inr (.inr (.inr (.inr g')))))) :=
  cvE hP hD i h (show arrV cA n (fun j => va_rf (g j)) = arrV cA n (fun j => va_rf (g' j)) from arrV_ext (fun k hk => by show va_rf (g k) = va_rf (g' k); rw [e k hk]))
theorem lv_cv {α : Type} {a b : α} {ls : Array Slot} {n : Nat} (M : α → List (Nat × Value)) (e : a = b) (h : lv_has ls n (M a)) : lv_has ls n (M b) := e ▸ h
theorem cmpI_ge0 {a b : Int} (h : 0 ≤ cmpI a b) : b ≤ a := Int.not_lt.mp fun q => by have := cmpI_lt.mpr q; omega
theorem cmpI_le0 {a b : Int} (h : cmpI a b ≤ 0) : a ≤ b := Int.not_lt.mp fun q => by have := cmpI_gt.mpr q; omega
theorem cmpI_ne0 {a b : Int} (h : ¬ cmpI a b = 0) : ¬ a = b := fun q => h (cmpI_eq.mpr q)
theorem ft_z {x : Int} (h : x = 0 ∨ x = 1) : fits .boolean (.int (iI x)) = true := by
  rcases h with h | h <;> rw [h] <;> decide +kernel
theorem new_I {n : Nat} : ∀ cA : ClassId, vp_cell cA (n, .inl (aI (fun _ => 0))) = arrV cA n (fun _ => defaultValue .int) := fun cA => by
  rw [← aI_0]; rfl
theorem new_J {n : Nat} : ∀ cA : ClassId, vp_cell cA (n, .inr (.inl (aL (fun _ => 0)))) = arrV cA n (fun _ => defaultValue .long) := fun cA => by
  rw [← aL_0]; rfl
theorem new_B {n : Nat} : ∀ cA : ClassId, vp_cell cA (n, .inl (aI (fun _ => 0))) = arrV cA n (fun _ => defaultValue .byte) := fun cA => by
  rw [← aI_0]; rfl
theorem new_C {n : Nat} : ∀ cA : ClassId, vp_cell cA (n, .inl (aI (fun _ => 0))) = arrV cA n (fun _ => defaultValue .char) := fun cA => by
  rw [← aI_0]; rfl
theorem new_Z {n : Nat} : ∀ cA : ClassId, vp_cell cA (n, .inl (aI (fun _ => 0))) = arrV cA n (fun _ => defaultValue .boolean) := fun cA => by
  rw [← aI_0]; rfl
theorem def_X1 : ∀ j, j < 18 → defaultValue (tyX1 j) = vp_V [.null, .int (iI 0), .null, .null, .int (iI 0), .int (iI 0), .int (iI 0), .int (iI 0), .int (iI 0), .int (iI 0), .int (iI 0), .null, .null, .null, .null, .null, .null, .null] j := by
  intro j hj
  rcases (show j = 0 ∨ j = 1 ∨ j = 2 ∨ j = 3 ∨ j = 4 ∨ j = 5 ∨ j = 6 ∨ j = 7 ∨ j = 8 ∨ j = 9 ∨ j = 10 ∨ j = 11 ∨ j = 12 ∨ j = 13 ∨ j = 14 ∨ j = 15 ∨ j = 16 ∨ j = 17 by omega) with rfl | rfl | rfl | rfl | rfl | rfl | rfl | rfl | rfl | rfl | rfl | rfl | rfl | rfl | rfl | rfl | rfl | rfl <;> first | rfl | exact congrArg Value.int iI_0 | exact congrArg Value.long lI_0
theorem def_X2 : ∀ j, j < 10 → defaultValue (tyX2 j) = vp_V [.null, .null, .null, .int (iI 0), .int (iI 0), .int (iI 0), .int (iI 0), .int (iI 0), .null, .null] j := by
  intro j hj
  rcases (show j = 0 ∨ j = 1 ∨ j = 2 ∨ j = 3 ∨ j = 4 ∨ j = 5 ∨ j = 6 ∨ j = 7 ∨ j = 8 ∨ j = 9 by omega) with rfl | rfl | rfl | rfl | rfl | rfl | rfl | rfl | rfl | rfl <;> first | rfl | exact congrArg Value.int iI_0 | exact congrArg Value.long lI_0
theorem def_X3 : ∀ j, j < 8 → defaultValue (tyX3 j) = vp_V [.null, .null, .null, .null, .null, .int (iI 0), .int (iI 0), .int (iI 0)] j := by
  intro j hj
  rcases (show j = 0 ∨ j = 1 ∨ j = 2 ∨ j = 3 ∨ j = 4 ∨ j = 5 ∨ j = 6 ∨ j = 7 by omega) with rfl | rfl | rfl | rfl | rfl | rfl | rfl | rfl <;> first | rfl | exact congrArg Value.int iI_0 | exact congrArg Value.long lI_0
theorem def_X4 : ∀ j, j < 6 → defaultValue (tyX4 j) = vp_V [.null, .int (iI 0), .null, .int (iI 0), .long (lI 0), .int (iI 0)] j := by
  intro j hj
  rcases (show j = 0 ∨ j = 1 ∨ j = 2 ∨ j = 3 ∨ j = 4 ∨ j = 5 by omega) with rfl | rfl | rfl | rfl | rfl | rfl <;> first | rfl | exact congrArg Value.int iI_0 | exact congrArg Value.long lI_0
theorem def_X5 : ∀ j, j < 8 → defaultValue (tyX5 j) = vp_V [.null, .null, .null, .null, .null, .int (iI 0), .int (iI 0), .int (iI 0)] j := by
  intro j hj
  rcases (show j = 0 ∨ j = 1 ∨ j = 2 ∨ j = 3 ∨ j = 4 ∨ j = 5 ∨ j = 6 ∨ j = 7 by omega) with rfl | rfl | rfl | rfl | rfl | rfl | rfl | rfl <;> first | rfl | exact congrArg Value.int iI_0 | exact congrArg Value.long lI_0
theorem def_X6 : ∀ j, j < 3 → defaultValue (tyX6 j) = vp_V [.null, .int (iI 0), .int (iI 0)] j := by
  intro j hj
  rcases (show j = 0 ∨ j = 1 ∨ j = 2 by omega) with rfl | rfl | rfl <;> first | rfl | exact congrArg Value.int iI_0 | exact congrArg Value.long lI_0
theorem def_X8 : ∀ j, j < 11 → defaultValue (tyX8 j) = vp_V [.null, .null, .null, .null, .null, .int (iI 0), .int (iI 0), .int (iI 0), .int (iI 0), .int (iI 0), .int (iI 0)] j := by
  intro j hj
  rcases (show j = 0 ∨ j = 1 ∨ j = 2 ∨ j = 3 ∨ j = 4 ∨ j = 5 ∨ j = 6 ∨ j = 7 ∨ j = 8 ∨ j = 9 ∨ j = 10 by omega) with rfl | rfl | rfl | rfl | rfl | rfl | rfl | rfl | rfl | rfl | rfl <;> first | rfl | exact congrArg Value.int iI_0 | exact congrArg Value.long lI_0
theorem def_X9 : ∀ j, j < 5 → defaultValue (tyX9 j) = vp_V [.int (iI 0), .int (iI 0), .int (iI 0), .int (iI 0), .int (iI 0)] j := by
  intro j hj
  rcases (show j = 0 ∨ j = 1 ∨ j = 2 ∨ j = 3 ∨ j = 4 by omega) with rfl | rfl | rfl | rfl | rfl <;> first | rfl | exact congrArg Value.int iI_0 | exact congrArg Value.long lI_0
theorem def_X11 : ∀ j, j < 5 → defaultValue (tyX11 j) = vp_V [.null, .int (iI 0), .int (iI 0), .int (iI 0), .int (iI 0)] j := by
  intro j hj
  rcases (show j = 0 ∨ j = 1 ∨ j = 2 ∨ j = 3 ∨ j = 4 by omega) with rfl | rfl | rfl | rfl | rfl <;> first | rfl | exact congrArg Value.int iI_0 | exact congrArg Value.long lI_0
theorem def_X12 : ∀ j, j < 5 → defaultValue (tyX12 j) = vp_V [.int (iI 0), .int (iI 0), .int (iI 0), .int (iI 0), .int (iI 0)] j := by
  intro j hj
  rcases (show j = 0 ∨ j = 1 ∨ j = 2 ∨ j = 3 ∨ j = 4 by omega) with rfl | rfl | rfl | rfl | rfl <;> first | rfl | exact congrArg Value.int iI_0 | exact congrArg Value.long lI_0
theorem def_X14 : ∀ j, j < 8 → defaultValue (tyX14 j) = vp_V [.int (iI 0), .int (iI 0), .int (iI 0), .int (iI 0), .int (iI 0), .int (iI 0), .null, .int (iI 0)] j := by
  intro j hj
  rcases (show j = 0 ∨ j = 1 ∨ j = 2 ∨ j = 3 ∨ j = 4 ∨ j = 5 ∨ j = 6 ∨ j = 7 by omega) with rfl | rfl | rfl | rfl | rfl | rfl | rfl | rfl <;> first | rfl | exact congrArg Value.int iI_0 | exact congrArg Value.long lI_0
theorem def_X15 : ∀ j, j < 8 → defaultValue (tyX15 j) = vp_V [.int (iI 0), .int (iI 0), .int (iI 0), .int (iI 0), .int (iI 0), .int (iI 0), .null, .int (iI 0)] j := by
  intro j hj
  rcases (show j = 0 ∨ j = 1 ∨ j = 2 ∨ j = 3 ∨ j = 4 ∨ j = 5 ∨ j = 6 ∨ j = 7 by omega) with rfl | rfl | rfl | rfl | rfl | rfl | rfl | rfl <;> first | rfl | exact congrArg Value.int iI_0 | exact congrArg Value.long lI_0
theorem def_X16 : ∀ j, j < 8 → defaultValue (tyX16 j) = vp_V [.int (iI 0), .int (iI 0), .int (iI 0), .int (iI 0), .int (iI 0), .int (iI 0), .null, .int (iI 0)] j := by
  intro j hj
  rcases (show j = 0 ∨ j = 1 ∨ j = 2 ∨ j = 3 ∨ j = 4 ∨ j = 5 ∨ j = 6 ∨ j = 7 by omega) with rfl | rfl | rfl | rfl | rfl | rfl | rfl | rfl <;> first | rfl | exact congrArg Value.int iI_0 | exact congrArg Value.long lI_0
theorem def_X17 : ∀ j, j < 8 → defaultValue (tyX17 j) = vp_V [.int (iI 0), .int (iI 0), .int (iI 0), .int (iI 0), .int (iI 0), .int (iI 0), .null, .int (iI 0)] j := by
  intro j hj
  rcases (show j = 0 ∨ j = 1 ∨ j = 2 ∨ j = 3 ∨ j = 4 ∨ j = 5 ∨ j = 6 ∨ j = 7 by omega) with rfl | rfl | rfl | rfl | rfl | rfl | rfl | rfl <;> first | rfl | exact congrArg Value.int iI_0 | exact congrArg Value.long lI_0
theorem def_X18 : ∀ j, j < 2 → defaultValue (tyX18 j) = vp_V [.null, .int (iI 0)] j := by
  intro j hj
  rcases (show j = 0 ∨ j = 1 by omega) with rfl | rfl <;> first | rfl | exact congrArg Value.int iI_0 | exact congrArg Value.long lI_0
theorem def_X7 : ∀ j, j < 26 → defaultValue (tyX7 j) = vp_V [.int (iI 0), .int (iI 0), .int (iI 0), .null, .null, .null, .int (iI 0), .int (iI 0), .int (iI 0), .int (iI 0), .int (iI 0), .int (iI 0), .int (iI 0), .int (iI 0), .int (iI 0), .long (lI 0), .null, .null, .null, .int (iI 0), .int (iI 0), .null, .null, .null, .int (iI 0), .int (iI 0)] j := by
  intro j hj
  rcases (show j = 0 ∨ j = 1 ∨ j = 2 ∨ j = 3 ∨ j = 4 ∨ j = 5 ∨ j = 6 ∨ j = 7 ∨ j = 8 ∨ j = 9 ∨ j = 10 ∨ j = 11 ∨ j = 12 ∨ j = 13 ∨ j = 14 ∨ j = 15 ∨ j = 16 ∨ j = 17 ∨ j = 18 ∨ j = 19 ∨ j = 20 ∨ j = 21 ∨ j = 22 ∨ j = 23 ∨ j = 24 ∨ j = 25 by omega) with rfl | rfl | rfl | rfl | rfl | rfl | rfl | rfl | rfl | rfl | rfl | rfl | rfl | rfl | rfl | rfl | rfl | rfl | rfl | rfl | rfl | rfl | rfl | rfl | rfl | rfl <;> first | rfl | exact congrArg Value.int iI_0 | exact congrArg Value.long lI_0
theorem def_X19 : ∀ j, j < 31 → defaultValue (tyX19 j) = vp_V [.int (iI 0), .int (iI 0), .int (iI 0), .int (iI 0), .int (iI 0), .int (iI 0), .int (iI 0), .null, .null, .null, .null, .null, .null, .null, .null, .null, .null, .null, .null, .null, .null, .null, .null, .null, .null, .null, .null, .null, .null, .null, .null] j := by
  intro j hj
  rcases (show j = 0 ∨ j = 1 ∨ j = 2 ∨ j = 3 ∨ j = 4 ∨ j = 5 ∨ j = 6 ∨ j = 7 ∨ j = 8 ∨ j = 9 ∨ j = 10 ∨ j = 11 ∨ j = 12 ∨ j = 13 ∨ j = 14 ∨ j = 15 ∨ j = 16 ∨ j = 17 ∨ j = 18 ∨ j = 19 ∨ j = 20 ∨ j = 21 ∨ j = 22 ∨ j = 23 ∨ j = 24 ∨ j = 25 ∨ j = 26 ∨ j = 27 ∨ j = 28 ∨ j = 29 ∨ j = 30 by omega) with rfl | rfl | rfl | rfl | rfl | rfl | rfl | rfl | rfl | rfl | rfl | rfl | rfl | rfl | rfl | rfl | rfl | rfl | rfl | rfl | rfl | rfl | rfl | rfl | rfl | rfl | rfl | rfl | rfl | rfl | rfl <;> first | rfl | exact congrArg Value.int iI_0 | exact congrArg Value.long lI_0
theorem def_J3 : ∀ j, j < 4 → defaultValue (tyJ3 j) = vp_V [.null, .int (iI 0), .int (iI 0), .int (iI 0)] j := by
  intro j hj
  rcases (show j = 0 ∨ j = 1 ∨ j = 2 ∨ j = 3 by omega) with rfl | rfl | rfl | rfl <;> first | rfl | exact congrArg Value.int iI_0 | exact congrArg Value.long lI_0
theorem def_J9 : ∀ j, j < 6 → defaultValue (tyJ9 j) = vp_V [.null, .null, .null, .null, .null, .int (iI 0)] j := by
  intro j hj
  rcases (show j = 0 ∨ j = 1 ∨ j = 2 ∨ j = 3 ∨ j = 4 ∨ j = 5 by omega) with rfl | rfl | rfl | rfl | rfl | rfl <;> first | rfl | exact congrArg Value.int iI_0 | exact congrArg Value.long lI_0
/-! walkers: four kinds -/
def ciW (k : Nat) : Nat := match k with
  | 0 => 10
  | 1 => 11
  | 2 => 12
  | _ => 13
def clsW (k : Nat) : String := match k with
  | 0 => RX14
  | 1 => RX15
  | 2 => RX16
  | _ => RX17
theorem kW {P : Nat → Prop} (h0 : P 0) (h1 : P 1) (h2 : P 2) (h3 : ∀ n, P (n + 3)) (k : Nat) : P k := by
  match k with
  | 0 => exact h0
  | 1 => exact h1
  | 2 => exact h2
  | n + 3 => exact h3 n
theorem b_W (k : Nat) : Cb (ciW k) (clsW k) TX14 8 tyX14 := by
  have e1 : ∀ j, j < 8 → TX15 j = TX14 j := by decide +kernel
  have e2 : ∀ j, j < 8 → TX16 j = TX14 j := by decide +kernel
  have e3 : ∀ j, j < 8 → TX17 j = TX14 j := by decide +kernel
  have f1 : TX15 = TX14 := rfl
  have f2 : TX16 = TX14 := rfl
  have f3 : TX17 = TX14 := rfl
  refine kW (P := fun k => Cb (ciW k) (clsW k) TX14 8 tyX14) b_X14 ?_ ?_ (fun n => ?_) k
  · exact b_X15
  · exact b_X16
  · exact b_X17
section FM
variable {p : Program} {l : Launch} {e : Env} {R : Room} {s : State} {m : MethodId} {args : Array Value} {below : List Frame} {meth : Method} {c : Code} {H : Heap} {locs : List Loc} {cells slots : Nat} {Q : State → Prop}
variable {cc : ByteArray} {nL : Nat} {own nm : String} {ret : Option FieldType} {G : Gm} {A : Nat → Prop} {pc : Nat} {ls : Array Slot} {rest st0 : List Value}
theorem top_i {x : Int32} {a : Int} (h : x = iI a) (k : W p l e R s m args below meth c H locs cells slots Q (F0 m pc ls (.int (iI a) :: rest))) : W p l e R s m args below meth c H locs cells slots Q (F0 m pc ls (.int x :: rest)) := h ▸ k
theorem top_l {x : Int64} {a : Int} (h : x = lI a) (k : W p l e R s m args below meth c H locs cells slots Q (F0 m pc ls (.long (lI a) :: rest))) : W p l e R s m args below meth c H locs cells slots Q (F0 m pc ls (.long x :: rest)) := h ▸ k
theorem top_ci {a b : Int} (h : a = b) (k : W p l e R s m args below meth c H locs cells slots Q (F0 m pc ls (.int (iI b) :: rest))) : W p l e R s m args below meth c H locs cells slots Q (F0 m pc ls (.int (iI a) :: rest)) := h ▸ k
theorem top_cl {a b : Int} (h : a = b) (k : W p l e R s m args below meth c H locs cells slots Q (F0 m pc ls (.long (lI b) :: rest))) : W p l e R s m args below meth c H locs cells slots Q (F0 m pc ls (.long (lI a) :: rest)) := h ▸ k
theorem top_gi {a : Int} (k : ∀ y : Int, y = a → W p l e R s m args below meth c H locs cells slots Q (F0 m pc ls (.int (iI y) :: rest))) : W p l e R s m args below meth c H locs cells slots Q (F0 m pc ls (.int (iI a) :: rest)) := k a rfl
theorem top_gl {a : Int} (k : ∀ y : Int, y = a → W p l e R s m args below meth c H locs cells slots Q (F0 m pc ls (.long (lI y) :: rest))) : W p l e R s m args below meth c H locs cells slots Q (F0 m pc ls (.long (lI a) :: rest)) := k a rfl
theorem jn_e {j kf nf : Nat} {st : List Value} {a : Int} {ls1 : Array Slot} {ws : va_W} (k : ∀ (H : Heap) (locs : List Loc), va_P G.1 clG ws H → va_D A ws → va_S A s.heap H locs → W p l e R s m args below meth c H locs kf nf Q (F0 m j ls (.int (iI a) :: rest))) (b : (∀ (H : Heap) (locs : List Loc), va_P G.1 clG ws H → va_D A ws → va_S A s.heap H locs → W p l e R s m args below meth c H locs kf nf Q (F0 m j ls (.int (iI a) :: rest))) → W p l e R s m args below meth c H locs cells slots Q (F0 m pc ls1 st)) : W p l e R s m args below meth c H locs cells slots Q (F0 m pc ls1 st) := b k
theorem jn_el {j kf nf : Nat} {st : List Value} {a : Int} {ls1 : Array Slot} {ws : va_W} (k : ∀ (H : Heap) (locs : List Loc), va_P G.1 clG ws H → va_D A ws → va_S A s.heap H locs → W p l e R s m args below meth c H locs kf nf Q (F0 m j ls (.long (lI a) :: rest))) (b : (∀ (H : Heap) (locs : List Loc), va_P G.1 clG ws H → va_D A ws → va_S A s.heap H locs → W p l e R s m args below meth c H locs kf nf Q (F0 m j ls (.long (lI a) :: rest))) → W p l e R s m args below meth c H locs cells slots Q (F0 m pc ls1 st)) : W p l e R s m args below meth c H locs cells slots Q (F0 m pc ls1 st) := b k
theorem r_ior (F : Fx p s m meth c args cc nL own ret nm) {a b z : Int} (h : iI a ||| iI b = iI z) (hdg : decode cc pc = .ok (.ior, 1)) (k : W p l e R s m args below meth c H locs cells slots Q (F0 m (pc + 1) ls (.int (iI z) :: rest))) : W p l e R s m args below meth c H locs cells slots Q (F0 m pc ls (.int (iI b) :: .int (iI a) :: rest)) := lv_ior F.1 F.2.1 hdg (by rw [h]; exact k)
theorem r_tswIn (F : Fx p s m meth c args cc nL own ret nm) {dflt lo hi : Int} {offs : Array Int} {len : Nat} {a : Int} (k0 : Int) (ha : a = k0) (hk : -2147483648 ≤ k0 ∧ k0 < 2147483648) (h1 : lo ≤ k0) (h2 : k0 ≤ hi) {off : Int} {tgt : Nat} (ho : offs[(k0 - lo).toNat]? = some off) (hdg : decode cc pc = .ok (.tableswitch dflt lo hi offs, len)) (ht : (pc : Int) + off = (tgt : Int)) (k : W p l e R s m args below meth c H locs cells slots Q (F0 m tgt ls rest)) : W p l e R s m args below meth c H locs cells slots Q (F0 m pc ls (.int (iI a) :: rest)) := by
  subst ha
  exact lv_tableIn F.1 F.2.1 hdg (by rw [iI_toInt hk]; omega) (by rw [iI_toInt hk]; omega) (by rw [iI_toInt hk]; exact ho) ht k
theorem r_tswOut (F : Fx p s m meth c args cc nL own ret nm) {dflt lo hi : Int} {offs : Array Int} {len : Nat} {a : Int} {tgt : Nat} (h : a < lo ∨ hi < a) (ha : -2147483648 ≤ a ∧ a < 2147483648) (hdg : decode cc pc = .ok (.tableswitch dflt lo hi offs, len)) (ht : (pc : Int) + dflt = (tgt : Int)) (k : W p l e R s m args below meth c H locs cells slots Q (F0 m tgt ls rest)) : W p l e R s m args below meth c H locs cells slots Q (F0 m pc ls (.int (iI a) :: rest)) :=
  lv_tableOut F.1 F.2.1 hdg (by rw [iI_toInt ha]; exact h) ht k
theorem r_getW (F : Fx p s m meth c args cc nL own ret nm) {index a kd : Nat} {ref : String} {ws : va_W} (hE : Ev G A s) (hP : va_P G.1 clG ws H) (q0 : Nat) {fs : List Value} (he : ws[q0]? = some (a, .inr (ciW kd, fs))) (k : Nat) (hk : k < 8) (hlink : Cond.fieldLink own index ref (TX14 k).2.1 (TX14 k).2.2.1 ∈ lw_all) (hsame : ∀ x, s.fieldFound? (TX14 k).1 (TX14 k).2.1 (TX14 k).2.2.1 = some x → s.fieldFound? ref (TX14 k).2.1 (TX14 k).2.2.1 = some x) {v : Value} (hv : fs[k]? = some v) (hdg : decode cc pc = .ok (.getfield index, 3))
    (kk : W p l e R s m args below meth c H locs cells slots Q (F0 m (pc + 3) ls (v :: rest))) : W p l e R s m args below meth c H locs cells slots Q (F0 m pc ls (.ref a :: rest)) :=
  r_get F (b_W kd) hE hP q0 he k hk hlink hsame hv hdg kk
theorem r_putW (F : Fx p s m meth c args cc nL own ret nm) {index a kd : Nat} {ref : String} {ws : va_W} (hE : Ev G A s) (hP : va_P G.1 clG ws H) (hD : va_D A ws) (hS : va_S A s.heap H locs) (q0 : Nat) {fs : List Value} (he : ws[q0]? = some (a, .inr (ciW kd, fs))) (k : Nat) (hk : k < 8) (hfin : (TX14 k).2.2.2 = false) (hlink : Cond.fieldLink own index ref (TX14 k).2.1 (TX14 k).2.2.1 ∈ lw_all) (hsame : ∀ x, s.fieldFound? (TX14 k).1 (TX14 k).2.1 (TX14 k).2.2.1 = some x → s.fieldFound? ref (TX14 k).2.1 (TX14 k).2.2.1 = some x) {v : Value} (hn : narrow (tyX14 k) v = v) (hfit : fits (tyX14 k) v = true) (hl : k < fs.length) (hdg : decode cc pc = .ok (.putfield index, 3))
    (kk : ∀ (H : Heap) (locs : List Loc), va_P G.1 clG (ws.set q0 (a, .inr (ciW kd, fs.set k v))) H → va_D A (ws.set q0 (a, .inr (ciW kd, fs.set k v))) → va_S A s.heap H locs → W p l e R s m args below meth c H locs cells slots Q (F0 m (pc + 3) ls rest)) : W p l e R s m args below meth c H locs cells slots Q (F0 m pc ls (v :: .ref a :: rest)) :=
  r_put F (b_W kd) hE hP hD hS q0 he k hk hlink hsame hfin hn hfit hl hdg kk
theorem r_putWF (F : Fx p s m meth c args cc nL own ret "<init>") {index a kd : Nat} {ref : String} {ws : va_W} (hE : Ev G A s) (hP : va_P G.1 clG ws H) (hD : va_D A ws) (hS : va_S A s.heap H locs) (q0 : Nat) {fs : List Value} (he : ws[q0]? = some (a, .inr (ciW kd, fs))) (k : Nat) (hk : k < 8) (hfin : (TX14 k).2.2.2 = true) (hlink : Cond.fieldLink own index ref (TX14 k).2.1 (TX14 k).2.2.1 ∈ lw_all) (hsame : ∀ x, s.fieldFound? (TX14 k).1 (TX14 k).2.1 (TX14 k).2.2.1 = some x → s.fieldFound? ref (TX14 k).2.1 (TX14 k).2.2.1 = some x) (hdecl : (TX14 k).1 = own) {v : Value} (hn : narrow (tyX14 k) v = v) (hfit : fits (tyX14 k) v = true) (hl : k < fs.length) (hdg : decode cc pc = .ok (.putfield index, 3))
    (kk : ∀ (H : Heap) (locs : List Loc), va_P G.1 clG (ws.set q0 (a, .inr (ciW kd, fs.set k v))) H → va_D A (ws.set q0 (a, .inr (ciW kd, fs.set k v))) → va_S A s.heap H locs → W p l e R s m args below meth c H locs cells slots Q (F0 m (pc + 3) ls rest)) : W p l e R s m args below meth c H locs cells slots Q (F0 m pc ls (v :: .ref a :: rest)) :=
  r_putF F (b_W kd) hE hP hD hS q0 he k hk hlink hsame hfin hdecl hn hfit hl hdg kk
/-! calls of inherited methods, of a nest mate's -/
theorem lw_U {own : String} {idx : Nat} {C owner : String} {x y : MethodName} {b : ByteArray} {L : Nat} {r : Option FieldType} (h1 : Cond.methodLink own idx x ∈ lw_all) (h2 : Cond.sameMethod x.cls owner x.name x.desc ∈ lw_all) (h3 : Cond.selects C x y ∈ lw_all) (h4 : Cond.instanceMethod y ∈ lw_all) (h5 : Cond.initialized y.cls ∈ lw_all) (h6 : Cond.code y b L r ∈ lw_all) : GoodIn lw_all (va_wsU own idx C owner x y (ws_ y b L r)) := by
  refine lw_app ?_ (lw_meth h6)
  intro w hw
  simp only [List.mem_cons, List.not_mem_nil, or_false] at hw
  rcases hw with e | e | e | e | e
  · rw [e]; exact h1
  · rw [e]; exact h2
  · rw [e]; exact h3
  · rw [e]; exact h4
  · rw [e]; exact h5
theorem lw_O {own : String} {idx : Nat} {C owner : String} {x y : MethodName} {b : ByteArray} {L : Nat} {r : Option FieldType} (h1 : Cond.methodLink own idx x ∈ lw_all) (h2 : Cond.sameMethod x.cls owner x.name x.desc ∈ lw_all) (h0 : Cond.instanceMethod ⟨owner, x.name, x.desc⟩ ∈ lw_all) (h3 : Cond.selects C x y ∈ lw_all) (h4 : Cond.instanceMethod y ∈ lw_all) (h5 : Cond.initialized y.cls ∈ lw_all) (h6 : Cond.code y b L r ∈ lw_all) : GoodIn lw_all (va_wsO own idx C owner x y (ws_ y b L r)) := by
  refine lw_app ?_ (lw_meth h6)
  intro w hw
  simp only [List.mem_cons, List.not_mem_nil, or_false] at hw
  rcases hw with e | e | e | e | e | e
  · rw [e]; exact h1
  · rw [e]; exact h2
  · rw [e]; exact h0
  · rw [e]; exact h3
  · rw [e]; exact h4
  · rw [e]; exact h5
theorem cl_CU (F : Fx p s m meth c args cc nL own ret nm) {S : Type} {φ : S → Prop} {res : S → Option Value} {w1 : S → va_W} {X cx wr pl wc : va_W} {x y : MethodName} {bytes : ByteArray} {maxL n index b : Nat} {rt : Option FieldType} {rm : Room} {As : List Value} {C owner : String}
    (hM : Ct G l y (ws_ y bytes maxL rt) rm (.ref b :: As) wc φ res w1) (cw : va_CU R s args own C owner index x y bytes maxL rt (ws_ y bytes maxL rt) rm rm.cells rm.slots n)
    (recv : ∃ cell : Cell, H[b]? = some cell ∧ cell.vm.isStatics = false ∧ s.vm.findClass C = some cell.cls) (hE : Ev G A s) (hP : va_P G.1 clG (X ++ pl) H) (hD : va_D A (X ++ pl)) (hS : va_S A s.heap H locs) (hA : ∀ q : Nat, s.heap.size ≤ q → A q) (isC isR : List Nat) (hC : isC.map (fun i => X[i]?) = cx.map some) (hR : isR.map (fun i => X[i]?) = wr.map some) (hnC : va_nd isC = true) (hn : va_nd isR = true) (hdis : ∀ i ∈ isR, i ∉ isC) (hwc : wc = cx ++ pl)
    (hAs : As.length = n) (hst : st0 = As.reverse ++ .ref b :: rest) (hW : (rest.map fun v => v.category).sum ≤ 8) (hsz : ls.size = nL) (hdg : decode cc pc = .ok (.invokevirtual index, 3)) (hR1 : True ∧ True) (hf : cells + rm.cells ≤ R.cells ∧ slots + rm.slots ≤ R.slots)
    (kk : ∀ (u : S) (H : Heap) (locs : List Loc), φ u → va_P G.1 clG (wr ++ w1 u) H → va_D A (wr ++ w1 u) → va_S A s.heap H locs → W p l e R s m args below meth c H locs (cells + rm.cells) (slots + rm.slots) Q (F0 m (pc + 3) ls ((res u).toList ++ rest))) : W p l e R s m args below meth c H locs cells slots Q (F0 m pc ls st0) :=
  cl_run (va_runU F.cf (hM H.size) cw ⟨pg_blind, recv, pg_of hE hP hD hS hA hnC hC hwc⟩ rfl hAs hsz hst (lv_room hW) hdg hf) hP hD hS hA isC isR hC hR hn hdis hwc kk
theorem cl_SN (F : Fx p s m meth c args cc nL own ret nm) {S : Type} {φ : S → Prop} {res : S → Option Value} {w1 : S → va_W} {X cx wr pl wc : va_W} {y : MethodName} {bytes : ByteArray} {maxL n index : Nat} {rt : Option FieldType} {rm : Room} {As : List Value} {host : String}
    (hM : Ct G l y (ws_ y bytes maxL rt) rm As wc φ res w1) (hd : Hd y n) (q1 : Cond.methodLinkNest own index y host ∈ lw_tbl) (q2 : Cond.static y ∈ lw_all) (q4 : Cond.initialized y.cls ∈ lw_all) (q5 : Cond.code y bytes maxL rt ∈ lw_all)
    (hE : Ev G A s) (hP : va_P G.1 clG (X ++ pl) H) (hD : va_D A (X ++ pl)) (hS : va_S A s.heap H locs) (hA : ∀ q : Nat, s.heap.size ≤ q → A q) (isC isR : List Nat) (hC : isC.map (fun i => X[i]?) = cx.map some) (hR : isR.map (fun i => X[i]?) = wr.map some) (hnC : va_nd isC = true) (hn : va_nd isR = true) (hdis : ∀ i ∈ isR, i ∉ isC) (hwc : wc = cx ++ pl)
    (hAs : As.length = n) (hst : st0 = As.reverse ++ rest) (hW : (rest.map fun v => v.category).sum ≤ 8) (hsz : ls.size = nL) (hdg : decode cc pc = .ok (.invokestatic index, 3)) (hR1 : rm.frames + 1 ≤ R.frames ∧ 8 + (maxL + 11) + rm.locals ≤ R.locals) (hf : cells + rm.cells ≤ R.cells ∧ slots + rm.slots ≤ R.slots)
    (kk : ∀ (u : S) (H : Heap) (locs : List Loc), φ u → va_P G.1 clG (wr ++ w1 u) H → va_D A (wr ++ w1 u) → va_S A s.heap H locs → W p l e R s m args below meth c H locs (cells + rm.cells) (slots + rm.slots) Q (F0 m (pc + 3) ls ((res u).toList ++ rest))) : W p l e R s m args below meth c H locs cells slots Q (F0 m pc ls st0) :=
  cl_run (va_runSN F.cf (hM H.size) ⟨va_cnB n F.2.2.2.2.1 (lw_meth q5) rfl rfl rfl (hE.2.1.1 _ q1 rfl) (F.2.2.2.2.1 _ q4) hd hR1, F.2.2.2.2.1 _ q2, trivial⟩ ⟨pg_blind, pg_of hE hP hD hS hA hnC hC hwc⟩ rfl hAs hsz hst (lv_room hW) hdg hf) hP hD hS hA isC isR hC hR hn hdis hwc kk
theorem cl_IN (F : Fx p s m meth c args cc nL own ret nm) {S : Type} {φ : S → Prop} {res : S → Option Value} {w1 : S → va_W} {X cx wr pl wc : va_W} {y : MethodName} {bytes : ByteArray} {maxL n index b : Nat} {rm : Room} {As : List Value} {host : String}
    (hM : Ct G l y (ws_ y bytes maxL none) rm (.ref b :: As) wc φ res w1) (hd : Hd y n) (hyn : y.name = "<init>") (q1 : Cond.methodLinkNest own index y host ∈ lw_tbl) (q2 : Cond.instanceMethod y ∈ lw_all) (q4 : Cond.initialized y.cls ∈ lw_all) (q5 : Cond.code y bytes maxL none ∈ lw_all)
    (hE : Ev G A s) (hP : va_P G.1 clG (X ++ pl) H) (hD : va_D A (X ++ pl)) (hS : va_S A s.heap H locs) (hA : ∀ q : Nat, s.heap.size ≤ q → A q) (isC isR : List Nat) (hC : isC.map (fun i => X[i]?) = cx.map some) (hR : isR.map (fun i => X[i]?) = wr.map some) (hnC : va_nd isC = true) (hn : va_nd isR = true) (hdis : ∀ i ∈ isR, i ∉ isC) (hwc : wc = cx ++ pl)
    (hAs : As.length = n) (hst : st0 = As.reverse ++ .ref b :: rest) (hW : (rest.map fun v => v.category).sum ≤ 8) (hsz : ls.size = nL) (hdg : decode cc pc = .ok (.invokespecial index, 3)) (hR1 : rm.frames + 1 ≤ R.frames ∧ 8 + (maxL + 11) + rm.locals ≤ R.locals) (hf : cells + rm.cells ≤ R.cells ∧ slots + rm.slots ≤ R.slots)
    (kk : ∀ (u : S) (H : Heap) (locs : List Loc), φ u → va_P G.1 clG (wr ++ w1 u) H → va_D A (wr ++ w1 u) → va_S A s.heap H locs → W p l e R s m args below meth c H locs (cells + rm.cells) (slots + rm.slots) Q (F0 m (pc + 3) ls ((res u).toList ++ rest))) : W p l e R s m args below meth c H locs cells slots Q (F0 m pc ls st0) :=
  cl_run (va_runIN F.cf (hM H.size) ⟨va_cnB n F.2.2.2.2.1 (lw_meth q5) rfl rfl rfl (hE.2.1.1 _ q1 rfl) (F.2.2.2.2.1 _ q4) hd hR1, hyn, F.2.2.2.2.1 _ q2⟩ ⟨pg_blind, pg_of hE hP hD hS hA hnC hC hwc⟩ rfl hAs hsz hst (lv_room hW) hdg hf) hP hD hS hA isC isR hC hR hn hdis hwc kk
theorem cl_U (F : Fx p s m meth c args cc nL own ret nm) {S : Type} {φ : S → Prop} {res : S → Option Value} {w1 : S → va_W} {X cx wr pl wc : va_W} {y : MethodName} {bytes : ByteArray} {maxL n index b : Nat} {rt : Option FieldType} {rm : Room} {As : List Value} {C : String}
    (hM : Ct G l y (ws_ y bytes maxL rt) rm (.ref b :: As) wc φ res w1) (hd : Hd y n) (q1 : Cond.methodLink own index y ∈ lw_all) (qs : Cond.sameMethod y.cls y.cls y.name y.desc ∈ lw_all) (q2 : Cond.instanceMethod y ∈ lw_all) (q3 : Cond.selects C y y ∈ lw_all) (q4 : Cond.initialized y.cls ∈ lw_all) (q5 : Cond.code y bytes maxL rt ∈ lw_all)
    (recv : ∃ cell : Cell, H[b]? = some cell ∧ cell.vm.isStatics = false ∧ s.vm.findClass C = some cell.cls) (hE : Ev G A s) (hP : va_P G.1 clG (X ++ pl) H) (hD : va_D A (X ++ pl)) (hS : va_S A s.heap H locs) (hA : ∀ q : Nat, s.heap.size ≤ q → A q) (isC isR : List Nat) (hC : isC.map (fun i => X[i]?) = cx.map some) (hR : isR.map (fun i => X[i]?) = wr.map some) (hnC : va_nd isC = true) (hn : va_nd isR = true) (hdis : ∀ i ∈ isR, i ∉ isC) (hwc : wc = cx ++ pl)
    (hAs : As.length = n) (hst : st0 = As.reverse ++ .ref b :: rest) (hW : (rest.map fun v => v.category).sum ≤ 8) (hsz : ls.size = nL) (hdg : decode cc pc = .ok (.invokevirtual index, 3)) (hR1 : rm.frames + 1 ≤ R.frames ∧ 8 + (maxL + 11) + rm.locals ≤ R.locals) (hf : cells + rm.cells ≤ R.cells ∧ slots + rm.slots ≤ R.slots)
    (kk : ∀ (u : S) (H : Heap) (locs : List Loc), φ u → va_P G.1 clG (wr ++ w1 u) H → va_D A (wr ++ w1 u) → va_S A s.heap H locs → W p l e R s m args below meth c H locs (cells + rm.cells) (slots + rm.slots) Q (F0 m (pc + 3) ls ((res u).toList ++ rest))) : W p l e R s m args below meth c H locs cells slots Q (F0 m pc ls st0) :=
  cl_CU F hM (va_cwU (C := C) (owner := y.cls) (x := y) n F.2.2.2.2.1 (lw_U q1 qs q3 q2 q4 q5) rfl rfl rfl rfl hd hR1) recv hE hP hD hS hA isC isR hC hR hnC hn hdis hwc hAs hst hW hsz hdg ⟨trivial, trivial⟩ hf kk
/-! five longs copied whole -/
theorem r_copy (F : Fx p s m meth c args cc nL own ret nm) {index : Nat} (q1 : Cond.methodLink own index arraycopyName ∈ lw_all) (q2 : Cond.native arraycopyName ∈ lw_all) (q3 : Cond.static arraycopyName ∈ lw_all) (q4 : Cond.initialized "java/lang/System" ∈ lw_all) {ws : va_W} {a a0 n : Nat} {f g : Nat → Int} (hsz : ls.size = nL) (hE : Ev G A s) (hP : va_P G.1 clG ws H) (hD : va_D A ws) (hS : va_S A s.heap H locs) (i0 i1 : Nat) (h0 : ws[i0]? = some (a0, .inl (G.2.1 3, n, .inr (.inl (aL f))))) (h1 : ws[i1]? = some (a, .inl (G.2.1 3, n, .inr (.inl (aL g))))) (hn : n < 2147483648) (hfr : 1 ≤ R.frames) (hlo : (rest.map fun v => v.category).sum + (nativeFrameWords "java/lang/System" "arraycopy" 5 + 11) ≤ R.locals) (hdg : decode cc pc = .ok (.invokestatic index, 3))
    (kk : ∀ (H : Heap) (locs : List Loc), va_P G.1 clG (ws.set i1 (a, .inl (G.2.1 3, n, .inr (.inl (aL (fun k => if k < n then f k else g k)))))) H → va_D A (ws.set i1 (a, .inl (G.2.1 3, n, .inr (.inl (aL (fun k => if k < n then f k else g k)))))) → va_S A s.heap H locs → W p l e R s m args below meth c H locs cells slots Q (F0 m (pc + 3) ls rest)) : W p l e R s m args below meth c H locs cells slots Q (F0 m pc ls (.int (iI (n : Int)) :: .int (iI 0) :: .ref a :: .int (iI 0) :: .ref a0 :: rest)) := by
  have e0 : (iI 0).toNatClampNeg = 0 := by decide +kernel
  have e1 : (iI (n : Int)).toNatClampNeg = n := iI_clN rfl (by omega)
  have z0 : ¬ iI 0 < 0 := by decide +kernel
  have z1 : ¬ iI (n : Int) < 0 := by rw [iI_0, iI_lt (by omega) (by decide)]; omega
  refine va_copyl F.1 F.2.1 (by rw [F.2.2.1]; exact hsz.symm) F.2.2.2.1 (F.2.2.2.2.1 _ q1) (F.2.2.2.2.1 _ q2) (F.2.2.2.2.1 _ q3) (F.2.2.2.2.1 _ q4) hE.1 hP hD hS i0 i1 3 3 h0 h1 rfl rfl rfl z0 z0 z1 (by rw [e0, e1]; omega) (by rw [e0, e1]; omega) (fun i hi => rfl) hfr hlo hdg (fun H1 L1 k1 k2 k3 => ?_)
  have ec : va_cpy (aL f) (aL g) (iI 0).toNatClampNeg (iI 0).toNatClampNeg (iI (n : Int)).toNatClampNeg = aL (fun k => if k < n then f k else g k) := by
    rw [e0, e1]
    funext k
    show (if 0 ≤ k ∧ k < 0 + n then lI (f (0 + (k - 0))) else lI (g k)) = lI (if k < n then f k else g k)
    by_cases h : k < n
    · rw [if_pos ⟨Nat.zero_le _, by omega⟩, if_pos h, Nat.zero_add, Nat.sub_zero]
    · rw [if_neg (fun q => h (by omega)), if_neg h]
  rw [ec] at k1 k2
  exact kk H1 L1 k1 k2 k3
end FM
