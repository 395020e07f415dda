/-! Worlds as they are told: one picture for both sides; the component's objects -/
set_option maxRecDepth 100000
abbrev Wd : Type := Nat → Nat → Int
abbrev Wx : Type := Nat → Nat → Nat
def wDr (w : Wd) (h : Nat) : Int := w 0 h
def wDn (w : Wd) (h : Nat) : Int := w 1 h
def wSd (w : Wd) (h : Nat) : Int := w 2 h
def wWi (w : Wd) (h : Nat) : Int := w 3 h
def wCh (w : Wd) (h : Nat) : Int := w 4 h
def wInn (w : Wd) (p : Nat) : Int := w 5 p
def wTr (w : Wd) (p : Nat) : Int := w 6 p
def wFr (w : Wd) (r : Nat) : Int := w 7 r
def wTo (w : Wd) (r : Nat) : Int := w 8 r
def wRs (w : Wd) (r : Nat) : Int := w 9 r
def wLe (w : Wd) (r : Nat) : Int := w 10 r
def wAw (w : Wd) (r : Nat) : Int := w 11 r
def wKd (w : Wd) (k : Nat) : Nat := (w 12 k).toNat
def wBy (w : Wd) (k : Nat) : Int := w 13 k
def wBr (w : Wd) (k : Nat) : Int := w 14 k
def wDp (w : Wd) (k : Nat) : Int := w 15 k
def wHg (w : Wd) (k : Nat) : Int := w 16 k
def wSl (w : Wd) (k : Nat) : Int := w 17 k
def wFa (w : Wd) (k : Nat) : Int := w 18 k
def wWho (w : Wd) (s : Nat) : Int := w 19 s
def wSeen (w : Wd) (i : Nat) : Int := w 20 i
/-- what was seen, face by face -/
def sF (w : Wd) (s : Nat) : Nat → Int := fun f => if f < 5 then wSeen w (5 * s + f) else 0
theorem sF_at {w : Wd} {s f : Nat} (h : f < 5) : sF w s f = wSeen w (5 * s + f) := if_pos h
def wHour (w : Wd) : Int := w 21 0
def wnH (w : Wd) : Int := w 21 1
def wnP (w : Wd) : Int := w 21 2
def wnR (w : Wd) : Int := w 21 3
def wnW (w : Wd) : Int := w 21 4
def wnS (w : Wd) : Int := w 21 5
/-- the tree of a place as the component keeps it -/
def wIsT (w : Wd) (p : Nat) : Int := if wTr w p = -2 then 0 else 1
def wDrip (w : Wd) (p : Nat) : Int := if wTr w p = -2 then 0 else wTr w p
/-- what a told world keeps to -/
def WdOk (w : Wd) : Prop := (5 ≤ wHour w ∧ wHour w ≤ 60) ∧ (0 ≤ wnH w ∧ wnH w ≤ 6) ∧ (0 ≤ wnP w ∧ wnP w ≤ 8) ∧ (0 ≤ wnR w ∧ wnR w ≤ 12) ∧ (0 ≤ wnW w ∧ wnW w ≤ 4) ∧ (0 ≤ wnS w ∧ wnS w ≤ 4) ∧
  (∀ h : Nat, (h : Int) < wnH w → RnOk (wDr w h) (wDn w h) (wWi w h) (wSd w h) (wCh w h)) ∧
  (∀ r : Nat, (r : Int) < wnR w → RdOk (wRs w r) (wLe w r) (wAw w r) ∧ (0 ≤ wFr w r ∧ wFr w r < wnP w) ∧ (0 ≤ wTo w r ∧ wTo w r < wnP w) ∧ wFr w r ≠ wTo w r) ∧
  (∀ k : Nat, (k : Int) < wnW w → WkOk (wKd w k) (wBy w k) (wBr w k) (wDp w k) (wHg w k) (wSl w k) (wFa w k) ∧ (0 ≤ w 12 k ∧ w 12 k ≤ 3) ∧ (w 12 k = 0 → wBy w k = 0) ∧ (w 12 k = 3 → 1 ≤ wBy w k)) ∧
  (∀ p : Nat, (p : Int) < wnP w → (wInn w p = 0 ∨ wInn w p = 1) ∧ (-2 ≤ wTr w p ∧ wTr w p ≤ 9 ∧ wTr w p ≠ -1) ∧ (wInn w p = 1 → wTr w p = -2)) ∧
  (∀ s : Nat, (s : Int) < wnS w → (0 ≤ wWho w s ∧ wWho w s < wnW w) ∧ ∀ f : Nat, f < 5 → 0 ≤ wSeen w (5 * s + f) ∧ wSeen w (5 * s + f) ≤ 999)
theorem WdOk.nums {w : Wd} (h : WdOk w) : (5 ≤ wHour w ∧ wHour w ≤ 60) ∧ (0 ≤ wnH w ∧ wnH w ≤ 6) ∧ (0 ≤ wnP w ∧ wnP w ≤ 8) ∧ (0 ≤ wnR w ∧ wnR w ≤ 12) ∧ (0 ≤ wnW w ∧ wnW w ≤ 4) ∧ (0 ≤ wnS w ∧ wnS w ≤ 4) := ⟨h.1, h.2.1, h.2.2.1, h.2.2.2.1, h.2.2.2.2.1, h.2.2.2.2.2.1⟩
theorem WdOk.rain {w : Wd} (h : WdOk w) (k : Nat) (hk : (k : Int) < wnH w) : RnOk (wDr w k) (wDn w k) (wWi w k) (wSd w k) (wCh w k) := h.2.2.2.2.2.2.1 k hk
theorem WdOk.road {w : Wd} (h : WdOk w) (k : Nat) (hk : (k : Int) < wnR w) : RdOk (wRs w k) (wLe w k) (wAw w k) ∧ (0 ≤ wFr w k ∧ wFr w k < wnP w) ∧ (0 ≤ wTo w k ∧ wTo w k < wnP w) ∧ wFr w k ≠ wTo w k := h.2.2.2.2.2.2.2.1 k hk
theorem WdOk.walker {w : Wd} (h : WdOk w) (k : Nat) (hk : (k : Int) < wnW w) : WkOk (wKd w k) (wBy w k) (wBr w k) (wDp w k) (wHg w k) (wSl w k) (wFa w k) ∧ (0 ≤ w 12 k ∧ w 12 k ≤ 3) ∧ (w 12 k = 0 → wBy w k = 0) ∧ (w 12 k = 3 → 1 ≤ wBy w k) := h.2.2.2.2.2.2.2.2.1 k hk
theorem WdOk.place {w : Wd} (h : WdOk w) (k : Nat) (hk : (k : Int) < wnP w) : (wInn w k = 0 ∨ wInn w k = 1) ∧ (-2 ≤ wTr w k ∧ wTr w k ≤ 9 ∧ wTr w k ≠ -1) ∧ (wInn w k = 1 → wTr w k = -2) := h.2.2.2.2.2.2.2.2.2.1 k hk
theorem WdOk.seen {w : Wd} (h : WdOk w) (k : Nat) (hk : (k : Int) < wnS w) : (0 ≤ wWho w k ∧ wWho w k < wnW w) ∧ ∀ f : Nat, f < 5 → 0 ≤ wSeen w (5 * k + f) ∧ wSeen w (5 * k + f) ≤ 999 := h.2.2.2.2.2.2.2.2.2.2 k hk
/-- the first n places hold the objects of these addresses -/
def oA (n : Int) (a : Nat → Nat) : Nat → Option Nat := fun k => if (k : Int) < n then some (a k) else none
theorem oA_at {n : Int} {a : Nat → Nat} {k : Nat} (h : (k : Int) < n) : va_rf (oA n a k) = .ref (a k) := by
  unfold oA
  rw [if_pos h]
  rfl
/-- a told world as objects in the tail -/
def WX (G : Gm) (w : Wd) (z : Wx) (wl : va_W) : Prop := WdOk w ∧
  (z 0 0, .inr (6, [.ref (z 1 0), .ref (z 1 1), .ref (z 1 2), .ref (z 1 3), .ref (z 1 4), .int (iI (wHour w)), .int (iI (wnH w)), .int (iI (wnP w)), .int (iI (wnR w)), .int (iI (wnW w)), .int (iI (wnS w))])) ∈ wl ∧
  (z 1 0, .inl (G.2.1 6, 6, .inr (.inr (.inr (.inr (oA (wnH w) (z 2))))))) ∈ wl ∧
  (z 1 1, .inl (G.2.1 7, 8, .inr (.inr (.inr (.inr (oA (wnP w) (z 3))))))) ∈ wl ∧
  (z 1 2, .inl (G.2.1 8, 12, .inr (.inr (.inr (.inr (oA (wnR w) (z 4))))))) ∈ wl ∧
  (z 1 3, .inl (G.2.1 9, 4, .inr (.inr (.inr (.inr (oA (wnW w) (z 5))))))) ∈ wl ∧
  (z 1 4, .inl (G.2.1 10, 4, .inr (.inr (.inr (.inr (oA (wnS w) (z 6))))))) ∈ wl ∧
  (∀ k : Nat, (k : Int) < wnH w → (z 2 k, .inr (7, [.int (iI (wDr w k)), .int (iI (wDn w k)), .int (iI (wWi w k)), .int (iI (wSd w k)), .int (iI (wCh w k))])) ∈ wl) ∧
  (∀ k : Nat, (k : Int) < wnP w → (z 3 k, .inr (8, [.ref (z 8 k), .int (iI (k : Int)), .int (iI (wInn w k)), .int (iI (wIsT w k)), .int (iI (wDrip w k))])) ∈ wl) ∧
  (∀ k : Nat, (k : Int) < wnR w → (z 4 k, .inr (9, [.int (iI (wFr w k)), .int (iI (wTo w k)), .int (iI (wRs w k)), .int (iI (wLe w k)), .int (iI (wAw w k))])) ∈ wl) ∧
  (∀ k : Nat, (k : Int) < wnW w → (z 5 k, .inr (ciW (wKd w k), [.int (iI (wBy w k)), .int (iI (wBr w k)), .int (iI (wDp w k)), .int (iI (wHg w k)), .int (iI (wSl w k)), .int (iI (wFa w k)), .ref (z 9 k), .int (iI (k : Int))])) ∈ wl) ∧
  (∀ k : Nat, (k : Int) < wnS w → (z 6 k, .inr (14, [.ref (z 7 k), .int (iI (wWho w k))])) ∈ wl) ∧
  (∀ k : Nat, (k : Int) < wnS w → (z 7 k, .inl (G.2.1 2, 5, .inl (aI (sF w k)))) ∈ wl)
theorem WX.ok {G : Gm} {w : Wd} {z : Wx} {wl : va_W} (h : WX G w z wl) : WdOk w := h.1
theorem WX.obj {G : Gm} {w : Wd} {z : Wx} {wl : va_W} (h : WX G w z wl) : (z 0 0, .inr (6, [.ref (z 1 0), .ref (z 1 1), .ref (z 1 2), .ref (z 1 3), .ref (z 1 4), .int (iI (wHour w)), .int (iI (wnH w)), .int (iI (wnP w)), .int (iI (wnR w)), .int (iI (wnW w)), .int (iI (wnS w))])) ∈ wl := h.2.1
theorem WX.hoursA {G : Gm} {w : Wd} {z : Wx} {wl : va_W} (h : WX G w z wl) : (z 1 0, .inl (G.2.1 6, 6, .inr (.inr (.inr (.inr (oA (wnH w) (z 2))))))) ∈ wl := h.2.2.1
theorem WX.placesA {G : Gm} {w : Wd} {z : Wx} {wl : va_W} (h : WX G w z wl) : (z 1 1, .inl (G.2.1 7, 8, .inr (.inr (.inr (.inr (oA (wnP w) (z 3))))))) ∈ wl := h.2.2.2.1
theorem WX.roadsA {G : Gm} {w : Wd} {z : Wx} {wl : va_W} (h : WX G w z wl) : (z 1 2, .inl (G.2.1 8, 12, .inr (.inr (.inr (.inr (oA (wnR w) (z 4))))))) ∈ wl := h.2.2.2.2.1
theorem WX.walkersA {G : Gm} {w : Wd} {z : Wx} {wl : va_W} (h : WX G w z wl) : (z 1 3, .inl (G.2.1 9, 4, .inr (.inr (.inr (.inr (oA (wnW w) (z 5))))))) ∈ wl := h.2.2.2.2.2.1
theorem WX.seenA {G : Gm} {w : Wd} {z : Wx} {wl : va_W} (h : WX G w z wl) : (z 1 4, .inl (G.2.1 10, 4, .inr (.inr (.inr (.inr (oA (wnS w) (z 6))))))) ∈ wl := h.2.2.2.2.2.2.1
theorem WX.rain {G : Gm} {w : Wd} {z : Wx} {wl : va_W} (h : WX G w z wl) : ∀ k : Nat, (k : Int) < wnH w → (z 2 k, .inr (7, [.int (iI (wDr w k)), .int (iI (wDn w k)), .int (iI (wWi w k)), .int (iI (wSd w k)), .int (iI (wCh w k))])) ∈ wl := h.2.2.2.2.2.2.2.1
theorem WX.place {G : Gm} {w : Wd} {z : Wx} {wl : va_W} (h : WX G w z wl) : ∀ k : Nat, (k : Int) < wnP w → (z 3 k, .inr (8, [.ref (z 8 k), .int (iI (k : Int)), .int (iI (wInn w k)), .int (iI (wIsT w k)), .int (iI (wDrip w k))])) ∈ wl := h.2.2.2.2.2.2.2.2.1
theorem WX.road {G : Gm} {w : Wd} {z : Wx} {wl : va_W} (h : WX G w z wl) : ∀ k : Nat, (k : Int) < wnR w → (z 4 k, .inr (9, [.int (iI (wFr w k)), .int (iI (wTo w k)), .int (iI (wRs w k)), .int (iI (wLe w k)), .int (iI (wAw w k))])) ∈ wl := h.2.2.2.2.2.2.2.2.2.1
theorem WX.walker {G : Gm} {w : Wd} {z : Wx} {wl : va_W} (h : WX G w z wl) : ∀ k : Nat, (k : Int) < wnW w → (z 5 k, .inr (ciW (wKd w k), [.int (iI (wBy w k)), .int (iI (wBr w k)), .int (iI (wDp w k)), .int (iI (wHg w k)), .int (iI (wSl w k)), .int (iI (wFa w k)), .ref (z 9 k), .int (iI (k : Int))])) ∈ wl := h.2.2.2.2.2.2.2.2.2.2.1
theorem WX.seen {G : Gm} {w : Wd} {z : Wx} {wl : va_W} (h : WX G w z wl) : ∀ k : Nat, (k : Int) < wnS w → (z 6 k, .inr (14, [.ref (z 7 k), .int (iI (wWho w k))])) ∈ wl := h.2.2.2.2.2.2.2.2.2.2.2.1
theorem WX.faces {G : Gm} {w : Wd} {z : Wx} {wl : va_W} (h : WX G w z wl) : ∀ k : Nat, (k : Int) < wnS w → (z 7 k, .inl (G.2.1 2, 5, .inl (aI (sF w k)))) ∈ wl := h.2.2.2.2.2.2.2.2.2.2.2.2
set_option maxHeartbeats 1000000 in
/-- World.hourOf -/
theorem ct_X8_hourOf {G : Gm} {l : Launch} (w : Wd) (z : Wx) (mi : Int) (wl : va_W) (h1 : 0 ≤ mi ∧ mi < 100000) (h2 : 5 ≤ wHour w ∧ wHour w ≤ 60) (h3 : 0 ≤ wnH w ∧ wnH w ≤ 6) (hm : (z 0 0, .inr (6, [.ref (z 1 0), .ref (z 1 1), .ref (z 1 2), .ref (z 1 3), .ref (z 1 4), .int (iI (wHour w)), .int (iI (wnH w)), .int (iI (wnP w)), .int (iI (wnR w)), .int (iI (wnW w)), .int (iI (wnS w))])) ∈ wl) : Ct G l yX8_hourOf (ws_ yX8_hourOf cX8_hourOf 2 (some .int)) ({ frames := 0, cells := 0, slots := 0, locals := 0 } : Room) [.ref (z 0 0), .int (iI mi)] ([] ++ wl) (fun _ : Unit => True) (fun _ : Unit => ((some (.int (iI (if mi / wHour w < wnH w then mi / wHour w else -1)))) : Option Value)) (fun _ : Unit => (([] ++ wl) : va_W)) := by
  refine Ct.of (by decide) rfl ?_
  intro pP eE sS mM below meth cC A ls Q F hE hA hP hD hS hl hQ
  have hl : lv_has ls 2 [(0, .ref (z 0 0)), (1, .int (iI mi))] := hl
  have d0 := Int.ediv_nonneg (show 0 ≤ mi by omega) (show 0 ≤ wHour w by omega)
  have d1 := Int.ediv_le_self (wHour w) (show 0 ≤ mi by omega)
  refine lv_iload_n F.1 F.2.1 dX8_hourOf_0 rfl (lv_at hl 1 rfl) ?_
  refine lv_aload_n F.1 F.2.1 dX8_hourOf_1 rfl (lv_at hl 0 rfl) ?_
  obtain ⟨k_1, hk_2⟩ := mem_at (X := []) hm
  refine r_get F (ci := 6) (v := .int (iI (wHour w))) b_X8 hE hP k_1 hk_2 5 (by decide) q460 (fun _ h9 => h9) rfl dX8_hourOf_2 ?_
  refine r_idiv F (by omega) (by omega) dX8_hourOf_5 ?_
  refine lv_aload_n F.1 F.2.1 dX8_hourOf_6 rfl (lv_at hl 0 rfl) ?_
  obtain ⟨k_3, hk_4⟩ := mem_at (X := []) hm
  refine r_get F (ci := 6) (v := .int (iI (wnH w))) b_X8 hE hP k_3 hk_4 6 (by decide) q464 (fun _ h9 => h9) rfl dX8_hourOf_7 ?_
  refine r_icmp_ge F (tgt := 22) (by omega) (by omega) dX8_hourOf_10 (by decide) (fun c_5 => ?_) (fun c_5 => ?_)
  · refine lv_iconst (v := iI (-1)) F.1 F.2.1 dX8_hourOf_22 rfl ?_
    exact rt_i F hQ hS (Nat.le_of_ble_eq_true rfl) (Nat.le_of_ble_eq_true rfl) () (congrArg (fun z => some (Value.int (iI z))) (show (if mi / wHour w < wnH w then mi / wHour w else -1) = (-1) from by first | rw [if_pos (by assumption)] | rw [if_neg (by omega)])) trivial hP hD dX8_hourOf_23
  · refine lv_iload_n F.1 F.2.1 dX8_hourOf_13 rfl (lv_at hl 1 rfl) ?_
    refine lv_aload_n F.1 F.2.1 dX8_hourOf_14 rfl (lv_at hl 0 rfl) ?_
    obtain ⟨k_6, hk_7⟩ := mem_at (X := []) hm
    refine r_get F (ci := 6) (v := .int (iI (wHour w))) b_X8 hE hP k_6 hk_7 5 (by decide) q460 (fun _ h9 => h9) rfl dX8_hourOf_15 ?_
    refine r_idiv F (by omega) (by omega) dX8_hourOf_18 ?_
    refine lv_goto (tgt := 23) F.1 F.2.1 dX8_hourOf_19 (by decide) ?_
    exact rt_i F hQ hS (Nat.le_of_ble_eq_true rfl) (Nat.le_of_ble_eq_true rfl) () (congrArg (fun z => some (Value.int (iI z))) (show (if mi / wHour w < wnH w then mi / wHour w else -1) = (mi / (wHour w)) from by first | rw [if_pos (by assumption)] | rw [if_neg (by omega)])) trivial hP hD dX8_hourOf_23
