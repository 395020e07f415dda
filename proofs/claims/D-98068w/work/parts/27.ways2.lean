/-! Ways: laid out, and stepped along -/
set_option maxRecDepth 100000
/-- the table's array when n rows are laid -/
def wyF (w : Wd) (kk : Nat) (t tl : Int) (g : Nat → Int) (n : Nat) : Nat → Int := fun i => if ((i / 401 : Nat) : Int) < wnP w ∧ tl - n < ((i % 401 : Nat) : Int) ∧ ((i % 401 : Nat) : Int) ≤ tl then wyL w kk t tl n ((i % 401 : Nat) : Int) ((i / 401 : Nat) : Int) else g i
/-- .. and the next row's first places are begun -/
def wyA (w : Wd) (kk : Nat) (t tl : Int) (g : Nat → Int) (n c : Nat) : Nat → Int := fun i => if ((i % 401 : Nat) : Int) = tl - n ∧ i / 401 < c then (if ((i / 401 : Nat) : Int) = t then tl - n else 1000000000000000000) else wyF w kk t tl g n i
/-- .. and found -/
def wyG (w : Wd) (kk : Nat) (t tl : Int) (g : Nat → Int) (n c : Nat) : Nat → Int := fun i => if ((i % 401 : Nat) : Int) = tl - n ∧ ((i / 401 : Nat) : Int) < wnP w then (if i / 401 < c then wyL w kk t tl (n + 1) (tl - n) ((i / 401 : Nat) : Int) else if ((i / 401 : Nat) : Int) = t then tl - n else 1000000000000000000) else wyF w kk t tl g n i
theorem wyF_0 {w : Wd} {kk : Nat} {t tl : Int} {g : Nat → Int} (i : Nat) : g i = wyF w kk t tl g 0 i := by
  unfold wyF
  rw [if_neg (by omega)]
theorem wyA_0 {w : Wd} {kk : Nat} {t tl : Int} {g : Nat → Int} {n : Nat} (i : Nat) : wyF w kk t tl g n i = wyA w kk t tl g n 0 i := by
  unfold wyA
  rw [if_neg (by omega)]
theorem wyA_up {w : Wd} {kk : Nat} {t tl : Int} {g : Nat → Int} {n c : Nat} (hn : 0 ≤ tl - n ∧ tl - n ≤ 400) (i : Nat) : up (wyA w kk t tl g n c) (401 * (c : Int) + (tl - (n : Int))).toNat (if (c : Int) = t then tl - (n : Int) else 1000000000000000000) i = wyA w kk t tl g n (c + 1) i := by
  by_cases e : i = (401 * (c : Int) + (tl - (n : Int))).toNat
  · have e1 : i / 401 = c := by omega
    have e2 : ((i % 401 : Nat) : Int) = tl - n := by omega
    rw [← e, up_s]
    unfold wyA
    rw [e1, if_pos (show ((i % 401 : Nat) : Int) = tl - n ∧ c < c + 1 from ⟨e2, by omega⟩)]
  · rw [up_n e]
    unfold wyA
    by_cases q : ((i % 401 : Nat) : Int) = tl - n ∧ i / 401 < c
    · rw [if_pos q, if_pos (show ((i % 401 : Nat) : Int) = tl - n ∧ i / 401 < c + 1 by omega)]
    · rw [if_neg q, if_neg (show ¬ (((i % 401 : Nat) : Int) = tl - n ∧ i / 401 < c + 1) by omega)]
theorem wyG_0 {w : Wd} {kk : Nat} {t tl : Int} {g : Nat → Int} {n c : Nat} (hc : (c : Int) = wnP w) (i : Nat) : wyA w kk t tl g n c i = wyG w kk t tl g n 0 i := by
  unfold wyA wyG
  by_cases q : ((i % 401 : Nat) : Int) = tl - n ∧ i / 401 < c
  · rw [if_pos q, if_pos (show ((i % 401 : Nat) : Int) = tl - n ∧ ((i / 401 : Nat) : Int) < wnP w by omega), if_neg (Nat.not_lt_zero _)]
  · rw [if_neg q, if_neg (show ¬ (((i % 401 : Nat) : Int) = tl - n ∧ ((i / 401 : Nat) : Int) < wnP w) by omega)]
theorem wyL_row {w : Wd} {kk : Nat} {t tl q : Int} {n : Nat} : wyL w kk t tl (n + 1) (tl - n) q = if q = t then tl - n else bestV w kk (wyL w kk t tl n) tl q (tl - n) := if_pos rfl
theorem wyG_up {w : Wd} {kk : Nat} {t tl : Int} {g : Nat → Int} {n c : Nat} (hn : 0 ≤ tl - n ∧ tl - n ≤ 400) (hc : (c : Int) < wnP w) (ht : ¬ (c : Int) = t) (i : Nat) : up (wyG w kk t tl g n c) (401 * (c : Int) + (tl - (n : Int))).toNat (bestV w kk (wyL w kk t tl n) tl (c : Int) (tl - (n : Int))) i = wyG w kk t tl g n (c + 1) i := by
  by_cases e : i = (401 * (c : Int) + (tl - (n : Int))).toNat
  · have e1 : i / 401 = c := by omega
    have e2 : ((i % 401 : Nat) : Int) = tl - n := by omega
    rw [← e, up_s]
    unfold wyG
    rw [e1, if_pos (show ((i % 401 : Nat) : Int) = tl - n ∧ (c : Int) < wnP w by omega), if_pos (Nat.lt_succ_self c), wyL_row, if_neg ht]
  · rw [up_n e]
    unfold wyG
    by_cases q : ((i % 401 : Nat) : Int) = tl - n ∧ ((i / 401 : Nat) : Int) < wnP w
    · rw [if_pos q, if_pos q]
      by_cases q2 : i / 401 < c
      · rw [if_pos q2, if_pos (show i / 401 < c + 1 by omega)]
      · rw [if_neg q2, if_neg (show ¬ i / 401 < c + 1 by omega)]
    · rw [if_neg q, if_neg q]
theorem wyG_t {w : Wd} {kk : Nat} {t tl : Int} {g : Nat → Int} {n c : Nat} (ht : (c : Int) = t) (i : Nat) : wyG w kk t tl g n c i = wyG w kk t tl g n (c + 1) i := by
  unfold wyG
  by_cases q : ((i % 401 : Nat) : Int) = tl - n ∧ ((i / 401 : Nat) : Int) < wnP w
  · rw [if_pos q, if_pos q]
    by_cases q2 : i / 401 < c
    · rw [if_pos q2, if_pos (show i / 401 < c + 1 by omega)]
    · rw [if_neg q2]
      by_cases q3 : i / 401 = c
      · rw [if_pos (show i / 401 < c + 1 by omega), wyL_row, q3, if_pos ht, if_pos ht]
      · rw [if_neg (show ¬ i / 401 < c + 1 by omega)]
  · rw [if_neg q, if_neg q]
theorem wyF_1 {w : Wd} {kk : Nat} {t tl : Int} {g : Nat → Int} {n c : Nat} (hc : (c : Int) = wnP w) (htl : tl ≤ 400) (i : Nat) : wyG w kk t tl g n c i = wyF w kk t tl g (n + 1) i := by
  unfold wyG
  by_cases q : ((i % 401 : Nat) : Int) = tl - n ∧ ((i / 401 : Nat) : Int) < wnP w
  · rw [if_pos q, if_pos (show i / 401 < c by omega)]
    unfold wyF
    rw [if_pos (by omega), q.1]
  · rw [if_neg q]
    unfold wyF
    by_cases q2 : ((i / 401 : Nat) : Int) < wnP w ∧ tl - n < ((i % 401 : Nat) : Int) ∧ ((i % 401 : Nat) : Int) ≤ tl
    · rw [if_pos q2, if_pos (by omega)]
      show _ = if _ = _ then _ else _
      rw [if_neg (by omega)]
    · rw [if_neg q2, if_neg (by omega)]
theorem wyF_ok {w : Wd} {kk : Nat} {t tl : Int} {g : Nat → Int} {n : Nat} (hn : (n : Int) ≤ tl + 1) (htl : tl ≤ 400) : WyOk w (wyL w kk t tl n) tl (tl - n) (wyF w kk t tl g n) := by
  intro q j q0 q1 j0 j1
  have e1 : (((401 * q + j).toNat / 401 : Nat) : Int) = q := by omega
  have e2 : (((401 * q + j).toNat % 401 : Nat) : Int) = j := by omega
  unfold wyF
  rw [e1, e2, if_pos ⟨q1, j0, j1⟩]
theorem wyG_ok {w : Wd} {kk : Nat} {t tl : Int} {g : Nat → Int} {n c : Nat} (hn : (n : Int) ≤ tl) (htl : tl ≤ 400) : WyOk w (wyL w kk t tl n) tl (tl - n) (wyG w kk t tl g n c) := by
  intro q j q0 q1 j0 j1
  have e2 : (((401 * q + j).toNat % 401 : Nat) : Int) = j := by omega
  rw [← wyF_ok (g := g) (kk := kk) (t := t) (w := w) (by omega) htl q j q0 q1 j0 j1]
  unfold wyG
  rw [e2, if_neg (by omega)]
theorem wyT_ok {w : Wd} {kk : Nat} {t tl : Int} {g : Nat → Int} (h : 0 ≤ tl ∧ tl ≤ 400) : WyOk w (wyT w kk t tl) tl (-1) (wyF w kk t tl g (tl + 1).toNat) := by
  intro q j q0 q1 j0 j1
  exact wyF_ok (by omega) h.2 q j q0 q1 (by omega) j1
/-- the first leg for which it holds: its code -/
def or1 (o : Option Int) (b : Bool) (c : Int) : Option Int := match o with
  | some x => some x
  | none => if b = true then some c else none
def fsV (P : Nat → Int → Int → Bool) (r : Nat) (y sl : Int) (o : Option Int) : Nat → Option Int
  | 0 => o
  | n + 1 => or1 (fsV P r y sl o n) (P r y (sl + n)) (100 * r + 10 * y + (sl + n))
def fsY (P : Nat → Int → Int → Bool) (r : Nat) (sl : Int) (N : Nat) (o : Option Int) : Nat → Option Int
  | 0 => o
  | n + 1 => fsV P r n sl (fsY P r sl N o n) N
def fsR (P : Nat → Int → Int → Bool) (sl : Int) (N : Nat) (o : Option Int) : Nat → Option Int
  | 0 => o
  | n + 1 => fsY P n sl N (fsR P sl N o n) 2
theorem fsV_s {P : Nat → Int → Int → Bool} {r : Nat} {y sl : Int} {o : Option Int} {x : Int} : ∀ m n : Nat, n ≤ m → fsV P r y sl o n = some x → fsV P r y sl o m = some x
  | 0, n, hn, q => by rw [show n = 0 by omega] at q; exact q
  | m + 1, n, hn, q => by
    rcases (show n = m + 1 ∨ n ≤ m by omega) with e | e
    · rw [← e]; exact q
    · have q1 := fsV_s m n e q
      show or1 (fsV P r y sl o m) _ _ = _
      rw [q1]
      rfl
theorem fsY_s {P : Nat → Int → Int → Bool} {r : Nat} {sl : Int} {N : Nat} {o : Option Int} {x : Int} : ∀ m n : Nat, n ≤ m → fsY P r sl N o n = some x → fsY P r sl N o m = some x
  | 0, n, hn, q => by rw [show n = 0 by omega] at q; exact q
  | m + 1, n, hn, q => by
    rcases (show n = m + 1 ∨ n ≤ m by omega) with e | e
    · rw [← e]; exact q
    · exact fsV_s N 0 (Nat.zero_le _) (fsY_s m n e q)
theorem fsR_s {P : Nat → Int → Int → Bool} {sl : Int} {N : Nat} {o : Option Int} {x : Int} : ∀ m n : Nat, n ≤ m → fsR P sl N o n = some x → fsR P sl N o m = some x
  | 0, n, hn, q => by rw [show n = 0 by omega] at q; exact q
  | m + 1, n, hn, q => by
    rcases (show n = m + 1 ∨ n ≤ m by omega) with e | e
    · rw [← e]; exact q
    · exact fsY_s 2 0 (Nat.zero_le _) (fsR_s m n e q)
/-- does a leg bring the least -/
def hitB (w : Wd) (kk : Nat) (T : Int → Int → Int) (tl p mi : Int) : Nat → Int → Int → Bool := fun r y v => decide (legV w kk T tl p mi r y v = T mi p)
def nextO (w : Wd) (kk : Nat) (T : Int → Int → Int) (tl p mi : Int) : Option Int := fsR (hitB w kk T tl p mi) (wSl w kk) (wN w kk) none (wnR w).toNat
/-- the next step's code -/
def nextM (w : Wd) (kk : Nat) (T : Int → Int → Int) (tl p mi : Int) : Int := match nextO w kk T tl p mi with
  | some c => c
  | none => -2
def nxP (w : Wd) (p c : Int) : Int := if c = -2 then p else goEnd w (c / 100).toNat (c / 10 % 10)
def nxT (w : Wd) (m c : Int) : Int := if c = -2 then m + 1 else m + goMin w (c / 100).toNat (c % 10)
/-- what a scan finds -/
theorem or1_some {o : Option Int} {b : Bool} {c x : Int} (h : or1 o b c = some x) : o = some x ∨ (o = none ∧ b = true ∧ c = x) := by
  cases o with
  | some z => exact Or.inl h
  | none =>
    by_cases q : b = true
    · have h2 : (if b = true then some c else none) = some x := h
      rw [if_pos q] at h2
      exact Or.inr ⟨rfl, q, Option.some.inj h2⟩
    · have h2 : (if b = true then some c else none) = some x := h
      rw [if_neg q] at h2
      cases h2
theorem or1_none {o : Option Int} {b : Bool} {c : Int} (h : or1 o b c = none) : o = none ∧ ¬ b = true := by
  cases o with
  | some z => cases h
  | none =>
    refine ⟨rfl, fun q => ?_⟩
    have h2 : (if b = true then some c else none) = none := h
    rw [if_pos q] at h2
    cases h2
theorem fsV_x {P : Nat → Int → Int → Bool} {r : Nat} {y sl : Int} {o : Option Int} {x : Int} : ∀ n : Nat, fsV P r y sl o n = some x → o = some x ∨ ∃ j : Nat, j < n ∧ P r y (sl + j) = true ∧ x = 100 * r + 10 * y + (sl + j)
  | 0, h => Or.inl h
  | n + 1, h => by
    rcases or1_some h with q | ⟨-, q2, q3⟩
    · rcases fsV_x n q with q | ⟨j, j1, j2, j3⟩
      · exact Or.inl q
      · exact Or.inr ⟨j, by omega, j2, j3⟩
    · exact Or.inr ⟨n, by omega, q2, q3.symm⟩
theorem fsY_x {P : Nat → Int → Int → Bool} {r : Nat} {sl : Int} {N : Nat} {o : Option Int} {x : Int} : ∀ n : Nat, fsY P r sl N o n = some x → o = some x ∨ ∃ y j : Nat, y < n ∧ j < N ∧ P r y (sl + j) = true ∧ x = 100 * r + 10 * y + (sl + j)
  | 0, h => Or.inl h
  | n + 1, h => by
    rcases fsV_x N h with q | ⟨j, j1, j2, j3⟩
    · rcases fsY_x n q with q | ⟨y, j, y1, j1, j2, j3⟩
      · exact Or.inl q
      · exact Or.inr ⟨y, j, by omega, j1, j2, j3⟩
    · exact Or.inr ⟨n, j, by omega, j1, j2, j3⟩
theorem fsR_x {P : Nat → Int → Int → Bool} {sl : Int} {N : Nat} {o : Option Int} {x : Int} : ∀ n : Nat, fsR P sl N o n = some x → o = some x ∨ ∃ r y j : Nat, r < n ∧ y < 2 ∧ j < N ∧ P r y (sl + j) = true ∧ x = 100 * r + 10 * y + (sl + j)
  | 0, h => Or.inl h
  | n + 1, h => by
    rcases fsY_x 2 h with q | ⟨y, j, y1, j1, j2, j3⟩
    · rcases fsR_x n q with q | ⟨r, y, j, r1, y1, j1, j2, j3⟩
      · exact Or.inl q
      · exact Or.inr ⟨r, y, j, by omega, y1, j1, j2, j3⟩
    · exact Or.inr ⟨n, y, j, by omega, y1, j1, j2, j3⟩
theorem fsV_n {P : Nat → Int → Int → Bool} {r : Nat} {y sl : Int} {o : Option Int} : ∀ n : Nat, fsV P r y sl o n = none → o = none ∧ ∀ j : Nat, j < n → ¬ P r y (sl + j) = true
  | 0, h => ⟨h, fun j hj => absurd hj (Nat.not_lt_zero _)⟩
  | n + 1, h => by
    obtain ⟨q1, q2⟩ := or1_none h
    obtain ⟨q3, q4⟩ := fsV_n n q1
    refine ⟨q3, fun j hj => ?_⟩
    rcases (show j < n ∨ j = n by omega) with e | rfl
    · exact q4 j e
    · exact q2
theorem fsY_n {P : Nat → Int → Int → Bool} {r : Nat} {sl : Int} {N : Nat} {o : Option Int} : ∀ n : Nat, fsY P r sl N o n = none → o = none ∧ ∀ y j : Nat, y < n → j < N → ¬ P r y (sl + j) = true
  | 0, h => ⟨h, fun y j hy => absurd hy (Nat.not_lt_zero _)⟩
  | n + 1, h => by
    obtain ⟨q1, q2⟩ := fsV_n N h
    obtain ⟨q3, q4⟩ := fsY_n n q1
    refine ⟨q3, fun y j hy hj => ?_⟩
    rcases (show y < n ∨ y = n by omega) with e | rfl
    · exact q4 y j e hj
    · exact q2 j hj
theorem fsR_n {P : Nat → Int → Int → Bool} {sl : Int} {N : Nat} {o : Option Int} : ∀ n : Nat, fsR P sl N o n = none → o = none ∧ ∀ r y j : Nat, r < n → y < 2 → j < N → ¬ P r y (sl + j) = true
  | 0, h => ⟨h, fun r y j hr => absurd hr (Nat.not_lt_zero _)⟩
  | n + 1, h => by
    obtain ⟨q1, q2⟩ := fsY_n 2 h
    obtain ⟨q3, q4⟩ := fsR_n n q1
    refine ⟨q3, fun r y j hr hy hj => ?_⟩
    rcases (show r < n ∨ r = n by omega) with e | rfl
    · exact q4 r y j e hy hj
    · exact q2 y j hy hj
/-- the least is one of those it was taken from -/
theorem lgV_x {w : Wd} {kk r : Nat} {T : Int → Int → Int} {tl p mi y c : Int} : ∀ n : Nat, lgV w kk T tl p mi r y c n = c ∨ ∃ j : Nat, j < n ∧ lgV w kk T tl p mi r y c n = legV w kk T tl p mi r y (wSl w kk + j)
  | 0 => Or.inl rfl
  | n + 1 => by
    have e : lgV w kk T tl p mi r y c (n + 1) = min (lgV w kk T tl p mi r y c n) (legV w kk T tl p mi r y (wSl w kk + n)) := rfl
    rcases (show min (lgV w kk T tl p mi r y c n) (legV w kk T tl p mi r y (wSl w kk + n)) = lgV w kk T tl p mi r y c n ∨ min (lgV w kk T tl p mi r y c n) (legV w kk T tl p mi r y (wSl w kk + n)) = legV w kk T tl p mi r y (wSl w kk + n) by omega) with q | q
    · rcases lgV_x (c := c) n with q2 | ⟨j, j1, j2⟩
      · exact Or.inl (by rw [e, q, q2])
      · exact Or.inr ⟨j, by omega, by rw [e, q, j2]⟩
    · exact Or.inr ⟨n, by omega, by rw [e, q]⟩
theorem lgY_x {w : Wd} {kk r : Nat} {T : Int → Int → Int} {tl p mi c : Int} : ∀ n : Nat, lgY w kk T tl p mi r c n = c ∨ ∃ y j : Nat, y < n ∧ j < wN w kk ∧ lgY w kk T tl p mi r c n = legV w kk T tl p mi r y (wSl w kk + j)
  | 0 => Or.inl rfl
  | n + 1 => by
    rcases lgV_x (w := w) (kk := kk) (r := r) (T := T) (tl := tl) (p := p) (mi := mi) (y := n) (c := lgY w kk T tl p mi r c n) (wN w kk) with q | ⟨j, j1, j2⟩
    · rcases lgY_x (c := c) n with q2 | ⟨y, j, y1, j1, j2⟩
      · exact Or.inl (q.trans q2)
      · exact Or.inr ⟨y, j, by omega, j1, q.trans j2⟩
    · exact Or.inr ⟨n, j, by omega, j1, j2⟩
theorem lgR_x {w : Wd} {kk : Nat} {T : Int → Int → Int} {tl p mi c : Int} : ∀ n : Nat, lgR w kk T tl p mi c n = c ∨ ∃ r y j : Nat, r < n ∧ y < 2 ∧ j < wN w kk ∧ lgR w kk T tl p mi c n = legV w kk T tl p mi r y (wSl w kk + j)
  | 0 => Or.inl rfl
  | n + 1 => by
    rcases lgY_x (w := w) (kk := kk) (r := n) (T := T) (tl := tl) (p := p) (mi := mi) (c := lgR w kk T tl p mi c n) 2 with q | ⟨y, j, y1, j1, j2⟩
    · rcases lgR_x (c := c) n with q2 | ⟨r, y, j, r1, y1, j1, j2⟩
      · exact Or.inl (q.trans q2)
      · exact Or.inr ⟨r, y, j, by omega, y1, j1, q.trans j2⟩
    · exact Or.inr ⟨n, y, j, by omega, y1, j1, j2⟩
/-- what the next step is -/
theorem nextM_ok {w : Wd} (hw : WdOk w) {kk : Nat} {t tl p mi : Int} (hk : (kk : Int) < wnW w) (hp : inP w p) (hm : 0 ≤ mi ∧ mi ≤ tl) (ht : ¬ p = t) : (∃ r y v : Int, inR w r ∧ inY y ∧ (wSl w kk ≤ v ∧ v ≤ wFa w kk) ∧ nextM w kk (wyT w kk t tl) tl p mi = 100 * r + 10 * y + v ∧ legV w kk (wyT w kk t tl) tl p mi r.toNat y v = wyT w kk t tl mi p) ∨ (nextM w kk (wyT w kk t tl) tl p mi = -2 ∧ waitV w kk (wyT w kk t tl) tl p mi = wyT w kk t tl mi p) := by
  have hN : (wN w kk : Int) = wFa w kk - wSl w kk + 1 ∨ (wN w kk : Int) = 0 := by
    show ((wFa w kk - wSl w kk + 1).toNat : Int) = _ ∨ ((wFa w kk - wSl w kk + 1).toNat : Int) = 0
    omega
  have hs := (hw.walker kk hk).1.speeds
  have hnm := hw.nums
  unfold nextM
  cases e : nextO w kk (wyT w kk t tl) tl p mi with
  | some c =>
    rcases fsR_x _ e with q | ⟨r, y, j, r1, y1, j1, j2, j3⟩
    · cases q
    · exact Or.inl ⟨r, y, wSl w kk + j, by omega, by omega, by omega, j3, of_decide_eq_true j2⟩
  | none =>
    refine Or.inr ⟨rfl, ?_⟩
    have h2 := (fsR_n _ e).2
    have h1 := wyT_eq hw (t := t) hk hp hm
    rw [if_neg ht] at h1
    rcases lgR_x (w := w) (kk := kk) (T := wyT w kk t tl) (tl := tl) (p := p) (mi := mi) (c := waitV w kk (wyT w kk t tl) tl p mi) (wnR w).toNat with q | ⟨r, y, j, r1, y1, j1, j2⟩
    · exact q.symm.trans h1.symm
    · exact absurd (decide_eq_true (j2.symm.trans h1.symm)) (h2 r y j r1 y1 j1)
theorem next_ok {w : Wd} (hw : WdOk w) {kk : Nat} {t tl p mi c : Int} (hk : (kk : Int) < wnW w) (hp : inP w p) (hm : 0 ≤ mi ∧ mi ≤ tl) (ht : ¬ p = t) (hT : ¬ wyT w kk t tl mi p = 1000000000000000000) (hc : nextM w kk (wyT w kk t tl) tl p mi = c) : inP w (nxP w p c) ∧ mi < nxT w mi c ∧ nxT w mi c ≤ tl ∧ ¬ wyT w kk t tl (nxT w mi c) (nxP w p c) = 1000000000000000000 := by
  have hs := (hw.walker kk hk).1.speeds
  have hnm := hw.nums
  rcases nextM_ok hw hk hp hm ht with ⟨r, y, v, hr, hy, hv, h1, h2⟩ | ⟨h1, h2⟩
  · rw [h1] at hc
    subst hc
    have e1 : (100 * r + 10 * y + v) / 100 = r := by omega
    have e2 : (100 * r + 10 * y + v) / 10 % 10 = y := by omega
    have e3 : (100 * r + 10 * y + v) % 10 = v := by omega
    have g1 := goMin_1 hw (r := r.toNat) (v := v) (by omega) (by omega)
    have g2 := goBeg_in hw (r := r.toNat) (y := y) (by omega)
    unfold nxP nxT
    rw [if_neg (by omega), if_neg (by omega), e1, e2, e3]
    unfold legV at h2
    by_cases q : goBeg w r.toNat y = p ∧ mi + goMin w r.toNat v ≤ tl ∧ ¬ wyT w kk t tl (mi + goMin w r.toNat v) (goEnd w r.toNat y) = 1000000000000000000
    · exact ⟨g2.2, by omega, q.2.1, q.2.2⟩
    · rw [if_neg q] at h2
      exact absurd h2.symm hT
  · rw [h1] at hc
    subst hc
    unfold nxP nxT
    rw [if_pos rfl, if_pos rfl]
    unfold waitV at h2
    by_cases q : wShel w p.toNat ∧ ¬ mi = tl ∧ ¬ wyT w kk t tl (mi + 1) p = 1000000000000000000
    · exact ⟨hp, by omega, by omega, q.2.2⟩
    · rw [if_neg q] at h2
      exact absurd h2.symm hT
def stepsM (w : Wd) (kk : Nat) (T : Int → Int → Int) (tl t : Int) : Nat → Int → Int → Nat
  | 0, _, _ => 0
  | f + 1, p, m => if p = t then 0 else stepsM w kk T tl t f (nxP w p (nextM w kk T tl p m)) (nxT w m (nextM w kk T tl p m)) + 1
def stepAt (w : Wd) (kk : Nat) (T : Int → Int → Int) (tl : Int) : Nat → Int → Int → Int
  | 0, p, m => nextM w kk T tl p m
  | i + 1, p, m => stepAt w kk T tl i (nxP w p (nextM w kk T tl p m)) (nxT w m (nextM w kk T tl p m))
theorem stepsM_t {w : Wd} {kk : Nat} {T : Int → Int → Int} {tl t p m : Int} {f : Nat} (h : p = t) : stepsM w kk T tl t f p m = 0 := by
  cases f with
  | zero => rfl
  | succ f => exact if_pos h
theorem stepsM_n {w : Wd} {kk : Nat} {T : Int → Int → Int} {tl t p m : Int} {f : Nat} (h : ¬ p = t) (hf : 1 ≤ f) : stepsM w kk T tl t f p m = stepsM w kk T tl t (f - 1) (nxP w p (nextM w kk T tl p m)) (nxT w m (nextM w kk T tl p m)) + 1 := by
  cases f with
  | zero => omega
  | succ f => exact if_neg h
theorem stepAt_n {w : Wd} {kk : Nat} {T : Int → Int → Int} {tl p m : Int} {i : Nat} (hi : 1 ≤ i) : stepAt w kk T tl i p m = stepAt w kk T tl (i - 1) (nxP w p (nextM w kk T tl p m)) (nxT w m (nextM w kk T tl p m)) := by
  cases i with
  | zero => omega
  | succ i => rfl
theorem stepsM_in {w : Wd} {kk : Nat} {T : Int → Int → Int} {tl t : Int} : ∀ (f : Nat) (p m : Int), stepsM w kk T tl t f p m ≤ f
  | 0, _, _ => Nat.le_refl _
  | f + 1, p, m => by
    show (if p = t then 0 else stepsM w kk T tl t f (nxP w p (nextM w kk T tl p m)) (nxT w m (nextM w kk T tl p m)) + 1) ≤ f + 1
    have := stepsM_in f (w := w) (kk := kk) (T := T) (tl := tl) (t := t) (nxP w p (nextM w kk T tl p m)) (nxT w m (nextM w kk T tl p m))
    split <;> omega
theorem hd_X5_best : Hd yX5_best 2 := ⟨by decide +kernel, by decide +kernel, by decide +kernel⟩
theorem hd_X5_layMeans : Hd yX5_layMeans 3 := ⟨by decide +kernel, by decide +kernel, by decide +kernel⟩
set_option maxHeartbeats 4000000 in
theorem ct_X5_lay {G : Gm} {l : Launch} (w : Wd) (z : Wx) (wy : Nat) (ya : Nat) (yb : Nat) (yl : Nat) (kk : Nat) (yw : Option Nat) (yk : Option Nat) (yt : Int) (yp : Int) (ym : Int) (tl : Int) (to : Int) (gl : Nat → Int) (gm : Nat → Int) (yf : Nat) (fw0 : Int) (ai0 : Int) (op0 : Int) (sp0 : Int) (rn0 : Option Nat) (g0 : Nat → Int) (wl : va_W) (hW : WX G w z wl) (hk : (kk : Int) < wnW w) (hto : inP w to) (htl : 0 ≤ tl ∧ tl ≤ 400) : Ct G l yX5_lay (ws_ yX5_lay cX5_lay 7 none) ({ frames := 5, cells := 0, slots := 0, locals := 116 } : Room) [.ref wy, .ref (z 0 0), .ref (z 5 kk), .int (iI to), .int (iI tl)] ([(wy, .inr (4, [.ref ya, .ref yb, .ref yl, va_rf yw, va_rf yk, .int (iI yt), .int (iI yp), .int (iI ym)])), (ya, .inl (G.2.1 3, 3208, .inr (.inl (aL gl)))), (yb, .inl (G.2.1 3, 1440, .inr (.inl (aL gm)))), (yl, .inr (3, [.ref yf, .int (iI fw0), va_rf rn0, .int (iI ai0), .long (lI op0), .int (iI sp0)])), (yf, .inl (G.2.1 3, 5, .inr (.inl (aL g0))))] ++ wl) (fun (u : Int × (Option Nat) × Int × Int × Int × (Nat → Int)) => match u with | (fw1, rn1, ai1, op1, sp1, g1) => True) (fun (u : Int × (Option Nat) × Int × Int × Int × (Nat → Int)) => match u with | (fw1, rn1, ai1, op1, sp1, g1) => (none : Option Value)) (fun (u : Int × (Option Nat) × Int × Int × Int × (Nat → Int)) => match u with | (fw1, rn1, ai1, op1, sp1, g1) => (([(wy, .inr (4, [.ref ya, .ref yb, .ref yl, .ref (z 0 0), .ref (z 5 kk), .int (iI tl), .int (iI yp), .int (iI ym)])), (ya, .inl (G.2.1 3, 3208, .inr (.inl (aL (wyF w kk to tl gl (tl + 1).toNat))))), (yb, .inl (G.2.1 3, 1440, .inr (.inl (aL (mnG w kk (wnR w).toNat 0 gm))))), (yl, .inr (3, [.ref yf, .int (iI fw1), va_rf rn1, .int (iI ai1), .long (lI op1), .int (iI sp1)])), (yf, .inl (G.2.1 3, 5, .inr (.inl (aL g1))))] ++ wl) : va_W)) := by
  refine Ct.of (by decide) rfl ?_
  intro pP eE sS mM below meth cC A ls Q F hE hA hP hD hS hl hQ
  have hl : lv_has ls 7 [(0, .ref wy), (1, .ref (z 0 0)), (2, .ref (z 5 kk)), (3, .int (iI to)), (4, .int (iI tl))] := hl
  have hok := hW.ok
  obtain ⟨wb0, wb1, wb2, wb3, wb4, wb5⟩ := hok.nums
  have hks := (hok.walker kk hk).1.speeds
  have hN : (wN w kk : Int) = wFa w kk - wSl w kk + 1 := (by show ((wFa w kk - wSl w kk + 1).toNat : Int) = _; omega)
  refine lv_aload_n F.1 F.2.1 dX5_lay_0 rfl (lv_at hl 0 rfl) ?_
  refine lv_aload_n F.1 F.2.1 dX5_lay_1 rfl (lv_at hl 1 rfl) ?_
  refine r_put F (ci := 4) (v := .ref (z 0 0)) b_X5 hE hP hD hS 0 rfl 3 (by decide) q301 (fun _ h9 => h9) rfl rfl rfl (Nat.le_of_ble_eq_true rfl) dX5_lay_2 (fun H locs hP hD hS => ?_)
  have hP : va_P G.1 clG ([(wy, .inr (4, [.ref ya, .ref yb, .ref yl, .ref (z 0 0), va_rf yk, .int (iI yt), .int (iI yp), .int (iI ym)])), (ya, .inl (G.2.1 3, 3208, .inr (.inl (aL gl)))), (yb, .inl (G.2.1 3, 1440, .inr (.inl (aL gm)))), (yl, .inr (3, [.ref yf, .int (iI fw0), va_rf rn0, .int (iI ai0), .long (lI op0), .int (iI sp0)])), (yf, .inl (G.2.1 3, 5, .inr (.inl (aL g0))))] ++ wl) _ := hP
  have hD : va_D A ([(wy, .inr (4, [.ref ya, .ref yb, .ref yl, .ref (z 0 0), va_rf yk, .int (iI yt), .int (iI yp), .int (iI ym)])), (ya, .inl (G.2.1 3, 3208, .inr (.inl (aL gl)))), (yb, .inl (G.2.1 3, 1440, .inr (.inl (aL gm)))), (yl, .inr (3, [.ref yf, .int (iI fw0), va_rf rn0, .int (iI ai0), .long (lI op0), .int (iI sp0)])), (yf, .inl (G.2.1 3, 5, .inr (.inl (aL g0))))] ++ wl) := hD
  refine lv_aload_n F.1 F.2.1 dX5_lay_5 rfl (lv_at hl 0 rfl) ?_
  refine lv_aload_n F.1 F.2.1 dX5_lay_6 rfl (lv_at hl 2 rfl) ?_
  refine r_put F (ci := 4) (v := .ref (z 5 kk)) b_X5 hE hP hD hS 0 rfl 4 (by decide) q302 (fun _ h9 => h9) rfl rfl rfl (Nat.le_of_ble_eq_true rfl) dX5_lay_7 (fun H locs hP hD hS => ?_)
  have hP : va_P G.1 clG ([(wy, .inr (4, [.ref ya, .ref yb, .ref yl, .ref (z 0 0), .ref (z 5 kk), .int (iI yt), .int (iI yp), .int (iI ym)])), (ya, .inl (G.2.1 3, 3208, .inr (.inl (aL gl)))), (yb, .inl (G.2.1 3, 1440, .inr (.inl (aL gm)))), (yl, .inr (3, [.ref yf, .int (iI fw0), va_rf rn0, .int (iI ai0), .long (lI op0), .int (iI sp0)])), (yf, .inl (G.2.1 3, 5, .inr (.inl (aL g0))))] ++ wl) _ := hP
  have hD : va_D A ([(wy, .inr (4, [.ref ya, .ref yb, .ref yl, .ref (z 0 0), .ref (z 5 kk), .int (iI yt), .int (iI yp), .int (iI ym)])), (ya, .inl (G.2.1 3, 3208, .inr (.inl (aL gl)))), (yb, .inl (G.2.1 3, 1440, .inr (.inl (aL gm)))), (yl, .inr (3, [.ref yf, .int (iI fw0), va_rf rn0, .int (iI ai0), .long (lI op0), .int (iI sp0)])), (yf, .inl (G.2.1 3, 5, .inr (.inl (aL g0))))] ++ wl) := hD
  refine lv_aload_n F.1 F.2.1 dX5_lay_10 rfl (lv_at hl 0 rfl) ?_
  refine lv_iload F.1 F.2.1 dX5_lay_11 (lv_at hl 4 rfl) ?_
  refine r_put F (ci := 4) (v := .int (iI tl)) b_X5 hE hP hD hS 0 rfl 5 (by decide) q303 (fun _ h9 => h9) rfl rfl rfl (Nat.le_of_ble_eq_true rfl) dX5_lay_13 (fun H locs hP hD hS => ?_)
  have hP : va_P G.1 clG ([(wy, .inr (4, [.ref ya, .ref yb, .ref yl, .ref (z 0 0), .ref (z 5 kk), .int (iI tl), .int (iI yp), .int (iI ym)])), (ya, .inl (G.2.1 3, 3208, .inr (.inl (aL gl)))), (yb, .inl (G.2.1 3, 1440, .inr (.inl (aL gm)))), (yl, .inr (3, [.ref yf, .int (iI fw0), va_rf rn0, .int (iI ai0), .long (lI op0), .int (iI sp0)])), (yf, .inl (G.2.1 3, 5, .inr (.inl (aL g0))))] ++ wl) _ := hP
  have hD : va_D A ([(wy, .inr (4, [.ref ya, .ref yb, .ref yl, .ref (z 0 0), .ref (z 5 kk), .int (iI tl), .int (iI yp), .int (iI ym)])), (ya, .inl (G.2.1 3, 3208, .inr (.inl (aL gl)))), (yb, .inl (G.2.1 3, 1440, .inr (.inl (aL gm)))), (yl, .inr (3, [.ref yf, .int (iI fw0), va_rf rn0, .int (iI ai0), .long (lI op0), .int (iI sp0)])), (yf, .inl (G.2.1 3, 5, .inr (.inl (aL g0))))] ++ wl) := hD
  refine lv_iconst (v := iI 0) F.1 F.2.1 dX5_lay_16 rfl ?_
  refine lv_istore (lv' := [(5, .int (iI 0)), (0, .ref wy), (1, .ref (z 0 0)), (2, .ref (z 5 kk)), (3, .int (iI to)), (4, .int (iI tl))]) F.1 F.2.1 dX5_lay_17 hl (Nat.le_of_ble_eq_true rfl) rfl (fun ls hl => ?_)
  obtain ⟨hP, hD⟩ := cvJ (g := gm) (g' := (mnG w kk 0 0 gm)) hP hD 2 rfl (fun k hk => by first | (with_reducible rfl) | ((try dsimp only); exact mnG_0 k))
  have hP : va_P G.1 clG ([(wy, .inr (4, [.ref ya, .ref yb, .ref yl, .ref (z 0 0), .ref (z 5 kk), .int (iI tl), .int (iI yp), .int (iI ym)])), (ya, .inl (G.2.1 3, 3208, .inr (.inl (aL gl)))), (yb, .inl (G.2.1 3, 1440, .inr (.inl (aL (mnG w kk 0 0 gm))))), (yl, .inr (3, [.ref yf, .int (iI fw0), va_rf rn0, .int (iI ai0), .long (lI op0), .int (iI sp0)])), (yf, .inl (G.2.1 3, 5, .inr (.inl (aL g0))))] ++ wl) _ := hP
  have hD : va_D A ([(wy, .inr (4, [.ref ya, .ref yb, .ref yl, .ref (z 0 0), .ref (z 5 kk), .int (iI tl), .int (iI yp), .int (iI ym)])), (ya, .inl (G.2.1 3, 3208, .inr (.inl (aL gl)))), (yb, .inl (G.2.1 3, 1440, .inr (.inl (aL (mnG w kk 0 0 gm))))), (yl, .inr (3, [.ref yf, .int (iI fw0), va_rf rn0, .int (iI ai0), .long (lI op0), .int (iI sp0)])), (yf, .inl (G.2.1 3, 5, .inr (.inl (aL g0))))] ++ wl) := hD
  have hl : lv_has ls 7 [(0, .ref wy), (1, .ref (z 0 0)), (2, .ref (z 5 kk)), (3, .int (iI to)), (4, .int (iI tl)), (5, .int (iI 0))] := lv_sub hl [1, 2, 3, 4, 5, 0] rfl
  have hl := lv_cv (fun zZ : Int => [(0, .ref wy), (1, .ref (z 0 0)), (2, .ref (z 5 kk)), (3, .int (iI to)), (4, .int (iI tl)), (5, .int (iI zZ))]) (show 0 = (0 : Int) from by first | rfl | omega | (simp; done) | (simp; omega)) hl
  have hl : lv_has ls 7 [(0, .ref wy), (1, .ref (z 0 0)), (2, .ref (z 5 kk)), (3, .int (iI to)), (4, .int (iI tl)), (5, .int (iI (0 : Int)))] := hl
  refine lp_s (σ := Nat × Int × (Option Nat) × Int × Int × Int × (Nat → Int)) (hd := 19) (st := []) (fun x => match x with | (r, fwL, rnL, aiL, opL, spL, gL) => 13 - r) (fun x H locs ls => match x with | (r, fwL, rnL, aiL, opL, spL, gL) => va_P G.1 clG ([(wy, .inr (4, [.ref ya, .ref yb, .ref yl, .ref (z 0 0), .ref (z 5 kk), .int (iI tl), .int (iI yp), .int (iI ym)])), (ya, .inl (G.2.1 3, 3208, .inr (.inl (aL gl)))), (yb, .inl (G.2.1 3, 1440, .inr (.inl (aL (mnG w kk r 0 gm))))), (yl, .inr (3, [.ref yf, .int (iI fwL), va_rf rnL, .int (iI aiL), .long (lI opL), .int (iI spL)])), (yf, .inl (G.2.1 3, 5, .inr (.inl (aL gL))))] ++ wl) H ∧ va_D A ([(wy, .inr (4, [.ref ya, .ref yb, .ref yl, .ref (z 0 0), .ref (z 5 kk), .int (iI tl), .int (iI yp), .int (iI ym)])), (ya, .inl (G.2.1 3, 3208, .inr (.inl (aL gl)))), (yb, .inl (G.2.1 3, 1440, .inr (.inl (aL (mnG w kk r 0 gm))))), (yl, .inr (3, [.ref yf, .int (iI fwL), va_rf rnL, .int (iI aiL), .long (lI opL), .int (iI spL)])), (yf, .inl (G.2.1 3, 5, .inr (.inl (aL gL))))] ++ wl) ∧ va_S A sS.heap H locs ∧ lv_has ls 7 [(0, .ref wy), (1, .ref (z 0 0)), (2, .ref (z 5 kk)), (3, .int (iI to)), (4, .int (iI tl)), (5, .int (iI (r : Int)))] ∧ ((r : Int) ≤ wnR w)) (fun x => match x with | (r, fwL, rnL, aiL, opL, spL, gL) => 0) (fun x => match x with | (r, fwL, rnL, aiL, opL, spL, gL) => 0) ?_ (0, fw0, rn0, ai0, op0, sp0, g0) _ _ _ ⟨hP, hD, hS, hl, (by omega)⟩
  rintro ⟨r, fwL, rnL, aiL, opL, spL, gL⟩ H locs ls ⟨hP, hD, hS, hl, hr⟩ ih_19
  refine lv_iload F.1 F.2.1 dX5_lay_19 (lv_at hl 5 rfl) ?_
  refine lv_aload_n F.1 F.2.1 dX5_lay_21 rfl (lv_at hl 1 rfl) ?_
  obtain ⟨k_1, hk_2⟩ := mem_at (X := [(wy, .inr (4, [.ref ya, .ref yb, .ref yl, .ref (z 0 0), .ref (z 5 kk), .int (iI tl), .int (iI yp), .int (iI ym)])), (ya, .inl (G.2.1 3, 3208, .inr (.inl (aL gl)))), (yb, .inl (G.2.1 3, 1440, .inr (.inl (aL (mnG w kk r 0 gm))))), (yl, .inr (3, [.ref yf, .int (iI fwL), va_rf rnL, .int (iI aiL), .long (lI opL), .int (iI spL)])), (yf, .inl (G.2.1 3, 5, .inr (.inl (aL gL))))]) hW.obj
  refine r_get F (ci := 6) (v := .int (iI (wnR w))) b_X8 hE hP k_1 hk_2 8 (by decide) q471 (fun _ h9 => h9) rfl dX5_lay_22 ?_
  refine r_icmp_ge F (tgt := 68) (by omega) (by omega) dX5_lay_25 (by decide) (fun c_3 => ?_) (fun c_3 => ?_)
  · obtain ⟨hP, hD⟩ := cvJ (g := (mnG w kk r 0 gm)) (g' := (mnG w kk (wnR w).toNat 0 gm)) hP hD 2 rfl (fun k hk => by first | (with_reducible rfl) | ((try dsimp only); rw [show (wnR w).toNat = r by omega]))
    have hP : va_P G.1 clG ([(wy, .inr (4, [.ref ya, .ref yb, .ref yl, .ref (z 0 0), .ref (z 5 kk), .int (iI tl), .int (iI yp), .int (iI ym)])), (ya, .inl (G.2.1 3, 3208, .inr (.inl (aL gl)))), (yb, .inl (G.2.1 3, 1440, .inr (.inl (aL (mnG w kk (wnR w).toNat 0 gm))))), (yl, .inr (3, [.ref yf, .int (iI fwL), va_rf rnL, .int (iI aiL), .long (lI opL), .int (iI spL)])), (yf, .inl (G.2.1 3, 5, .inr (.inl (aL gL))))] ++ wl) _ := hP
    have hD : va_D A ([(wy, .inr (4, [.ref ya, .ref yb, .ref yl, .ref (z 0 0), .ref (z 5 kk), .int (iI tl), .int (iI yp), .int (iI ym)])), (ya, .inl (G.2.1 3, 3208, .inr (.inl (aL gl)))), (yb, .inl (G.2.1 3, 1440, .inr (.inl (aL (mnG w kk (wnR w).toNat 0 gm))))), (yl, .inr (3, [.ref yf, .int (iI fwL), va_rf rnL, .int (iI aiL), .long (lI opL), .int (iI spL)])), (yf, .inl (G.2.1 3, 5, .inr (.inl (aL gL))))] ++ wl) := hD
    refine lv_iload F.1 F.2.1 dX5_lay_68 (lv_at hl 4 rfl) ?_
    refine lv_istore (lv' := [(5, .int (iI tl)), (0, .ref wy), (1, .ref (z 0 0)), (2, .ref (z 5 kk)), (3, .int (iI to)), (4, .int (iI tl))]) F.1 F.2.1 dX5_lay_70 hl (Nat.le_of_ble_eq_true rfl) rfl (fun ls hl => ?_)
    have hD : va_D A ([(wy, .inr (4, [.ref ya, .ref yb, .ref yl, .ref (z 0 0), .ref (z 5 kk), .int (iI tl), .int (iI yp), .int (iI ym)])), (yb, .inl (G.2.1 3, 1440, .inr (.inl (aL (mnG w kk (wnR w).toNat 0 gm))))), (yl, .inr (3, [.ref yf, .int (iI fwL), va_rf rnL, .int (iI aiL), .long (lI opL), .int (iI spL)])), (yf, .inl (G.2.1 3, 5, .inr (.inl (aL gL)))), (ya, .inl (G.2.1 3, 3208, .inr (.inl (aL gl))))] ++ wl) := hD.part (cx := [(wy, .inr (4, [.ref ya, .ref yb, .ref yl, .ref (z 0 0), .ref (z 5 kk), .int (iI tl), .int (iI yp), .int (iI ym)])), (yb, .inl (G.2.1 3, 1440, .inr (.inl (aL (mnG w kk (wnR w).toNat 0 gm))))), (yl, .inr (3, [.ref yf, .int (iI fwL), va_rf rnL, .int (iI aiL), .long (lI opL), .int (iI spL)])), (yf, .inl (G.2.1 3, 5, .inr (.inl (aL gL)))), (ya, .inl (G.2.1 3, 3208, .inr (.inl (aL gl))))]) [0, 2, 3, 4, 1] (by decide) rfl
    have hP : va_P G.1 clG ([(wy, .inr (4, [.ref ya, .ref yb, .ref yl, .ref (z 0 0), .ref (z 5 kk), .int (iI tl), .int (iI yp), .int (iI ym)])), (yb, .inl (G.2.1 3, 1440, .inr (.inl (aL (mnG w kk (wnR w).toNat 0 gm))))), (yl, .inr (3, [.ref yf, .int (iI fwL), va_rf rnL, .int (iI aiL), .long (lI opL), .int (iI spL)])), (yf, .inl (G.2.1 3, 5, .inr (.inl (aL gL)))), (ya, .inl (G.2.1 3, 3208, .inr (.inl (aL gl))))] ++ wl) _ := hP.part (cx := [(wy, .inr (4, [.ref ya, .ref yb, .ref yl, .ref (z 0 0), .ref (z 5 kk), .int (iI tl), .int (iI yp), .int (iI ym)])), (yb, .inl (G.2.1 3, 1440, .inr (.inl (aL (mnG w kk (wnR w).toNat 0 gm))))), (yl, .inr (3, [.ref yf, .int (iI fwL), va_rf rnL, .int (iI aiL), .long (lI opL), .int (iI spL)])), (yf, .inl (G.2.1 3, 5, .inr (.inl (aL gL)))), (ya, .inl (G.2.1 3, 3208, .inr (.inl (aL gl))))]) [0, 2, 3, 4, 1] rfl
    obtain ⟨hP, hD⟩ := cvJ (g := gl) (g' := (wyF w kk to tl gl 0)) hP hD 4 rfl (fun k hk => by first | (with_reducible rfl) | ((try dsimp only); exact wyF_0 k))
    have hP : va_P G.1 clG ([(wy, .inr (4, [.ref ya, .ref yb, .ref yl, .ref (z 0 0), .ref (z 5 kk), .int (iI tl), .int (iI yp), .int (iI ym)])), (yb, .inl (G.2.1 3, 1440, .inr (.inl (aL (mnG w kk (wnR w).toNat 0 gm))))), (yl, .inr (3, [.ref yf, .int (iI fwL), va_rf rnL, .int (iI aiL), .long (lI opL), .int (iI spL)])), (yf, .inl (G.2.1 3, 5, .inr (.inl (aL gL)))), (ya, .inl (G.2.1 3, 3208, .inr (.inl (aL (wyF w kk to tl gl 0)))))] ++ wl) _ := hP
    have hD : va_D A ([(wy, .inr (4, [.ref ya, .ref yb, .ref yl, .ref (z 0 0), .ref (z 5 kk), .int (iI tl), .int (iI yp), .int (iI ym)])), (yb, .inl (G.2.1 3, 1440, .inr (.inl (aL (mnG w kk (wnR w).toNat 0 gm))))), (yl, .inr (3, [.ref yf, .int (iI fwL), va_rf rnL, .int (iI aiL), .long (lI opL), .int (iI spL)])), (yf, .inl (G.2.1 3, 5, .inr (.inl (aL gL)))), (ya, .inl (G.2.1 3, 3208, .inr (.inl (aL (wyF w kk to tl gl 0)))))] ++ wl) := hD
    have hl : lv_has ls 7 [(0, .ref wy), (1, .ref (z 0 0)), (2, .ref (z 5 kk)), (3, .int (iI to)), (4, .int (iI tl)), (5, .int (iI tl))] := lv_sub hl [1, 2, 3, 4, 5, 0] rfl
    have hl := lv_cv (fun zZ : Int => [(0, .ref wy), (1, .ref (z 0 0)), (2, .ref (z 5 kk)), (3, .int (iI to)), (4, .int (iI tl)), (5, .int (iI zZ))]) (show tl = (tl - (0 : Int)) from by omega) hl
    have hl : lv_has ls 7 [(0, .ref wy), (1, .ref (z 0 0)), (2, .ref (z 5 kk)), (3, .int (iI to)), (4, .int (iI tl)), (5, .int (iI (tl - (0 : Int))))] := hl
    refine lp_s (σ := Nat) (hd := 72) (st := []) (fun (n : Nat) => 402 - n) (fun (n : Nat) H locs ls => va_P G.1 clG ([(wy, .inr (4, [.ref ya, .ref yb, .ref yl, .ref (z 0 0), .ref (z 5 kk), .int (iI tl), .int (iI yp), .int (iI ym)])), (yb, .inl (G.2.1 3, 1440, .inr (.inl (aL (mnG w kk (wnR w).toNat 0 gm))))), (yl, .inr (3, [.ref yf, .int (iI fwL), va_rf rnL, .int (iI aiL), .long (lI opL), .int (iI spL)])), (yf, .inl (G.2.1 3, 5, .inr (.inl (aL gL)))), (ya, .inl (G.2.1 3, 3208, .inr (.inl (aL (wyF w kk to tl gl n)))))] ++ wl) H ∧ va_D A ([(wy, .inr (4, [.ref ya, .ref yb, .ref yl, .ref (z 0 0), .ref (z 5 kk), .int (iI tl), .int (iI yp), .int (iI ym)])), (yb, .inl (G.2.1 3, 1440, .inr (.inl (aL (mnG w kk (wnR w).toNat 0 gm))))), (yl, .inr (3, [.ref yf, .int (iI fwL), va_rf rnL, .int (iI aiL), .long (lI opL), .int (iI spL)])), (yf, .inl (G.2.1 3, 5, .inr (.inl (aL gL)))), (ya, .inl (G.2.1 3, 3208, .inr (.inl (aL (wyF w kk to tl gl n)))))] ++ wl) ∧ va_S A sS.heap H locs ∧ lv_has ls 7 [(0, .ref wy), (1, .ref (z 0 0)), (2, .ref (z 5 kk)), (3, .int (iI to)), (4, .int (iI tl)), (5, .int (iI (tl - (n : Int))))] ∧ ((n : Int) ≤ tl + 1)) (fun (n : Nat) => 0) (fun (n : Nat) => 0) ?_ 0 _ _ _ ⟨hP, hD, hS, hl, (by omega)⟩
    rintro n H locs ls ⟨hP, hD, hS, hl, hn⟩ ih_72
    refine lv_iload F.1 F.2.1 dX5_lay_72 (lv_at hl 5 rfl) ?_
    refine r_if_lt F (tgt := 172) (by omega) dX5_lay_74 (by decide) (fun c_4 => ?_) (fun c_4 => ?_)
    · have hD : va_D A ([(wy, .inr (4, [.ref ya, .ref yb, .ref yl, .ref (z 0 0), .ref (z 5 kk), .int (iI tl), .int (iI yp), .int (iI ym)])), (ya, .inl (G.2.1 3, 3208, .inr (.inl (aL (wyF w kk to tl gl n))))), (yb, .inl (G.2.1 3, 1440, .inr (.inl (aL (mnG w kk (wnR w).toNat 0 gm))))), (yl, .inr (3, [.ref yf, .int (iI fwL), va_rf rnL, .int (iI aiL), .long (lI opL), .int (iI spL)])), (yf, .inl (G.2.1 3, 5, .inr (.inl (aL gL))))] ++ wl) := hD.part (cx := [(wy, .inr (4, [.ref ya, .ref yb, .ref yl, .ref (z 0 0), .ref (z 5 kk), .int (iI tl), .int (iI yp), .int (iI ym)])), (ya, .inl (G.2.1 3, 3208, .inr (.inl (aL (wyF w kk to tl gl n))))), (yb, .inl (G.2.1 3, 1440, .inr (.inl (aL (mnG w kk (wnR w).toNat 0 gm))))), (yl, .inr (3, [.ref yf, .int (iI fwL), va_rf rnL, .int (iI aiL), .long (lI opL), .int (iI spL)])), (yf, .inl (G.2.1 3, 5, .inr (.inl (aL gL))))]) [0, 4, 1, 2, 3] (by decide) rfl
      have hP : va_P G.1 clG ([(wy, .inr (4, [.ref ya, .ref yb, .ref yl, .ref (z 0 0), .ref (z 5 kk), .int (iI tl), .int (iI yp), .int (iI ym)])), (ya, .inl (G.2.1 3, 3208, .inr (.inl (aL (wyF w kk to tl gl n))))), (yb, .inl (G.2.1 3, 1440, .inr (.inl (aL (mnG w kk (wnR w).toNat 0 gm))))), (yl, .inr (3, [.ref yf, .int (iI fwL), va_rf rnL, .int (iI aiL), .long (lI opL), .int (iI spL)])), (yf, .inl (G.2.1 3, 5, .inr (.inl (aL gL))))] ++ wl) _ := hP.part (cx := [(wy, .inr (4, [.ref ya, .ref yb, .ref yl, .ref (z 0 0), .ref (z 5 kk), .int (iI tl), .int (iI yp), .int (iI ym)])), (ya, .inl (G.2.1 3, 3208, .inr (.inl (aL (wyF w kk to tl gl n))))), (yb, .inl (G.2.1 3, 1440, .inr (.inl (aL (mnG w kk (wnR w).toNat 0 gm))))), (yl, .inr (3, [.ref yf, .int (iI fwL), va_rf rnL, .int (iI aiL), .long (lI opL), .int (iI spL)])), (yf, .inl (G.2.1 3, 5, .inr (.inl (aL gL))))]) [0, 4, 1, 2, 3] rfl
      obtain ⟨hP, hD⟩ := cvJ (g := (wyF w kk to tl gl n)) (g' := (wyF w kk to tl gl (tl + 1).toNat)) hP hD 1 rfl (fun k hk => by first | (with_reducible rfl) | ((try dsimp only); rw [show (tl + 1).toNat = n by omega]))
      have hP : va_P G.1 clG ([(wy, .inr (4, [.ref ya, .ref yb, .ref yl, .ref (z 0 0), .ref (z 5 kk), .int (iI tl), .int (iI yp), .int (iI ym)])), (ya, .inl (G.2.1 3, 3208, .inr (.inl (aL (wyF w kk to tl gl (tl + 1).toNat))))), (yb, .inl (G.2.1 3, 1440, .inr (.inl (aL (mnG w kk (wnR w).toNat 0 gm))))), (yl, .inr (3, [.ref yf, .int (iI fwL), va_rf rnL, .int (iI aiL), .long (lI opL), .int (iI spL)])), (yf, .inl (G.2.1 3, 5, .inr (.inl (aL gL))))] ++ wl) _ := hP
      have hD : va_D A ([(wy, .inr (4, [.ref ya, .ref yb, .ref yl, .ref (z 0 0), .ref (z 5 kk), .int (iI tl), .int (iI yp), .int (iI ym)])), (ya, .inl (G.2.1 3, 3208, .inr (.inl (aL (wyF w kk to tl gl (tl + 1).toNat))))), (yb, .inl (G.2.1 3, 1440, .inr (.inl (aL (mnG w kk (wnR w).toNat 0 gm))))), (yl, .inr (3, [.ref yf, .int (iI fwL), va_rf rnL, .int (iI aiL), .long (lI opL), .int (iI spL)])), (yf, .inl (G.2.1 3, 5, .inr (.inl (aL gL))))] ++ wl) := hD
      exact rt_v F hQ hS (Nat.le_of_ble_eq_true rfl) (Nat.le_of_ble_eq_true rfl) (fwL, rnL, aiL, opL, spL, gL) rfl trivial hP hD dX5_lay_172
    · refine lv_iconst (v := iI 0) F.1 F.2.1 dX5_lay_77 rfl ?_
      refine lv_istore (lv' := [(6, .int (iI 0)), (0, .ref wy), (1, .ref (z 0 0)), (2, .ref (z 5 kk)), (3, .int (iI to)), (4, .int (iI tl)), (5, .int (iI (tl - (n : Int))))]) F.1 F.2.1 dX5_lay_78 hl (Nat.le_of_ble_eq_true rfl) rfl (fun ls hl => ?_)
      obtain ⟨hP, hD⟩ := cvJ (g := (wyF w kk to tl gl n)) (g' := (wyA w kk to tl gl n 0)) hP hD 4 rfl (fun k hk => by first | (with_reducible rfl) | ((try dsimp only); exact wyA_0 k))
      have hP : va_P G.1 clG ([(wy, .inr (4, [.ref ya, .ref yb, .ref yl, .ref (z 0 0), .ref (z 5 kk), .int (iI tl), .int (iI yp), .int (iI ym)])), (yb, .inl (G.2.1 3, 1440, .inr (.inl (aL (mnG w kk (wnR w).toNat 0 gm))))), (yl, .inr (3, [.ref yf, .int (iI fwL), va_rf rnL, .int (iI aiL), .long (lI opL), .int (iI spL)])), (yf, .inl (G.2.1 3, 5, .inr (.inl (aL gL)))), (ya, .inl (G.2.1 3, 3208, .inr (.inl (aL (wyA w kk to tl gl n 0)))))] ++ wl) _ := hP
      have hD : va_D A ([(wy, .inr (4, [.ref ya, .ref yb, .ref yl, .ref (z 0 0), .ref (z 5 kk), .int (iI tl), .int (iI yp), .int (iI ym)])), (yb, .inl (G.2.1 3, 1440, .inr (.inl (aL (mnG w kk (wnR w).toNat 0 gm))))), (yl, .inr (3, [.ref yf, .int (iI fwL), va_rf rnL, .int (iI aiL), .long (lI opL), .int (iI spL)])), (yf, .inl (G.2.1 3, 5, .inr (.inl (aL gL)))), (ya, .inl (G.2.1 3, 3208, .inr (.inl (aL (wyA w kk to tl gl n 0)))))] ++ wl) := hD
      have hl : lv_has ls 7 [(0, .ref wy), (1, .ref (z 0 0)), (2, .ref (z 5 kk)), (3, .int (iI to)), (4, .int (iI tl)), (5, .int (iI (tl - (n : Int)))), (6, .int (iI 0))] := lv_sub hl [1, 2, 3, 4, 5, 6, 0] rfl
      have hl := lv_cv (fun zZ : Int => [(0, .ref wy), (1, .ref (z 0 0)), (2, .ref (z 5 kk)), (3, .int (iI to)), (4, .int (iI tl)), (5, .int (iI (tl - (n : Int)))), (6, .int (iI zZ))]) (show 0 = (0 : Int) from by first | rfl | omega | (simp; done) | (simp; omega)) hl
      have hl : lv_has ls 7 [(0, .ref wy), (1, .ref (z 0 0)), (2, .ref (z 5 kk)), (3, .int (iI to)), (4, .int (iI tl)), (5, .int (iI (tl - (n : Int)))), (6, .int (iI (0 : Int)))] := hl
      refine lp_s (σ := Nat) (hd := 80) (st := []) (fun (c : Nat) => 9 - c) (fun (c : Nat) H locs ls => va_P G.1 clG ([(wy, .inr (4, [.ref ya, .ref yb, .ref yl, .ref (z 0 0), .ref (z 5 kk), .int (iI tl), .int (iI yp), .int (iI ym)])), (yb, .inl (G.2.1 3, 1440, .inr (.inl (aL (mnG w kk (wnR w).toNat 0 gm))))), (yl, .inr (3, [.ref yf, .int (iI fwL), va_rf rnL, .int (iI aiL), .long (lI opL), .int (iI spL)])), (yf, .inl (G.2.1 3, 5, .inr (.inl (aL gL)))), (ya, .inl (G.2.1 3, 3208, .inr (.inl (aL (wyA w kk to tl gl n c)))))] ++ wl) H ∧ va_D A ([(wy, .inr (4, [.ref ya, .ref yb, .ref yl, .ref (z 0 0), .ref (z 5 kk), .int (iI tl), .int (iI yp), .int (iI ym)])), (yb, .inl (G.2.1 3, 1440, .inr (.inl (aL (mnG w kk (wnR w).toNat 0 gm))))), (yl, .inr (3, [.ref yf, .int (iI fwL), va_rf rnL, .int (iI aiL), .long (lI opL), .int (iI spL)])), (yf, .inl (G.2.1 3, 5, .inr (.inl (aL gL)))), (ya, .inl (G.2.1 3, 3208, .inr (.inl (aL (wyA w kk to tl gl n c)))))] ++ wl) ∧ va_S A sS.heap H locs ∧ lv_has ls 7 [(0, .ref wy), (1, .ref (z 0 0)), (2, .ref (z 5 kk)), (3, .int (iI to)), (4, .int (iI tl)), (5, .int (iI (tl - (n : Int)))), (6, .int (iI (c : Int)))] ∧ ((c : Int) ≤ wnP w)) (fun (c : Nat) => 0) (fun (c : Nat) => 0) ?_ 0 _ _ _ ⟨hP, hD, hS, hl, (by omega)⟩
      rintro c H locs ls ⟨hP, hD, hS, hl, hc⟩ ih_80
      refine lv_iload F.1 F.2.1 dX5_lay_80 (lv_at hl 6 rfl) ?_
      refine lv_aload_n F.1 F.2.1 dX5_lay_82 rfl (lv_at hl 1 rfl) ?_
      obtain ⟨k_5, hk_6⟩ := mem_at (X := [(wy, .inr (4, [.ref ya, .ref yb, .ref yl, .ref (z 0 0), .ref (z 5 kk), .int (iI tl), .int (iI yp), .int (iI ym)])), (yb, .inl (G.2.1 3, 1440, .inr (.inl (aL (mnG w kk (wnR w).toNat 0 gm))))), (yl, .inr (3, [.ref yf, .int (iI fwL), va_rf rnL, .int (iI aiL), .long (lI opL), .int (iI spL)])), (yf, .inl (G.2.1 3, 5, .inr (.inl (aL gL)))), (ya, .inl (G.2.1 3, 3208, .inr (.inl (aL (wyA w kk to tl gl n c)))))]) hW.obj
      refine r_get F (ci := 6) (v := .int (iI (wnP w))) b_X8 hE hP k_5 hk_6 7 (by decide) q468 (fun _ h9 => h9) rfl dX5_lay_83 ?_
      refine r_icmp_ge F (tgt := 122) (by omega) (by omega) dX5_lay_86 (by decide) (fun c_7 => ?_) (fun c_7 => ?_)
      · refine lv_iconst (v := iI 0) F.1 F.2.1 dX5_lay_122 rfl ?_
        refine lv_istore (lv' := [(6, .int (iI 0)), (0, .ref wy), (1, .ref (z 0 0)), (2, .ref (z 5 kk)), (3, .int (iI to)), (4, .int (iI tl)), (5, .int (iI (tl - (n : Int))))]) F.1 F.2.1 dX5_lay_123 hl (Nat.le_of_ble_eq_true rfl) rfl (fun ls hl => ?_)
        obtain ⟨hP, hD⟩ := cvJ (g := (wyA w kk to tl gl n c)) (g' := (wyG w kk to tl gl n 0)) hP hD 4 rfl (fun k hk => by first | (with_reducible rfl) | ((try dsimp only); exact wyG_0 (by omega) k))
        have hP : va_P G.1 clG ([(wy, .inr (4, [.ref ya, .ref yb, .ref yl, .ref (z 0 0), .ref (z 5 kk), .int (iI tl), .int (iI yp), .int (iI ym)])), (yb, .inl (G.2.1 3, 1440, .inr (.inl (aL (mnG w kk (wnR w).toNat 0 gm))))), (yl, .inr (3, [.ref yf, .int (iI fwL), va_rf rnL, .int (iI aiL), .long (lI opL), .int (iI spL)])), (yf, .inl (G.2.1 3, 5, .inr (.inl (aL gL)))), (ya, .inl (G.2.1 3, 3208, .inr (.inl (aL (wyG w kk to tl gl n 0)))))] ++ wl) _ := hP
        have hD : va_D A ([(wy, .inr (4, [.ref ya, .ref yb, .ref yl, .ref (z 0 0), .ref (z 5 kk), .int (iI tl), .int (iI yp), .int (iI ym)])), (yb, .inl (G.2.1 3, 1440, .inr (.inl (aL (mnG w kk (wnR w).toNat 0 gm))))), (yl, .inr (3, [.ref yf, .int (iI fwL), va_rf rnL, .int (iI aiL), .long (lI opL), .int (iI spL)])), (yf, .inl (G.2.1 3, 5, .inr (.inl (aL gL)))), (ya, .inl (G.2.1 3, 3208, .inr (.inl (aL (wyG w kk to tl gl n 0)))))] ++ wl) := hD
        have hl : lv_has ls 7 [(0, .ref wy), (1, .ref (z 0 0)), (2, .ref (z 5 kk)), (3, .int (iI to)), (4, .int (iI tl)), (5, .int (iI (tl - (n : Int)))), (6, .int (iI 0))] := lv_sub hl [1, 2, 3, 4, 5, 6, 0] rfl
        have hl := lv_cv (fun zZ : Int => [(0, .ref wy), (1, .ref (z 0 0)), (2, .ref (z 5 kk)), (3, .int (iI to)), (4, .int (iI tl)), (5, .int (iI (tl - (n : Int)))), (6, .int (iI zZ))]) (show 0 = (0 : Int) from by first | rfl | omega | (simp; done) | (simp; omega)) hl
        have hl : lv_has ls 7 [(0, .ref wy), (1, .ref (z 0 0)), (2, .ref (z 5 kk)), (3, .int (iI to)), (4, .int (iI tl)), (5, .int (iI (tl - (n : Int)))), (6, .int (iI (0 : Int)))] := hl
        refine lp_s (σ := Nat) (hd := 125) (st := []) (fun (c : Nat) => 9 - c) (fun (c : Nat) H locs ls => va_P G.1 clG ([(wy, .inr (4, [.ref ya, .ref yb, .ref yl, .ref (z 0 0), .ref (z 5 kk), .int (iI tl), .int (iI yp), .int (iI ym)])), (yb, .inl (G.2.1 3, 1440, .inr (.inl (aL (mnG w kk (wnR w).toNat 0 gm))))), (yl, .inr (3, [.ref yf, .int (iI fwL), va_rf rnL, .int (iI aiL), .long (lI opL), .int (iI spL)])), (yf, .inl (G.2.1 3, 5, .inr (.inl (aL gL)))), (ya, .inl (G.2.1 3, 3208, .inr (.inl (aL (wyG w kk to tl gl n c)))))] ++ wl) H ∧ va_D A ([(wy, .inr (4, [.ref ya, .ref yb, .ref yl, .ref (z 0 0), .ref (z 5 kk), .int (iI tl), .int (iI yp), .int (iI ym)])), (yb, .inl (G.2.1 3, 1440, .inr (.inl (aL (mnG w kk (wnR w).toNat 0 gm))))), (yl, .inr (3, [.ref yf, .int (iI fwL), va_rf rnL, .int (iI aiL), .long (lI opL), .int (iI spL)])), (yf, .inl (G.2.1 3, 5, .inr (.inl (aL gL)))), (ya, .inl (G.2.1 3, 3208, .inr (.inl (aL (wyG w kk to tl gl n c)))))] ++ wl) ∧ va_S A sS.heap H locs ∧ lv_has ls 7 [(0, .ref wy), (1, .ref (z 0 0)), (2, .ref (z 5 kk)), (3, .int (iI to)), (4, .int (iI tl)), (5, .int (iI (tl - (n : Int)))), (6, .int (iI (c : Int)))] ∧ ((c : Int) ≤ wnP w)) (fun (c : Nat) => 0) (fun (c : Nat) => 0) ?_ 0 _ _ _ ⟨hP, hD, hS, hl, (by omega)⟩
        rintro c H locs ls ⟨hP, hD, hS, hl, hc⟩ ih_125
        refine lv_iload F.1 F.2.1 dX5_lay_125 (lv_at hl 6 rfl) ?_
        refine lv_aload_n F.1 F.2.1 dX5_lay_127 rfl (lv_at hl 1 rfl) ?_
        obtain ⟨k_8, hk_9⟩ := mem_at (X := [(wy, .inr (4, [.ref ya, .ref yb, .ref yl, .ref (z 0 0), .ref (z 5 kk), .int (iI tl), .int (iI yp), .int (iI ym)])), (yb, .inl (G.2.1 3, 1440, .inr (.inl (aL (mnG w kk (wnR w).toNat 0 gm))))), (yl, .inr (3, [.ref yf, .int (iI fwL), va_rf rnL, .int (iI aiL), .long (lI opL), .int (iI spL)])), (yf, .inl (G.2.1 3, 5, .inr (.inl (aL gL)))), (ya, .inl (G.2.1 3, 3208, .inr (.inl (aL (wyG w kk to tl gl n c)))))]) hW.obj
        refine r_get F (ci := 6) (v := .int (iI (wnP w))) b_X8 hE hP k_8 hk_9 7 (by decide) q468 (fun _ h9 => h9) rfl dX5_lay_128 ?_
        refine r_icmp_ge F (tgt := 166) (by omega) (by omega) dX5_lay_131 (by decide) (fun c_10 => ?_) (fun c_10 => ?_)
        · refine lv_iinc (v := iI ((tl - (n : Int)) + (-1))) (lv' := [(5, .int (iI ((tl - (n : Int)) + (-1)))), (0, .ref wy), (1, .ref (z 0 0)), (2, .ref (z 5 kk)), (3, .int (iI to)), (4, .int (iI tl)), (6, .int (iI (c : Int)))]) (k := 5) F.1 F.2.1 dX5_lay_166 hl rfl (iI_add _ _) (Nat.le_of_ble_eq_true rfl) rfl (fun ls hl => ?_)
          refine lv_goto (tgt := 72) F.1 F.2.1 dX5_lay_169 (by decide) ?_
          obtain ⟨hP, hD⟩ := cvJ (g := (wyG w kk to tl gl n c)) (g' := (wyF w kk to tl gl (n + 1))) hP hD 4 rfl (fun k hk => by first | (with_reducible rfl) | ((try dsimp only); exact wyF_1 (by omega) (by omega) k))
          have hP : va_P G.1 clG ([(wy, .inr (4, [.ref ya, .ref yb, .ref yl, .ref (z 0 0), .ref (z 5 kk), .int (iI tl), .int (iI yp), .int (iI ym)])), (yb, .inl (G.2.1 3, 1440, .inr (.inl (aL (mnG w kk (wnR w).toNat 0 gm))))), (yl, .inr (3, [.ref yf, .int (iI fwL), va_rf rnL, .int (iI aiL), .long (lI opL), .int (iI spL)])), (yf, .inl (G.2.1 3, 5, .inr (.inl (aL gL)))), (ya, .inl (G.2.1 3, 3208, .inr (.inl (aL (wyF w kk to tl gl (n + 1))))))] ++ wl) _ := hP
          have hD : va_D A ([(wy, .inr (4, [.ref ya, .ref yb, .ref yl, .ref (z 0 0), .ref (z 5 kk), .int (iI tl), .int (iI yp), .int (iI ym)])), (yb, .inl (G.2.1 3, 1440, .inr (.inl (aL (mnG w kk (wnR w).toNat 0 gm))))), (yl, .inr (3, [.ref yf, .int (iI fwL), va_rf rnL, .int (iI aiL), .long (lI opL), .int (iI spL)])), (yf, .inl (G.2.1 3, 5, .inr (.inl (aL gL)))), (ya, .inl (G.2.1 3, 3208, .inr (.inl (aL (wyF w kk to tl gl (n + 1))))))] ++ wl) := hD
          have hl : lv_has ls 7 [(0, .ref wy), (1, .ref (z 0 0)), (2, .ref (z 5 kk)), (3, .int (iI to)), (4, .int (iI tl)), (5, .int (iI ((tl - (n : Int)) + (-1))))] := lv_sub hl [1, 2, 3, 4, 5, 0] rfl
          have hl := lv_cv (fun zZ : Int => [(0, .ref wy), (1, .ref (z 0 0)), (2, .ref (z 5 kk)), (3, .int (iI to)), (4, .int (iI tl)), (5, .int (iI zZ))]) (show ((tl - (n : Int)) + (-1)) = (tl - ((n + 1) : Int)) from by omega) hl
          have hl : lv_has ls 7 [(0, .ref wy), (1, .ref (z 0 0)), (2, .ref (z 5 kk)), (3, .int (iI to)), (4, .int (iI tl)), (5, .int (iI (tl - ((n + 1) : Int))))] := hl
          exact ih_72 (n + 1) _ _ _ (by first | omega | (dsimp only; omega)) ⟨hP, hD, hS, hl, (by omega)⟩
        · refine lv_iload F.1 F.2.1 dX5_lay_134 (lv_at hl 6 rfl) ?_
          refine lv_iload_n F.1 F.2.1 dX5_lay_136 rfl (lv_at hl 3 rfl) ?_
          refine r_icmp_eq F (tgt := 160) (by omega) (by omega) dX5_lay_137 (by decide) (fun c_11 => ?_) (fun c_11 => ?_)
          · refine lv_iinc (v := iI ((c : Int) + 1)) (lv' := [(6, .int (iI ((c : Int) + 1))), (0, .ref wy), (1, .ref (z 0 0)), (2, .ref (z 5 kk)), (3, .int (iI to)), (4, .int (iI tl)), (5, .int (iI (tl - (n : Int))))]) (k := 6) F.1 F.2.1 dX5_lay_160 hl rfl (iI_add _ _) (Nat.le_of_ble_eq_true rfl) rfl (fun ls hl => ?_)
            refine lv_goto (tgt := 125) F.1 F.2.1 dX5_lay_163 (by decide) ?_
            obtain ⟨hP, hD⟩ := cvJ (g := (wyG w kk to tl gl n c)) (g' := (wyG w kk to tl gl n (c + 1))) hP hD 4 rfl (fun k hk => by first | (with_reducible rfl) | ((try dsimp only); first | exact wyG_t (by omega) k | exact wyG_up (by omega) (by omega) (by omega) k))
            have hP : va_P G.1 clG ([(wy, .inr (4, [.ref ya, .ref yb, .ref yl, .ref (z 0 0), .ref (z 5 kk), .int (iI tl), .int (iI yp), .int (iI ym)])), (yb, .inl (G.2.1 3, 1440, .inr (.inl (aL (mnG w kk (wnR w).toNat 0 gm))))), (yl, .inr (3, [.ref yf, .int (iI fwL), va_rf rnL, .int (iI aiL), .long (lI opL), .int (iI spL)])), (yf, .inl (G.2.1 3, 5, .inr (.inl (aL gL)))), (ya, .inl (G.2.1 3, 3208, .inr (.inl (aL (wyG w kk to tl gl n (c + 1))))))] ++ wl) _ := hP
            have hD : va_D A ([(wy, .inr (4, [.ref ya, .ref yb, .ref yl, .ref (z 0 0), .ref (z 5 kk), .int (iI tl), .int (iI yp), .int (iI ym)])), (yb, .inl (G.2.1 3, 1440, .inr (.inl (aL (mnG w kk (wnR w).toNat 0 gm))))), (yl, .inr (3, [.ref yf, .int (iI fwL), va_rf rnL, .int (iI aiL), .long (lI opL), .int (iI spL)])), (yf, .inl (G.2.1 3, 5, .inr (.inl (aL gL)))), (ya, .inl (G.2.1 3, 3208, .inr (.inl (aL (wyG w kk to tl gl n (c + 1))))))] ++ wl) := hD
            have hl : lv_has ls 7 [(0, .ref wy), (1, .ref (z 0 0)), (2, .ref (z 5 kk)), (3, .int (iI to)), (4, .int (iI tl)), (5, .int (iI (tl - (n : Int)))), (6, .int (iI ((c : Int) + 1)))] := lv_sub hl [1, 2, 3, 4, 5, 6, 0] rfl
            have hl := lv_cv (fun zZ : Int => [(0, .ref wy), (1, .ref (z 0 0)), (2, .ref (z 5 kk)), (3, .int (iI to)), (4, .int (iI tl)), (5, .int (iI (tl - (n : Int)))), (6, .int (iI zZ))]) (show ((c : Int) + 1) = ((c + 1) : Int) from by first | rfl | omega | (simp; done) | (simp; omega)) hl
            have hl : lv_has ls 7 [(0, .ref wy), (1, .ref (z 0 0)), (2, .ref (z 5 kk)), (3, .int (iI to)), (4, .int (iI tl)), (5, .int (iI (tl - (n : Int)))), (6, .int (iI ((c + 1) : Int)))] := hl
            exact ih_125 (c + 1) _ _ _ (by first | omega | (dsimp only; omega)) ⟨hP, hD, hS, hl, (by omega)⟩
          · refine lv_aload_n F.1 F.2.1 dX5_lay_140 rfl (lv_at hl 0 rfl) ?_
            refine r_get F (ci := 4) (v := .ref ya) b_X5 hE hP 0 rfl 0 (by decide) q298 (fun _ h9 => h9) rfl dX5_lay_141 ?_
            refine lv_iload F.1 F.2.1 dX5_lay_144 (lv_at hl 6 rfl) ?_
            refine lv_iload F.1 F.2.1 dX5_lay_146 (lv_at hl 5 rfl) ?_
            refine cl_S F (ct_X5_at (c : Int) (tl - (n : Int)) wl) hd_X5_at q1221 q1222 q119 q1223 hE hP hD hS hA (X := [(wy, .inr (4, [.ref ya, .ref yb, .ref yl, .ref (z 0 0), .ref (z 5 kk), .int (iI tl), .int (iI yp), .int (iI ym)])), (yb, .inl (G.2.1 3, 1440, .inr (.inl (aL (mnG w kk (wnR w).toNat 0 gm))))), (yl, .inr (3, [.ref yf, .int (iI fwL), va_rf rnL, .int (iI aiL), .long (lI opL), .int (iI spL)])), (yf, .inl (G.2.1 3, 5, .inr (.inl (aL gL)))), (ya, .inl (G.2.1 3, 3208, .inr (.inl (aL (wyG w kk to tl gl n c)))))]) (pl := wl) (cx := []) (wr := [(wy, .inr (4, [.ref ya, .ref yb, .ref yl, .ref (z 0 0), .ref (z 5 kk), .int (iI tl), .int (iI yp), .int (iI ym)])), (yb, .inl (G.2.1 3, 1440, .inr (.inl (aL (mnG w kk (wnR w).toNat 0 gm))))), (yl, .inr (3, [.ref yf, .int (iI fwL), va_rf rnL, .int (iI aiL), .long (lI opL), .int (iI spL)])), (yf, .inl (G.2.1 3, 5, .inr (.inl (aL gL)))), (ya, .inl (G.2.1 3, 3208, .inr (.inl (aL (wyG w kk to tl gl n c)))))]) [] [0, 1, 2, 3, 4] rfl rfl rfl rfl (by decide) rfl rfl rfl (Nat.le_of_ble_eq_true rfl) hl.1 dX5_lay_148 ⟨Nat.le_of_ble_eq_true rfl, Nat.le_of_ble_eq_true rfl⟩ ⟨Nat.le_of_ble_eq_true rfl, Nat.le_of_ble_eq_true rfl⟩ (fun _ H locs _ hP hD hS => ?_)
            have hP : va_P G.1 clG ([(wy, .inr (4, [.ref ya, .ref yb, .ref yl, .ref (z 0 0), .ref (z 5 kk), .int (iI tl), .int (iI yp), .int (iI ym)])), (yb, .inl (G.2.1 3, 1440, .inr (.inl (aL (mnG w kk (wnR w).toNat 0 gm))))), (yl, .inr (3, [.ref yf, .int (iI fwL), va_rf rnL, .int (iI aiL), .long (lI opL), .int (iI spL)])), (yf, .inl (G.2.1 3, 5, .inr (.inl (aL gL)))), (ya, .inl (G.2.1 3, 3208, .inr (.inl (aL (wyG w kk to tl gl n c)))))] ++ wl) _ := hP
            have hD : va_D A ([(wy, .inr (4, [.ref ya, .ref yb, .ref yl, .ref (z 0 0), .ref (z 5 kk), .int (iI tl), .int (iI yp), .int (iI ym)])), (yb, .inl (G.2.1 3, 1440, .inr (.inl (aL (mnG w kk (wnR w).toNat 0 gm))))), (yl, .inr (3, [.ref yf, .int (iI fwL), va_rf rnL, .int (iI aiL), .long (lI opL), .int (iI spL)])), (yf, .inl (G.2.1 3, 5, .inr (.inl (aL gL)))), (ya, .inl (G.2.1 3, 3208, .inr (.inl (aL (wyG w kk to tl gl n c)))))] ++ wl) := hD
            refine W.eq (g2 := F0 mM 151 ls [.int (iI (401 * (c : Int) + (tl - (n : Int)))), .ref ya]) rfl ?_
            refine lv_aload_n F.1 F.2.1 dX5_lay_151 rfl (lv_at hl 0 rfl) ?_
            refine lv_iload F.1 F.2.1 dX5_lay_152 (lv_at hl 6 rfl) ?_
            refine lv_iload F.1 F.2.1 dX5_lay_154 (lv_at hl 5 rfl) ?_
            refine cl_V F (C := "RainWalk$Ways") (ct_X5_best w z wy ya yb yl kk tl yp ym (wyG w kk to tl gl n c) (wyL w kk to tl n) (mnG w kk (wnR w).toNat 0 gm) (c : Int) (tl - (n : Int)) wl hW hk (wyG_ok (by omega) (by omega)) (wyL_B hok hk htl n (by omega)) (mnG_ok (by omega) (by omega)) (by omega) (by omega)) hd_X5_best rfl q1225 q1227 qs39 q119 q1228 (va_recv hE.1 hP (ci := 4) (q0 := 0) rfl rfl) hE hP hD hS hA (X := [(wy, .inr (4, [.ref ya, .ref yb, .ref yl, .ref (z 0 0), .ref (z 5 kk), .int (iI tl), .int (iI yp), .int (iI ym)])), (yb, .inl (G.2.1 3, 1440, .inr (.inl (aL (mnG w kk (wnR w).toNat 0 gm))))), (yl, .inr (3, [.ref yf, .int (iI fwL), va_rf rnL, .int (iI aiL), .long (lI opL), .int (iI spL)])), (yf, .inl (G.2.1 3, 5, .inr (.inl (aL gL)))), (ya, .inl (G.2.1 3, 3208, .inr (.inl (aL (wyG w kk to tl gl n c)))))]) (pl := wl) (cx := [(wy, .inr (4, [.ref ya, .ref yb, .ref yl, .ref (z 0 0), .ref (z 5 kk), .int (iI tl), .int (iI yp), .int (iI ym)])), (ya, .inl (G.2.1 3, 3208, .inr (.inl (aL (wyG w kk to tl gl n c))))), (yb, .inl (G.2.1 3, 1440, .inr (.inl (aL (mnG w kk (wnR w).toNat 0 gm)))))]) (wr := [(yl, .inr (3, [.ref yf, .int (iI fwL), va_rf rnL, .int (iI aiL), .long (lI opL), .int (iI spL)])), (yf, .inl (G.2.1 3, 5, .inr (.inl (aL gL))))]) [0, 4, 1] [2, 3] rfl rfl rfl rfl (by decide) rfl rfl rfl (Nat.le_of_ble_eq_true rfl) hl.1 dX5_lay_156 ⟨Nat.le_of_ble_eq_true rfl, Nat.le_of_ble_eq_true rfl⟩ ⟨Nat.le_of_ble_eq_true rfl, Nat.le_of_ble_eq_true rfl⟩ (fun _ H locs _ hP hD hS => ?_)
            have hP : va_P G.1 clG ([(yl, .inr (3, [.ref yf, .int (iI fwL), va_rf rnL, .int (iI aiL), .long (lI opL), .int (iI spL)])), (yf, .inl (G.2.1 3, 5, .inr (.inl (aL gL)))), (wy, .inr (4, [.ref ya, .ref yb, .ref yl, .ref (z 0 0), .ref (z 5 kk), .int (iI tl), .int (iI yp), .int (iI ym)])), (ya, .inl (G.2.1 3, 3208, .inr (.inl (aL (wyG w kk to tl gl n c))))), (yb, .inl (G.2.1 3, 1440, .inr (.inl (aL (mnG w kk (wnR w).toNat 0 gm)))))] ++ wl) _ := hP
            have hD : va_D A ([(yl, .inr (3, [.ref yf, .int (iI fwL), va_rf rnL, .int (iI aiL), .long (lI opL), .int (iI spL)])), (yf, .inl (G.2.1 3, 5, .inr (.inl (aL gL)))), (wy, .inr (4, [.ref ya, .ref yb, .ref yl, .ref (z 0 0), .ref (z 5 kk), .int (iI tl), .int (iI yp), .int (iI ym)])), (ya, .inl (G.2.1 3, 3208, .inr (.inl (aL (wyG w kk to tl gl n c))))), (yb, .inl (G.2.1 3, 1440, .inr (.inl (aL (mnG w kk (wnR w).toNat 0 gm)))))] ++ wl) := hD
            refine W.eq (g2 := F0 mM 159 ls [.long (lI (bestV w kk (wyL w kk to tl n) tl (c : Int) (tl - (n : Int)))), .int (iI (401 * (c : Int) + (tl - (n : Int)))), .ref ya]) rfl ?_
            refine r_last F (g := (wyG w kk to tl gl n c)) (x := (bestV w kk (wyL w kk to tl n) tl (c : Int) (tl - (n : Int)))) hE hP hD hS 3 rfl ((401 * (c : Int) + (tl - (n : Int))).toNat) (by omega) (by omega) (by decide) dX5_lay_159 (fun H locs hP hD hS => ?_)
            have hP : va_P G.1 clG ([(yl, .inr (3, [.ref yf, .int (iI fwL), va_rf rnL, .int (iI aiL), .long (lI opL), .int (iI spL)])), (yf, .inl (G.2.1 3, 5, .inr (.inl (aL gL)))), (wy, .inr (4, [.ref ya, .ref yb, .ref yl, .ref (z 0 0), .ref (z 5 kk), .int (iI tl), .int (iI yp), .int (iI ym)])), (ya, .inl (G.2.1 3, 3208, .inr (.inl (aL (up (wyG w kk to tl gl n c) ((401 * (c : Int) + (tl - (n : Int))).toNat) (bestV w kk (wyL w kk to tl n) tl (c : Int) (tl - (n : Int)))))))), (yb, .inl (G.2.1 3, 1440, .inr (.inl (aL (mnG w kk (wnR w).toNat 0 gm)))))] ++ wl) _ := hP
            have hD : va_D A ([(yl, .inr (3, [.ref yf, .int (iI fwL), va_rf rnL, .int (iI aiL), .long (lI opL), .int (iI spL)])), (yf, .inl (G.2.1 3, 5, .inr (.inl (aL gL)))), (wy, .inr (4, [.ref ya, .ref yb, .ref yl, .ref (z 0 0), .ref (z 5 kk), .int (iI tl), .int (iI yp), .int (iI ym)])), (ya, .inl (G.2.1 3, 3208, .inr (.inl (aL (up (wyG w kk to tl gl n c) ((401 * (c : Int) + (tl - (n : Int))).toNat) (bestV w kk (wyL w kk to tl n) tl (c : Int) (tl - (n : Int)))))))), (yb, .inl (G.2.1 3, 1440, .inr (.inl (aL (mnG w kk (wnR w).toNat 0 gm)))))] ++ wl) := hD
            refine lv_iinc (v := iI ((c : Int) + 1)) (lv' := [(6, .int (iI ((c : Int) + 1))), (0, .ref wy), (1, .ref (z 0 0)), (2, .ref (z 5 kk)), (3, .int (iI to)), (4, .int (iI tl)), (5, .int (iI (tl - (n : Int))))]) (k := 6) F.1 F.2.1 dX5_lay_160 hl rfl (iI_add _ _) (Nat.le_of_ble_eq_true rfl) rfl (fun ls hl => ?_)
            refine lv_goto (tgt := 125) F.1 F.2.1 dX5_lay_163 (by decide) ?_
            have hD : va_D A ([(wy, .inr (4, [.ref ya, .ref yb, .ref yl, .ref (z 0 0), .ref (z 5 kk), .int (iI tl), .int (iI yp), .int (iI ym)])), (yb, .inl (G.2.1 3, 1440, .inr (.inl (aL (mnG w kk (wnR w).toNat 0 gm))))), (yl, .inr (3, [.ref yf, .int (iI fwL), va_rf rnL, .int (iI aiL), .long (lI opL), .int (iI spL)])), (yf, .inl (G.2.1 3, 5, .inr (.inl (aL gL)))), (ya, .inl (G.2.1 3, 3208, .inr (.inl (aL (up (wyG w kk to tl gl n c) ((401 * (c : Int) + (tl - (n : Int))).toNat) (bestV w kk (wyL w kk to tl n) tl (c : Int) (tl - (n : Int))))))))] ++ wl) := hD.part (cx := [(wy, .inr (4, [.ref ya, .ref yb, .ref yl, .ref (z 0 0), .ref (z 5 kk), .int (iI tl), .int (iI yp), .int (iI ym)])), (yb, .inl (G.2.1 3, 1440, .inr (.inl (aL (mnG w kk (wnR w).toNat 0 gm))))), (yl, .inr (3, [.ref yf, .int (iI fwL), va_rf rnL, .int (iI aiL), .long (lI opL), .int (iI spL)])), (yf, .inl (G.2.1 3, 5, .inr (.inl (aL gL)))), (ya, .inl (G.2.1 3, 3208, .inr (.inl (aL (up (wyG w kk to tl gl n c) ((401 * (c : Int) + (tl - (n : Int))).toNat) (bestV w kk (wyL w kk to tl n) tl (c : Int) (tl - (n : Int))))))))]) [2, 4, 0, 1, 3] (by decide) rfl
            have hP : va_P G.1 clG ([(wy, .inr (4, [.ref ya, .ref yb, .ref yl, .ref (z 0 0), .ref (z 5 kk), .int (iI tl), .int (iI yp), .int (iI ym)])), (yb, .inl (G.2.1 3, 1440, .inr (.inl (aL (mnG w kk (wnR w).toNat 0 gm))))), (yl, .inr (3, [.ref yf, .int (iI fwL), va_rf rnL, .int (iI aiL), .long (lI opL), .int (iI spL)])), (yf, .inl (G.2.1 3, 5, .inr (.inl (aL gL)))), (ya, .inl (G.2.1 3, 3208, .inr (.inl (aL (up (wyG w kk to tl gl n c) ((401 * (c : Int) + (tl - (n : Int))).toNat) (bestV w kk (wyL w kk to tl n) tl (c : Int) (tl - (n : Int))))))))] ++ wl) _ := hP.part (cx := [(wy, .inr (4, [.ref ya, .ref yb, .ref yl, .ref (z 0 0), .ref (z 5 kk), .int (iI tl), .int (iI yp), .int (iI ym)])), (yb, .inl (G.2.1 3, 1440, .inr (.inl (aL (mnG w kk (wnR w).toNat 0 gm))))), (yl, .inr (3, [.ref yf, .int (iI fwL), va_rf rnL, .int (iI aiL), .long (lI opL), .int (iI spL)])), (yf, .inl (G.2.1 3, 5, .inr (.inl (aL gL)))), (ya, .inl (G.2.1 3, 3208, .inr (.inl (aL (up (wyG w kk to tl gl n c) ((401 * (c : Int) + (tl - (n : Int))).toNat) (bestV w kk (wyL w kk to tl n) tl (c : Int) (tl - (n : Int))))))))]) [2, 4, 0, 1, 3] rfl
            obtain ⟨hP, hD⟩ := cvJ (g := (up (wyG w kk to tl gl n c) ((401 * (c : Int) + (tl - (n : Int))).toNat) (bestV w kk (wyL w kk to tl n) tl (c : Int) (tl - (n : Int))))) (g' := (wyG w kk to tl gl n (c + 1))) hP hD 4 rfl (fun k hk => by first | (with_reducible rfl) | ((try dsimp only); first | exact wyG_t (by omega) k | exact wyG_up (by omega) (by omega) (by omega) k))
            have hP : va_P G.1 clG ([(wy, .inr (4, [.ref ya, .ref yb, .ref yl, .ref (z 0 0), .ref (z 5 kk), .int (iI tl), .int (iI yp), .int (iI ym)])), (yb, .inl (G.2.1 3, 1440, .inr (.inl (aL (mnG w kk (wnR w).toNat 0 gm))))), (yl, .inr (3, [.ref yf, .int (iI fwL), va_rf rnL, .int (iI aiL), .long (lI opL), .int (iI spL)])), (yf, .inl (G.2.1 3, 5, .inr (.inl (aL gL)))), (ya, .inl (G.2.1 3, 3208, .inr (.inl (aL (wyG w kk to tl gl n (c + 1))))))] ++ wl) _ := hP
            have hD : va_D A ([(wy, .inr (4, [.ref ya, .ref yb, .ref yl, .ref (z 0 0), .ref (z 5 kk), .int (iI tl), .int (iI yp), .int (iI ym)])), (yb, .inl (G.2.1 3, 1440, .inr (.inl (aL (mnG w kk (wnR w).toNat 0 gm))))), (yl, .inr (3, [.ref yf, .int (iI fwL), va_rf rnL, .int (iI aiL), .long (lI opL), .int (iI spL)])), (yf, .inl (G.2.1 3, 5, .inr (.inl (aL gL)))), (ya, .inl (G.2.1 3, 3208, .inr (.inl (aL (wyG w kk to tl gl n (c + 1))))))] ++ wl) := hD
            have hl : lv_has ls 7 [(0, .ref wy), (1, .ref (z 0 0)), (2, .ref (z 5 kk)), (3, .int (iI to)), (4, .int (iI tl)), (5, .int (iI (tl - (n : Int)))), (6, .int (iI ((c : Int) + 1)))] := lv_sub hl [1, 2, 3, 4, 5, 6, 0] rfl
            have hl := lv_cv (fun zZ : Int => [(0, .ref wy), (1, .ref (z 0 0)), (2, .ref (z 5 kk)), (3, .int (iI to)), (4, .int (iI tl)), (5, .int (iI (tl - (n : Int)))), (6, .int (iI zZ))]) (show ((c : Int) + 1) = ((c + 1) : Int) from by first | rfl | omega | (simp; done) | (simp; omega)) hl
            have hl : lv_has ls 7 [(0, .ref wy), (1, .ref (z 0 0)), (2, .ref (z 5 kk)), (3, .int (iI to)), (4, .int (iI tl)), (5, .int (iI (tl - (n : Int)))), (6, .int (iI ((c + 1) : Int)))] := hl
            exact ih_125 (c + 1) _ _ _ (by first | omega | (dsimp only; omega)) ⟨hP, hD, hS, hl, (by omega)⟩
      · refine lv_aload_n F.1 F.2.1 dX5_lay_89 rfl (lv_at hl 0 rfl) ?_
        refine r_get F (ci := 4) (v := .ref ya) b_X5 hE hP 0 rfl 0 (by decide) q298 (fun _ h9 => h9) rfl dX5_lay_90 ?_
        refine lv_iload F.1 F.2.1 dX5_lay_93 (lv_at hl 6 rfl) ?_
        refine lv_iload F.1 F.2.1 dX5_lay_95 (lv_at hl 5 rfl) ?_
        refine cl_S F (ct_X5_at (c : Int) (tl - (n : Int)) wl) hd_X5_at q1221 q1222 q119 q1223 hE hP hD hS hA (X := [(wy, .inr (4, [.ref ya, .ref yb, .ref yl, .ref (z 0 0), .ref (z 5 kk), .int (iI tl), .int (iI yp), .int (iI ym)])), (yb, .inl (G.2.1 3, 1440, .inr (.inl (aL (mnG w kk (wnR w).toNat 0 gm))))), (yl, .inr (3, [.ref yf, .int (iI fwL), va_rf rnL, .int (iI aiL), .long (lI opL), .int (iI spL)])), (yf, .inl (G.2.1 3, 5, .inr (.inl (aL gL)))), (ya, .inl (G.2.1 3, 3208, .inr (.inl (aL (wyA w kk to tl gl n c)))))]) (pl := wl) (cx := []) (wr := [(wy, .inr (4, [.ref ya, .ref yb, .ref yl, .ref (z 0 0), .ref (z 5 kk), .int (iI tl), .int (iI yp), .int (iI ym)])), (yb, .inl (G.2.1 3, 1440, .inr (.inl (aL (mnG w kk (wnR w).toNat 0 gm))))), (yl, .inr (3, [.ref yf, .int (iI fwL), va_rf rnL, .int (iI aiL), .long (lI opL), .int (iI spL)])), (yf, .inl (G.2.1 3, 5, .inr (.inl (aL gL)))), (ya, .inl (G.2.1 3, 3208, .inr (.inl (aL (wyA w kk to tl gl n c)))))]) [] [0, 1, 2, 3, 4] rfl rfl rfl rfl (by decide) rfl rfl rfl (Nat.le_of_ble_eq_true rfl) hl.1 dX5_lay_97 ⟨Nat.le_of_ble_eq_true rfl, Nat.le_of_ble_eq_true rfl⟩ ⟨Nat.le_of_ble_eq_true rfl, Nat.le_of_ble_eq_true rfl⟩ (fun _ H locs _ hP hD hS => ?_)
        have hP : va_P G.1 clG ([(wy, .inr (4, [.ref ya, .ref yb, .ref yl, .ref (z 0 0), .ref (z 5 kk), .int (iI tl), .int (iI yp), .int (iI ym)])), (yb, .inl (G.2.1 3, 1440, .inr (.inl (aL (mnG w kk (wnR w).toNat 0 gm))))), (yl, .inr (3, [.ref yf, .int (iI fwL), va_rf rnL, .int (iI aiL), .long (lI opL), .int (iI spL)])), (yf, .inl (G.2.1 3, 5, .inr (.inl (aL gL)))), (ya, .inl (G.2.1 3, 3208, .inr (.inl (aL (wyA w kk to tl gl n c)))))] ++ wl) _ := hP
        have hD : va_D A ([(wy, .inr (4, [.ref ya, .ref yb, .ref yl, .ref (z 0 0), .ref (z 5 kk), .int (iI tl), .int (iI yp), .int (iI ym)])), (yb, .inl (G.2.1 3, 1440, .inr (.inl (aL (mnG w kk (wnR w).toNat 0 gm))))), (yl, .inr (3, [.ref yf, .int (iI fwL), va_rf rnL, .int (iI aiL), .long (lI opL), .int (iI spL)])), (yf, .inl (G.2.1 3, 5, .inr (.inl (aL gL)))), (ya, .inl (G.2.1 3, 3208, .inr (.inl (aL (wyA w kk to tl gl n c)))))] ++ wl) := hD
        refine W.eq (g2 := F0 mM 100 ls [.int (iI (401 * (c : Int) + (tl - (n : Int)))), .ref ya]) rfl ?_
        refine lv_iload F.1 F.2.1 dX5_lay_100 (lv_at hl 6 rfl) ?_
        refine lv_iload_n F.1 F.2.1 dX5_lay_102 rfl (lv_at hl 3 rfl) ?_
        refine jn_el (j := 115) (ls := ls) (A := A) (G := G) (ws := ([(wy, .inr (4, [.ref ya, .ref yb, .ref yl, .ref (z 0 0), .ref (z 5 kk), .int (iI tl), .int (iI yp), .int (iI ym)])), (yb, .inl (G.2.1 3, 1440, .inr (.inl (aL (mnG w kk (wnR w).toNat 0 gm))))), (yl, .inr (3, [.ref yf, .int (iI fwL), va_rf rnL, .int (iI aiL), .long (lI opL), .int (iI spL)])), (yf, .inl (G.2.1 3, 5, .inr (.inl (aL gL)))), (ya, .inl (G.2.1 3, 3208, .inr (.inl (aL (wyA w kk to tl gl n c)))))] ++ wl)) (kf := 0) (nf := 0) (a := (if (c : Int) = to then tl - (n : Int) else 1000000000000000000)) (rest := [.int (iI (401 * (c : Int) + (tl - (n : Int)))), .ref ya]) (fun H locs hP hD hS => ?_) (fun hj_18 => ?_)
        · refine r_last F (g := (wyA w kk to tl gl n c)) (x := (if (c : Int) = to then tl - (n : Int) else 1000000000000000000)) hE hP hD hS 4 rfl ((401 * (c : Int) + (tl - (n : Int))).toNat) (by omega) (by omega) (by decide) dX5_lay_115 (fun H locs hP hD hS => ?_)
          have hP : va_P G.1 clG ([(wy, .inr (4, [.ref ya, .ref yb, .ref yl, .ref (z 0 0), .ref (z 5 kk), .int (iI tl), .int (iI yp), .int (iI ym)])), (yb, .inl (G.2.1 3, 1440, .inr (.inl (aL (mnG w kk (wnR w).toNat 0 gm))))), (yl, .inr (3, [.ref yf, .int (iI fwL), va_rf rnL, .int (iI aiL), .long (lI opL), .int (iI spL)])), (yf, .inl (G.2.1 3, 5, .inr (.inl (aL gL)))), (ya, .inl (G.2.1 3, 3208, .inr (.inl (aL (up (wyA w kk to tl gl n c) ((401 * (c : Int) + (tl - (n : Int))).toNat) (if (c : Int) = to then tl - (n : Int) else 1000000000000000000))))))] ++ wl) _ := hP
          have hD : va_D A ([(wy, .inr (4, [.ref ya, .ref yb, .ref yl, .ref (z 0 0), .ref (z 5 kk), .int (iI tl), .int (iI yp), .int (iI ym)])), (yb, .inl (G.2.1 3, 1440, .inr (.inl (aL (mnG w kk (wnR w).toNat 0 gm))))), (yl, .inr (3, [.ref yf, .int (iI fwL), va_rf rnL, .int (iI aiL), .long (lI opL), .int (iI spL)])), (yf, .inl (G.2.1 3, 5, .inr (.inl (aL gL)))), (ya, .inl (G.2.1 3, 3208, .inr (.inl (aL (up (wyA w kk to tl gl n c) ((401 * (c : Int) + (tl - (n : Int))).toNat) (if (c : Int) = to then tl - (n : Int) else 1000000000000000000))))))] ++ wl) := hD
          refine lv_iinc (v := iI ((c : Int) + 1)) (lv' := [(6, .int (iI ((c : Int) + 1))), (0, .ref wy), (1, .ref (z 0 0)), (2, .ref (z 5 kk)), (3, .int (iI to)), (4, .int (iI tl)), (5, .int (iI (tl - (n : Int))))]) (k := 6) F.1 F.2.1 dX5_lay_116 hl rfl (iI_add _ _) (Nat.le_of_ble_eq_true rfl) rfl (fun ls hl => ?_)
          refine lv_goto (tgt := 80) F.1 F.2.1 dX5_lay_119 (by decide) ?_
          obtain ⟨hP, hD⟩ := cvJ (g := (up (wyA w kk to tl gl n c) ((401 * (c : Int) + (tl - (n : Int))).toNat) (if (c : Int) = to then tl - (n : Int) else 1000000000000000000))) (g' := (wyA w kk to tl gl n (c + 1))) hP hD 4 rfl (fun k hk => by first | (with_reducible rfl) | ((try dsimp only); exact wyA_up (by omega) k))
          have hP : va_P G.1 clG ([(wy, .inr (4, [.ref ya, .ref yb, .ref yl, .ref (z 0 0), .ref (z 5 kk), .int (iI tl), .int (iI yp), .int (iI ym)])), (yb, .inl (G.2.1 3, 1440, .inr (.inl (aL (mnG w kk (wnR w).toNat 0 gm))))), (yl, .inr (3, [.ref yf, .int (iI fwL), va_rf rnL, .int (iI aiL), .long (lI opL), .int (iI spL)])), (yf, .inl (G.2.1 3, 5, .inr (.inl (aL gL)))), (ya, .inl (G.2.1 3, 3208, .inr (.inl (aL (wyA w kk to tl gl n (c + 1))))))] ++ wl) _ := hP
          have hD : va_D A ([(wy, .inr (4, [.ref ya, .ref yb, .ref yl, .ref (z 0 0), .ref (z 5 kk), .int (iI tl), .int (iI yp), .int (iI ym)])), (yb, .inl (G.2.1 3, 1440, .inr (.inl (aL (mnG w kk (wnR w).toNat 0 gm))))), (yl, .inr (3, [.ref yf, .int (iI fwL), va_rf rnL, .int (iI aiL), .long (lI opL), .int (iI spL)])), (yf, .inl (G.2.1 3, 5, .inr (.inl (aL gL)))), (ya, .inl (G.2.1 3, 3208, .inr (.inl (aL (wyA w kk to tl gl n (c + 1))))))] ++ wl) := hD
          have hl : lv_has ls 7 [(0, .ref wy), (1, .ref (z 0 0)), (2, .ref (z 5 kk)), (3, .int (iI to)), (4, .int (iI tl)), (5, .int (iI (tl - (n : Int)))), (6, .int (iI ((c : Int) + 1)))] := lv_sub hl [1, 2, 3, 4, 5, 6, 0] rfl
          have hl := lv_cv (fun zZ : Int => [(0, .ref wy), (1, .ref (z 0 0)), (2, .ref (z 5 kk)), (3, .int (iI to)), (4, .int (iI tl)), (5, .int (iI (tl - (n : Int)))), (6, .int (iI zZ))]) (show ((c : Int) + 1) = ((c + 1) : Int) from by first | rfl | omega | (simp; done) | (simp; omega)) hl
          have hl : lv_has ls 7 [(0, .ref wy), (1, .ref (z 0 0)), (2, .ref (z 5 kk)), (3, .int (iI to)), (4, .int (iI tl)), (5, .int (iI (tl - (n : Int)))), (6, .int (iI ((c + 1) : Int)))] := hl
          exact ih_80 (c + 1) _ _ _ (by first | omega | (dsimp only; omega)) ⟨hP, hD, hS, hl, (by omega)⟩
        · refine r_icmp_ne F (tgt := 112) (by omega) (by omega) dX5_lay_103 (by decide) (fun c_19 => ?_) (fun c_19 => ?_)
          · refine lv_ldc2 (v := (1000000000000000000 : Int64)) F.1 F.2.1 F.2.2.2.1 (F.2.2.2.2.1 _ q1224) dX5_lay_112 ?_
            refine top_l (x := (1000000000000000000 : Int64)) (a := 1000000000000000000) (by decide +kernel) ?_
            exact top_cl (show 1000000000000000000 = (if (c : Int) = to then tl - (n : Int) else 1000000000000000000) from by first | exact (if_pos (by omega)).symm | exact (if_neg (by omega)).symm | omega) (hj_18 _ _ hP hD hS)
          · refine lv_iload F.1 F.2.1 dX5_lay_106 (lv_at hl 5 rfl) ?_
            refine r_i2l F (by omega) dX5_lay_108 ?_
            refine lv_goto (tgt := 115) F.1 F.2.1 dX5_lay_109 (by decide) ?_
            exact top_cl (show (tl - (n : Int)) = (if (c : Int) = to then tl - (n : Int) else 1000000000000000000) from by first | exact (if_pos (by omega)).symm | exact (if_neg (by omega)).symm | omega) (hj_18 _ _ hP hD hS)
  · refine lv_iconst (v := iI 0) F.1 F.2.1 dX5_lay_28 rfl ?_
    refine lv_istore (lv' := [(6, .int (iI 0)), (0, .ref wy), (1, .ref (z 0 0)), (2, .ref (z 5 kk)), (3, .int (iI to)), (4, .int (iI tl)), (5, .int (iI (r : Int)))]) F.1 F.2.1 dX5_lay_29 hl (Nat.le_of_ble_eq_true rfl) rfl (fun ls hl => ?_)
    have hl : lv_has ls 7 [(0, .ref wy), (1, .ref (z 0 0)), (2, .ref (z 5 kk)), (3, .int (iI to)), (4, .int (iI tl)), (5, .int (iI (r : Int))), (6, .int (iI 0))] := lv_sub hl [1, 2, 3, 4, 5, 6, 0] rfl
    have hl := lv_cv (fun zZ : Int => [(0, .ref wy), (1, .ref (z 0 0)), (2, .ref (z 5 kk)), (3, .int (iI to)), (4, .int (iI tl)), (5, .int (iI (r : Int))), (6, .int (iI zZ))]) (show 0 = (0 : Int) from by first | rfl | omega | (simp; done) | (simp; omega)) hl
    have hl : lv_has ls 7 [(0, .ref wy), (1, .ref (z 0 0)), (2, .ref (z 5 kk)), (3, .int (iI to)), (4, .int (iI tl)), (5, .int (iI (r : Int))), (6, .int (iI (0 : Int)))] := hl
    refine lp_s (σ := Nat × Int × (Option Nat) × Int × Int × Int × (Nat → Int)) (hd := 31) (st := []) (fun x => match x with | (c, fwL, rnL, aiL, opL, spL, gL) => 13 - c) (fun x H locs ls => match x with | (c, fwL, rnL, aiL, opL, spL, gL) => va_P G.1 clG ([(wy, .inr (4, [.ref ya, .ref yb, .ref yl, .ref (z 0 0), .ref (z 5 kk), .int (iI tl), .int (iI yp), .int (iI ym)])), (ya, .inl (G.2.1 3, 3208, .inr (.inl (aL gl)))), (yb, .inl (G.2.1 3, 1440, .inr (.inl (aL (mnG w kk r c gm))))), (yl, .inr (3, [.ref yf, .int (iI fwL), va_rf rnL, .int (iI aiL), .long (lI opL), .int (iI spL)])), (yf, .inl (G.2.1 3, 5, .inr (.inl (aL gL))))] ++ wl) H ∧ va_D A ([(wy, .inr (4, [.ref ya, .ref yb, .ref yl, .ref (z 0 0), .ref (z 5 kk), .int (iI tl), .int (iI yp), .int (iI ym)])), (ya, .inl (G.2.1 3, 3208, .inr (.inl (aL gl)))), (yb, .inl (G.2.1 3, 1440, .inr (.inl (aL (mnG w kk r c gm))))), (yl, .inr (3, [.ref yf, .int (iI fwL), va_rf rnL, .int (iI aiL), .long (lI opL), .int (iI spL)])), (yf, .inl (G.2.1 3, 5, .inr (.inl (aL gL))))] ++ wl) ∧ va_S A sS.heap H locs ∧ lv_has ls 7 [(0, .ref wy), (1, .ref (z 0 0)), (2, .ref (z 5 kk)), (3, .int (iI to)), (4, .int (iI tl)), (5, .int (iI (r : Int))), (6, .int (iI (c : Int)))] ∧ ((c : Int) ≤ 2 * wnH w)) (fun x => match x with | (c, fwL, rnL, aiL, opL, spL, gL) => 0) (fun x => match x with | (c, fwL, rnL, aiL, opL, spL, gL) => 0) ?_ (0, fwL, rnL, aiL, opL, spL, gL) _ _ _ ⟨hP, hD, hS, hl, (by omega)⟩
    rintro ⟨c, fwL, rnL, aiL, opL, spL, gL⟩ H locs ls ⟨hP, hD, hS, hl, hc⟩ ih_31
    refine lv_iload F.1 F.2.1 dX5_lay_31 (lv_at hl 6 rfl) ?_
    refine lv_iconst (v := iI 2) F.1 F.2.1 dX5_lay_33 rfl ?_
    refine lv_aload_n F.1 F.2.1 dX5_lay_34 rfl (lv_at hl 1 rfl) ?_
    obtain ⟨k_20, hk_21⟩ := mem_at (X := [(wy, .inr (4, [.ref ya, .ref yb, .ref yl, .ref (z 0 0), .ref (z 5 kk), .int (iI tl), .int (iI yp), .int (iI ym)])), (ya, .inl (G.2.1 3, 3208, .inr (.inl (aL gl)))), (yb, .inl (G.2.1 3, 1440, .inr (.inl (aL (mnG w kk r c gm))))), (yl, .inr (3, [.ref yf, .int (iI fwL), va_rf rnL, .int (iI aiL), .long (lI opL), .int (iI spL)])), (yf, .inl (G.2.1 3, 5, .inr (.inl (aL gL))))]) hW.obj
    refine r_get F (ci := 6) (v := .int (iI (wnH w))) b_X8 hE hP k_20 hk_21 6 (by decide) q463 (fun _ h9 => h9) rfl dX5_lay_35 ?_
    refine r_imul F dX5_lay_38 ?_
    refine r_icmp_ge F (tgt := 62) (by omega) (by omega) dX5_lay_39 (by decide) (fun c_22 => ?_) (fun c_22 => ?_)
    · refine lv_iinc (v := iI ((r : Int) + 1)) (lv' := [(5, .int (iI ((r : Int) + 1))), (0, .ref wy), (1, .ref (z 0 0)), (2, .ref (z 5 kk)), (3, .int (iI to)), (4, .int (iI tl)), (6, .int (iI (c : Int)))]) (k := 5) F.1 F.2.1 dX5_lay_62 hl rfl (iI_add _ _) (Nat.le_of_ble_eq_true rfl) rfl (fun ls hl => ?_)
      refine lv_goto (tgt := 19) F.1 F.2.1 dX5_lay_65 (by decide) ?_
      obtain ⟨hP, hD⟩ := cvJ (g := (mnG w kk r c gm)) (g' := (mnG w kk (r + 1) 0 gm)) hP hD 2 rfl (fun k hk => by first | (with_reducible rfl) | ((try dsimp only); exact mnG_r (by omega) k))
      have hP : va_P G.1 clG ([(wy, .inr (4, [.ref ya, .ref yb, .ref yl, .ref (z 0 0), .ref (z 5 kk), .int (iI tl), .int (iI yp), .int (iI ym)])), (ya, .inl (G.2.1 3, 3208, .inr (.inl (aL gl)))), (yb, .inl (G.2.1 3, 1440, .inr (.inl (aL (mnG w kk (r + 1) 0 gm))))), (yl, .inr (3, [.ref yf, .int (iI fwL), va_rf rnL, .int (iI aiL), .long (lI opL), .int (iI spL)])), (yf, .inl (G.2.1 3, 5, .inr (.inl (aL gL))))] ++ wl) _ := hP
      have hD : va_D A ([(wy, .inr (4, [.ref ya, .ref yb, .ref yl, .ref (z 0 0), .ref (z 5 kk), .int (iI tl), .int (iI yp), .int (iI ym)])), (ya, .inl (G.2.1 3, 3208, .inr (.inl (aL gl)))), (yb, .inl (G.2.1 3, 1440, .inr (.inl (aL (mnG w kk (r + 1) 0 gm))))), (yl, .inr (3, [.ref yf, .int (iI fwL), va_rf rnL, .int (iI aiL), .long (lI opL), .int (iI spL)])), (yf, .inl (G.2.1 3, 5, .inr (.inl (aL gL))))] ++ wl) := hD
      have hl : lv_has ls 7 [(0, .ref wy), (1, .ref (z 0 0)), (2, .ref (z 5 kk)), (3, .int (iI to)), (4, .int (iI tl)), (5, .int (iI ((r : Int) + 1)))] := lv_sub hl [1, 2, 3, 4, 5, 0] rfl
      have hl := lv_cv (fun zZ : Int => [(0, .ref wy), (1, .ref (z 0 0)), (2, .ref (z 5 kk)), (3, .int (iI to)), (4, .int (iI tl)), (5, .int (iI zZ))]) (show ((r : Int) + 1) = ((r + 1) : Int) from by first | rfl | omega | (simp; done) | (simp; omega)) hl
      have hl : lv_has ls 7 [(0, .ref wy), (1, .ref (z 0 0)), (2, .ref (z 5 kk)), (3, .int (iI to)), (4, .int (iI tl)), (5, .int (iI ((r + 1) : Int)))] := hl
      exact ih_19 (r + 1, fwL, rnL, aiL, opL, spL, gL) _ _ _ (by first | omega | (dsimp only; omega)) ⟨hP, hD, hS, hl, (by omega)⟩
    · refine lv_aload_n F.1 F.2.1 dX5_lay_42 rfl (lv_at hl 0 rfl) ?_
      refine lv_iload F.1 F.2.1 dX5_lay_43 (lv_at hl 5 rfl) ?_
      refine lv_iload F.1 F.2.1 dX5_lay_45 (lv_at hl 6 rfl) ?_
      refine lv_iconst (v := iI 2) F.1 F.2.1 dX5_lay_47 rfl ?_
      refine r_irem F (by omega) (by decide) dX5_lay_48 ?_
      refine lv_iload F.1 F.2.1 dX5_lay_49 (lv_at hl 6 rfl) ?_
      refine lv_iconst (v := iI 2) F.1 F.2.1 dX5_lay_51 rfl ?_
      refine r_idiv F (by omega) (by decide) dX5_lay_52 ?_
      refine cl_V F (C := "RainWalk$Ways") (ct_X5_layMeans w z wy ya yb yl kk tl yp ym (mnG w kk r c gm) yf fwL aiL opL spL rnL gL (r : Int) ((c : Int) % 2) ((c : Int) / 2) wl hW hk (by omega) (by omega) (by omega)) hd_X5_layMeans rfl q1212 q1214 qs38 q119 q1215 (va_recv hE.1 hP (ci := 4) (q0 := 0) rfl rfl) hE hP hD hS hA (X := [(wy, .inr (4, [.ref ya, .ref yb, .ref yl, .ref (z 0 0), .ref (z 5 kk), .int (iI tl), .int (iI yp), .int (iI ym)])), (ya, .inl (G.2.1 3, 3208, .inr (.inl (aL gl)))), (yb, .inl (G.2.1 3, 1440, .inr (.inl (aL (mnG w kk r c gm))))), (yl, .inr (3, [.ref yf, .int (iI fwL), va_rf rnL, .int (iI aiL), .long (lI opL), .int (iI spL)])), (yf, .inl (G.2.1 3, 5, .inr (.inl (aL gL))))]) (pl := wl) (cx := [(wy, .inr (4, [.ref ya, .ref yb, .ref yl, .ref (z 0 0), .ref (z 5 kk), .int (iI tl), .int (iI yp), .int (iI ym)])), (yb, .inl (G.2.1 3, 1440, .inr (.inl (aL (mnG w kk r c gm))))), (yl, .inr (3, [.ref yf, .int (iI fwL), va_rf rnL, .int (iI aiL), .long (lI opL), .int (iI spL)])), (yf, .inl (G.2.1 3, 5, .inr (.inl (aL gL))))]) (wr := [(ya, .inl (G.2.1 3, 3208, .inr (.inl (aL gl))))]) [0, 2, 3, 4] [1] rfl rfl rfl rfl (by decide) rfl rfl rfl (Nat.le_of_ble_eq_true rfl) hl.1 dX5_lay_53 ⟨Nat.le_of_ble_eq_true rfl, Nat.le_of_ble_eq_true rfl⟩ ⟨Nat.le_of_ble_eq_true rfl, Nat.le_of_ble_eq_true rfl⟩ (fun u_23 H locs _ hP hD hS => ?_)
      obtain ⟨fw1_25, rn1_26, ai1_27, op1_28, sp1_29, g1_30⟩ := u_23
      have hP : va_P G.1 clG ([(ya, .inl (G.2.1 3, 3208, .inr (.inl (aL gl)))), (wy, .inr (4, [.ref ya, .ref yb, .ref yl, .ref (z 0 0), .ref (z 5 kk), .int (iI tl), .int (iI yp), .int (iI ym)])), (yb, .inl (G.2.1 3, 1440, .inr (.inl (aL (mnH w kk (r : Int) ((c : Int) % 2) ((c : Int) / 2) (wN w kk) (mnG w kk r c gm)))))), (yl, .inr (3, [.ref yf, .int (iI fw1_25), va_rf rn1_26, .int (iI ai1_27), .long (lI op1_28), .int (iI sp1_29)])), (yf, .inl (G.2.1 3, 5, .inr (.inl (aL g1_30))))] ++ wl) _ := hP
      have hD : va_D A ([(ya, .inl (G.2.1 3, 3208, .inr (.inl (aL gl)))), (wy, .inr (4, [.ref ya, .ref yb, .ref yl, .ref (z 0 0), .ref (z 5 kk), .int (iI tl), .int (iI yp), .int (iI ym)])), (yb, .inl (G.2.1 3, 1440, .inr (.inl (aL (mnH w kk (r : Int) ((c : Int) % 2) ((c : Int) / 2) (wN w kk) (mnG w kk r c gm)))))), (yl, .inr (3, [.ref yf, .int (iI fw1_25), va_rf rn1_26, .int (iI ai1_27), .long (lI op1_28), .int (iI sp1_29)])), (yf, .inl (G.2.1 3, 5, .inr (.inl (aL g1_30))))] ++ wl) := hD
      refine W.eq (g2 := F0 mM 56 ls []) rfl ?_
      refine lv_iinc (v := iI ((c : Int) + 1)) (lv' := [(6, .int (iI ((c : Int) + 1))), (0, .ref wy), (1, .ref (z 0 0)), (2, .ref (z 5 kk)), (3, .int (iI to)), (4, .int (iI tl)), (5, .int (iI (r : Int)))]) (k := 6) F.1 F.2.1 dX5_lay_56 hl rfl (iI_add _ _) (Nat.le_of_ble_eq_true rfl) rfl (fun ls hl => ?_)
      refine lv_goto (tgt := 31) F.1 F.2.1 dX5_lay_59 (by decide) ?_
      have hD : va_D A ([(wy, .inr (4, [.ref ya, .ref yb, .ref yl, .ref (z 0 0), .ref (z 5 kk), .int (iI tl), .int (iI yp), .int (iI ym)])), (ya, .inl (G.2.1 3, 3208, .inr (.inl (aL gl)))), (yb, .inl (G.2.1 3, 1440, .inr (.inl (aL (mnH w kk (r : Int) ((c : Int) % 2) ((c : Int) / 2) (wN w kk) (mnG w kk r c gm)))))), (yl, .inr (3, [.ref yf, .int (iI fw1_25), va_rf rn1_26, .int (iI ai1_27), .long (lI op1_28), .int (iI sp1_29)])), (yf, .inl (G.2.1 3, 5, .inr (.inl (aL g1_30))))] ++ wl) := hD.part (cx := [(wy, .inr (4, [.ref ya, .ref yb, .ref yl, .ref (z 0 0), .ref (z 5 kk), .int (iI tl), .int (iI yp), .int (iI ym)])), (ya, .inl (G.2.1 3, 3208, .inr (.inl (aL gl)))), (yb, .inl (G.2.1 3, 1440, .inr (.inl (aL (mnH w kk (r : Int) ((c : Int) % 2) ((c : Int) / 2) (wN w kk) (mnG w kk r c gm)))))), (yl, .inr (3, [.ref yf, .int (iI fw1_25), va_rf rn1_26, .int (iI ai1_27), .long (lI op1_28), .int (iI sp1_29)])), (yf, .inl (G.2.1 3, 5, .inr (.inl (aL g1_30))))]) [1, 0, 2, 3, 4] (by decide) rfl
      have hP : va_P G.1 clG ([(wy, .inr (4, [.ref ya, .ref yb, .ref yl, .ref (z 0 0), .ref (z 5 kk), .int (iI tl), .int (iI yp), .int (iI ym)])), (ya, .inl (G.2.1 3, 3208, .inr (.inl (aL gl)))), (yb, .inl (G.2.1 3, 1440, .inr (.inl (aL (mnH w kk (r : Int) ((c : Int) % 2) ((c : Int) / 2) (wN w kk) (mnG w kk r c gm)))))), (yl, .inr (3, [.ref yf, .int (iI fw1_25), va_rf rn1_26, .int (iI ai1_27), .long (lI op1_28), .int (iI sp1_29)])), (yf, .inl (G.2.1 3, 5, .inr (.inl (aL g1_30))))] ++ wl) _ := hP.part (cx := [(wy, .inr (4, [.ref ya, .ref yb, .ref yl, .ref (z 0 0), .ref (z 5 kk), .int (iI tl), .int (iI yp), .int (iI ym)])), (ya, .inl (G.2.1 3, 3208, .inr (.inl (aL gl)))), (yb, .inl (G.2.1 3, 1440, .inr (.inl (aL (mnH w kk (r : Int) ((c : Int) % 2) ((c : Int) / 2) (wN w kk) (mnG w kk r c gm)))))), (yl, .inr (3, [.ref yf, .int (iI fw1_25), va_rf rn1_26, .int (iI ai1_27), .long (lI op1_28), .int (iI sp1_29)])), (yf, .inl (G.2.1 3, 5, .inr (.inl (aL g1_30))))]) [1, 0, 2, 3, 4] rfl
      obtain ⟨hP, hD⟩ := cvJ (g := (mnH w kk (r : Int) ((c : Int) % 2) ((c : Int) / 2) (wN w kk) (mnG w kk r c gm))) (g' := (mnG w kk r (c + 1) gm)) hP hD 2 rfl (fun k hk => by first | (with_reducible rfl) | ((try dsimp only); exact mnG_c (by omega) (by omega) (by omega) (by omega) k))
      have hP : va_P G.1 clG ([(wy, .inr (4, [.ref ya, .ref yb, .ref yl, .ref (z 0 0), .ref (z 5 kk), .int (iI tl), .int (iI yp), .int (iI ym)])), (ya, .inl (G.2.1 3, 3208, .inr (.inl (aL gl)))), (yb, .inl (G.2.1 3, 1440, .inr (.inl (aL (mnG w kk r (c + 1) gm))))), (yl, .inr (3, [.ref yf, .int (iI fw1_25), va_rf rn1_26, .int (iI ai1_27), .long (lI op1_28), .int (iI sp1_29)])), (yf, .inl (G.2.1 3, 5, .inr (.inl (aL g1_30))))] ++ wl) _ := hP
      have hD : va_D A ([(wy, .inr (4, [.ref ya, .ref yb, .ref yl, .ref (z 0 0), .ref (z 5 kk), .int (iI tl), .int (iI yp), .int (iI ym)])), (ya, .inl (G.2.1 3, 3208, .inr (.inl (aL gl)))), (yb, .inl (G.2.1 3, 1440, .inr (.inl (aL (mnG w kk r (c + 1) gm))))), (yl, .inr (3, [.ref yf, .int (iI fw1_25), va_rf rn1_26, .int (iI ai1_27), .long (lI op1_28), .int (iI sp1_29)])), (yf, .inl (G.2.1 3, 5, .inr (.inl (aL g1_30))))] ++ wl) := hD
      have hl : lv_has ls 7 [(0, .ref wy), (1, .ref (z 0 0)), (2, .ref (z 5 kk)), (3, .int (iI to)), (4, .int (iI tl)), (5, .int (iI (r : Int))), (6, .int (iI ((c : Int) + 1)))] := lv_sub hl [1, 2, 3, 4, 5, 6, 0] rfl
      have hl := lv_cv (fun zZ : Int => [(0, .ref wy), (1, .ref (z 0 0)), (2, .ref (z 5 kk)), (3, .int (iI to)), (4, .int (iI tl)), (5, .int (iI (r : Int))), (6, .int (iI zZ))]) (show ((c : Int) + 1) = ((c + 1) : Int) from by first | rfl | omega | (simp; done) | (simp; omega)) hl
      have hl : lv_has ls 7 [(0, .ref wy), (1, .ref (z 0 0)), (2, .ref (z 5 kk)), (3, .int (iI to)), (4, .int (iI tl)), (5, .int (iI (r : Int))), (6, .int (iI ((c + 1) : Int)))] := hl
      exact ih_31 (c + 1, fw1_25, rn1_26, ai1_27, op1_28, sp1_29, g1_30) _ _ _ (by first | omega | (dsimp only; omega)) ⟨hP, hD, hS, hl, (by omega)⟩
set_option maxHeartbeats 4000000 in
theorem ct_X5_next {G : Gm} {l : Launch} (w : Wd) (z : Wx) (wy : Nat) (ya : Nat) (yb : Nat) (yl : Nat) (kk : Nat) (tl : Int) (yp : Int) (ym : Int) (to : Int) (gl : Nat → Int) (gm : Nat → Int) (wl : va_W) (hW : WX G w z wl) (hk : (kk : Int) < wnW w) (hT : WyOk w (wyT w kk to tl) tl (-1) gl) (hM : MnOk w kk gm) (hp : inP w yp) (hm : 0 ≤ ym ∧ ym ≤ tl ∧ tl ≤ 400) : Ct G l yX5_next (ws_ yX5_next cX5_next 6 (some .int)) ({ frames := 2, cells := 0, slots := 0, locals := 51 } : Room) [.ref wy] ([(wy, .inr (4, [.ref ya, .ref yb, .ref yl, .ref (z 0 0), .ref (z 5 kk), .int (iI tl), .int (iI yp), .int (iI ym)])), (ya, .inl (G.2.1 3, 3208, .inr (.inl (aL gl)))), (yb, .inl (G.2.1 3, 1440, .inr (.inl (aL gm))))] ++ wl) (fun _ : Unit => True) (fun _ : Unit => ((some (.int (iI (nextM w kk (wyT w kk to tl) tl yp ym)))) : Option Value)) (fun _ : Unit => (([(wy, .inr (4, [.ref ya, .ref yb, .ref yl, .ref (z 0 0), .ref (z 5 kk), .int (iI tl), .int (iI (nxP w yp (nextM w kk (wyT w kk to tl) tl yp ym))), .int (iI (nxT w ym (nextM w kk (wyT w kk to tl) tl yp ym)))])), (ya, .inl (G.2.1 3, 3208, .inr (.inl (aL gl)))), (yb, .inl (G.2.1 3, 1440, .inr (.inl (aL gm))))] ++ wl) : va_W)) := by
  refine Ct.of (by decide) rfl ?_
  intro pP eE sS mM below meth cC A ls Q F hE hA hP hD hS hl hQ
  have hl : lv_has ls 6 [(0, .ref wy)] := hl
  have hok := hW.ok
  obtain ⟨wb0, wb1, wb2, wb3, wb4, wb5⟩ := hok.nums
  have hks := (hok.walker kk hk).1.speeds
  have hN : (wN w kk : Int) = wFa w kk - wSl w kk + 1 := (by show ((wFa w kk - wSl w kk + 1).toNat : Int) = _; omega)
  have hB := wyT_B hok (t := to) hk (show 0 ≤ tl ∧ tl ≤ 400 by omega)
  have hbt : wyT w kk to tl ym yp = 1000000000000000000 ∨ (0 ≤ wyT w kk to tl ym yp ∧ wyT w kk to tl ym yp ≤ 1000 + 1873821600000000 * (tl - ym)) := hB yp ym (by omega) (by omega) (by omega) (by omega)
  refine lv_aload_n F.1 F.2.1 dX5_next_0 rfl (lv_at hl 0 rfl) ?_
  refine r_get F (ci := 4) (v := .ref ya) b_X5 hE hP 0 rfl 0 (by decide) q298 (fun _ h9 => h9) rfl dX5_next_1 ?_
  refine lv_aload_n F.1 F.2.1 dX5_next_4 rfl (lv_at hl 0 rfl) ?_
  refine r_get F (ci := 4) (v := .int (iI yp)) b_X5 hE hP 0 rfl 6 (by decide) q304 (fun _ h9 => h9) rfl dX5_next_5 ?_
  refine lv_aload_n F.1 F.2.1 dX5_next_8 rfl (lv_at hl 0 rfl) ?_
  refine r_get F (ci := 4) (v := .int (iI ym)) b_X5 hE hP 0 rfl 7 (by decide) q305 (fun _ h9 => h9) rfl dX5_next_9 ?_
  refine cl_S F (ct_X5_at yp ym wl) hd_X5_at q1221 q1222 q119 q1223 hE hP hD hS hA (X := [(wy, .inr (4, [.ref ya, .ref yb, .ref yl, .ref (z 0 0), .ref (z 5 kk), .int (iI tl), .int (iI yp), .int (iI ym)])), (ya, .inl (G.2.1 3, 3208, .inr (.inl (aL gl)))), (yb, .inl (G.2.1 3, 1440, .inr (.inl (aL gm))))]) (pl := wl) (cx := []) (wr := [(wy, .inr (4, [.ref ya, .ref yb, .ref yl, .ref (z 0 0), .ref (z 5 kk), .int (iI tl), .int (iI yp), .int (iI ym)])), (ya, .inl (G.2.1 3, 3208, .inr (.inl (aL gl)))), (yb, .inl (G.2.1 3, 1440, .inr (.inl (aL gm))))]) [] [0, 1, 2] rfl rfl rfl rfl (by decide) rfl rfl rfl (Nat.le_of_ble_eq_true rfl) hl.1 dX5_next_12 ⟨Nat.le_of_ble_eq_true rfl, Nat.le_of_ble_eq_true rfl⟩ ⟨Nat.le_of_ble_eq_true rfl, Nat.le_of_ble_eq_true rfl⟩ (fun _ H locs _ hP hD hS => ?_)
  have hP : va_P G.1 clG ([(wy, .inr (4, [.ref ya, .ref yb, .ref yl, .ref (z 0 0), .ref (z 5 kk), .int (iI tl), .int (iI yp), .int (iI ym)])), (ya, .inl (G.2.1 3, 3208, .inr (.inl (aL gl)))), (yb, .inl (G.2.1 3, 1440, .inr (.inl (aL gm))))] ++ wl) _ := hP
  have hD : va_D A ([(wy, .inr (4, [.ref ya, .ref yb, .ref yl, .ref (z 0 0), .ref (z 5 kk), .int (iI tl), .int (iI yp), .int (iI ym)])), (ya, .inl (G.2.1 3, 3208, .inr (.inl (aL gl)))), (yb, .inl (G.2.1 3, 1440, .inr (.inl (aL gm))))] ++ wl) := hD
  refine W.eq (g2 := F0 mM 15 ls [.int (iI (401 * yp + ym)), .ref ya]) rfl ?_
  refine r_lald F (g := gl) hE hP 1 rfl ((401 * yp + ym).toNat) (by omega) (by omega) (by decide) dX5_next_15 ?_
  refine top_cl (b := (wyT w kk to tl ym yp)) (by exact hT yp ym (by omega) (by omega) (by omega) (by omega)) ?_
  refine lv_lstore_n (lv' := [(1, .long (lI (wyT w kk to tl ym yp))), (0, .ref wy)]) F.1 F.2.1 dX5_next_16 rfl hl (Nat.le_of_ble_eq_true rfl) rfl (fun ls hl => ?_)
  refine lv_iconst (v := iI 0) F.1 F.2.1 dX5_next_17 rfl ?_
  refine lv_istore_n (lv' := [(3, .int (iI 0)), (1, .long (lI (wyT w kk to tl ym yp))), (0, .ref wy)]) F.1 F.2.1 dX5_next_18 rfl hl (Nat.le_of_ble_eq_true rfl) rfl (fun ls hl => ?_)
  have hl : lv_has ls 6 [(1, .long (lI (wyT w kk to tl ym yp))), (0, .ref wy), (3, .int (iI 0))] := lv_sub hl [1, 2, 0] rfl
  have hl := lv_cv (fun zZ : Int => [(1, .long (lI (wyT w kk to tl ym yp))), (0, .ref wy), (3, .int (iI zZ))]) (show 0 = (0 : Int) from by first | rfl | omega | (simp; done) | (simp; omega)) hl
  have hl : lv_has ls 6 [(1, .long (lI (wyT w kk to tl ym yp))), (0, .ref wy), (3, .int (iI (0 : Int)))] := hl
  refine lp_s (σ := Nat) (hd := 19) (st := []) (fun (r : Nat) => 13 - r) (fun (r : Nat) H locs ls => va_P G.1 clG ([(wy, .inr (4, [.ref ya, .ref yb, .ref yl, .ref (z 0 0), .ref (z 5 kk), .int (iI tl), .int (iI yp), .int (iI ym)])), (ya, .inl (G.2.1 3, 3208, .inr (.inl (aL gl)))), (yb, .inl (G.2.1 3, 1440, .inr (.inl (aL gm))))] ++ wl) H ∧ va_D A ([(wy, .inr (4, [.ref ya, .ref yb, .ref yl, .ref (z 0 0), .ref (z 5 kk), .int (iI tl), .int (iI yp), .int (iI ym)])), (ya, .inl (G.2.1 3, 3208, .inr (.inl (aL gl)))), (yb, .inl (G.2.1 3, 1440, .inr (.inl (aL gm))))] ++ wl) ∧ va_S A sS.heap H locs ∧ lv_has ls 6 [(1, .long (lI (wyT w kk to tl ym yp))), (0, .ref wy), (3, .int (iI (r : Int)))] ∧ ((r : Int) ≤ wnR w) ∧ (fsR (hitB w kk (wyT w kk to tl) tl yp ym) (wSl w kk) (wN w kk) none r = none)) (fun (r : Nat) => 0) (fun (r : Nat) => 0) ?_ 0 _ _ _ ⟨hP, hD, hS, hl, (by omega), rfl⟩
  rintro r H locs ls ⟨hP, hD, hS, hl, hr, ir⟩ ih_19
  refine lv_iload_n F.1 F.2.1 dX5_next_19 rfl (lv_at hl 2 rfl) ?_
  refine lv_aload_n F.1 F.2.1 dX5_next_20 rfl (lv_at hl 1 rfl) ?_
  refine r_get F (ci := 4) (v := .ref (z 0 0)) b_X5 hE hP 0 rfl 3 (by decide) q301 (fun _ h9 => h9) rfl dX5_next_21 ?_
  obtain ⟨k_3, hk_4⟩ := mem_at (X := [(wy, .inr (4, [.ref ya, .ref yb, .ref yl, .ref (z 0 0), .ref (z 5 kk), .int (iI tl), .int (iI yp), .int (iI ym)])), (ya, .inl (G.2.1 3, 3208, .inr (.inl (aL gl)))), (yb, .inl (G.2.1 3, 1440, .inr (.inl (aL gm))))]) hW.obj
  refine r_get F (ci := 6) (v := .int (iI (wnR w))) b_X8 hE hP k_3 hk_4 8 (by decide) q471 (fun _ h9 => h9) rfl dX5_next_24 ?_
  refine r_icmp_ge F (tgt := 158) (by omega) (by omega) dX5_next_27 (by decide) (fun c_5 => ?_) (fun c_5 => ?_)
  · have hnx : nextM w kk (wyT w kk to tl) tl yp ym = -2 := by unfold nextM nextO; rw [show (wnR w).toNat = r by omega, ir]
    refine lv_aload_n F.1 F.2.1 dX5_next_158 rfl (lv_at hl 1 rfl) ?_
    refine lv_dup F.1 F.2.1 dX5_next_159 rfl ?_
    refine r_get F (ci := 4) (v := .int (iI ym)) b_X5 hE hP 0 rfl 7 (by decide) q305 (fun _ h9 => h9) rfl dX5_next_160 ?_
    refine lv_iconst (v := iI 1) F.1 F.2.1 dX5_next_163 rfl ?_
    refine r_iadd F dX5_next_164 ?_
    refine r_put F (ci := 4) (v := .int (iI (ym + 1))) b_X5 hE hP hD hS 0 rfl 7 (by decide) q305 (fun _ h9 => h9) rfl rfl rfl (Nat.le_of_ble_eq_true rfl) dX5_next_165 (fun H locs hP hD hS => ?_)
    have hP : va_P G.1 clG ([(wy, .inr (4, [.ref ya, .ref yb, .ref yl, .ref (z 0 0), .ref (z 5 kk), .int (iI tl), .int (iI yp), .int (iI (ym + 1))])), (ya, .inl (G.2.1 3, 3208, .inr (.inl (aL gl)))), (yb, .inl (G.2.1 3, 1440, .inr (.inl (aL gm))))] ++ wl) _ := hP
    have hD : va_D A ([(wy, .inr (4, [.ref ya, .ref yb, .ref yl, .ref (z 0 0), .ref (z 5 kk), .int (iI tl), .int (iI yp), .int (iI (ym + 1))])), (ya, .inl (G.2.1 3, 3208, .inr (.inl (aL gl)))), (yb, .inl (G.2.1 3, 1440, .inr (.inl (aL gm))))] ++ wl) := hD
    refine lv_bipush (v := iI (-2)) F.1 F.2.1 dX5_next_168 (bip_ok (by decide)) ?_
    obtain ⟨hP, hD⟩ := cv (fun zZ : Int => ([(wy, .inr (4, [.ref ya, .ref yb, .ref yl, .ref (z 0 0), .ref (z 5 kk), .int (iI tl), .int (iI zZ), .int (iI (ym + 1))])), (ya, .inl (G.2.1 3, 3208, .inr (.inl (aL gl)))), (yb, .inl (G.2.1 3, 1440, .inr (.inl (aL gm))))] ++ wl)) (show yp = (nxP w yp (nextM w kk (wyT w kk to tl) tl yp ym)) from by rw [hnx]; rfl) ⟨hP, hD⟩
    obtain ⟨hP, hD⟩ := cv (fun zZ : Int => ([(wy, .inr (4, [.ref ya, .ref yb, .ref yl, .ref (z 0 0), .ref (z 5 kk), .int (iI tl), .int (iI (nxP w yp (nextM w kk (wyT w kk to tl) tl yp ym))), .int (iI zZ)])), (ya, .inl (G.2.1 3, 3208, .inr (.inl (aL gl)))), (yb, .inl (G.2.1 3, 1440, .inr (.inl (aL gm))))] ++ wl)) (show (ym + 1) = (nxT w ym (nextM w kk (wyT w kk to tl) tl yp ym)) from by rw [hnx]; rfl) ⟨hP, hD⟩
    exact rt_i F hQ hS (Nat.le_of_ble_eq_true rfl) (Nat.le_of_ble_eq_true rfl) () (congrArg (fun z => some (Value.int (iI z))) (show (nextM w kk (wyT w kk to tl) tl yp ym) = (-2) from by rw [hnx])) trivial hP hD dX5_next_170
  · refine lv_iconst (v := iI 0) F.1 F.2.1 dX5_next_30 rfl ?_
    refine lv_istore (lv' := [(4, .int (iI 0)), (1, .long (lI (wyT w kk to tl ym yp))), (0, .ref wy), (3, .int (iI (r : Int)))]) F.1 F.2.1 dX5_next_31 hl (Nat.le_of_ble_eq_true rfl) rfl (fun ls hl => ?_)
    have hl : lv_has ls 6 [(1, .long (lI (wyT w kk to tl ym yp))), (0, .ref wy), (3, .int (iI (r : Int))), (4, .int (iI 0))] := lv_sub hl [1, 2, 3, 0] rfl
    have hl := lv_cv (fun zZ : Int => [(1, .long (lI (wyT w kk to tl ym yp))), (0, .ref wy), (3, .int (iI (r : Int))), (4, .int (iI zZ))]) (show 0 = (0 : Int) from by first | rfl | omega | (simp; done) | (simp; omega)) hl
    have hl : lv_has ls 6 [(1, .long (lI (wyT w kk to tl ym yp))), (0, .ref wy), (3, .int (iI (r : Int))), (4, .int (iI (0 : Int)))] := hl
    refine lp_s (σ := Nat) (hd := 33) (st := []) (fun (yy : Nat) => 2 - yy) (fun (yy : Nat) H locs ls => va_P G.1 clG ([(wy, .inr (4, [.ref ya, .ref yb, .ref yl, .ref (z 0 0), .ref (z 5 kk), .int (iI tl), .int (iI yp), .int (iI ym)])), (ya, .inl (G.2.1 3, 3208, .inr (.inl (aL gl)))), (yb, .inl (G.2.1 3, 1440, .inr (.inl (aL gm))))] ++ wl) H ∧ va_D A ([(wy, .inr (4, [.ref ya, .ref yb, .ref yl, .ref (z 0 0), .ref (z 5 kk), .int (iI tl), .int (iI yp), .int (iI ym)])), (ya, .inl (G.2.1 3, 3208, .inr (.inl (aL gl)))), (yb, .inl (G.2.1 3, 1440, .inr (.inl (aL gm))))] ++ wl) ∧ va_S A sS.heap H locs ∧ lv_has ls 6 [(1, .long (lI (wyT w kk to tl ym yp))), (0, .ref wy), (3, .int (iI (r : Int))), (4, .int (iI (yy : Int)))] ∧ (yy ≤ 2) ∧ (fsY (hitB w kk (wyT w kk to tl) tl yp ym) r (wSl w kk) (wN w kk) (fsR (hitB w kk (wyT w kk to tl) tl yp ym) (wSl w kk) (wN w kk) none r) yy = none)) (fun (yy : Nat) => 0) (fun (yy : Nat) => 0) ?_ 0 _ _ _ ⟨hP, hD, hS, hl, (by omega), ir⟩
    rintro yy H locs ls ⟨hP, hD, hS, hl, hy, iy⟩ ih_33
    refine lv_iload F.1 F.2.1 dX5_next_33 (lv_at hl 3 rfl) ?_
    refine lv_iconst (v := iI 2) F.1 F.2.1 dX5_next_35 rfl ?_
    refine r_icmp_ge F (tgt := 152) (by omega) (by decide) dX5_next_36 (by decide) (fun c_6 => ?_) (fun c_6 => ?_)
    · refine lv_iinc (v := iI ((r : Int) + 1)) (lv' := [(3, .int (iI ((r : Int) + 1))), (1, .long (lI (wyT w kk to tl ym yp))), (0, .ref wy), (4, .int (iI (yy : Int)))]) (k := 2) F.1 F.2.1 dX5_next_152 hl rfl (iI_add _ _) (Nat.le_of_ble_eq_true rfl) rfl (fun ls hl => ?_)
      refine lv_goto (tgt := 19) F.1 F.2.1 dX5_next_155 (by decide) ?_
      have hl : lv_has ls 6 [(1, .long (lI (wyT w kk to tl ym yp))), (0, .ref wy), (3, .int (iI ((r : Int) + 1)))] := lv_sub hl [1, 2, 0] rfl
      have hl := lv_cv (fun zZ : Int => [(1, .long (lI (wyT w kk to tl ym yp))), (0, .ref wy), (3, .int (iI zZ))]) (show ((r : Int) + 1) = ((r + 1) : Int) from by first | rfl | omega | (simp; done) | (simp; omega)) hl
      have hl : lv_has ls 6 [(1, .long (lI (wyT w kk to tl ym yp))), (0, .ref wy), (3, .int (iI ((r + 1) : Int)))] := hl
      exact ih_19 (r + 1) _ _ _ (by first | omega | (dsimp only; omega)) ⟨hP, hD, hS, hl, (by omega), (by (obtain rfl : yy = 2 := (by omega)); exact iy)⟩
    · refine lv_aload_n F.1 F.2.1 dX5_next_39 rfl (lv_at hl 1 rfl) ?_
      refine r_get F (ci := 4) (v := .ref (z 5 kk)) b_X5 hE hP 0 rfl 4 (by decide) q302 (fun _ h9 => h9) rfl dX5_next_40 ?_
      obtain ⟨k_7, hk_8⟩ := mem_at (X := [(wy, .inr (4, [.ref ya, .ref yb, .ref yl, .ref (z 0 0), .ref (z 5 kk), .int (iI tl), .int (iI yp), .int (iI ym)])), (ya, .inl (G.2.1 3, 3208, .inr (.inl (aL gl)))), (yb, .inl (G.2.1 3, 1440, .inr (.inl (aL gm))))]) (hW.walker kk hk)
      refine r_getW F (v := .int (iI (wSl w kk))) hE hP k_7 hk_8 4 (by decide) q867 (fun _ h9 => h9) rfl dX5_next_43 ?_
      refine lv_istore (lv' := [(5, .int (iI (wSl w kk))), (1, .long (lI (wyT w kk to tl ym yp))), (0, .ref wy), (3, .int (iI (r : Int))), (4, .int (iI (yy : Int)))]) F.1 F.2.1 dX5_next_46 hl (Nat.le_of_ble_eq_true rfl) rfl (fun ls hl => ?_)
      have hl : lv_has ls 6 [(1, .long (lI (wyT w kk to tl ym yp))), (0, .ref wy), (3, .int (iI (r : Int))), (4, .int (iI (yy : Int))), (5, .int (iI (wSl w kk)))] := lv_sub hl [1, 2, 3, 4, 0] rfl
      have hl := lv_cv (fun zZ : Int => [(1, .long (lI (wyT w kk to tl ym yp))), (0, .ref wy), (3, .int (iI (r : Int))), (4, .int (iI (yy : Int))), (5, .int (iI zZ))]) (show (wSl w kk) = (wSl w kk + (0 : Int)) from by omega) hl
      have hl : lv_has ls 6 [(1, .long (lI (wyT w kk to tl ym yp))), (0, .ref wy), (3, .int (iI (r : Int))), (4, .int (iI (yy : Int))), (5, .int (iI (wSl w kk + (0 : Int))))] := hl
      refine lp_s (σ := Nat) (hd := 48) (st := []) (fun (n : Nat) => 10 - n) (fun (n : Nat) H locs ls => va_P G.1 clG ([(wy, .inr (4, [.ref ya, .ref yb, .ref yl, .ref (z 0 0), .ref (z 5 kk), .int (iI tl), .int (iI yp), .int (iI ym)])), (ya, .inl (G.2.1 3, 3208, .inr (.inl (aL gl)))), (yb, .inl (G.2.1 3, 1440, .inr (.inl (aL gm))))] ++ wl) H ∧ va_D A ([(wy, .inr (4, [.ref ya, .ref yb, .ref yl, .ref (z 0 0), .ref (z 5 kk), .int (iI tl), .int (iI yp), .int (iI ym)])), (ya, .inl (G.2.1 3, 3208, .inr (.inl (aL gl)))), (yb, .inl (G.2.1 3, 1440, .inr (.inl (aL gm))))] ++ wl) ∧ va_S A sS.heap H locs ∧ lv_has ls 6 [(1, .long (lI (wyT w kk to tl ym yp))), (0, .ref wy), (3, .int (iI (r : Int))), (4, .int (iI (yy : Int))), (5, .int (iI (wSl w kk + (n : Int))))] ∧ (n ≤ wN w kk) ∧ ((fsV (hitB w kk (wyT w kk to tl) tl yp ym) r (yy : Int) (wSl w kk) (fsY (hitB w kk (wyT w kk to tl) tl yp ym) r (wSl w kk) (wN w kk) (fsR (hitB w kk (wyT w kk to tl) tl yp ym) (wSl w kk) (wN w kk) none r) yy) n) = none)) (fun (n : Nat) => 0) (fun (n : Nat) => 0) ?_ 0 _ _ _ ⟨hP, hD, hS, hl, (by omega), iy⟩
      rintro n H locs ls ⟨hP, hD, hS, hl, hn, iv⟩ ih_48
      refine lv_iload F.1 F.2.1 dX5_next_48 (lv_at hl 4 rfl) ?_
      refine lv_aload_n F.1 F.2.1 dX5_next_50 rfl (lv_at hl 1 rfl) ?_
      refine r_get F (ci := 4) (v := .ref (z 5 kk)) b_X5 hE hP 0 rfl 4 (by decide) q302 (fun _ h9 => h9) rfl dX5_next_51 ?_
      obtain ⟨k_9, hk_10⟩ := mem_at (X := [(wy, .inr (4, [.ref ya, .ref yb, .ref yl, .ref (z 0 0), .ref (z 5 kk), .int (iI tl), .int (iI yp), .int (iI ym)])), (ya, .inl (G.2.1 3, 3208, .inr (.inl (aL gl)))), (yb, .inl (G.2.1 3, 1440, .inr (.inl (aL gm))))]) (hW.walker kk hk)
      refine r_getW F (v := .int (iI (wFa w kk))) hE hP k_9 hk_10 5 (by decide) q871 (fun _ h9 => h9) rfl dX5_next_54 ?_
      refine r_icmp_gt F (tgt := 146) (by omega) (by omega) dX5_next_57 (by decide) (fun c_11 => ?_) (fun c_11 => ?_)
      · refine lv_iinc (v := iI ((yy : Int) + 1)) (lv' := [(4, .int (iI ((yy : Int) + 1))), (1, .long (lI (wyT w kk to tl ym yp))), (0, .ref wy), (3, .int (iI (r : Int))), (5, .int (iI (wSl w kk + (n : Int))))]) (k := 3) F.1 F.2.1 dX5_next_146 hl rfl (iI_add _ _) (Nat.le_of_ble_eq_true rfl) rfl (fun ls hl => ?_)
        refine lv_goto (tgt := 33) F.1 F.2.1 dX5_next_149 (by decide) ?_
        have hl : lv_has ls 6 [(1, .long (lI (wyT w kk to tl ym yp))), (0, .ref wy), (3, .int (iI (r : Int))), (4, .int (iI ((yy : Int) + 1)))] := lv_sub hl [1, 2, 3, 0] rfl
        have hl := lv_cv (fun zZ : Int => [(1, .long (lI (wyT w kk to tl ym yp))), (0, .ref wy), (3, .int (iI (r : Int))), (4, .int (iI zZ))]) (show ((yy : Int) + 1) = ((yy + 1) : Int) from by first | rfl | omega | (simp; done) | (simp; omega)) hl
        have hl : lv_has ls 6 [(1, .long (lI (wyT w kk to tl ym yp))), (0, .ref wy), (3, .int (iI (r : Int))), (4, .int (iI ((yy + 1) : Int)))] := hl
        exact ih_33 (yy + 1) _ _ _ (by first | omega | (dsimp only; omega)) ⟨hP, hD, hS, hl, (by omega), (by (obtain rfl : n = wN w kk := (by omega)); exact iv)⟩
      · have hbL : legV w kk (wyT w kk to tl) tl yp ym r (yy : Int) (wSl w kk + (n : Int)) = 1000000000000000000 ∨ (0 ≤ legV w kk (wyT w kk to tl) tl yp ym r (yy : Int) (wSl w kk + (n : Int)) ∧ legV w kk (wyT w kk to tl) tl yp ym r (yy : Int) (wSl w kk + (n : Int)) ≤ 1000 + 1873821600000000 * (tl - ym)) := legV_in hok (hB.up (show (-1 : Int) ≤ ym by omega)) hk (by omega) (by omega) (by omega)
        refine lv_aload_n F.1 F.2.1 dX5_next_60 rfl (lv_at hl 1 rfl) ?_
        refine lv_aload_n F.1 F.2.1 dX5_next_61 rfl (lv_at hl 1 rfl) ?_
        refine r_get F (ci := 4) (v := .int (iI yp)) b_X5 hE hP 0 rfl 6 (by decide) q304 (fun _ h9 => h9) rfl dX5_next_62 ?_
        refine lv_aload_n F.1 F.2.1 dX5_next_65 rfl (lv_at hl 1 rfl) ?_
        refine r_get F (ci := 4) (v := .int (iI ym)) b_X5 hE hP 0 rfl 7 (by decide) q305 (fun _ h9 => h9) rfl dX5_next_66 ?_
        refine lv_iload_n F.1 F.2.1 dX5_next_69 rfl (lv_at hl 2 rfl) ?_
        refine lv_iload F.1 F.2.1 dX5_next_70 (lv_at hl 3 rfl) ?_
        refine lv_iload F.1 F.2.1 dX5_next_72 (lv_at hl 4 rfl) ?_
        refine cl_V F (C := "RainWalk$Ways") (ct_X5_byLeg w z wy ya yb yl kk tl yp ym gl (wyT w kk to tl) gm yp ym (r : Int) (yy : Int) (wSl w kk + (n : Int)) wl hW hk (hT.up (by omega)) (hB.up (by omega)) hM hp hm (by omega) (by omega) (by omega)) hd_X5_byLeg rfl q1244 q1246 qs41 q119 q1247 (va_recv hE.1 hP (ci := 4) (q0 := 0) rfl rfl) hE hP hD hS hA (X := [(wy, .inr (4, [.ref ya, .ref yb, .ref yl, .ref (z 0 0), .ref (z 5 kk), .int (iI tl), .int (iI yp), .int (iI ym)])), (ya, .inl (G.2.1 3, 3208, .inr (.inl (aL gl)))), (yb, .inl (G.2.1 3, 1440, .inr (.inl (aL gm))))]) (pl := wl) (cx := [(wy, .inr (4, [.ref ya, .ref yb, .ref yl, .ref (z 0 0), .ref (z 5 kk), .int (iI tl), .int (iI yp), .int (iI ym)])), (ya, .inl (G.2.1 3, 3208, .inr (.inl (aL gl)))), (yb, .inl (G.2.1 3, 1440, .inr (.inl (aL gm))))]) (wr := []) [0, 1, 2] [] rfl rfl rfl rfl (by decide) rfl rfl rfl (Nat.le_of_ble_eq_true rfl) hl.1 dX5_next_74 ⟨Nat.le_of_ble_eq_true rfl, Nat.le_of_ble_eq_true rfl⟩ ⟨Nat.le_of_ble_eq_true rfl, Nat.le_of_ble_eq_true rfl⟩ (fun _ H locs _ hP hD hS => ?_)
        have hP : va_P G.1 clG ([(wy, .inr (4, [.ref ya, .ref yb, .ref yl, .ref (z 0 0), .ref (z 5 kk), .int (iI tl), .int (iI yp), .int (iI ym)])), (ya, .inl (G.2.1 3, 3208, .inr (.inl (aL gl)))), (yb, .inl (G.2.1 3, 1440, .inr (.inl (aL gm))))] ++ wl) _ := hP
        have hD : va_D A ([(wy, .inr (4, [.ref ya, .ref yb, .ref yl, .ref (z 0 0), .ref (z 5 kk), .int (iI tl), .int (iI yp), .int (iI ym)])), (ya, .inl (G.2.1 3, 3208, .inr (.inl (aL gl)))), (yb, .inl (G.2.1 3, 1440, .inr (.inl (aL gm))))] ++ wl) := hD
        refine W.eq (g2 := F0 mM 77 ls [.long (lI (legV w kk (wyT w kk to tl) tl yp ym (r : Int).toNat (yy : Int) (wSl w kk + (n : Int))))]) rfl ?_
        refine top_cl (b := (legV w kk (wyT w kk to tl) tl yp ym r (yy : Int) (wSl w kk + (n : Int)))) (by rfl) ?_
        refine lv_lload_n F.1 F.2.1 dX5_next_77 rfl (lv_at hl 0 rfl) ?_
        refine r_lcmp F (by omega) (by omega) dX5_next_78 ?_
        refine r_if_eq F (tgt := 85) cmp_in dX5_next_79 (by decide) (fun c_14 => ?_) (fun c_14 => ?_)
        · have c_14 := cmpI_eq.mp c_14
          have hrd := (hok.road r (by omega)).1.2.1
          have hf : (fsV (hitB w kk (wyT w kk to tl) tl yp ym) r (yy : Int) (wSl w kk) (fsY (hitB w kk (wyT w kk to tl) tl yp ym) r (wSl w kk) (wN w kk) (fsR (hitB w kk (wyT w kk to tl) tl yp ym) (wSl w kk) (wN w kk) none r) yy) (n + 1)) = some (100 * (r : Int) + 10 * (yy : Int) + (wSl w kk + (n : Int))) := by
              show or1 _ _ _ = _
              rw [iv]
              show (if hitB w kk (wyT w kk to tl) tl yp ym r (yy : Int) (wSl w kk + (n : Int)) = true then some (100 * (r : Int) + 10 * (yy : Int) + (wSl w kk + (n : Int))) else none) = _
              exact if_pos (show hitB w kk (wyT w kk to tl) tl yp ym r (yy : Int) (wSl w kk + (n : Int)) = true from decide_eq_true (by assumption))
          have hnx : nextM w kk (wyT w kk to tl) tl yp ym = 100 * (r : Int) + 10 * (yy : Int) + (wSl w kk + (n : Int)) := by
              unfold nextM nextO
              rw [fsR_s (wnR w).toNat (r + 1) (by omega) (fsY_s 2 (yy + 1) (by omega) (fsV_s (wN w kk) (n + 1) (by omega) hf))]
          refine lv_aload_n F.1 F.2.1 dX5_next_85 rfl (lv_at hl 1 rfl) ?_
          refine lv_dup F.1 F.2.1 dX5_next_86 rfl ?_
          refine r_get F (ci := 4) (v := .int (iI ym)) b_X5 hE hP 0 rfl 7 (by decide) q305 (fun _ h9 => h9) rfl dX5_next_87 ?_
          refine lv_aload_n F.1 F.2.1 dX5_next_90 rfl (lv_at hl 1 rfl) ?_
          refine r_get F (ci := 4) (v := .ref (z 0 0)) b_X5 hE hP 0 rfl 3 (by decide) q301 (fun _ h9 => h9) rfl dX5_next_91 ?_
          obtain ⟨k_15, hk_16⟩ := mem_at (X := [(wy, .inr (4, [.ref ya, .ref yb, .ref yl, .ref (z 0 0), .ref (z 5 kk), .int (iI tl), .int (iI yp), .int (iI ym)])), (ya, .inl (G.2.1 3, 3208, .inr (.inl (aL gl)))), (yb, .inl (G.2.1 3, 1440, .inr (.inl (aL gm))))]) hW.obj
          refine r_get F (ci := 6) (v := .ref (z 1 2)) b_X8 hE hP k_15 hk_16 2 (by decide) q451 (fun _ h9 => h9) rfl dX5_next_94 ?_
          refine lv_iload_n F.1 F.2.1 dX5_next_97 rfl (lv_at hl 2 rfl) ?_
          obtain ⟨k_17, hk_18⟩ := mem_at (X := [(wy, .inr (4, [.ref ya, .ref yb, .ref yl, .ref (z 0 0), .ref (z 5 kk), .int (iI tl), .int (iI yp), .int (iI ym)])), (ya, .inl (G.2.1 3, 3208, .inr (.inl (aL gl)))), (yb, .inl (G.2.1 3, 1440, .inr (.inl (aL gm))))]) hW.roadsA
          refine r_aald F (f := (oA (wnR w) (z 4))) (v := .ref (z 4 r)) hE hP k_17 hk_18 rfl r rfl (by omega) (by decide) (oA_at (by omega)) dX5_next_98 ?_
          refine lv_iload F.1 F.2.1 dX5_next_99 (lv_at hl 4 rfl) ?_
          obtain ⟨k_21, hk_22⟩ := mem_at (X := [(wy, .inr (4, [.ref ya, .ref yb, .ref yl, .ref (z 0 0), .ref (z 5 kk), .int (iI tl), .int (iI yp), .int (iI ym)])), (ya, .inl (G.2.1 3, 3208, .inr (.inl (aL gl)))), (yb, .inl (G.2.1 3, 1440, .inr (.inl (aL gm))))]) (hW.road r (by omega))
          refine cl_V F (C := "RainWalk$Road") (ct_X12_minutes (z 4 r) (wFr w r) (wTo w r) (wRs w r) (wLe w r) (wAw w r) (wSl w kk + (n : Int)) wl (by omega) (by omega) (hW.road r (by omega))) hd_X12_minutes rfl q1248 q1125 q1126 q131 q1127 (va_recv hE.1 hP (ci := 9) (q0 := k_21) rfl hk_22) hE hP hD hS hA (X := [(wy, .inr (4, [.ref ya, .ref yb, .ref yl, .ref (z 0 0), .ref (z 5 kk), .int (iI tl), .int (iI yp), .int (iI ym)])), (ya, .inl (G.2.1 3, 3208, .inr (.inl (aL gl)))), (yb, .inl (G.2.1 3, 1440, .inr (.inl (aL gm))))]) (pl := wl) (cx := []) (wr := [(wy, .inr (4, [.ref ya, .ref yb, .ref yl, .ref (z 0 0), .ref (z 5 kk), .int (iI tl), .int (iI yp), .int (iI ym)])), (ya, .inl (G.2.1 3, 3208, .inr (.inl (aL gl)))), (yb, .inl (G.2.1 3, 1440, .inr (.inl (aL gm))))]) [] [0, 1, 2] rfl rfl rfl rfl (by decide) rfl rfl rfl (Nat.le_of_ble_eq_true rfl) hl.1 dX5_next_101 ⟨Nat.le_of_ble_eq_true rfl, Nat.le_of_ble_eq_true rfl⟩ ⟨Nat.le_of_ble_eq_true rfl, Nat.le_of_ble_eq_true rfl⟩ (fun _ H locs _ hP hD hS => ?_)
          have hP : va_P G.1 clG ([(wy, .inr (4, [.ref ya, .ref yb, .ref yl, .ref (z 0 0), .ref (z 5 kk), .int (iI tl), .int (iI yp), .int (iI ym)])), (ya, .inl (G.2.1 3, 3208, .inr (.inl (aL gl)))), (yb, .inl (G.2.1 3, 1440, .inr (.inl (aL gm))))] ++ wl) _ := hP
          have hD : va_D A ([(wy, .inr (4, [.ref ya, .ref yb, .ref yl, .ref (z 0 0), .ref (z 5 kk), .int (iI tl), .int (iI yp), .int (iI ym)])), (ya, .inl (G.2.1 3, 3208, .inr (.inl (aL gl)))), (yb, .inl (G.2.1 3, 1440, .inr (.inl (aL gm))))] ++ wl) := hD
          refine W.eq (g2 := F0 mM 104 ls [.int (iI (((wLe w r) + (wSl w kk + (n : Int)) - 1) / (wSl w kk + (n : Int)))), .int (iI ym), .ref wy]) rfl ?_
          refine top_ci (b := (goMin w r (wSl w kk + (n : Int)))) (by rfl) ?_
          refine r_iadd F dX5_next_104 ?_
          refine r_put F (ci := 4) (v := .int (iI (ym + (goMin w r (wSl w kk + (n : Int)))))) b_X5 hE hP hD hS 0 rfl 7 (by decide) q305 (fun _ h9 => h9) rfl rfl rfl (Nat.le_of_ble_eq_true rfl) dX5_next_105 (fun H locs hP hD hS => ?_)
          have hP : va_P G.1 clG ([(wy, .inr (4, [.ref ya, .ref yb, .ref yl, .ref (z 0 0), .ref (z 5 kk), .int (iI tl), .int (iI yp), .int (iI (ym + (goMin w r (wSl w kk + (n : Int)))))])), (ya, .inl (G.2.1 3, 3208, .inr (.inl (aL gl)))), (yb, .inl (G.2.1 3, 1440, .inr (.inl (aL gm))))] ++ wl) _ := hP
          have hD : va_D A ([(wy, .inr (4, [.ref ya, .ref yb, .ref yl, .ref (z 0 0), .ref (z 5 kk), .int (iI tl), .int (iI yp), .int (iI (ym + (goMin w r (wSl w kk + (n : Int)))))])), (ya, .inl (G.2.1 3, 3208, .inr (.inl (aL gl)))), (yb, .inl (G.2.1 3, 1440, .inr (.inl (aL gm))))] ++ wl) := hD
          refine lv_aload_n F.1 F.2.1 dX5_next_108 rfl (lv_at hl 1 rfl) ?_
          refine lv_aload_n F.1 F.2.1 dX5_next_109 rfl (lv_at hl 1 rfl) ?_
          refine r_get F (ci := 4) (v := .ref (z 0 0)) b_X5 hE hP 0 rfl 3 (by decide) q301 (fun _ h9 => h9) rfl dX5_next_110 ?_
          obtain ⟨k_23, hk_24⟩ := mem_at (X := [(wy, .inr (4, [.ref ya, .ref yb, .ref yl, .ref (z 0 0), .ref (z 5 kk), .int (iI tl), .int (iI yp), .int (iI (ym + (goMin w r (wSl w kk + (n : Int)))))])), (ya, .inl (G.2.1 3, 3208, .inr (.inl (aL gl)))), (yb, .inl (G.2.1 3, 1440, .inr (.inl (aL gm))))]) hW.obj
          refine r_get F (ci := 6) (v := .ref (z 1 2)) b_X8 hE hP k_23 hk_24 2 (by decide) q451 (fun _ h9 => h9) rfl dX5_next_113 ?_
          refine lv_iload_n F.1 F.2.1 dX5_next_116 rfl (lv_at hl 2 rfl) ?_
          obtain ⟨k_25, hk_26⟩ := mem_at (X := [(wy, .inr (4, [.ref ya, .ref yb, .ref yl, .ref (z 0 0), .ref (z 5 kk), .int (iI tl), .int (iI yp), .int (iI (ym + (goMin w r (wSl w kk + (n : Int)))))])), (ya, .inl (G.2.1 3, 3208, .inr (.inl (aL gl)))), (yb, .inl (G.2.1 3, 1440, .inr (.inl (aL gm))))]) hW.roadsA
          refine r_aald F (f := (oA (wnR w) (z 4))) (v := .ref (z 4 r)) hE hP k_25 hk_26 rfl r rfl (by omega) (by decide) (oA_at (by omega)) dX5_next_117 ?_
          refine lv_iload F.1 F.2.1 dX5_next_118 (lv_at hl 3 rfl) ?_
          obtain ⟨k_29, hk_30⟩ := mem_at (X := [(wy, .inr (4, [.ref ya, .ref yb, .ref yl, .ref (z 0 0), .ref (z 5 kk), .int (iI tl), .int (iI yp), .int (iI (ym + (goMin w r (wSl w kk + (n : Int)))))])), (ya, .inl (G.2.1 3, 3208, .inr (.inl (aL gl)))), (yb, .inl (G.2.1 3, 1440, .inr (.inl (aL gm))))]) (hW.road r (by omega))
          refine cl_V F (C := "RainWalk$Road") (ct_X12_end (z 4 r) (wFr w r) (wTo w r) (wRs w r) (wLe w r) (wAw w r) (yy : Int) wl (by omega) (hW.road r (by omega))) hd_X12_end rfl q1253 q1254 q1255 q131 q1256 (va_recv hE.1 hP (ci := 9) (q0 := k_29) rfl hk_30) hE hP hD hS hA (X := [(wy, .inr (4, [.ref ya, .ref yb, .ref yl, .ref (z 0 0), .ref (z 5 kk), .int (iI tl), .int (iI yp), .int (iI (ym + (goMin w r (wSl w kk + (n : Int)))))])), (ya, .inl (G.2.1 3, 3208, .inr (.inl (aL gl)))), (yb, .inl (G.2.1 3, 1440, .inr (.inl (aL gm))))]) (pl := wl) (cx := []) (wr := [(wy, .inr (4, [.ref ya, .ref yb, .ref yl, .ref (z 0 0), .ref (z 5 kk), .int (iI tl), .int (iI yp), .int (iI (ym + (goMin w r (wSl w kk + (n : Int)))))])), (ya, .inl (G.2.1 3, 3208, .inr (.inl (aL gl)))), (yb, .inl (G.2.1 3, 1440, .inr (.inl (aL gm))))]) [] [0, 1, 2] rfl rfl rfl rfl (by decide) rfl rfl rfl (Nat.le_of_ble_eq_true rfl) hl.1 dX5_next_120 ⟨Nat.le_of_ble_eq_true rfl, Nat.le_of_ble_eq_true rfl⟩ ⟨Nat.le_of_ble_eq_true rfl, Nat.le_of_ble_eq_true rfl⟩ (fun _ H locs _ hP hD hS => ?_)
          have hP : va_P G.1 clG ([(wy, .inr (4, [.ref ya, .ref yb, .ref yl, .ref (z 0 0), .ref (z 5 kk), .int (iI tl), .int (iI yp), .int (iI (ym + (goMin w r (wSl w kk + (n : Int)))))])), (ya, .inl (G.2.1 3, 3208, .inr (.inl (aL gl)))), (yb, .inl (G.2.1 3, 1440, .inr (.inl (aL gm))))] ++ wl) _ := hP
          have hD : va_D A ([(wy, .inr (4, [.ref ya, .ref yb, .ref yl, .ref (z 0 0), .ref (z 5 kk), .int (iI tl), .int (iI yp), .int (iI (ym + (goMin w r (wSl w kk + (n : Int)))))])), (ya, .inl (G.2.1 3, 3208, .inr (.inl (aL gl)))), (yb, .inl (G.2.1 3, 1440, .inr (.inl (aL gm))))] ++ wl) := hD
          refine W.eq (g2 := F0 mM 123 ls [.int (iI (if (yy : Int) = 0 then (wTo w r) else (wFr w r))), .ref wy]) rfl ?_
          refine top_ci (b := (goEnd w r (yy : Int))) (by rfl) ?_
          refine r_put F (ci := 4) (v := .int (iI (goEnd w r (yy : Int)))) b_X5 hE hP hD hS 0 rfl 6 (by decide) q304 (fun _ h9 => h9) rfl rfl rfl (Nat.le_of_ble_eq_true rfl) dX5_next_123 (fun H locs hP hD hS => ?_)
          have hP : va_P G.1 clG ([(wy, .inr (4, [.ref ya, .ref yb, .ref yl, .ref (z 0 0), .ref (z 5 kk), .int (iI tl), .int (iI (goEnd w r (yy : Int))), .int (iI (ym + (goMin w r (wSl w kk + (n : Int)))))])), (ya, .inl (G.2.1 3, 3208, .inr (.inl (aL gl)))), (yb, .inl (G.2.1 3, 1440, .inr (.inl (aL gm))))] ++ wl) _ := hP
          have hD : va_D A ([(wy, .inr (4, [.ref ya, .ref yb, .ref yl, .ref (z 0 0), .ref (z 5 kk), .int (iI tl), .int (iI (goEnd w r (yy : Int))), .int (iI (ym + (goMin w r (wSl w kk + (n : Int)))))])), (ya, .inl (G.2.1 3, 3208, .inr (.inl (aL gl)))), (yb, .inl (G.2.1 3, 1440, .inr (.inl (aL gm))))] ++ wl) := hD
          refine lv_bipush (v := iI 100) F.1 F.2.1 dX5_next_126 (bip_ok (by decide)) ?_
          refine lv_iload_n F.1 F.2.1 dX5_next_128 rfl (lv_at hl 2 rfl) ?_
          refine r_imul F dX5_next_129 ?_
          refine lv_bipush (v := iI 10) F.1 F.2.1 dX5_next_130 (bip_ok (by decide)) ?_
          refine lv_iload F.1 F.2.1 dX5_next_132 (lv_at hl 3 rfl) ?_
          refine r_imul F dX5_next_134 ?_
          refine r_iadd F dX5_next_135 ?_
          refine lv_iload F.1 F.2.1 dX5_next_136 (lv_at hl 4 rfl) ?_
          refine r_iadd F dX5_next_138 ?_
          obtain ⟨hP, hD⟩ := cv (fun zZ : Int => ([(wy, .inr (4, [.ref ya, .ref yb, .ref yl, .ref (z 0 0), .ref (z 5 kk), .int (iI tl), .int (iI zZ), .int (iI (ym + (goMin w r (wSl w kk + (n : Int)))))])), (ya, .inl (G.2.1 3, 3208, .inr (.inl (aL gl)))), (yb, .inl (G.2.1 3, 1440, .inr (.inl (aL gm))))] ++ wl)) (show (goEnd w r (yy : Int)) = (nxP w yp (nextM w kk (wyT w kk to tl) tl yp ym)) from by rw [hnx]; unfold nxP; rw [if_neg (by omega), show (100 * (r : Int) + 10 * (yy : Int) + (wSl w kk + (n : Int))) / 100 = (r : Int) by omega, show (100 * (r : Int) + 10 * (yy : Int) + (wSl w kk + (n : Int))) / 10 % 10 = (yy : Int) by omega]; rfl) ⟨hP, hD⟩
          obtain ⟨hP, hD⟩ := cv (fun zZ : Int => ([(wy, .inr (4, [.ref ya, .ref yb, .ref yl, .ref (z 0 0), .ref (z 5 kk), .int (iI tl), .int (iI (nxP w yp (nextM w kk (wyT w kk to tl) tl yp ym))), .int (iI zZ)])), (ya, .inl (G.2.1 3, 3208, .inr (.inl (aL gl)))), (yb, .inl (G.2.1 3, 1440, .inr (.inl (aL gm))))] ++ wl)) (show (ym + (goMin w r (wSl w kk + (n : Int)))) = (nxT w ym (nextM w kk (wyT w kk to tl) tl yp ym)) from by rw [hnx]; unfold nxT; rw [if_neg (by omega), show (100 * (r : Int) + 10 * (yy : Int) + (wSl w kk + (n : Int))) / 100 = (r : Int) by omega, show (100 * (r : Int) + 10 * (yy : Int) + (wSl w kk + (n : Int))) % 10 = wSl w kk + (n : Int) by omega]; rfl) ⟨hP, hD⟩
          exact rt_i F hQ hS (Nat.le_of_ble_eq_true rfl) (Nat.le_of_ble_eq_true rfl) () (congrArg (fun z => some (Value.int (iI z))) (show (nextM w kk (wyT w kk to tl) tl yp ym) = (((100 * (r : Int)) + (10 * (yy : Int))) + (wSl w kk + (n : Int))) from by first | (rw [hnx]; done) | (rw [hnx]; omega))) trivial hP hD dX5_next_139
        · have c_14 := cmpI_ne0 c_14
          have hnf : (fsV (hitB w kk (wyT w kk to tl) tl yp ym) r (yy : Int) (wSl w kk) (fsY (hitB w kk (wyT w kk to tl) tl yp ym) r (wSl w kk) (wN w kk) (fsR (hitB w kk (wyT w kk to tl) tl yp ym) (wSl w kk) (wN w kk) none r) yy) (n + 1)) = none := by
              show or1 _ _ _ = _
              rw [iv]
              show (if hitB w kk (wyT w kk to tl) tl yp ym r (yy : Int) (wSl w kk + (n : Int)) = true then some (100 * (r : Int) + 10 * (yy : Int) + (wSl w kk + (n : Int))) else none) = _
              exact if_neg (fun q => absurd (of_decide_eq_true q) (by assumption))
          refine lv_goto (tgt := 140) F.1 F.2.1 dX5_next_82 (by decide) ?_
          refine lv_iinc (v := iI ((wSl w kk + (n : Int)) + 1)) (lv' := [(5, .int (iI ((wSl w kk + (n : Int)) + 1))), (1, .long (lI (wyT w kk to tl ym yp))), (0, .ref wy), (3, .int (iI (r : Int))), (4, .int (iI (yy : Int)))]) (k := 4) F.1 F.2.1 dX5_next_140 hl rfl (iI_add _ _) (Nat.le_of_ble_eq_true rfl) rfl (fun ls hl => ?_)
          refine lv_goto (tgt := 48) F.1 F.2.1 dX5_next_143 (by decide) ?_
          have hl : lv_has ls 6 [(1, .long (lI (wyT w kk to tl ym yp))), (0, .ref wy), (3, .int (iI (r : Int))), (4, .int (iI (yy : Int))), (5, .int (iI ((wSl w kk + (n : Int)) + 1)))] := lv_sub hl [1, 2, 3, 4, 0] rfl
          have hl := lv_cv (fun zZ : Int => [(1, .long (lI (wyT w kk to tl ym yp))), (0, .ref wy), (3, .int (iI (r : Int))), (4, .int (iI (yy : Int))), (5, .int (iI zZ))]) (show ((wSl w kk + (n : Int)) + 1) = (wSl w kk + ((n + 1) : Int)) from by omega) hl
          have hl : lv_has ls 6 [(1, .long (lI (wyT w kk to tl ym yp))), (0, .ref wy), (3, .int (iI (r : Int))), (4, .int (iI (yy : Int))), (5, .int (iI (wSl w kk + ((n + 1) : Int))))] := hl
          exact ih_48 (n + 1) _ _ _ (by first | omega | (dsimp only; omega)) ⟨hP, hD, hS, hl, (by omega), hnf⟩
theorem hd_X5_next : Hd yX5_next 0 := ⟨by decide +kernel, by decide +kernel, by decide +kernel⟩
set_option maxHeartbeats 2000000 in
theorem ct_X5_steps {G : Gm} {l : Launch} (w : Wd) (z : Wx) (wy : Nat) (ya : Nat) (yb : Nat) (yl : Nat) (kk : Nat) (tl : Int) (yp : Int) (ym : Int) (to : Int) (gl : Nat → Int) (gm : Nat → Int) (fr : Int) (st : Int) (wl : va_W) (hW : WX G w z wl) (hk : (kk : Int) < wnW w) (hT : WyOk w (wyT w kk to tl) tl (-1) gl) (hM : MnOk w kk gm) (hfr : inP w fr) (hm : 0 ≤ st ∧ st ≤ tl ∧ tl ≤ 400) (hto : inP w to) (hN : ¬ wyT w kk to tl st fr = 1000000000000000000) : Ct G l yX5_steps (ws_ yX5_steps cX5_steps 5 (some .int)) ({ frames := 3, cells := 0, slots := 0, locals := 76 } : Room) [.ref wy, .int (iI fr), .int (iI st), .int (iI to)] ([(wy, .inr (4, [.ref ya, .ref yb, .ref yl, .ref (z 0 0), .ref (z 5 kk), .int (iI tl), .int (iI yp), .int (iI ym)])), (ya, .inl (G.2.1 3, 3208, .inr (.inl (aL gl)))), (yb, .inl (G.2.1 3, 1440, .inr (.inl (aL gm))))] ++ wl) (fun (u : Int × Int) => match u with | (yp1, ym1) => True) (fun (u : Int × Int) => match u with | (yp1, ym1) => ((some (.int (iI (stepsM w kk (wyT w kk to tl) tl to 401 fr st : Nat)))) : Option Value)) (fun (u : Int × Int) => match u with | (yp1, ym1) => (([(wy, .inr (4, [.ref ya, .ref yb, .ref yl, .ref (z 0 0), .ref (z 5 kk), .int (iI tl), .int (iI yp1), .int (iI ym1)])), (ya, .inl (G.2.1 3, 3208, .inr (.inl (aL gl)))), (yb, .inl (G.2.1 3, 1440, .inr (.inl (aL gm))))] ++ wl) : va_W)) := by
  refine Ct.of (by decide) rfl ?_
  intro pP eE sS mM below meth cC A ls Q F hE hA hP hD hS hl hQ
  have hl : lv_has ls 5 [(0, .ref wy), (1, .int (iI fr)), (2, .int (iI st)), (3, .int (iI to))] := hl
  have hok := hW.ok
  obtain ⟨wb0, wb1, wb2, wb3, wb4, wb5⟩ := hok.nums
  have hks := (hok.walker kk hk).1.speeds
  refine lv_aload_n F.1 F.2.1 dX5_steps_0 rfl (lv_at hl 0 rfl) ?_
  refine lv_iload_n F.1 F.2.1 dX5_steps_1 rfl (lv_at hl 1 rfl) ?_
  refine r_put F (ci := 4) (v := .int (iI fr)) b_X5 hE hP hD hS 0 rfl 6 (by decide) q304 (fun _ h9 => h9) rfl rfl rfl (Nat.le_of_ble_eq_true rfl) dX5_steps_2 (fun H locs hP hD hS => ?_)
  have hP : va_P G.1 clG ([(wy, .inr (4, [.ref ya, .ref yb, .ref yl, .ref (z 0 0), .ref (z 5 kk), .int (iI tl), .int (iI fr), .int (iI ym)])), (ya, .inl (G.2.1 3, 3208, .inr (.inl (aL gl)))), (yb, .inl (G.2.1 3, 1440, .inr (.inl (aL gm))))] ++ wl) _ := hP
  have hD : va_D A ([(wy, .inr (4, [.ref ya, .ref yb, .ref yl, .ref (z 0 0), .ref (z 5 kk), .int (iI tl), .int (iI fr), .int (iI ym)])), (ya, .inl (G.2.1 3, 3208, .inr (.inl (aL gl)))), (yb, .inl (G.2.1 3, 1440, .inr (.inl (aL gm))))] ++ wl) := hD
  refine lv_aload_n F.1 F.2.1 dX5_steps_5 rfl (lv_at hl 0 rfl) ?_
  refine lv_iload_n F.1 F.2.1 dX5_steps_6 rfl (lv_at hl 2 rfl) ?_
  refine r_put F (ci := 4) (v := .int (iI st)) b_X5 hE hP hD hS 0 rfl 7 (by decide) q305 (fun _ h9 => h9) rfl rfl rfl (Nat.le_of_ble_eq_true rfl) dX5_steps_7 (fun H locs hP hD hS => ?_)
  have hP : va_P G.1 clG ([(wy, .inr (4, [.ref ya, .ref yb, .ref yl, .ref (z 0 0), .ref (z 5 kk), .int (iI tl), .int (iI fr), .int (iI st)])), (ya, .inl (G.2.1 3, 3208, .inr (.inl (aL gl)))), (yb, .inl (G.2.1 3, 1440, .inr (.inl (aL gm))))] ++ wl) _ := hP
  have hD : va_D A ([(wy, .inr (4, [.ref ya, .ref yb, .ref yl, .ref (z 0 0), .ref (z 5 kk), .int (iI tl), .int (iI fr), .int (iI st)])), (ya, .inl (G.2.1 3, 3208, .inr (.inl (aL gl)))), (yb, .inl (G.2.1 3, 1440, .inr (.inl (aL gm))))] ++ wl) := hD
  refine lv_iconst (v := iI 0) F.1 F.2.1 dX5_steps_10 rfl ?_
  refine lv_istore (lv' := [(4, .int (iI 0)), (0, .ref wy), (1, .int (iI fr)), (2, .int (iI st)), (3, .int (iI to))]) F.1 F.2.1 dX5_steps_11 hl (Nat.le_of_ble_eq_true rfl) rfl (fun ls hl => ?_)
  have hl : lv_has ls 5 [(0, .ref wy), (3, .int (iI to)), (4, .int (iI 0))] := lv_sub hl [1, 4, 0] rfl
  have hl := lv_cv (fun zZ : Int => [(0, .ref wy), (3, .int (iI to)), (4, .int (iI zZ))]) (show 0 = (0 : Int) from by first | rfl | omega | (simp; done) | (simp; omega)) hl
  have hl : lv_has ls 5 [(0, .ref wy), (3, .int (iI to)), (4, .int (iI (0 : Int)))] := hl
  refine lp_s (σ := Nat × Int × Int) (hd := 13) (st := []) (fun x => match x with | (n, pp, mm) => (tl - mm).toNat) (fun x H locs ls => match x with | (n, pp, mm) => va_P G.1 clG ([(wy, .inr (4, [.ref ya, .ref yb, .ref yl, .ref (z 0 0), .ref (z 5 kk), .int (iI tl), .int (iI pp), .int (iI mm)])), (ya, .inl (G.2.1 3, 3208, .inr (.inl (aL gl)))), (yb, .inl (G.2.1 3, 1440, .inr (.inl (aL gm))))] ++ wl) H ∧ va_D A ([(wy, .inr (4, [.ref ya, .ref yb, .ref yl, .ref (z 0 0), .ref (z 5 kk), .int (iI tl), .int (iI pp), .int (iI mm)])), (ya, .inl (G.2.1 3, 3208, .inr (.inl (aL gl)))), (yb, .inl (G.2.1 3, 1440, .inr (.inl (aL gm))))] ++ wl) ∧ va_S A sS.heap H locs ∧ lv_has ls 5 [(0, .ref wy), (3, .int (iI to)), (4, .int (iI (n : Int)))] ∧ (inP w pp) ∧ ((n : Int) ≤ mm ∧ mm ≤ tl) ∧ (¬ wyT w kk to tl mm pp = 1000000000000000000) ∧ (stepsM w kk (wyT w kk to tl) tl to 401 fr st = n + stepsM w kk (wyT w kk to tl) tl to (401 - n) pp mm)) (fun x => match x with | (n, pp, mm) => 0) (fun x => match x with | (n, pp, mm) => 0) ?_ (0, fr, st) _ _ _ ⟨hP, hD, hS, hl, (by omega), (by omega), (by omega), (Nat.zero_add _).symm⟩
  rintro ⟨n, pp, mm⟩ H locs ls ⟨hP, hD, hS, hl, hpp, hmm, hTm, hst⟩ ih_13
  refine lv_aload_n F.1 F.2.1 dX5_steps_13 rfl (lv_at hl 0 rfl) ?_
  refine r_get F (ci := 4) (v := .int (iI pp)) b_X5 hE hP 0 rfl 6 (by decide) q304 (fun _ h9 => h9) rfl dX5_steps_14 ?_
  refine lv_iload_n F.1 F.2.1 dX5_steps_17 rfl (lv_at hl 1 rfl) ?_
  refine r_icmp_eq F (tgt := 32) (by omega) (by omega) dX5_steps_18 (by decide) (fun c_1 => ?_) (fun c_1 => ?_)
  · refine lv_iload F.1 F.2.1 dX5_steps_32 (lv_at hl 2 rfl) ?_
    exact rt_i F hQ hS (Nat.le_of_ble_eq_true rfl) (Nat.le_of_ble_eq_true rfl) (pp, mm) (congrArg (fun z => some (Value.int (iI z))) (show (stepsM w kk (wyT w kk to tl) tl to 401 fr st : Nat) = (n : Int) from by rw [hst, stepsM_t (by assumption)]; rfl)) trivial hP hD dX5_steps_34
  · have hno := next_ok hok (t := to) hk hpp (by omega) (by omega) hTm rfl
    refine lv_aload_n F.1 F.2.1 dX5_steps_21 rfl (lv_at hl 0 rfl) ?_
    refine cl_V F (C := "RainWalk$Ways") (ct_X5_next w z wy ya yb yl kk tl pp mm to gl gm wl hW hk hT hM (by omega) (by omega)) hd_X5_next rfl q1284 q1286 qs42 q119 q1287 (va_recv hE.1 hP (ci := 4) (q0 := 0) rfl rfl) hE hP hD hS hA (X := [(wy, .inr (4, [.ref ya, .ref yb, .ref yl, .ref (z 0 0), .ref (z 5 kk), .int (iI tl), .int (iI pp), .int (iI mm)])), (ya, .inl (G.2.1 3, 3208, .inr (.inl (aL gl)))), (yb, .inl (G.2.1 3, 1440, .inr (.inl (aL gm))))]) (pl := wl) (cx := [(wy, .inr (4, [.ref ya, .ref yb, .ref yl, .ref (z 0 0), .ref (z 5 kk), .int (iI tl), .int (iI pp), .int (iI mm)])), (ya, .inl (G.2.1 3, 3208, .inr (.inl (aL gl)))), (yb, .inl (G.2.1 3, 1440, .inr (.inl (aL gm))))]) (wr := []) [0, 1, 2] [] rfl rfl rfl rfl (by decide) rfl rfl rfl (Nat.le_of_ble_eq_true rfl) hl.1 dX5_steps_22 ⟨Nat.le_of_ble_eq_true rfl, Nat.le_of_ble_eq_true rfl⟩ ⟨Nat.le_of_ble_eq_true rfl, Nat.le_of_ble_eq_true rfl⟩ (fun _ H locs _ hP hD hS => ?_)
    have hP : va_P G.1 clG ([(wy, .inr (4, [.ref ya, .ref yb, .ref yl, .ref (z 0 0), .ref (z 5 kk), .int (iI tl), .int (iI (nxP w pp (nextM w kk (wyT w kk to tl) tl pp mm))), .int (iI (nxT w mm (nextM w kk (wyT w kk to tl) tl pp mm)))])), (ya, .inl (G.2.1 3, 3208, .inr (.inl (aL gl)))), (yb, .inl (G.2.1 3, 1440, .inr (.inl (aL gm))))] ++ wl) _ := hP
    have hD : va_D A ([(wy, .inr (4, [.ref ya, .ref yb, .ref yl, .ref (z 0 0), .ref (z 5 kk), .int (iI tl), .int (iI (nxP w pp (nextM w kk (wyT w kk to tl) tl pp mm))), .int (iI (nxT w mm (nextM w kk (wyT w kk to tl) tl pp mm)))])), (ya, .inl (G.2.1 3, 3208, .inr (.inl (aL gl)))), (yb, .inl (G.2.1 3, 1440, .inr (.inl (aL gm))))] ++ wl) := hD
    refine W.eq (g2 := F0 mM 25 ls [.int (iI (nextM w kk (wyT w kk to tl) tl pp mm))]) rfl ?_
    refine lv_pop F.1 F.2.1 dX5_steps_25 rfl ?_
    refine lv_iinc (v := iI ((n : Int) + 1)) (lv' := [(4, .int (iI ((n : Int) + 1))), (0, .ref wy), (3, .int (iI to))]) (k := 2) F.1 F.2.1 dX5_steps_26 hl rfl (iI_add _ _) (Nat.le_of_ble_eq_true rfl) rfl (fun ls hl => ?_)
    refine lv_goto (tgt := 13) F.1 F.2.1 dX5_steps_29 (by decide) ?_
    have hl : lv_has ls 5 [(0, .ref wy), (3, .int (iI to)), (4, .int (iI ((n : Int) + 1)))] := lv_sub hl [1, 2, 0] rfl
    have hl := lv_cv (fun zZ : Int => [(0, .ref wy), (3, .int (iI to)), (4, .int (iI zZ))]) (show ((n : Int) + 1) = ((n + 1) : Int) from by first | rfl | omega | (simp; done) | (simp; omega)) hl
    have hl : lv_has ls 5 [(0, .ref wy), (3, .int (iI to)), (4, .int (iI ((n + 1) : Int)))] := hl
    exact ih_13 (n + 1, nxP w pp (nextM w kk (wyT w kk to tl) tl pp mm), nxT w mm (nextM w kk (wyT w kk to tl) tl pp mm)) _ _ _ (by first | omega | (dsimp only; omega)) ⟨hP, hD, hS, hl, hno.1, (by omega), hno.2.2.2, (by rw [hst, stepsM_n (by omega) (by omega)]; have e1 : 401 - n - 1 = 401 - (n + 1) := (by omega); rw [e1]; omega)⟩
set_option maxHeartbeats 2000000 in
theorem ct_X5_step {G : Gm} {l : Launch} (w : Wd) (z : Wx) (wy : Nat) (ya : Nat) (yb : Nat) (yl : Nat) (kk : Nat) (tl : Int) (yp : Int) (ym : Int) (to : Int) (gl : Nat → Int) (gm : Nat → Int) (fr : Int) (st : Int) (i : Int) (wl : va_W) (hW : WX G w z wl) (hk : (kk : Int) < wnW w) (hT : WyOk w (wyT w kk to tl) tl (-1) gl) (hM : MnOk w kk gm) (hfr : inP w fr) (hm : 0 ≤ st ∧ st ≤ tl ∧ tl ≤ 400) (hto : inP w to) (hN : ¬ wyT w kk to tl st fr = 1000000000000000000) (hi : 0 ≤ i ∧ i < (stepsM w kk (wyT w kk to tl) tl to 401 fr st : Nat)) : Ct G l yX5_step (ws_ yX5_step cX5_step 6 (some .int)) ({ frames := 3, cells := 0, slots := 0, locals := 76 } : Room) [.ref wy, .int (iI fr), .int (iI st), .int (iI i)] ([(wy, .inr (4, [.ref ya, .ref yb, .ref yl, .ref (z 0 0), .ref (z 5 kk), .int (iI tl), .int (iI yp), .int (iI ym)])), (ya, .inl (G.2.1 3, 3208, .inr (.inl (aL gl)))), (yb, .inl (G.2.1 3, 1440, .inr (.inl (aL gm))))] ++ wl) (fun (u : Int × Int) => match u with | (yp1, ym1) => True) (fun (u : Int × Int) => match u with | (yp1, ym1) => ((some (.int (iI (stepAt w kk (wyT w kk to tl) tl i.toNat fr st)))) : Option Value)) (fun (u : Int × Int) => match u with | (yp1, ym1) => (([(wy, .inr (4, [.ref ya, .ref yb, .ref yl, .ref (z 0 0), .ref (z 5 kk), .int (iI tl), .int (iI yp1), .int (iI ym1)])), (ya, .inl (G.2.1 3, 3208, .inr (.inl (aL gl)))), (yb, .inl (G.2.1 3, 1440, .inr (.inl (aL gm))))] ++ wl) : va_W)) := by
  refine Ct.of (by decide) rfl ?_
  intro pP eE sS mM below meth cC A ls Q F hE hA hP hD hS hl hQ
  have hl : lv_has ls 6 [(0, .ref wy), (1, .int (iI fr)), (2, .int (iI st)), (3, .int (iI i))] := hl
  have hok := hW.ok
  obtain ⟨wb0, wb1, wb2, wb3, wb4, wb5⟩ := hok.nums
  have hks := (hok.walker kk hk).1.speeds
  have hsi := stepsM_in 401 fr st (w := w) (kk := kk) (T := wyT w kk to tl) (tl := tl) (t := to)
  refine lv_aload_n F.1 F.2.1 dX5_step_0 rfl (lv_at hl 0 rfl) ?_
  refine lv_iload_n F.1 F.2.1 dX5_step_1 rfl (lv_at hl 1 rfl) ?_
  refine r_put F (ci := 4) (v := .int (iI fr)) b_X5 hE hP hD hS 0 rfl 6 (by decide) q304 (fun _ h9 => h9) rfl rfl rfl (Nat.le_of_ble_eq_true rfl) dX5_step_2 (fun H locs hP hD hS => ?_)
  have hP : va_P G.1 clG ([(wy, .inr (4, [.ref ya, .ref yb, .ref yl, .ref (z 0 0), .ref (z 5 kk), .int (iI tl), .int (iI fr), .int (iI ym)])), (ya, .inl (G.2.1 3, 3208, .inr (.inl (aL gl)))), (yb, .inl (G.2.1 3, 1440, .inr (.inl (aL gm))))] ++ wl) _ := hP
  have hD : va_D A ([(wy, .inr (4, [.ref ya, .ref yb, .ref yl, .ref (z 0 0), .ref (z 5 kk), .int (iI tl), .int (iI fr), .int (iI ym)])), (ya, .inl (G.2.1 3, 3208, .inr (.inl (aL gl)))), (yb, .inl (G.2.1 3, 1440, .inr (.inl (aL gm))))] ++ wl) := hD
  refine lv_aload_n F.1 F.2.1 dX5_step_5 rfl (lv_at hl 0 rfl) ?_
  refine lv_iload_n F.1 F.2.1 dX5_step_6 rfl (lv_at hl 2 rfl) ?_
  refine r_put F (ci := 4) (v := .int (iI st)) b_X5 hE hP hD hS 0 rfl 7 (by decide) q305 (fun _ h9 => h9) rfl rfl rfl (Nat.le_of_ble_eq_true rfl) dX5_step_7 (fun H locs hP hD hS => ?_)
  have hP : va_P G.1 clG ([(wy, .inr (4, [.ref ya, .ref yb, .ref yl, .ref (z 0 0), .ref (z 5 kk), .int (iI tl), .int (iI fr), .int (iI st)])), (ya, .inl (G.2.1 3, 3208, .inr (.inl (aL gl)))), (yb, .inl (G.2.1 3, 1440, .inr (.inl (aL gm))))] ++ wl) _ := hP
  have hD : va_D A ([(wy, .inr (4, [.ref ya, .ref yb, .ref yl, .ref (z 0 0), .ref (z 5 kk), .int (iI tl), .int (iI fr), .int (iI st)])), (ya, .inl (G.2.1 3, 3208, .inr (.inl (aL gl)))), (yb, .inl (G.2.1 3, 1440, .inr (.inl (aL gm))))] ++ wl) := hD
  refine lv_bipush (v := iI (-2)) F.1 F.2.1 dX5_step_10 (bip_ok (by decide)) ?_
  refine lv_istore (lv' := [(4, .int (iI (-2))), (0, .ref wy), (1, .int (iI fr)), (2, .int (iI st)), (3, .int (iI i))]) F.1 F.2.1 dX5_step_12 hl (Nat.le_of_ble_eq_true rfl) rfl (fun ls hl => ?_)
  refine lv_iconst (v := iI 0) F.1 F.2.1 dX5_step_14 rfl ?_
  refine lv_istore (lv' := [(5, .int (iI 0)), (4, .int (iI (-2))), (0, .ref wy), (1, .int (iI fr)), (2, .int (iI st)), (3, .int (iI i))]) F.1 F.2.1 dX5_step_15 hl (Nat.le_of_ble_eq_true rfl) rfl (fun ls hl => ?_)
  have hl : lv_has ls 6 [(0, .ref wy), (3, .int (iI i)), (4, .int (iI (-2))), (5, .int (iI 0))] := lv_sub hl [2, 5, 1, 0] rfl
  have hl := lv_cv (fun zZ : Int => [(0, .ref wy), (3, .int (iI i)), (4, .int (iI (-2))), (5, .int (iI zZ))]) (show 0 = (0 : Int) from by first | rfl | omega | (simp; done) | (simp; omega)) hl
  have hl : lv_has ls 6 [(0, .ref wy), (3, .int (iI i)), (4, .int (iI (-2))), (5, .int (iI (0 : Int)))] := hl
  refine lp_s (σ := Nat × Int × Int × Int) (hd := 17) (st := []) (fun x => match x with | (n, pp, mm, cc) => (402 - n)) (fun x H locs ls => match x with | (n, pp, mm, cc) => va_P G.1 clG ([(wy, .inr (4, [.ref ya, .ref yb, .ref yl, .ref (z 0 0), .ref (z 5 kk), .int (iI tl), .int (iI pp), .int (iI mm)])), (ya, .inl (G.2.1 3, 3208, .inr (.inl (aL gl)))), (yb, .inl (G.2.1 3, 1440, .inr (.inl (aL gm))))] ++ wl) H ∧ va_D A ([(wy, .inr (4, [.ref ya, .ref yb, .ref yl, .ref (z 0 0), .ref (z 5 kk), .int (iI tl), .int (iI pp), .int (iI mm)])), (ya, .inl (G.2.1 3, 3208, .inr (.inl (aL gl)))), (yb, .inl (G.2.1 3, 1440, .inr (.inl (aL gm))))] ++ wl) ∧ va_S A sS.heap H locs ∧ lv_has ls 6 [(0, .ref wy), (3, .int (iI i)), (4, .int (iI cc)), (5, .int (iI (n : Int)))] ∧ (inP w pp) ∧ ((n : Int) ≤ mm ∧ mm ≤ tl) ∧ (¬ wyT w kk to tl mm pp = 1000000000000000000) ∧ (stepsM w kk (wyT w kk to tl) tl to 401 fr st = n + stepsM w kk (wyT w kk to tl) tl to (401 - n) pp mm) ∧ ((n : Int) ≤ i + 1) ∧ ((n : Int) ≤ i → stepAt w kk (wyT w kk to tl) tl i.toNat fr st = stepAt w kk (wyT w kk to tl) tl (i.toNat - n) pp mm) ∧ ((n : Int) = i + 1 → cc = stepAt w kk (wyT w kk to tl) tl i.toNat fr st)) (fun x => match x with | (n, pp, mm, cc) => 0) (fun x => match x with | (n, pp, mm, cc) => 0) ?_ (0, fr, st, -2) _ _ _ ⟨hP, hD, hS, hl, (by omega), (by omega), (by omega), (Nat.zero_add _).symm, (by omega), (fun _ => rfl), (by omega)⟩
  rintro ⟨n, pp, mm, cc⟩ H locs ls ⟨hP, hD, hS, hl, hpp, hmm, hTm, hst, hni, hat, hcc⟩ ih_17
  refine lv_iload F.1 F.2.1 dX5_step_17 (lv_at hl 3 rfl) ?_
  refine lv_iload_n F.1 F.2.1 dX5_step_19 rfl (lv_at hl 1 rfl) ?_
  refine r_icmp_gt F (tgt := 35) (by omega) (by omega) dX5_step_20 (by decide) (fun c_1 => ?_) (fun c_1 => ?_)
  · refine lv_iload F.1 F.2.1 dX5_step_35 (lv_at hl 2 rfl) ?_
    exact rt_i F hQ hS (Nat.le_of_ble_eq_true rfl) (Nat.le_of_ble_eq_true rfl) (pp, mm) (congrArg (fun z => some (Value.int (iI z))) (show (stepAt w kk (wyT w kk to tl) tl i.toNat fr st) = cc from by rw [hcc (by omega)])) trivial hP hD dX5_step_37
  · have hnt : ¬ pp = to := fun q => by rw [stepsM_t q] at hst; omega
    have hno := next_ok hok (t := to) hk hpp (by omega) hnt hTm rfl
    refine lv_aload_n F.1 F.2.1 dX5_step_23 rfl (lv_at hl 0 rfl) ?_
    refine cl_V F (C := "RainWalk$Ways") (ct_X5_next w z wy ya yb yl kk tl pp mm to gl gm wl hW hk hT hM (by omega) (by omega)) hd_X5_next rfl q1284 q1286 qs42 q119 q1287 (va_recv hE.1 hP (ci := 4) (q0 := 0) rfl rfl) hE hP hD hS hA (X := [(wy, .inr (4, [.ref ya, .ref yb, .ref yl, .ref (z 0 0), .ref (z 5 kk), .int (iI tl), .int (iI pp), .int (iI mm)])), (ya, .inl (G.2.1 3, 3208, .inr (.inl (aL gl)))), (yb, .inl (G.2.1 3, 1440, .inr (.inl (aL gm))))]) (pl := wl) (cx := [(wy, .inr (4, [.ref ya, .ref yb, .ref yl, .ref (z 0 0), .ref (z 5 kk), .int (iI tl), .int (iI pp), .int (iI mm)])), (ya, .inl (G.2.1 3, 3208, .inr (.inl (aL gl)))), (yb, .inl (G.2.1 3, 1440, .inr (.inl (aL gm))))]) (wr := []) [0, 1, 2] [] rfl rfl rfl rfl (by decide) rfl rfl rfl (Nat.le_of_ble_eq_true rfl) hl.1 dX5_step_24 ⟨Nat.le_of_ble_eq_true rfl, Nat.le_of_ble_eq_true rfl⟩ ⟨Nat.le_of_ble_eq_true rfl, Nat.le_of_ble_eq_true rfl⟩ (fun _ H locs _ hP hD hS => ?_)
    have hP : va_P G.1 clG ([(wy, .inr (4, [.ref ya, .ref yb, .ref yl, .ref (z 0 0), .ref (z 5 kk), .int (iI tl), .int (iI (nxP w pp (nextM w kk (wyT w kk to tl) tl pp mm))), .int (iI (nxT w mm (nextM w kk (wyT w kk to tl) tl pp mm)))])), (ya, .inl (G.2.1 3, 3208, .inr (.inl (aL gl)))), (yb, .inl (G.2.1 3, 1440, .inr (.inl (aL gm))))] ++ wl) _ := hP
    have hD : va_D A ([(wy, .inr (4, [.ref ya, .ref yb, .ref yl, .ref (z 0 0), .ref (z 5 kk), .int (iI tl), .int (iI (nxP w pp (nextM w kk (wyT w kk to tl) tl pp mm))), .int (iI (nxT w mm (nextM w kk (wyT w kk to tl) tl pp mm)))])), (ya, .inl (G.2.1 3, 3208, .inr (.inl (aL gl)))), (yb, .inl (G.2.1 3, 1440, .inr (.inl (aL gm))))] ++ wl) := hD
    refine W.eq (g2 := F0 mM 27 ls [.int (iI (nextM w kk (wyT w kk to tl) tl pp mm))]) rfl ?_
    refine lv_istore (lv' := [(4, .int (iI (nextM w kk (wyT w kk to tl) tl pp mm))), (0, .ref wy), (3, .int (iI i)), (5, .int (iI (n : Int)))]) F.1 F.2.1 dX5_step_27 hl (Nat.le_of_ble_eq_true rfl) rfl (fun ls hl => ?_)
    refine lv_iinc (v := iI ((n : Int) + 1)) (lv' := [(5, .int (iI ((n : Int) + 1))), (4, .int (iI (nextM w kk (wyT w kk to tl) tl pp mm))), (0, .ref wy), (3, .int (iI i))]) (k := 3) F.1 F.2.1 dX5_step_29 hl rfl (iI_add _ _) (Nat.le_of_ble_eq_true rfl) rfl (fun ls hl => ?_)
    refine lv_goto (tgt := 17) F.1 F.2.1 dX5_step_32 (by decide) ?_
    have hl : lv_has ls 6 [(0, .ref wy), (3, .int (iI i)), (4, .int (iI (nextM w kk (wyT w kk to tl) tl pp mm))), (5, .int (iI ((n : Int) + 1)))] := lv_sub hl [2, 3, 1, 0] rfl
    have hl := lv_cv (fun zZ : Int => [(0, .ref wy), (3, .int (iI i)), (4, .int (iI (nextM w kk (wyT w kk to tl) tl pp mm))), (5, .int (iI zZ))]) (show ((n : Int) + 1) = ((n + 1) : Int) from by first | rfl | omega | (simp; done) | (simp; omega)) hl
    have hl : lv_has ls 6 [(0, .ref wy), (3, .int (iI i)), (4, .int (iI (nextM w kk (wyT w kk to tl) tl pp mm))), (5, .int (iI ((n + 1) : Int)))] := hl
    exact ih_17 (n + 1, nxP w pp (nextM w kk (wyT w kk to tl) tl pp mm), nxT w mm (nextM w kk (wyT w kk to tl) tl pp mm), nextM w kk (wyT w kk to tl) tl pp mm) _ _ _ (by first | omega | (dsimp only; omega)) ⟨hP, hD, hS, hl, hno.1, (by omega), hno.2.2.2, (by rw [hst, stepsM_n hnt (by omega)]; have e1 : 401 - n - 1 = 401 - (n + 1) := (by omega); rw [e1]; omega), (by omega), (fun q => by rw [hat (by omega), stepAt_n (by omega)]; have e1 : i.toNat - n - 1 = i.toNat - (n + 1) := (by omega); rw [e1]), (fun q => by rw [hat (by omega), show i.toNat - n = 0 by omega]; rfl)⟩
