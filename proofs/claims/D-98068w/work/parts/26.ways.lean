/-! Ways: the least ways from all places, minute by minute -/
set_option maxRecDepth 100000
/-- what a leg begun in a minute is likely to bring, in hundredths -/
def legC (w : Wd) (kk : Nat) (mi : Int) (r : Nat) (y v : Int) : Int := if mi / wHour w < wnH w then wWet w kk r y (mi / wHour w).toNat v * wCh w (mi / wHour w).toNat else 0
def legV (w : Wd) (kk : Nat) (T : Int → Int → Int) (tl p mi : Int) (r : Nat) (y v : Int) : Int := if goBeg w r y = p ∧ mi + goMin w r v ≤ tl ∧ ¬ T (mi + goMin w r v) (goEnd w r y) = 1000000000000000000 then T (mi + goMin w r v) (goEnd w r y) + 1000 * legC w kk mi r y v else 1000000000000000000
def waitC (w : Wd) (kk : Nat) (mi p : Int) : Int := if mi / wHour w < wnH w then wCh w (mi / wHour w).toNat * 2520 * wDrip w p.toNat * wTopL w kk else 0
def waitV (w : Wd) (kk : Nat) (T : Int → Int → Int) (tl p mi : Int) : Int := if wShel w p.toNat ∧ ¬ mi = tl ∧ ¬ T (mi + 1) p = 1000000000000000000 then T (mi + 1) p + 1000 * waitC w kk mi p else 1000000000000000000
def lgV (w : Wd) (kk : Nat) (T : Int → Int → Int) (tl p mi : Int) (r : Nat) (y : Int) (c : Int) : Nat → Int
  | 0 => c
  | n + 1 => min (lgV w kk T tl p mi r y c n) (legV w kk T tl p mi r y (wSl w kk + n))
def lgY (w : Wd) (kk : Nat) (T : Int → Int → Int) (tl p mi : Int) (r : Nat) (c : Int) : Nat → Int
  | 0 => c
  | n + 1 => lgV w kk T tl p mi r n (lgY w kk T tl p mi r c n) (wN w kk)
def lgR (w : Wd) (kk : Nat) (T : Int → Int → Int) (tl p mi : Int) (c : Int) : Nat → Int
  | 0 => c
  | n + 1 => lgY w kk T tl p mi n (lgR w kk T tl p mi c n) 2
def bestV (w : Wd) (kk : Nat) (T : Int → Int → Int) (tl p mi : Int) : Int := lgR w kk T tl p mi (waitV w kk T tl p mi) (wnR w).toNat
/-- a way's worth keeps in bounds -/
def bndV (B x : Int) : Prop := x = 1000000000000000000 ∨ (0 ≤ x ∧ x ≤ B)
/-- the rows behind a minute are in the array -/
def WyOk (w : Wd) (T : Int → Int → Int) (tl m : Int) (g : Nat → Int) : Prop := ∀ q j : Int, 0 ≤ q → q < wnP w → m < j → j ≤ tl → g (401 * q + j).toNat = T j q
def WyB (w : Wd) (T : Int → Int → Int) (tl m : Int) : Prop := ∀ q j : Int, 0 ≤ q → q < wnP w → m < j → j ≤ tl → bndV (1000 + 1873821600000000 * (tl - j)) (T j q)
def MnOk (w : Wd) (kk : Nat) (g : Nat → Int) : Prop := ∀ r y h v : Int, 0 ≤ r → r < wnR w → 0 ≤ y → y ≤ 1 → 0 ≤ h → h < wnH w → wSl w kk ≤ v → v ≤ wFa w kk → g (((2 * r + y) * 6 + h) * 10 + v).toNat = wWet w kk r.toNat y h.toNat v * wCh w h.toNat
theorem goBeg_in {w : Wd} (hw : WdOk w) {r : Nat} {y : Int} (hr : (r : Int) < wnR w) : (0 ≤ goBeg w r y ∧ goBeg w r y < wnP w) ∧ 0 ≤ goEnd w r y ∧ goEnd w r y < wnP w := by
  obtain ⟨-, d2, d3, -⟩ := hw.road r hr
  unfold goBeg goEnd
  split <;> omega
theorem goMin_1 {w : Wd} (hw : WdOk w) {r : Nat} {v : Int} (hr : (r : Int) < wnR w) (hv : 1 ≤ v ∧ v ≤ 9) : 1 ≤ goMin w r v ∧ goMin w r v ≤ 68 := by
  obtain ⟨d1, d2, d3⟩ := (hw.road r hr).1
  have a1 := (Int.le_ediv_iff_mul_le (show 0 < v by omega)).mpr (show 1 * v ≤ wLe w r + v - 1 by omega)
  have a2 := goMin_in hw hr hv
  unfold goMin
  unfold goMin at a2
  omega
theorem legC_in {w : Wd} (hw : WdOk w) {kk r : Nat} {mi y v : Int} (hk : (kk : Int) < wnW w) (hr : (r : Int) < wnR w) (hm : 0 ≤ mi) (hv : 1 ≤ v ∧ v ≤ 9) : 0 ≤ legC w kk mi r y v ∧ legC w kk mi r y v ≤ 1873821600000 := by
  have d0 := Int.ediv_nonneg hm (show 0 ≤ wHour w by have := hw.nums.1; omega)
  unfold legC
  by_cases q : mi / wHour w < wnH w
  · rw [if_pos q]
    have h1 := wWet_in hw (k := kk) (r := r) (h := (mi / wHour w).toNat) (y := y) (v := v) hk hr (by omega) hv
    have h2 := (hw.rain (mi / wHour w).toNat (by omega)).2.2.2.2
    have := mulR h1 h2
    omega
  · rw [if_neg q]
    omega
theorem waitC_in {w : Wd} (hw : WdOk w) {kk : Nat} {mi p : Int} (hk : (kk : Int) < wnW w) (hp : 0 ≤ p ∧ p < wnP w) (hm : 0 ≤ mi) : 0 ≤ waitC w kk mi p ∧ waitC w kk mi p ≤ 347004000 := by
  have d0 := Int.ediv_nonneg hm (show 0 ≤ wHour w by have := hw.nums.1; omega)
  unfold waitC
  by_cases q : mi / wHour w < wnH w
  · rw [if_pos q]
    have h2 := (hw.rain (mi / wHour w).toNat (by omega)).2.2.2.2
    have h3 := wDrip_in hw (p := p.toNat) (by omega)
    have h4 : 0 ≤ wTopL w kk ∧ wTopL w kk ≤ 153 := (hw.walker kk hk).1.tops.2.2.2.1
    have a1 := mulR (a := wCh w (mi / wHour w).toNat * 2520) (A := 252000) (by omega) h3
    have a2 := mulR a1 h4
    omega
  · rw [if_neg q]
    omega
theorem legV_in {w : Wd} (hw : WdOk w) {kk r : Nat} {T : Int → Int → Int} {tl p mi y v : Int} (hB : WyB w T tl mi) (hk : (kk : Int) < wnW w) (hr : (r : Int) < wnR w) (hm : 0 ≤ mi) (hv : 1 ≤ v ∧ v ≤ 9) : bndV (1000 + 1873821600000000 * (tl - mi)) (legV w kk T tl p mi r y v) := by
  have h1 := goMin_1 hw hr hv
  have h2 := goBeg_in hw (y := y) hr
  have h3 := legC_in hw (y := y) hk hr hm hv
  unfold legV
  by_cases q : goBeg w r y = p ∧ mi + goMin w r v ≤ tl ∧ ¬ T (mi + goMin w r v) (goEnd w r y) = 1000000000000000000
  · rw [if_pos q]
    have h4 := (hB (goEnd w r y) (mi + goMin w r v) (by omega) (by omega) (by omega) (by omega)).resolve_left q.2.2
    exact Or.inr ⟨by omega, by omega⟩
  · rw [if_neg q]
    exact Or.inl rfl
theorem waitV_in {w : Wd} (hw : WdOk w) {kk : Nat} {T : Int → Int → Int} {tl p mi : Int} (hB : WyB w T tl mi) (hk : (kk : Int) < wnW w) (hp : 0 ≤ p ∧ p < wnP w) (hm : 0 ≤ mi ∧ mi ≤ tl) : bndV (1000 + 1873821600000000 * (tl - mi)) (waitV w kk T tl p mi) := by
  have h3 := waitC_in hw hk hp hm.1
  unfold waitV
  by_cases q : wShel w p.toNat ∧ ¬ mi = tl ∧ ¬ T (mi + 1) p = 1000000000000000000
  · rw [if_pos q]
    have h4 := (hB p (mi + 1) (by omega) (by omega) (by omega) (by omega)).resolve_left q.2.2
    exact Or.inr ⟨by omega, by omega⟩
  · rw [if_neg q]
    exact Or.inl rfl
theorem bndV_min {B x y : Int} (hB : B ≤ 1000000000000000000) (hx : bndV B x) (hy : bndV B y) : bndV B (min x y) := by
  unfold bndV at *
  omega
theorem lgV_in {w : Wd} (hw : WdOk w) {kk r : Nat} {T : Int → Int → Int} {tl p mi y c : Int} (hB : WyB w T tl mi) (hk : (kk : Int) < wnW w) (hr : (r : Int) < wnR w) (hm : 0 ≤ mi ∧ mi ≤ tl ∧ tl ≤ 400) (hc : bndV (1000 + 1873821600000000 * (tl - mi)) c) : ∀ n : Nat, n ≤ wN w kk → bndV (1000 + 1873821600000000 * (tl - mi)) (lgV w kk T tl p mi r y c n)
  | 0, _ => hc
  | n + 1, hn => by
    have hs := (hw.walker kk hk).1.speeds
    have hN : (wN w kk : Int) = wFa w kk - wSl w kk + 1 := by
      show ((wFa w kk - wSl w kk + 1).toNat : Int) = _
      omega
    exact bndV_min (by omega) (lgV_in hw hB hk hr hm hc n (by omega)) (legV_in hw hB hk hr hm.1 (by omega))
theorem lgY_in {w : Wd} (hw : WdOk w) {kk r : Nat} {T : Int → Int → Int} {tl p mi c : Int} (hB : WyB w T tl mi) (hk : (kk : Int) < wnW w) (hr : (r : Int) < wnR w) (hm : 0 ≤ mi ∧ mi ≤ tl ∧ tl ≤ 400) (hc : bndV (1000 + 1873821600000000 * (tl - mi)) c) : ∀ n : Nat, bndV (1000 + 1873821600000000 * (tl - mi)) (lgY w kk T tl p mi r c n)
  | 0 => hc
  | n + 1 => lgV_in hw hB hk hr hm (lgY_in hw hB hk hr hm hc n) _ (Nat.le_refl _)
theorem lgR_in {w : Wd} (hw : WdOk w) {kk : Nat} {T : Int → Int → Int} {tl p mi c : Int} (hB : WyB w T tl mi) (hk : (kk : Int) < wnW w) (hm : 0 ≤ mi ∧ mi ≤ tl ∧ tl ≤ 400) (hc : bndV (1000 + 1873821600000000 * (tl - mi)) c) : ∀ n : Nat, (n : Int) ≤ wnR w → bndV (1000 + 1873821600000000 * (tl - mi)) (lgR w kk T tl p mi c n)
  | 0, _ => hc
  | n + 1, hn => lgY_in hw hB hk (by omega) hm (lgR_in hw hB hk hm hc n (by omega)) 2
theorem bestV_in {w : Wd} (hw : WdOk w) {kk : Nat} {T : Int → Int → Int} {tl p mi : Int} (hB : WyB w T tl mi) (hk : (kk : Int) < wnW w) (hp : 0 ≤ p ∧ p < wnP w) (hm : 0 ≤ mi ∧ mi ≤ tl ∧ tl ≤ 400) : bndV (1000 + 1873821600000000 * (tl - mi)) (bestV w kk T tl p mi) := by
  have := hw.nums
  exact lgR_in hw hB hk hm (waitV_in hw hB hk hp (by omega)) _ (by omega)
/-- the table, row by row from the last minute back -/
def wyL (w : Wd) (kk : Nat) (t tl : Int) : Nat → Int → Int → Int
  | 0 => fun _ _ => 0
  | n + 1 => fun j q => if j = tl - n then (if q = t then j else bestV w kk (wyL w kk t tl n) tl q j) else wyL w kk t tl n j q
def wyT (w : Wd) (kk : Nat) (t tl : Int) : Int → Int → Int := wyL w kk t tl (tl + 1).toNat
theorem wyL_B {w : Wd} (hw : WdOk w) {kk : Nat} {t tl : Int} (hk : (kk : Int) < wnW w) (ht : 0 ≤ tl ∧ tl ≤ 400) : ∀ n : Nat, (n : Int) ≤ tl + 1 → WyB w (wyL w kk t tl n) tl (tl - n)
  | 0, _ => fun q j _ _ h3 h4 => by omega
  | n + 1, hn => fun q j h1 h2 h3 h4 => by
    show bndV _ (if j = tl - n then (if q = t then j else bestV w kk (wyL w kk t tl n) tl q j) else wyL w kk t tl n j q)
    by_cases e : j = tl - n
    · rw [if_pos e]
      by_cases e2 : q = t
      · rw [if_pos e2]
        exact Or.inr ⟨by omega, by omega⟩
      · rw [if_neg e2]
        subst e
        exact bestV_in hw (wyL_B hw hk ht n (by omega)) hk ⟨h1, h2⟩ (by omega)
    · rw [if_neg e]
      exact wyL_B hw hk ht n (by omega) q j h1 h2 (by omega) h4
theorem wyL_up {w : Wd} {kk : Nat} {t tl : Int} {n : Nat} {j q : Int} (h : tl - n < j) : ∀ d : Nat, wyL w kk t tl (n + d) j q = wyL w kk t tl n j q
  | 0 => rfl
  | d + 1 => by
    show (if j = tl - ((n + d : Nat) : Int) then _ else wyL w kk t tl (n + d) j q) = _
    rw [if_neg (by omega)]
    exact wyL_up h d
theorem wyL_T {w : Wd} {kk : Nat} {t tl : Int} {n : Nat} {j q : Int} (h : tl - n < j) (hn : (n : Int) ≤ tl + 1) : wyT w kk t tl j q = wyL w kk t tl n j q := by
  unfold wyT
  obtain ⟨d, hd⟩ : ∃ d, (tl + 1).toNat = n + d := ⟨(tl + 1).toNat - n, by omega⟩
  rw [hd]
  exact wyL_up h d
theorem legV_eq {w : Wd} (hw : WdOk w) {kk r : Nat} {T S : Int → Int → Int} {tl p mi y v : Int} (hTS : ∀ q j : Int, 0 ≤ q → q < wnP w → mi < j → j ≤ tl → T j q = S j q) (hr : (r : Int) < wnR w) (hv : 1 ≤ v ∧ v ≤ 9) : legV w kk T tl p mi r y v = legV w kk S tl p mi r y v := by
  have h1 := goMin_1 hw hr hv
  have h2 := goBeg_in hw (y := y) hr
  unfold legV
  by_cases q : mi + goMin w r v ≤ tl
  · rw [hTS (goEnd w r y) (mi + goMin w r v) (by omega) (by omega) (by omega) q]
  · rw [if_neg (fun z => q z.2.1), if_neg (fun z => q z.2.1)]
theorem waitV_eq {w : Wd} {kk : Nat} {T S : Int → Int → Int} {tl p mi : Int} (hTS : ∀ q j : Int, 0 ≤ q → q < wnP w → mi < j → j ≤ tl → T j q = S j q) (hp : 0 ≤ p ∧ p < wnP w) (hm : mi ≤ tl) : waitV w kk T tl p mi = waitV w kk S tl p mi := by
  unfold waitV
  by_cases q : mi = tl
  · rw [if_neg (fun z => z.2.1 q), if_neg (fun z => z.2.1 q)]
  · rw [hTS p (mi + 1) (by omega) (by omega) (by omega) (by omega)]
theorem lgV_eq {w : Wd} (hw : WdOk w) {kk r : Nat} {T S : Int → Int → Int} {tl p mi y c : Int} (hTS : ∀ q j : Int, 0 ≤ q → q < wnP w → mi < j → j ≤ tl → T j q = S j q) (hk : (kk : Int) < wnW w) (hr : (r : Int) < wnR w) : ∀ n : Nat, n ≤ wN w kk → lgV w kk T tl p mi r y c n = lgV w kk S tl p mi r y c n
  | 0, _ => rfl
  | n + 1, hn => by
    have hs := (hw.walker kk hk).1.speeds
    have hN : (wN w kk : Int) = wFa w kk - wSl w kk + 1 := by
      show ((wFa w kk - wSl w kk + 1).toNat : Int) = _
      omega
    show min (lgV w kk T tl p mi r y c n) _ = min (lgV w kk S tl p mi r y c n) _
    rw [lgV_eq hw hTS hk hr n (by omega), legV_eq hw hTS hr (by omega)]
theorem lgY_eq {w : Wd} (hw : WdOk w) {kk r : Nat} {T S : Int → Int → Int} {tl p mi c : Int} (hTS : ∀ q j : Int, 0 ≤ q → q < wnP w → mi < j → j ≤ tl → T j q = S j q) (hk : (kk : Int) < wnW w) (hr : (r : Int) < wnR w) : ∀ n : Nat, lgY w kk T tl p mi r c n = lgY w kk S tl p mi r c n
  | 0 => rfl
  | n + 1 => by
    show lgV w kk T tl p mi r n (lgY w kk T tl p mi r c n) (wN w kk) = lgV w kk S tl p mi r n (lgY w kk S tl p mi r c n) (wN w kk)
    rw [lgY_eq hw hTS hk hr n, lgV_eq hw hTS hk hr _ (Nat.le_refl _)]
theorem lgR_eq {w : Wd} (hw : WdOk w) {kk : Nat} {T S : Int → Int → Int} {tl p mi c : Int} (hTS : ∀ q j : Int, 0 ≤ q → q < wnP w → mi < j → j ≤ tl → T j q = S j q) (hk : (kk : Int) < wnW w) : ∀ n : Nat, (n : Int) ≤ wnR w → lgR w kk T tl p mi c n = lgR w kk S tl p mi c n
  | 0, _ => rfl
  | n + 1, hn => by
    show lgY w kk T tl p mi n (lgR w kk T tl p mi c n) 2 = lgY w kk S tl p mi n (lgR w kk S tl p mi c n) 2
    rw [lgR_eq hw hTS hk n (by omega), lgY_eq hw hTS hk (by omega)]
theorem bestV_eq {w : Wd} (hw : WdOk w) {kk : Nat} {T S : Int → Int → Int} {tl p mi : Int} (hTS : ∀ q j : Int, 0 ≤ q → q < wnP w → mi < j → j ≤ tl → T j q = S j q) (hk : (kk : Int) < wnW w) (hp : 0 ≤ p ∧ p < wnP w) (hm : mi ≤ tl) : bestV w kk T tl p mi = bestV w kk S tl p mi := by
  have := hw.nums
  unfold bestV
  rw [waitV_eq hTS hp hm, lgR_eq hw hTS hk _ (by omega)]
/-- the table answers its own row -/
theorem wyT_eq {w : Wd} (hw : WdOk w) {kk : Nat} {t tl j q : Int} (hk : (kk : Int) < wnW w) (hq : 0 ≤ q ∧ q < wnP w) (hj : 0 ≤ j ∧ j ≤ tl) : wyT w kk t tl j q = if q = t then j else bestV w kk (wyT w kk t tl) tl q j := by
  have e1 : wyT w kk t tl j q = wyL w kk t tl ((tl - j).toNat + 1) j q := wyL_T (by omega) (by omega)
  rw [e1]
  show (if j = tl - ((tl - j).toNat : Int) then _ else _) = _
  rw [if_pos (by omega)]
  by_cases e : q = t
  · rw [if_pos e, if_pos e]
  · rw [if_neg e, if_neg e]
    exact bestV_eq hw (fun q2 j2 _ _ h3 _ => (wyL_T (by omega) (by omega)).symm) hk hq hj.2
theorem wyT_B {w : Wd} (hw : WdOk w) {kk : Nat} {t tl : Int} (hk : (kk : Int) < wnW w) (ht : 0 ≤ tl ∧ tl ≤ 400) : WyB w (wyT w kk t tl) tl (-1) := by
  have h := wyL_B hw (t := t) hk ht (tl + 1).toNat (by omega)
  intro q j h1 h2 h3 h4
  exact h q j h1 h2 (by omega) h4
theorem legC_0 {w : Wd} {kk : Nat} {mi : Int} {r : Nat} {y v : Int} (h : ¬ mi / wHour w < wnH w) : 1000 * legC w kk mi r y v = 0 := by
  unfold legC
  rw [if_neg h]
  rfl
theorem legC_1 {w : Wd} {kk : Nat} {mi hh : Int} {r : Nat} {y v : Int} (h : mi / wHour w < wnH w) (e : hh = mi / wHour w) : 1000 * legC w kk mi r y v = 1000 * (wWet w kk r y hh.toNat v * wCh w hh.toNat) := by
  subst e
  unfold legC
  rw [if_pos h]
theorem waitC_0 {w : Wd} {kk : Nat} {mi p : Int} (h : ¬ mi / wHour w < wnH w) : 1000 * waitC w kk mi p = 0 := by
  unfold waitC
  rw [if_neg h]
  rfl
theorem waitC_1 {w : Wd} {kk : Nat} {mi hh p : Int} (h : mi / wHour w < wnH w) (e : hh = mi / wHour w) : 1000 * waitC w kk mi p = 1000 * wCh w hh.toNat * 2520 * wDrip w p.toNat * wTopL w kk := by
  subst e
  unfold waitC
  rw [if_pos h]
  simp only [Int.mul_assoc]
theorem WyOk.up {w : Wd} {T : Int → Int → Int} {tl a b : Int} {g : Nat → Int} (h : WyOk w T tl a g) (hab : a ≤ b) : WyOk w T tl b g := fun q j h1 h2 h3 h4 => h q j h1 h2 (by omega) h4
theorem WyB.up {w : Wd} {T : Int → Int → Int} {tl a b : Int} (h : WyB w T tl a) (hab : a ≤ b) : WyB w T tl b := fun q j h1 h2 h3 h4 => h q j h1 h2 (by omega) h4
/-- what the means' array holds at a place -/
def mnV (w : Wd) (kk i : Nat) : Int := wWet w kk (i / 120) ((i / 60 % 2 : Nat) : Int) (i / 10 % 6) ((i % 10 : Nat) : Int) * wCh w (i / 10 % 6)
def mnH (w : Wd) (kk : Nat) (r y h : Int) (n : Nat) (g : Nat → Int) : Nat → Int := fun i => if ((i / 10 : Nat) : Int) = (2 * r + y) * 6 + h ∧ wSl w kk ≤ ((i % 10 : Nat) : Int) ∧ ((i % 10 : Nat) : Int) < wSl w kk + n then mnV w kk i else g i
theorem mnH_0 {w : Wd} {kk : Nat} {r y h : Int} {g : Nat → Int} (i : Nat) : g i = mnH w kk r y h 0 g i := by
  unfold mnH
  rw [if_neg (by omega)]
theorem mnH_up {w : Wd} {kk : Nat} {r y h : Int} {n : Nat} {g : Nat → Int} (hr : 0 ≤ r) (hy : 0 ≤ y ∧ y ≤ 1) (hh : 0 ≤ h ∧ h < 6) (hs : 1 ≤ wSl w kk) (hn : wSl w kk + n ≤ 9) (i : Nat) : up (mnH w kk r y h n g) (((2 * r + y) * 6 + h) * 10 + (wSl w kk + n)).toNat (wWet w kk r.toNat y h.toNat (wSl w kk + n) * wCh w h.toNat) i = mnH w kk r y h (n + 1) g i := by
  by_cases e : i = (((2 * r + y) * 6 + h) * 10 + (wSl w kk + n)).toNat
  · have e1 : i / 120 = r.toNat := by omega
    have e2 : ((i / 60 % 2 : Nat) : Int) = y := by omega
    have e3 : i / 10 % 6 = h.toNat := by omega
    have e4 : ((i % 10 : Nat) : Int) = wSl w kk + n := by omega
    have e5 : ((i / 10 : Nat) : Int) = (2 * r + y) * 6 + h := by omega
    rw [← e, up_s]
    unfold mnH mnV
    rw [if_pos (by omega), e1, e2, e3, e4]
  · rw [up_n e]
    unfold mnH
    by_cases q : ((i / 10 : Nat) : Int) = (2 * r + y) * 6 + h ∧ wSl w kk ≤ ((i % 10 : Nat) : Int) ∧ ((i % 10 : Nat) : Int) < wSl w kk + n
    · rw [if_pos q, if_pos (by omega)]
    · rw [if_neg q, if_neg (by omega)]
/-- the means' array when r roads and c of the next one's are laid -/
def mnG (w : Wd) (kk r c : Nat) (g : Nat → Int) : Nat → Int := fun i => if (i / 120 < r ∨ (i / 120 = r ∧ 2 * (i / 10 % 6) + i / 60 % 2 < c)) ∧ 2 * ((i / 10 % 6 : Nat) : Int) + ((i / 60 % 2 : Nat) : Int) < 2 * wnH w ∧ wSl w kk ≤ ((i % 10 : Nat) : Int) ∧ ((i % 10 : Nat) : Int) ≤ wFa w kk then mnV w kk i else g i
theorem mnG_0 {w : Wd} {kk : Nat} {g : Nat → Int} (i : Nat) : g i = mnG w kk 0 0 g i := by
  unfold mnG
  rw [if_neg (by omega)]
theorem mnG_r {w : Wd} {kk r c : Nat} {g : Nat → Int} (hc : (c : Int) = 2 * wnH w) (i : Nat) : mnG w kk r c g i = mnG w kk (r + 1) 0 g i := by
  unfold mnG
  by_cases q : (i / 120 < r ∨ (i / 120 = r ∧ 2 * (i / 10 % 6) + i / 60 % 2 < c)) ∧ 2 * ((i / 10 % 6 : Nat) : Int) + ((i / 60 % 2 : Nat) : Int) < 2 * wnH w ∧ wSl w kk ≤ ((i % 10 : Nat) : Int) ∧ ((i % 10 : Nat) : Int) ≤ wFa w kk
  · rw [if_pos q, if_pos (by omega)]
  · rw [if_neg q, if_neg (by omega)]
theorem dvd6 {a b h x : Int} (e : 6 * a + h = 6 * b + x) (hh : 0 ≤ h ∧ h < 6) (hx : 0 ≤ x ∧ x < 6) : h = x := by
  have h1 : (6 * a + h) % 6 = h := by omega
  have h2 : (6 * b + x) % 6 = x := by omega
  rw [← h1, e, h2]
theorem dvd2 {a b h x : Int} (e : 2 * a + h = 2 * b + x) (hh : 0 ≤ h ∧ h < 2) (hx : 0 ≤ x ∧ x < 2) : h = x := by
  have h1 : (2 * a + h) % 2 = h := by omega
  have h2 : (2 * b + x) % 2 = x := by omega
  rw [← h1, e, h2]
theorem mnG_c {w : Wd} {kk r c n : Nat} {g : Nat → Int} (hc : (c : Int) < 2 * wnH w) (hH : wnH w ≤ 6) (hs : 1 ≤ wSl w kk ∧ wSl w kk ≤ wFa w kk) (hn : wSl w kk + n = wFa w kk + 1) (i : Nat) : mnH w kk (r : Int) ((c : Int) % 2) ((c : Int) / 2) n (mnG w kk r c g) i = mnG w kk r (c + 1) g i := by
  have e10 : i / 10 = 12 * (i / 120) + 6 * (i / 60 % 2) + i / 10 % 6 := by omega
  have b1 : i / 60 % 2 < 2 := Nat.mod_lt _ (by decide)
  have b2 : i / 10 % 6 < 6 := Nat.mod_lt _ (by decide)
  have c1 : ∃ x : Nat, ((c : Int) / 2 = (x : Int)) ∧ ((c : Int) % 2 = (c : Int) - 2 * x) ∧ 2 * x ≤ c ∧ c ≤ 2 * x + 1 := ⟨c / 2, by omega, by omega, by omega, by omega⟩
  obtain ⟨x, x1, x2, x3, x4⟩ := c1
  rw [x1, x2]
  unfold mnH mnG
  rw [e10]
  have hm : (12 * (i / 120) + 6 * (i / 60 % 2) + i / 10 % 6) % 6 = i / 10 % 6 := by omega
  rw [hm]
  generalize i / 10 % 6 = H at *
  generalize i / 60 % 2 = Y at *
  generalize i / 120 = R at *
  generalize i % 10 = V at *
  by_cases q : ((12 * R + 6 * Y + H : Nat) : Int) = (2 * (r : Int) + ((c : Int) - 2 * x)) * 6 + (x : Int) ∧ wSl w kk ≤ (V : Int) ∧ (V : Int) < wSl w kk + n
  · have hx6 : (x : Int) < 6 := by omega
    have u1 : (H : Int) = x := dvd6 (a := 2 * R + Y) (b := 2 * r + ((c : Int) - 2 * x)) (by omega) (by omega) (by omega)
    have u2 : (Y : Int) = (c : Int) - 2 * x := dvd2 (a := R) (b := r) (by omega) (by omega) (by omega)
    rw [if_pos q, if_pos (by omega)]
  · rw [if_neg q]
    by_cases q2 : (R < r ∨ (R = r ∧ 2 * H + Y < c)) ∧ 2 * (H : Int) + (Y : Int) < 2 * wnH w ∧ wSl w kk ≤ (V : Int) ∧ (V : Int) ≤ wFa w kk
    · rw [if_pos q2, if_pos (by omega)]
    · rw [if_neg q2]
      by_cases q3 : R = r ∧ 2 * H + Y = c
      · have u2 : (Y : Int) = (c : Int) - 2 * x := dvd2 (a := H) (b := x) (by omega) (by omega) (by omega)
        rw [if_neg (by omega)]
      · rw [if_neg (by omega)]
theorem mnG_ok {w : Wd} {kk : Nat} {g : Nat → Int} {c : Nat} (hH : 0 ≤ wnH w ∧ wnH w ≤ 6) (hs : 1 ≤ wSl w kk ∧ wFa w kk ≤ 9) : MnOk w kk (mnG w kk (wnR w).toNat c g) := by
  intro r y h v r0 r1 y0 y1 h0 h1 v0 v1
  have e : (((2 * r + y) * 6 + h) * 10 + v).toNat / 120 = r.toNat := by omega
  have e2 : (((((2 * r + y) * 6 + h) * 10 + v).toNat / 60 % 2 : Nat) : Int) = y := by omega
  have e3 : (((2 * r + y) * 6 + h) * 10 + v).toNat / 10 % 6 = h.toNat := by omega
  have e4 : (((((2 * r + y) * 6 + h) * 10 + v).toNat % 10 : Nat) : Int) = v := by omega
  unfold mnG mnV
  rw [e, e2, e3, e4, if_pos ⟨Or.inl (by omega), by omega, by omega, by omega⟩]
set_option maxHeartbeats 1000000 in
theorem ct_X5_at {G : Gm} {l : Launch} (p : Int) (m : Int) (wl : va_W) : Ct G l yX5_at (ws_ yX5_at cX5_at 2 (some .int)) ({ frames := 0, cells := 0, slots := 0, locals := 0 } : Room) [.int (iI p), .int (iI m)] ([] ++ wl) (fun _ : Unit => True) (fun _ : Unit => ((some (.int (iI (401 * p + m)))) : Option Value)) (fun _ : Unit => (([] ++ wl) : va_W)) := by
  refine Ct.of (by decide) rfl ?_
  intro pP eE sS mM below meth cC A ls Q F hE hA hP hD hS hl hQ
  have hl : lv_has ls 2 [(0, .int (iI p)), (1, .int (iI m))] := hl
  refine lv_sipush (v := iI 401) F.1 F.2.1 dX5_at_0 (sip_ok (by decide)) ?_
  refine lv_iload_n F.1 F.2.1 dX5_at_3 rfl (lv_at hl 0 rfl) ?_
  refine r_imul F dX5_at_4 ?_
  refine lv_iload_n F.1 F.2.1 dX5_at_5 rfl (lv_at hl 1 rfl) ?_
  refine r_iadd F dX5_at_6 ?_
  exact rt_i F hQ hS (Nat.le_of_ble_eq_true rfl) (Nat.le_of_ble_eq_true rfl) () (congrArg (fun z => some (Value.int (iI z))) (show (401 * p + m) = ((401 * p) + m) from by first | rfl | omega | (simp; done) | (simp; omega))) trivial hP hD dX5_at_7
set_option maxHeartbeats 1000000 in
theorem ct_X5_cell {G : Gm} {l : Launch} (r : Int) (y : Int) (h : Int) (v : Int) (wl : va_W) : Ct G l yX5_cell (ws_ yX5_cell cX5_cell 4 (some .int)) ({ frames := 0, cells := 0, slots := 0, locals := 0 } : Room) [.int (iI r), .int (iI y), .int (iI h), .int (iI v)] ([] ++ wl) (fun _ : Unit => True) (fun _ : Unit => ((some (.int (iI (((2 * r + y) * 6 + h) * 10 + v)))) : Option Value)) (fun _ : Unit => (([] ++ wl) : va_W)) := by
  refine Ct.of (by decide) rfl ?_
  intro pP eE sS mM below meth cC A ls Q F hE hA hP hD hS hl hQ
  have hl : lv_has ls 4 [(0, .int (iI r)), (1, .int (iI y)), (2, .int (iI h)), (3, .int (iI v))] := hl
  refine lv_iconst (v := iI 2) F.1 F.2.1 dX5_cell_0 rfl ?_
  refine lv_iload_n F.1 F.2.1 dX5_cell_1 rfl (lv_at hl 0 rfl) ?_
  refine r_imul F dX5_cell_2 ?_
  refine lv_iload_n F.1 F.2.1 dX5_cell_3 rfl (lv_at hl 1 rfl) ?_
  refine r_iadd F dX5_cell_4 ?_
  refine lv_bipush (v := iI 6) F.1 F.2.1 dX5_cell_5 (bip_ok (by decide)) ?_
  refine r_imul F dX5_cell_7 ?_
  refine lv_iload_n F.1 F.2.1 dX5_cell_8 rfl (lv_at hl 2 rfl) ?_
  refine r_iadd F dX5_cell_9 ?_
  refine lv_bipush (v := iI 10) F.1 F.2.1 dX5_cell_10 (bip_ok (by decide)) ?_
  refine r_imul F dX5_cell_12 ?_
  refine lv_iload_n F.1 F.2.1 dX5_cell_13 rfl (lv_at hl 3 rfl) ?_
  refine r_iadd F dX5_cell_14 ?_
  exact rt_i F hQ hS (Nat.le_of_ble_eq_true rfl) (Nat.le_of_ble_eq_true rfl) () (congrArg (fun z => some (Value.int (iI z))) (show (((2 * r + y) * 6 + h) * 10 + v) = ((((((2 * r) + y) * 6) + h) * 10) + v) from by first | rfl | omega | (simp; done) | (simp; omega))) trivial hP hD dX5_cell_15
theorem hd_X5_at : Hd yX5_at 2 := ⟨by decide +kernel, by decide +kernel, by decide +kernel⟩
set_option maxHeartbeats 1000000 in
theorem ct_X5_hasWay {G : Gm} {l : Launch} (w : Wd) (z : Wx) (wy : Nat) (ya : Nat) (yb : Nat) (yl : Nat) (kk : Nat) (tl : Int) (yp : Int) (ym : Int) (gl : Nat → Int) (T : Int → Int → Int) (p : Int) (mi : Int) (wl : va_W) (hW : WX G w z wl) (hk : (kk : Int) < wnW w) (hT : WyOk w T tl (-1) gl) (hB : WyB w T tl (-1)) (hp : inP w p) (hm : 0 ≤ mi ∧ mi ≤ tl ∧ tl ≤ 400) : Ct G l yX5_hasWay (ws_ yX5_hasWay cX5_hasWay 3 (some .boolean)) ({ frames := 1, cells := 0, slots := 0, locals := 21 } : Room) [.ref wy, .int (iI p), .int (iI mi)] ([(wy, .inr (4, [.ref ya, .ref yb, .ref yl, .ref (z 0 0), .ref (z 5 kk), .int (iI tl), .int (iI yp), .int (iI ym)])), (ya, .inl (G.2.1 3, 3208, .inr (.inl (aL gl))))] ++ wl) (fun _ : Unit => True) (fun _ : Unit => ((some (.int (iI (pI (¬ T mi p = 1000000000000000000))))) : Option Value)) (fun _ : Unit => (([(wy, .inr (4, [.ref ya, .ref yb, .ref yl, .ref (z 0 0), .ref (z 5 kk), .int (iI tl), .int (iI yp), .int (iI ym)])), (ya, .inl (G.2.1 3, 3208, .inr (.inl (aL gl))))] ++ wl) : va_W)) := by
  refine Ct.of (by decide) rfl ?_
  intro pP eE sS mM below meth cC A ls Q F hE hA hP hD hS hl hQ
  have hl : lv_has ls 3 [(0, .ref wy), (1, .int (iI p)), (2, .int (iI mi))] := hl
  have hok := hW.ok
  obtain ⟨wb0, wb1, wb2, wb3, wb4, wb5⟩ := hok.nums
  have hks := (hok.walker kk hk).1.speeds
  have hbt : T mi p = 1000000000000000000 ∨ (0 ≤ T mi p ∧ T mi p ≤ 1000 + 1873821600000000 * (tl - mi)) := hB p mi (by omega) (by omega) (by omega) (by omega)
  refine lv_aload_n F.1 F.2.1 dX5_hasWay_0 rfl (lv_at hl 0 rfl) ?_
  refine r_get F (ci := 4) (v := .ref ya) b_X5 hE hP 0 rfl 0 (by decide) q298 (fun _ h9 => h9) rfl dX5_hasWay_1 ?_
  refine lv_iload_n F.1 F.2.1 dX5_hasWay_4 rfl (lv_at hl 1 rfl) ?_
  refine lv_iload_n F.1 F.2.1 dX5_hasWay_5 rfl (lv_at hl 2 rfl) ?_
  refine cl_S F (ct_X5_at p mi wl) hd_X5_at q1221 q1222 q119 q1223 hE hP hD hS hA (X := [(wy, .inr (4, [.ref ya, .ref yb, .ref yl, .ref (z 0 0), .ref (z 5 kk), .int (iI tl), .int (iI yp), .int (iI ym)])), (ya, .inl (G.2.1 3, 3208, .inr (.inl (aL gl))))]) (pl := wl) (cx := []) (wr := [(wy, .inr (4, [.ref ya, .ref yb, .ref yl, .ref (z 0 0), .ref (z 5 kk), .int (iI tl), .int (iI yp), .int (iI ym)])), (ya, .inl (G.2.1 3, 3208, .inr (.inl (aL gl))))]) [] [0, 1] rfl rfl rfl rfl (by decide) rfl rfl rfl (Nat.le_of_ble_eq_true rfl) hl.1 dX5_hasWay_6 ⟨Nat.le_of_ble_eq_true rfl, Nat.le_of_ble_eq_true rfl⟩ ⟨Nat.le_of_ble_eq_true rfl, Nat.le_of_ble_eq_true rfl⟩ (fun _ H locs _ hP hD hS => ?_)
  have hP : va_P G.1 clG ([(wy, .inr (4, [.ref ya, .ref yb, .ref yl, .ref (z 0 0), .ref (z 5 kk), .int (iI tl), .int (iI yp), .int (iI ym)])), (ya, .inl (G.2.1 3, 3208, .inr (.inl (aL gl))))] ++ wl) _ := hP
  have hD : va_D A ([(wy, .inr (4, [.ref ya, .ref yb, .ref yl, .ref (z 0 0), .ref (z 5 kk), .int (iI tl), .int (iI yp), .int (iI ym)])), (ya, .inl (G.2.1 3, 3208, .inr (.inl (aL gl))))] ++ wl) := hD
  refine W.eq (g2 := F0 mM 9 ls [.int (iI (401 * p + mi)), .ref ya]) rfl ?_
  refine r_lald F (g := gl) hE hP 1 rfl ((401 * p + mi).toNat) (by omega) (by omega) (by decide) dX5_hasWay_9 ?_
  refine top_cl (b := (T mi p)) (by exact hT p mi (by omega) (by omega) (by omega) (by omega)) ?_
  refine lv_ldc2 (v := (1000000000000000000 : Int64)) F.1 F.2.1 F.2.2.2.1 (F.2.2.2.2.1 _ q1224) dX5_hasWay_10 ?_
  refine top_l (x := (1000000000000000000 : Int64)) (a := 1000000000000000000) (by decide +kernel) ?_
  refine r_lcmp F (by omega) (by decide) dX5_hasWay_13 ?_
  refine r_if_eq F (tgt := 21) cmp_in dX5_hasWay_14 (by decide) (fun c_3 => ?_) (fun c_3 => ?_)
  · have c_3 := cmpI_eq.mp c_3
    refine lv_iconst (v := iI 0) F.1 F.2.1 dX5_hasWay_21 rfl ?_
    exact rt_z F hQ hS (Nat.le_of_ble_eq_true rfl) (Nat.le_of_ble_eq_true rfl) (Or.inl rfl) () (congrArg (fun z => some (Value.int (iI z))) (show (pI (¬ T mi p = 1000000000000000000)) = 0 from by exact pI_f (by omega))) trivial hP hD dX5_hasWay_22
  · have c_3 := cmpI_ne0 c_3
    refine lv_iconst (v := iI 1) F.1 F.2.1 dX5_hasWay_17 rfl ?_
    refine lv_goto (tgt := 22) F.1 F.2.1 dX5_hasWay_18 (by decide) ?_
    exact rt_z F hQ hS (Nat.le_of_ble_eq_true rfl) (Nat.le_of_ble_eq_true rfl) (Or.inr rfl) () (congrArg (fun z => some (Value.int (iI z))) (show (pI (¬ T mi p = 1000000000000000000)) = 1 from by exact pI_t (by omega))) trivial hP hD dX5_hasWay_22
set_option maxHeartbeats 1000000 in
theorem ct_X5_mean {G : Gm} {l : Launch} (w : Wd) (z : Wx) (wy : Nat) (ya : Nat) (yb : Nat) (yl : Nat) (kk : Nat) (tl : Int) (yp : Int) (ym : Int) (gl : Nat → Int) (T : Int → Int → Int) (p : Int) (mi : Int) (wl : va_W) (hW : WX G w z wl) (hk : (kk : Int) < wnW w) (hT : WyOk w T tl (-1) gl) (hB : WyB w T tl (-1)) (hp : inP w p) (hm : 0 ≤ mi ∧ mi ≤ tl ∧ tl ≤ 400) : Ct G l yX5_mean (ws_ yX5_mean cX5_mean 3 (some .long)) ({ frames := 1, cells := 0, slots := 0, locals := 21 } : Room) [.ref wy, .int (iI p), .int (iI mi)] ([(wy, .inr (4, [.ref ya, .ref yb, .ref yl, .ref (z 0 0), .ref (z 5 kk), .int (iI tl), .int (iI yp), .int (iI ym)])), (ya, .inl (G.2.1 3, 3208, .inr (.inl (aL gl))))] ++ wl) (fun _ : Unit => True) (fun _ : Unit => ((some (.long (lI (T mi p / 1000)))) : Option Value)) (fun _ : Unit => (([(wy, .inr (4, [.ref ya, .ref yb, .ref yl, .ref (z 0 0), .ref (z 5 kk), .int (iI tl), .int (iI yp), .int (iI ym)])), (ya, .inl (G.2.1 3, 3208, .inr (.inl (aL gl))))] ++ wl) : va_W)) := by
  refine Ct.of (by decide) rfl ?_
  intro pP eE sS mM below meth cC A ls Q F hE hA hP hD hS hl hQ
  have hl : lv_has ls 3 [(0, .ref wy), (1, .int (iI p)), (2, .int (iI mi))] := hl
  have hok := hW.ok
  obtain ⟨wb0, wb1, wb2, wb3, wb4, wb5⟩ := hok.nums
  have hks := (hok.walker kk hk).1.speeds
  have hbt : T mi p = 1000000000000000000 ∨ (0 ≤ T mi p ∧ T mi p ≤ 1000 + 1873821600000000 * (tl - mi)) := hB p mi (by omega) (by omega) (by omega) (by omega)
  refine lv_aload_n F.1 F.2.1 dX5_mean_0 rfl (lv_at hl 0 rfl) ?_
  refine r_get F (ci := 4) (v := .ref ya) b_X5 hE hP 0 rfl 0 (by decide) q298 (fun _ h9 => h9) rfl dX5_mean_1 ?_
  refine lv_iload_n F.1 F.2.1 dX5_mean_4 rfl (lv_at hl 1 rfl) ?_
  refine lv_iload_n F.1 F.2.1 dX5_mean_5 rfl (lv_at hl 2 rfl) ?_
  refine cl_S F (ct_X5_at p mi wl) hd_X5_at q1221 q1222 q119 q1223 hE hP hD hS hA (X := [(wy, .inr (4, [.ref ya, .ref yb, .ref yl, .ref (z 0 0), .ref (z 5 kk), .int (iI tl), .int (iI yp), .int (iI ym)])), (ya, .inl (G.2.1 3, 3208, .inr (.inl (aL gl))))]) (pl := wl) (cx := []) (wr := [(wy, .inr (4, [.ref ya, .ref yb, .ref yl, .ref (z 0 0), .ref (z 5 kk), .int (iI tl), .int (iI yp), .int (iI ym)])), (ya, .inl (G.2.1 3, 3208, .inr (.inl (aL gl))))]) [] [0, 1] rfl rfl rfl rfl (by decide) rfl rfl rfl (Nat.le_of_ble_eq_true rfl) hl.1 dX5_mean_6 ⟨Nat.le_of_ble_eq_true rfl, Nat.le_of_ble_eq_true rfl⟩ ⟨Nat.le_of_ble_eq_true rfl, Nat.le_of_ble_eq_true rfl⟩ (fun _ H locs _ hP hD hS => ?_)
  have hP : va_P G.1 clG ([(wy, .inr (4, [.ref ya, .ref yb, .ref yl, .ref (z 0 0), .ref (z 5 kk), .int (iI tl), .int (iI yp), .int (iI ym)])), (ya, .inl (G.2.1 3, 3208, .inr (.inl (aL gl))))] ++ wl) _ := hP
  have hD : va_D A ([(wy, .inr (4, [.ref ya, .ref yb, .ref yl, .ref (z 0 0), .ref (z 5 kk), .int (iI tl), .int (iI yp), .int (iI ym)])), (ya, .inl (G.2.1 3, 3208, .inr (.inl (aL gl))))] ++ wl) := hD
  refine W.eq (g2 := F0 mM 9 ls [.int (iI (401 * p + mi)), .ref ya]) rfl ?_
  refine r_lald F (g := gl) hE hP 1 rfl ((401 * p + mi).toNat) (by omega) (by omega) (by decide) dX5_mean_9 ?_
  refine top_cl (b := (T mi p)) (by exact hT p mi (by omega) (by omega) (by omega) (by omega)) ?_
  refine lv_ldc2 (v := (1000 : Int64)) F.1 F.2.1 F.2.2.2.1 (F.2.2.2.2.1 _ q1241) dX5_mean_10 ?_
  refine top_l (x := (1000 : Int64)) (a := 1000) (by decide +kernel) ?_
  refine r_ldiv F (by omega) (by decide) dX5_mean_13 ?_
  exact rt_l F hQ hS (Nat.le_of_ble_eq_true rfl) (Nat.le_of_ble_eq_true rfl) () (congrArg (fun z => some (Value.long (lI z))) (show (T mi p / 1000) = ((T mi p) / 1000) from by first | rfl | omega | (simp; done) | (simp; omega))) trivial hP hD dX5_mean_14
set_option maxHeartbeats 1000000 in
theorem ct_X5_there {G : Gm} {l : Launch} (w : Wd) (z : Wx) (wy : Nat) (ya : Nat) (yb : Nat) (yl : Nat) (kk : Nat) (tl : Int) (yp : Int) (ym : Int) (gl : Nat → Int) (T : Int → Int → Int) (p : Int) (mi : Int) (wl : va_W) (hW : WX G w z wl) (hk : (kk : Int) < wnW w) (hT : WyOk w T tl (-1) gl) (hB : WyB w T tl (-1)) (hp : inP w p) (hm : 0 ≤ mi ∧ mi ≤ tl ∧ tl ≤ 400) : Ct G l yX5_there (ws_ yX5_there cX5_there 3 (some .int)) ({ frames := 1, cells := 0, slots := 0, locals := 21 } : Room) [.ref wy, .int (iI p), .int (iI mi)] ([(wy, .inr (4, [.ref ya, .ref yb, .ref yl, .ref (z 0 0), .ref (z 5 kk), .int (iI tl), .int (iI yp), .int (iI ym)])), (ya, .inl (G.2.1 3, 3208, .inr (.inl (aL gl))))] ++ wl) (fun _ : Unit => True) (fun _ : Unit => ((some (.int (iI (T mi p % 1000)))) : Option Value)) (fun _ : Unit => (([(wy, .inr (4, [.ref ya, .ref yb, .ref yl, .ref (z 0 0), .ref (z 5 kk), .int (iI tl), .int (iI yp), .int (iI ym)])), (ya, .inl (G.2.1 3, 3208, .inr (.inl (aL gl))))] ++ wl) : va_W)) := by
  refine Ct.of (by decide) rfl ?_
  intro pP eE sS mM below meth cC A ls Q F hE hA hP hD hS hl hQ
  have hl : lv_has ls 3 [(0, .ref wy), (1, .int (iI p)), (2, .int (iI mi))] := hl
  have hok := hW.ok
  obtain ⟨wb0, wb1, wb2, wb3, wb4, wb5⟩ := hok.nums
  have hks := (hok.walker kk hk).1.speeds
  have hbt : T mi p = 1000000000000000000 ∨ (0 ≤ T mi p ∧ T mi p ≤ 1000 + 1873821600000000 * (tl - mi)) := hB p mi (by omega) (by omega) (by omega) (by omega)
  refine lv_aload_n F.1 F.2.1 dX5_there_0 rfl (lv_at hl 0 rfl) ?_
  refine r_get F (ci := 4) (v := .ref ya) b_X5 hE hP 0 rfl 0 (by decide) q298 (fun _ h9 => h9) rfl dX5_there_1 ?_
  refine lv_iload_n F.1 F.2.1 dX5_there_4 rfl (lv_at hl 1 rfl) ?_
  refine lv_iload_n F.1 F.2.1 dX5_there_5 rfl (lv_at hl 2 rfl) ?_
  refine cl_S F (ct_X5_at p mi wl) hd_X5_at q1221 q1222 q119 q1223 hE hP hD hS hA (X := [(wy, .inr (4, [.ref ya, .ref yb, .ref yl, .ref (z 0 0), .ref (z 5 kk), .int (iI tl), .int (iI yp), .int (iI ym)])), (ya, .inl (G.2.1 3, 3208, .inr (.inl (aL gl))))]) (pl := wl) (cx := []) (wr := [(wy, .inr (4, [.ref ya, .ref yb, .ref yl, .ref (z 0 0), .ref (z 5 kk), .int (iI tl), .int (iI yp), .int (iI ym)])), (ya, .inl (G.2.1 3, 3208, .inr (.inl (aL gl))))]) [] [0, 1] rfl rfl rfl rfl (by decide) rfl rfl rfl (Nat.le_of_ble_eq_true rfl) hl.1 dX5_there_6 ⟨Nat.le_of_ble_eq_true rfl, Nat.le_of_ble_eq_true rfl⟩ ⟨Nat.le_of_ble_eq_true rfl, Nat.le_of_ble_eq_true rfl⟩ (fun _ H locs _ hP hD hS => ?_)
  have hP : va_P G.1 clG ([(wy, .inr (4, [.ref ya, .ref yb, .ref yl, .ref (z 0 0), .ref (z 5 kk), .int (iI tl), .int (iI yp), .int (iI ym)])), (ya, .inl (G.2.1 3, 3208, .inr (.inl (aL gl))))] ++ wl) _ := hP
  have hD : va_D A ([(wy, .inr (4, [.ref ya, .ref yb, .ref yl, .ref (z 0 0), .ref (z 5 kk), .int (iI tl), .int (iI yp), .int (iI ym)])), (ya, .inl (G.2.1 3, 3208, .inr (.inl (aL gl))))] ++ wl) := hD
  refine W.eq (g2 := F0 mM 9 ls [.int (iI (401 * p + mi)), .ref ya]) rfl ?_
  refine r_lald F (g := gl) hE hP 1 rfl ((401 * p + mi).toNat) (by omega) (by omega) (by decide) dX5_there_9 ?_
  refine top_cl (b := (T mi p)) (by exact hT p mi (by omega) (by omega) (by omega) (by omega)) ?_
  refine lv_ldc2 (v := (1000 : Int64)) F.1 F.2.1 F.2.2.2.1 (F.2.2.2.2.1 _ q1241) dX5_there_10 ?_
  refine top_l (x := (1000 : Int64)) (a := 1000) (by decide +kernel) ?_
  refine r_lrem F (by omega) (by decide) dX5_there_13 ?_
  refine r_l2i F dX5_there_14 ?_
  exact rt_i F hQ hS (Nat.le_of_ble_eq_true rfl) (Nat.le_of_ble_eq_true rfl) () (congrArg (fun z => some (Value.int (iI z))) (show (T mi p % 1000) = ((T mi p) % 1000) from by first | rfl | omega | (simp; done) | (simp; omega))) trivial hP hD dX5_there_15
theorem hd_X5_cell : Hd yX5_cell 4 := ⟨by decide +kernel, by decide +kernel, by decide +kernel⟩
set_option maxHeartbeats 4000000 in
theorem ct_X5_byLeg {G : Gm} {l : Launch} (w : Wd) (z : Wx) (wy : Nat) (ya : Nat) (yb : Nat) (yl : Nat) (kk : Nat) (tl : Int) (yp : Int) (ym : Int) (gl : Nat → Int) (T : Int → Int → Int) (gm : Nat → Int) (p : Int) (mi : Int) (r : Int) (y : Int) (v : Int) (wl : va_W) (hW : WX G w z wl) (hk : (kk : Int) < wnW w) (hT : WyOk w T tl mi gl) (hB : WyB w T tl mi) (hM : MnOk w kk gm) (hp : inP w p) (hm : 0 ≤ mi ∧ mi ≤ tl ∧ tl ≤ 400) (hr : inR w r) (hy : inY y) (hv : wSl w kk ≤ v ∧ v ≤ wFa w kk) : Ct G l yX5_byLeg (ws_ yX5_byLeg cX5_byLeg 9 (some .long)) ({ frames := 1, cells := 0, slots := 0, locals := 23 } : Room) [.ref wy, .int (iI p), .int (iI mi), .int (iI r), .int (iI y), .int (iI v)] ([(wy, .inr (4, [.ref ya, .ref yb, .ref yl, .ref (z 0 0), .ref (z 5 kk), .int (iI tl), .int (iI yp), .int (iI ym)])), (ya, .inl (G.2.1 3, 3208, .inr (.inl (aL gl)))), (yb, .inl (G.2.1 3, 1440, .inr (.inl (aL gm))))] ++ wl) (fun _ : Unit => True) (fun _ : Unit => ((some (.long (lI (legV w kk T tl p mi r.toNat y v)))) : Option Value)) (fun _ : Unit => (([(wy, .inr (4, [.ref ya, .ref yb, .ref yl, .ref (z 0 0), .ref (z 5 kk), .int (iI tl), .int (iI yp), .int (iI ym)])), (ya, .inl (G.2.1 3, 3208, .inr (.inl (aL gl)))), (yb, .inl (G.2.1 3, 1440, .inr (.inl (aL gm))))] ++ wl) : va_W)) := by
  refine Ct.of (by decide) rfl ?_
  intro pP eE sS mM below meth cC A ls Q F hE hA hP hD hS hl hQ
  have hl : lv_has ls 9 [(0, .ref wy), (1, .int (iI p)), (2, .int (iI mi)), (3, .int (iI r)), (4, .int (iI y)), (5, .int (iI v))] := hl
  have hok := hW.ok
  obtain ⟨wb0, wb1, wb2, wb3, wb4, wb5⟩ := hok.nums
  have hks := (hok.walker kk hk).1.speeds
  have hrd := (hok.road r.toNat (by omega)).1.2.1
  have hg1 := goMin_1 hok (r := r.toNat) (v := v) (by omega) (by omega)
  have hg2 := goBeg_in hok (r := r.toNat) (y := y) (by omega)
  refine lv_aload_n F.1 F.2.1 dX5_byLeg_0 rfl (lv_at hl 0 rfl) ?_
  refine r_get F (ci := 4) (v := .ref (z 0 0)) b_X5 hE hP 0 rfl 3 (by decide) q301 (fun _ h9 => h9) rfl dX5_byLeg_1 ?_
  obtain ⟨k_1, hk_2⟩ := mem_at (X := [(wy, .inr (4, [.ref ya, .ref yb, .ref yl, .ref (z 0 0), .ref (z 5 kk), .int (iI tl), .int (iI yp), .int (iI ym)])), (ya, .inl (G.2.1 3, 3208, .inr (.inl (aL gl)))), (yb, .inl (G.2.1 3, 1440, .inr (.inl (aL gm))))]) hW.obj
  refine r_get F (ci := 6) (v := .ref (z 1 2)) b_X8 hE hP k_1 hk_2 2 (by decide) q451 (fun _ h9 => h9) rfl dX5_byLeg_4 ?_
  refine lv_iload_n F.1 F.2.1 dX5_byLeg_7 rfl (lv_at hl 3 rfl) ?_
  obtain ⟨k_3, hk_4⟩ := mem_at (X := [(wy, .inr (4, [.ref ya, .ref yb, .ref yl, .ref (z 0 0), .ref (z 5 kk), .int (iI tl), .int (iI yp), .int (iI ym)])), (ya, .inl (G.2.1 3, 3208, .inr (.inl (aL gl)))), (yb, .inl (G.2.1 3, 1440, .inr (.inl (aL gm))))]) hW.roadsA
  refine r_aald F (f := (oA (wnR w) (z 4))) (v := .ref (z 4 r.toNat)) hE hP k_3 hk_4 rfl r.toNat (by omega) (by omega) (by decide) (oA_at (by omega)) dX5_byLeg_8 ?_
  refine lv_astore (lv' := [(6, .ref (z 4 r.toNat)), (0, .ref wy), (1, .int (iI p)), (2, .int (iI mi)), (3, .int (iI r)), (4, .int (iI y)), (5, .int (iI v))]) F.1 F.2.1 dX5_byLeg_9 hl (Nat.le_of_ble_eq_true rfl) rfl (fun ls hl => ?_)
  refine lv_iload_n F.1 F.2.1 dX5_byLeg_11 rfl (lv_at hl 3 rfl) ?_
  refine lv_aload F.1 F.2.1 dX5_byLeg_12 (lv_at hl 0 rfl) ?_
  refine lv_iload F.1 F.2.1 dX5_byLeg_14 (lv_at hl 6 rfl) ?_
  obtain ⟨k_7, hk_8⟩ := mem_at (X := [(wy, .inr (4, [.ref ya, .ref yb, .ref yl, .ref (z 0 0), .ref (z 5 kk), .int (iI tl), .int (iI yp), .int (iI ym)])), (ya, .inl (G.2.1 3, 3208, .inr (.inl (aL gl)))), (yb, .inl (G.2.1 3, 1440, .inr (.inl (aL gm))))]) (hW.road r.toNat (by omega))
  refine cl_V F (C := "RainWalk$Road") (ct_X12_minutes (z 4 r.toNat) (wFr w r.toNat) (wTo w r.toNat) (wRs w r.toNat) (wLe w r.toNat) (wAw w r.toNat) v wl (by omega) (by omega) (hW.road r.toNat (by omega))) hd_X12_minutes rfl q1248 q1125 q1126 q131 q1127 (va_recv hE.1 hP (ci := 9) (q0 := k_7) rfl hk_8) hE hP hD hS hA (X := [(wy, .inr (4, [.ref ya, .ref yb, .ref yl, .ref (z 0 0), .ref (z 5 kk), .int (iI tl), .int (iI yp), .int (iI ym)])), (ya, .inl (G.2.1 3, 3208, .inr (.inl (aL gl)))), (yb, .inl (G.2.1 3, 1440, .inr (.inl (aL gm))))]) (pl := wl) (cx := []) (wr := [(wy, .inr (4, [.ref ya, .ref yb, .ref yl, .ref (z 0 0), .ref (z 5 kk), .int (iI tl), .int (iI yp), .int (iI ym)])), (ya, .inl (G.2.1 3, 3208, .inr (.inl (aL gl)))), (yb, .inl (G.2.1 3, 1440, .inr (.inl (aL gm))))]) [] [0, 1, 2] rfl rfl rfl rfl (by decide) rfl rfl rfl (Nat.le_of_ble_eq_true rfl) hl.1 dX5_byLeg_16 ⟨Nat.le_of_ble_eq_true rfl, Nat.le_of_ble_eq_true rfl⟩ ⟨Nat.le_of_ble_eq_true rfl, Nat.le_of_ble_eq_true rfl⟩ (fun _ H locs _ hP hD hS => ?_)
  have hP : va_P G.1 clG ([(wy, .inr (4, [.ref ya, .ref yb, .ref yl, .ref (z 0 0), .ref (z 5 kk), .int (iI tl), .int (iI yp), .int (iI ym)])), (ya, .inl (G.2.1 3, 3208, .inr (.inl (aL gl)))), (yb, .inl (G.2.1 3, 1440, .inr (.inl (aL gm))))] ++ wl) _ := hP
  have hD : va_D A ([(wy, .inr (4, [.ref ya, .ref yb, .ref yl, .ref (z 0 0), .ref (z 5 kk), .int (iI tl), .int (iI yp), .int (iI ym)])), (ya, .inl (G.2.1 3, 3208, .inr (.inl (aL gl)))), (yb, .inl (G.2.1 3, 1440, .inr (.inl (aL gm))))] ++ wl) := hD
  refine W.eq (g2 := F0 mM 19 ls [.int (iI (((wLe w r.toNat) + v - 1) / v)), .int (iI mi)]) rfl ?_
  refine top_ci (b := (goMin w r.toNat v)) (by rfl) ?_
  refine r_iadd F dX5_byLeg_19 ?_
  refine lv_istore (lv' := [(7, .int (iI (mi + (goMin w r.toNat v)))), (6, .ref (z 4 r.toNat)), (0, .ref wy), (1, .int (iI p)), (2, .int (iI mi)), (3, .int (iI r)), (4, .int (iI y)), (5, .int (iI v))]) F.1 F.2.1 dX5_byLeg_20 hl (Nat.le_of_ble_eq_true rfl) rfl (fun ls hl => ?_)
  refine lv_aload F.1 F.2.1 dX5_byLeg_22 (lv_at hl 1 rfl) ?_
  refine lv_iload F.1 F.2.1 dX5_byLeg_24 (lv_at hl 6 rfl) ?_
  obtain ⟨k_11, hk_12⟩ := mem_at (X := [(wy, .inr (4, [.ref ya, .ref yb, .ref yl, .ref (z 0 0), .ref (z 5 kk), .int (iI tl), .int (iI yp), .int (iI ym)])), (ya, .inl (G.2.1 3, 3208, .inr (.inl (aL gl)))), (yb, .inl (G.2.1 3, 1440, .inr (.inl (aL gm))))]) (hW.road r.toNat (by omega))
  refine cl_V F (C := "RainWalk$Road") (ct_X12_begin (z 4 r.toNat) (wFr w r.toNat) (wTo w r.toNat) (wRs w r.toNat) (wLe w r.toNat) (wAw w r.toNat) y wl (by omega) (hW.road r.toNat (by omega))) hd_X12_begin rfl q1249 q1250 q1251 q131 q1252 (va_recv hE.1 hP (ci := 9) (q0 := k_11) rfl hk_12) hE hP hD hS hA (X := [(wy, .inr (4, [.ref ya, .ref yb, .ref yl, .ref (z 0 0), .ref (z 5 kk), .int (iI tl), .int (iI yp), .int (iI ym)])), (ya, .inl (G.2.1 3, 3208, .inr (.inl (aL gl)))), (yb, .inl (G.2.1 3, 1440, .inr (.inl (aL gm))))]) (pl := wl) (cx := []) (wr := [(wy, .inr (4, [.ref ya, .ref yb, .ref yl, .ref (z 0 0), .ref (z 5 kk), .int (iI tl), .int (iI yp), .int (iI ym)])), (ya, .inl (G.2.1 3, 3208, .inr (.inl (aL gl)))), (yb, .inl (G.2.1 3, 1440, .inr (.inl (aL gm))))]) [] [0, 1, 2] rfl rfl rfl rfl (by decide) rfl rfl rfl (Nat.le_of_ble_eq_true rfl) hl.1 dX5_byLeg_26 ⟨Nat.le_of_ble_eq_true rfl, Nat.le_of_ble_eq_true rfl⟩ ⟨Nat.le_of_ble_eq_true rfl, Nat.le_of_ble_eq_true rfl⟩ (fun _ H locs _ hP hD hS => ?_)
  have hP : va_P G.1 clG ([(wy, .inr (4, [.ref ya, .ref yb, .ref yl, .ref (z 0 0), .ref (z 5 kk), .int (iI tl), .int (iI yp), .int (iI ym)])), (ya, .inl (G.2.1 3, 3208, .inr (.inl (aL gl)))), (yb, .inl (G.2.1 3, 1440, .inr (.inl (aL gm))))] ++ wl) _ := hP
  have hD : va_D A ([(wy, .inr (4, [.ref ya, .ref yb, .ref yl, .ref (z 0 0), .ref (z 5 kk), .int (iI tl), .int (iI yp), .int (iI ym)])), (ya, .inl (G.2.1 3, 3208, .inr (.inl (aL gl)))), (yb, .inl (G.2.1 3, 1440, .inr (.inl (aL gm))))] ++ wl) := hD
  refine W.eq (g2 := F0 mM 29 ls [.int (iI (if y = 0 then (wFr w r.toNat) else (wTo w r.toNat)))]) rfl ?_
  refine top_ci (b := (goBeg w r.toNat y)) (by rfl) ?_
  refine lv_iload_n F.1 F.2.1 dX5_byLeg_29 rfl (lv_at hl 3 rfl) ?_
  refine r_icmp_ne F (tgt := 66) (by omega) (by omega) dX5_byLeg_30 (by decide) (fun c_13 => ?_) (fun c_13 => ?_)
  · refine lv_ldc2 (v := (1000000000000000000 : Int64)) F.1 F.2.1 F.2.2.2.1 (F.2.2.2.2.1 _ q1224) dX5_byLeg_66 ?_
    refine top_l (x := (1000000000000000000 : Int64)) (a := 1000000000000000000) (by decide +kernel) ?_
    exact rt_l F hQ hS (Nat.le_of_ble_eq_true rfl) (Nat.le_of_ble_eq_true rfl) () (congrArg (fun z => some (Value.long (lI z))) (show (legV w kk T tl p mi r.toNat y v) = 1000000000000000000 from by unfold legV; first | (rw [if_neg (by omega)]; done) | (rw [if_pos (by omega)]; done))) trivial hP hD dX5_byLeg_69
  · refine lv_iload F.1 F.2.1 dX5_byLeg_33 (lv_at hl 0 rfl) ?_
    refine lv_aload_n F.1 F.2.1 dX5_byLeg_35 rfl (lv_at hl 2 rfl) ?_
    refine r_get F (ci := 4) (v := .int (iI tl)) b_X5 hE hP 0 rfl 5 (by decide) q303 (fun _ h9 => h9) rfl dX5_byLeg_36 ?_
    refine r_icmp_gt F (tgt := 66) (by omega) (by omega) dX5_byLeg_39 (by decide) (fun c_14 => ?_) (fun c_14 => ?_)
    · refine lv_ldc2 (v := (1000000000000000000 : Int64)) F.1 F.2.1 F.2.2.2.1 (F.2.2.2.2.1 _ q1224) dX5_byLeg_66 ?_
      refine top_l (x := (1000000000000000000 : Int64)) (a := 1000000000000000000) (by decide +kernel) ?_
      exact rt_l F hQ hS (Nat.le_of_ble_eq_true rfl) (Nat.le_of_ble_eq_true rfl) () (congrArg (fun z => some (Value.long (lI z))) (show (legV w kk T tl p mi r.toNat y v) = 1000000000000000000 from by unfold legV; first | (rw [if_neg (by omega)]; done) | (rw [if_pos (by omega)]; done))) trivial hP hD dX5_byLeg_69
    · have hbt : T (mi + goMin w r.toNat v) (goEnd w r.toNat y) = 1000000000000000000 ∨ (0 ≤ T (mi + goMin w r.toNat v) (goEnd w r.toNat y) ∧ T (mi + goMin w r.toNat v) (goEnd w r.toNat y) ≤ 1000 + 1873821600000000 * (tl - (mi + goMin w r.toNat v))) := hB _ _ (by omega) (by omega) (by omega) (by omega)
      refine lv_aload_n F.1 F.2.1 dX5_byLeg_42 rfl (lv_at hl 2 rfl) ?_
      refine r_get F (ci := 4) (v := .ref ya) b_X5 hE hP 0 rfl 0 (by decide) q298 (fun _ h9 => h9) rfl dX5_byLeg_43 ?_
      refine lv_aload F.1 F.2.1 dX5_byLeg_46 (lv_at hl 1 rfl) ?_
      refine lv_iload F.1 F.2.1 dX5_byLeg_48 (lv_at hl 6 rfl) ?_
      obtain ⟨k_17, hk_18⟩ := mem_at (X := [(wy, .inr (4, [.ref ya, .ref yb, .ref yl, .ref (z 0 0), .ref (z 5 kk), .int (iI tl), .int (iI yp), .int (iI ym)])), (ya, .inl (G.2.1 3, 3208, .inr (.inl (aL gl)))), (yb, .inl (G.2.1 3, 1440, .inr (.inl (aL gm))))]) (hW.road r.toNat (by omega))
      refine cl_V F (C := "RainWalk$Road") (ct_X12_end (z 4 r.toNat) (wFr w r.toNat) (wTo w r.toNat) (wRs w r.toNat) (wLe w r.toNat) (wAw w r.toNat) y wl (by omega) (hW.road r.toNat (by omega))) hd_X12_end rfl q1253 q1254 q1255 q131 q1256 (va_recv hE.1 hP (ci := 9) (q0 := k_17) rfl hk_18) hE hP hD hS hA (X := [(wy, .inr (4, [.ref ya, .ref yb, .ref yl, .ref (z 0 0), .ref (z 5 kk), .int (iI tl), .int (iI yp), .int (iI ym)])), (ya, .inl (G.2.1 3, 3208, .inr (.inl (aL gl)))), (yb, .inl (G.2.1 3, 1440, .inr (.inl (aL gm))))]) (pl := wl) (cx := []) (wr := [(wy, .inr (4, [.ref ya, .ref yb, .ref yl, .ref (z 0 0), .ref (z 5 kk), .int (iI tl), .int (iI yp), .int (iI ym)])), (ya, .inl (G.2.1 3, 3208, .inr (.inl (aL gl)))), (yb, .inl (G.2.1 3, 1440, .inr (.inl (aL gm))))]) [] [0, 1, 2] rfl rfl rfl rfl (by decide) rfl rfl rfl (Nat.le_of_ble_eq_true rfl) hl.1 dX5_byLeg_50 ⟨Nat.le_of_ble_eq_true rfl, Nat.le_of_ble_eq_true rfl⟩ ⟨Nat.le_of_ble_eq_true rfl, Nat.le_of_ble_eq_true rfl⟩ (fun _ H locs _ hP hD hS => ?_)
      have hP : va_P G.1 clG ([(wy, .inr (4, [.ref ya, .ref yb, .ref yl, .ref (z 0 0), .ref (z 5 kk), .int (iI tl), .int (iI yp), .int (iI ym)])), (ya, .inl (G.2.1 3, 3208, .inr (.inl (aL gl)))), (yb, .inl (G.2.1 3, 1440, .inr (.inl (aL gm))))] ++ wl) _ := hP
      have hD : va_D A ([(wy, .inr (4, [.ref ya, .ref yb, .ref yl, .ref (z 0 0), .ref (z 5 kk), .int (iI tl), .int (iI yp), .int (iI ym)])), (ya, .inl (G.2.1 3, 3208, .inr (.inl (aL gl)))), (yb, .inl (G.2.1 3, 1440, .inr (.inl (aL gm))))] ++ wl) := hD
      refine W.eq (g2 := F0 mM 53 ls [.int (iI (if y = 0 then (wTo w r.toNat) else (wFr w r.toNat))), .ref ya]) rfl ?_
      refine top_ci (b := (goEnd w r.toNat y)) (by rfl) ?_
      refine lv_iload F.1 F.2.1 dX5_byLeg_53 (lv_at hl 0 rfl) ?_
      refine cl_S F (ct_X5_at (goEnd w r.toNat y) (mi + (goMin w r.toNat v)) wl) hd_X5_at q1221 q1222 q119 q1223 hE hP hD hS hA (X := [(wy, .inr (4, [.ref ya, .ref yb, .ref yl, .ref (z 0 0), .ref (z 5 kk), .int (iI tl), .int (iI yp), .int (iI ym)])), (ya, .inl (G.2.1 3, 3208, .inr (.inl (aL gl)))), (yb, .inl (G.2.1 3, 1440, .inr (.inl (aL gm))))]) (pl := wl) (cx := []) (wr := [(wy, .inr (4, [.ref ya, .ref yb, .ref yl, .ref (z 0 0), .ref (z 5 kk), .int (iI tl), .int (iI yp), .int (iI ym)])), (ya, .inl (G.2.1 3, 3208, .inr (.inl (aL gl)))), (yb, .inl (G.2.1 3, 1440, .inr (.inl (aL gm))))]) [] [0, 1, 2] rfl rfl rfl rfl (by decide) rfl rfl rfl (Nat.le_of_ble_eq_true rfl) hl.1 dX5_byLeg_55 ⟨Nat.le_of_ble_eq_true rfl, Nat.le_of_ble_eq_true rfl⟩ ⟨Nat.le_of_ble_eq_true rfl, Nat.le_of_ble_eq_true rfl⟩ (fun _ H locs _ hP hD hS => ?_)
      have hP : va_P G.1 clG ([(wy, .inr (4, [.ref ya, .ref yb, .ref yl, .ref (z 0 0), .ref (z 5 kk), .int (iI tl), .int (iI yp), .int (iI ym)])), (ya, .inl (G.2.1 3, 3208, .inr (.inl (aL gl)))), (yb, .inl (G.2.1 3, 1440, .inr (.inl (aL gm))))] ++ wl) _ := hP
      have hD : va_D A ([(wy, .inr (4, [.ref ya, .ref yb, .ref yl, .ref (z 0 0), .ref (z 5 kk), .int (iI tl), .int (iI yp), .int (iI ym)])), (ya, .inl (G.2.1 3, 3208, .inr (.inl (aL gl)))), (yb, .inl (G.2.1 3, 1440, .inr (.inl (aL gm))))] ++ wl) := hD
      refine W.eq (g2 := F0 mM 58 ls [.int (iI (401 * (goEnd w r.toNat y) + (mi + (goMin w r.toNat v)))), .ref ya]) rfl ?_
      refine r_lald F (g := gl) hE hP 1 rfl ((401 * (goEnd w r.toNat y) + (mi + (goMin w r.toNat v))).toNat) (by omega) (by omega) (by decide) dX5_byLeg_58 ?_
      refine top_cl (b := (T (mi + goMin w r.toNat v) (goEnd w r.toNat y))) (by exact hT _ _ (by omega) (by omega) (by omega) (by omega)) ?_
      refine lv_ldc2 (v := (1000000000000000000 : Int64)) F.1 F.2.1 F.2.2.2.1 (F.2.2.2.2.1 _ q1224) dX5_byLeg_59 ?_
      refine top_l (x := (1000000000000000000 : Int64)) (a := 1000000000000000000) (by decide +kernel) ?_
      refine r_lcmp F (by omega) (by decide) dX5_byLeg_62 ?_
      refine r_if_ne F (tgt := 70) cmp_in dX5_byLeg_63 (by decide) (fun c_21 => ?_) (fun c_21 => ?_)
      · have c_21 := cmpI_ne0 c_21
        refine lv_aload_n F.1 F.2.1 dX5_byLeg_70 rfl (lv_at hl 2 rfl) ?_
        refine r_get F (ci := 4) (v := .ref (z 0 0)) b_X5 hE hP 0 rfl 3 (by decide) q301 (fun _ h9 => h9) rfl dX5_byLeg_71 ?_
        refine lv_iload_n F.1 F.2.1 dX5_byLeg_74 rfl (lv_at hl 4 rfl) ?_
        obtain ⟨k_24, hk_25⟩ := mem_at (X := [(wy, .inr (4, [.ref ya, .ref yb, .ref yl, .ref (z 0 0), .ref (z 5 kk), .int (iI tl), .int (iI yp), .int (iI ym)])), (ya, .inl (G.2.1 3, 3208, .inr (.inl (aL gl)))), (yb, .inl (G.2.1 3, 1440, .inr (.inl (aL gm))))]) hW.obj
        refine cl_V F (C := "RainWalk$World") (ct_X8_hourOf w z mi wl (by omega) (by omega) (by omega) hW.obj) hd_X8_hourOf rfl q1237 q1238 q1239 q122 q1240 (va_recv hE.1 hP (ci := 6) (q0 := k_24) rfl hk_25) hE hP hD hS hA (X := [(wy, .inr (4, [.ref ya, .ref yb, .ref yl, .ref (z 0 0), .ref (z 5 kk), .int (iI tl), .int (iI yp), .int (iI ym)])), (ya, .inl (G.2.1 3, 3208, .inr (.inl (aL gl)))), (yb, .inl (G.2.1 3, 1440, .inr (.inl (aL gm))))]) (pl := wl) (cx := []) (wr := [(wy, .inr (4, [.ref ya, .ref yb, .ref yl, .ref (z 0 0), .ref (z 5 kk), .int (iI tl), .int (iI yp), .int (iI ym)])), (ya, .inl (G.2.1 3, 3208, .inr (.inl (aL gl)))), (yb, .inl (G.2.1 3, 1440, .inr (.inl (aL gm))))]) [] [0, 1, 2] rfl rfl rfl rfl (by decide) rfl rfl rfl (Nat.le_of_ble_eq_true rfl) hl.1 dX5_byLeg_75 ⟨Nat.le_of_ble_eq_true rfl, Nat.le_of_ble_eq_true rfl⟩ ⟨Nat.le_of_ble_eq_true rfl, Nat.le_of_ble_eq_true rfl⟩ (fun _ H locs _ hP hD hS => ?_)
        have hP : va_P G.1 clG ([(wy, .inr (4, [.ref ya, .ref yb, .ref yl, .ref (z 0 0), .ref (z 5 kk), .int (iI tl), .int (iI yp), .int (iI ym)])), (ya, .inl (G.2.1 3, 3208, .inr (.inl (aL gl)))), (yb, .inl (G.2.1 3, 1440, .inr (.inl (aL gm))))] ++ wl) _ := hP
        have hD : va_D A ([(wy, .inr (4, [.ref ya, .ref yb, .ref yl, .ref (z 0 0), .ref (z 5 kk), .int (iI tl), .int (iI yp), .int (iI ym)])), (ya, .inl (G.2.1 3, 3208, .inr (.inl (aL gl)))), (yb, .inl (G.2.1 3, 1440, .inr (.inl (aL gm))))] ++ wl) := hD
        refine W.eq (g2 := F0 mM 78 ls [.int (iI (if mi / wHour w < wnH w then mi / wHour w else -1))]) rfl ?_
        refine top_gi (fun hh e_hh => ?_)
        have hhc : (mi / wHour w < wnH w ∧ hh = mi / wHour w) ∨ (¬ mi / wHour w < wnH w ∧ hh = -1) := by
            by_cases q : mi / wHour w < wnH w
            · exact Or.inl ⟨q, by rw [e_hh, if_pos q]⟩
            · exact Or.inr ⟨q, by rw [e_hh, if_neg q]⟩
        have hd0 := Int.ediv_nonneg (show 0 ≤ mi by omega) (show 0 ≤ wHour w by omega)
        refine lv_istore (lv' := [(8, .int (iI hh)), (7, .int (iI (mi + (goMin w r.toNat v)))), (6, .ref (z 4 r.toNat)), (0, .ref wy), (1, .int (iI p)), (2, .int (iI mi)), (3, .int (iI r)), (4, .int (iI y)), (5, .int (iI v))]) F.1 F.2.1 dX5_byLeg_78 hl (Nat.le_of_ble_eq_true rfl) rfl (fun ls hl => ?_)
        refine lv_aload_n F.1 F.2.1 dX5_byLeg_80 rfl (lv_at hl 3 rfl) ?_
        refine r_get F (ci := 4) (v := .ref ya) b_X5 hE hP 0 rfl 0 (by decide) q298 (fun _ h9 => h9) rfl dX5_byLeg_81 ?_
        refine lv_aload F.1 F.2.1 dX5_byLeg_84 (lv_at hl 2 rfl) ?_
        refine lv_iload F.1 F.2.1 dX5_byLeg_86 (lv_at hl 7 rfl) ?_
        obtain ⟨k_28, hk_29⟩ := mem_at (X := [(wy, .inr (4, [.ref ya, .ref yb, .ref yl, .ref (z 0 0), .ref (z 5 kk), .int (iI tl), .int (iI yp), .int (iI ym)])), (ya, .inl (G.2.1 3, 3208, .inr (.inl (aL gl)))), (yb, .inl (G.2.1 3, 1440, .inr (.inl (aL gm))))]) (hW.road r.toNat (by omega))
        refine cl_V F (C := "RainWalk$Road") (ct_X12_end (z 4 r.toNat) (wFr w r.toNat) (wTo w r.toNat) (wRs w r.toNat) (wLe w r.toNat) (wAw w r.toNat) y wl (by omega) (hW.road r.toNat (by omega))) hd_X12_end rfl q1253 q1254 q1255 q131 q1256 (va_recv hE.1 hP (ci := 9) (q0 := k_28) rfl hk_29) hE hP hD hS hA (X := [(wy, .inr (4, [.ref ya, .ref yb, .ref yl, .ref (z 0 0), .ref (z 5 kk), .int (iI tl), .int (iI yp), .int (iI ym)])), (ya, .inl (G.2.1 3, 3208, .inr (.inl (aL gl)))), (yb, .inl (G.2.1 3, 1440, .inr (.inl (aL gm))))]) (pl := wl) (cx := []) (wr := [(wy, .inr (4, [.ref ya, .ref yb, .ref yl, .ref (z 0 0), .ref (z 5 kk), .int (iI tl), .int (iI yp), .int (iI ym)])), (ya, .inl (G.2.1 3, 3208, .inr (.inl (aL gl)))), (yb, .inl (G.2.1 3, 1440, .inr (.inl (aL gm))))]) [] [0, 1, 2] rfl rfl rfl rfl (by decide) rfl rfl rfl (Nat.le_of_ble_eq_true rfl) hl.1 dX5_byLeg_88 ⟨Nat.le_of_ble_eq_true rfl, Nat.le_of_ble_eq_true rfl⟩ ⟨Nat.le_of_ble_eq_true rfl, Nat.le_of_ble_eq_true rfl⟩ (fun _ H locs _ hP hD hS => ?_)
        have hP : va_P G.1 clG ([(wy, .inr (4, [.ref ya, .ref yb, .ref yl, .ref (z 0 0), .ref (z 5 kk), .int (iI tl), .int (iI yp), .int (iI ym)])), (ya, .inl (G.2.1 3, 3208, .inr (.inl (aL gl)))), (yb, .inl (G.2.1 3, 1440, .inr (.inl (aL gm))))] ++ wl) _ := hP
        have hD : va_D A ([(wy, .inr (4, [.ref ya, .ref yb, .ref yl, .ref (z 0 0), .ref (z 5 kk), .int (iI tl), .int (iI yp), .int (iI ym)])), (ya, .inl (G.2.1 3, 3208, .inr (.inl (aL gl)))), (yb, .inl (G.2.1 3, 1440, .inr (.inl (aL gm))))] ++ wl) := hD
        refine W.eq (g2 := F0 mM 91 ls [.int (iI (if y = 0 then (wTo w r.toNat) else (wFr w r.toNat))), .ref ya]) rfl ?_
        refine top_ci (b := (goEnd w r.toNat y)) (by rfl) ?_
        refine lv_iload F.1 F.2.1 dX5_byLeg_91 (lv_at hl 1 rfl) ?_
        refine cl_S F (ct_X5_at (goEnd w r.toNat y) (mi + (goMin w r.toNat v)) wl) hd_X5_at q1221 q1222 q119 q1223 hE hP hD hS hA (X := [(wy, .inr (4, [.ref ya, .ref yb, .ref yl, .ref (z 0 0), .ref (z 5 kk), .int (iI tl), .int (iI yp), .int (iI ym)])), (ya, .inl (G.2.1 3, 3208, .inr (.inl (aL gl)))), (yb, .inl (G.2.1 3, 1440, .inr (.inl (aL gm))))]) (pl := wl) (cx := []) (wr := [(wy, .inr (4, [.ref ya, .ref yb, .ref yl, .ref (z 0 0), .ref (z 5 kk), .int (iI tl), .int (iI yp), .int (iI ym)])), (ya, .inl (G.2.1 3, 3208, .inr (.inl (aL gl)))), (yb, .inl (G.2.1 3, 1440, .inr (.inl (aL gm))))]) [] [0, 1, 2] rfl rfl rfl rfl (by decide) rfl rfl rfl (Nat.le_of_ble_eq_true rfl) hl.1 dX5_byLeg_93 ⟨Nat.le_of_ble_eq_true rfl, Nat.le_of_ble_eq_true rfl⟩ ⟨Nat.le_of_ble_eq_true rfl, Nat.le_of_ble_eq_true rfl⟩ (fun _ H locs _ hP hD hS => ?_)
        have hP : va_P G.1 clG ([(wy, .inr (4, [.ref ya, .ref yb, .ref yl, .ref (z 0 0), .ref (z 5 kk), .int (iI tl), .int (iI yp), .int (iI ym)])), (ya, .inl (G.2.1 3, 3208, .inr (.inl (aL gl)))), (yb, .inl (G.2.1 3, 1440, .inr (.inl (aL gm))))] ++ wl) _ := hP
        have hD : va_D A ([(wy, .inr (4, [.ref ya, .ref yb, .ref yl, .ref (z 0 0), .ref (z 5 kk), .int (iI tl), .int (iI yp), .int (iI ym)])), (ya, .inl (G.2.1 3, 3208, .inr (.inl (aL gl)))), (yb, .inl (G.2.1 3, 1440, .inr (.inl (aL gm))))] ++ wl) := hD
        refine W.eq (g2 := F0 mM 96 ls [.int (iI (401 * (goEnd w r.toNat y) + (mi + (goMin w r.toNat v)))), .ref ya]) rfl ?_
        refine r_lald F (g := gl) hE hP 1 rfl ((401 * (goEnd w r.toNat y) + (mi + (goMin w r.toNat v))).toNat) (by omega) (by omega) (by decide) dX5_byLeg_96 ?_
        refine top_cl (b := (T (mi + goMin w r.toNat v) (goEnd w r.toNat y))) (by exact hT _ _ (by omega) (by omega) (by omega) (by omega)) ?_
        refine lv_iload F.1 F.2.1 dX5_byLeg_97 (lv_at hl 0 rfl) ?_
        refine lv_iconst (v := iI (-1)) F.1 F.2.1 dX5_byLeg_99 rfl ?_
        refine jn_el (j := 126) (ls := ls) (A := A) (G := G) (ws := ([(wy, .inr (4, [.ref ya, .ref yb, .ref yl, .ref (z 0 0), .ref (z 5 kk), .int (iI tl), .int (iI yp), .int (iI ym)])), (ya, .inl (G.2.1 3, 3208, .inr (.inl (aL gl)))), (yb, .inl (G.2.1 3, 1440, .inr (.inl (aL gm))))] ++ wl)) (kf := 0) (nf := 0) (a := (1000 * legC w kk mi r.toNat y v)) (rest := [.long (lI (T (mi + goMin w r.toNat v) (goEnd w r.toNat y)))]) (fun H locs hP hD hS => ?_) (fun hj_32 => ?_)
        · refine r_ladd F dX5_byLeg_126 ?_
          exact rt_l F hQ hS (Nat.le_of_ble_eq_true rfl) (Nat.le_of_ble_eq_true rfl) () (congrArg (fun z => some (Value.long (lI z))) (show (legV w kk T tl p mi r.toNat y v) = ((T (mi + goMin w r.toNat v) (goEnd w r.toNat y)) + (1000 * legC w kk mi r.toNat y v)) from by unfold legV; first | (rw [if_neg (by omega)]; done) | (rw [if_pos (by omega)]; done))) trivial hP hD dX5_byLeg_127
        · refine r_icmp_ne F (tgt := 107) (by omega) (by decide) dX5_byLeg_100 (by decide) (fun c_33 => ?_) (fun c_33 => ?_)
          · have hq : mi / wHour w < wnH w ∧ hh = mi / wHour w := hhc.resolve_right (fun q => absurd q.2 (by omega))
            refine lv_ldc2 (v := (1000 : Int64)) F.1 F.2.1 F.2.2.2.1 (F.2.2.2.2.1 _ q1241) dX5_byLeg_107 ?_
            refine top_l (x := (1000 : Int64)) (a := 1000) (by decide +kernel) ?_
            refine lv_aload_n F.1 F.2.1 dX5_byLeg_110 rfl (lv_at hl 3 rfl) ?_
            refine r_get F (ci := 4) (v := .ref yb) b_X5 hE hP 0 rfl 1 (by decide) q299 (fun _ h9 => h9) rfl dX5_byLeg_111 ?_
            refine lv_iload_n F.1 F.2.1 dX5_byLeg_114 rfl (lv_at hl 6 rfl) ?_
            refine lv_iload F.1 F.2.1 dX5_byLeg_115 (lv_at hl 7 rfl) ?_
            refine lv_iload F.1 F.2.1 dX5_byLeg_117 (lv_at hl 0 rfl) ?_
            refine lv_iload F.1 F.2.1 dX5_byLeg_119 (lv_at hl 8 rfl) ?_
            refine cl_S F (ct_X5_cell r y hh v wl) hd_X5_cell q1217 q1218 q119 q1219 hE hP hD hS hA (X := [(wy, .inr (4, [.ref ya, .ref yb, .ref yl, .ref (z 0 0), .ref (z 5 kk), .int (iI tl), .int (iI yp), .int (iI ym)])), (ya, .inl (G.2.1 3, 3208, .inr (.inl (aL gl)))), (yb, .inl (G.2.1 3, 1440, .inr (.inl (aL gm))))]) (pl := wl) (cx := []) (wr := [(wy, .inr (4, [.ref ya, .ref yb, .ref yl, .ref (z 0 0), .ref (z 5 kk), .int (iI tl), .int (iI yp), .int (iI ym)])), (ya, .inl (G.2.1 3, 3208, .inr (.inl (aL gl)))), (yb, .inl (G.2.1 3, 1440, .inr (.inl (aL gm))))]) [] [0, 1, 2] rfl rfl rfl rfl (by decide) rfl rfl rfl (Nat.le_of_ble_eq_true rfl) hl.1 dX5_byLeg_121 ⟨Nat.le_of_ble_eq_true rfl, Nat.le_of_ble_eq_true rfl⟩ ⟨Nat.le_of_ble_eq_true rfl, Nat.le_of_ble_eq_true rfl⟩ (fun _ H locs _ hP hD hS => ?_)
            have hP : va_P G.1 clG ([(wy, .inr (4, [.ref ya, .ref yb, .ref yl, .ref (z 0 0), .ref (z 5 kk), .int (iI tl), .int (iI yp), .int (iI ym)])), (ya, .inl (G.2.1 3, 3208, .inr (.inl (aL gl)))), (yb, .inl (G.2.1 3, 1440, .inr (.inl (aL gm))))] ++ wl) _ := hP
            have hD : va_D A ([(wy, .inr (4, [.ref ya, .ref yb, .ref yl, .ref (z 0 0), .ref (z 5 kk), .int (iI tl), .int (iI yp), .int (iI ym)])), (ya, .inl (G.2.1 3, 3208, .inr (.inl (aL gl)))), (yb, .inl (G.2.1 3, 1440, .inr (.inl (aL gm))))] ++ wl) := hD
            refine W.eq (g2 := F0 mM 124 ls [.int (iI (((2 * r + y) * 6 + hh) * 10 + v)), .ref yb, .long (lI 1000), .long (lI (T (mi + goMin w r.toNat v) (goEnd w r.toNat y)))]) rfl ?_
            refine r_lald F (g := gm) hE hP 2 rfl ((((2 * r + y) * 6 + hh) * 10 + v).toNat) (by omega) (by omega) (by decide) dX5_byLeg_124 ?_
            refine top_cl (b := (wWet w kk r.toNat y hh.toNat v * wCh w hh.toNat)) (by exact hM _ _ _ _ (by omega) (by omega) (by omega) (by omega) (by omega) (by omega) (by omega) (by omega)) ?_
            refine r_lmul F dX5_byLeg_125 ?_
            exact top_cl (show (1000 * (wWet w kk r.toNat y hh.toNat v * wCh w hh.toNat)) = (1000 * legC w kk mi r.toNat y v) from by first | exact (legC_1 hq.1 hq.2).symm | exact (legC_0 (fun q => by rcases hhc with q2 | q2 <;> omega)).symm) (hj_32 _ _ hP hD hS)
          · refine lv_lconst (v := lI 0) F.1 F.2.1 dX5_byLeg_103 (by decide +kernel) ?_
            refine lv_goto (tgt := 126) F.1 F.2.1 dX5_byLeg_104 (by decide) ?_
            exact top_cl (show 0 = (1000 * legC w kk mi r.toNat y v) from by first | exact (legC_1 hq.1 hq.2).symm | exact (legC_0 (fun q => by rcases hhc with q2 | q2 <;> omega)).symm) (hj_32 _ _ hP hD hS)
      · have c_21 := cmpI_eq.mp c_21
        refine lv_ldc2 (v := (1000000000000000000 : Int64)) F.1 F.2.1 F.2.2.2.1 (F.2.2.2.2.1 _ q1224) dX5_byLeg_66 ?_
        refine top_l (x := (1000000000000000000 : Int64)) (a := 1000000000000000000) (by decide +kernel) ?_
        exact rt_l F hQ hS (Nat.le_of_ble_eq_true rfl) (Nat.le_of_ble_eq_true rfl) () (congrArg (fun z => some (Value.long (lI z))) (show (legV w kk T tl p mi r.toNat y v) = 1000000000000000000 from by unfold legV; first | (rw [if_neg (by omega)]; done) | (rw [if_pos (by omega)]; done))) trivial hP hD dX5_byLeg_69
set_option maxHeartbeats 4000000 in
theorem ct_X5_byWaiting {G : Gm} {l : Launch} (w : Wd) (z : Wx) (wy : Nat) (ya : Nat) (yb : Nat) (yl : Nat) (kk : Nat) (tl : Int) (yp : Int) (ym : Int) (gl : Nat → Int) (T : Int → Int → Int) (p : Int) (mi : Int) (wl : va_W) (hW : WX G w z wl) (hk : (kk : Int) < wnW w) (hT : WyOk w T tl mi gl) (hB : WyB w T tl mi) (hp : inP w p) (hm : 0 ≤ mi ∧ mi ≤ tl ∧ tl ≤ 400) : Ct G l yX5_byWaiting (ws_ yX5_byWaiting cX5_byWaiting 5 (some .long)) ({ frames := 3, cells := 0, slots := 0, locals := 60 } : Room) [.ref wy, .int (iI p), .int (iI mi)] ([(wy, .inr (4, [.ref ya, .ref yb, .ref yl, .ref (z 0 0), .ref (z 5 kk), .int (iI tl), .int (iI yp), .int (iI ym)])), (ya, .inl (G.2.1 3, 3208, .inr (.inl (aL gl))))] ++ wl) (fun _ : Unit => True) (fun _ : Unit => ((some (.long (lI (waitV w kk T tl p mi)))) : Option Value)) (fun _ : Unit => (([(wy, .inr (4, [.ref ya, .ref yb, .ref yl, .ref (z 0 0), .ref (z 5 kk), .int (iI tl), .int (iI yp), .int (iI ym)])), (ya, .inl (G.2.1 3, 3208, .inr (.inl (aL gl))))] ++ wl) : va_W)) := by
  refine Ct.of (by decide) rfl ?_
  intro pP eE sS mM below meth cC A ls Q F hE hA hP hD hS hl hQ
  have hl : lv_has ls 5 [(0, .ref wy), (1, .int (iI p)), (2, .int (iI mi))] := hl
  have hok := hW.ok
  obtain ⟨wb0, wb1, wb2, wb3, wb4, wb5⟩ := hok.nums
  have hks := (hok.walker kk hk).1.speeds
  have hpp := hok.place p.toNat (by omega)
  have hdr := wDrip_in hok (p := p.toNat) (by omega)
  have htl : 0 ≤ wTopL w kk ∧ wTopL w kk ≤ 153 := (hok.walker kk hk).1.tops.2.2.2.1
  refine lv_aload_n F.1 F.2.1 dX5_byWaiting_0 rfl (lv_at hl 0 rfl) ?_
  refine r_get F (ci := 4) (v := .ref (z 0 0)) b_X5 hE hP 0 rfl 3 (by decide) q301 (fun _ h9 => h9) rfl dX5_byWaiting_1 ?_
  obtain ⟨k_1, hk_2⟩ := mem_at (X := [(wy, .inr (4, [.ref ya, .ref yb, .ref yl, .ref (z 0 0), .ref (z 5 kk), .int (iI tl), .int (iI yp), .int (iI ym)])), (ya, .inl (G.2.1 3, 3208, .inr (.inl (aL gl))))]) hW.obj
  refine r_get F (ci := 6) (v := .ref (z 1 1)) b_X8 hE hP k_1 hk_2 1 (by decide) q447 (fun _ h9 => h9) rfl dX5_byWaiting_4 ?_
  refine lv_iload_n F.1 F.2.1 dX5_byWaiting_7 rfl (lv_at hl 1 rfl) ?_
  obtain ⟨k_3, hk_4⟩ := mem_at (X := [(wy, .inr (4, [.ref ya, .ref yb, .ref yl, .ref (z 0 0), .ref (z 5 kk), .int (iI tl), .int (iI yp), .int (iI ym)])), (ya, .inl (G.2.1 3, 3208, .inr (.inl (aL gl))))]) hW.placesA
  refine r_aald F (f := (oA (wnP w) (z 3))) (v := .ref (z 3 p.toNat)) hE hP k_3 hk_4 rfl p.toNat (by omega) (by omega) (by decide) (oA_at (by omega)) dX5_byWaiting_8 ?_
  refine lv_astore_n (lv' := [(3, .ref (z 3 p.toNat)), (0, .ref wy), (1, .int (iI p)), (2, .int (iI mi))]) F.1 F.2.1 dX5_byWaiting_9 rfl hl (Nat.le_of_ble_eq_true rfl) rfl (fun ls hl => ?_)
  refine lv_aload_n F.1 F.2.1 dX5_byWaiting_10 rfl (lv_at hl 0 rfl) ?_
  obtain ⟨k_7, hk_8⟩ := mem_at (X := [(wy, .inr (4, [.ref ya, .ref yb, .ref yl, .ref (z 0 0), .ref (z 5 kk), .int (iI tl), .int (iI yp), .int (iI ym)])), (ya, .inl (G.2.1 3, 3208, .inr (.inl (aL gl))))]) (hW.place p.toNat (by omega))
  refine cl_V F (C := "RainWalk$Place") (ct_X11_isShelter (z 3 p.toNat) (z 8 p.toNat) (p.toNat : Int) (wInn w p.toNat) (wIsT w p.toNat) (wDrip w p.toNat) wl hpp.1 wIsT_in (hW.place p.toNat (by omega))) hd_X11_isShelter rfl q1233 q1234 q1235 q130 q1236 (va_recv hE.1 hP (ci := 8) (q0 := k_7) rfl hk_8) hE hP hD hS hA (X := [(wy, .inr (4, [.ref ya, .ref yb, .ref yl, .ref (z 0 0), .ref (z 5 kk), .int (iI tl), .int (iI yp), .int (iI ym)])), (ya, .inl (G.2.1 3, 3208, .inr (.inl (aL gl))))]) (pl := wl) (cx := []) (wr := [(wy, .inr (4, [.ref ya, .ref yb, .ref yl, .ref (z 0 0), .ref (z 5 kk), .int (iI tl), .int (iI yp), .int (iI ym)])), (ya, .inl (G.2.1 3, 3208, .inr (.inl (aL gl))))]) [] [0, 1] rfl rfl rfl rfl (by decide) rfl rfl rfl (Nat.le_of_ble_eq_true rfl) hl.1 dX5_byWaiting_11 ⟨Nat.le_of_ble_eq_true rfl, Nat.le_of_ble_eq_true rfl⟩ ⟨Nat.le_of_ble_eq_true rfl, Nat.le_of_ble_eq_true rfl⟩ (fun _ H locs _ hP hD hS => ?_)
  have hP : va_P G.1 clG ([(wy, .inr (4, [.ref ya, .ref yb, .ref yl, .ref (z 0 0), .ref (z 5 kk), .int (iI tl), .int (iI yp), .int (iI ym)])), (ya, .inl (G.2.1 3, 3208, .inr (.inl (aL gl))))] ++ wl) _ := hP
  have hD : va_D A ([(wy, .inr (4, [.ref ya, .ref yb, .ref yl, .ref (z 0 0), .ref (z 5 kk), .int (iI tl), .int (iI yp), .int (iI ym)])), (ya, .inl (G.2.1 3, 3208, .inr (.inl (aL gl))))] ++ wl) := hD
  refine W.eq (g2 := F0 mM 14 ls [.int (iI (pI ((wInn w p.toNat) = 1 ∨ (wIsT w p.toNat) = 1)))]) rfl ?_
  refine r_ifz F (tgt := 44) dX5_byWaiting_14 (by decide) (fun c_9 => ?_) (fun c_9 => ?_)
  · refine lv_ldc2 (v := (1000000000000000000 : Int64)) F.1 F.2.1 F.2.2.2.1 (F.2.2.2.2.1 _ q1224) dX5_byWaiting_44 ?_
    refine top_l (x := (1000000000000000000 : Int64)) (a := 1000000000000000000) (by decide +kernel) ?_
    exact rt_l F hQ hS (Nat.le_of_ble_eq_true rfl) (Nat.le_of_ble_eq_true rfl) () (congrArg (fun z => some (Value.long (lI z))) (show (waitV w kk T tl p mi) = 1000000000000000000 from by unfold waitV; first | (rw [if_neg (by omega)]; done) | (rw [if_pos (by omega)]; done))) trivial hP hD dX5_byWaiting_47
  · refine lv_iload_n F.1 F.2.1 dX5_byWaiting_17 rfl (lv_at hl 3 rfl) ?_
    refine lv_aload_n F.1 F.2.1 dX5_byWaiting_18 rfl (lv_at hl 1 rfl) ?_
    refine r_get F (ci := 4) (v := .int (iI tl)) b_X5 hE hP 0 rfl 5 (by decide) q303 (fun _ h9 => h9) rfl dX5_byWaiting_19 ?_
    refine r_icmp_eq F (tgt := 44) (by omega) (by omega) dX5_byWaiting_22 (by decide) (fun c_10 => ?_) (fun c_10 => ?_)
    · refine lv_ldc2 (v := (1000000000000000000 : Int64)) F.1 F.2.1 F.2.2.2.1 (F.2.2.2.2.1 _ q1224) dX5_byWaiting_44 ?_
      refine top_l (x := (1000000000000000000 : Int64)) (a := 1000000000000000000) (by decide +kernel) ?_
      exact rt_l F hQ hS (Nat.le_of_ble_eq_true rfl) (Nat.le_of_ble_eq_true rfl) () (congrArg (fun z => some (Value.long (lI z))) (show (waitV w kk T tl p mi) = 1000000000000000000 from by unfold waitV; first | (rw [if_neg (by omega)]; done) | (rw [if_pos (by omega)]; done))) trivial hP hD dX5_byWaiting_47
    · have hbt : T (mi + 1) p = 1000000000000000000 ∨ (0 ≤ T (mi + 1) p ∧ T (mi + 1) p ≤ 1000 + 1873821600000000 * (tl - (mi + 1))) := hB _ _ (by omega) (by omega) (by omega) (by omega)
      refine lv_aload_n F.1 F.2.1 dX5_byWaiting_25 rfl (lv_at hl 1 rfl) ?_
      refine r_get F (ci := 4) (v := .ref ya) b_X5 hE hP 0 rfl 0 (by decide) q298 (fun _ h9 => h9) rfl dX5_byWaiting_26 ?_
      refine lv_iload_n F.1 F.2.1 dX5_byWaiting_29 rfl (lv_at hl 2 rfl) ?_
      refine lv_iload_n F.1 F.2.1 dX5_byWaiting_30 rfl (lv_at hl 3 rfl) ?_
      refine lv_iconst (v := iI 1) F.1 F.2.1 dX5_byWaiting_31 rfl ?_
      refine r_iadd F dX5_byWaiting_32 ?_
      refine cl_S F (ct_X5_at p (mi + 1) wl) hd_X5_at q1221 q1222 q119 q1223 hE hP hD hS hA (X := [(wy, .inr (4, [.ref ya, .ref yb, .ref yl, .ref (z 0 0), .ref (z 5 kk), .int (iI tl), .int (iI yp), .int (iI ym)])), (ya, .inl (G.2.1 3, 3208, .inr (.inl (aL gl))))]) (pl := wl) (cx := []) (wr := [(wy, .inr (4, [.ref ya, .ref yb, .ref yl, .ref (z 0 0), .ref (z 5 kk), .int (iI tl), .int (iI yp), .int (iI ym)])), (ya, .inl (G.2.1 3, 3208, .inr (.inl (aL gl))))]) [] [0, 1] rfl rfl rfl rfl (by decide) rfl rfl rfl (Nat.le_of_ble_eq_true rfl) hl.1 dX5_byWaiting_33 ⟨Nat.le_of_ble_eq_true rfl, Nat.le_of_ble_eq_true rfl⟩ ⟨Nat.le_of_ble_eq_true rfl, Nat.le_of_ble_eq_true rfl⟩ (fun _ H locs _ hP hD hS => ?_)
      have hP : va_P G.1 clG ([(wy, .inr (4, [.ref ya, .ref yb, .ref yl, .ref (z 0 0), .ref (z 5 kk), .int (iI tl), .int (iI yp), .int (iI ym)])), (ya, .inl (G.2.1 3, 3208, .inr (.inl (aL gl))))] ++ wl) _ := hP
      have hD : va_D A ([(wy, .inr (4, [.ref ya, .ref yb, .ref yl, .ref (z 0 0), .ref (z 5 kk), .int (iI tl), .int (iI yp), .int (iI ym)])), (ya, .inl (G.2.1 3, 3208, .inr (.inl (aL gl))))] ++ wl) := hD
      refine W.eq (g2 := F0 mM 36 ls [.int (iI (401 * p + (mi + 1))), .ref ya]) rfl ?_
      refine r_lald F (g := gl) hE hP 1 rfl ((401 * p + (mi + 1)).toNat) (by omega) (by omega) (by decide) dX5_byWaiting_36 ?_
      refine top_cl (b := (T (mi + 1) p)) (by exact hT _ _ (by omega) (by omega) (by omega) (by omega)) ?_
      refine lv_ldc2 (v := (1000000000000000000 : Int64)) F.1 F.2.1 F.2.2.2.1 (F.2.2.2.2.1 _ q1224) dX5_byWaiting_37 ?_
      refine top_l (x := (1000000000000000000 : Int64)) (a := 1000000000000000000) (by decide +kernel) ?_
      refine r_lcmp F (by omega) (by decide) dX5_byWaiting_40 ?_
      refine r_if_ne F (tgt := 48) cmp_in dX5_byWaiting_41 (by decide) (fun c_13 => ?_) (fun c_13 => ?_)
      · have c_13 := cmpI_ne0 c_13
        refine lv_aload_n F.1 F.2.1 dX5_byWaiting_48 rfl (lv_at hl 1 rfl) ?_
        refine r_get F (ci := 4) (v := .ref (z 0 0)) b_X5 hE hP 0 rfl 3 (by decide) q301 (fun _ h9 => h9) rfl dX5_byWaiting_49 ?_
        refine lv_iload_n F.1 F.2.1 dX5_byWaiting_52 rfl (lv_at hl 3 rfl) ?_
        obtain ⟨k_16, hk_17⟩ := mem_at (X := [(wy, .inr (4, [.ref ya, .ref yb, .ref yl, .ref (z 0 0), .ref (z 5 kk), .int (iI tl), .int (iI yp), .int (iI ym)])), (ya, .inl (G.2.1 3, 3208, .inr (.inl (aL gl))))]) hW.obj
        refine cl_V F (C := "RainWalk$World") (ct_X8_hourOf w z mi wl (by omega) (by omega) (by omega) hW.obj) hd_X8_hourOf rfl q1237 q1238 q1239 q122 q1240 (va_recv hE.1 hP (ci := 6) (q0 := k_16) rfl hk_17) hE hP hD hS hA (X := [(wy, .inr (4, [.ref ya, .ref yb, .ref yl, .ref (z 0 0), .ref (z 5 kk), .int (iI tl), .int (iI yp), .int (iI ym)])), (ya, .inl (G.2.1 3, 3208, .inr (.inl (aL gl))))]) (pl := wl) (cx := []) (wr := [(wy, .inr (4, [.ref ya, .ref yb, .ref yl, .ref (z 0 0), .ref (z 5 kk), .int (iI tl), .int (iI yp), .int (iI ym)])), (ya, .inl (G.2.1 3, 3208, .inr (.inl (aL gl))))]) [] [0, 1] rfl rfl rfl rfl (by decide) rfl rfl rfl (Nat.le_of_ble_eq_true rfl) hl.1 dX5_byWaiting_53 ⟨Nat.le_of_ble_eq_true rfl, Nat.le_of_ble_eq_true rfl⟩ ⟨Nat.le_of_ble_eq_true rfl, Nat.le_of_ble_eq_true rfl⟩ (fun _ H locs _ hP hD hS => ?_)
        have hP : va_P G.1 clG ([(wy, .inr (4, [.ref ya, .ref yb, .ref yl, .ref (z 0 0), .ref (z 5 kk), .int (iI tl), .int (iI yp), .int (iI ym)])), (ya, .inl (G.2.1 3, 3208, .inr (.inl (aL gl))))] ++ wl) _ := hP
        have hD : va_D A ([(wy, .inr (4, [.ref ya, .ref yb, .ref yl, .ref (z 0 0), .ref (z 5 kk), .int (iI tl), .int (iI yp), .int (iI ym)])), (ya, .inl (G.2.1 3, 3208, .inr (.inl (aL gl))))] ++ wl) := hD
        refine W.eq (g2 := F0 mM 56 ls [.int (iI (if mi / wHour w < wnH w then mi / wHour w else -1))]) rfl ?_
        refine top_gi (fun hh e_hh => ?_)
        have hhc : (mi / wHour w < wnH w ∧ hh = mi / wHour w) ∨ (¬ mi / wHour w < wnH w ∧ hh = -1) := by
            by_cases q : mi / wHour w < wnH w
            · exact Or.inl ⟨q, by rw [e_hh, if_pos q]⟩
            · exact Or.inr ⟨q, by rw [e_hh, if_neg q]⟩
        have hd0 := Int.ediv_nonneg (show 0 ≤ mi by omega) (show 0 ≤ wHour w by omega)
        refine lv_istore (lv' := [(4, .int (iI hh)), (3, .ref (z 3 p.toNat)), (0, .ref wy), (1, .int (iI p)), (2, .int (iI mi))]) F.1 F.2.1 dX5_byWaiting_56 hl (Nat.le_of_ble_eq_true rfl) rfl (fun ls hl => ?_)
        refine lv_aload_n F.1 F.2.1 dX5_byWaiting_58 rfl (lv_at hl 2 rfl) ?_
        refine r_get F (ci := 4) (v := .ref ya) b_X5 hE hP 0 rfl 0 (by decide) q298 (fun _ h9 => h9) rfl dX5_byWaiting_59 ?_
        refine lv_iload_n F.1 F.2.1 dX5_byWaiting_62 rfl (lv_at hl 3 rfl) ?_
        refine lv_iload_n F.1 F.2.1 dX5_byWaiting_63 rfl (lv_at hl 4 rfl) ?_
        refine lv_iconst (v := iI 1) F.1 F.2.1 dX5_byWaiting_64 rfl ?_
        refine r_iadd F dX5_byWaiting_65 ?_
        refine cl_S F (ct_X5_at p (mi + 1) wl) hd_X5_at q1221 q1222 q119 q1223 hE hP hD hS hA (X := [(wy, .inr (4, [.ref ya, .ref yb, .ref yl, .ref (z 0 0), .ref (z 5 kk), .int (iI tl), .int (iI yp), .int (iI ym)])), (ya, .inl (G.2.1 3, 3208, .inr (.inl (aL gl))))]) (pl := wl) (cx := []) (wr := [(wy, .inr (4, [.ref ya, .ref yb, .ref yl, .ref (z 0 0), .ref (z 5 kk), .int (iI tl), .int (iI yp), .int (iI ym)])), (ya, .inl (G.2.1 3, 3208, .inr (.inl (aL gl))))]) [] [0, 1] rfl rfl rfl rfl (by decide) rfl rfl rfl (Nat.le_of_ble_eq_true rfl) hl.1 dX5_byWaiting_66 ⟨Nat.le_of_ble_eq_true rfl, Nat.le_of_ble_eq_true rfl⟩ ⟨Nat.le_of_ble_eq_true rfl, Nat.le_of_ble_eq_true rfl⟩ (fun _ H locs _ hP hD hS => ?_)
        have hP : va_P G.1 clG ([(wy, .inr (4, [.ref ya, .ref yb, .ref yl, .ref (z 0 0), .ref (z 5 kk), .int (iI tl), .int (iI yp), .int (iI ym)])), (ya, .inl (G.2.1 3, 3208, .inr (.inl (aL gl))))] ++ wl) _ := hP
        have hD : va_D A ([(wy, .inr (4, [.ref ya, .ref yb, .ref yl, .ref (z 0 0), .ref (z 5 kk), .int (iI tl), .int (iI yp), .int (iI ym)])), (ya, .inl (G.2.1 3, 3208, .inr (.inl (aL gl))))] ++ wl) := hD
        refine W.eq (g2 := F0 mM 69 ls [.int (iI (401 * p + (mi + 1))), .ref ya]) rfl ?_
        refine r_lald F (g := gl) hE hP 1 rfl ((401 * p + (mi + 1)).toNat) (by omega) (by omega) (by decide) dX5_byWaiting_69 ?_
        refine top_cl (b := (T (mi + 1) p)) (by exact hT _ _ (by omega) (by omega) (by omega) (by omega)) ?_
        refine lv_iload F.1 F.2.1 dX5_byWaiting_70 (lv_at hl 0 rfl) ?_
        refine lv_iconst (v := iI (-1)) F.1 F.2.1 dX5_byWaiting_72 rfl ?_
        refine jn_el (j := 117) (ls := ls) (A := A) (G := G) (ws := ([(wy, .inr (4, [.ref ya, .ref yb, .ref yl, .ref (z 0 0), .ref (z 5 kk), .int (iI tl), .int (iI yp), .int (iI ym)])), (ya, .inl (G.2.1 3, 3208, .inr (.inl (aL gl))))] ++ wl)) (kf := 0) (nf := 0) (a := (1000 * waitC w kk mi p)) (rest := [.long (lI (T (mi + 1) p))]) (fun H locs hP hD hS => ?_) (fun hj_20 => ?_)
        · refine r_ladd F dX5_byWaiting_117 ?_
          exact rt_l F hQ hS (Nat.le_of_ble_eq_true rfl) (Nat.le_of_ble_eq_true rfl) () (congrArg (fun z => some (Value.long (lI z))) (show (waitV w kk T tl p mi) = ((T (mi + 1) p) + (1000 * waitC w kk mi p)) from by unfold waitV; first | (rw [if_neg (by omega)]; done) | (rw [if_pos (by omega)]; done))) trivial hP hD dX5_byWaiting_118
        · refine r_icmp_ne F (tgt := 80) (by omega) (by decide) dX5_byWaiting_73 (by decide) (fun c_21 => ?_) (fun c_21 => ?_)
          · have hq : mi / wHour w < wnH w ∧ hh = mi / wHour w := hhc.resolve_right (fun q => absurd q.2 (by omega))
            have hch := (hok.rain hh.toNat (by omega)).2.2.2.2
            refine lv_ldc2 (v := (1000 : Int64)) F.1 F.2.1 F.2.2.2.1 (F.2.2.2.2.1 _ q1241) dX5_byWaiting_80 ?_
            refine top_l (x := (1000 : Int64)) (a := 1000) (by decide +kernel) ?_
            refine lv_aload_n F.1 F.2.1 dX5_byWaiting_83 rfl (lv_at hl 2 rfl) ?_
            refine r_get F (ci := 4) (v := .ref (z 0 0)) b_X5 hE hP 0 rfl 3 (by decide) q301 (fun _ h9 => h9) rfl dX5_byWaiting_84 ?_
            obtain ⟨k_22, hk_23⟩ := mem_at (X := [(wy, .inr (4, [.ref ya, .ref yb, .ref yl, .ref (z 0 0), .ref (z 5 kk), .int (iI tl), .int (iI yp), .int (iI ym)])), (ya, .inl (G.2.1 3, 3208, .inr (.inl (aL gl))))]) hW.obj
            refine r_get F (ci := 6) (v := .ref (z 1 0)) b_X8 hE hP k_22 hk_23 0 (by decide) q443 (fun _ h9 => h9) rfl dX5_byWaiting_87 ?_
            refine lv_iload F.1 F.2.1 dX5_byWaiting_90 (lv_at hl 0 rfl) ?_
            obtain ⟨k_24, hk_25⟩ := mem_at (X := [(wy, .inr (4, [.ref ya, .ref yb, .ref yl, .ref (z 0 0), .ref (z 5 kk), .int (iI tl), .int (iI yp), .int (iI ym)])), (ya, .inl (G.2.1 3, 3208, .inr (.inl (aL gl))))]) hW.hoursA
            refine r_aald F (f := (oA (wnH w) (z 2))) (v := .ref (z 2 hh.toNat)) hE hP k_24 hk_25 rfl hh.toNat (by omega) (by omega) (by decide) (oA_at (by omega)) dX5_byWaiting_92 ?_
            obtain ⟨k_26, hk_27⟩ := mem_at (X := [(wy, .inr (4, [.ref ya, .ref yb, .ref yl, .ref (z 0 0), .ref (z 5 kk), .int (iI tl), .int (iI yp), .int (iI ym)])), (ya, .inl (G.2.1 3, 3208, .inr (.inl (aL gl))))]) (hW.rain hh.toNat (by omega))
            refine r_get F (ci := 7) (v := .int (iI (wCh w hh.toNat))) b_X9 hE hP k_26 hk_27 4 (by decide) q730 (fun _ h9 => h9) rfl dX5_byWaiting_93 ?_
            refine r_i2l F (by omega) dX5_byWaiting_96 ?_
            refine r_lmul F dX5_byWaiting_97 ?_
            refine lv_ldc2 (v := (2520 : Int64)) F.1 F.2.1 F.2.2.2.1 (F.2.2.2.2.1 _ q1242) dX5_byWaiting_98 ?_
            refine top_l (x := (2520 : Int64)) (a := 2520) (by decide +kernel) ?_
            refine r_lmul F dX5_byWaiting_101 ?_
            refine lv_aload_n F.1 F.2.1 dX5_byWaiting_102 rfl (lv_at hl 1 rfl) ?_
            obtain ⟨k_28, hk_29⟩ := mem_at (X := [(wy, .inr (4, [.ref ya, .ref yb, .ref yl, .ref (z 0 0), .ref (z 5 kk), .int (iI tl), .int (iI yp), .int (iI ym)])), (ya, .inl (G.2.1 3, 3208, .inr (.inl (aL gl))))]) (hW.place p.toNat (by omega))
            refine r_get F (ci := 8) (v := .int (iI (wDrip w p.toNat))) b_X11 hE hP k_28 hk_29 4 (by decide) q779 (fun _ h9 => h9) rfl dX5_byWaiting_103 ?_
            refine r_i2l F (by omega) dX5_byWaiting_106 ?_
            refine r_lmul F dX5_byWaiting_107 ?_
            refine lv_aload_n F.1 F.2.1 dX5_byWaiting_108 rfl (lv_at hl 2 rfl) ?_
            refine r_get F (ci := 4) (v := .ref (z 5 kk)) b_X5 hE hP 0 rfl 4 (by decide) q302 (fun _ h9 => h9) rfl dX5_byWaiting_109 ?_
            obtain ⟨k_32, hk_33⟩ := mem_at (X := [(wy, .inr (4, [.ref ya, .ref yb, .ref yl, .ref (z 0 0), .ref (z 5 kk), .int (iI tl), .int (iI yp), .int (iI ym)])), (ya, .inl (G.2.1 3, 3208, .inr (.inl (aL gl))))]) (hW.walker kk hk)
            refine cl_U F (C := clsW (wKd w kk)) (ct_X13_topLeft (z 5 kk) (wKd w kk) (wBy w kk) (wBr w kk) (wDp w kk) (wHg w kk) (wSl w kk) (wFa w kk) (kk : Int) (z 9 kk) wl ((hok.walker _ (by omega)).1) (hW.walker kk hk)) hd_X13_topLeft q1243 q1034 q1033 (selW_topLeft (wKd w kk)) q132 q1039 (recvW hE hP (q0 := k_32) hk_33) hE hP hD hS hA (X := [(wy, .inr (4, [.ref ya, .ref yb, .ref yl, .ref (z 0 0), .ref (z 5 kk), .int (iI tl), .int (iI yp), .int (iI ym)])), (ya, .inl (G.2.1 3, 3208, .inr (.inl (aL gl))))]) (pl := wl) (cx := []) (wr := [(wy, .inr (4, [.ref ya, .ref yb, .ref yl, .ref (z 0 0), .ref (z 5 kk), .int (iI tl), .int (iI yp), .int (iI ym)])), (ya, .inl (G.2.1 3, 3208, .inr (.inl (aL gl))))]) [] [0, 1] rfl rfl rfl rfl (by decide) rfl rfl rfl (Nat.le_of_ble_eq_true rfl) hl.1 dX5_byWaiting_112 ⟨Nat.le_of_ble_eq_true rfl, Nat.le_of_ble_eq_true rfl⟩ ⟨Nat.le_of_ble_eq_true rfl, Nat.le_of_ble_eq_true rfl⟩ (fun _ H locs _ hP hD hS => ?_)
            have hP : va_P G.1 clG ([(wy, .inr (4, [.ref ya, .ref yb, .ref yl, .ref (z 0 0), .ref (z 5 kk), .int (iI tl), .int (iI yp), .int (iI ym)])), (ya, .inl (G.2.1 3, 3208, .inr (.inl (aL gl))))] ++ wl) _ := hP
            have hD : va_D A ([(wy, .inr (4, [.ref ya, .ref yb, .ref yl, .ref (z 0 0), .ref (z 5 kk), .int (iI tl), .int (iI yp), .int (iI ym)])), (ya, .inl (G.2.1 3, 3208, .inr (.inl (aL gl))))] ++ wl) := hD
            refine W.eq (g2 := F0 mM 115 ls [.int (iI (topLR (wKd w kk) (wBy w kk) (wBr w kk) (wDp w kk))), .long (lI (((1000 * (wCh w hh.toNat)) * 2520) * (wDrip w p.toNat))), .long (lI (T (mi + 1) p))]) rfl ?_
            refine top_ci (b := (wTopL w kk)) (by rfl) ?_
            refine r_i2l F (by omega) dX5_byWaiting_115 ?_
            refine r_lmul F dX5_byWaiting_116 ?_
            exact top_cl (show ((((1000 * (wCh w hh.toNat)) * 2520) * (wDrip w p.toNat)) * (wTopL w kk)) = (1000 * waitC w kk mi p) from by first | exact (waitC_1 hq.1 hq.2).symm | exact (waitC_0 (fun q => by rcases hhc with q2 | q2 <;> omega)).symm) (hj_20 _ _ hP hD hS)
          · refine lv_lconst (v := lI 0) F.1 F.2.1 dX5_byWaiting_76 (by decide +kernel) ?_
            refine lv_goto (tgt := 117) F.1 F.2.1 dX5_byWaiting_77 (by decide) ?_
            exact top_cl (show 0 = (1000 * waitC w kk mi p) from by first | exact (waitC_1 hq.1 hq.2).symm | exact (waitC_0 (fun q => by rcases hhc with q2 | q2 <;> omega)).symm) (hj_20 _ _ hP hD hS)
      · have c_13 := cmpI_eq.mp c_13
        refine lv_ldc2 (v := (1000000000000000000 : Int64)) F.1 F.2.1 F.2.2.2.1 (F.2.2.2.2.1 _ q1224) dX5_byWaiting_44 ?_
        refine top_l (x := (1000000000000000000 : Int64)) (a := 1000000000000000000) (by decide +kernel) ?_
        exact rt_l F hQ hS (Nat.le_of_ble_eq_true rfl) (Nat.le_of_ble_eq_true rfl) () (congrArg (fun z => some (Value.long (lI z))) (show (waitV w kk T tl p mi) = 1000000000000000000 from by unfold waitV; first | (rw [if_neg (by omega)]; done) | (rw [if_pos (by omega)]; done))) trivial hP hD dX5_byWaiting_47
theorem hd_X5_byLeg : Hd yX5_byLeg 5 := ⟨by decide +kernel, by decide +kernel, by decide +kernel⟩
theorem hd_X5_byWaiting : Hd yX5_byWaiting 2 := ⟨by decide +kernel, by decide +kernel, by decide +kernel⟩
set_option maxHeartbeats 4000000 in
theorem ct_X5_best {G : Gm} {l : Launch} (w : Wd) (z : Wx) (wy : Nat) (ya : Nat) (yb : Nat) (yl : Nat) (kk : Nat) (tl : Int) (yp : Int) (ym : Int) (gl : Nat → Int) (T : Int → Int → Int) (gm : Nat → Int) (p : Int) (mi : Int) (wl : va_W) (hW : WX G w z wl) (hk : (kk : Int) < wnW w) (hT : WyOk w T tl mi gl) (hB : WyB w T tl mi) (hM : MnOk w kk gm) (hp : inP w p) (hm : 0 ≤ mi ∧ mi ≤ tl ∧ tl ≤ 400) : Ct G l yX5_best (ws_ yX5_best cX5_best 8 (some .long)) ({ frames := 4, cells := 0, slots := 0, locals := 84 } : Room) [.ref wy, .int (iI p), .int (iI mi)] ([(wy, .inr (4, [.ref ya, .ref yb, .ref yl, .ref (z 0 0), .ref (z 5 kk), .int (iI tl), .int (iI yp), .int (iI ym)])), (ya, .inl (G.2.1 3, 3208, .inr (.inl (aL gl)))), (yb, .inl (G.2.1 3, 1440, .inr (.inl (aL gm))))] ++ wl) (fun _ : Unit => True) (fun _ : Unit => ((some (.long (lI (bestV w kk T tl p mi)))) : Option Value)) (fun _ : Unit => (([(wy, .inr (4, [.ref ya, .ref yb, .ref yl, .ref (z 0 0), .ref (z 5 kk), .int (iI tl), .int (iI yp), .int (iI ym)])), (ya, .inl (G.2.1 3, 3208, .inr (.inl (aL gl)))), (yb, .inl (G.2.1 3, 1440, .inr (.inl (aL gm))))] ++ wl) : va_W)) := by
  refine Ct.of (by decide) rfl ?_
  intro pP eE sS mM below meth cC A ls Q F hE hA hP hD hS hl hQ
  have hl : lv_has ls 8 [(0, .ref wy), (1, .int (iI p)), (2, .int (iI mi))] := hl
  have hok := hW.ok
  obtain ⟨wb0, wb1, wb2, wb3, wb4, wb5⟩ := hok.nums
  have hks := (hok.walker kk hk).1.speeds
  have hN : (wN w kk : Int) = wFa w kk - wSl w kk + 1 := (by show ((wFa w kk - wSl w kk + 1).toNat : Int) = _; omega)
  refine lv_aload_n F.1 F.2.1 dX5_best_0 rfl (lv_at hl 0 rfl) ?_
  refine lv_iload_n F.1 F.2.1 dX5_best_1 rfl (lv_at hl 1 rfl) ?_
  refine lv_iload_n F.1 F.2.1 dX5_best_2 rfl (lv_at hl 2 rfl) ?_
  refine cl_V F (C := "RainWalk$Ways") (ct_X5_byWaiting w z wy ya yb yl kk tl yp ym gl T p mi wl hW hk hT hB hp hm) hd_X5_byWaiting rfl q1229 q1231 qs40 q119 q1232 (va_recv hE.1 hP (ci := 4) (q0 := 0) rfl rfl) hE hP hD hS hA (X := [(wy, .inr (4, [.ref ya, .ref yb, .ref yl, .ref (z 0 0), .ref (z 5 kk), .int (iI tl), .int (iI yp), .int (iI ym)])), (ya, .inl (G.2.1 3, 3208, .inr (.inl (aL gl)))), (yb, .inl (G.2.1 3, 1440, .inr (.inl (aL gm))))]) (pl := wl) (cx := [(wy, .inr (4, [.ref ya, .ref yb, .ref yl, .ref (z 0 0), .ref (z 5 kk), .int (iI tl), .int (iI yp), .int (iI ym)])), (ya, .inl (G.2.1 3, 3208, .inr (.inl (aL gl))))]) (wr := [(yb, .inl (G.2.1 3, 1440, .inr (.inl (aL gm))))]) [0, 1] [2] rfl rfl rfl rfl (by decide) rfl rfl rfl (Nat.le_of_ble_eq_true rfl) hl.1 dX5_best_3 ⟨Nat.le_of_ble_eq_true rfl, Nat.le_of_ble_eq_true rfl⟩ ⟨Nat.le_of_ble_eq_true rfl, Nat.le_of_ble_eq_true rfl⟩ (fun _ H locs _ hP hD hS => ?_)
  have hP : va_P G.1 clG ([(yb, .inl (G.2.1 3, 1440, .inr (.inl (aL gm)))), (wy, .inr (4, [.ref ya, .ref yb, .ref yl, .ref (z 0 0), .ref (z 5 kk), .int (iI tl), .int (iI yp), .int (iI ym)])), (ya, .inl (G.2.1 3, 3208, .inr (.inl (aL gl))))] ++ wl) _ := hP
  have hD : va_D A ([(yb, .inl (G.2.1 3, 1440, .inr (.inl (aL gm)))), (wy, .inr (4, [.ref ya, .ref yb, .ref yl, .ref (z 0 0), .ref (z 5 kk), .int (iI tl), .int (iI yp), .int (iI ym)])), (ya, .inl (G.2.1 3, 3208, .inr (.inl (aL gl))))] ++ wl) := hD
  refine W.eq (g2 := F0 mM 6 ls [.long (lI (waitV w kk T tl p mi))]) rfl ?_
  refine lv_lstore_n (lv' := [(3, .long (lI (waitV w kk T tl p mi))), (0, .ref wy), (1, .int (iI p)), (2, .int (iI mi))]) F.1 F.2.1 dX5_best_6 rfl hl (Nat.le_of_ble_eq_true rfl) rfl (fun ls hl => ?_)
  refine lv_iconst (v := iI 0) F.1 F.2.1 dX5_best_7 rfl ?_
  refine lv_istore (lv' := [(5, .int (iI 0)), (3, .long (lI (waitV w kk T tl p mi))), (0, .ref wy), (1, .int (iI p)), (2, .int (iI mi))]) F.1 F.2.1 dX5_best_8 hl (Nat.le_of_ble_eq_true rfl) rfl (fun ls hl => ?_)
  have hl : lv_has ls 8 [(0, .ref wy), (1, .int (iI p)), (2, .int (iI mi)), (3, .long (lI (waitV w kk T tl p mi))), (5, .int (iI 0))] := lv_sub hl [2, 3, 4, 1, 0] rfl
  have hl := lv_cv (fun zZ : Int => [(0, .ref wy), (1, .int (iI p)), (2, .int (iI mi)), (3, .long (lI zZ)), (5, .int (iI 0))]) (show (waitV w kk T tl p mi) = (lgR w kk T tl p mi (waitV w kk T tl p mi) 0) from by rfl) hl
  have hl := lv_cv (fun zZ : Int => [(0, .ref wy), (1, .int (iI p)), (2, .int (iI mi)), (3, .long (lI (lgR w kk T tl p mi (waitV w kk T tl p mi) 0))), (5, .int (iI zZ))]) (show 0 = (0 : Int) from by first | rfl | omega | (simp; done) | (simp; omega)) hl
  have hl : lv_has ls 8 [(0, .ref wy), (1, .int (iI p)), (2, .int (iI mi)), (3, .long (lI (lgR w kk T tl p mi (waitV w kk T tl p mi) 0))), (5, .int (iI (0 : Int)))] := hl
  refine lp_s (σ := Nat) (hd := 10) (st := []) (fun (r : Nat) => 13 - r) (fun (r : Nat) H locs ls => va_P G.1 clG ([(yb, .inl (G.2.1 3, 1440, .inr (.inl (aL gm)))), (wy, .inr (4, [.ref ya, .ref yb, .ref yl, .ref (z 0 0), .ref (z 5 kk), .int (iI tl), .int (iI yp), .int (iI ym)])), (ya, .inl (G.2.1 3, 3208, .inr (.inl (aL gl))))] ++ wl) H ∧ va_D A ([(yb, .inl (G.2.1 3, 1440, .inr (.inl (aL gm)))), (wy, .inr (4, [.ref ya, .ref yb, .ref yl, .ref (z 0 0), .ref (z 5 kk), .int (iI tl), .int (iI yp), .int (iI ym)])), (ya, .inl (G.2.1 3, 3208, .inr (.inl (aL gl))))] ++ wl) ∧ va_S A sS.heap H locs ∧ lv_has ls 8 [(0, .ref wy), (1, .int (iI p)), (2, .int (iI mi)), (3, .long (lI (lgR w kk T tl p mi (waitV w kk T tl p mi) r))), (5, .int (iI (r : Int)))] ∧ ((r : Int) ≤ wnR w)) (fun (r : Nat) => 0) (fun (r : Nat) => 0) ?_ 0 _ _ _ ⟨hP, hD, hS, hl, (by omega)⟩
  rintro r H locs ls ⟨hP, hD, hS, hl, hr⟩ ih_10
  have hbR := lgR_in (p := p) hok hB hk hm (waitV_in hok hB hk hp (by omega)) r hr
  refine lv_iload F.1 F.2.1 dX5_best_10 (lv_at hl 4 rfl) ?_
  refine lv_aload_n F.1 F.2.1 dX5_best_12 rfl (lv_at hl 0 rfl) ?_
  refine r_get F (ci := 4) (v := .ref (z 0 0)) b_X5 hE hP 1 rfl 3 (by decide) q301 (fun _ h9 => h9) rfl dX5_best_13 ?_
  obtain ⟨k_3, hk_4⟩ := mem_at (X := [(yb, .inl (G.2.1 3, 1440, .inr (.inl (aL gm)))), (wy, .inr (4, [.ref ya, .ref yb, .ref yl, .ref (z 0 0), .ref (z 5 kk), .int (iI tl), .int (iI yp), .int (iI ym)])), (ya, .inl (G.2.1 3, 3208, .inr (.inl (aL gl))))]) hW.obj
  refine r_get F (ci := 6) (v := .int (iI (wnR w))) b_X8 hE hP k_3 hk_4 8 (by decide) q471 (fun _ h9 => h9) rfl dX5_best_16 ?_
  refine r_icmp_ge F (tgt := 87) (by omega) (by omega) dX5_best_19 (by decide) (fun c_5 => ?_) (fun c_5 => ?_)
  · refine lv_lload_n F.1 F.2.1 dX5_best_87 rfl (lv_at hl 3 rfl) ?_
    have hD : va_D A ([(wy, .inr (4, [.ref ya, .ref yb, .ref yl, .ref (z 0 0), .ref (z 5 kk), .int (iI tl), .int (iI yp), .int (iI ym)])), (ya, .inl (G.2.1 3, 3208, .inr (.inl (aL gl)))), (yb, .inl (G.2.1 3, 1440, .inr (.inl (aL gm))))] ++ wl) := hD.part (cx := [(wy, .inr (4, [.ref ya, .ref yb, .ref yl, .ref (z 0 0), .ref (z 5 kk), .int (iI tl), .int (iI yp), .int (iI ym)])), (ya, .inl (G.2.1 3, 3208, .inr (.inl (aL gl)))), (yb, .inl (G.2.1 3, 1440, .inr (.inl (aL gm))))]) [1, 2, 0] (by decide) rfl
    have hP : va_P G.1 clG ([(wy, .inr (4, [.ref ya, .ref yb, .ref yl, .ref (z 0 0), .ref (z 5 kk), .int (iI tl), .int (iI yp), .int (iI ym)])), (ya, .inl (G.2.1 3, 3208, .inr (.inl (aL gl)))), (yb, .inl (G.2.1 3, 1440, .inr (.inl (aL gm))))] ++ wl) _ := hP.part (cx := [(wy, .inr (4, [.ref ya, .ref yb, .ref yl, .ref (z 0 0), .ref (z 5 kk), .int (iI tl), .int (iI yp), .int (iI ym)])), (ya, .inl (G.2.1 3, 3208, .inr (.inl (aL gl)))), (yb, .inl (G.2.1 3, 1440, .inr (.inl (aL gm))))]) [1, 2, 0] rfl
    exact rt_l F hQ hS (Nat.le_of_ble_eq_true rfl) (Nat.le_of_ble_eq_true rfl) () (congrArg (fun z => some (Value.long (lI z))) (show (bestV w kk T tl p mi) = (lgR w kk T tl p mi (waitV w kk T tl p mi) r) from by unfold bestV; rw [show (wnR w).toNat = r by omega])) trivial hP hD dX5_best_88
  · refine lv_iconst (v := iI 0) F.1 F.2.1 dX5_best_22 rfl ?_
    refine lv_istore (lv' := [(6, .int (iI 0)), (0, .ref wy), (1, .int (iI p)), (2, .int (iI mi)), (3, .long (lI (lgR w kk T tl p mi (waitV w kk T tl p mi) r))), (5, .int (iI (r : Int)))]) F.1 F.2.1 dX5_best_23 hl (Nat.le_of_ble_eq_true rfl) rfl (fun ls hl => ?_)
    have hl : lv_has ls 8 [(0, .ref wy), (1, .int (iI p)), (2, .int (iI mi)), (3, .long (lI (lgR w kk T tl p mi (waitV w kk T tl p mi) r))), (5, .int (iI (r : Int))), (6, .int (iI 0))] := lv_sub hl [1, 2, 3, 4, 5, 0] rfl
    have hl := lv_cv (fun zZ : Int => [(0, .ref wy), (1, .int (iI p)), (2, .int (iI mi)), (3, .long (lI zZ)), (5, .int (iI (r : Int))), (6, .int (iI 0))]) (show (lgR w kk T tl p mi (waitV w kk T tl p mi) r) = (lgY w kk T tl p mi r (lgR w kk T tl p mi (waitV w kk T tl p mi) r) 0) from by rfl) hl
    have hl := lv_cv (fun zZ : Int => [(0, .ref wy), (1, .int (iI p)), (2, .int (iI mi)), (3, .long (lI (lgY w kk T tl p mi r (lgR w kk T tl p mi (waitV w kk T tl p mi) r) 0))), (5, .int (iI (r : Int))), (6, .int (iI zZ))]) (show 0 = (0 : Int) from by first | rfl | omega | (simp; done) | (simp; omega)) hl
    have hl : lv_has ls 8 [(0, .ref wy), (1, .int (iI p)), (2, .int (iI mi)), (3, .long (lI (lgY w kk T tl p mi r (lgR w kk T tl p mi (waitV w kk T tl p mi) r) 0))), (5, .int (iI (r : Int))), (6, .int (iI (0 : Int)))] := hl
    refine lp_s (σ := Nat) (hd := 25) (st := []) (fun (yy : Nat) => 2 - yy) (fun (yy : Nat) H locs ls => va_P G.1 clG ([(yb, .inl (G.2.1 3, 1440, .inr (.inl (aL gm)))), (wy, .inr (4, [.ref ya, .ref yb, .ref yl, .ref (z 0 0), .ref (z 5 kk), .int (iI tl), .int (iI yp), .int (iI ym)])), (ya, .inl (G.2.1 3, 3208, .inr (.inl (aL gl))))] ++ wl) H ∧ va_D A ([(yb, .inl (G.2.1 3, 1440, .inr (.inl (aL gm)))), (wy, .inr (4, [.ref ya, .ref yb, .ref yl, .ref (z 0 0), .ref (z 5 kk), .int (iI tl), .int (iI yp), .int (iI ym)])), (ya, .inl (G.2.1 3, 3208, .inr (.inl (aL gl))))] ++ wl) ∧ va_S A sS.heap H locs ∧ lv_has ls 8 [(0, .ref wy), (1, .int (iI p)), (2, .int (iI mi)), (3, .long (lI (lgY w kk T tl p mi r (lgR w kk T tl p mi (waitV w kk T tl p mi) r) yy))), (5, .int (iI (r : Int))), (6, .int (iI (yy : Int)))] ∧ (yy ≤ 2)) (fun (yy : Nat) => 0) (fun (yy : Nat) => 0) ?_ 0 _ _ _ ⟨hP, hD, hS, hl, (by omega)⟩
    rintro yy H locs ls ⟨hP, hD, hS, hl, hy⟩ ih_25
    have hbY := lgY_in (p := p) hok hB hk (by omega) hm hbR yy
    refine lv_iload F.1 F.2.1 dX5_best_25 (lv_at hl 5 rfl) ?_
    refine lv_iconst (v := iI 2) F.1 F.2.1 dX5_best_27 rfl ?_
    refine r_icmp_ge F (tgt := 81) (by omega) (by decide) dX5_best_28 (by decide) (fun c_6 => ?_) (fun c_6 => ?_)
    · refine lv_iinc (v := iI ((r : Int) + 1)) (lv' := [(5, .int (iI ((r : Int) + 1))), (0, .ref wy), (1, .int (iI p)), (2, .int (iI mi)), (3, .long (lI (lgY w kk T tl p mi r (lgR w kk T tl p mi (waitV w kk T tl p mi) r) yy))), (6, .int (iI (yy : Int)))]) (k := 4) F.1 F.2.1 dX5_best_81 hl rfl (iI_add _ _) (Nat.le_of_ble_eq_true rfl) rfl (fun ls hl => ?_)
      refine lv_goto (tgt := 10) F.1 F.2.1 dX5_best_84 (by decide) ?_
      have hl : lv_has ls 8 [(0, .ref wy), (1, .int (iI p)), (2, .int (iI mi)), (3, .long (lI (lgY w kk T tl p mi r (lgR w kk T tl p mi (waitV w kk T tl p mi) r) yy))), (5, .int (iI ((r : Int) + 1)))] := lv_sub hl [1, 2, 3, 4, 0] rfl
      have hl := lv_cv (fun zZ : Int => [(0, .ref wy), (1, .int (iI p)), (2, .int (iI mi)), (3, .long (lI zZ)), (5, .int (iI ((r : Int) + 1)))]) (show (lgY w kk T tl p mi r (lgR w kk T tl p mi (waitV w kk T tl p mi) r) yy) = (lgR w kk T tl p mi (waitV w kk T tl p mi) (r + 1)) from by (obtain rfl : yy = 2 := (by omega)); rfl) hl
      have hl := lv_cv (fun zZ : Int => [(0, .ref wy), (1, .int (iI p)), (2, .int (iI mi)), (3, .long (lI (lgR w kk T tl p mi (waitV w kk T tl p mi) (r + 1)))), (5, .int (iI zZ))]) (show ((r : Int) + 1) = ((r + 1) : Int) from by first | rfl | omega | (simp; done) | (simp; omega)) hl
      have hl : lv_has ls 8 [(0, .ref wy), (1, .int (iI p)), (2, .int (iI mi)), (3, .long (lI (lgR w kk T tl p mi (waitV w kk T tl p mi) (r + 1)))), (5, .int (iI ((r + 1) : Int)))] := hl
      exact ih_10 (r + 1) _ _ _ (by first | omega | (dsimp only; omega)) ⟨hP, hD, hS, hl, (by omega)⟩
    · refine lv_aload_n F.1 F.2.1 dX5_best_31 rfl (lv_at hl 0 rfl) ?_
      refine r_get F (ci := 4) (v := .ref (z 5 kk)) b_X5 hE hP 1 rfl 4 (by decide) q302 (fun _ h9 => h9) rfl dX5_best_32 ?_
      obtain ⟨k_7, hk_8⟩ := mem_at (X := [(yb, .inl (G.2.1 3, 1440, .inr (.inl (aL gm)))), (wy, .inr (4, [.ref ya, .ref yb, .ref yl, .ref (z 0 0), .ref (z 5 kk), .int (iI tl), .int (iI yp), .int (iI ym)])), (ya, .inl (G.2.1 3, 3208, .inr (.inl (aL gl))))]) (hW.walker kk hk)
      refine r_getW F (v := .int (iI (wSl w kk))) hE hP k_7 hk_8 4 (by decide) q867 (fun _ h9 => h9) rfl dX5_best_35 ?_
      refine lv_istore (lv' := [(7, .int (iI (wSl w kk))), (0, .ref wy), (1, .int (iI p)), (2, .int (iI mi)), (3, .long (lI (lgY w kk T tl p mi r (lgR w kk T tl p mi (waitV w kk T tl p mi) r) yy))), (5, .int (iI (r : Int))), (6, .int (iI (yy : Int)))]) F.1 F.2.1 dX5_best_38 hl (Nat.le_of_ble_eq_true rfl) rfl (fun ls hl => ?_)
      have hl : lv_has ls 8 [(0, .ref wy), (1, .int (iI p)), (2, .int (iI mi)), (3, .long (lI (lgY w kk T tl p mi r (lgR w kk T tl p mi (waitV w kk T tl p mi) r) yy))), (5, .int (iI (r : Int))), (6, .int (iI (yy : Int))), (7, .int (iI (wSl w kk)))] := lv_sub hl [1, 2, 3, 4, 5, 6, 0] rfl
      have hl := lv_cv (fun zZ : Int => [(0, .ref wy), (1, .int (iI p)), (2, .int (iI mi)), (3, .long (lI zZ)), (5, .int (iI (r : Int))), (6, .int (iI (yy : Int))), (7, .int (iI (wSl w kk)))]) (show (lgY w kk T tl p mi r (lgR w kk T tl p mi (waitV w kk T tl p mi) r) yy) = (lgV w kk T tl p mi r (yy : Int) (lgY w kk T tl p mi r (lgR w kk T tl p mi (waitV w kk T tl p mi) r) yy) 0) from by rfl) hl
      have hl := lv_cv (fun zZ : Int => [(0, .ref wy), (1, .int (iI p)), (2, .int (iI mi)), (3, .long (lI (lgV w kk T tl p mi r (yy : Int) (lgY w kk T tl p mi r (lgR w kk T tl p mi (waitV w kk T tl p mi) r) yy) 0))), (5, .int (iI (r : Int))), (6, .int (iI (yy : Int))), (7, .int (iI zZ))]) (show (wSl w kk) = (wSl w kk + (0 : Int)) from by omega) hl
      have hl : lv_has ls 8 [(0, .ref wy), (1, .int (iI p)), (2, .int (iI mi)), (3, .long (lI (lgV w kk T tl p mi r (yy : Int) (lgY w kk T tl p mi r (lgR w kk T tl p mi (waitV w kk T tl p mi) r) yy) 0))), (5, .int (iI (r : Int))), (6, .int (iI (yy : Int))), (7, .int (iI (wSl w kk + (0 : Int))))] := hl
      refine lp_s (σ := Nat) (hd := 40) (st := []) (fun (n : Nat) => 10 - n) (fun (n : Nat) H locs ls => va_P G.1 clG ([(yb, .inl (G.2.1 3, 1440, .inr (.inl (aL gm)))), (wy, .inr (4, [.ref ya, .ref yb, .ref yl, .ref (z 0 0), .ref (z 5 kk), .int (iI tl), .int (iI yp), .int (iI ym)])), (ya, .inl (G.2.1 3, 3208, .inr (.inl (aL gl))))] ++ wl) H ∧ va_D A ([(yb, .inl (G.2.1 3, 1440, .inr (.inl (aL gm)))), (wy, .inr (4, [.ref ya, .ref yb, .ref yl, .ref (z 0 0), .ref (z 5 kk), .int (iI tl), .int (iI yp), .int (iI ym)])), (ya, .inl (G.2.1 3, 3208, .inr (.inl (aL gl))))] ++ wl) ∧ va_S A sS.heap H locs ∧ lv_has ls 8 [(0, .ref wy), (1, .int (iI p)), (2, .int (iI mi)), (3, .long (lI (lgV w kk T tl p mi r (yy : Int) (lgY w kk T tl p mi r (lgR w kk T tl p mi (waitV w kk T tl p mi) r) yy) n))), (5, .int (iI (r : Int))), (6, .int (iI (yy : Int))), (7, .int (iI (wSl w kk + (n : Int))))] ∧ (n ≤ wN w kk)) (fun (n : Nat) => 0) (fun (n : Nat) => 0) ?_ 0 _ _ _ ⟨hP, hD, hS, hl, (by omega)⟩
      rintro n H locs ls ⟨hP, hD, hS, hl, hn⟩ ih_40
      have hbV : (lgV w kk T tl p mi r (yy : Int) (lgY w kk T tl p mi r (lgR w kk T tl p mi (waitV w kk T tl p mi) r) yy) n) = 1000000000000000000 ∨ (0 ≤ (lgV w kk T tl p mi r (yy : Int) (lgY w kk T tl p mi r (lgR w kk T tl p mi (waitV w kk T tl p mi) r) yy) n) ∧ (lgV w kk T tl p mi r (yy : Int) (lgY w kk T tl p mi r (lgR w kk T tl p mi (waitV w kk T tl p mi) r) yy) n) ≤ 1000 + 1873821600000000 * (tl - mi)) := lgV_in hok hB hk (by omega) hm hbY n hn
      refine lv_iload F.1 F.2.1 dX5_best_40 (lv_at hl 6 rfl) ?_
      refine lv_aload_n F.1 F.2.1 dX5_best_42 rfl (lv_at hl 0 rfl) ?_
      refine r_get F (ci := 4) (v := .ref (z 5 kk)) b_X5 hE hP 1 rfl 4 (by decide) q302 (fun _ h9 => h9) rfl dX5_best_43 ?_
      obtain ⟨k_9, hk_10⟩ := mem_at (X := [(yb, .inl (G.2.1 3, 1440, .inr (.inl (aL gm)))), (wy, .inr (4, [.ref ya, .ref yb, .ref yl, .ref (z 0 0), .ref (z 5 kk), .int (iI tl), .int (iI yp), .int (iI ym)])), (ya, .inl (G.2.1 3, 3208, .inr (.inl (aL gl))))]) (hW.walker kk hk)
      refine r_getW F (v := .int (iI (wFa w kk))) hE hP k_9 hk_10 5 (by decide) q871 (fun _ h9 => h9) rfl dX5_best_46 ?_
      refine r_icmp_gt F (tgt := 75) (by omega) (by omega) dX5_best_49 (by decide) (fun c_11 => ?_) (fun c_11 => ?_)
      · refine lv_iinc (v := iI ((yy : Int) + 1)) (lv' := [(6, .int (iI ((yy : Int) + 1))), (0, .ref wy), (1, .int (iI p)), (2, .int (iI mi)), (3, .long (lI (lgV w kk T tl p mi r (yy : Int) (lgY w kk T tl p mi r (lgR w kk T tl p mi (waitV w kk T tl p mi) r) yy) n))), (5, .int (iI (r : Int))), (7, .int (iI (wSl w kk + (n : Int))))]) (k := 5) F.1 F.2.1 dX5_best_75 hl rfl (iI_add _ _) (Nat.le_of_ble_eq_true rfl) rfl (fun ls hl => ?_)
        refine lv_goto (tgt := 25) F.1 F.2.1 dX5_best_78 (by decide) ?_
        have hl : lv_has ls 8 [(0, .ref wy), (1, .int (iI p)), (2, .int (iI mi)), (3, .long (lI (lgV w kk T tl p mi r (yy : Int) (lgY w kk T tl p mi r (lgR w kk T tl p mi (waitV w kk T tl p mi) r) yy) n))), (5, .int (iI (r : Int))), (6, .int (iI ((yy : Int) + 1)))] := lv_sub hl [1, 2, 3, 4, 5, 0] rfl
        have hl := lv_cv (fun zZ : Int => [(0, .ref wy), (1, .int (iI p)), (2, .int (iI mi)), (3, .long (lI zZ)), (5, .int (iI (r : Int))), (6, .int (iI ((yy : Int) + 1)))]) (show (lgV w kk T tl p mi r (yy : Int) (lgY w kk T tl p mi r (lgR w kk T tl p mi (waitV w kk T tl p mi) r) yy) n) = (lgY w kk T tl p mi r (lgR w kk T tl p mi (waitV w kk T tl p mi) r) (yy + 1)) from by (obtain rfl : n = wN w kk := (by omega)); rfl) hl
        have hl := lv_cv (fun zZ : Int => [(0, .ref wy), (1, .int (iI p)), (2, .int (iI mi)), (3, .long (lI (lgY w kk T tl p mi r (lgR w kk T tl p mi (waitV w kk T tl p mi) r) (yy + 1)))), (5, .int (iI (r : Int))), (6, .int (iI zZ))]) (show ((yy : Int) + 1) = ((yy + 1) : Int) from by first | rfl | omega | (simp; done) | (simp; omega)) hl
        have hl : lv_has ls 8 [(0, .ref wy), (1, .int (iI p)), (2, .int (iI mi)), (3, .long (lI (lgY w kk T tl p mi r (lgR w kk T tl p mi (waitV w kk T tl p mi) r) (yy + 1)))), (5, .int (iI (r : Int))), (6, .int (iI ((yy + 1) : Int)))] := hl
        exact ih_25 (yy + 1) _ _ _ (by first | omega | (dsimp only; omega)) ⟨hP, hD, hS, hl, (by omega)⟩
      · have hbL : legV w kk T tl p mi r (yy : Int) (wSl w kk + (n : Int)) = 1000000000000000000 ∨ (0 ≤ legV w kk T tl p mi r (yy : Int) (wSl w kk + (n : Int)) ∧ legV w kk T tl p mi r (yy : Int) (wSl w kk + (n : Int)) ≤ 1000 + 1873821600000000 * (tl - mi)) := legV_in hok hB hk (by omega) (by omega) (by omega)
        refine lv_lload_n F.1 F.2.1 dX5_best_52 rfl (lv_at hl 3 rfl) ?_
        refine lv_aload_n F.1 F.2.1 dX5_best_53 rfl (lv_at hl 0 rfl) ?_
        refine lv_iload_n F.1 F.2.1 dX5_best_54 rfl (lv_at hl 1 rfl) ?_
        refine lv_iload_n F.1 F.2.1 dX5_best_55 rfl (lv_at hl 2 rfl) ?_
        refine lv_iload F.1 F.2.1 dX5_best_56 (lv_at hl 4 rfl) ?_
        refine lv_iload F.1 F.2.1 dX5_best_58 (lv_at hl 5 rfl) ?_
        refine lv_iload F.1 F.2.1 dX5_best_60 (lv_at hl 6 rfl) ?_
        refine cl_V F (C := "RainWalk$Ways") (ct_X5_byLeg w z wy ya yb yl kk tl yp ym gl T gm p mi (r : Int) (yy : Int) (wSl w kk + (n : Int)) wl hW hk hT hB hM hp hm (by omega) (by omega) (by omega)) hd_X5_byLeg rfl q1244 q1246 qs41 q119 q1247 (va_recv hE.1 hP (ci := 4) (q0 := 1) rfl rfl) hE hP hD hS hA (X := [(yb, .inl (G.2.1 3, 1440, .inr (.inl (aL gm)))), (wy, .inr (4, [.ref ya, .ref yb, .ref yl, .ref (z 0 0), .ref (z 5 kk), .int (iI tl), .int (iI yp), .int (iI ym)])), (ya, .inl (G.2.1 3, 3208, .inr (.inl (aL gl))))]) (pl := wl) (cx := [(wy, .inr (4, [.ref ya, .ref yb, .ref yl, .ref (z 0 0), .ref (z 5 kk), .int (iI tl), .int (iI yp), .int (iI ym)])), (ya, .inl (G.2.1 3, 3208, .inr (.inl (aL gl)))), (yb, .inl (G.2.1 3, 1440, .inr (.inl (aL gm))))]) (wr := []) [1, 2, 0] [] rfl rfl rfl rfl (by decide) rfl rfl rfl (Nat.le_of_ble_eq_true rfl) hl.1 dX5_best_62 ⟨Nat.le_of_ble_eq_true rfl, Nat.le_of_ble_eq_true rfl⟩ ⟨Nat.le_of_ble_eq_true rfl, Nat.le_of_ble_eq_true rfl⟩ (fun _ H locs _ hP hD hS => ?_)
        have hP : va_P G.1 clG ([(wy, .inr (4, [.ref ya, .ref yb, .ref yl, .ref (z 0 0), .ref (z 5 kk), .int (iI tl), .int (iI yp), .int (iI ym)])), (ya, .inl (G.2.1 3, 3208, .inr (.inl (aL gl)))), (yb, .inl (G.2.1 3, 1440, .inr (.inl (aL gm))))] ++ wl) _ := hP
        have hD : va_D A ([(wy, .inr (4, [.ref ya, .ref yb, .ref yl, .ref (z 0 0), .ref (z 5 kk), .int (iI tl), .int (iI yp), .int (iI ym)])), (ya, .inl (G.2.1 3, 3208, .inr (.inl (aL gl)))), (yb, .inl (G.2.1 3, 1440, .inr (.inl (aL gm))))] ++ wl) := hD
        refine W.eq (g2 := F0 mM 65 ls [.long (lI (legV w kk T tl p mi (r : Int).toNat (yy : Int) (wSl w kk + (n : Int)))), .long (lI (lgV w kk T tl p mi r (yy : Int) (lgY w kk T tl p mi r (lgR w kk T tl p mi (waitV w kk T tl p mi) r) yy) n))]) rfl ?_
        refine top_cl (b := (legV w kk T tl p mi r (yy : Int) (wSl w kk + (n : Int)))) (by rfl) ?_
        refine r_mminL F q1257 q1258 q139 q1259 (by omega) (by omega) hl.1 (Nat.le_of_ble_eq_true rfl) (Nat.le_of_ble_eq_true rfl) (Nat.le_of_ble_eq_true rfl) (Nat.le_of_ble_eq_true rfl) dX5_best_65 ?_
        refine lv_lstore_n (lv' := [(3, .long (lI (min (lgV w kk T tl p mi r (yy : Int) (lgY w kk T tl p mi r (lgR w kk T tl p mi (waitV w kk T tl p mi) r) yy) n) (legV w kk T tl p mi r (yy : Int) (wSl w kk + (n : Int)))))), (0, .ref wy), (1, .int (iI p)), (2, .int (iI mi)), (5, .int (iI (r : Int))), (6, .int (iI (yy : Int))), (7, .int (iI (wSl w kk + (n : Int))))]) F.1 F.2.1 dX5_best_68 rfl hl (Nat.le_of_ble_eq_true rfl) rfl (fun ls hl => ?_)
        refine lv_iinc (v := iI ((wSl w kk + (n : Int)) + 1)) (lv' := [(7, .int (iI ((wSl w kk + (n : Int)) + 1))), (3, .long (lI (min (lgV w kk T tl p mi r (yy : Int) (lgY w kk T tl p mi r (lgR w kk T tl p mi (waitV w kk T tl p mi) r) yy) n) (legV w kk T tl p mi r (yy : Int) (wSl w kk + (n : Int)))))), (0, .ref wy), (1, .int (iI p)), (2, .int (iI mi)), (5, .int (iI (r : Int))), (6, .int (iI (yy : Int)))]) (k := 6) F.1 F.2.1 dX5_best_69 hl rfl (iI_add _ _) (Nat.le_of_ble_eq_true rfl) rfl (fun ls hl => ?_)
        refine lv_goto (tgt := 40) F.1 F.2.1 dX5_best_72 (by decide) ?_
        have hD : va_D A ([(yb, .inl (G.2.1 3, 1440, .inr (.inl (aL gm)))), (wy, .inr (4, [.ref ya, .ref yb, .ref yl, .ref (z 0 0), .ref (z 5 kk), .int (iI tl), .int (iI yp), .int (iI ym)])), (ya, .inl (G.2.1 3, 3208, .inr (.inl (aL gl))))] ++ wl) := hD.part (cx := [(yb, .inl (G.2.1 3, 1440, .inr (.inl (aL gm)))), (wy, .inr (4, [.ref ya, .ref yb, .ref yl, .ref (z 0 0), .ref (z 5 kk), .int (iI tl), .int (iI yp), .int (iI ym)])), (ya, .inl (G.2.1 3, 3208, .inr (.inl (aL gl))))]) [2, 0, 1] (by decide) rfl
        have hP : va_P G.1 clG ([(yb, .inl (G.2.1 3, 1440, .inr (.inl (aL gm)))), (wy, .inr (4, [.ref ya, .ref yb, .ref yl, .ref (z 0 0), .ref (z 5 kk), .int (iI tl), .int (iI yp), .int (iI ym)])), (ya, .inl (G.2.1 3, 3208, .inr (.inl (aL gl))))] ++ wl) _ := hP.part (cx := [(yb, .inl (G.2.1 3, 1440, .inr (.inl (aL gm)))), (wy, .inr (4, [.ref ya, .ref yb, .ref yl, .ref (z 0 0), .ref (z 5 kk), .int (iI tl), .int (iI yp), .int (iI ym)])), (ya, .inl (G.2.1 3, 3208, .inr (.inl (aL gl))))]) [2, 0, 1] rfl
        have hl : lv_has ls 8 [(0, .ref wy), (1, .int (iI p)), (2, .int (iI mi)), (3, .long (lI (min (lgV w kk T tl p mi r (yy : Int) (lgY w kk T tl p mi r (lgR w kk T tl p mi (waitV w kk T tl p mi) r) yy) n) (legV w kk T tl p mi r (yy : Int) (wSl w kk + (n : Int)))))), (5, .int (iI (r : Int))), (6, .int (iI (yy : Int))), (7, .int (iI ((wSl w kk + (n : Int)) + 1)))] := lv_sub hl [2, 3, 4, 1, 5, 6, 0] rfl
        have hl := lv_cv (fun zZ : Int => [(0, .ref wy), (1, .int (iI p)), (2, .int (iI mi)), (3, .long (lI zZ)), (5, .int (iI (r : Int))), (6, .int (iI (yy : Int))), (7, .int (iI ((wSl w kk + (n : Int)) + 1)))]) (show (min (lgV w kk T tl p mi r (yy : Int) (lgY w kk T tl p mi r (lgR w kk T tl p mi (waitV w kk T tl p mi) r) yy) n) (legV w kk T tl p mi r (yy : Int) (wSl w kk + (n : Int)))) = (lgV w kk T tl p mi r (yy : Int) (lgY w kk T tl p mi r (lgR w kk T tl p mi (waitV w kk T tl p mi) r) yy) (n + 1)) from by rfl) hl
        have hl := lv_cv (fun zZ : Int => [(0, .ref wy), (1, .int (iI p)), (2, .int (iI mi)), (3, .long (lI (lgV w kk T tl p mi r (yy : Int) (lgY w kk T tl p mi r (lgR w kk T tl p mi (waitV w kk T tl p mi) r) yy) (n + 1)))), (5, .int (iI (r : Int))), (6, .int (iI (yy : Int))), (7, .int (iI zZ))]) (show ((wSl w kk + (n : Int)) + 1) = (wSl w kk + ((n + 1) : Int)) from by omega) hl
        have hl : lv_has ls 8 [(0, .ref wy), (1, .int (iI p)), (2, .int (iI mi)), (3, .long (lI (lgV w kk T tl p mi r (yy : Int) (lgY w kk T tl p mi r (lgR w kk T tl p mi (waitV w kk T tl p mi) r) yy) (n + 1)))), (5, .int (iI (r : Int))), (6, .int (iI (yy : Int))), (7, .int (iI (wSl w kk + ((n + 1) : Int))))] := hl
        exact ih_40 (n + 1) _ _ _ (by first | omega | (dsimp only; omega)) ⟨hP, hD, hS, hl, (by omega)⟩
set_option maxHeartbeats 4000000 in
theorem ct_X5_layMeans {G : Gm} {l : Launch} (w : Wd) (z : Wx) (wy : Nat) (ya : Nat) (yb : Nat) (yl : Nat) (kk : Nat) (tl : Int) (yp : Int) (ym : Int) (gm : Nat → Int) (yf : Nat) (fw0 : Int) (ai0 : Int) (op0 : Int) (sp0 : Int) (rn0 : Option Nat) (g0 : Nat → Int) (r : Int) (y : Int) (h : Int) (wl : va_W) (hW : WX G w z wl) (hk : (kk : Int) < wnW w) (hr : inR w r) (hy : inY y) (hh : inH w h) : Ct G l yX5_layMeans (ws_ yX5_layMeans cX5_layMeans 6 none) ({ frames := 4, cells := 0, slots := 0, locals := 91 } : Room) [.ref wy, .int (iI r), .int (iI y), .int (iI h)] ([(wy, .inr (4, [.ref ya, .ref yb, .ref yl, .ref (z 0 0), .ref (z 5 kk), .int (iI tl), .int (iI yp), .int (iI ym)])), (yb, .inl (G.2.1 3, 1440, .inr (.inl (aL gm)))), (yl, .inr (3, [.ref yf, .int (iI fw0), va_rf rn0, .int (iI ai0), .long (lI op0), .int (iI sp0)])), (yf, .inl (G.2.1 3, 5, .inr (.inl (aL g0))))] ++ wl) (fun (u : Int × (Option Nat) × Int × Int × Int × (Nat → Int)) => match u with | (fw1, rn1, ai1, op1, sp1, g1) => True) (fun (u : Int × (Option Nat) × Int × Int × Int × (Nat → Int)) => match u with | (fw1, rn1, ai1, op1, sp1, g1) => (none : Option Value)) (fun (u : Int × (Option Nat) × Int × Int × Int × (Nat → Int)) => match u with | (fw1, rn1, ai1, op1, sp1, g1) => (([(wy, .inr (4, [.ref ya, .ref yb, .ref yl, .ref (z 0 0), .ref (z 5 kk), .int (iI tl), .int (iI yp), .int (iI ym)])), (yb, .inl (G.2.1 3, 1440, .inr (.inl (aL (mnH w kk r y h (wN w kk) gm))))), (yl, .inr (3, [.ref yf, .int (iI fw1), va_rf rn1, .int (iI ai1), .long (lI op1), .int (iI sp1)])), (yf, .inl (G.2.1 3, 5, .inr (.inl (aL g1))))] ++ wl) : va_W)) := by
  refine Ct.of (by decide) rfl ?_
  intro pP eE sS mM below meth cC A ls Q F hE hA hP hD hS hl hQ
  have hl : lv_has ls 6 [(0, .ref wy), (1, .int (iI r)), (2, .int (iI y)), (3, .int (iI h))] := hl
  have hok := hW.ok
  obtain ⟨wb0, wb1, wb2, wb3, wb4, wb5⟩ := hok.nums
  have hks := (hok.walker kk hk).1.speeds
  have hN : (wN w kk : Int) = wFa w kk - wSl w kk + 1 := (by show ((wFa w kk - wSl w kk + 1).toNat : Int) = _; omega)
  have hch := (hok.rain h.toNat (by omega)).2.2.2.2
  refine lv_aload_n F.1 F.2.1 dX5_layMeans_0 rfl (lv_at hl 0 rfl) ?_
  refine r_get F (ci := 4) (v := .ref (z 0 0)) b_X5 hE hP 0 rfl 3 (by decide) q301 (fun _ h9 => h9) rfl dX5_layMeans_1 ?_
  obtain ⟨k_1, hk_2⟩ := mem_at (X := [(wy, .inr (4, [.ref ya, .ref yb, .ref yl, .ref (z 0 0), .ref (z 5 kk), .int (iI tl), .int (iI yp), .int (iI ym)])), (yb, .inl (G.2.1 3, 1440, .inr (.inl (aL gm)))), (yl, .inr (3, [.ref yf, .int (iI fw0), va_rf rn0, .int (iI ai0), .long (lI op0), .int (iI sp0)])), (yf, .inl (G.2.1 3, 5, .inr (.inl (aL g0))))]) hW.obj
  refine r_get F (ci := 6) (v := .ref (z 1 0)) b_X8 hE hP k_1 hk_2 0 (by decide) q443 (fun _ h9 => h9) rfl dX5_layMeans_4 ?_
  refine lv_iload_n F.1 F.2.1 dX5_layMeans_7 rfl (lv_at hl 3 rfl) ?_
  obtain ⟨k_3, hk_4⟩ := mem_at (X := [(wy, .inr (4, [.ref ya, .ref yb, .ref yl, .ref (z 0 0), .ref (z 5 kk), .int (iI tl), .int (iI yp), .int (iI ym)])), (yb, .inl (G.2.1 3, 1440, .inr (.inl (aL gm)))), (yl, .inr (3, [.ref yf, .int (iI fw0), va_rf rn0, .int (iI ai0), .long (lI op0), .int (iI sp0)])), (yf, .inl (G.2.1 3, 5, .inr (.inl (aL g0))))]) hW.hoursA
  refine r_aald F (f := (oA (wnH w) (z 2))) (v := .ref (z 2 h.toNat)) hE hP k_3 hk_4 rfl h.toNat (by omega) (by omega) (by decide) (oA_at (by omega)) dX5_layMeans_8 ?_
  refine lv_astore (lv' := [(4, .ref (z 2 h.toNat)), (0, .ref wy), (1, .int (iI r)), (2, .int (iI y)), (3, .int (iI h))]) F.1 F.2.1 dX5_layMeans_9 hl (Nat.le_of_ble_eq_true rfl) rfl (fun ls hl => ?_)
  refine lv_aload_n F.1 F.2.1 dX5_layMeans_11 rfl (lv_at hl 1 rfl) ?_
  refine r_get F (ci := 4) (v := .ref (z 5 kk)) b_X5 hE hP 0 rfl 4 (by decide) q302 (fun _ h9 => h9) rfl dX5_layMeans_12 ?_
  obtain ⟨k_5, hk_6⟩ := mem_at (X := [(wy, .inr (4, [.ref ya, .ref yb, .ref yl, .ref (z 0 0), .ref (z 5 kk), .int (iI tl), .int (iI yp), .int (iI ym)])), (yb, .inl (G.2.1 3, 1440, .inr (.inl (aL gm)))), (yl, .inr (3, [.ref yf, .int (iI fw0), va_rf rn0, .int (iI ai0), .long (lI op0), .int (iI sp0)])), (yf, .inl (G.2.1 3, 5, .inr (.inl (aL g0))))]) (hW.walker kk hk)
  refine r_getW F (v := .int (iI (wSl w kk))) hE hP k_5 hk_6 4 (by decide) q867 (fun _ h9 => h9) rfl dX5_layMeans_15 ?_
  refine lv_istore (lv' := [(5, .int (iI (wSl w kk))), (4, .ref (z 2 h.toNat)), (0, .ref wy), (1, .int (iI r)), (2, .int (iI y)), (3, .int (iI h))]) F.1 F.2.1 dX5_layMeans_18 hl (Nat.le_of_ble_eq_true rfl) rfl (fun ls hl => ?_)
  obtain ⟨hP, hD⟩ := cvJ (g := gm) (g' := (mnH w kk r y h 0 gm)) hP hD 1 rfl (fun k hk => by first | (with_reducible rfl) | ((try dsimp only); exact mnH_0 k))
  have hP : va_P G.1 clG ([(wy, .inr (4, [.ref ya, .ref yb, .ref yl, .ref (z 0 0), .ref (z 5 kk), .int (iI tl), .int (iI yp), .int (iI ym)])), (yb, .inl (G.2.1 3, 1440, .inr (.inl (aL (mnH w kk r y h 0 gm))))), (yl, .inr (3, [.ref yf, .int (iI fw0), va_rf rn0, .int (iI ai0), .long (lI op0), .int (iI sp0)])), (yf, .inl (G.2.1 3, 5, .inr (.inl (aL g0))))] ++ wl) _ := hP
  have hD : va_D A ([(wy, .inr (4, [.ref ya, .ref yb, .ref yl, .ref (z 0 0), .ref (z 5 kk), .int (iI tl), .int (iI yp), .int (iI ym)])), (yb, .inl (G.2.1 3, 1440, .inr (.inl (aL (mnH w kk r y h 0 gm))))), (yl, .inr (3, [.ref yf, .int (iI fw0), va_rf rn0, .int (iI ai0), .long (lI op0), .int (iI sp0)])), (yf, .inl (G.2.1 3, 5, .inr (.inl (aL g0))))] ++ wl) := hD
  have hl : lv_has ls 6 [(4, .ref (z 2 h.toNat)), (0, .ref wy), (1, .int (iI r)), (2, .int (iI y)), (3, .int (iI h)), (5, .int (iI (wSl w kk)))] := lv_sub hl [1, 2, 3, 4, 5, 0] rfl
  have hl := lv_cv (fun zZ : Int => [(4, .ref (z 2 h.toNat)), (0, .ref wy), (1, .int (iI r)), (2, .int (iI y)), (3, .int (iI h)), (5, .int (iI zZ))]) (show (wSl w kk) = (wSl w kk + (0 : Int)) from by omega) hl
  have hl : lv_has ls 6 [(4, .ref (z 2 h.toNat)), (0, .ref wy), (1, .int (iI r)), (2, .int (iI y)), (3, .int (iI h)), (5, .int (iI (wSl w kk + (0 : Int))))] := hl
  refine lp_s (σ := Nat × Int × (Option Nat) × Int × Int × Int × (Nat → Int)) (hd := 20) (st := []) (fun x => match x with | (n, fwL, rnL, aiL, opL, spL, gL) => 10 - n) (fun x H locs ls => match x with | (n, fwL, rnL, aiL, opL, spL, gL) => va_P G.1 clG ([(wy, .inr (4, [.ref ya, .ref yb, .ref yl, .ref (z 0 0), .ref (z 5 kk), .int (iI tl), .int (iI yp), .int (iI ym)])), (yb, .inl (G.2.1 3, 1440, .inr (.inl (aL (mnH w kk r y h n gm))))), (yl, .inr (3, [.ref yf, .int (iI fwL), va_rf rnL, .int (iI aiL), .long (lI opL), .int (iI spL)])), (yf, .inl (G.2.1 3, 5, .inr (.inl (aL gL))))] ++ wl) H ∧ va_D A ([(wy, .inr (4, [.ref ya, .ref yb, .ref yl, .ref (z 0 0), .ref (z 5 kk), .int (iI tl), .int (iI yp), .int (iI ym)])), (yb, .inl (G.2.1 3, 1440, .inr (.inl (aL (mnH w kk r y h n gm))))), (yl, .inr (3, [.ref yf, .int (iI fwL), va_rf rnL, .int (iI aiL), .long (lI opL), .int (iI spL)])), (yf, .inl (G.2.1 3, 5, .inr (.inl (aL gL))))] ++ wl) ∧ va_S A sS.heap H locs ∧ lv_has ls 6 [(4, .ref (z 2 h.toNat)), (0, .ref wy), (1, .int (iI r)), (2, .int (iI y)), (3, .int (iI h)), (5, .int (iI (wSl w kk + (n : Int))))] ∧ (n ≤ wN w kk)) (fun x => match x with | (n, fwL, rnL, aiL, opL, spL, gL) => 0) (fun x => match x with | (n, fwL, rnL, aiL, opL, spL, gL) => 0) ?_ (0, fw0, rn0, ai0, op0, sp0, g0) _ _ _ ⟨hP, hD, hS, hl, (by omega)⟩
  rintro ⟨n, fwL, rnL, aiL, opL, spL, gL⟩ H locs ls ⟨hP, hD, hS, hl, hn⟩ ih_20
  refine lv_iload F.1 F.2.1 dX5_layMeans_20 (lv_at hl 5 rfl) ?_
  refine lv_aload_n F.1 F.2.1 dX5_layMeans_22 rfl (lv_at hl 1 rfl) ?_
  refine r_get F (ci := 4) (v := .ref (z 5 kk)) b_X5 hE hP 0 rfl 4 (by decide) q302 (fun _ h9 => h9) rfl dX5_layMeans_23 ?_
  obtain ⟨k_7, hk_8⟩ := mem_at (X := [(wy, .inr (4, [.ref ya, .ref yb, .ref yl, .ref (z 0 0), .ref (z 5 kk), .int (iI tl), .int (iI yp), .int (iI ym)])), (yb, .inl (G.2.1 3, 1440, .inr (.inl (aL (mnH w kk r y h n gm))))), (yl, .inr (3, [.ref yf, .int (iI fwL), va_rf rnL, .int (iI aiL), .long (lI opL), .int (iI spL)])), (yf, .inl (G.2.1 3, 5, .inr (.inl (aL gL))))]) (hW.walker kk hk)
  refine r_getW F (v := .int (iI (wFa w kk))) hE hP k_7 hk_8 5 (by decide) q871 (fun _ h9 => h9) rfl dX5_layMeans_26 ?_
  refine r_icmp_gt F (tgt := 90) (by omega) (by omega) dX5_layMeans_29 (by decide) (fun c_9 => ?_) (fun c_9 => ?_)
  · obtain ⟨hP, hD⟩ := cvJ (g := (mnH w kk r y h n gm)) (g' := (mnH w kk r y h (wN w kk) gm)) hP hD 1 rfl (fun k hk => by first | (with_reducible rfl) | ((try dsimp only); rw [show wN w kk = n by omega]))
    have hP : va_P G.1 clG ([(wy, .inr (4, [.ref ya, .ref yb, .ref yl, .ref (z 0 0), .ref (z 5 kk), .int (iI tl), .int (iI yp), .int (iI ym)])), (yb, .inl (G.2.1 3, 1440, .inr (.inl (aL (mnH w kk r y h (wN w kk) gm))))), (yl, .inr (3, [.ref yf, .int (iI fwL), va_rf rnL, .int (iI aiL), .long (lI opL), .int (iI spL)])), (yf, .inl (G.2.1 3, 5, .inr (.inl (aL gL))))] ++ wl) _ := hP
    have hD : va_D A ([(wy, .inr (4, [.ref ya, .ref yb, .ref yl, .ref (z 0 0), .ref (z 5 kk), .int (iI tl), .int (iI yp), .int (iI ym)])), (yb, .inl (G.2.1 3, 1440, .inr (.inl (aL (mnH w kk r y h (wN w kk) gm))))), (yl, .inr (3, [.ref yf, .int (iI fwL), va_rf rnL, .int (iI aiL), .long (lI opL), .int (iI spL)])), (yf, .inl (G.2.1 3, 5, .inr (.inl (aL gL))))] ++ wl) := hD
    exact rt_v F hQ hS (Nat.le_of_ble_eq_true rfl) (Nat.le_of_ble_eq_true rfl) (fwL, rnL, aiL, opL, spL, gL) rfl trivial hP hD dX5_layMeans_90
  · refine lv_aload_n F.1 F.2.1 dX5_layMeans_32 rfl (lv_at hl 1 rfl) ?_
    refine r_get F (ci := 4) (v := .ref yl) b_X5 hE hP 0 rfl 2 (by decide) q300 (fun _ h9 => h9) rfl dX5_layMeans_33 ?_
    refine lv_aload_n F.1 F.2.1 dX5_layMeans_36 rfl (lv_at hl 1 rfl) ?_
    refine r_get F (ci := 4) (v := .ref (z 5 kk)) b_X5 hE hP 0 rfl 4 (by decide) q302 (fun _ h9 => h9) rfl dX5_layMeans_37 ?_
    refine lv_aload_n F.1 F.2.1 dX5_layMeans_40 rfl (lv_at hl 1 rfl) ?_
    refine r_get F (ci := 4) (v := .ref (z 0 0)) b_X5 hE hP 0 rfl 3 (by decide) q301 (fun _ h9 => h9) rfl dX5_layMeans_41 ?_
    obtain ⟨k_10, hk_11⟩ := mem_at (X := [(wy, .inr (4, [.ref ya, .ref yb, .ref yl, .ref (z 0 0), .ref (z 5 kk), .int (iI tl), .int (iI yp), .int (iI ym)])), (yb, .inl (G.2.1 3, 1440, .inr (.inl (aL (mnH w kk r y h n gm))))), (yl, .inr (3, [.ref yf, .int (iI fwL), va_rf rnL, .int (iI aiL), .long (lI opL), .int (iI spL)])), (yf, .inl (G.2.1 3, 5, .inr (.inl (aL gL))))]) hW.obj
    refine r_get F (ci := 6) (v := .ref (z 1 2)) b_X8 hE hP k_10 hk_11 2 (by decide) q451 (fun _ h9 => h9) rfl dX5_layMeans_44 ?_
    refine lv_iload_n F.1 F.2.1 dX5_layMeans_47 rfl (lv_at hl 2 rfl) ?_
    obtain ⟨k_12, hk_13⟩ := mem_at (X := [(wy, .inr (4, [.ref ya, .ref yb, .ref yl, .ref (z 0 0), .ref (z 5 kk), .int (iI tl), .int (iI yp), .int (iI ym)])), (yb, .inl (G.2.1 3, 1440, .inr (.inl (aL (mnH w kk r y h n gm))))), (yl, .inr (3, [.ref yf, .int (iI fwL), va_rf rnL, .int (iI aiL), .long (lI opL), .int (iI spL)])), (yf, .inl (G.2.1 3, 5, .inr (.inl (aL gL))))]) hW.roadsA
    refine r_aald F (f := (oA (wnR w) (z 4))) (v := .ref (z 4 r.toNat)) hE hP k_12 hk_13 rfl r.toNat (by omega) (by omega) (by decide) (oA_at (by omega)) dX5_layMeans_48 ?_
    refine lv_iload_n F.1 F.2.1 dX5_layMeans_49 rfl (lv_at hl 3 rfl) ?_
    refine lv_aload F.1 F.2.1 dX5_layMeans_50 (lv_at hl 0 rfl) ?_
    refine lv_iload F.1 F.2.1 dX5_layMeans_52 (lv_at hl 5 rfl) ?_
    refine cl_V F (C := "RainWalk$Leg") (ct_X4_lay yl yf (z 5 kk) (z 4 r.toNat) (z 2 h.toNat) (wKd w kk) gL fwL aiL opL spL rnL (wBy w kk) (wBr w kk) (wDp w kk) (wHg w kk) (wSl w kk) (wFa w kk) (kk : Int) (z 9 kk) (wFr w r.toNat) (wTo w r.toNat) (wRs w r.toNat) (wLe w r.toNat) (wAw w r.toNat) (wDr w h.toNat) (wDn w h.toNat) (wWi w h.toNat) (wSd w h.toNat) (wCh w h.toNat) y (wSl w kk + (n : Int)) wl ((hok.walker _ (by omega)).1) ((hok.road _ (by omega)).1) (hok.rain _ (by omega)) (by omega) (by omega) (hW.walker kk hk) (hW.road r.toNat (by omega)) (hW.rain h.toNat (by omega))) hd_X4_lay rfl q1216 q1013 q1014 q118 q1015 (va_recv hE.1 hP (ci := 3) (q0 := 2) rfl rfl) hE hP hD hS hA (X := [(wy, .inr (4, [.ref ya, .ref yb, .ref yl, .ref (z 0 0), .ref (z 5 kk), .int (iI tl), .int (iI yp), .int (iI ym)])), (yb, .inl (G.2.1 3, 1440, .inr (.inl (aL (mnH w kk r y h n gm))))), (yl, .inr (3, [.ref yf, .int (iI fwL), va_rf rnL, .int (iI aiL), .long (lI opL), .int (iI spL)])), (yf, .inl (G.2.1 3, 5, .inr (.inl (aL gL))))]) (pl := wl) (cx := [(yl, .inr (3, [.ref yf, .int (iI fwL), va_rf rnL, .int (iI aiL), .long (lI opL), .int (iI spL)])), (yf, .inl (G.2.1 3, 5, .inr (.inl (aL gL))))]) (wr := [(wy, .inr (4, [.ref ya, .ref yb, .ref yl, .ref (z 0 0), .ref (z 5 kk), .int (iI tl), .int (iI yp), .int (iI ym)])), (yb, .inl (G.2.1 3, 1440, .inr (.inl (aL (mnH w kk r y h n gm)))))]) [2, 3] [0, 1] rfl rfl rfl rfl (by decide) rfl rfl rfl (Nat.le_of_ble_eq_true rfl) hl.1 dX5_layMeans_54 ⟨Nat.le_of_ble_eq_true rfl, Nat.le_of_ble_eq_true rfl⟩ ⟨Nat.le_of_ble_eq_true rfl, Nat.le_of_ble_eq_true rfl⟩ (fun _ H locs _ hP hD hS => ?_)
    have hP : va_P G.1 clG ([(wy, .inr (4, [.ref ya, .ref yb, .ref yl, .ref (z 0 0), .ref (z 5 kk), .int (iI tl), .int (iI yp), .int (iI ym)])), (yb, .inl (G.2.1 3, 1440, .inr (.inl (aL (mnH w kk r y h n gm))))), (yl, .inr (3, [.ref yf, .int (iI (pI (fwdR (openR (wLe w r.toNat) (wAw w r.toNat) (wSl w kk + (n : Int))) (wDr w h.toNat) (wDn w h.toNat) (wSl w kk + (n : Int)) (airR (wSd w h.toNat) (wWi w h.toNat) (((wRs w r.toNat) + 2 * y) % 4)) (topR (wKd w kk) (wBy w kk) (wBr w kk) (wDp w kk)) (topLR (wKd w kk) (wBy w kk) (wBr w kk) (wDp w kk)) (frontR (wKd w kk) (wBy w kk) (wBr w kk) (wHg w kk)) (frontLR (wKd w kk) (wBy w kk) (wBr w kk) (wHg w kk))))), .ref (z 2 h.toNat), .int (iI (airR (wSd w h.toNat) (wWi w h.toNat) (((wRs w r.toNat) + 2 * y) % 4))), .long (lI (openR (wLe w r.toNat) (wAw w r.toNat) (wSl w kk + (n : Int)))), .int (iI (wSl w kk + (n : Int)))])), (yf, .inl (G.2.1 3, 5, .inr (.inl (aL (legG (openR (wLe w r.toNat) (wAw w r.toNat) (wSl w kk + (n : Int))) (wDr w h.toNat) (wDn w h.toNat) (wWi w h.toNat) (wSl w kk + (n : Int)) (airR (wSd w h.toNat) (wWi w h.toNat) (((wRs w r.toNat) + 2 * y) % 4)) (asdR (wSd w h.toNat) (((wRs w r.toNat) + 2 * y) % 4)) (topR (wKd w kk) (wBy w kk) (wBr w kk) (wDp w kk)) (topLR (wKd w kk) (wBy w kk) (wBr w kk) (wDp w kk)) (frontR (wKd w kk) (wBy w kk) (wBr w kk) (wHg w kk)) (frontLR (wKd w kk) (wBy w kk) (wBr w kk) (wHg w kk)) (sideR (wKd w kk) (wBy w kk) (wDp w kk) (wHg w kk)))))))] ++ wl) _ := hP
    have hD : va_D A ([(wy, .inr (4, [.ref ya, .ref yb, .ref yl, .ref (z 0 0), .ref (z 5 kk), .int (iI tl), .int (iI yp), .int (iI ym)])), (yb, .inl (G.2.1 3, 1440, .inr (.inl (aL (mnH w kk r y h n gm))))), (yl, .inr (3, [.ref yf, .int (iI (pI (fwdR (openR (wLe w r.toNat) (wAw w r.toNat) (wSl w kk + (n : Int))) (wDr w h.toNat) (wDn w h.toNat) (wSl w kk + (n : Int)) (airR (wSd w h.toNat) (wWi w h.toNat) (((wRs w r.toNat) + 2 * y) % 4)) (topR (wKd w kk) (wBy w kk) (wBr w kk) (wDp w kk)) (topLR (wKd w kk) (wBy w kk) (wBr w kk) (wDp w kk)) (frontR (wKd w kk) (wBy w kk) (wBr w kk) (wHg w kk)) (frontLR (wKd w kk) (wBy w kk) (wBr w kk) (wHg w kk))))), .ref (z 2 h.toNat), .int (iI (airR (wSd w h.toNat) (wWi w h.toNat) (((wRs w r.toNat) + 2 * y) % 4))), .long (lI (openR (wLe w r.toNat) (wAw w r.toNat) (wSl w kk + (n : Int)))), .int (iI (wSl w kk + (n : Int)))])), (yf, .inl (G.2.1 3, 5, .inr (.inl (aL (legG (openR (wLe w r.toNat) (wAw w r.toNat) (wSl w kk + (n : Int))) (wDr w h.toNat) (wDn w h.toNat) (wWi w h.toNat) (wSl w kk + (n : Int)) (airR (wSd w h.toNat) (wWi w h.toNat) (((wRs w r.toNat) + 2 * y) % 4)) (asdR (wSd w h.toNat) (((wRs w r.toNat) + 2 * y) % 4)) (topR (wKd w kk) (wBy w kk) (wBr w kk) (wDp w kk)) (topLR (wKd w kk) (wBy w kk) (wBr w kk) (wDp w kk)) (frontR (wKd w kk) (wBy w kk) (wBr w kk) (wHg w kk)) (frontLR (wKd w kk) (wBy w kk) (wBr w kk) (wHg w kk)) (sideR (wKd w kk) (wBy w kk) (wDp w kk) (wHg w kk)))))))] ++ wl) := hD
    refine W.eq (g2 := F0 mM 57 ls []) rfl ?_
    refine lv_aload_n F.1 F.2.1 dX5_layMeans_57 rfl (lv_at hl 1 rfl) ?_
    refine r_get F (ci := 4) (v := .ref yb) b_X5 hE hP 0 rfl 1 (by decide) q299 (fun _ h9 => h9) rfl dX5_layMeans_58 ?_
    refine lv_iload_n F.1 F.2.1 dX5_layMeans_61 rfl (lv_at hl 2 rfl) ?_
    refine lv_iload_n F.1 F.2.1 dX5_layMeans_62 rfl (lv_at hl 3 rfl) ?_
    refine lv_iload_n F.1 F.2.1 dX5_layMeans_63 rfl (lv_at hl 4 rfl) ?_
    refine lv_iload F.1 F.2.1 dX5_layMeans_64 (lv_at hl 5 rfl) ?_
    refine cl_S F (ct_X5_cell r y h (wSl w kk + (n : Int)) wl) hd_X5_cell q1217 q1218 q119 q1219 hE hP hD hS hA (X := [(wy, .inr (4, [.ref ya, .ref yb, .ref yl, .ref (z 0 0), .ref (z 5 kk), .int (iI tl), .int (iI yp), .int (iI ym)])), (yb, .inl (G.2.1 3, 1440, .inr (.inl (aL (mnH w kk r y h n gm))))), (yl, .inr (3, [.ref yf, .int (iI (pI (fwdR (openR (wLe w r.toNat) (wAw w r.toNat) (wSl w kk + (n : Int))) (wDr w h.toNat) (wDn w h.toNat) (wSl w kk + (n : Int)) (airR (wSd w h.toNat) (wWi w h.toNat) (((wRs w r.toNat) + 2 * y) % 4)) (topR (wKd w kk) (wBy w kk) (wBr w kk) (wDp w kk)) (topLR (wKd w kk) (wBy w kk) (wBr w kk) (wDp w kk)) (frontR (wKd w kk) (wBy w kk) (wBr w kk) (wHg w kk)) (frontLR (wKd w kk) (wBy w kk) (wBr w kk) (wHg w kk))))), .ref (z 2 h.toNat), .int (iI (airR (wSd w h.toNat) (wWi w h.toNat) (((wRs w r.toNat) + 2 * y) % 4))), .long (lI (openR (wLe w r.toNat) (wAw w r.toNat) (wSl w kk + (n : Int)))), .int (iI (wSl w kk + (n : Int)))])), (yf, .inl (G.2.1 3, 5, .inr (.inl (aL (legG (openR (wLe w r.toNat) (wAw w r.toNat) (wSl w kk + (n : Int))) (wDr w h.toNat) (wDn w h.toNat) (wWi w h.toNat) (wSl w kk + (n : Int)) (airR (wSd w h.toNat) (wWi w h.toNat) (((wRs w r.toNat) + 2 * y) % 4)) (asdR (wSd w h.toNat) (((wRs w r.toNat) + 2 * y) % 4)) (topR (wKd w kk) (wBy w kk) (wBr w kk) (wDp w kk)) (topLR (wKd w kk) (wBy w kk) (wBr w kk) (wDp w kk)) (frontR (wKd w kk) (wBy w kk) (wBr w kk) (wHg w kk)) (frontLR (wKd w kk) (wBy w kk) (wBr w kk) (wHg w kk)) (sideR (wKd w kk) (wBy w kk) (wDp w kk) (wHg w kk)))))))]) (pl := wl) (cx := []) (wr := [(wy, .inr (4, [.ref ya, .ref yb, .ref yl, .ref (z 0 0), .ref (z 5 kk), .int (iI tl), .int (iI yp), .int (iI ym)])), (yb, .inl (G.2.1 3, 1440, .inr (.inl (aL (mnH w kk r y h n gm))))), (yl, .inr (3, [.ref yf, .int (iI (pI (fwdR (openR (wLe w r.toNat) (wAw w r.toNat) (wSl w kk + (n : Int))) (wDr w h.toNat) (wDn w h.toNat) (wSl w kk + (n : Int)) (airR (wSd w h.toNat) (wWi w h.toNat) (((wRs w r.toNat) + 2 * y) % 4)) (topR (wKd w kk) (wBy w kk) (wBr w kk) (wDp w kk)) (topLR (wKd w kk) (wBy w kk) (wBr w kk) (wDp w kk)) (frontR (wKd w kk) (wBy w kk) (wBr w kk) (wHg w kk)) (frontLR (wKd w kk) (wBy w kk) (wBr w kk) (wHg w kk))))), .ref (z 2 h.toNat), .int (iI (airR (wSd w h.toNat) (wWi w h.toNat) (((wRs w r.toNat) + 2 * y) % 4))), .long (lI (openR (wLe w r.toNat) (wAw w r.toNat) (wSl w kk + (n : Int)))), .int (iI (wSl w kk + (n : Int)))])), (yf, .inl (G.2.1 3, 5, .inr (.inl (aL (legG (openR (wLe w r.toNat) (wAw w r.toNat) (wSl w kk + (n : Int))) (wDr w h.toNat) (wDn w h.toNat) (wWi w h.toNat) (wSl w kk + (n : Int)) (airR (wSd w h.toNat) (wWi w h.toNat) (((wRs w r.toNat) + 2 * y) % 4)) (asdR (wSd w h.toNat) (((wRs w r.toNat) + 2 * y) % 4)) (topR (wKd w kk) (wBy w kk) (wBr w kk) (wDp w kk)) (topLR (wKd w kk) (wBy w kk) (wBr w kk) (wDp w kk)) (frontR (wKd w kk) (wBy w kk) (wBr w kk) (wHg w kk)) (frontLR (wKd w kk) (wBy w kk) (wBr w kk) (wHg w kk)) (sideR (wKd w kk) (wBy w kk) (wDp w kk) (wHg w kk)))))))]) [] [0, 1, 2, 3] rfl rfl rfl rfl (by decide) rfl rfl rfl (Nat.le_of_ble_eq_true rfl) hl.1 dX5_layMeans_66 ⟨Nat.le_of_ble_eq_true rfl, Nat.le_of_ble_eq_true rfl⟩ ⟨Nat.le_of_ble_eq_true rfl, Nat.le_of_ble_eq_true rfl⟩ (fun _ H locs _ hP hD hS => ?_)
    have hP : va_P G.1 clG ([(wy, .inr (4, [.ref ya, .ref yb, .ref yl, .ref (z 0 0), .ref (z 5 kk), .int (iI tl), .int (iI yp), .int (iI ym)])), (yb, .inl (G.2.1 3, 1440, .inr (.inl (aL (mnH w kk r y h n gm))))), (yl, .inr (3, [.ref yf, .int (iI (pI (fwdR (openR (wLe w r.toNat) (wAw w r.toNat) (wSl w kk + (n : Int))) (wDr w h.toNat) (wDn w h.toNat) (wSl w kk + (n : Int)) (airR (wSd w h.toNat) (wWi w h.toNat) (((wRs w r.toNat) + 2 * y) % 4)) (topR (wKd w kk) (wBy w kk) (wBr w kk) (wDp w kk)) (topLR (wKd w kk) (wBy w kk) (wBr w kk) (wDp w kk)) (frontR (wKd w kk) (wBy w kk) (wBr w kk) (wHg w kk)) (frontLR (wKd w kk) (wBy w kk) (wBr w kk) (wHg w kk))))), .ref (z 2 h.toNat), .int (iI (airR (wSd w h.toNat) (wWi w h.toNat) (((wRs w r.toNat) + 2 * y) % 4))), .long (lI (openR (wLe w r.toNat) (wAw w r.toNat) (wSl w kk + (n : Int)))), .int (iI (wSl w kk + (n : Int)))])), (yf, .inl (G.2.1 3, 5, .inr (.inl (aL (legG (openR (wLe w r.toNat) (wAw w r.toNat) (wSl w kk + (n : Int))) (wDr w h.toNat) (wDn w h.toNat) (wWi w h.toNat) (wSl w kk + (n : Int)) (airR (wSd w h.toNat) (wWi w h.toNat) (((wRs w r.toNat) + 2 * y) % 4)) (asdR (wSd w h.toNat) (((wRs w r.toNat) + 2 * y) % 4)) (topR (wKd w kk) (wBy w kk) (wBr w kk) (wDp w kk)) (topLR (wKd w kk) (wBy w kk) (wBr w kk) (wDp w kk)) (frontR (wKd w kk) (wBy w kk) (wBr w kk) (wHg w kk)) (frontLR (wKd w kk) (wBy w kk) (wBr w kk) (wHg w kk)) (sideR (wKd w kk) (wBy w kk) (wDp w kk) (wHg w kk)))))))] ++ wl) _ := hP
    have hD : va_D A ([(wy, .inr (4, [.ref ya, .ref yb, .ref yl, .ref (z 0 0), .ref (z 5 kk), .int (iI tl), .int (iI yp), .int (iI ym)])), (yb, .inl (G.2.1 3, 1440, .inr (.inl (aL (mnH w kk r y h n gm))))), (yl, .inr (3, [.ref yf, .int (iI (pI (fwdR (openR (wLe w r.toNat) (wAw w r.toNat) (wSl w kk + (n : Int))) (wDr w h.toNat) (wDn w h.toNat) (wSl w kk + (n : Int)) (airR (wSd w h.toNat) (wWi w h.toNat) (((wRs w r.toNat) + 2 * y) % 4)) (topR (wKd w kk) (wBy w kk) (wBr w kk) (wDp w kk)) (topLR (wKd w kk) (wBy w kk) (wBr w kk) (wDp w kk)) (frontR (wKd w kk) (wBy w kk) (wBr w kk) (wHg w kk)) (frontLR (wKd w kk) (wBy w kk) (wBr w kk) (wHg w kk))))), .ref (z 2 h.toNat), .int (iI (airR (wSd w h.toNat) (wWi w h.toNat) (((wRs w r.toNat) + 2 * y) % 4))), .long (lI (openR (wLe w r.toNat) (wAw w r.toNat) (wSl w kk + (n : Int)))), .int (iI (wSl w kk + (n : Int)))])), (yf, .inl (G.2.1 3, 5, .inr (.inl (aL (legG (openR (wLe w r.toNat) (wAw w r.toNat) (wSl w kk + (n : Int))) (wDr w h.toNat) (wDn w h.toNat) (wWi w h.toNat) (wSl w kk + (n : Int)) (airR (wSd w h.toNat) (wWi w h.toNat) (((wRs w r.toNat) + 2 * y) % 4)) (asdR (wSd w h.toNat) (((wRs w r.toNat) + 2 * y) % 4)) (topR (wKd w kk) (wBy w kk) (wBr w kk) (wDp w kk)) (topLR (wKd w kk) (wBy w kk) (wBr w kk) (wDp w kk)) (frontR (wKd w kk) (wBy w kk) (wBr w kk) (wHg w kk)) (frontLR (wKd w kk) (wBy w kk) (wBr w kk) (wHg w kk)) (sideR (wKd w kk) (wBy w kk) (wDp w kk) (wHg w kk)))))))] ++ wl) := hD
    refine W.eq (g2 := F0 mM 69 ls [.int (iI (((2 * r + y) * 6 + h) * 10 + (wSl w kk + (n : Int)))), .ref yb]) rfl ?_
    refine lv_aload_n F.1 F.2.1 dX5_layMeans_69 rfl (lv_at hl 1 rfl) ?_
    refine r_get F (ci := 4) (v := .ref yl) b_X5 hE hP 0 rfl 2 (by decide) q300 (fun _ h9 => h9) rfl dX5_layMeans_70 ?_
    refine cl_V F (C := "RainWalk$Leg") (ct_X4_wet yl yf (pI (fwdR (openR (wLe w r.toNat) (wAw w r.toNat) (wSl w kk + (n : Int))) (wDr w h.toNat) (wDn w h.toNat) (wSl w kk + (n : Int)) (airR (wSd w h.toNat) (wWi w h.toNat) (((wRs w r.toNat) + 2 * y) % 4)) (topR (wKd w kk) (wBy w kk) (wBr w kk) (wDp w kk)) (topLR (wKd w kk) (wBy w kk) (wBr w kk) (wDp w kk)) (frontR (wKd w kk) (wBy w kk) (wBr w kk) (wHg w kk)) (frontLR (wKd w kk) (wBy w kk) (wBr w kk) (wHg w kk)))) (airR (wSd w h.toNat) (wWi w h.toNat) (((wRs w r.toNat) + 2 * y) % 4)) (openR (wLe w r.toNat) (wAw w r.toNat) (wSl w kk + (n : Int))) (wSl w kk + (n : Int)) (some (z 2 h.toNat)) (legG (openR (wLe w r.toNat) (wAw w r.toNat) (wSl w kk + (n : Int))) (wDr w h.toNat) (wDn w h.toNat) (wWi w h.toNat) (wSl w kk + (n : Int)) (airR (wSd w h.toNat) (wWi w h.toNat) (((wRs w r.toNat) + 2 * y) % 4)) (asdR (wSd w h.toNat) (((wRs w r.toNat) + 2 * y) % 4)) (topR (wKd w kk) (wBy w kk) (wBr w kk) (wDp w kk)) (topLR (wKd w kk) (wBy w kk) (wBr w kk) (wDp w kk)) (frontR (wKd w kk) (wBy w kk) (wBr w kk) (wHg w kk)) (frontLR (wKd w kk) (wBy w kk) (wBr w kk) (wHg w kk)) (sideR (wKd w kk) (wBy w kk) (wDp w kk) (wHg w kk))) wl) hd_X4_wet rfl q1220 q1112 q1113 q118 q1114 (va_recv hE.1 hP (ci := 3) (q0 := 2) rfl rfl) hE hP hD hS hA (X := [(wy, .inr (4, [.ref ya, .ref yb, .ref yl, .ref (z 0 0), .ref (z 5 kk), .int (iI tl), .int (iI yp), .int (iI ym)])), (yb, .inl (G.2.1 3, 1440, .inr (.inl (aL (mnH w kk r y h n gm))))), (yl, .inr (3, [.ref yf, .int (iI (pI (fwdR (openR (wLe w r.toNat) (wAw w r.toNat) (wSl w kk + (n : Int))) (wDr w h.toNat) (wDn w h.toNat) (wSl w kk + (n : Int)) (airR (wSd w h.toNat) (wWi w h.toNat) (((wRs w r.toNat) + 2 * y) % 4)) (topR (wKd w kk) (wBy w kk) (wBr w kk) (wDp w kk)) (topLR (wKd w kk) (wBy w kk) (wBr w kk) (wDp w kk)) (frontR (wKd w kk) (wBy w kk) (wBr w kk) (wHg w kk)) (frontLR (wKd w kk) (wBy w kk) (wBr w kk) (wHg w kk))))), .ref (z 2 h.toNat), .int (iI (airR (wSd w h.toNat) (wWi w h.toNat) (((wRs w r.toNat) + 2 * y) % 4))), .long (lI (openR (wLe w r.toNat) (wAw w r.toNat) (wSl w kk + (n : Int)))), .int (iI (wSl w kk + (n : Int)))])), (yf, .inl (G.2.1 3, 5, .inr (.inl (aL (legG (openR (wLe w r.toNat) (wAw w r.toNat) (wSl w kk + (n : Int))) (wDr w h.toNat) (wDn w h.toNat) (wWi w h.toNat) (wSl w kk + (n : Int)) (airR (wSd w h.toNat) (wWi w h.toNat) (((wRs w r.toNat) + 2 * y) % 4)) (asdR (wSd w h.toNat) (((wRs w r.toNat) + 2 * y) % 4)) (topR (wKd w kk) (wBy w kk) (wBr w kk) (wDp w kk)) (topLR (wKd w kk) (wBy w kk) (wBr w kk) (wDp w kk)) (frontR (wKd w kk) (wBy w kk) (wBr w kk) (wHg w kk)) (frontLR (wKd w kk) (wBy w kk) (wBr w kk) (wHg w kk)) (sideR (wKd w kk) (wBy w kk) (wDp w kk) (wHg w kk)))))))]) (pl := wl) (cx := [(yl, .inr (3, [.ref yf, .int (iI (pI (fwdR (openR (wLe w r.toNat) (wAw w r.toNat) (wSl w kk + (n : Int))) (wDr w h.toNat) (wDn w h.toNat) (wSl w kk + (n : Int)) (airR (wSd w h.toNat) (wWi w h.toNat) (((wRs w r.toNat) + 2 * y) % 4)) (topR (wKd w kk) (wBy w kk) (wBr w kk) (wDp w kk)) (topLR (wKd w kk) (wBy w kk) (wBr w kk) (wDp w kk)) (frontR (wKd w kk) (wBy w kk) (wBr w kk) (wHg w kk)) (frontLR (wKd w kk) (wBy w kk) (wBr w kk) (wHg w kk))))), .ref (z 2 h.toNat), .int (iI (airR (wSd w h.toNat) (wWi w h.toNat) (((wRs w r.toNat) + 2 * y) % 4))), .long (lI (openR (wLe w r.toNat) (wAw w r.toNat) (wSl w kk + (n : Int)))), .int (iI (wSl w kk + (n : Int)))])), (yf, .inl (G.2.1 3, 5, .inr (.inl (aL (legG (openR (wLe w r.toNat) (wAw w r.toNat) (wSl w kk + (n : Int))) (wDr w h.toNat) (wDn w h.toNat) (wWi w h.toNat) (wSl w kk + (n : Int)) (airR (wSd w h.toNat) (wWi w h.toNat) (((wRs w r.toNat) + 2 * y) % 4)) (asdR (wSd w h.toNat) (((wRs w r.toNat) + 2 * y) % 4)) (topR (wKd w kk) (wBy w kk) (wBr w kk) (wDp w kk)) (topLR (wKd w kk) (wBy w kk) (wBr w kk) (wDp w kk)) (frontR (wKd w kk) (wBy w kk) (wBr w kk) (wHg w kk)) (frontLR (wKd w kk) (wBy w kk) (wBr w kk) (wHg w kk)) (sideR (wKd w kk) (wBy w kk) (wDp w kk) (wHg w kk)))))))]) (wr := [(wy, .inr (4, [.ref ya, .ref yb, .ref yl, .ref (z 0 0), .ref (z 5 kk), .int (iI tl), .int (iI yp), .int (iI ym)])), (yb, .inl (G.2.1 3, 1440, .inr (.inl (aL (mnH w kk r y h n gm)))))]) [2, 3] [0, 1] rfl rfl rfl rfl (by decide) rfl rfl rfl (Nat.le_of_ble_eq_true rfl) hl.1 dX5_layMeans_73 ⟨Nat.le_of_ble_eq_true rfl, Nat.le_of_ble_eq_true rfl⟩ ⟨Nat.le_of_ble_eq_true rfl, Nat.le_of_ble_eq_true rfl⟩ (fun _ H locs _ hP hD hS => ?_)
    have hP : va_P G.1 clG ([(wy, .inr (4, [.ref ya, .ref yb, .ref yl, .ref (z 0 0), .ref (z 5 kk), .int (iI tl), .int (iI yp), .int (iI ym)])), (yb, .inl (G.2.1 3, 1440, .inr (.inl (aL (mnH w kk r y h n gm))))), (yl, .inr (3, [.ref yf, .int (iI (pI (fwdR (openR (wLe w r.toNat) (wAw w r.toNat) (wSl w kk + (n : Int))) (wDr w h.toNat) (wDn w h.toNat) (wSl w kk + (n : Int)) (airR (wSd w h.toNat) (wWi w h.toNat) (((wRs w r.toNat) + 2 * y) % 4)) (topR (wKd w kk) (wBy w kk) (wBr w kk) (wDp w kk)) (topLR (wKd w kk) (wBy w kk) (wBr w kk) (wDp w kk)) (frontR (wKd w kk) (wBy w kk) (wBr w kk) (wHg w kk)) (frontLR (wKd w kk) (wBy w kk) (wBr w kk) (wHg w kk))))), .ref (z 2 h.toNat), .int (iI (airR (wSd w h.toNat) (wWi w h.toNat) (((wRs w r.toNat) + 2 * y) % 4))), .long (lI (openR (wLe w r.toNat) (wAw w r.toNat) (wSl w kk + (n : Int)))), .int (iI (wSl w kk + (n : Int)))])), (yf, .inl (G.2.1 3, 5, .inr (.inl (aL (legG (openR (wLe w r.toNat) (wAw w r.toNat) (wSl w kk + (n : Int))) (wDr w h.toNat) (wDn w h.toNat) (wWi w h.toNat) (wSl w kk + (n : Int)) (airR (wSd w h.toNat) (wWi w h.toNat) (((wRs w r.toNat) + 2 * y) % 4)) (asdR (wSd w h.toNat) (((wRs w r.toNat) + 2 * y) % 4)) (topR (wKd w kk) (wBy w kk) (wBr w kk) (wDp w kk)) (topLR (wKd w kk) (wBy w kk) (wBr w kk) (wDp w kk)) (frontR (wKd w kk) (wBy w kk) (wBr w kk) (wHg w kk)) (frontLR (wKd w kk) (wBy w kk) (wBr w kk) (wHg w kk)) (sideR (wKd w kk) (wBy w kk) (wDp w kk) (wHg w kk)))))))] ++ wl) _ := hP
    have hD : va_D A ([(wy, .inr (4, [.ref ya, .ref yb, .ref yl, .ref (z 0 0), .ref (z 5 kk), .int (iI tl), .int (iI yp), .int (iI ym)])), (yb, .inl (G.2.1 3, 1440, .inr (.inl (aL (mnH w kk r y h n gm))))), (yl, .inr (3, [.ref yf, .int (iI (pI (fwdR (openR (wLe w r.toNat) (wAw w r.toNat) (wSl w kk + (n : Int))) (wDr w h.toNat) (wDn w h.toNat) (wSl w kk + (n : Int)) (airR (wSd w h.toNat) (wWi w h.toNat) (((wRs w r.toNat) + 2 * y) % 4)) (topR (wKd w kk) (wBy w kk) (wBr w kk) (wDp w kk)) (topLR (wKd w kk) (wBy w kk) (wBr w kk) (wDp w kk)) (frontR (wKd w kk) (wBy w kk) (wBr w kk) (wHg w kk)) (frontLR (wKd w kk) (wBy w kk) (wBr w kk) (wHg w kk))))), .ref (z 2 h.toNat), .int (iI (airR (wSd w h.toNat) (wWi w h.toNat) (((wRs w r.toNat) + 2 * y) % 4))), .long (lI (openR (wLe w r.toNat) (wAw w r.toNat) (wSl w kk + (n : Int)))), .int (iI (wSl w kk + (n : Int)))])), (yf, .inl (G.2.1 3, 5, .inr (.inl (aL (legG (openR (wLe w r.toNat) (wAw w r.toNat) (wSl w kk + (n : Int))) (wDr w h.toNat) (wDn w h.toNat) (wWi w h.toNat) (wSl w kk + (n : Int)) (airR (wSd w h.toNat) (wWi w h.toNat) (((wRs w r.toNat) + 2 * y) % 4)) (asdR (wSd w h.toNat) (((wRs w r.toNat) + 2 * y) % 4)) (topR (wKd w kk) (wBy w kk) (wBr w kk) (wDp w kk)) (topLR (wKd w kk) (wBy w kk) (wBr w kk) (wDp w kk)) (frontR (wKd w kk) (wBy w kk) (wBr w kk) (wHg w kk)) (frontLR (wKd w kk) (wBy w kk) (wBr w kk) (wHg w kk)) (sideR (wKd w kk) (wBy w kk) (wDp w kk) (wHg w kk)))))))] ++ wl) := hD
    refine W.eq (g2 := F0 mM 76 ls [.long (lI (sum5 (legG (openR (wLe w r.toNat) (wAw w r.toNat) (wSl w kk + (n : Int))) (wDr w h.toNat) (wDn w h.toNat) (wWi w h.toNat) (wSl w kk + (n : Int)) (airR (wSd w h.toNat) (wWi w h.toNat) (((wRs w r.toNat) + 2 * y) % 4)) (asdR (wSd w h.toNat) (((wRs w r.toNat) + 2 * y) % 4)) (topR (wKd w kk) (wBy w kk) (wBr w kk) (wDp w kk)) (topLR (wKd w kk) (wBy w kk) (wBr w kk) (wDp w kk)) (frontR (wKd w kk) (wBy w kk) (wBr w kk) (wHg w kk)) (frontLR (wKd w kk) (wBy w kk) (wBr w kk) (wHg w kk)) (sideR (wKd w kk) (wBy w kk) (wDp w kk) (wHg w kk))))), .int (iI (((2 * r + y) * 6 + h) * 10 + (wSl w kk + (n : Int)))), .ref yb]) rfl ?_
    refine top_cl (b := (wWet w kk r.toNat y h.toNat (wSl w kk + (n : Int)))) (by rfl) ?_
    refine lv_aload F.1 F.2.1 dX5_layMeans_76 (lv_at hl 0 rfl) ?_
    obtain ⟨k_20, hk_21⟩ := mem_at (X := [(wy, .inr (4, [.ref ya, .ref yb, .ref yl, .ref (z 0 0), .ref (z 5 kk), .int (iI tl), .int (iI yp), .int (iI ym)])), (yb, .inl (G.2.1 3, 1440, .inr (.inl (aL (mnH w kk r y h n gm))))), (yl, .inr (3, [.ref yf, .int (iI (pI (fwdR (openR (wLe w r.toNat) (wAw w r.toNat) (wSl w kk + (n : Int))) (wDr w h.toNat) (wDn w h.toNat) (wSl w kk + (n : Int)) (airR (wSd w h.toNat) (wWi w h.toNat) (((wRs w r.toNat) + 2 * y) % 4)) (topR (wKd w kk) (wBy w kk) (wBr w kk) (wDp w kk)) (topLR (wKd w kk) (wBy w kk) (wBr w kk) (wDp w kk)) (frontR (wKd w kk) (wBy w kk) (wBr w kk) (wHg w kk)) (frontLR (wKd w kk) (wBy w kk) (wBr w kk) (wHg w kk))))), .ref (z 2 h.toNat), .int (iI (airR (wSd w h.toNat) (wWi w h.toNat) (((wRs w r.toNat) + 2 * y) % 4))), .long (lI (openR (wLe w r.toNat) (wAw w r.toNat) (wSl w kk + (n : Int)))), .int (iI (wSl w kk + (n : Int)))])), (yf, .inl (G.2.1 3, 5, .inr (.inl (aL (legG (openR (wLe w r.toNat) (wAw w r.toNat) (wSl w kk + (n : Int))) (wDr w h.toNat) (wDn w h.toNat) (wWi w h.toNat) (wSl w kk + (n : Int)) (airR (wSd w h.toNat) (wWi w h.toNat) (((wRs w r.toNat) + 2 * y) % 4)) (asdR (wSd w h.toNat) (((wRs w r.toNat) + 2 * y) % 4)) (topR (wKd w kk) (wBy w kk) (wBr w kk) (wDp w kk)) (topLR (wKd w kk) (wBy w kk) (wBr w kk) (wDp w kk)) (frontR (wKd w kk) (wBy w kk) (wBr w kk) (wHg w kk)) (frontLR (wKd w kk) (wBy w kk) (wBr w kk) (wHg w kk)) (sideR (wKd w kk) (wBy w kk) (wDp w kk) (wHg w kk)))))))]) (hW.rain h.toNat (by omega))
    refine r_get F (ci := 7) (v := .int (iI (wCh w h.toNat))) b_X9 hE hP k_20 hk_21 4 (by decide) q730 (fun _ h9 => h9) rfl dX5_layMeans_78 ?_
    refine r_i2l F (by omega) dX5_layMeans_81 ?_
    refine r_lmul F dX5_layMeans_82 ?_
    refine r_last F (g := (mnH w kk r y h n gm)) (x := ((wWet w kk r.toNat y h.toNat (wSl w kk + (n : Int))) * (wCh w h.toNat))) hE hP hD hS 1 rfl ((((2 * r + y) * 6 + h) * 10 + (wSl w kk + (n : Int))).toNat) (by omega) (by omega) (by decide) dX5_layMeans_83 (fun H locs hP hD hS => ?_)
    have hP : va_P G.1 clG ([(wy, .inr (4, [.ref ya, .ref yb, .ref yl, .ref (z 0 0), .ref (z 5 kk), .int (iI tl), .int (iI yp), .int (iI ym)])), (yb, .inl (G.2.1 3, 1440, .inr (.inl (aL (up (mnH w kk r y h n gm) ((((2 * r + y) * 6 + h) * 10 + (wSl w kk + (n : Int))).toNat) ((wWet w kk r.toNat y h.toNat (wSl w kk + (n : Int))) * (wCh w h.toNat))))))), (yl, .inr (3, [.ref yf, .int (iI (pI (fwdR (openR (wLe w r.toNat) (wAw w r.toNat) (wSl w kk + (n : Int))) (wDr w h.toNat) (wDn w h.toNat) (wSl w kk + (n : Int)) (airR (wSd w h.toNat) (wWi w h.toNat) (((wRs w r.toNat) + 2 * y) % 4)) (topR (wKd w kk) (wBy w kk) (wBr w kk) (wDp w kk)) (topLR (wKd w kk) (wBy w kk) (wBr w kk) (wDp w kk)) (frontR (wKd w kk) (wBy w kk) (wBr w kk) (wHg w kk)) (frontLR (wKd w kk) (wBy w kk) (wBr w kk) (wHg w kk))))), .ref (z 2 h.toNat), .int (iI (airR (wSd w h.toNat) (wWi w h.toNat) (((wRs w r.toNat) + 2 * y) % 4))), .long (lI (openR (wLe w r.toNat) (wAw w r.toNat) (wSl w kk + (n : Int)))), .int (iI (wSl w kk + (n : Int)))])), (yf, .inl (G.2.1 3, 5, .inr (.inl (aL (legG (openR (wLe w r.toNat) (wAw w r.toNat) (wSl w kk + (n : Int))) (wDr w h.toNat) (wDn w h.toNat) (wWi w h.toNat) (wSl w kk + (n : Int)) (airR (wSd w h.toNat) (wWi w h.toNat) (((wRs w r.toNat) + 2 * y) % 4)) (asdR (wSd w h.toNat) (((wRs w r.toNat) + 2 * y) % 4)) (topR (wKd w kk) (wBy w kk) (wBr w kk) (wDp w kk)) (topLR (wKd w kk) (wBy w kk) (wBr w kk) (wDp w kk)) (frontR (wKd w kk) (wBy w kk) (wBr w kk) (wHg w kk)) (frontLR (wKd w kk) (wBy w kk) (wBr w kk) (wHg w kk)) (sideR (wKd w kk) (wBy w kk) (wDp w kk) (wHg w kk)))))))] ++ wl) _ := hP
    have hD : va_D A ([(wy, .inr (4, [.ref ya, .ref yb, .ref yl, .ref (z 0 0), .ref (z 5 kk), .int (iI tl), .int (iI yp), .int (iI ym)])), (yb, .inl (G.2.1 3, 1440, .inr (.inl (aL (up (mnH w kk r y h n gm) ((((2 * r + y) * 6 + h) * 10 + (wSl w kk + (n : Int))).toNat) ((wWet w kk r.toNat y h.toNat (wSl w kk + (n : Int))) * (wCh w h.toNat))))))), (yl, .inr (3, [.ref yf, .int (iI (pI (fwdR (openR (wLe w r.toNat) (wAw w r.toNat) (wSl w kk + (n : Int))) (wDr w h.toNat) (wDn w h.toNat) (wSl w kk + (n : Int)) (airR (wSd w h.toNat) (wWi w h.toNat) (((wRs w r.toNat) + 2 * y) % 4)) (topR (wKd w kk) (wBy w kk) (wBr w kk) (wDp w kk)) (topLR (wKd w kk) (wBy w kk) (wBr w kk) (wDp w kk)) (frontR (wKd w kk) (wBy w kk) (wBr w kk) (wHg w kk)) (frontLR (wKd w kk) (wBy w kk) (wBr w kk) (wHg w kk))))), .ref (z 2 h.toNat), .int (iI (airR (wSd w h.toNat) (wWi w h.toNat) (((wRs w r.toNat) + 2 * y) % 4))), .long (lI (openR (wLe w r.toNat) (wAw w r.toNat) (wSl w kk + (n : Int)))), .int (iI (wSl w kk + (n : Int)))])), (yf, .inl (G.2.1 3, 5, .inr (.inl (aL (legG (openR (wLe w r.toNat) (wAw w r.toNat) (wSl w kk + (n : Int))) (wDr w h.toNat) (wDn w h.toNat) (wWi w h.toNat) (wSl w kk + (n : Int)) (airR (wSd w h.toNat) (wWi w h.toNat) (((wRs w r.toNat) + 2 * y) % 4)) (asdR (wSd w h.toNat) (((wRs w r.toNat) + 2 * y) % 4)) (topR (wKd w kk) (wBy w kk) (wBr w kk) (wDp w kk)) (topLR (wKd w kk) (wBy w kk) (wBr w kk) (wDp w kk)) (frontR (wKd w kk) (wBy w kk) (wBr w kk) (wHg w kk)) (frontLR (wKd w kk) (wBy w kk) (wBr w kk) (wHg w kk)) (sideR (wKd w kk) (wBy w kk) (wDp w kk) (wHg w kk)))))))] ++ wl) := hD
    refine lv_iinc (v := iI ((wSl w kk + (n : Int)) + 1)) (lv' := [(5, .int (iI ((wSl w kk + (n : Int)) + 1))), (4, .ref (z 2 h.toNat)), (0, .ref wy), (1, .int (iI r)), (2, .int (iI y)), (3, .int (iI h))]) (k := 5) F.1 F.2.1 dX5_layMeans_84 hl rfl (iI_add _ _) (Nat.le_of_ble_eq_true rfl) rfl (fun ls hl => ?_)
    refine lv_goto (tgt := 20) F.1 F.2.1 dX5_layMeans_87 (by decide) ?_
    obtain ⟨hP, hD⟩ := cvJ (g := (up (mnH w kk r y h n gm) ((((2 * r + y) * 6 + h) * 10 + (wSl w kk + (n : Int))).toNat) ((wWet w kk r.toNat y h.toNat (wSl w kk + (n : Int))) * (wCh w h.toNat)))) (g' := (mnH w kk r y h (n + 1) gm)) hP hD 1 rfl (fun k hk => by first | (with_reducible rfl) | ((try dsimp only); exact mnH_up (by omega) hy (by omega) (by omega) (by omega) k))
    have hP : va_P G.1 clG ([(wy, .inr (4, [.ref ya, .ref yb, .ref yl, .ref (z 0 0), .ref (z 5 kk), .int (iI tl), .int (iI yp), .int (iI ym)])), (yb, .inl (G.2.1 3, 1440, .inr (.inl (aL (mnH w kk r y h (n + 1) gm))))), (yl, .inr (3, [.ref yf, .int (iI (pI (fwdR (openR (wLe w r.toNat) (wAw w r.toNat) (wSl w kk + (n : Int))) (wDr w h.toNat) (wDn w h.toNat) (wSl w kk + (n : Int)) (airR (wSd w h.toNat) (wWi w h.toNat) (((wRs w r.toNat) + 2 * y) % 4)) (topR (wKd w kk) (wBy w kk) (wBr w kk) (wDp w kk)) (topLR (wKd w kk) (wBy w kk) (wBr w kk) (wDp w kk)) (frontR (wKd w kk) (wBy w kk) (wBr w kk) (wHg w kk)) (frontLR (wKd w kk) (wBy w kk) (wBr w kk) (wHg w kk))))), .ref (z 2 h.toNat), .int (iI (airR (wSd w h.toNat) (wWi w h.toNat) (((wRs w r.toNat) + 2 * y) % 4))), .long (lI (openR (wLe w r.toNat) (wAw w r.toNat) (wSl w kk + (n : Int)))), .int (iI (wSl w kk + (n : Int)))])), (yf, .inl (G.2.1 3, 5, .inr (.inl (aL (legG (openR (wLe w r.toNat) (wAw w r.toNat) (wSl w kk + (n : Int))) (wDr w h.toNat) (wDn w h.toNat) (wWi w h.toNat) (wSl w kk + (n : Int)) (airR (wSd w h.toNat) (wWi w h.toNat) (((wRs w r.toNat) + 2 * y) % 4)) (asdR (wSd w h.toNat) (((wRs w r.toNat) + 2 * y) % 4)) (topR (wKd w kk) (wBy w kk) (wBr w kk) (wDp w kk)) (topLR (wKd w kk) (wBy w kk) (wBr w kk) (wDp w kk)) (frontR (wKd w kk) (wBy w kk) (wBr w kk) (wHg w kk)) (frontLR (wKd w kk) (wBy w kk) (wBr w kk) (wHg w kk)) (sideR (wKd w kk) (wBy w kk) (wDp w kk) (wHg w kk)))))))] ++ wl) _ := hP
    have hD : va_D A ([(wy, .inr (4, [.ref ya, .ref yb, .ref yl, .ref (z 0 0), .ref (z 5 kk), .int (iI tl), .int (iI yp), .int (iI ym)])), (yb, .inl (G.2.1 3, 1440, .inr (.inl (aL (mnH w kk r y h (n + 1) gm))))), (yl, .inr (3, [.ref yf, .int (iI (pI (fwdR (openR (wLe w r.toNat) (wAw w r.toNat) (wSl w kk + (n : Int))) (wDr w h.toNat) (wDn w h.toNat) (wSl w kk + (n : Int)) (airR (wSd w h.toNat) (wWi w h.toNat) (((wRs w r.toNat) + 2 * y) % 4)) (topR (wKd w kk) (wBy w kk) (wBr w kk) (wDp w kk)) (topLR (wKd w kk) (wBy w kk) (wBr w kk) (wDp w kk)) (frontR (wKd w kk) (wBy w kk) (wBr w kk) (wHg w kk)) (frontLR (wKd w kk) (wBy w kk) (wBr w kk) (wHg w kk))))), .ref (z 2 h.toNat), .int (iI (airR (wSd w h.toNat) (wWi w h.toNat) (((wRs w r.toNat) + 2 * y) % 4))), .long (lI (openR (wLe w r.toNat) (wAw w r.toNat) (wSl w kk + (n : Int)))), .int (iI (wSl w kk + (n : Int)))])), (yf, .inl (G.2.1 3, 5, .inr (.inl (aL (legG (openR (wLe w r.toNat) (wAw w r.toNat) (wSl w kk + (n : Int))) (wDr w h.toNat) (wDn w h.toNat) (wWi w h.toNat) (wSl w kk + (n : Int)) (airR (wSd w h.toNat) (wWi w h.toNat) (((wRs w r.toNat) + 2 * y) % 4)) (asdR (wSd w h.toNat) (((wRs w r.toNat) + 2 * y) % 4)) (topR (wKd w kk) (wBy w kk) (wBr w kk) (wDp w kk)) (topLR (wKd w kk) (wBy w kk) (wBr w kk) (wDp w kk)) (frontR (wKd w kk) (wBy w kk) (wBr w kk) (wHg w kk)) (frontLR (wKd w kk) (wBy w kk) (wBr w kk) (wHg w kk)) (sideR (wKd w kk) (wBy w kk) (wDp w kk) (wHg w kk)))))))] ++ wl) := hD
    have hl : lv_has ls 6 [(4, .ref (z 2 h.toNat)), (0, .ref wy), (1, .int (iI r)), (2, .int (iI y)), (3, .int (iI h)), (5, .int (iI ((wSl w kk + (n : Int)) + 1)))] := lv_sub hl [1, 2, 3, 4, 5, 0] rfl
    have hl := lv_cv (fun zZ : Int => [(4, .ref (z 2 h.toNat)), (0, .ref wy), (1, .int (iI r)), (2, .int (iI y)), (3, .int (iI h)), (5, .int (iI zZ))]) (show ((wSl w kk + (n : Int)) + 1) = (wSl w kk + ((n + 1) : Int)) from by omega) hl
    have hl : lv_has ls 6 [(4, .ref (z 2 h.toNat)), (0, .ref wy), (1, .int (iI r)), (2, .int (iI y)), (3, .int (iI h)), (5, .int (iI (wSl w kk + ((n + 1) : Int))))] := hl
    exact ih_20 (n + 1, pI (fwdR (openR (wLe w r.toNat) (wAw w r.toNat) (wSl w kk + (n : Int))) (wDr w h.toNat) (wDn w h.toNat) (wSl w kk + (n : Int)) (airR (wSd w h.toNat) (wWi w h.toNat) (((wRs w r.toNat) + 2 * y) % 4)) (topR (wKd w kk) (wBy w kk) (wBr w kk) (wDp w kk)) (topLR (wKd w kk) (wBy w kk) (wBr w kk) (wDp w kk)) (frontR (wKd w kk) (wBy w kk) (wBr w kk) (wHg w kk)) (frontLR (wKd w kk) (wBy w kk) (wBr w kk) (wHg w kk))), some (z 2 h.toNat), airR (wSd w h.toNat) (wWi w h.toNat) (((wRs w r.toNat) + 2 * y) % 4), openR (wLe w r.toNat) (wAw w r.toNat) (wSl w kk + (n : Int)), wSl w kk + (n : Int), legG (openR (wLe w r.toNat) (wAw w r.toNat) (wSl w kk + (n : Int))) (wDr w h.toNat) (wDn w h.toNat) (wWi w h.toNat) (wSl w kk + (n : Int)) (airR (wSd w h.toNat) (wWi w h.toNat) (((wRs w r.toNat) + 2 * y) % 4)) (asdR (wSd w h.toNat) (((wRs w r.toNat) + 2 * y) % 4)) (topR (wKd w kk) (wBy w kk) (wBr w kk) (wDp w kk)) (topLR (wKd w kk) (wBy w kk) (wBr w kk) (wDp w kk)) (frontR (wKd w kk) (wBy w kk) (wBr w kk) (wHg w kk)) (frontLR (wKd w kk) (wBy w kk) (wBr w kk) (wHg w kk)) (sideR (wKd w kk) (wBy w kk) (wDp w kk) (wHg w kk))) _ _ _ (by first | omega | (dsimp only; omega)) ⟨hP, hD, hS, hl, (by omega)⟩
