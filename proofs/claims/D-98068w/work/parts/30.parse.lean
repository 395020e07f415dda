/-! What a told world is: tokens, lines (plain functions, for both sides) -/
set_option maxRecDepth 100000
abbrev k_world : List Int := [(119 : Int), 111, 114, 108, 100]
abbrev k_rain : List Int := [(114 : Int), 97, 105, 110]
abbrev k_place : List Int := [(112 : Int), 108, 97, 99, 101]
abbrev k_road : List Int := [(114 : Int), 111, 97, 100]
abbrev k_walker : List Int := [(119 : Int), 97, 108, 107, 101, 114]
abbrev k_seen : List Int := [(115 : Int), 101, 101, 110]
abbrev k_inn : List Int := [(105 : Int), 110, 110]
abbrev k_tree : List Int := [(116 : Int), 114, 101, 101]
abbrev k_awning : List Int := [(97 : Int), 119, 110, 105, 110, 103]
abbrev k_hour : List Int := [(104 : Int), 111, 117, 114]
abbrev k_drops : List Int := [(100 : Int), 114, 111, 112, 115]
abbrev k_down : List Int := [(100 : Int), 111, 119, 110]
abbrev k_wind : List Int := [(119 : Int), 105, 110, 100]
abbrev k_chance : List Int := [(99 : Int), 104, 97, 110, 99, 101]
abbrev k_north : List Int := [(110 : Int), 111, 114, 116, 104]
abbrev k_east : List Int := [(101 : Int), 97, 115, 116]
abbrev k_south : List Int := [(115 : Int), 111, 117, 116, 104]
abbrev k_west : List Int := [(119 : Int), 101, 115, 116]
abbrev k_plain : List Int := [(112 : Int), 108, 97, 105, 110]
abbrev k_bent : List Int := [(98 : Int), 101, 110, 116]
abbrev k_coat : List Int := [(99 : Int), 111, 97, 116]
abbrev k_shield : List Int := [(115 : Int), 104, 105, 101, 108, 100]
abbrev k_broad : List Int := [(98 : Int), 114, 111, 97, 100]
abbrev k_deep : List Int := [(100 : Int), 101, 101, 112]
abbrev k_high : List Int := [(104 : Int), 105, 103, 104]
abbrev k_from : List Int := [(102 : Int), 114, 111, 109]
abbrev k_to : List Int := [(116 : Int), 111]
def seeM (tx : Nat → Int) (n k : Nat) : Int := if k < n then tx k % 256 else -1
abbrev isL (c : Int) : Prop := 97 ≤ c ∧ c ≤ 122
abbrev isD (c : Int) : Prop := 48 ≤ c ∧ c ≤ 57
/-- how many from a place on are so -/
def cnt (P : Int → Bool) (tx : Nat → Int) (n : Nat) : Nat → Nat → Nat
  | 0, _ => 0
  | f + 1, k => if P (seeM tx n k) = true then cnt P tx n f (k + 1) + 1 else 0
theorem cnt_is {P : Int → Bool} {tx : Nat → Int} {n : Nat} : ∀ (f k m : Nat), m < f → (∀ i, i < m → P (seeM tx n (k + i)) = true) → ¬ P (seeM tx n (k + m)) = true → cnt P tx n f k = m
  | 0, _, _, hm, _, _ => absurd hm (Nat.not_lt_zero _)
  | f + 1, k, 0, _, _, h => by
    show (if P (seeM tx n k) = true then _ else 0) = 0
    exact if_neg h
  | f + 1, k, m + 1, hm, h1, h2 => by
    show (if P (seeM tx n k) = true then cnt P tx n f (k + 1) + 1 else 0) = m + 1
    rw [if_pos (show P (seeM tx n k) = true from h1 0 (Nat.succ_pos _)), cnt_is f (k + 1) m (by omega) (fun i hi => by rw [show k + 1 + i = k + (i + 1) by omega]; exact h1 (i + 1) (by omega)) (by rw [show k + 1 + m = k + (m + 1) by omega]; exact h2)]
theorem seeM_in {tx : Nat → Int} {n k : Nat} : -1 ≤ seeM tx n k ∧ seeM tx n k ≤ 255 := by
  unfold seeM
  split <;> omega
theorem seeM_lt {tx : Nat → Int} {n k : Nat} (h : ¬ seeM tx n k = -1) : k < n := by
  unfold seeM at h
  by_cases q : k < n
  · exact q
  · rw [if_neg q] at h
    exact absurd rfl h
def bSp : Int → Bool := fun c => decide (c = 32)
def bL : Int → Bool := fun c => decide (isL c)
def bD : Int → Bool := fun c => decide (isD c)
def tkAt (tx : Nat → Int) (n e : Nat) : Nat := e + cnt bSp tx n 1000 e
def tkC (tx : Nat → Int) (n e : Nat) : Int := seeM tx n (tkAt tx n e)
def tkNL (tx : Nat → Int) (n e : Nat) : Nat := cnt bL tx n 1000 (tkAt tx n e)
def tkND (tx : Nat → Int) (n e : Nat) : Nat := cnt bD tx n 1000 (tkAt tx n e)
/-- the first letters of a word, at most eight -/
def wsM (tx : Nat → Int) (n k : Nat) : Nat → List Int
  | 0 => []
  | j + 1 => if j < 8 then wsM tx n k j ++ [seeM tx n (k + j)] else wsM tx n k j
/-- the whole of the first digits, at most three -/
def vM (tx : Nat → Int) (n k : Nat) : Nat → Int
  | 0 => 0
  | j + 1 => if j < 3 then 10 * vM tx n k j + seeM tx n (k + j) - 48 else vM tx n k j
/-- the token from a place on: its kind (0 the end, 1 none, 2 a word, 3 a whole, or a sign), its end, its letters, its whole -/
def tkK (tx : Nat → Int) (n e : Nat) : Int := if tkC tx n e = -1 then 0 else if isL (tkC tx n e) then (if 8 < tkNL tx n e then 1 else 2) else if isD (tkC tx n e) then (if 3 < tkND tx n e then 1 else 3) else if tkC tx n e = 59 ∨ tkC tx n e = 44 then tkC tx n e else 1
def tkEnd (tx : Nat → Int) (n e : Nat) : Nat := if tkC tx n e = -1 then tkAt tx n e else if isL (tkC tx n e) then tkAt tx n e + tkNL tx n e else if isD (tkC tx n e) then tkAt tx n e + tkND tx n e else tkAt tx n e + 1
def tkW (tx : Nat → Int) (n e : Nat) : List Int := wsM tx n (tkAt tx n e) (tkNL tx n e)
def tkV (tx : Nat → Int) (n e : Nat) : Int := vM tx n (tkAt tx n e) (tkND tx n e)
theorem wsM_len {tx : Nat → Int} {n k : Nat} : ∀ j : Nat, (wsM tx n k j).length = min j 8
  | 0 => rfl
  | j + 1 => by
    have h := wsM_len (tx := tx) (n := n) (k := k) j
    show (if j < 8 then wsM tx n k j ++ [seeM tx n (k + j)] else wsM tx n k j).length = _
    split
    · rw [List.length_append, h]
      show min j 8 + 1 = _
      omega
    · rw [h]
      omega
theorem wsM_at {tx : Nat → Int} {n k : Nat} : ∀ j i : Nat, i < j → i < 8 → (wsM tx n k j)[i]? = some (seeM tx n (k + i))
  | 0, i, h, _ => absurd h (Nat.not_lt_zero _)
  | j + 1, i, h, h8 => by
    have hl := wsM_len (tx := tx) (n := n) (k := k) j
    show (if j < 8 then wsM tx n k j ++ [seeM tx n (k + j)] else wsM tx n k j)[i]? = _
    by_cases q : j < 8
    · rw [if_pos q]
      by_cases q2 : i < j
      · rw [List.getElem?_append_left (by omega)]
        exact wsM_at j i q2 h8
      · have e : i = j := by omega
        subst e
        rw [List.getElem?_append_right (by omega), hl, show i - min i 8 = 0 by omega]
        rfl
    · rw [if_neg q]
      exact wsM_at j i (by omega) h8
/-- letters only, one to eight -/
def WdL (ws : List Int) : Prop := 1 ≤ ws.length ∧ ws.length ≤ 8 ∧ ∀ c ∈ ws, isL c
abbrev Er : Type := Int × Nat
def pB {α β : Type} (x : Er ⊕ α) (f : α → Er ⊕ β) : Er ⊕ β := match x with
  | .inl e => .inl e
  | .inr a => f a
section PG
variable (tx : Nat → Int) (n : Nat)
abbrev isW (e : Nat) (ws : List Int) : Prop := tkK tx n e = 2 ∧ tkW tx n e = ws
def kw9 : List (List Int) := [k_world, k_rain, k_place, k_road, k_walker, k_seen, k_inn, k_tree, k_awning]
abbrev isNm (e : Nat) : Prop := tkK tx n e = 2 ∧ ¬ tkW tx n e ∈ kw9
def pMust (ws : List Int) (e : Nat) : Er ⊕ Nat := if isW tx n e ws then .inr (tkEnd tx n e) else .inl (1, tkAt tx n e)
def pNum (lo hi : Int) (e : Nat) : Er ⊕ (Int × Nat) := if tkK tx n e = 3 then (if lo ≤ tkV tx n e ∧ tkV tx n e ≤ hi then .inr (tkV tx n e, tkEnd tx n e) else .inl (4, tkAt tx n e)) else .inl (1, tkAt tx n e)
def pAfter (ws : List Int) (lo hi : Int) (e : Nat) : Er ⊕ (Int × Nat) := pB (pMust tx n ws e) (pNum tx n lo hi)
def sideM (e : Nat) : Int := if isW tx n e k_north then 0 else if isW tx n e k_east then 1 else if isW tx n e k_south then 2 else if isW tx n e k_west then 3 else -1
def pSide (e : Nat) : Er ⊕ (Int × Nat) := if sideM tx n e = -1 then .inl (1, tkAt tx n e) else .inr (sideM tx n e, tkEnd tx n e)
/-- where a name stands -/
def fnd (nm : Nat → List Int) (ws : List Int) (b : Nat) : Nat → Option Nat
  | 0 => none
  | k + 1 => match fnd nm ws b k with
    | some j => some j
    | none => if nm (b + k) = ws then some k else none
abbrev Nm : Type := Nat → List Int
def fndP (w : Wd) (nm : Nm) (ws : List Int) : Option Nat := fnd nm ws 0 (wnP w).toNat
def fndW (w : Wd) (nm : Nm) (ws : List Int) : Option Nat := fnd nm ws 8 (wnW w).toNat
def pFresh (w : Wd) (nm : Nm) (e : Nat) : Er ⊕ (List Int × Nat) := if isNm tx n e then (if fndP w nm (tkW tx n e) = none ∧ fndW w nm (tkW tx n e) = none then .inr (tkW tx n e, tkEnd tx n e) else .inl (3, tkAt tx n e)) else .inl (1, tkAt tx n e)
def pPlace (w : Wd) (nm : Nm) (e : Nat) : Er ⊕ Nat := if isNm tx n e then (match fndP w nm (tkW tx n e) with
    | some k => .inr k
    | none => .inl (2, tkAt tx n e)) else .inl (1, tkAt tx n e)
def pWho (w : Wd) (nm : Nm) (e : Nat) : Er ⊕ Nat := if isNm tx n e then (match fndP w nm (tkW tx n e), fndW w nm (tkW tx n e) with
    | none, some k => .inr k
    | _, _ => .inl (2, tkAt tx n e)) else .inl (1, tkAt tx n e)
def pBegins (w : Wd) (can : Bool) (e : Nat) : Er ⊕ Nat := if can = true then (if wHour w = 0 then .inl (6, tkAt tx n e) else .inr (tkEnd tx n e)) else .inl (5, tkAt tx n e)
def setW (w : Wd) (a b : Nat) (x : Int) : Wd := fun i j => if i = a ∧ j = b then x else w i j
def setN (nm : Nm) (k : Nat) (ws : List Int) : Nm := fun j => if j = k then ws else nm j
/-- what has been read: the place behind, the world, the names -/
abbrev Sp : Type := Nat × Wd × Nm
def pWorldL (s : Sp) : Er ⊕ Sp := if 0 < wHour s.2.1 then .inl (3, tkAt tx n s.1) else pB (pAfter tx n k_hour 5 60 (tkEnd tx n s.1)) fun a => .inr (a.2, setW s.2.1 21 0 a.1, s.2.2)
def addRain (w : Wd) (dr dn sd wi ch : Int) : Wd := setW (setW (setW (setW (setW (setW w 0 (wnH w).toNat dr) 1 (wnH w).toNat dn) 2 (wnH w).toNat sd) 3 (wnH w).toNat wi) 4 (wnH w).toNat ch) 21 1 (wnH w + 1)
def pRain (s : Sp) : Er ⊕ Sp := pB (pBegins tx n s.2.1 (decide (wnH s.2.1 < 6)) s.1) fun e0 => pB (pAfter tx n k_drops 0 9 e0) fun a1 => pB (pAfter tx n k_down 1 9 a1.2) fun a2 => pB (pMust tx n k_wind a2.2) fun e3 => pB (pSide tx n e3) fun a4 => pB (pNum tx n 0 9 a4.2) fun a5 => pB (pAfter tx n k_chance 0 100 a5.2) fun a6 => .inr (a6.2, addRain s.2.1 a1.1 a2.1 a4.1 a5.1 a6.1, s.2.2)
def addPlace (w : Wd) (inn tr : Int) : Wd := setW (setW (setW w 5 (wnP w).toNat inn) 6 (wnP w).toNat tr) 21 2 (wnP w + 1)
/-- behind a place's name: an inn, a tree, or nothing -/
def pKindP (e : Nat) : Er ⊕ ((Int × Int) × Nat) := if isW tx n e k_inn then .inr ((1, -2), tkEnd tx n e) else if isW tx n e k_tree then pB (pNum tx n 0 9 (tkEnd tx n e)) (fun a => .inr ((0, a.1), a.2)) else .inr ((0, -2), e)
def pPlaceL (s : Sp) : Er ⊕ Sp := pB (pBegins tx n s.2.1 (decide (wnP s.2.1 < 8)) s.1) fun e0 => pB (pFresh tx n s.2.1 s.2.2 e0) fun a1 => pB (pKindP tx n a1.2) fun a2 => .inr (a2.2, addPlace s.2.1 a2.1.1 a2.1.2, setN s.2.2 (wnP s.2.1).toNat a1.1)
def addRoad (w : Wd) (fr to sd le aw : Int) : Wd := setW (setW (setW (setW (setW (setW w 7 (wnR w).toNat fr) 8 (wnR w).toNat to) 9 (wnR w).toNat sd) 10 (wnR w).toNat le) 11 (wnR w).toNat aw) 21 3 (wnR w + 1)
def pAwn (le : Int) (e : Nat) : Er ⊕ (Int × Nat) := if isW tx n e k_awning then pNum tx n 0 le (tkEnd tx n e) else .inr (0, e)
def pRoad (s : Sp) : Er ⊕ Sp := pB (pBegins tx n s.2.1 (decide (wnR s.2.1 < 12)) s.1) fun e0 => pB (pPlace tx n s.2.1 s.2.2 e0) fun k1 => pB (pSide tx n (tkEnd tx n e0)) fun a2 => pB (pNum tx n 1 60 a2.2) fun a3 => pB (pPlace tx n s.2.1 s.2.2 a3.2) fun k4 => if k4 = k1 then .inl (3, tkAt tx n a3.2) else pB (pAwn tx n a3.1 (tkEnd tx n a3.2)) fun a5 => .inr (a5.2, addRoad s.2.1 k1 k4 a2.1 a3.1 a5.1, s.2.2)
def addWalker (w : Wd) (kd by_ br dp hg sl fa : Int) : Wd := setW (setW (setW (setW (setW (setW (setW (setW w 12 (wnW w).toNat kd) 13 (wnW w).toNat by_) 14 (wnW w).toNat br) 15 (wnW w).toNat dp) 16 (wnW w).toNat hg) 17 (wnW w).toNat sl) 18 (wnW w).toNat fa) 21 4 (wnW w + 1)
def pKind (e : Nat) : Er ⊕ ((Int × Int) × Nat) := if isW tx n e k_plain then .inr ((0, 0), tkEnd tx n e) else if isW tx n e k_bent then pB (pNum tx n 1 8 (tkEnd tx n e)) (fun a => .inr ((1, a.1), a.2)) else if isW tx n e k_coat then pB (pNum tx n 0 999 (tkEnd tx n e)) (fun a => .inr ((2, a.1), a.2)) else pB (pAfter tx n k_shield 1 99 e) (fun a => .inr ((3, a.1), a.2))
def pWalker (s : Sp) : Er ⊕ Sp := pB (pBegins tx n s.2.1 (decide (wnW s.2.1 < 4)) s.1) fun e0 => pB (pFresh tx n s.2.1 s.2.2 e0) fun a1 => pB (pKind tx n a1.2) fun a2 => pB (pAfter tx n k_broad 1 9 a2.2) fun a3 => pB (pAfter tx n k_deep 1 9 a3.2) fun a4 => pB (pAfter tx n k_high ((if a2.1.1 = 1 then a2.1.2 else 0) + 1) 9 a4.2) fun a5 => pB (pAfter tx n k_from 1 9 a5.2) fun a6 => pB (pAfter tx n k_to a6.1 9 a6.2) fun a7 => .inr (a7.2, addWalker s.2.1 a2.1.1 a2.1.2 a3.1 a4.1 a5.1 a6.1 a7.1, setN s.2.2 (8 + (wnW s.2.1).toNat) a1.1)
def pFace (k e : Nat) : Er ⊕ (Int × Nat) := pB (if k = 0 then (.inr e : Er ⊕ Nat) else if tkK tx n e = 44 then .inr (tkEnd tx n e) else .inl (1, tkAt tx n e)) (pNum tx n 0 999)
def pFaces (e : Nat) : Nat → Er ⊕ ((Nat → Int) × Nat)
  | 0 => .inr (fun _ => 0, e)
  | j + 1 => pB (pFaces e j) fun a => pB (pFace tx n j a.2) fun b => .inr (up a.1 j b.1, b.2)
def addSeen (w : Wd) (k : Int) (g : Nat → Int) : Wd := fun i j => if i = 21 ∧ j = 5 then wnS w + 1 else if i = 19 ∧ j = (wnS w).toNat then k else if i = 20 ∧ 5 * (wnS w).toNat ≤ j ∧ j < 5 * (wnS w).toNat + 5 then g (j - 5 * (wnS w).toNat) else w i j
def pSeen (s : Sp) : Er ⊕ Sp := pB (pBegins tx n s.2.1 (decide (wnS s.2.1 < 4)) s.1) fun e0 => pB (pWho tx n s.2.1 s.2.2 e0) fun k1 => pB (pFaces tx n (tkEnd tx n e0) 5) fun a2 => .inr (a2.2, addSeen s.2.1 k1 a2.1, s.2.2)
def pLine (s : Sp) : Er ⊕ Sp := if isW tx n s.1 k_world then pWorldL tx n s else if isW tx n s.1 k_rain then pRain tx n s else if isW tx n s.1 k_place then pPlaceL tx n s else if isW tx n s.1 k_road then pRoad tx n s else if isW tx n s.1 k_walker then pWalker tx n s else if isW tx n s.1 k_seen then pSeen tx n s else .inl (1, tkAt tx n s.1)
def pLines : Nat → Sp → Er ⊕ Sp
  | 0, s => .inr s
  | f + 1, s => if tkK tx n s.1 = 59 then pB (pLine tx n (tkEnd tx n s.1, s.2)) (pLines f) else .inr s
def pEnd (s : Sp) : Er ⊕ Sp := if tkK tx n s.1 = 0 then (if wHour s.2.1 = 0 ∨ wnP s.2.1 = 0 ∨ wnW s.2.1 = 0 then .inl (6, tkAt tx n s.1) else .inr s) else .inl (1, tkAt tx n s.1)
def pRead : Er ⊕ Sp := pB (pLine tx n (0, (fun _ _ => 0), fun _ => [])) fun s => pB (pLines tx n 64 s) (pEnd tx n)
end PG
theorem cnt_le {P : Int → Bool} {tx : Nat → Int} {n : Nat} (h : ¬ P (-1) = true) : ∀ f k : Nat, k + cnt P tx n f k ≤ max k n
  | 0, k => by
    show k + 0 ≤ _
    omega
  | f + 1, k => by
    show k + (if P (seeM tx n k) = true then cnt P tx n f (k + 1) + 1 else 0) ≤ _
    by_cases q : P (seeM tx n k) = true
    · rw [if_pos q]
      have h1 := cnt_le (tx := tx) (n := n) h f (k + 1)
      have h2 := seeM_lt (tx := tx) (n := n) (k := k) (fun e => h (by rw [← e]; exact q))
      omega
    · rw [if_neg q]
      omega
theorem tk_le {tx : Nat → Int} {n e : Nat} (hn : n ≤ 900) (he : e ≤ 900) : tkAt tx n e ≤ 900 ∧ tkEnd tx n e ≤ 900 := by
  have h1 : tkAt tx n e ≤ max e n := cnt_le (P := bSp) (by decide) 1000 e
  have h2 : tkAt tx n e + tkNL tx n e ≤ max (tkAt tx n e) n := cnt_le (P := bL) (by decide) 1000 (tkAt tx n e)
  have h3 : tkAt tx n e + tkND tx n e ≤ max (tkAt tx n e) n := cnt_le (P := bD) (by decide) 1000 (tkAt tx n e)
  refine ⟨by omega, ?_⟩
  unfold tkEnd
  by_cases q : tkC tx n e = -1
  · rw [if_pos q]
    omega
  · rw [if_neg q]
    have h4 := seeM_lt (tx := tx) (n := n) (k := tkAt tx n e) q
    split
    · omega
    · split <;> omega

