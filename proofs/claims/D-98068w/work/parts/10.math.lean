/-! MATHEMATICS: plain functions on integers that both sides compute -/
def sumI (g : Nat → Int) : Nat → Int
  | 0 => 0
  | n + 1 => sumI g n + g n
def sum5 (g : Nat → Int) : Int := sumI g 5
theorem sum5_eq (g : Nat → Int) : sum5 g = g 0 + g 1 + g 2 + g 3 + g 4 := by
  show 0 + g 0 + g 1 + g 2 + g 3 + g 4 = _
  omega
/-- greatest common divisor -/
def gI (a b : Int) : Int := (Int.gcd a b : Int)
theorem gI_step {x y : Int} (hx : 0 ≤ x) (hy : 0 < y) : gI y (x % y) = gI x y := by
  unfold gI
  rw [Int.emod_def, Int.gcd_sub_mul_left_right, Int.gcd_comm]
theorem gI_0 {x : Int} (hx : 0 ≤ x) : gI x 0 = x := by
  unfold gI
  rw [Int.gcd_zero_right]
  omega
theorem gI_pos {a b : Int} (hb : 0 < b) : 0 < gI a b := by
  unfold gI
  have := Int.gcd_pos_of_ne_zero_right a (show b ≠ 0 by omega)
  omega
theorem gI_le {a b : Int} (hb : 0 < b) : gI a b ≤ b := by
  unfold gI
  have h := Int.le_of_dvd hb (Int.gcd_dvd_right a b)
  exact h
/-- a fraction in lowest terms: its lower or its upper whole -/
def partM (up down : Int) (lw : Prop) [Decidable lw] : Int := (if lw then down else up) / gI up down
