/-! BASE: ints and longs as images of integers -/
def iI (x : Int) : Int32 := Int32.ofInt x
def lI (x : Int) : Int64 := Int64.ofInt x
def pI (P : Prop) [Decidable P] : Int := if P then 1 else 0
def cmpI (a b : Int) : Int := if a < b then -1 else if a = b then 0 else 1
theorem pI_t {P : Prop} [Decidable P] (h : P) : pI P = 1 := if_pos h
theorem pI_f {P : Prop} [Decidable P] (h : ¬ P) : pI P = 0 := if_neg h
theorem pI_01 {P : Prop} [Decidable P] : pI P = 0 ∨ pI P = 1 := by
  by_cases h : P
  · exact Or.inr (pI_t h)
  · exact Or.inl (pI_f h)
theorem pI_congr {P Q : Prop} [Decidable P] [Decidable Q] (h : P ↔ Q) : pI P = pI Q := by
  by_cases hp : P
  · rw [pI_t hp, pI_t (h.mp hp)]
  · rw [pI_f hp, pI_f (fun q => hp (h.mpr q))]
theorem iI_add (a b : Int) : iI a + iI b = iI (a + b) := (Int32.ofInt_add a b).symm
theorem iI_sub (a b : Int) : iI a - iI b = iI (a - b) := (Int32.ofInt_sub a b).symm
theorem iI_mul (a b : Int) : iI a * iI b = iI (a * b) := (Int32.ofInt_mul a b).symm
theorem iI_neg (a : Int) : -iI a = iI (-a) := (Int32.ofInt_neg a).symm
theorem lI_add (a b : Int) : lI a + lI b = lI (a + b) := (Int64.ofInt_add a b).symm
theorem lI_sub (a b : Int) : lI a - lI b = lI (a - b) := (Int64.ofInt_sub a b).symm
theorem lI_mul (a b : Int) : lI a * lI b = lI (a * b) := (Int64.ofInt_mul a b).symm
theorem lI_neg (a : Int) : -lI a = lI (-a) := (Int64.ofInt_neg a).symm
theorem iI_toInt {a : Int} (h : -2147483648 ≤ a ∧ a < 2147483648) : (iI a).toInt = a := Int32.toInt_ofInt_of_le (by omega) (by omega)
theorem lI_toInt {a : Int} (h : -9223372036854775808 ≤ a ∧ a < 9223372036854775808) : (lI a).toInt = a := Int64.toInt_ofInt_of_le (by omega) (by omega)
theorem iI_of (x : Int32) : ∃ a : Int, (-2147483648 ≤ a ∧ a < 2147483648) ∧ x = iI a := by
  refine ⟨x.toInt, ⟨?_, ?_⟩, (Int32.ofInt_toInt x).symm⟩
  · have := Int32.le_toInt x; omega
  · have := Int32.toInt_lt x; omega
theorem iI_lt {a b : Int} (ha : -2147483648 ≤ a ∧ a < 2147483648) (hb : -2147483648 ≤ b ∧ b < 2147483648) : iI a < iI b ↔ a < b := by
  rw [Int32.lt_iff_toInt_lt, iI_toInt ha, iI_toInt hb]
theorem iI_le {a b : Int} (ha : -2147483648 ≤ a ∧ a < 2147483648) (hb : -2147483648 ≤ b ∧ b < 2147483648) : iI a ≤ iI b ↔ a ≤ b := by
  rw [Int32.le_iff_toInt_le, iI_toInt ha, iI_toInt hb]
theorem iI_inj {a b : Int} (ha : -2147483648 ≤ a ∧ a < 2147483648) (hb : -2147483648 ≤ b ∧ b < 2147483648) : iI a = iI b ↔ a = b := by
  rw [← Int32.toInt_inj, iI_toInt ha, iI_toInt hb]
theorem lI_lt {a b : Int} (ha : -9223372036854775808 ≤ a ∧ a < 9223372036854775808) (hb : -9223372036854775808 ≤ b ∧ b < 9223372036854775808) : lI a < lI b ↔ a < b := by
  rw [Int64.lt_iff_toInt_lt, lI_toInt ha, lI_toInt hb]
theorem lI_le {a b : Int} (ha : -9223372036854775808 ≤ a ∧ a < 9223372036854775808) (hb : -9223372036854775808 ≤ b ∧ b < 9223372036854775808) : lI a ≤ lI b ↔ a ≤ b := by
  rw [Int64.le_iff_toInt_le, lI_toInt ha, lI_toInt hb]
theorem lI_inj {a b : Int} (ha : -9223372036854775808 ≤ a ∧ a < 9223372036854775808) (hb : -9223372036854775808 ≤ b ∧ b < 9223372036854775808) : lI a = lI b ↔ a = b := by
  rw [← Int64.toInt_inj, lI_toInt ha, lI_toInt hb]
theorem iI_0 : (0 : Int32) = iI 0 := by decide +kernel
theorem lI_0 : (0 : Int64) = lI 0 := by decide +kernel
theorem iI_cl {a : Int} (h0 : 0 ≤ a) (h1 : a < 2147483648) : (iI a).toNatClampNeg = a.toNat := by
  show (iI a).toInt.toNat = a.toNat
  rw [iI_toInt ⟨by omega, h1⟩]
theorem iI_clN {a : Int} {j : Nat} (h : a = (j : Int)) (h1 : j < 2147483648) : (iI a).toNatClampNeg = j := by
  subst h
  rw [iI_cl (by omega) (by omega)]
  exact Int.toNat_natCast j
theorem iI_inN {a : Int} {j n : Nat} (h : a = (j : Int)) (hj : j < n) (hn : n < 2147483648) : vp_in (iI a) n := by
  subst h
  rw [vp_in_iff, iI_toInt ⟨by omega, by omega⟩]
  omega
theorem iI_nat (n : Nat) : Int32.ofNat n = iI (n : Int) := (Int32.ofInt_eq_ofNat).symm
theorem iI_div {a b : Int} (ha : 0 ≤ a ∧ a < 2147483648) (hb : 0 < b ∧ b < 2147483648) : iI a / iI b = iI (a / b) := by
  rw [← Int32.toInt_inj, Int32.toInt_div, iI_toInt ⟨by omega, ha.2⟩, iI_toInt ⟨by omega, hb.2⟩, Int.tdiv_eq_ediv_of_nonneg ha.1]
  have h0 : 0 ≤ a / b := Int.ediv_nonneg ha.1 (by omega)
  have h1 : a / b ≤ a := Int.ediv_le_self b ha.1
  rw [iI_toInt ⟨by omega, by omega⟩, Int.bmod_eq_of_le (by omega) (by omega)]
theorem iI_rem {a b : Int} (ha : 0 ≤ a ∧ a < 2147483648) (hb : 0 < b ∧ b < 2147483648) : iI a - iI a / iI b * iI b = iI (a % b) := by
  rw [iI_div ha hb, iI_mul, iI_sub, Int.emod_def, Int.mul_comm b]
theorem iI_ne0 {b : Int} (hb : -2147483648 ≤ b ∧ b < 2147483648) (h : b ≠ 0) : ¬ iI b = 0 := by
  rw [iI_0, iI_inj hb (by omega)]
  exact h
theorem lI_div {a b : Int} (ha : 0 ≤ a ∧ a < 9223372036854775808) (hb : 0 < b ∧ b < 9223372036854775808) : lI a / lI b = lI (a / b) := by
  rw [← Int64.toInt_inj, Int64.toInt_div, lI_toInt ⟨by omega, ha.2⟩, lI_toInt ⟨by omega, hb.2⟩, Int.tdiv_eq_ediv_of_nonneg ha.1]
  have h0 : 0 ≤ a / b := Int.ediv_nonneg ha.1 (by omega)
  have h1 : a / b ≤ a := Int.ediv_le_self b ha.1
  rw [lI_toInt ⟨by omega, by omega⟩, Int.bmod_eq_of_le (by omega) (by omega)]
theorem lI_rem {a b : Int} (ha : 0 ≤ a ∧ a < 9223372036854775808) (hb : 0 < b ∧ b < 9223372036854775808) : lI a - lI a / lI b * lI b = lI (a % b) := by
  rw [lI_div ha hb, lI_mul, lI_sub, Int.emod_def, Int.mul_comm b]
theorem lI_ne0 {b : Int} (hb : -9223372036854775808 ≤ b ∧ b < 9223372036854775808) (h : b ≠ 0) : ¬ lI b = 0 := by
  rw [lI_0, lI_inj hb (by omega)]
  exact h
theorem iI_l {a : Int} (h : -2147483648 ≤ a ∧ a < 2147483648) : (iI a).toInt64 = lI a := by
  rw [← Int64.toInt_inj, Int32.toInt_toInt64, iI_toInt h, lI_toInt (by omega)]
theorem lI_i (a : Int) : (lI a).toInt32 = iI a := Int64.toInt32_ofInt
theorem bip_ok {n : Int} (h : -128 ≤ n ∧ n < 128) : (Int8.ofInt n).toInt32 = iI n := by
  rw [← Int32.toInt_inj, Int8.toInt_toInt32, Int8.toInt_ofInt_of_le (by omega) (by omega), iI_toInt (by omega)]
theorem sip_ok {n : Int} (h : -32768 ≤ n ∧ n < 32768) : (Int16.ofInt n).toInt32 = iI n := by
  rw [← Int32.toInt_inj, Int16.toInt_toInt32, Int16.toInt_ofInt_of_le (by omega) (by omega), iI_toInt (by omega)]
/-- what a byte keeps -/
def bt (a : Int) : Int := a.bmod 256
theorem bt_in (a : Int) : -128 ≤ bt a ∧ bt a < 128 := by
  have h1 := @Int.le_bmod a 256 (by decide)
  have h2 := @Int.bmod_lt a 256 (by decide)
  unfold bt
  omega
theorem bt_id {a : Int} (h : -128 ≤ a ∧ a < 128) : bt a = a := Int.bmod_eq_of_le (by omega) (by omega)
theorem iI_b (a : Int) : (iI a).toInt8.toInt32 = iI (bt a) := by
  have e := iI_toInt (a := bt a) (by have := bt_in a; omega)
  rw [← Int32.toInt_inj, Int8.toInt_toInt32, Int32.toInt_toInt8, e]
  show (Int32.ofInt a).toInt.bmod (2 ^ 8) = bt a
  rw [Int32.toInt_ofInt]
  show ((a.bmod 4294967296).bmod 256) = a.bmod 256
  exact Int.bmod_bmod_of_dvd (by decide)
theorem iI_bv (a : Int) : (iI a).toBitVec = BitVec.ofInt 32 a := rfl
theorem iI_tn (a : Int) : (iI a).toBitVec.toNat = (a % 4294967296).toNat := by
  rw [iI_bv, BitVec.toNat_ofInt]
  rfl
theorem iI_and (a : Int) {m : Int32} (k : Nat) (hk : k ≤ 32) (hm : m.toBitVec.toNat = 2 ^ k - 1) : iI a &&& m = iI (a % 2 ^ k) := by
  rw [pk_and (iI a) k hm, iI_tn, show nI ((a % 4294967296).toNat % 2 ^ k) = Int32.ofNat ((a % 4294967296).toNat % 2 ^ k) from rfl, iI_nat]
  refine congrArg iI ?_
  have h0 : 0 ≤ a % 4294967296 := Int.emod_nonneg _ (by decide)
  have e1 : (((a % 4294967296).toNat % 2 ^ k : Nat) : Int) = (a % 4294967296) % 2 ^ k := by
    rw [Int.natCast_emod, Int.toNat_of_nonneg h0]
    simp
  rw [e1]
  refine Int.emod_emod_of_dvd a ?_
  have : (4294967296 : Int) = 2 ^ k * 2 ^ (32 - k) := by
    rw [← Int.pow_add, show k + (32 - k) = 32 by omega]
    rfl
  exact ⟨_, this⟩
theorem iI_shr {a : Int} (ha : -2147483648 ≤ a ∧ a < 2147483648) {s : Int32} (k : Nat) (hs : (s.toBitVec.smod 32).toNat = k) : iI a >>> s = iI (a / 2 ^ k) := by
  rw [← Int32.toInt_inj, pk_shr (iI a) s k hs, iI_toInt ha, Int.shiftRight_eq_div_pow]
  have h2 : (0 : Int) < 2 ^ k := Int.pow_pos (by decide)
  have e : ((2 ^ k : Nat) : Int) = (2 : Int) ^ k := by simp
  rw [e, iI_toInt]
  constructor
  · rcases Int.le_total 0 a with h | h
    · have := Int.ediv_nonneg h (Int.le_of_lt h2); omega
    · have : a ≤ a / 2 ^ k := by
        rw [Int.le_ediv_iff_mul_le h2]
        have : (1 : Int) ≤ 2 ^ k := h2
        calc a * 2 ^ k ≤ a * 1 := Int.mul_le_mul_of_nonpos_left h this
          _ = a := Int.mul_one a
      omega
  · rcases Int.le_total 0 a with h | h
    · have := Int.ediv_le_self (2 ^ k) h; omega
    · have : a / 2 ^ k < 1 := Int.ediv_lt_of_lt_mul h2 (by omega)
      omega
theorem sh_k : ∀ k : Nat, k < 31 → ((iI (k : Int) &&& 31).toBitVec.smod 32).toNat = k := by decide +kernel
theorem sh_1 : ∀ k : Nat, k < 31 → iI 1 <<< (iI (k : Int) &&& 31) = iI (2 ^ k) := by decide +kernel
theorem iI_or {a : Nat} {k : Nat} (h : a < 2 ^ k) (hk : k < 31) : iI (a : Int) ||| iI (2 ^ k) = iI ((a : Int) + 2 ^ k) := by
  have e1 : ((2 ^ k : Nat) : Int) = (2 : Int) ^ k := by simp
  have h31 : 2 ^ k ≤ 2 ^ 30 := Nat.pow_le_pow_right (by decide) (by omega)
  have h2 : 2 ^ k * 1 + a = 2 ^ k * 1 ||| a := Nat.two_pow_add_eq_or_of_lt h 1
  rw [Nat.mul_one] at h2
  rw [← e1, ← Int.natCast_add, ← iI_nat, ← iI_nat, ← iI_nat]
  refine Int32.toBitVec_inj.mp (BitVec.eq_of_toNat_eq ?_)
  show ((BitVec.ofNat 32 a) ||| (BitVec.ofNat 32 (2 ^ k))).toNat = (BitVec.ofNat 32 (a + 2 ^ k)).toNat
  rw [BitVec.toNat_or, BitVec.toNat_ofNat, BitVec.toNat_ofNat, BitVec.toNat_ofNat, Nat.mod_eq_of_lt (by omega), Nat.mod_eq_of_lt (by omega), Nat.mod_eq_of_lt (by omega), Nat.add_comm, h2, Nat.or_comm]
theorem iI_or0 (a : Int) : iI a ||| iI 0 = iI a := by
  rw [← iI_0]
  exact Int32.or_zero
/-- arrays -/
def aI (g : Nat → Int) : Nat → Int32 := fun k => iI (g k)
def aL (g : Nat → Int) : Nat → Int64 := fun k => lI (g k)
def up {α : Type} (f : Nat → α) (k : Nat) (x : α) : Nat → α := fun j => if j = k then x else f j
theorem up_s {α : Type} {f : Nat → α} {k : Nat} {x : α} : up f k x k = x := if_pos rfl
theorem up_n {α : Type} {f : Nat → α} {k j : Nat} {x : α} (h : j ≠ k) : up f k x j = f j := if_neg h
theorem up_aI (g : Nat → Int) (j : Nat) (x : Int) : upd (aI g) j (iI x) = aI (up g j x) := by
  funext k
  unfold upd aI up
  by_cases h : k = j
  · simp [h]
  · simp [h]
theorem up_aL (g : Nat → Int) (j : Nat) (x : Int) : vp_updL (aL g) j (lI x) = aL (up g j x) := by
  funext k
  unfold vp_updL aL up
  by_cases h : k = j
  · simp [h]
  · simp [h]
theorem aI_0 : (fun _ : Nat => (0 : Int32)) = aI (fun _ => 0) := by
  funext k
  exact iI_0
theorem aL_0 : (fun _ : Nat => (0 : Int64)) = aL (fun _ => 0) := by
  funext k
  exact lI_0
theorem cmpI_lt {a b : Int} : cmpI a b < 0 ↔ a < b := by
  unfold cmpI
  by_cases h : a < b
  · rw [if_pos h]; omega
  · rw [if_neg h]
    by_cases h2 : a = b
    · rw [if_pos h2]; omega
    · rw [if_neg h2]; omega
theorem cmpI_eq {a b : Int} : cmpI a b = 0 ↔ a = b := by
  unfold cmpI
  by_cases h : a < b
  · rw [if_pos h]; omega
  · rw [if_neg h]
    by_cases h2 : a = b
    · rw [if_pos h2]; omega
    · rw [if_neg h2]; omega
theorem cmpI_gt {a b : Int} : 0 < cmpI a b ↔ b < a := by
  unfold cmpI
  by_cases h : a < b
  · rw [if_pos h]; omega
  · rw [if_neg h]
    by_cases h2 : a = b
    · rw [if_pos h2]; omega
    · rw [if_neg h2]; omega
theorem cmpI_in {a b : Int} : -1 ≤ cmpI a b ∧ cmpI a b ≤ 1 := by
  unfold cmpI
  by_cases h : a < b
  · rw [if_pos h]; omega
  · rw [if_neg h]
    by_cases h2 : a = b
    · rw [if_pos h2]; omega
    · rw [if_neg h2]; omega
theorem nb_0 : narrow .boolean (.int (iI 0)) = .int (iI 0) := by decide +kernel
theorem nb_1 : narrow .boolean (.int (iI 1)) = .int (iI 1) := by decide +kernel
theorem nb_p {x : Int} (h : x = 0 ∨ x = 1) : narrow .boolean (.int (iI x)) = .int (iI x) := by
  rcases h with h | h
  · rw [h]; exact nb_0
  · rw [h]; exact nb_1
