/-! ===== sets as ints ===== -/
theorem b_and (a b : Nat) : nI a &&& nI b = nI (a &&& b) := by
  rw [← Int32.toBitVec_inj]
  show BitVec.ofNat 32 a &&& BitVec.ofNat 32 b = BitVec.ofNat 32 (a &&& b)
  rw [BitVec.ofNat_and]
theorem b_or (a b : Nat) : nI a ||| nI b = nI (a ||| b) := by
  rw [← Int32.toBitVec_inj]
  show BitVec.ofNat 32 a ||| BitVec.ofNat 32 b = BitVec.ofNat 32 (a ||| b)
  rw [BitVec.ofNat_or]
theorem b_shl : ∀ i, i ≤ 14 → (1 : Int32) <<< (nI i &&& 31) = nI (2 ^ i) := by decide +kernel
theorem b_sh31 {i : Nat} (h : i < 32) : nI i &&& 31 = nI i := by
  rw [show (31 : Int32) = nI 31 from rfl, b_and]
  have : i &&& 31 = i := by
    have := Nat.and_two_pow_sub_one_eq_mod i 5
    rw [show (2 ^ 5 - 1 : Nat) = 31 from rfl] at this
    rw [this]; omega
  rw [this]
theorem b_shr {a i : Nat} (ha : a < 2147483648) (hi : i < 32) : nI a >>> (nI i &&& 31) = nI (a >>> i) := by
  rw [b_sh31 hi, ← Int32.toBitVec_inj, Int32.toBitVec_shiftRight]
  show (BitVec.ofNat 32 a).sshiftRight' ((BitVec.ofNat 32 i).smod 32) = BitVec.ofNat 32 (a >>> i)
  have h1 : (BitVec.ofNat 32 i).smod 32 = BitVec.ofNat 32 i := by
    have : ∀ i, i < 32 → (BitVec.ofNat 32 i).smod 32 = BitVec.ofNat 32 i := by decide +kernel
    exact this i hi
  rw [h1]
  have hm : (BitVec.ofNat 32 a).msb = false := by
    rw [BitVec.msb_eq_false_iff_two_mul_lt, BitVec.toNat_ofNat]; omega
  show (BitVec.ofNat 32 a).sshiftRight (BitVec.ofNat 32 i).toNat = _
  rw [BitVec.sshiftRight_eq_of_msb_false hm]
  apply BitVec.eq_of_toNat_eq
  rw [BitVec.toNat_ushiftRight, BitVec.toNat_ofNat, BitVec.toNat_ofNat, BitVec.toNat_ofNat, Nat.mod_eq_of_lt (by omega), Nat.mod_eq_of_lt (by omega)]
  rw [Nat.mod_eq_of_lt]
  rw [Nat.shiftRight_eq_div_pow]
  exact Nat.lt_of_le_of_lt (Nat.div_le_self _ _) (by omega)
theorem b_tst {a i : Nat} (ha : a < 2147483648) (hi : i < 32) : (nI a >>> (nI i &&& 31)) &&& 1 = if a.testBit i = true then 1 else 0 := by
  rw [b_shr ha hi, show (1 : Int32) = nI 1 from rfl, b_and, Nat.and_one_is_mod]
  have h := Nat.testBit_eq_decide_div_mod_eq (x := a) (i := i)
  rw [h, Nat.shiftRight_eq_div_pow]
  have : a / 2 ^ i % 2 = 0 ∨ a / 2 ^ i % 2 = 1 := by omega
  rcases this with h | h <;> rw [h] <;> decide
theorem b_sub {a s : Nat} (ha : a < 2147483648) (hs : s < 2147483648) : nI a &&& (nI s ^^^ (-1)) = 0 ↔ ∀ i, a.testBit i = true → s.testBit i = true := by
  rw [← Int32.toBitVec_inj]
  show BitVec.ofNat 32 a &&& (BitVec.ofNat 32 s ^^^ BitVec.ofInt 32 (-1)) = 0#32 ↔ _
  have hall : ∀ i, i < 32 → (BitVec.ofInt 32 (-1)).getLsbD i = true := by decide
  constructor
  · intro h i hi
    have hi32 : i < 32 := by
      rcases Nat.lt_or_ge i 32 with h | h
      · exact h
      · rw [Nat.testBit_lt_two_pow] at hi
        · simp at hi
        · exact Nat.lt_of_lt_of_le ha (show 2147483648 ≤ 2 ^ i from Nat.pow_le_pow_right (n := 2) (show 2 > 0 by decide) (show 31 ≤ i by omega))
    have h2 := congrArg (fun x => x.getLsbD i) h
    simp only [BitVec.getLsbD_and, BitVec.getLsbD_xor, BitVec.getLsbD_ofNat, hi32, decide_true, Bool.true_and, hi, hall i hi32, BitVec.getLsbD_zero] at h2
    cases hh : s.testBit i
    · rw [hh] at h2; simp at h2
    · rfl
  · intro h
    apply BitVec.eq_of_getLsbD_eq
    intro i hi
    simp only [BitVec.getLsbD_and, BitVec.getLsbD_xor, BitVec.getLsbD_ofNat, hi, decide_true, Bool.true_and, hall i hi, BitVec.getLsbD_zero]
    cases ha : a.testBit i
    · simp
    · rw [h i ha]; simp
def bcN (S : Nat) : Nat → Nat
  | 0 => 0
  | n + 1 => bcN S n + (S.testBit n).toNat
def bc (S : Nat) : Nat := bcN S 14
