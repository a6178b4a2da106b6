/-! BITS OF SMALL NUMBERS: the machine's bit words are those of the naturals -/
theorem i32_nat (a : Nat) : (Int32.ofInt (a : Int)).toBitVec = BitVec.ofNat 32 a := rfl
theorem i32_bv {x : Int32} {n : Nat} (h : x.toBitVec.toNat = n) (hn : n < 2147483648) : x.toInt = n := by
  show x.toBitVec.toInt = n
  rw [BitVec.toInt_eq_toNat_of_lt (by omega), h]
theorem iand_eq {a b : Nat} (ha : a < 2147483648) (hb : b < 2147483648) : iand a b = ((a &&& b : Nat) : Int) := by
  unfold iand
  refine i32_bv ?_ (Nat.lt_of_le_of_lt Nat.and_le_left ha)
  rw [Int32.toBitVec_and, BitVec.toNat_and, i32_nat, i32_nat, BitVec.toNat_ofNat, BitVec.toNat_ofNat, Nat.mod_eq_of_lt (by omega), Nat.mod_eq_of_lt (by omega)]
theorem ior_eq {a b : Nat} (ha : a < 2147483648) (hb : b < 2147483648) : ior a b = ((a ||| b : Nat) : Int) := by
  unfold ior
  refine i32_bv ?_ (show a ||| b < 2 ^ 31 from Nat.or_lt_two_pow ha hb)
  rw [Int32.toBitVec_or, BitVec.toNat_or, i32_nat, i32_nat, BitVec.toNat_ofNat, BitVec.toNat_ofNat, Nat.mod_eq_of_lt (by omega), Nat.mod_eq_of_lt (by omega)]
theorem bv_sh {k : Nat} (hk : k < 32) : ((Int32.ofInt (k : Int) &&& 31).toBitVec.smod 32).toNat = k := by
  have : ∀ k : Fin 32, ((Int32.ofInt ((k.val : Nat) : Int) &&& 31).toBitVec.smod 32).toNat = k.val := by decide
  exact this ⟨k, hk⟩
theorem ishl_eq {a k : Nat} (hk : k < 32) (h : a * 2 ^ k < 2147483648) : ishl a k = ((a * 2 ^ k : Nat) : Int) := by
  unfold ishl
  refine i32_bv ?_ h
  have ha : a ≤ a * 2 ^ k := Nat.le_mul_of_pos_right _ (Nat.two_pow_pos k)
  rw [Int32.toBitVec_shiftLeft, BitVec.shiftLeft_eq', BitVec.toNat_shiftLeft, bv_sh hk, i32_nat, BitVec.toNat_ofNat, Nat.mod_eq_of_lt (show a < 2 ^ 32 by omega), Nat.shiftLeft_eq, Nat.mod_eq_of_lt (by omega)]
theorem ishr_eq {a k : Nat} (hk : k < 32) (h : a < 2147483648) : ishr a k = ((a / 2 ^ k : Nat) : Int) := by
  unfold ishr
  refine i32_bv ?_ (Nat.lt_of_le_of_lt (Nat.div_le_self _ _) h)
  have hm : (Int32.ofInt (a : Int)).toBitVec.msb = false := by
    rw [BitVec.msb_eq_decide, i32_nat, BitVec.toNat_ofNat, Nat.mod_eq_of_lt (by omega)]
    exact decide_eq_false (by omega)
  rw [Int32.toBitVec_shiftRight, BitVec.sshiftRight', BitVec.toNat_sshiftRight, hm, if_neg (by decide), bv_sh hk, i32_nat, BitVec.toNat_ofNat, Nat.mod_eq_of_lt (by omega), Nat.shiftRight_eq_div_pow]
/-- bits of one number that another one does not have -/
theorem iandn_eq {a b : Nat} (ha : a < 2147483648) (hb : b < 2147483648) : iand a (ixor b (-1)) = ((a ^^^ (a &&& b) : Nat) : Int) := by
  unfold iand ixor
  have hab : a &&& b < 2 ^ 31 := Nat.lt_of_le_of_lt Nat.and_le_left ha
  refine i32_bv ?_ (show a ^^^ (a &&& b) < 2 ^ 31 from Nat.xor_lt_two_pow ha hab)
  have e : Int32.ofInt ((Int32.ofInt (b : Int) ^^^ Int32.ofInt (-1)).toInt) = Int32.ofInt (b : Int) ^^^ Int32.ofInt (-1) := Int32.ofInt_toInt _
  rw [e]
  have e2 : (Int32.ofInt (a : Int) &&& (Int32.ofInt (b : Int) ^^^ Int32.ofInt (-1))).toBitVec = BitVec.ofNat 32 (a ^^^ (a &&& b)) := by
    apply BitVec.eq_of_getLsbD_eq
    intro i hi
    rw [Int32.toBitVec_and, Int32.toBitVec_xor, BitVec.getLsbD_and, BitVec.getLsbD_xor, i32_nat, i32_nat]
    have h1 : (Int32.ofInt (-1)).toBitVec = BitVec.allOnes 32 := by decide
    rw [h1, BitVec.getLsbD_allOnes, BitVec.getLsbD_ofNat, BitVec.getLsbD_ofNat, BitVec.getLsbD_ofNat, Nat.testBit_xor, Nat.testBit_and, decide_eq_true hi]
    cases Nat.testBit a i <;> cases Nat.testBit b i <;> rfl
  rw [e2, BitVec.toNat_ofNat, Nat.mod_eq_of_lt (Nat.lt_of_lt_of_le (Nat.xor_lt_two_pow ha hab) (by decide))]
/-- a number's k-th bit, as the program asks for it -/
theorem ibit_eq {a k : Nat} (hk : k < 32) (ha : a < 2147483648) : iand (ishr a k) 1 = if a.testBit k then 1 else 0 := by
  rw [ishr_eq hk ha]
  have h1 : a / 2 ^ k < 2147483648 := Nat.lt_of_le_of_lt (Nat.div_le_self _ _) ha
  rw [show (1 : Int) = ((1 : Nat) : Int) from rfl, iand_eq h1 (by decide), Nat.and_one_is_mod]
  have := Nat.testBit_eq_decide_div_mod_eq (x := a) (i := k)
  rw [this]
  by_cases c : a / 2 ^ k % 2 = 1
  · simp [c]
  · have c2 : a / 2 ^ k % 2 = 0 := by omega
    simp [c2]
/-- how many bits below a place -/
def bcnt (a : Nat) : Nat → Nat
  | 0 => 0
  | k + 1 => bcnt a k + cond (a.testBit k) 1 0
theorem bcnt_le (a : Nat) : ∀ k, bcnt a k ≤ k
  | 0 => Nat.le_refl _
  | k + 1 => by
    have := bcnt_le a k
    unfold bcnt
    cases a.testBit k <;> simp <;> omega
theorem bcnt_zero : ∀ k, bcnt 0 k = 0
  | 0 => rfl
  | k + 1 => by unfold bcnt; rw [bcnt_zero k, Nat.zero_testBit]; rfl
theorem bcnt_congr {a b : Nat} : ∀ {k}, (∀ i, i < k → a.testBit i = b.testBit i) → bcnt a k = bcnt b k
  | 0, _ => rfl
  | k + 1, h => by unfold bcnt; rw [bcnt_congr (fun i hi => h i (by omega)), h k (by omega)]
/-- the least bit goes: there is one less -/
theorem bcnt_low {a : Nat} (ha : a ≠ 0) : ∀ k, a < 2 ^ k → bcnt a k = bcnt (a &&& (a - 1)) k + 1 := by
  -- a = 2^i * (2 q + 1)
  obtain ⟨i, q, rfl⟩ : ∃ i q, a = 2 ^ i * (2 * q + 1) := by
    induction a using Nat.strongRecOn with
    | ind a ih =>
      by_cases c : a % 2 = 1
      · exact ⟨0, a / 2, by omega⟩
      · obtain ⟨i, q, h⟩ := ih (a / 2) (by omega) (by omega)
        exact ⟨i + 1, q, by rw [Nat.pow_succ, Nat.mul_right_comm, ← h]; omega⟩
  have hp := Nat.two_pow_pos i
  have e : 2 ^ i * (2 * q + 1) - 1 = 2 ^ i * (2 * q) + (2 ^ i - 1) := by
    rw [Nat.mul_add, Nat.mul_one]; omega
  have hb : ∀ j, (2 ^ i * (2 * q + 1) &&& (2 ^ i * (2 * q + 1) - 1)).testBit j = (decide (i ≤ j) && (2 * q).testBit (j - i)) := by
    intro j
    rw [Nat.testBit_and, e, Nat.testBit_two_pow_mul, Nat.testBit_two_pow_mul_add _ (by omega)]
    by_cases c : j < i
    · rw [decide_eq_false (by omega)]; rfl
    · rw [decide_eq_true (by omega), if_neg c, Bool.true_and, Bool.true_and]
      by_cases c2 : j - i = 0
      · rw [c2]; simp [Nat.testBit_zero]
      · obtain ⟨m, hm⟩ : ∃ m, j - i = m + 1 := ⟨j - i - 1, by omega⟩
        rw [hm, Nat.testBit_succ, Nat.testBit_succ, show (2 * q + 1) / 2 = q by omega, show 2 * q / 2 = q by omega, Bool.and_self]
  have ha2 : ∀ j, (2 ^ i * (2 * q + 1)).testBit j = (decide (i ≤ j) && (2 * q + 1).testBit (j - i)) := fun j => Nat.testBit_two_pow_mul
  have hs : ∀ j, j ≠ i → (2 ^ i * (2 * q + 1)).testBit j = (2 ^ i * (2 * q + 1) &&& (2 ^ i * (2 * q + 1) - 1)).testBit j := by
    intro j hj
    rw [hb, ha2]
    by_cases c : j < i
    · rw [decide_eq_false (by omega)]; rfl
    · obtain ⟨m, hm⟩ : ∃ m, j - i = m + 1 := ⟨j - i - 1, by omega⟩
      rw [hm, Nat.testBit_succ, Nat.testBit_succ, show (2 * q + 1) / 2 = q by omega, show 2 * q / 2 = q by omega]
  have hi1 : (2 ^ i * (2 * q + 1)).testBit i = true := by rw [ha2, Nat.sub_self]; simp [Nat.testBit_zero]
  have hi2 : (2 ^ i * (2 * q + 1) &&& (2 ^ i * (2 * q + 1) - 1)).testBit i = false := by rw [hb, Nat.sub_self]; simp [Nat.testBit_zero]
  have key : ∀ k, bcnt (2 ^ i * (2 * q + 1)) k = bcnt (2 ^ i * (2 * q + 1) &&& (2 ^ i * (2 * q + 1) - 1)) k + (if i < k then 1 else 0) := by
    intro k
    induction k with
    | zero => simp [bcnt]
    | succ k ih =>
      unfold bcnt
      rw [ih]
      by_cases c : k = i
      · subst c; rw [hi1, hi2]; simp
      · rw [hs k c]
        have : (i < k ↔ i < k + 1) := by omega
        simp only [this]
        omega
  intro k hk
  rw [key, if_pos]
  have h1 : 2 ^ i ≤ 2 ^ i * (2 * q + 1) := Nat.le_mul_of_pos_right _ (by omega)
  exact (Nat.pow_lt_pow_iff_right (by decide : 1 < 2)).mp (Nat.lt_of_le_of_lt h1 hk)
