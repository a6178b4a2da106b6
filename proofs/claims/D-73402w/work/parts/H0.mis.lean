/-! TEXTS of the library: where two rows of bytes differ first -/
theorem i64_bv {x : Int64} {n : Nat} (h : x.toBitVec.toNat = n) (hn : n < 9223372036854775808) : x.toInt = n := by
  show x.toBitVec.toInt = n
  rw [BitVec.toInt_eq_toNat_of_lt (by omega), h]
theorem i64_nat (a : Nat) : (Int64.ofInt (a : Int)).toBitVec = BitVec.ofNat 64 a := rfl
theorem lxor_eq {a b : Nat} (ha : a < 9223372036854775808) (hb : b < 9223372036854775808) : lxor a b = ((a ^^^ b : Nat) : Int) := by
  unfold lxor
  refine i64_bv ?_ (show a ^^^ b < 2 ^ 63 from Nat.xor_lt_two_pow ha hb)
  rw [Int64.toBitVec_xor, BitVec.toNat_xor, i64_nat, i64_nat, BitVec.toNat_ofNat, BitVec.toNat_ofNat, Nat.mod_eq_of_lt (by omega), Nat.mod_eq_of_lt (by omega)]
theorem ixor_eq {a b : Nat} (ha : a < 2147483648) (hb : b < 2147483648) : ixor a b = ((a ^^^ b : Nat) : Int) := by
  unfold ixor
  refine i32_bv ?_ (show a ^^^ b < 2 ^ 31 from Nat.xor_lt_two_pow ha hb)
  rw [Int32.toBitVec_xor, BitVec.toNat_xor, i32_nat, i32_nat, BitVec.toNat_ofNat, BitVec.toNat_ofNat, Nat.mod_eq_of_lt (by omega), Nat.mod_eq_of_lt (by omega)]
theorem l2i_low {X : Nat} (hX : X < 9223372036854775808) (h : X % 4294967296 < 2147483648) : l2i (X : Int) = ((X % 4294967296 : Nat) : Int) := by
  unfold l2i
  rw [Int64.toInt_toInt32, i64_ofInt ⟨by omega, by omega⟩]
  have e32 : (2 : Nat) ^ 32 = 4294967296 := rfl
  rw [e32]
  unfold Int.bmod
  have h1 : ((X : Nat) : Int) % ((4294967296 : Nat) : Int) = ((X % 4294967296 : Nat) : Int) := by omega
  rw [h1]
  exact if_pos (by omega)
theorem lushr_eq {X : Nat} (hX : X < 9223372036854775808) : lushr (X : Int) 32 = ((X / 4294967296 : Nat) : Int) := by
  unfold lushr
  have hsh : ((Int32.ofInt 32).toInt64.toUInt64 &&& Int64.toUInt64 63) = 32 := by decide
  rw [hsh]
  refine i64_bv ?_ (by omega)
  show ((Int64.ofInt (X : Int)).toUInt64 >>> (32 : UInt64)).toNat = _
  rw [UInt64.toNat_shiftRight]
  have h1 : (Int64.ofInt (X : Int)).toUInt64.toNat = X := by
    show (Int64.ofInt (X : Int)).toBitVec.toNat = X
    rw [i64_nat, BitVec.toNat_ofNat, Nat.mod_eq_of_lt (by omega)]
  rw [h1, show (32 : UInt64).toNat % 64 = 32 from rfl, Nat.shiftRight_eq_div_pow]
theorem two_odd : ∀ {a : Nat}, a ≠ 0 → ∃ i q, a = 2 ^ i * (2 * q + 1) := by
  intro a
  induction a using Nat.strongRecOn with
  | ind a ih =>
    intro ha
    by_cases c : a % 2 = 1
    · exact ⟨0, a / 2, by omega⟩
    · obtain ⟨i, q, h⟩ := ih (a / 2) (by omega) (by omega)
      exact ⟨i + 1, q, by rw [Nat.pow_succ, Nat.mul_right_comm, ← h]; omega⟩
/-- the bits below the least one -/
theorem low_bits {k m : Nat} (h : 2 ^ k * (2 * m + 1) < 2147483648) : iand (ixor ((2 ^ k * (2 * m + 1) : Nat) : Int) (-1)) (isub ((2 ^ k * (2 * m + 1) : Nat) : Int) 1) = ((2 ^ k - 1 : Nat) : Int) := by
  have hp := Nat.two_pow_pos k
  have h1 : 2 ^ k ≤ 2 ^ k * (2 * m + 1) := Nat.le_mul_of_pos_right _ (by omega)
  have e : 2 ^ k * (2 * m + 1) - 1 = 2 ^ k * (2 * m) + (2 ^ k - 1) := by
    rw [Nat.mul_add, Nat.mul_one]; omega
  obtain ⟨u, hu⟩ : ∃ u, u = 2 ^ k * (2 * m + 1) := ⟨_, rfl⟩
  rw [← hu] at h h1 e ⊢
  rw [isub_eq (by omega), show ((u : Nat) : Int) - 1 = ((u - 1 : Nat) : Int) by omega]
  unfold iand ixor
  have e0 : Int32.ofInt ((Int32.ofInt (u : Int) ^^^ Int32.ofInt (-1)).toInt) = Int32.ofInt (u : Int) ^^^ Int32.ofInt (-1) := Int32.ofInt_toInt _
  rw [e0]
  refine i32_bv ?_ (by omega)
  have e2 : ((Int32.ofInt (u : Int) ^^^ Int32.ofInt (-1)) &&& Int32.ofInt ((u - 1 : Nat) : Int)).toBitVec = BitVec.ofNat 32 (2 ^ k - 1) := by
    apply BitVec.eq_of_getLsbD_eq
    intro i hi
    have h2 : (Int32.ofInt (-1)).toBitVec = BitVec.allOnes 32 := by decide
    rw [Int32.toBitVec_and, Int32.toBitVec_xor, BitVec.getLsbD_and, BitVec.getLsbD_xor, i32_nat, i32_nat, h2, BitVec.getLsbD_allOnes, BitVec.getLsbD_ofNat, BitVec.getLsbD_ofNat, BitVec.getLsbD_ofNat, decide_eq_true hi, e, hu, Nat.testBit_two_pow_mul, Nat.testBit_two_pow_mul_add _ (by omega), Nat.testBit_two_pow_sub_one]
    by_cases c : i < k
    · rw [decide_eq_false (show ¬ k ≤ i by omega), if_pos c, decide_eq_true c]; rfl
    · rw [decide_eq_true (show k ≤ i by omega), if_neg c, decide_eq_false c]
      by_cases c2 : i - k = 0
      · rw [c2]; simp [Nat.testBit_zero]
      · obtain ⟨j, hj⟩ : ∃ j, i - k = j + 1 := ⟨i - k - 1, by omega⟩
        rw [hj, Nat.testBit_succ, Nat.testBit_succ, show (2 * m + 1) / 2 = m by omega, show 2 * m / 2 = m by omega]
        cases m.testBit j <;> rfl
  rw [e2, BitVec.toNat_ofNat, Nat.mod_eq_of_lt (by omega)]
/-- the program's count of the zeros below -/
def ntS (c : Int) (s : Int) (p : Int × Int) : Int × Int := if c < p.1 then (iushr p.1 s, iadd p.2 s) else p
def ntV (x : Int) : Int := let p := ntS 4 2 (ntS 16 4 (ntS 256 8 (ntS 65536 16 (x, 1)))); iadd p.2 (iushr p.1 1)
theorem ntV_pow : ∀ k, k < 31 → 1 ≤ k → ntV ((2 ^ k - 1 : Nat) : Int) = ((k : Nat) : Int) := by decide +kernel
section NTZ
variable {d : Nat} {h : AH}
theorem ntz32_spec {k m : Nat} (hx : 2 ^ k * (2 * m + 1) < 2147483648) : wp (d + 1) 11 (0, ent 2 [vI ((2 ^ k * (2 * m + 1) : Nat) : Int)], [], h) (gives h ((k : Nat) : Int)) := by
  have hp := Nat.two_pow_pos k
  have h1 : 2 ^ k ≤ 2 ^ k * (2 * m + 1) := Nat.le_mul_of_pos_right _ (by omega)
  have hk : k < 31 := (Nat.pow_lt_pow_iff_right (by decide : 1 < 2)).mp (Nat.lt_of_le_of_lt h1 hx)
  have a74 : ∀ p : Int × Int, iadd p.2 (iushr p.1 1) = ((k : Nat) : Int) → wp (d + 1) 11 (74, [some (vI p.1), some (vI p.2)], [], h) (gives h ((k : Nat) : Int)) := by
    intro p hp
    rw [← hp]
    refine wp.go [] 20 fun W C hW hC => ?_
    exact ⟨rfl, rfl⟩
  have a62 : ∀ p : Int × Int, iadd (ntS 4 2 p).2 (iushr (ntS 4 2 p).1 1) = ((k : Nat) : Int) → wp (d + 1) 11 (62, [some (vI p.1), some (vI p.2)], [], h) (gives h ((k : Nat) : Int)) := by
    intro p hp
    refine wp.go [74] 20 fun W C hW hC => ?_
    refine ⟨fun c => ?_, fun c => ?_⟩
    · rw [show ntS 4 2 p = p from if_neg (by omega)] at hp
      exact hW _ (a74 p hp)
    · rw [show ntS 4 2 p = (iushr p.1 2, iadd p.2 2) from if_pos c] at hp
      exact hW _ (a74 (iushr p.1 2, iadd p.2 2) hp)
  have a49 : ∀ p : Int × Int, iadd (ntS 4 2 (ntS 16 4 p)).2 (iushr (ntS 4 2 (ntS 16 4 p)).1 1) = ((k : Nat) : Int) → wp (d + 1) 11 (49, [some (vI p.1), some (vI p.2)], [], h) (gives h ((k : Nat) : Int)) := by
    intro p hp
    refine wp.go [62] 20 fun W C hW hC => ?_
    refine ⟨fun c => ?_, fun c => ?_⟩
    · rw [show ntS 16 4 p = p from if_neg (by omega)] at hp
      exact hW _ (a62 p hp)
    · rw [show ntS 16 4 p = (iushr p.1 4, iadd p.2 4) from if_pos c] at hp
      exact hW _ (a62 (iushr p.1 4, iadd p.2 4) hp)
  have a34 : ∀ p : Int × Int, iadd (ntS 4 2 (ntS 16 4 (ntS 256 8 p))).2 (iushr (ntS 4 2 (ntS 16 4 (ntS 256 8 p))).1 1) = ((k : Nat) : Int) → wp (d + 1) 11 (34, [some (vI p.1), some (vI p.2)], [], h) (gives h ((k : Nat) : Int)) := by
    intro p hp
    refine wp.go [49] 20 fun W C hW hC => ?_
    refine ⟨fun c => ?_, fun c => ?_⟩
    · rw [show ntS 256 8 p = p from if_neg (by omega)] at hp
      exact hW _ (a49 p hp)
    · rw [show ntS 256 8 p = (iushr p.1 8, iadd p.2 8) from if_pos c] at hp
      exact hW _ (a49 (iushr p.1 8, iadd p.2 8) hp)
  have a17 : ∀ x : Int, ntV x = ((k : Nat) : Int) → wp (d + 1) 11 (17, [some (vI x), none], [], h) (gives h ((k : Nat) : Int)) := by
    intro x hx
    have hx : iadd (ntS 4 2 (ntS 16 4 (ntS 256 8 (ntS 65536 16 (x, 1))))).2 (iushr (ntS 4 2 (ntS 16 4 (ntS 256 8 (ntS 65536 16 (x, 1))))).1 1) = ((k : Nat) : Int) := hx
    refine wp.go [34] 20 fun W C hW hC => ?_
    refine ⟨fun c => ?_, fun c => ?_⟩
    · rw [show ntS 65536 16 (x, 1) = (x, 1) from if_neg (show ¬ (65536 < x) by omega)] at hx
      exact hW _ (a34 (x, 1) hx)
    · rw [show ntS 65536 16 (x, 1) = (iushr x 16, iadd 1 16) from if_pos c] at hx
      exact hW _ (a34 (iushr x 16, iadd 1 16) hx)
  refine wp.go [17] 30 fun W C hW hC => ?_
  conv => whnf
  rw [low_bits hx]
  refine ⟨fun c => ?_, fun c => ?_⟩
  · refine hW _ (a17 _ (ntV_pow k hk ?_))
    rcases Nat.eq_zero_or_pos k with q | q
    · subst q; exact absurd c (by decide)
    · exact q
  · have hk0 : k = 0 := by
      rcases Nat.eq_zero_or_pos k with q | q
      · exact q
      · have : 2 ^ 1 ≤ 2 ^ k := Nat.pow_le_pow_right (by decide) q
        omega
    subst hk0
    exact ⟨rfl, rfl⟩
theorem ntz64_spec {X : Nat} (hX : X < 9223372036854775808) (h0 : X ≠ 0) (hl : X % 4294967296 < 2147483648) : wp (d + 2) 142 (0, ent 3 [vL ((X : Nat) : Int)], [], h) (fun r h' => h' = h ∧ ∃ k m, r = .inl (some (vI ((k : Nat) : Int))) ∧ X = 2 ^ k * (2 * m + 1)) := by
  refine wp.go [] 40 fun W C hW hC => ?_
  conv => whnf
  rw [l2i_low hX hl]
  refine ⟨fun c => ?_, fun c => ?_⟩
  · obtain ⟨k, m, hk⟩ := two_odd (show X % 4294967296 ≠ 0 by omega)
    have call := ntz32_spec (d := 0) (h := h) (k := k) (m := m) (by omega)
    rw [← hk] at call
    refine hC _ _ _ (useE (wpd.up (by omega) call) ?_)
    have hk31 : k < 31 := by
      have h1 : 2 ^ k ≤ 2 ^ k * (2 * m + 1) := Nat.le_mul_of_pos_right _ (by omega)
      exact (Nat.pow_lt_pow_iff_right (by decide : 1 < 2)).mp (Nat.lt_of_le_of_lt h1 (by omega))
    refine ⟨rfl, k, 2 ^ (31 - k) * (X / 4294967296) + m, rfl, ?_⟩
    have e : (4294967296 : Nat) = 2 ^ k * (2 * 2 ^ (31 - k)) := by
      rw [Nat.mul_left_comm, ← Nat.pow_add, show k + (31 - k) = 31 by omega]
    have e1 := Nat.div_add_mod X 4294967296
    rw [hk] at e1
    obtain ⟨q, hq⟩ : ∃ q, q = X / 4294967296 := ⟨_, rfl⟩
    rw [← hq] at e1 ⊢
    rw [← e1, e, Nat.mul_assoc (2 ^ k), ← Nat.mul_add]
    congr 1
    rw [Nat.mul_add 2, Nat.mul_assoc 2]
    omega
  · conv => whnf
    rw [lushr_eq hX]
    conv => whnf
    rw [l2i_low (X := X / 4294967296) (by omega) (by omega), Nat.mod_eq_of_lt (show X / 4294967296 < 4294967296 by omega)]
    obtain ⟨k, m, hk⟩ := two_odd (show X / 4294967296 ≠ 0 by omega)
    have call := ntz32_spec (d := 0) (h := h) (k := k) (m := m) (by omega)
    rw [← hk] at call
    refine hC _ _ _ (useE (wpd.up (by omega) call) ?_)
    have hk31 : k < 31 := by
      have h1 : 2 ^ k ≤ 2 ^ k * (2 * m + 1) := Nat.le_mul_of_pos_right _ (by omega)
      exact (Nat.pow_lt_pow_iff_right (by decide : 1 < 2)).mp (Nat.lt_of_le_of_lt h1 (by omega))
    conv => whnf
    rw [iadd_eq (by omega)]
    refine ⟨rfl, 32 + k, m, by congr 3, ?_⟩
    rw [Nat.pow_add, Nat.mul_assoc, ← hk]
    omega
end NTZ
theorem xor_z {a b : Nat} (h : a ^^^ b = 0) : a = b := by
  apply Nat.eq_of_testBit_eq
  intro i
  have h1 : (a ^^^ b).testBit i = false := by rw [h]; exact Nat.zero_testBit i
  rw [Nat.testBit_xor] at h1
  revert h1
  cases a.testBit i <;> cases b.testBit i <;> simp
/-- bytes as a number, the first the least -/
def lebN : List Int → Nat
  | [] => 0
  | b :: r => b.toNat + 256 * lebN r
theorem leb_N : ∀ {l : List Int}, okX l → leb l = ((lebN l : Nat) : Int)
  | [], _ => rfl
  | b :: r, h => by
    have h1 := h b List.mem_cons_self
    show b % 256 + 256 * leb r = ((b.toNat + 256 * lebN r : Nat) : Int)
    rw [leb_N fun x hx => h x (List.mem_cons_of_mem _ hx)]
    omega
theorem lebN_lt : ∀ {l : List Int}, okX l → lebN l < 256 ^ l.length
  | [], _ => Nat.one_pos
  | b :: r, h => by
    have h1 := h b List.mem_cons_self
    have h2 := lebN_lt fun x hx => h x (List.mem_cons_of_mem _ hx)
    show b.toNat + 256 * lebN r < 256 ^ (r.length + 1)
    rw [Nat.pow_succ]
    omega
theorem pow8 {k m : Nat} : 2 ^ k * (2 * m + 1) % 256 = 0 ↔ 8 ≤ k := by
  constructor
  · intro h
    refine Classical.byContradiction fun hk => ?_
    have hk : k < 8 := by omega
    match k, hk with
    | 0, _ => omega
    | 1, _ => omega
    | 2, _ => omega
    | 3, _ => omega
    | 4, _ => omega
    | 5, _ => omega
    | 6, _ => omega
    | 7, _ => omega
  · intro h
    obtain ⟨j, rfl⟩ : ∃ j, k = 8 + j := ⟨k - 8, by omega⟩
    rw [Nat.pow_add, Nat.mul_assoc]
    exact Nat.mul_mod_right _ _
/-- the place where they differ first, by the least bit of their difference -/
theorem leb_first : ∀ {p q : List Int} {k m : Nat}, okX p → okX q → p.length = q.length → lebN p ^^^ lebN q = 2 ^ k * (2 * m + 1) → k / 8 < p.length ∧ (∀ j, j < k / 8 → p[j]? = q[j]?) ∧ p[k / 8]? ≠ q[k / 8]?
  | [], [], k, m, _, _, _, h => by
    have : 0 = 2 ^ k * (2 * m + 1) := h
    have h1 : 0 < 2 ^ k * (2 * m + 1) := Nat.mul_pos (Nat.two_pow_pos k) (by omega)
    omega
  | [], _ :: _, _, _, _, _, hl, _ => by simp at hl
  | _ :: _, [], _, _, _, _, hl, _ => by simp at hl
  | a :: p, b :: q, k, m, hp, hq, hl, h => by
    have ha := hp a List.mem_cons_self
    have hb := hq b List.mem_cons_self
    have h : (a.toNat + 256 * lebN p) ^^^ (b.toNat + 256 * lebN q) = 2 ^ k * (2 * m + 1) := h
    have hm : ((a.toNat + 256 * lebN p) ^^^ (b.toNat + 256 * lebN q)) % 2 ^ 8 = 2 ^ k * (2 * m + 1) % 2 ^ 8 := congrArg (· % 2 ^ 8) h
    have hd : ((a.toNat + 256 * lebN p) ^^^ (b.toNat + 256 * lebN q)) / 2 ^ 8 = 2 ^ k * (2 * m + 1) / 2 ^ 8 := congrArg (· / 2 ^ 8) h
    rw [Nat.xor_mod_two_pow, show (a.toNat + 256 * lebN p) % 2 ^ 8 = a.toNat by omega, show (b.toNat + 256 * lebN q) % 2 ^ 8 = b.toNat by omega] at hm
    rw [Nat.xor_div_two_pow, show (a.toNat + 256 * lebN p) / 2 ^ 8 = lebN p by omega, show (b.toNat + 256 * lebN q) / 2 ^ 8 = lebN q by omega] at hd
    by_cases e : a = b
    · subst e
      rw [Nat.xor_self] at hm
      have hk : 8 ≤ k := pow8.mp hm.symm
      obtain ⟨j, rfl⟩ : ∃ j, k = j + 8 := ⟨k - 8, by omega⟩
      rw [Nat.pow_add, Nat.mul_right_comm, Nat.mul_div_cancel _ (by decide)] at hd
      obtain ⟨i1, i2, i3⟩ := leb_first (fun x hx => hp x (List.mem_cons_of_mem _ hx)) (fun x hx => hq x (List.mem_cons_of_mem _ hx)) (by simpa using hl) hd
      rw [show (j + 8) / 8 = j / 8 + 1 by omega]
      refine ⟨by rw [List.length_cons]; omega, fun i hi => ?_, by rw [List.getElem?_cons_succ, List.getElem?_cons_succ]; exact i3⟩
      cases i with
      | zero => rfl
      | succ i => rw [List.getElem?_cons_succ, List.getElem?_cons_succ]; exact i2 i (by omega)
    · have hk : k < 8 := by
        refine Classical.byContradiction fun w => ?_
        have := (pow8 (k := k) (m := m)).mpr (by omega)
        rw [show (256 : Nat) = 2 ^ 8 from rfl, ← hm] at this
        have := xor_z this
        omega
      rw [show k / 8 = 0 by omega]
      refine ⟨by rw [List.length_cons]; omega, fun j hj => by omega, fun w => e ?_⟩
      exact Option.some.inj w
