/-! bits are counted: up to 16 of them -/
theorem bv_ush {k : Nat} (hk : k < 32) : (((Int32.ofInt (k : Int)).toUInt32 &&& Int32.toUInt32 31).toBitVec % 32).toNat = k := by
  have : ∀ k : Fin 32, (((Int32.ofInt ((k.val : Nat) : Int)).toUInt32 &&& Int32.toUInt32 31).toBitVec % 32).toNat = k.val := by decide
  exact this ⟨k, hk⟩
theorem iushr_eq {a k : Nat} (hk : k < 32) (h : a < 2147483648) : iushr a k = ((a / 2 ^ k : Nat) : Int) := by
  unfold iushr
  refine i32_bv ?_ (Nat.lt_of_le_of_lt (Nat.div_le_self _ _) h)
  rw [UInt32.toBitVec_toInt32, UInt32.toBitVec_shiftRight, BitVec.ushiftRight_eq', BitVec.toNat_ushiftRight]
  have e := bv_ush hk
  have e2 : (Int32.ofInt (a : Int)).toUInt32.toBitVec.toNat = a := by
    rw [Int32.toBitVec_toUInt32, i32_nat, BitVec.toNat_ofNat, Nat.mod_eq_of_lt (by omega)]
  rw [e2, Nat.shiftRight_eq_div_pow]
  exact congrArg (fun k => a / 2 ^ k) e
def bcA (n : Nat) : Nat := n - ((n / 2) &&& 1431655765)
def bcB (n : Nat) : Nat := (n &&& 858993459) + ((n / 4) &&& 858993459)
def bcC (n : Nat) : Nat := (n + n / 16) &&& 252645135
def bcD (n : Nat) : Nat := n + n / 256
def bcE (n : Nat) : Nat := n + n / 65536
def bcG (n : Nat) : Nat := bcE (bcD (bcC (bcB (bcA n)))) &&& 63
def bcT : Nat → Nat → Nat → Bool
  | 0, a, c => Nat.beq (bcG a) c
  | k + 1, a, c => bcT k a c && bcT k (a + 2 ^ k) (c + 1)
theorem bcT_ok : ∀ (k a c : Nat), bcT k a c = true → ∀ b, b < 2 ^ k → bcG (a + b) = c + bcnt b k
  | 0, a, c, h, b, hb => by
    obtain rfl : b = 0 := by omega
    exact Nat.eq_of_beq_eq_true h
  | k + 1, a, c, h, b, hb => by
    have h : (bcT k a c && bcT k (a + 2 ^ k) (c + 1)) = true := h
    rw [Bool.and_eq_true] at h
    show _ = c + (bcnt b k + cond (b.testBit k) 1 0)
    by_cases q : b < 2 ^ k
    · rw [Nat.testBit_lt_two_pow q, bcT_ok k a c h.1 b q]
      rfl
    · obtain ⟨e, rfl⟩ : ∃ e, b = 2 ^ k + e := ⟨b - 2 ^ k, by omega⟩
      have he : e < 2 ^ k := by rw [Nat.pow_succ] at hb; omega
      have h2 := bcT_ok k (a + 2 ^ k) (c + 1) h.2 e he
      rw [← Nat.add_assoc, h2, Nat.testBit_two_pow_add_eq, Nat.testBit_lt_two_pow he, bcnt_congr (b := e) fun i hi => Nat.testBit_two_pow_add_gt hi e]
      show c + 1 + bcnt e k = c + (bcnt e k + 1)
      omega
theorem bcT_all : bcT 16 0 0 = true := by decide +kernel
theorem bcG_eq {n : Nat} (hn : n < 65536) : bcG n = bcnt n 16 := by
  have := bcT_ok 16 0 0 bcT_all n hn
  rw [Nat.zero_add, Nat.zero_add] at this
  exact this
section BITC
variable {d : Nat} {h : AH}
theorem bitCount_spec {n : Nat} (hn : n < 65536) : wp (d + 1) 12 (0, ent 1 [vI ((n : Nat) : Int)], [], h) (gives h ((bcnt n 16 : Nat) : Int)) := by
  have s5 : ∀ m : Nat, m < 2147483648 → wp (d + 1) 12 (48, [some (vI ((m : Nat) : Int))], [], h) (gives h ((m &&& 63 : Nat) : Int)) := by
    intro m hm
    have e : iand (m : Int) 63 = ((m &&& 63 : Nat) : Int) := iand_eq (b := 63) hm (by decide)
    refine wp.go [] 10 fun W C hW hC => ?_
    exact ⟨by rw [e], rfl⟩
  have s4 : ∀ m : Nat, m < 1000000000 → wp (d + 1) 12 (41, [some (vI ((m : Nat) : Int))], [], h) (gives h ((bcE m &&& 63 : Nat) : Int)) := by
    intro m hm
    have e : iushr (m : Int) 16 = ((m / 65536 : Nat) : Int) := iushr_eq (k := 16) (by decide) (by omega)
    refine wp.go [48] 10 fun W C hW hC => ?_
    conv => whnf
    rw [e, iaddN (by omega)]
    exact hW _ (s5 _ (by omega))
  have s3 : ∀ m : Nat, m < 900000000 → wp (d + 1) 12 (34, [some (vI ((m : Nat) : Int))], [], h) (gives h ((bcE (bcD m) &&& 63 : Nat) : Int)) := by
    intro m hm
    have e : iushr (m : Int) 8 = ((m / 256 : Nat) : Int) := iushr_eq (k := 8) (by decide) (by omega)
    refine wp.go [41] 10 fun W C hW hC => ?_
    conv => whnf
    rw [e, iaddN (by omega)]
    exact hW _ (s4 _ (by omega))
  have s2 : ∀ m : Nat, m < 1000000000 → wp (d + 1) 12 (24, [some (vI ((m : Nat) : Int))], [], h) (gives h ((bcE (bcD (bcC m)) &&& 63 : Nat) : Int)) := by
    intro m hm
    have e : iushr (m : Int) 4 = ((m / 16 : Nat) : Int) := iushr_eq (k := 4) (by decide) (by omega)
    have e2 : iand ((m + m / 16 : Nat) : Int) 252645135 = ((bcC m : Nat) : Int) := iand_eq (b := 252645135) (by omega) (by decide)
    have e3 : bcC m ≤ 252645135 := Nat.and_le_right
    refine wp.go [34] 12 fun W C hW hC => ?_
    conv => whnf
    rw [e, iaddN (by omega), e2]
    exact hW _ (s3 _ (by omega))
  have s1 : ∀ m : Nat, m < 65536 → wp (d + 1) 12 (10, [some (vI ((m : Nat) : Int))], [], h) (gives h ((bcE (bcD (bcC (bcB m))) &&& 63 : Nat) : Int)) := by
    intro m hm
    have e : iushr (m : Int) 2 = ((m / 4 : Nat) : Int) := iushr_eq (k := 2) (by decide) (by omega)
    have e2 : iand ((m / 4 : Nat) : Int) 858993459 = ((m / 4 &&& 858993459 : Nat) : Int) := iand_eq (b := 858993459) (by omega) (by decide)
    have e3 : iand (m : Int) 858993459 = ((m &&& 858993459 : Nat) : Int) := iand_eq (b := 858993459) (by omega) (by decide)
    have e4 : m / 4 &&& 858993459 ≤ m / 4 := Nat.and_le_left
    have e5 : m &&& 858993459 ≤ m := Nat.and_le_left
    refine wp.go [24] 14 fun W C hW hC => ?_
    conv => whnf
    rw [e, e2, e3, iaddN (by omega)]
    exact hW _ (s2 _ (by omega))
  have e : iushr (n : Int) 1 = ((n / 2 : Nat) : Int) := iushr_eq (k := 1) (by decide) (by omega)
  have e2 : iand ((n / 2 : Nat) : Int) 1431655765 = ((n / 2 &&& 1431655765 : Nat) : Int) := iand_eq (b := 1431655765) (by omega) (by decide)
  have e4 : n / 2 &&& 1431655765 ≤ n / 2 := Nat.and_le_left
  rw [← bcG_eq hn]
  refine wp.go [10] 12 fun W C hW hC => ?_
  conv => whnf
  rw [e, e2, isub_eq (by omega), show ((n : Nat) : Int) - ((n / 2 &&& 1431655765 : Nat) : Int) = ((bcA n : Nat) : Int) by unfold bcA; omega]
  exact hW _ (s1 _ (by unfold bcA; omega))
end BITC
section CISCEN
variable {d : Nat} {h : AH} {s : Nat} {G : Gr} {D : Nat → Nat → Nat}
theorem sizeFrom_spec (hS : SkAt h s G) (hG : G.wf) (hd : ∀ a, deg G a ≤ 4) (hD : Far G D) {a c : Nat} (hac : G.2 a c = true) : wp (d + 17) 233 (0, ent 3 [vR (some s), vI ((c : Nat) : Int), vI ((a : Nat) : Int)], [], h) (gives h ((bsz G D a c : Nat) : Int)) := by
  have hn := hG.2.1
  have hb := bsz_lt hG hD hac
  refine wp.go [] 20 fun W C hW hC => ?_
  refine ⟨_, _, _, hS.2.1, rfl, ?_⟩
  refine hC _ _ _ (use (hanging_spec (d := d) hS hG hd hD 16 a c (by omega) hac) ?_); rintro _ _ ⟨rfl, rfl⟩
  refine hC _ _ _ (use (bitCount_spec (d := d + 15) (bB_lt hn)) ?_); rintro _ _ ⟨rfl, rfl⟩
  refine ⟨?_, rfl⟩
  rw [← bB_size hn, bcnt_more (k := 16) (bB_lt hn) 31 (by decide)]
theorem cisCen_spec (hS : SkAt h s G) (hG : G.wf) (hd : ∀ a, deg G a ≤ 4) (hD : Far G D) {c : Nat} (hc : c < G.1) : wp (d + 18) 232 (0, ent 3 [vR (some s), vI ((c : Nat) : Int)], [], h) (gives h (z01 (isCen G D c))) := by
  obtain ⟨k1, k2, k3, ⟨W, k4, k5, k6⟩, k7⟩ := id hS
  have hn := hG.2.1
  obtain ⟨X, x1, x2, x3⟩ := k7 c (by omega)
  have x3 := x3 hc
  have hdc := hd c
  have loop : ∀ (j k : Nat), j + k = deg G c → (∀ i e, i < k → (nb G c)[i]? = some e → 2 * bsz G D c e ≤ G.1) → wp (d + 18) 232 (2, [some (vR (some s)), some (vI ((c : Nat) : Int)), some (vI ((k : Nat) : Int))], [], h) (gives h (z01 (isCen G D c))) := by
    intro j
    induction j with
    | zero =>
      intro k hj hne
      refine wp.go [2] 30 fun W C hW hC => ?_
      refine ⟨_, _, _, _, k2, rfl, rfl, ?_⟩
      refine ⟨_, _, _, k4, rfl, by omega, gt_at c (by omega) (by omega), ?_⟩
      rw [k6 c hc]
      refine ⟨fun _ => ?_, fun q => absurd q (by omega)⟩
      have : isCen G D c = true := (isCen_iff hG).mpr fun e he => by
        obtain ⟨i, hi⟩ := List.getElem?_of_mem ((nb_mem hG).mpr he)
        have hil := (List.getElem?_eq_some_iff.mp hi).1
        have hil : i < deg G c := hil
        exact hne i e (by omega) hi
      rw [this]
      exact ⟨Or.inr rfl, rfl, rfl⟩
    | succ j ih =>
      intro k hj hne
      have hkl : k < (nb G c).length := by show k < deg G c; omega
      have hget := List.getElem?_eq_getElem hkl
      have hx := x3 k _ hget
      have hce : G.2 c (nb G c)[k] = true := (nb_mem hG).mp (List.getElem_mem hkl)
      generalize (nb G c)[k] = e at hget hx hce
      have hb := bsz_lt hG hD hce
      refine wp.go [2] 40 fun W C hW hC => ?_
      refine ⟨_, _, _, _, k2, rfl, rfl, ?_⟩
      refine ⟨_, _, _, k4, rfl, by omega, gt_at c (by omega) (by omega), ?_⟩
      rw [k6 c hc]
      refine ⟨fun q => absurd q (by omega), fun _ => ?_⟩
      refine ⟨_, _, _, _, k2, rfl, rfl, ?_⟩
      refine ⟨_, _, _, k3, by decide, by omega, by rw [Int.toNat_natCast]; exact row_ref (by omega), ?_⟩
      refine ⟨_, _, _, x1, rfl, by omega, gt_at k (by omega) (by omega), ?_⟩
      rw [hx]
      refine ⟨_, _, _, k2, rfl, ?_⟩
      refine hC _ _ _ (use (sizeFrom_spec (d := d) hS hG hd hD hce) ?_); rintro _ _ ⟨rfl, rfl⟩
      refine ⟨_, _, _, _, k2, rfl, rfl, ?_⟩
      rw [imul_eq (by omega)]
      refine ⟨fun q => ?_, fun q => ?_⟩
      · (conv => whnf); simp (disch := omega) only [iadd_eq, isub_eq, imul_eq]
        refine hW _ (ih (k + 1) (by omega) fun i e' hi hg => ?_)
        by_cases e1 : i = k
        · subst e1
          rw [hget] at hg
          cases hg
          omega
        · exact hne i e' (by omega) hg
      · have : isCen G D c = false := by
          cases w : isCen G D c with
          | false => rfl
          | true => have := (isCen_iff hG).mp w e hce; omega
        rw [this]
        exact ⟨Or.inl rfl, rfl, rfl⟩
  refine wp.go [2] 10 fun W C hW hC => ?_
  exact hW _ (loop (deg G c) 0 rfl fun i e hi => absurd hi (Nat.not_lt_zero i))
end CISCEN
