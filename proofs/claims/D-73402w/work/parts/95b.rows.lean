/-! countsRows: the sums over all orders of four -/
abbrev dis (i : Nat) : Bool := !(Nat.beq (i / 16) (i / 4 % 4)) && !(Nat.beq (i / 4 % 4) (i % 4)) && !(Nat.beq (i / 16) (i % 4))
abbrev lastI (i : Nat) : Nat := 6 - i / 16 - i / 4 % 4 - i % 4
def g9 (F : Nat → Nat) (i : Nat) : Nat := cond (dis i) (r9 F (i / 16) (i / 4 % 4) (i % 4) (lastI i)) 0
def g10 (F : Nat → Nat) (E : Nat → Nat → Bool) (i : Nat) : Nat := cond (dis i) (r10 F E (i / 16) (i / 4 % 4) (i % 4) (lastI i)) 0
def g11 (F : Nat → Nat) (E : Nat → Nat → Bool) (i : Nat) : Nat := cond (dis i) (r11 F E (i / 16) (i / 4 % 4) (i % 4) (lastI i)) 0
def g12 (F O : Nat → Nat) (E : Nat → Nat → Bool) (i : Nat) : Nat := cond (dis i) (r12 F O E (i / 16) (i / 4 % 4) (i % 4) (lastI i)) 0
/-- how many orders are the same row: (product, run) -/
def smR (E : Nat → Nat → Bool) : Nat → Nat × Nat
  | 0 => (1, 1)
  | k + 1 => ((smR E k).1 * cond (E (k + 1) k) ((smR E k).2 + 1) 1, cond (E (k + 1) k) ((smR E k).2 + 1) 1)
theorem smR_le (E : Nat → Nat → Bool) : ∀ k, 1 ≤ (smR E k).1 ∧ (smR E k).1 ≤ (k + 1) ^ k ∧ 1 ≤ (smR E k).2 ∧ (smR E k).2 ≤ k + 1
  | 0 => ⟨Nat.le_refl _, Nat.le_refl _, Nat.le_refl _, Nat.le_refl _⟩
  | k + 1 => by
    obtain ⟨h1, h2, h3, h4⟩ := smR_le E k
    have hn : 1 ≤ cond (E (k + 1) k) ((smR E k).2 + 1) 1 ∧ cond (E (k + 1) k) ((smR E k).2 + 1) 1 ≤ k + 2 := by
      cases E (k + 1) k
      · exact ⟨Nat.le_refl _, by show 1 ≤ k + 2; omega⟩
      · exact ⟨by show 1 ≤ _ + 1; omega, by show _ + 1 ≤ k + 2; omega⟩
    refine ⟨Nat.mul_le_mul h1 hn.1, ?_, hn.1, hn.2⟩
    show (smR E k).1 * _ ≤ (k + 2) ^ (k + 1)
    rw [Nat.pow_succ]
    exact Nat.mul_le_mul (Nat.le_trans h2 (Nat.pow_le_pow_left (by omega) k)) hn.2
/-- bounds by sizes -/
def FourB (F O s : Nat → Nat) : Prop := (∀ k, k < 4 → F k ≤ 2 ^ s k ∧ O k ≤ 2 ^ s k) ∧ s 0 + s 1 + s 2 + s 3 ≤ 15
theorem FourB.sum {F O s : Nat → Nat} (h : FourB F O s) {a b c : Nat} (ha : a < 4) (hb : b < 4) (hc : c < 4) (h1 : a ≠ b) (h2 : b ≠ c) (h3 : a ≠ c) : 6 - a - b - c < 4 ∧ s a + s b + s c + s (6 - a - b - c) ≤ 15 := by
  have := h.2
  obtain rfl | rfl | rfl | rfl : a = 0 ∨ a = 1 ∨ a = 2 ∨ a = 3 := by omega
  all_goals
    obtain rfl | rfl | rfl | rfl : b = 0 ∨ b = 1 ∨ b = 2 ∨ b = 3 := by omega
    all_goals
      obtain rfl | rfl | rfl | rfl : c = 0 ∨ c = 1 ∨ c = 2 ∨ c = 3 := by omega
      all_goals first
        | exact absurd rfl h1
        | exact absurd rfl h2
        | exact absurd rfl h3
        | exact ⟨by decide, by simp only [Nat.reduceSub]; omega⟩
theorem pow15 {n : Nat} (h : n ≤ 15) : 2 ^ n ≤ 65536 := Nat.le_trans (Nat.pow_le_pow_right (by decide) h) (by decide : 2 ^ 15 ≤ 65536)
theorem mul2 {x y a b : Nat} (h1 : x ≤ 2 ^ a) (h2 : y ≤ 2 ^ b) : x * y ≤ 2 ^ (a + b) := by rw [Nat.pow_add]; exact Nat.mul_le_mul h1 h2
section ROWS2
variable {d : Nat} {h0 : AH} {M : Nat} {A : Nat → List Int} {sc : Nat → Int} {fi F O s : Nat → Nat} {E : Nat → Nat → Bool}
theorem sameRows_spec (hA : lens A) (h : FourOk A fi F O E) : wp (d + 1) 377 (0, ent 5 [vR (some M)], [], tw h0 M A sc) (fun r h' => r = .inl (some (vL (((smR E 3).1 : Nat) : Int))) ∧ h' = tw h0 M A sc) := by
  have loop : ∀ (j k : Nat), j + k = 3 → wp (d + 1) 377 (7, [some (vR (some M)), some (vL (((smR E k).1 : Nat) : Int)), none, some (vI (((smR E k).2 : Nat) : Int)), some (vI ((k + 1 : Nat) : Int))], [], tw h0 M A sc) (fun r h' => r = .inl (some (vL (((smR E 3).1 : Nat) : Int))) ∧ h' = tw h0 M A sc) := by
    intro j
    induction j with
    | zero =>
      intro k hj
      obtain rfl : k = 3 := by omega
      refine wp.go [7] 40 fun W C hW hC => ?_
      exact ⟨fun _ => ⟨rfl, rfl⟩, fun c => absurd c (by decide)⟩
    | succ j ih =>
      intro k hj
      have q := ih (k + 1) (by omega)
      obtain ⟨p1, p2, p3, p4⟩ := h.1 (k + 1) (by omega)
      obtain ⟨q1, q2, q3, q4⟩ := h.1 k (by omega)
      have hE := h.2 (k + 1) k (by omega) (by omega)
      obtain ⟨b1, b2, b3, b4⟩ := smR_le E k
      have b5 : (k + 1) ^ k ≤ 3 ^ 2 := Nat.le_trans (Nat.pow_le_pow_left (show k + 1 ≤ 3 by omega) k) (Nat.pow_le_pow_right (by decide) (by omega))
      have e1 : ((k + 1 : Nat) : Int) - 1 = ((k : Nat) : Int) := by omega
      have fin : ∀ (n : Nat) (y : Int), n = cond (E (k + 1) k) ((smR E k).2 + 1) 1 → n ≤ 4 → wp (d + 1) 377 (39, [some (vR (some M)), some (vL (((smR E k).1 : Nat) : Int)), none, some (vI y), some (vI ((k + 1 : Nat) : Int))], [vI ((n : Nat) : Int)], tw h0 M A sc) (fun r h' => r = .inl (some (vL (((smR E 3).1 : Nat) : Int))) ∧ h' = tw h0 M A sc) := by
        rintro n y hn hn4
        have hv : (smR E (k + 1)).1 = (smR E k).1 * n := by rw [hn]; rfl
        have hn2 : (smR E (k + 1)).2 = n := by rw [hn]; rfl
        rw [hv, hn2] at q
        have : (smR E k).1 * n ≤ 9 * 4 := Nat.mul_le_mul (by omega) hn4
        refine wp.go [7] 40 fun W C hW hC => ?_
        conv => whnf
        rw [lmulN (by omega), iadd_eq (by omega)]
        exact hW _ q
      refine wp.go [7, 39] 60 fun W C hW hC => ?_
      refine ⟨fun c => absurd c (by omega), fun _ => ?_⟩
      refine ⟨_, _, _, _, twF, rfl, rfl, ?_⟩
      refine ⟨_, _, _, twI rfl rfl, rfl, (by omega), gt_at (k + 1) (by omega) (lenlt (j := 39) (hA) (show (k + 1) < 4 by omega)), ?_⟩
      rw [p2]
      refine ⟨_, _, _, _, twF, rfl, rfl, ?_⟩
      (conv => whnf); simp (disch := omega) only [iadd_eq, isub_eq, imul_eq]
      rw [e1]
      refine ⟨_, _, _, twI rfl rfl, rfl, (by omega), gt_at (k) (by omega) (lenlt (j := 39) (hA) (show (k) < 4 by omega)), ?_⟩
      rw [q2]
      refine ⟨fun z => ?_, fun z => ?_⟩
      · refine hW _ (fin 1 _ ?_ (by decide))
        cases w : E (k + 1) k with
        | false => rfl
        | true => exact absurd (congrArg Nat.cast (hE.mp w)) z
      · (conv => whnf); simp (disch := omega) only [iadd_eq, isub_eq, imul_eq]
        refine hW _ (fin ((smR E k).2 + 1) _ ?_ (by omega))
        rw [hE.mpr (by omega)]; rfl
  refine wp.go [7] 20 fun W C hW hC => ?_
  exact hW _ (loop 3 0 rfl)
def RowsAt (sc0 sc : Nat → Int) (F O : Nat → Nat) (E : Nat → Nat → Bool) (m : Nat) : Prop := sc 9 = ((sumR m (g9 F) : Nat) : Int) ∧ sc 10 = ((sumR m (g10 F E) : Nat) : Int) ∧ sc 11 = ((sumR m (g11 F E) : Nat) : Int) ∧ sc 12 = ((sumR m (g12 F O E) : Nat) : Int) ∧ ∀ k, [9, 10, 11, 12].elem k = false → sc k = sc0 k
end ROWS2
