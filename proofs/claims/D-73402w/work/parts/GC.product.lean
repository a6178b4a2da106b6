/-! COUNTING ALONE: what a kind of rows comes to -/
def pZ (most : Nat) : List ((Nat → Int) × Nat) → Nat → Int
  | [], t => if t = 0 then 1 else 0
  | (r, b) :: L, t => sI (min most (t / b) + 1) fun s => r s * pZ most L (t - s * b)
def cRow (h : AH) (refs : List (Option Nat)) (bys : List Int) (f : Nat) (L : List ((Nat → Int) × Nat)) : Prop := refs.length = f + L.length ∧ ∀ (i : Nat) (r : Nat → Int) (b : Nat), L[i]? = some (r, b) → (∃ a X, refs[f + i]? = some (some a) ∧ h.I a = (2, X) ∧ X.length = 41 ∧ ∀ s, s ≤ 40 → gt X s = r s) ∧ bys[f + i]? = some ((b : Nat) : Int) ∧ 1 ≤ b ∧ b ≤ 4
section PRODUCT
variable {d : Nat} {h : AH} {rs bs : Nat} {refs : List (Option Nat)} {bys : List Int}
theorem cprod_spec (hR : h.R rs = (7, refs)) (hB : h.I bs = (1, bys)) {most : Nat} (hm : most ≤ 40) : ∀ (L : List ((Nat → Int) × Nat)) (f t : Nat), cRow h refs bys f L → f + L.length ≤ 4 → t ≤ 100 → wp (d + L.length + 1) 178 (0, ent 8 [vI ((t : Nat) : Int), vI ((most : Nat) : Int), vR (some rs), vR (some bs), vI ((f : Nat) : Int)], [], h) (givesL h (w64 (pZ most L t))) := by
  intro L
  induction L with
  | nil =>
    intro f t hP hf ht
    have hl : refs.length = f := hP.1
    have hf : f + 0 ≤ 4 := hf
    refine wp.go [] 20 fun W C hW hC => ?_
    refine ⟨_, Or.inr ⟨_, _, hR, by decide, rfl⟩, ?_⟩
    rw [hl]
    refine ⟨fun w => absurd rfl w, fun _ => ?_⟩
    refine ⟨fun w => ?_, fun w => ?_⟩
    · have : pZ most [] t = 0 := if_neg (by omega)
      rw [this]
      exact ⟨rfl, rfl⟩
    · have : pZ most [] t = 1 := if_pos (by omega)
      rw [this]
      exact ⟨rfl, rfl⟩
  | cons p L ih =>
    obtain ⟨r, b⟩ := p
    intro f t hP hf ht
    have hl : refs.length = f + (L.length + 1) := hP.1
    have hf : f + (L.length + 1) ≤ 4 := hf
    obtain ⟨⟨a, X, x1, x2, x3, x4⟩, y1, y2, y3⟩ := hP.2 0 r b rfl
    rw [Nat.add_zero] at x1 y1
    have hP' : cRow h refs bys (f + 1) L := by
      refine ⟨by omega, fun i r' b' hi => ?_⟩
      have := hP.2 (i + 1) r' b' (by rw [List.getElem?_cons_succ]; exact hi)
      rw [show f + (i + 1) = f + 1 + i by omega] at this
      exact this
    have hN : ∀ s, s ≤ min most (t / b) ↔ (s ≤ most ∧ s * b ≤ t) := by
      intro s
      rw [Nat.le_min, Nat.le_div_iff_mul_le y2]
    obtain ⟨N, hNe⟩ : ∃ N, N = min most (t / b) := ⟨_, rfl⟩
    rw [← hNe] at hN
    have hval : pZ most ((r, b) :: L) t = sI (N + 1) fun s => r s * pZ most L (t - s * b) := by rw [hNe]; rfl
    rw [hval]
    have loop : ∀ (j s : Nat), j + s = N + 1 → wp (d + (L.length + 1) + 1) 178 (23, [some (vI ((t : Nat) : Int)), some (vI ((most : Nat) : Int)), some (vR (some rs)), some (vR (some bs)), some (vI ((f : Nat) : Int)), some (vL (w64 (sI s fun s => r s * pZ most L (t - s * b)))), none, some (vI ((s : Nat) : Int))], [], h) (givesL h (w64 (sI (N + 1) fun s => r s * pZ most L (t - s * b)))) := by
      intro j
      induction j with
      | zero =>
        intro s hj
        obtain rfl : s = N + 1 := by omega
        have hno : ¬ (N + 1 ≤ most ∧ (N + 1) * b ≤ t) := fun w => by have := (hN (N + 1)).mpr w; omega
        have hNm : N ≤ most := ((hN N).mp (Nat.le_refl _)).1
        have hsb : (N + 1) * b ≤ 41 * 4 := Nat.mul_le_mul (by omega) y3
        refine wp.go [23] 40 fun W C hW hC => ?_
        refine ⟨fun w => ⟨rfl, rfl⟩, fun w => ?_⟩
        refine ⟨_, _, _, hB, rfl, by omega, by rw [Int.toNat_natCast]; exact y1, ?_⟩
        conv => whnf
        rw [imulN (by omega)]
        refine ⟨fun w2 => ⟨rfl, rfl⟩, fun w2 => ?_⟩
        exfalso
        have w2 : (N + 1) * b ≤ t := by have w2 : (((N + 1) * b : Nat) : Int) ≤ ((t : Nat) : Int) := w2; omega
        exact hno ⟨by omega, w2⟩
      | succ j ihj =>
        intro s hj
        obtain ⟨hs1, hs2⟩ := (hN s).mp (by omega)
        have hx : X[((s : Int)).toNat]? = some (r s) := by rw [Int.toNat_natCast, gt_some (by omega), x4 s (by omega)]
        have hnext : wp (d + (L.length + 1) + 1) 178 (84, [some (vI ((t : Nat) : Int)), some (vI ((most : Nat) : Int)), some (vR (some rs)), some (vR (some bs)), some (vI ((f : Nat) : Int)), some (vL (w64 (sI (s + 1) fun s => r s * pZ most L (t - s * b)))), none, some (vI ((s : Nat) : Int))], [], h) (givesL h (w64 (sI (N + 1) fun s => r s * pZ most L (t - s * b)))) := by
          refine wp.go [23] 10 fun W C hW hC => ?_
          (conv => whnf); simp (disch := omega) only [iadd_eq, isub_eq, imul_eq]
          exact hW _ (ihj (s + 1) (by omega))
        have hsI : sI (s + 1) (fun s => r s * pZ most L (t - s * b)) = sI s (fun s => r s * pZ most L (t - s * b)) + r s * pZ most L (t - s * b) := rfl
        refine wp.go [23, 84] 80 fun W C hW hC => ?_
        refine ⟨fun w => absurd w (by omega), fun _ => ?_⟩
        refine ⟨_, _, _, hB, rfl, by omega, by rw [Int.toNat_natCast]; exact y1, ?_⟩
        conv => whnf
        rw [imulN (by omega)]
        refine ⟨fun w => absurd w (by omega), fun _ => ?_⟩
        refine ⟨_, _, _, hR, by decide, by omega, by rw [Int.toNat_natCast]; exact x1, ?_⟩
        refine ⟨_, _, _, x2, rfl, by omega, hx, ?_⟩
        refine ⟨fun w => ?_, fun w => ?_⟩
        · have w := lcmp_eq.mp w
          rw [hsI, w, Int.zero_mul, Int.add_zero] at hnext
          exact hW _ hnext
        · refine ⟨_, _, _, hR, by decide, by omega, by rw [Int.toNat_natCast]; exact x1, ?_⟩
          refine ⟨_, _, _, x2, rfl, by omega, hx, ?_⟩
          refine ⟨_, _, _, hB, rfl, by omega, by rw [Int.toNat_natCast]; exact y1, ?_⟩
          conv => whnf
          rw [imulN (by omega), isub_eq (by omega), iadd_eq (by omega), show ((t : Nat) : Int) - ((s * b : Nat) : Int) = ((t - s * b : Nat) : Int) by omega, show ((f : Nat) : Int) + 1 = ((f + 1 : Nat) : Int) by omega]
          refine hC _ _ _ (useE (ih (f + 1) (t - s * b) hP' (by have hf : f + (L.length + 1) ≤ 4 := hf; omega) (by omega)) ?_)
          conv => whnf
          rw [ladd_w, lmul_w, w_mul_r, w_add_r, w_add_l, ← hsI]
          exact hW _ hnext
    refine wp.go [23] 30 fun W C hW hC => ?_
    refine ⟨_, Or.inr ⟨_, _, hR, by decide, rfl⟩, ?_⟩
    rw [hl]
    refine ⟨fun _ => ?_, fun w => absurd w (by omega)⟩
    exact hW _ (loop (N + 1) 0 (by omega))
end PRODUCT
