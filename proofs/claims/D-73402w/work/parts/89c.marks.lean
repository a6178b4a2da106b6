/-! THE TWIN LAYS A SHAPE's MARKS -/
section MARKS
variable {d : Nat} {h0 : AH} {M : Nat} {A : Nat → List Int} {sc : Nat → Int} {tab : List Tr}
theorem marksBy_spec (hA : lens A) {s k : Nat} (hs : s ≤ 63) (hk : k < 4) : wp (d + 1) 325 (0, ent 3 [vR (some M), vI s, vI k], [], tw h0 M A sc) (gives (tw h0 M A sc) (gt (A 17) (4 * s + k))) := by
  refine wp.go [] 20 fun W C hW hC => ?_
  refine ⟨_, _, _, _, twF, rfl, rfl, ?_⟩
  (conv => whnf); simp (disch := omega) only [iadd_eq, isub_eq, imul_eq]
  refine ⟨_, _, _, twI rfl rfl, rfl, (by omega), gt_at (4 * s + k) (by omega) (lenlt (j := 17) (hA) (show (4 * s + k) < 256 by omega)), ?_⟩
  exact ⟨rfl, rfl⟩
/-- in how many ways so many are chosen of some, each as often as one likes -/
def choV (n : Nat) : Nat → Nat
  | 0 => 1
  | j + 1 => choV n j * (n + j) / (j + 1)
theorem choV1 (n : Nat) : choV n 1 = n := by simp [choV]
theorem choV2 (n : Nat) : choV n 2 = n * (n + 1) / 2 := by simp [choV]
theorem choV3 (n : Nat) : choV n 3 = n * (n + 1) * (n + 2) / 6 := by
  show choV n 2 * (n + 2) / 3 = _
  rw [choV2]
  have h2 : n * (n + 1) / 2 * 2 = n * (n + 1) := by
    have : n * (n + 1) % 2 = 0 := by
      rcases Nat.mod_two_eq_zero_or_one n with h | h
      · rw [Nat.mul_mod, h]; simp
      · rw [Nat.mul_mod, Nat.add_mod, h]
    omega
  have h3 : n * (n + 1) * (n + 2) = 2 * (n * (n + 1) / 2 * (n + 2)) := by
    rw [← h2]; grind
  rw [h3, show (6 : Nat) = 2 * 3 from rfl, Nat.mul_div_mul_left _ _ (by decide)]
theorem choV_one : ∀ k, choV 1 k = 1
  | 0 => rfl
  | k + 1 => by
    show choV 1 k * (1 + k) / (k + 1) = 1
    rw [choV_one k, Nat.one_mul, Nat.add_comm, Nat.div_self (by omega)]
def choOk (n k : Nat) : Prop := (k ≤ 1 ∧ n ≤ 200000) ∨ (k ≤ 3 ∧ n ≤ 60) ∨ (k ≤ 4 ∧ n = 1)
theorem choV_ok {n k : Nat} (h : choOk n k) : (∀ j, j < k → choV n j * (n + j) ≤ 1000000000) ∧ choV n k ≤ 1000000000 := by
  rcases h with ⟨h1, h2⟩ | ⟨h1, h2⟩ | ⟨h1, rfl⟩
  · refine ⟨fun j hj => ?_, ?_⟩
    · obtain rfl : j = 0 := by omega
      simp [choV]; omega
    · rcases (show k = 0 ∨ k = 1 by omega) with rfl | rfl
      · show 1 ≤ 1000000000; decide
      · rw [choV1]; omega
  · have m1 : n * (n + 1) ≤ 60 * 61 := Nat.mul_le_mul h2 (by omega)
    have m2 : n * (n + 1) / 2 * (n + 2) ≤ 1830 * 62 := Nat.mul_le_mul (by omega) (by omega)
    have m3 : n * (n + 1) * (n + 2) ≤ 60 * 61 * 62 := Nat.mul_le_mul m1 (by omega)
    refine ⟨fun j hj => ?_, ?_⟩
    · rcases (show j = 0 ∨ j = 1 ∨ j = 2 by omega) with rfl | rfl | rfl
      · simp [choV]; omega
      · rw [choV1]; omega
      · rw [choV2]; omega
    · rcases (show k = 0 ∨ k = 1 ∨ k = 2 ∨ k = 3 by omega) with rfl | rfl | rfl | rfl
      · show 1 ≤ 1000000000; decide
      · rw [choV1]; omega
      · rw [choV2]; omega
      · rw [choV3]; omega
  · refine ⟨fun j hj => ?_, ?_⟩
    · rw [choV_one]; omega
    · rw [choV_one]; decide
theorem chosen_loop {h : AH} {n k : Nat} (ho : choOk n k) (hn : n ≤ 200000) (hk : k ≤ 4) : ∀ (i j : Nat), i + j = k → wp (d + 1) 326 (11, [some (vI n), some (vI k), some (vL ((choV n j : Nat) : Int)), none, some (vI j)], [], h) (gives h ((choV n k : Nat) : Int)) := by
  obtain ⟨o1, o2⟩ := choV_ok ho
  intro i
  induction i with
  | zero =>
    intro j hj
    obtain rfl : j = k := by omega
    refine wp.go [11] 40 fun W C hW hC => ?_
    refine ⟨fun _ => ?_, fun c => absurd c (by omega)⟩
    refine ⟨?_, rfl⟩
    rw [l2i_eq (by omega)]
  | succ i ih =>
    intro j hj
    have := o1 j (by omega)
    refine wp.go [11] 40 fun W C hW hC => ?_
    refine ⟨fun c => absurd c (by omega), fun _ => ?_⟩
    have e1 : iadd (j : Int) 1 = ((j + 1 : Nat) : Int) := by rw [iadd_eq (by omega)]; omega
    conv => whnf
    rw [iaddN (by omega), e1]
    refine ⟨by omega, ?_⟩
    rw [lmulN (by omega), ldivN (by omega) (by omega) (by omega)]
    conv => whnf
    rw [e1]
    exact hW _ (ih (j + 1) (by omega))
/-- Model.chosen -/
theorem chosen_spec {h : AH} {n k : Nat} (ho : choOk n k) (hn : n ≤ 200000) (hk : k ≤ 4) : wp (d + 1) 326 (0, ent 5 [vI n, vI k], [], h) (gives h ((choV n k : Nat) : Int)) := by
  refine wp.go [11] 20 fun W C hW hC => ?_
  refine ⟨fun c => ?_, fun c => ?_⟩
  · exact hW _ (chosen_loop ho hn hk k 0 (by omega))
  · obtain rfl : k = 0 := by omega
    exact ⟨rfl, rfl⟩
theorem ways_block (hA : lens A) {s : Nat} (hs : s ≤ 63) {w : Wm} (hw : ∀ k, k < 4 → gt (A 17) (4 * s + k) = ((w k : Nat) : Int)) (hw2 : ∀ k, k < 4 → w k ≤ 200000) {many : Int} {k n t2 t3 t1 t0 : Nat} (k3 : t3 ≤ 4 ∧ choOk (w 3) t3) (k2 : t2 ≤ 4 ∧ choOk (w 2) t2) (k1 : t1 ≤ 4 ∧ choOk (w 1) t1) (k0 : t0 ≤ 4 ∧ choOk (w 0) t0)
    (hb1 : choV (w 3) t3 * choV (w 2) t2 ≤ 1000000) (hb2 : choV (w 3) t3 * choV (w 2) t2 * choV (w 1) t1 ≤ 1000000) (hb3 : choV (w 3) t3 * choV (w 2) t2 * choV (w 1) t1 * choV (w 0) t0 ≤ 1000000) (hn : n ≤ 10000000) {Q : Rs → AH → Prop}
    (hQ : wp (d + 2) 324 (115, [some (vR (some M)), some (vI s), some (vI many), some (vI k), some (vI ((n + choV (w 3) t3 * choV (w 2) t2 * choV (w 1) t1 * choV (w 0) t0 : Nat) : Int)), some (vI t3), some (vI t2), some (vI t1), some (vI t0)], [], tw h0 M A sc) Q) :
    wp (d + 2) 324 (63, [some (vR (some M)), some (vI s), some (vI many), some (vI k), some (vI n), some (vI t3), some (vI t2), some (vI t1), some (vI t0)], [], tw h0 M A sc) Q := by
  refine wp.go [115] 60 fun W C hW hC => ?_
  refine ⟨_, _, _, twF, rfl, ?_⟩
  refine hC _ _ _ (use (marksBy_spec (k := 3) hA hs (by decide)) ?_); rintro _ _ ⟨rfl, rfl⟩
  rw [hw 3 (by decide)]
  refine hC _ _ _ (use (chosen_spec k3.2 (hw2 3 (by decide)) k3.1) ?_); rintro _ _ ⟨rfl, rfl⟩
  refine ⟨_, _, _, twF, rfl, ?_⟩
  refine hC _ _ _ (use (marksBy_spec (k := 2) hA hs (by decide)) ?_); rintro _ _ ⟨rfl, rfl⟩
  rw [hw 2 (by decide)]
  refine hC _ _ _ (use (chosen_spec k2.2 (hw2 2 (by decide)) k2.1) ?_); rintro _ _ ⟨rfl, rfl⟩
  refine ⟨_, _, _, twF, rfl, ?_⟩
  refine hC _ _ _ (use (marksBy_spec (k := 1) hA hs (by decide)) ?_); rintro _ _ ⟨rfl, rfl⟩
  rw [hw 1 (by decide)]
  refine hC _ _ _ (use (chosen_spec k1.2 (hw2 1 (by decide)) k1.1) ?_); rintro _ _ ⟨rfl, rfl⟩
  refine ⟨_, _, _, twF, rfl, ?_⟩
  refine hC _ _ _ (use (marksBy_spec (k := 0) hA hs (by decide)) ?_); rintro _ _ ⟨rfl, rfl⟩
  rw [hw 0 (by decide)]
  refine hC _ _ _ (use (chosen_spec k0.2 (hw2 0 (by decide)) k0.1) ?_); rintro _ _ ⟨rfl, rfl⟩
  conv => whnf
  rw [imulN (by omega), imulN (by omega), imulN (by omega), iaddN (by omega)]
  exact hW _ hQ
/-- what the marks of a branch may come to -/
def wK (w : Wm) : Prop := w 0 = 1 ∧ w 1 ≤ 45 ∧ w 2 ≤ 2025 ∧ w 3 ≤ 91125
abbrev t1of (k t3 t2 : Nat) : Nat := k - 3 * t3 - 2 * t2
def wTerm (w : Wm) (many k t3 t2 : Nat) : Nat := if t3 + t2 + t1of k t3 t2 ≤ many then choV (w 3) t3 * choV (w 2) t2 * choV (w 1) (t1of k t3 t2) * choV (w 0) (many - t3 - t2 - t1of k t3 t2) else 0
def inS (w : Wm) (many k t3 : Nat) : Nat → Nat → Nat
  | 0, _ => 0
  | f + 1, t2 => if 3 * t3 + 2 * t2 ≤ k then wTerm w many k t3 t2 + inS w many k t3 f (t2 + 1) else 0
def outS (w : Wm) (many k : Nat) : Nat → Nat → Nat
  | 0, _ => 0
  | f + 1, t3 => if 3 * t3 ≤ k then inS w many k t3 3 0 + outS w many k f (t3 + 1) else 0
theorem outS_eq {w : Wm} {many k : Nat} (h0 : w 0 = 1) (hm : 1 ≤ many) (hk : k < 4) : outS w many k 3 0 = sevM w many k := by
  have v0 : ∀ t, choV (w 0) t = 1 := fun t => by rw [h0, choV_one]
  have z : ∀ n, choV n 0 = 1 := fun _ => rfl
  rcases (show k = 0 ∨ k = 1 ∨ k = 2 ∨ k = 3 by omega) with rfl | rfl | rfl | rfl
  · simp [outS, inS, wTerm, sevM, z, h0, choV_one]
  · have u1 : t1of 1 0 0 = 1 := rfl
    simp [outS, inS, wTerm, sevM, v0, z, choV1, hm, u1]
  · have u1 : t1of 2 0 0 = 2 := rfl
    have u2 : t1of 2 0 1 = 0 := rfl
    simp [outS, inS, wTerm, sevM, v0, z, choV1, choV2, hm, u1, u2]
    by_cases c : 2 ≤ many
    · rw [if_pos c, if_pos (show 1 < many by omega)]; omega
    · rw [if_neg c, if_neg (show ¬ 1 < many by omega)]; omega
  · have u1 : t1of 3 0 0 = 3 := rfl
    have u2 : t1of 3 0 1 = 1 := rfl
    have u3 : t1of 3 1 0 = 0 := rfl
    simp [outS, inS, wTerm, sevM, v0, z, choV1, choV3, hm, u1, u2, u3]
    rw [Nat.mul_comm (w 2) (w 1)]
    by_cases c : 2 ≤ many
    · by_cases c2 : 3 ≤ many
      · rw [if_pos c, if_pos c2, if_pos (show 1 < many by omega), if_pos (show 2 < many by omega)]; omega
      · rw [if_pos c, if_neg c2, if_pos (show 1 < many by omega), if_neg (show ¬ 2 < many by omega)]; omega
    · rw [if_neg c, if_neg (show ¬ 3 ≤ many by omega), if_neg (show ¬ 1 < many by omega), if_neg (show ¬ 2 < many by omega)]; omega
theorem wTerm_ok {w : Wm} (hB : wK w) {many k t3 t2 : Nat} (hm4 : many ≤ 4) (hk : k < 4) (h : 3 * t3 + 2 * t2 ≤ k) : (t3 ≤ 4 ∧ choOk (w 3) t3) ∧ (t2 ≤ 4 ∧ choOk (w 2) t2) ∧ (t1of k t3 t2 ≤ 4 ∧ choOk (w 1) (t1of k t3 t2)) ∧ (∀ t, t ≤ 4 → t ≤ 4 ∧ choOk (w 0) t) ∧
    choV (w 3) t3 * choV (w 2) t2 ≤ 1000000 ∧ choV (w 3) t3 * choV (w 2) t2 * choV (w 1) (t1of k t3 t2) ≤ 1000000 ∧ ∀ t, choV (w 3) t3 * choV (w 2) t2 * choV (w 1) (t1of k t3 t2) * choV (w 0) t ≤ 1000000 := by
  obtain ⟨w0, w1, w2, w3⟩ := hB
  have v0 : ∀ t, choV (w 0) t = 1 := fun t => by rw [w0, choV_one]
  have b1 : ∀ t, t ≤ 3 → choV (w 1) t ≤ 16215 := by
    intro t ht
    have m1 : w 1 * (w 1 + 1) ≤ 45 * 46 := Nat.mul_le_mul w1 (by omega)
    have m3 : w 1 * (w 1 + 1) * (w 1 + 2) ≤ 45 * 46 * 47 := Nat.mul_le_mul m1 (by omega)
    rcases (show t = 0 ∨ t = 1 ∨ t = 2 ∨ t = 3 by omega) with rfl | rfl | rfl | rfl
    · show 1 ≤ 16215; decide
    · rw [choV1]; omega
    · rw [choV2]; omega
    · rw [choV3]; omega
  refine ⟨⟨by omega, Or.inl ⟨by omega, by omega⟩⟩, ⟨by omega, Or.inl ⟨by omega, by omega⟩⟩, ⟨by simp only [t1of]; omega, Or.inr (Or.inl ⟨by simp only [t1of]; omega, by omega⟩)⟩, fun t ht => ⟨ht, Or.inr (Or.inr ⟨ht, w0⟩)⟩, ?_⟩
  have hc : (t3 = 0 ∧ t2 = 0) ∨ (t3 = 0 ∧ t2 = 1 ∧ t1of k t3 t2 ≤ 1) ∨ (t3 = 1 ∧ t2 = 0 ∧ t1of k t3 t2 = 0) := by simp only [t1of]; omega
  have p : choV (w 3) t3 * choV (w 2) t2 ≤ 1000000 ∧ choV (w 3) t3 * choV (w 2) t2 * choV (w 1) (t1of k t3 t2) ≤ 1000000 := by
    rcases hc with ⟨rfl, rfl⟩ | ⟨rfl, rfl, h1⟩ | ⟨rfl, rfl, h1⟩
    · have := b1 (t1of k 0 0) (by simp only [t1of]; omega)
      have z : ∀ n, choV n 0 = 1 := fun _ => rfl
      rw [z, z]
      omega
    · have z : ∀ n, choV n 0 = 1 := fun _ => rfl
      rw [z, choV1, Nat.one_mul]
      have h2 : choV (w 1) (t1of k 0 1) ≤ 45 := by
        rcases (show t1of k 0 1 = 0 ∨ t1of k 0 1 = 1 by omega) with e | e
        · rw [e, z]; decide
        · rw [e, choV1]; exact w1
      have := Nat.mul_le_mul w2 h2
      omega
    · have z : ∀ n, choV n 0 = 1 := fun _ => rfl
      rw [h1, z, choV1, z]
      omega
  exact ⟨p.1, p.2, fun t => by rw [v0, Nat.mul_one]; exact p.2⟩
theorem ways_in (hA : lens A) {s : Nat} (hs : s ≤ 63) {w : Wm} (hw : ∀ k, k < 4 → gt (A 17) (4 * s + k) = ((w k : Nat) : Int)) (hB : wK w) {many : Nat} (hm4 : many ≤ 4) {k : Nat} (hk : k < 4) {t3 : Nat} (h3 : 3 * t3 ≤ k) {Q : Rs → AH → Prop} :
    ∀ (f t2 n : Nat) (x7 x8 : Option AV), k < 3 * t3 + 2 * (t2 + f) → t2 + f ≤ 3 → n + 1000000 * f ≤ 10000000 → (∀ (t2' : Nat) (x7 x8 : Option AV), wp (d + 2) 324 (121, [some (vR (some M)), some (vI s), some (vI many), some (vI k), some (vI ((n + inS w many k t3 f t2 : Nat) : Int)), some (vI t3), some (vI t2'), x7, x8], [], tw h0 M A sc) Q) →
      wp (d + 2) 324 (17, [some (vR (some M)), some (vI s), some (vI many), some (vI k), some (vI n), some (vI t3), some (vI t2), x7, x8], [], tw h0 M A sc) Q := by
  have hw2 : ∀ k, k < 4 → w k ≤ 200000 := fun k hk => by
    obtain ⟨w0, w1, w2, w3⟩ := hB
    rcases (show k = 0 ∨ k = 1 ∨ k = 2 ∨ k = 3 by omega) with rfl | rfl | rfl | rfl <;> omega
  intro f
  induction f with
  | zero =>
    intro t2 n x7 x8 h1 h2 h4 hQ
    refine wp.go [17, 63, 115, 121] 60 fun W C hW hC => ?_
    conv => whnf
    rw [imul_eq (by omega), imul_eq (by omega), iadd_eq (by omega)]
    refine ⟨fun _ => hW _ (hQ t2 x7 x8), fun c => absurd c (by omega)⟩
  | succ f ih =>
    intro t2 n x7 x8 h1 h2 h4 hQ
    have step : ∀ (n' : Nat) (x7 x8 : Option AV), n' + inS w many k t3 f (t2 + 1) = n + inS w many k t3 (f + 1) t2 → n' + 1000000 * f ≤ 10000000 → wp (d + 2) 324 (115, [some (vR (some M)), some (vI s), some (vI many), some (vI k), some (vI n'), some (vI t3), some (vI t2), x7, x8], [], tw h0 M A sc) Q := by
      intro n' x7 x8 e1 e2
      refine wp.go [17] 60 fun W C hW hC => ?_
      (conv => whnf); simp (disch := omega) only [iadd_eq, isub_eq, imul_eq]
      exact hW _ (ih (t2 + 1) n' x7 x8 (by omega) (by omega) (by omega) (by rw [e1]; exact hQ))
    refine wp.go [17, 63, 115, 121] 60 fun W C hW hC => ?_
    conv => whnf
    rw [imul_eq (by omega), imul_eq (by omega), iadd_eq (by omega)]
    refine ⟨fun c => ?_, fun c => ?_⟩
    · have hn : ¬ 3 * t3 + 2 * t2 ≤ k := by omega
      have e : inS w many k t3 (f + 1) t2 = 0 := by simp only [inS]; rw [if_neg hn]
      rw [e, Nat.add_zero] at hQ
      exact hW _ (hQ t2 x7 x8)
    · have hle : 3 * t3 + 2 * t2 ≤ k := by omega
      have e : inS w many k t3 (f + 1) t2 = wTerm w many k t3 t2 + inS w many k t3 f (t2 + 1) := by simp only [inS]; rw [if_pos hle]
      obtain ⟨k3, k2, k1, k0, p1, p2, p3⟩ := wTerm_ok hB hm4 hk hle
      have e1 : isub (isub (k : Int) (imul 3 (t3 : Int))) (imul 2 (t2 : Int)) = ((t1of k t3 t2 : Nat) : Int) := by
        simp (disch := omega) only [imul_eq, isub_eq]; simp only [t1of]; omega
      have ht1 : t1of k t3 t2 ≤ 3 := by simp only [t1of]; omega
      have e2 : isub (isub (isub (many : Int) t3) t2) ((t1of k t3 t2 : Nat) : Int) = (many : Int) - t3 - t2 - ((t1of k t3 t2 : Nat) : Int) := by simp (disch := omega) only [isub_eq]
      conv => whnf
      rw [e1, e2]
      refine ⟨fun c1 => ?_, fun c1 => ?_⟩
      · have hm : t3 + t2 + t1of k t3 t2 ≤ many := by omega
        have et : wTerm w many k t3 t2 = choV (w 3) t3 * choV (w 2) t2 * choV (w 1) (t1of k t3 t2) * choV (w 0) (many - t3 - t2 - t1of k t3 t2) := by simp only [wTerm]; rw [if_pos hm]
        have e0 : (many : Int) - t3 - t2 - ((t1of k t3 t2 : Nat) : Int) = ((many - t3 - t2 - t1of k t3 t2 : Nat) : Int) := by omega
        rw [e0]
        refine hW _ (ways_block hA hs hw hw2 k3 k2 k1 (k0 _ (by omega)) p1 p2 (p3 _) (by omega) ?_)
        have := p3 (many - t3 - t2 - t1of k t3 t2)
        exact step _ _ _ (by rw [e, et]; omega) (by omega)
      · have hm : ¬ t3 + t2 + t1of k t3 t2 ≤ many := by omega
        have et : wTerm w many k t3 t2 = 0 := by simp only [wTerm]; rw [if_neg hm]
        exact hW _ (step n _ _ (by rw [e, et]; omega) (by omega))
theorem inS_le {w : Wm} (hB : wK w) {many k t3 : Nat} (hm4 : many ≤ 4) (hk : k < 4) : ∀ f t2, inS w many k t3 f t2 ≤ 1000000 * f
  | 0, _ => Nat.le_refl _
  | f + 1, t2 => by
    have ih := inS_le hB (t3 := t3) hm4 hk f (t2 + 1)
    simp only [inS]
    by_cases h : 3 * t3 + 2 * t2 ≤ k
    · rw [if_pos h]
      have p := (wTerm_ok hB hm4 hk h).2.2.2.2.2.2
      have : wTerm w many k t3 t2 ≤ 1000000 := by
        unfold wTerm
        split
        · exact p _
        · omega
      omega
    · rw [if_neg h]; omega
theorem ways_out (hA : lens A) {s : Nat} (hs : s ≤ 63) {w : Wm} (hw : ∀ k, k < 4 → gt (A 17) (4 * s + k) = ((w k : Nat) : Int)) (hB : wK w) {many : Nat} (hm4 : many ≤ 4) {k : Nat} (hk : k < 4) :
    ∀ (f t3 n : Nat) (x6 x7 x8 : Option AV), k < 3 * (t3 + f) → t3 + f ≤ 3 → n + 3000000 * f ≤ 10000000 → wp (d + 2) 324 (6, [some (vR (some M)), some (vI s), some (vI many), some (vI k), some (vI n), some (vI t3), x6, x7, x8], [], tw h0 M A sc) (gives (tw h0 M A sc) ((n + outS w many k f t3 : Nat) : Int)) := by
  intro f
  induction f with
  | zero =>
    intro t3 n x6 x7 x8 h1 h2 h3
    refine wp.go [6, 17] 60 fun W C hW hC => ?_
    conv => whnf
    rw [imul_eq (by omega)]
    refine ⟨fun _ => ⟨rfl, rfl⟩, fun c => absurd c (by omega)⟩
  | succ f ih =>
    intro t3 n x6 x7 x8 h1 h2 h3
    refine wp.go [6, 17] 60 fun W C hW hC => ?_
    conv => whnf
    rw [imul_eq (by omega)]
    refine ⟨fun c => ?_, fun c => ?_⟩
    · have e : outS w many k (f + 1) t3 = 0 := by simp only [outS]; rw [if_neg (by omega)]
      exact ⟨by rw [e]; rfl, rfl⟩
    · have e : outS w many k (f + 1) t3 = inS w many k t3 3 0 + outS w many k f (t3 + 1) := by simp only [outS]; rw [if_pos (by omega)]
      have hi := inS_le hB (t3 := t3) hm4 hk 3 0
      have b0 : n + 3000000 ≤ 10000000 := Nat.le_trans (Nat.add_le_add_left (Nat.le_mul_of_pos_right 3000000 (Nat.succ_pos f)) n) h3
      have b1 : n + 1000000 * 3 ≤ 10000000 := b0
      refine hW _ (ways_in hA hs hw hB hm4 hk (by omega) 3 0 n x7 x8 (by omega) (by omega) b1 (fun t2' y7 y8 => ?_))
      refine wp.go [6] 20 fun W C hW hC => ?_
      (conv => whnf); simp (disch := omega) only [iadd_eq, isub_eq, imul_eq]
      have key := ih (t3 + 1) (n + inS w many k t3 3 0) (some (vI t2')) y7 y8 (by omega) (by omega) (by omega)
      rw [Nat.add_assoc, ← e] at key
      exact hW _ key
/-- Model.waysOf -/
theorem waysOf_spec (hA : lens A) {s : Nat} (hs : s ≤ 63) {w : Wm} (hw : ∀ k, k < 4 → gt (A 17) (4 * s + k) = ((w k : Nat) : Int)) (hB : wK w) {many : Nat} (hm1 : 1 ≤ many) (hm4 : many ≤ 4) {k : Nat} (hk : k < 4) : wp (d + 2) 324 (0, ent 9 [vR (some M), vI s, vI many, vI k], [], tw h0 M A sc) (gives (tw h0 M A sc) ((sevM w many k : Nat) : Int)) := by
  have key := ways_out (d := d) (h0 := h0) (M := M) (sc := sc) hA hs hw hB hm4 hk 3 0 0 none none none (by omega) (by omega) (by omega)
  rw [Nat.zero_add, outS_eq hB.1 hm1 hk] at key
  refine wp.go [6] 20 fun W C hW hC => ?_
  exact hW _ key
/-- Model.manyLike -/
theorem many_l1 (hA : lens A) {s many : Int} {Q : Rs → AH → Prop} (hQ : ∀ X, X.length = 4 → (∀ k, k < 4 → gt X k = 0) → wp (d + 1) 323 (20, [some (vR (some M)), some (vI s), some (vI many), some (vI 4)], [], tw h0 M (up A 23 X) sc) Q) :
    ∀ (j k : Nat) (X : List Int), j + k = 4 → X.length = 4 → (∀ i, i < k → gt X i = 0) → wp (d + 1) 323 (2, [some (vR (some M)), some (vI s), some (vI many), some (vI k)], [], tw h0 M (up A 23 X) sc) Q := by
  intro j
  induction j with
  | zero =>
    intro k X hk hX h
    obtain rfl : k = 4 := by omega
    refine wp.go [2, 20] 20 fun W C hW hC => ?_
    refine ⟨fun _ => hW _ (hQ X hX h), fun c => absurd c (by decide)⟩
  | succ j ih =>
    intro k X hk hX h
    have hA' : lens (up A 23 X) := hA.up (by rw [hX]; rfl)
    refine wp.go [2, 20] 40 fun W C hW hC => ?_
    refine ⟨fun c => absurd c (by omega), fun _ => ?_⟩
    refine ⟨_, _, _, _, twF, rfl, rfl, ?_⟩
    (refine ⟨_, twI rfl rfl, (by omega), (ilt (k) (by omega) (lenlt (j := 23) (hA') (show (k) < 4 by omega))), ?_⟩; rw [twSetI rfl rfl]; try rw [Int.toNat_natCast])
    rw [up_up, up_eq]
    (conv => whnf); simp (disch := omega) only [iadd_eq, isub_eq, imul_eq]
    refine hW _ (ih (k + 1) _ (by omega) (by rw [List.length_set, hX]) (fun i hi => ?_))
    rw [gt_set (by omega)]
    by_cases c : i = k
    · rw [if_pos c]
    · rw [if_neg c]; exact h i (by omega)
theorem many_l2 (hA : lens A) {s : Nat} (hs : s ≤ 63) {w : Wm} (hw : ∀ k, k < 4 → gt (A 17) (4 * s + k) = ((w k : Nat) : Int)) (hB : wK w) {many : Nat} (hm1 : 1 ≤ many) (hm4 : many ≤ 4) (hS : ∀ k, k < 4 → sevM w many k ≤ 1000000) :
    ∀ (j k : Nat) (X : List Int), j + k = 4 → X.length = 4 → (∀ i, i < k → gt X i = ((sevM w many i : Nat) : Int)) → (∀ i, k ≤ i → i < 4 → gt X i = 0) → wp (d + 3) 323 (22, [some (vR (some M)), some (vI s), some (vI many), some (vI k)], [], tw h0 M (up A 23 X) sc) (fun r h' => r = .inl none ∧ ∃ X, h' = tw h0 M (up A 23 X) sc ∧ X.length = 4 ∧ ∀ i, i < 4 → gt X i = ((sevM w many i : Nat) : Int)) := by
  intro j
  induction j with
  | zero =>
    intro k X hk hX h h2
    obtain rfl : k = 4 := by omega
    refine wp.go [22] 20 fun W C hW hC => ?_
    refine ⟨fun _ => ⟨rfl, X, rfl, hX, h⟩, fun c => absurd c (by decide)⟩
  | succ j ih =>
    intro k X hk hX h h2
    have hA' : lens (up A 23 X) := hA.up (by rw [hX]; rfl)
    have hw' : ∀ k, k < 4 → gt (up A 23 X 17) (4 * s + k) = ((w k : Nat) : Int) := fun k hk => by rw [upn_ne _ _ (by decide)]; exact hw k hk
    refine wp.go [22] 60 fun W C hW hC => ?_
    refine ⟨fun c => absurd c (by omega), fun _ => ?_⟩
    refine ⟨_, _, _, _, twF, rfl, rfl, ?_⟩
    refine ⟨_, _, _, twI rfl rfl, rfl, (by omega), gt_at (k) (by omega) (lenlt (j := 23) (hA') (show (k) < 4 by omega)), ?_⟩
    rw [up_eq, h2 k (Nat.le_refl _) (by omega)]
    refine ⟨_, _, _, twF, rfl, ?_⟩
    refine hC _ _ _ (use (waysOf_spec hA' hs hw' hB hm1 hm4 (show k < 4 by omega)) ?_); rintro _ _ ⟨rfl, rfl⟩
    have := hS k (by omega)
    (conv => whnf); simp (disch := omega) only [iadd_eq, isub_eq, imul_eq]
    rw [show (0 : Int) + ((sevM w many k : Nat) : Int) = ((sevM w many k : Nat) : Int) by omega]
    (refine ⟨_, twI rfl rfl, (by omega), (ilt (k) (by omega) (lenlt (j := 23) (hA') (show (k) < 4 by omega))), ?_⟩; rw [twSetI rfl rfl]; try rw [Int.toNat_natCast])
    rw [up_up, up_eq]
    (conv => whnf); simp (disch := omega) only [iadd_eq, isub_eq, imul_eq]
    refine hW _ (ih (k + 1) _ (by omega) (by rw [List.length_set, hX]) (fun i hi => ?_) (fun i hi hi2 => ?_))
    · rw [gt_set (by omega)]
      by_cases c : i = k
      · rw [if_pos c, c]
      · rw [if_neg c]; exact h i (by omega)
    · rw [gt_set (by omega), if_neg (by omega)]
      exact h2 i (by omega) hi2
theorem sev_le {w : Wm} (hB : wK w) {many k : Nat} (hk : k < 4) : sevM w many k ≤ 1000000 := by
  obtain ⟨w0, w1, w2, w3⟩ := hB
  have m1 : w 1 * (w 1 + 1) ≤ 45 * 46 := Nat.mul_le_mul w1 (by omega)
  have m3 : w 1 * (w 1 + 1) * (w 1 + 2) ≤ 45 * 46 * 47 := Nat.mul_le_mul m1 (by omega)
  have m2 : w 1 * w 2 ≤ 45 * 2025 := Nat.mul_le_mul w1 w2
  rcases (show k = 0 ∨ k = 1 ∨ k = 2 ∨ k = 3 by omega) with rfl | rfl | rfl | rfl
  · simp [sevM]; omega
  · simp [sevM]; omega
  · have e : sevM w many 2 = w 2 + if 1 < many then w 1 * (w 1 + 1) / 2 else 0 := by simp [sevM]
    rw [e]; split <;> omega
  · have e : sevM w many 3 = w 3 + ((if 1 < many then w 1 * w 2 else 0) + if 2 < many then w 1 * (w 1 + 1) * (w 1 + 2) / 6 else 0) := by simp [sevM]
    rw [e]; split <;> split <;> omega
theorem manyLike_spec (hA : lens A) {s : Nat} (hs : s ≤ 63) {w : Wm} (hw : ∀ k, k < 4 → gt (A 17) (4 * s + k) = ((w k : Nat) : Int)) (hB : wK w) {many : Nat} (hm1 : 1 ≤ many) (hm4 : many ≤ 4) : wp (d + 3) 323 (0, ent 4 [vR (some M), vI s, vI many], [], tw h0 M A sc) (fun r h' => r = .inl none ∧ ∃ X, h' = tw h0 M (up A 23 X) sc ∧ X.length = 4 ∧ ∀ i, i < 4 → gt X i = ((sevM w many i : Nat) : Int)) := by
  have hl : (A 23).length = 4 := by rw [hA.eq 23]; rfl
  refine wp.go [2] 20 fun W C hW hC => ?_
  have key := many_l1 (d := d + 2) (h0 := h0) (M := M) (sc := sc) hA (s := (s : Int)) (many := (many : Int)) (Q := fun r h' => r = .inl none ∧ ∃ X, h' = tw h0 M (up A 23 X) sc ∧ X.length = 4 ∧ ∀ i, i < 4 → gt X i = ((sevM w many i : Nat) : Int)) (fun X hX h => ?_) 4 0 (A 23) rfl hl (fun i hi => absurd hi (by omega))
  · rw [upn_self] at key
    exact hW _ key
  · refine wp.go [22] 20 fun W C hW hC => ?_
    exact hW _ (many_l2 hA hs hw hB hm1 hm4 (fun k hk => sev_le hB hk) 4 0 X rfl hX (fun i hi => absurd hi (by omega)) (fun i _ hi => h i hi))
end MARKS
