section BEHIND
variable {G : Gr} {D : Nat → Nat → Nat} {a c : Nat}
def setB (G : Gr) (D : Nat → Nat → Nat) (a c t s : Nat) : Prop := s < 65536 ∧ ∀ v, s.testBit v = true ↔ v < G.1 ∧ inB D a c v ∧ D c v ≤ t
def moreB (G : Gr) (D : Nat → Nat → Nat) (a c t s : Nat) : Prop := s < 65536 ∧ ∀ v, s.testBit v = true ↔ v < G.1 ∧ inB D a c v ∧ D c v = t
def nextB (G : Gr) (D : Nat → Nat → Nat) (a c t s : Nat) : Prop := s < 65536 ∧ ∀ w, s.testBit w = true ↔ ∃ v, v < G.1 ∧ inB D a c v ∧ D c v = t ∧ G.2 v w = true ∧ inB D a c w
theorem bfs_start (hG : G.wf) (hD : Far G D) (hac : G.2 a c = true) : setB G D a c 0 (2 ^ c) ∧ moreB G D a c 0 (2 ^ c) := by
  obtain ⟨ha, hc, hca, hne⟩ := hG.2.2 _ _ hac
  have hn := hG.2.1
  have hs := (hD.self hG hac).1
  have key : ∀ v, (2 ^ c).testBit v = true ↔ v < G.1 ∧ inB D a c v ∧ D c v = 0 := by
    intro v
    rw [Nat.testBit_two_pow]
    simp only [decide_eq_true_eq]
    constructor
    · rintro rfl
      exact ⟨hc, hs, (hD c c hc hc).2.1.mpr rfl⟩
    · rintro ⟨h1, h2, h3⟩
      exact (hD c v hc h1).2.1.mp h3
  refine ⟨⟨pow16 (by omega), fun v => ?_⟩, pow16 (by omega), key⟩
  rw [key]
  simp only [Nat.le_zero]
theorem bfs_step (hG : G.wf) (hD : Far G D) (hac : G.2 a c = true) {t s m x : Nat} (hs : setB G D a c t s) (hm : moreB G D a c t m) (hx : nextB G D a c t x) : setB G D a c (t + 1) (s ||| x) ∧ moreB G D a c (t + 1) (x ^^^ (x &&& s)) := by
  obtain ⟨ha, hc, hca, hne⟩ := hG.2.2 _ _ hac
  have far1 : ∀ w, x.testBit w = true → w < G.1 ∧ inB D a c w ∧ D c w ≤ t + 1 := by
    intro w h
    obtain ⟨v, h1, h2, h3, h4, h5⟩ := (hx.2 w).mp h
    have hw := (hG.2.2 _ _ h4).2.1
    have p := Far.pm hG hD h4 hc
    have e1 := (hD c v hc h1).1
    have e2 := (hD c w hc hw).1
    exact ⟨hw, h5, by omega⟩
  have far2 : ∀ w, w < G.1 → inB D a c w → D c w = t + 1 → x.testBit w = true := by
    intro w hw hB e
    have hwc : w ≠ c := by
      rintro rfl
      have : D w w = 0 := (hD w w hw hw).2.1.mpr rfl
      omega
    obtain ⟨u, hu1, hu2⟩ := hD.near hw hc hwc
    have hu := (hG.2.2 _ _ hu1).2.1
    have su := (hD c u hc hu).1
    have sw := (hD c w hc hw).1
    have hBu : inB D a c u := by
      apply Classical.byContradiction
      intro hn
      exact hwc (Far.edge hG hD hac hu1 hB hn).1
    exact (hx.2 w).mpr ⟨u, hu, hBu, by omega, (hG.2.2 _ _ hu1).2.2.1, hB⟩
  refine ⟨⟨or16 hs.1 hx.1, fun v => ?_⟩, Nat.xor_lt_two_pow (n := 16) hx.1 (Nat.lt_of_le_of_lt Nat.and_le_left hx.1), fun v => ?_⟩
  · rw [Nat.testBit_or, Bool.or_eq_true, hs.2]
    constructor
    · rintro (⟨h1, h2, h3⟩ | h)
      · exact ⟨h1, h2, by omega⟩
      · exact far1 v h
    · rintro ⟨h1, h2, h3⟩
      by_cases e : D c v = t + 1
      · exact Or.inr (far2 v h1 h2 e)
      · exact Or.inl ⟨h1, h2, by omega⟩
  · rw [Nat.testBit_xor, Nat.testBit_and]
    have : (x.testBit v ^^ (x.testBit v && s.testBit v)) = true ↔ x.testBit v = true ∧ ¬ s.testBit v = true := by
      cases x.testBit v <;> cases s.testBit v <;> simp
    rw [this, hs.2]
    constructor
    · rintro ⟨h1, h2⟩
      obtain ⟨k1, k2, k3⟩ := far1 v h1
      refine ⟨k1, k2, ?_⟩
      have : ¬ D c v ≤ t := fun e => h2 ⟨k1, k2, e⟩
      omega
    · rintro ⟨h1, h2, h3⟩
      exact ⟨far2 v h1 h2 h3, fun e => by omega⟩
theorem bfs_end (hG : G.wf) (hD : Far G D) (hac : G.2 a c = true) {t s : Nat} (hs : setB G D a c t s) (hm : moreB G D a c t 0) : ∀ v, s.testBit v = true ↔ v < G.1 ∧ inB D a c v := by
  intro v
  rw [hs.2]
  constructor
  · rintro ⟨h1, h2, -⟩; exact ⟨h1, h2⟩
  · rintro ⟨h1, h2⟩
    refine ⟨h1, h2, ?_⟩
    apply Classical.byContradiction
    intro h
    have g := Far.gap hG hD hac (t := t) (fun v hv hB e => by have := (hm.2 v).mpr ⟨hv, hB, e⟩; simp at this) (D c v - t) v h1 h2
    omega
/-- the branch seen from a over the bond to c, as bits -/
def bB (G : Gr) (D : Nat → Nat → Nat) (a c : Nat) : Nat := bits (fun v => decide (inB D a c v)) G.1
theorem bB_eq {s : Nat} (h : ∀ v, s.testBit v = true ↔ v < G.1 ∧ inB D a c v) : s = bB G D a c := by
  refine bits_eq fun i => ?_
  have := h i
  cases e : s.testBit i with
  | true =>
    rw [e] at this
    obtain ⟨h1, h2⟩ := this.mp rfl
    rw [decide_eq_true h1, decide_eq_true h2]; rfl
  | false =>
    rw [e] at this
    by_cases c1 : i < G.1
    · have : ¬ inB D a c i := fun e => absurd (this.mpr ⟨c1, e⟩) (by decide)
      rw [decide_eq_false this]; simp
    · rw [decide_eq_false c1]; rfl
end BEHIND
section BEHIND2
variable {d : Nat} {h0 : AH} {M : Nat} {A : Nat → List Int} {sc : Nat → Int} {G : Gr} {D : Nat → Nat → Nat}
/-- one round of Model.behind: what its inner loop has come to -/
def nxB (G : Gr) (a c m k x : Nat) : Prop := x < 65536 ∧ ∀ w, x.testBit w = true ↔ ∃ v, v < k ∧ m.testBit v = true ∧ G.2 v w = true ∧ ¬ (v = c ∧ w = a)
theorem nxB_ok (hG : G.wf) (hD : Far G D) {a c t m x : Nat} (hac : G.2 a c = true) (hm : moreB G D a c t m) (h : nxB G a c m G.1 x) : nextB G D a c t x := by
  refine ⟨h.1, fun w => ?_⟩
  rw [h.2]
  constructor
  · rintro ⟨v, h1, h2, h3, h4⟩
    obtain ⟨k1, k2, k3⟩ := (hm.2 v).mp h2
    refine ⟨v, k1, k2, k3, h3, ?_⟩
    apply Classical.byContradiction
    intro hn
    exact h4 (Far.edge hG hD hac h3 k2 hn)
  · rintro ⟨v, h1, h2, h3, h4, h5⟩
    refine ⟨v, h1, (hm.2 v).mpr ⟨h1, h2, h3⟩, h4, ?_⟩
    rintro ⟨rfl, rfl⟩
    exact (hD.self hG hac).2 h5
theorem behind_in (hA : lens A) (hG : G.wf) (hr : isRow (A 1) 0 G) {a c s m : Nat} (ha : a < 16) (hm : m < 65536) {Q : Rs → AH → Prop}
    (hQ : ∀ x, nxB G a c m G.1 x → wp (d + 2) 284 (75, [some (vR (some M)), some (vI c), some (vI a), some (vI s), some (vI m), some (vI x), some (vI ((G.1 : Nat) : Int))], [], tw h0 M A sc) Q) :
    ∀ (j k x : Nat), j + k = G.1 → nxB G a c m k x → wp (d + 2) 284 (18, [some (vR (some M)), some (vI c), some (vI a), some (vI s), some (vI m), some (vI x), some (vI k)], [], tw h0 M A sc) Q := by
  have hn := hG.2.1
  have hl := hA.eq 1
  rw [ln1] at hl
  intro j
  induction j with
  | zero =>
    intro k x hk hx
    obtain rfl : k = G.1 := by omega
    refine wp.go [18, 75] 40 fun W C hW hC => ?_
    refine ⟨_, _, _, _, twF, rfl, rfl, ?_⟩
    refine ⟨_, _, _, twI rfl rfl, rfl, by decide, gt_some (by rw [hl]; decide), ?_⟩
    rw [show ((0 : Int).toNat) = 0 from rfl, hr.1]
    refine ⟨fun _ => ?_, fun c => absurd c (by omega)⟩
    exact hW _ (hQ x hx)
  | succ j ih =>
    intro k x hk hx
    have step : ∀ x', nxB G a c m (k + 1) x' → wp (d + 2) 284 (69, [some (vR (some M)), some (vI c), some (vI a), some (vI s), some (vI m), some (vI x'), some (vI k)], [], tw h0 M A sc) Q := by
      intro x' hx'
      refine wp.go [18, 75] 40 fun W C hW hC => ?_
      conv => whnf
      rw [iadd_eq (by omega)]
      exact hW _ (ih (k + 1) x' (by omega) hx')
    have step2 : ∀ z : Nat, z < 65536 → (∀ w, z.testBit w = true ↔ (k = c ∧ w = a)) → m.testBit k = true → wp (d + 2) 284 (63, [some (vR (some M)), some (vI c), some (vI a), some (vI s), some (vI m), some (vI x), some (vI k)], [vI z, vI ((row G k : Nat) : Int), vI x], tw h0 M A sc) Q := by
      intro z hz hzb hmk
      have hrow := row_lt hn (c := k)
      have hx1 : row G k ^^^ (row G k &&& z) < 65536 := Nat.xor_lt_two_pow (n := 16) hrow (Nat.lt_of_le_of_lt Nat.and_le_left hrow)
      refine wp.go [69] 40 fun W C hW hC => ?_
      conv => whnf
      rw [iandn_eq (by omega) (by omega), ior_eq (by have := hx.1; omega) (by omega)]
      refine hW _ (step _ ⟨or16 hx.1 hx1, fun w => ?_⟩)
      rw [Nat.testBit_or, Bool.or_eq_true, hx.2, Nat.testBit_xor, Nat.testBit_and, row_bit hG]
      have : ((G.2 k w ^^ (G.2 k w && z.testBit w)) = true) ↔ (G.2 k w = true ∧ ¬ (k = c ∧ w = a)) := by
        rw [← hzb w]
        cases G.2 k w <;> cases z.testBit w <;> simp
      rw [this]
      constructor
      · rintro (⟨v, h1, h2⟩ | h)
        · exact ⟨v, by omega, h2⟩
        · exact ⟨k, by omega, hmk, h⟩
      · rintro ⟨v, h1, h2⟩
        by_cases e : v = k
        · subst e; exact Or.inr h2.2
        · exact Or.inl ⟨v, by omega, h2⟩
    refine wp.go [18, 63, 69, 75] 60 fun W C hW hC => ?_
    refine ⟨_, _, _, _, twF, rfl, rfl, ?_⟩
    refine ⟨_, _, _, twI rfl rfl, rfl, by decide, gt_some (by rw [hl]; decide), ?_⟩
    rw [show ((0 : Int).toNat) = 0 from rfl, hr.1]
    refine ⟨fun c => absurd c (by omega), fun _ => ?_⟩
    refine hC _ _ _ (use (has_spec (by omega) (by omega)) ?_)
    rintro r h' ⟨rfl, rfl⟩
    refine ⟨fun c1 => ?_, fun c1 => ?_⟩
    · have c2 := b0.mp c1
      refine hW _ (step x ⟨hx.1, fun w => ?_⟩)
      rw [hx.2]
      constructor
      · rintro ⟨v, h1, h2⟩; exact ⟨v, by omega, h2⟩
      · rintro ⟨v, h1, h2⟩
        by_cases e : v = k
        · subst e; exact absurd h2.1 c2
        · exact ⟨v, by omega, h2⟩
    · have c2 := b1.mp c1
      refine ⟨_, _, _, _, twF, rfl, rfl, ?_⟩
      conv => whnf
      rw [iadd_eq (by omega)]
      refine ⟨_, _, _, twI rfl rfl, rfl, by omega, gt_some (by rw [hl]; omega), ?_⟩
      rw [show ((1 + (k : Int)).toNat) = 1 + k by omega, isRow0 hr (by omega)]
      refine ⟨fun c3 => ?_, fun c3 => ?_⟩
      · refine hW _ (step2 0 (by decide) (fun w => ?_) c2)
        rw [Nat.zero_testBit]
        constructor
        · intro h; exact absurd h (by decide)
        · rintro ⟨h, -⟩; exact absurd (by rw [h]) c3
      · conv => whnf
        rw [pow_i (by omega)]
        refine hW _ (step2 (2 ^ a) (pow16 ha) (fun w => ?_) c2)
        rw [Nat.testBit_two_pow, decide_eq_true_eq]
        constructor
        · intro h; exact ⟨by omega, h.symm⟩
        · rintro ⟨-, h⟩; exact h.symm
theorem behind_out (hA : lens A) (hG : G.wf) (hr : isRow (A 1) 0 G) (hD : Far G D) {a c T : Nat} (hac : G.2 a c = true) (hT : ∀ v, v < G.1 → D c v < T) :
    ∀ (j t s m : Nat) (x5 x6 : Option AV), T ≤ j + t → setB G D a c t s → moreB G D a c t m → wp (d + 2) 284 (7, [some (vR (some M)), some (vI c), some (vI a), some (vI s), some (vI m), x5, x6], [], tw h0 M A sc) (gives (tw h0 M A sc) ((bB G D a c : Nat) : Int)) := by
  have hn := hG.2.1
  have hac2 := hG.2.2 _ _ hac
  intro j
  induction j with
  | zero =>
    intro t s m x5 x6 hj hs hm
    have : m = 0 := by
      apply Nat.eq_of_testBit_eq
      intro i
      rw [Nat.zero_testBit]
      cases e : m.testBit i with
      | false => rfl
      | true =>
        obtain ⟨k1, k2, k3⟩ := (hm.2 i).mp e
        have := hT i k1
        omega
    subst this
    refine wp.go [7] 40 fun W C hW hC => ?_
    refine ⟨fun _ => ?_, fun c => absurd rfl c⟩
    refine ⟨?_, rfl⟩
    rw [bB_eq (bfs_end hG hD hac hs hm)]
  | succ j ih =>
    intro t s m x5 x6 hj hs hm
    refine wp.go [7, 18] 40 fun W C hW hC => ?_
    refine ⟨fun c1 => ?_, fun c1 => ?_⟩
    · have : m = 0 := by omega
      subst this
      refine ⟨?_, rfl⟩
      rw [bB_eq (bfs_end hG hD hac hs hm)]
    · refine hW _ (behind_in hA hG hr (by omega) hm.1 (fun x hx => ?_) G.1 0 0 rfl ⟨by decide, fun w => ?_⟩)
      · obtain ⟨k1, k2⟩ := bfs_step hG hD hac hs hm (nxB_ok hG hD hac hm hx)
        refine wp.go [7] 40 fun W C hW hC => ?_
        conv => whnf
        rw [iandn_eq (by have := hx.1; omega) (by have := hs.1; omega), ior_eq (by have := hs.1; omega) (by have := hx.1; omega)]
        exact hW _ (ih (t + 1) _ _ _ _ (by omega) k1 k2)
      · rw [Nat.zero_testBit]
        constructor
        · intro h; exact absurd h (by decide)
        · rintro ⟨v, h, -⟩; exact absurd h (by omega)
/-- Model.behind -/
theorem behind_spec (hA : lens A) (hG : G.wf) (hr : isRow (A 1) 0 G) (hD : Far G D) {a c : Nat} (hac : G.2 a c = true) : wp (d + 2) 284 (0, ent 7 [vR (some M), vI c, vI a], [], tw h0 M A sc) (gives (tw h0 M A sc) ((bB G D a c : Nat) : Int)) := by
  have hn := hG.2.1
  have hac2 := hG.2.2 _ _ hac
  obtain ⟨T, hT⟩ := Far.bound D c G.1
  obtain ⟨k1, k2⟩ := bfs_start hG hD hac
  refine wp.go [7] 40 fun W C hW hC => ?_
  conv => whnf
  rw [pow_i (by omega)]
  exact hW _ (behind_out hA hG hr hD hac hT T 0 _ _ _ _ (by omega) k1 k2)
end BEHIND2
