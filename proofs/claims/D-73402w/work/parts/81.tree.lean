/-! TREES: what the law of distances gives -/
section TREE
variable {G : Gr} {D : Nat → Nat → Nat}
theorem Far.pm (hG : G.wf) (hD : Far G D) {a c b : Nat} (hac : G.2 a c = true) (hb : b < G.1) : D c b = D a b + 1 ∨ D a b = D c b + 1 := by
  obtain ⟨ha, hc, -, hne⟩ := hG.2.2 _ _ hac
  by_cases e : a = b
  · subst e
    obtain ⟨h1, h2, h3⟩ := hD c a hc ha
    obtain ⟨x, hx1, hx2, hx3⟩ := h3 (by omega)
    have h0 : D a a = 0 := (hD a a ha ha).2.1.mpr rfl
    by_cases e2 : a = x
    · subst e2; left; omega
    · have := hx3 a (hG.2.2 _ _ hac).2.2.1 e2
      omega
  · obtain ⟨x, hx1, hx2, hx3⟩ := (hD a b ha hb).2.2 e
    by_cases e2 : c = x
    · subst e2; right; omega
    · left; exact hx3 c hac e2
theorem Far.near (hD : Far G D) {a b : Nat} (ha : a < G.1) (hb : b < G.1) (hab : a ≠ b) : ∃ c, G.2 a c = true ∧ D c b + 1 = D a b := by
  obtain ⟨x, hx1, hx2, -⟩ := (hD a b ha hb).2.2 hab
  exact ⟨x, hx1, hx2⟩
theorem Far.uniq (hG : G.wf) (hD : Far G D) {a b c e : Nat} (hb : b < G.1) (h1 : G.2 a c = true) (h2 : G.2 a e = true) (h3 : D c b < D a b) (h4 : D e b < D a b) : c = e := by
  have ha := (hG.2.2 _ _ h1).1
  by_cases hab : a = b
  · subst hab
    have h0 : D a a = 0 := (hD a a ha ha).2.1.mpr rfl
    omega
  · obtain ⟨x, hx1, hx2, hx3⟩ := (hD a b ha hb).2.2 hab
    by_cases e1 : c = x
    · by_cases e2 : e = x
      · omega
      · have := hx3 e h2 e2; omega
    · have := hx3 c h1 e1; omega
/-- what hangs behind a bond, seen from one: those that are nearer to the other end -/
abbrev inB (D : Nat → Nat → Nat) (a c v : Nat) : Prop := D c v < D a v
theorem Far.edge (hG : G.wf) (hD : Far G D) {a c v w : Nat} (hac : G.2 a c = true) (hvw : G.2 v w = true) (h1 : inB D a c v) (h2 : ¬ inB D a c w) : v = c ∧ w = a := by
  obtain ⟨ha, hc, hca, hne⟩ := hG.2.2 _ _ hac
  obtain ⟨hv, hw, hwv, hne2⟩ := hG.2.2 _ _ hvw
  unfold inB at h1 h2
  have p1 := Far.pm hG hD hac hv
  have p2 := Far.pm hG hD hac hw
  have sv := (hD c v hc hv).1
  have sw := (hD c w hc hw).1
  have tv := (hD a v ha hv).1
  have tw := (hD a w ha hw).1
  have q1 := Far.pm hG hD hvw hc
  have q2 := Far.pm hG hD hvw ha
  by_cases e : v = c
  · subst e
    have h0 : D v v = 0 := (hD v v hv hv).2.1.mpr rfl
    have : D w a = 0 := by omega
    exact ⟨rfl, (hD w a hw ha).2.1.mp this⟩
  · exfalso
    obtain ⟨u, hu1, hu2⟩ := hD.near hv hc e
    have hu := (hG.2.2 _ _ hu1).2.1
    have q3 := Far.pm hG hD hac hu
    have q4 := Far.pm hG hD hu1 ha
    have su := (hD c u hc hu).1
    have tu := (hD a u ha hu).1
    have := Far.uniq hG hD ha hu1 hvw (by omega) (by omega)
    subst this
    omega
/-- a branch of a branch -/
theorem Far.sub (hG : G.wf) (hD : Far G D) {a c e v : Nat} (hac : G.2 a c = true) (hce : G.2 c e = true) (hne : e ≠ a) (hv : v < G.1) (h : inB D c e v) : inB D a c v := by
  obtain ⟨ha, hc, hca, -⟩ := hG.2.2 _ _ hac
  have p := Far.pm hG hD hca hv
  unfold inB at h ⊢
  rcases p with p | p
  · omega
  · exact absurd (Far.uniq hG hD hv hce hca (by omega) (by omega)) hne
/-- each of a branch but its first lies in one of the branches on it -/
theorem Far.child (hG : G.wf) (hD : Far G D) {a c v : Nat} (hc : c < G.1) (hv : v < G.1) (hvc : v ≠ c) (h : inB D a c v) : ∃ e, G.2 c e = true ∧ e ≠ a ∧ inB D c e v := by
  obtain ⟨e, h1, h2⟩ := hD.near hc hv (Ne.symm hvc)
  refine ⟨e, h1, ?_, by unfold inB; omega⟩
  rintro rfl
  unfold inB at h
  omega
theorem Far.self (hG : G.wf) (hD : Far G D) {a c : Nat} (hac : G.2 a c = true) : inB D a c c ∧ ¬ inB D a c a := by
  obtain ⟨ha, hc, hca, hne⟩ := hG.2.2 _ _ hac
  unfold inB
  have h0 : D c c = 0 := (hD c c hc hc).2.1.mpr rfl
  have h1 : D a a = 0 := (hD a a ha ha).2.1.mpr rfl
  have p := Far.pm hG hD hac hc
  exact ⟨by omega, by omega⟩
theorem Far.bound (D : Nat → Nat → Nat) (c : Nat) : ∀ n, ∃ T, ∀ v, v < n → D c v < T
  | 0 => ⟨0, fun v h => absurd h (by omega)⟩
  | n + 1 => by
    obtain ⟨T, hT⟩ := Far.bound D c n
    refine ⟨T + D c n + 1, fun v hv => ?_⟩
    by_cases e : v = n
    · subst e; omega
    · have := hT v (by omega); omega
/-- no carbon of a branch at a distance: none beyond -/
theorem Far.gap (hG : G.wf) (hD : Far G D) {a c : Nat} (hac : G.2 a c = true) {t : Nat} (h : ∀ v, v < G.1 → inB D a c v → D c v ≠ t) : ∀ k v, v < G.1 → inB D a c v → D c v ≠ t + k := by
  have hc := (hG.2.2 _ _ hac).2.1
  intro k
  induction k with
  | zero => exact h
  | succ k ih =>
    intro v hv hB e
    have hvc : v ≠ c := by
      rintro rfl
      have : D v v = 0 := (hD v v hv hv).2.1.mpr rfl
      omega
    obtain ⟨u, hu1, hu2⟩ := hD.near hv hc hvc
    have hu := (hG.2.2 _ _ hu1).2.1
    have su := (hD c u hc hu).1
    have sv := (hD c v hc hv).1
    have hBu : inB D a c u := by
      apply Classical.byContradiction
      intro hn
      exact hvc (Far.edge hG hD hac hu1 hB hn).1
    exact ih u hu hBu (by omega)
end TREE
