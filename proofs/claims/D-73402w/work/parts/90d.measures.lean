/-! THE TWIN MEASURES -/
section MEAS
variable {d : Nat} {h0 : AH} {M : Nat} {A : Nat → List Int} {sc : Nat → Int} {tab : List Tr} {G : Gr} {D : Nat → Nat → Nat}
def setR (G : Gr) (D : Nat → Nat → Nat) (a t s : Nat) : Prop := s < 65536 ∧ ∀ v, s.testBit v = true ↔ v < G.1 ∧ D a v ≤ t
def moreR (G : Gr) (D : Nat → Nat → Nat) (a t s : Nat) : Prop := s < 65536 ∧ ∀ v, s.testBit v = true ↔ v < G.1 ∧ D a v = t
theorem gapR (hG : G.wf) (hD : Far G D) {a t : Nat} (ha : a < G.1) (h : ∀ v, v < G.1 → D a v ≠ t) : ∀ k v, v < G.1 → D a v ≠ t + k := by
  intro k
  induction k with
  | zero => exact h
  | succ k ih =>
    intro v hv e
    have hva : v ≠ a := by
      rintro rfl
      have : D v v = 0 := (hD v v hv hv).2.1.mpr rfl
      omega
    obtain ⟨u, hu1, hu2⟩ := hD.near hv ha hva
    have hu := (hG.2.2 _ _ hu1).2.1
    have := (hD a u ha hu).1
    have := (hD a v ha hv).1
    exact ih u hu (by omega)
theorem bfsR (hG : G.wf) (hD : Far G D) {a t s m x : Nat} (ha : a < G.1) (hs : setR G D a t s) (hm : moreR G D a t m) (hx : nxR G m G.1 x) : setR G D a (t + 1) (s ||| x) ∧ moreR G D a (t + 1) (x ^^^ (x &&& s)) := by
  have far1 : ∀ w, x.testBit w = true → w < G.1 ∧ D a w ≤ t + 1 := by
    intro w h
    obtain ⟨v, h1, h2, h3⟩ := (hx.2 w).mp h
    obtain ⟨k1, k2⟩ := (hm.2 v).mp h2
    have hw := (hG.2.2 _ _ h3).2.1
    have p := Far.pm hG hD h3 ha
    have e1 := (hD a v ha h1).1
    have e2 := (hD a w ha hw).1
    exact ⟨hw, by omega⟩
  have far2 : ∀ w, w < G.1 → D a w = t + 1 → x.testBit w = true := by
    intro w hw e
    have hwa : w ≠ a := by
      rintro rfl
      have : D w w = 0 := (hD w w hw hw).2.1.mpr rfl
      omega
    obtain ⟨u, hu1, hu2⟩ := hD.near hw ha hwa
    have hu := (hG.2.2 _ _ hu1).2.1
    have su := (hD a u ha hu).1
    have sw := (hD a w ha hw).1
    exact (hx.2 w).mpr ⟨u, hu, (hm.2 u).mpr ⟨hu, by omega⟩, (hG.2.2 _ _ hu1).2.2.1⟩
  refine ⟨⟨or16 hs.1 hx.1, fun v => ?_⟩, Nat.xor_lt_two_pow (n := 16) hx.1 (Nat.lt_of_le_of_lt Nat.and_le_left hx.1), fun v => ?_⟩
  · rw [Nat.testBit_or, Bool.or_eq_true, hs.2]
    constructor
    · rintro (⟨h1, h2⟩ | h)
      · exact ⟨h1, by omega⟩
      · exact far1 v h
    · rintro ⟨h1, h2⟩
      by_cases e : D a v = t + 1
      · exact Or.inr (far2 v h1 e)
      · exact Or.inl ⟨h1, by omega⟩
  · rw [Nat.testBit_xor, Nat.testBit_and]
    have : (x.testBit v ^^ (x.testBit v && s.testBit v)) = true ↔ x.testBit v = true ∧ ¬ s.testBit v = true := by
      cases x.testBit v <;> cases s.testBit v <;> simp
    rw [this, hs.2]
    constructor
    · rintro ⟨h1, h2⟩
      obtain ⟨k1, k2⟩ := far1 v h1
      refine ⟨k1, ?_⟩
      have : ¬ D a v ≤ t := fun e => h2 ⟨k1, e⟩
      omega
    · rintro ⟨h1, h2⟩
      exact ⟨far2 v h1 h2, fun e => by omega⟩
def FarK (X : List Int) (G : Gr) (D : Nat → Nat → Nat) (a t c : Nat) : Prop := ∀ a' c', a' < G.1 → c' < G.1 → (a' < a ∨ (a' = a ∧ (D a c' < t ∨ (D a c' = t ∧ c' < c)))) → gt X (16 * a' + c') = ((D a' c' : Nat) : Int)
theorem meas_in (hG : G.wf) (hA : lens A) (hr : isRow (A 18) 0 G) {a s m t : Nat} (ha : a < G.1) (ht : t < 1000) (hm : moreR G D a t m) {Q : Rs → AH → Prop}
    (hQ : ∀ X x, X.length = 256 → nxR G m G.1 x → FarK X G D a (t + 1) 0 → wp (d + 2) 338 (88, [some (vR (some M)), some (vI a), some (vI s), some (vI m), some (vI t), some (vI x), some (vI ((G.1 : Nat) : Int))], [], tw h0 M (up A 25 X) sc) Q) :
    ∀ (j c x : Nat) (X : List Int), j + c = G.1 → X.length = 256 → nxR G m c x → FarK X G D a t c → wp (d + 2) 338 (31, [some (vR (some M)), some (vI a), some (vI s), some (vI m), some (vI t), some (vI x), some (vI c)], [], tw h0 M (up A 25 X) sc) Q := by
  have hn := hG.2.1
  intro j
  induction j with
  | zero =>
    intro c x X hj hX hx h
    obtain rfl : c = G.1 := by omega
    have hA' : lens (up A 25 X) := hA.up (by rw [hX]; rfl)
    refine wp.go [31, 88] 40 fun W C hW hC => ?_
    refine ⟨_, _, _, _, twF, rfl, rfl, ?_⟩
    refine ⟨_, _, _, twI rfl rfl, rfl, (by omega), gt_at (0) (by omega) (lenlt (j := 18) (hA') (show (0) < 17 by omega)), ?_⟩
    rw [upn_ne _ _ (by decide), hr.1]
    refine ⟨fun _ => hW _ (hQ X x hX hx (fun a' c' h1 h2 h3 => h a' c' h1 h2 (by omega))), fun c => absurd c (by omega)⟩
  | succ j ih =>
    intro c x X hj hX hx h
    have hA' : lens (up A 25 X) := hA.up (by rw [hX]; rfl)
    have hx2 := nxR_step hG hx
    have hrow := row_lt (G := G) hn (c := c)
    have fin : ∀ (x : Nat) (X : List Int), X.length = 256 → nxR G m (c + 1) x → FarK X G D a t (c + 1) → wp (d + 2) 338 (82, [some (vR (some M)), some (vI a), some (vI s), some (vI m), some (vI t), some (vI x), some (vI c)], [], tw h0 M (up A 25 X) sc) Q := by
      intro x X hX hx h
      refine wp.go [31] 20 fun W C hW hC => ?_
      (conv => whnf); simp (disch := omega) only [iadd_eq, isub_eq, imul_eq]
      exact hW _ (ih (c + 1) x X (by omega) hX hx h)
    refine wp.go [31, 82, 88] 60 fun W C hW hC => ?_
    refine ⟨_, _, _, _, twF, rfl, rfl, ?_⟩
    refine ⟨_, _, _, twI rfl rfl, rfl, (by omega), gt_at (0) (by omega) (lenlt (j := 18) (hA') (show (0) < 17 by omega)), ?_⟩
    rw [upn_ne _ _ (by decide), hr.1]
    refine ⟨fun c => absurd c (by omega), fun _ => ?_⟩
    refine hC _ _ _ (use (has_spec (by have := hm.1; omega) (by omega)) ?_); rintro _ _ ⟨rfl, rfl⟩
    refine ⟨fun c1 => ?_, fun c1 => ?_⟩
    · have hb := b1.mp c1
      rw [if_pos hb] at hx2
      have hDt := ((hm.2 c).mp hb).2
      refine ⟨_, _, _, _, twF, rfl, rfl, ?_⟩
      (conv => whnf); simp (disch := omega) only [iadd_eq, isub_eq, imul_eq]
      (refine ⟨_, twI rfl rfl, (by omega), (ilt (16 * a + c) (by omega) (lenlt (j := 25) (hA') (show (16 * a + c) < 256 by omega))), ?_⟩; rw [twSetI rfl rfl]; try rw [Int.toNat_natCast])
      rw [up_up, up_eq]
      refine ⟨_, _, _, _, twF, rfl, rfl, ?_⟩
      (conv => whnf); simp (disch := omega) only [iadd_eq, isub_eq, imul_eq]
      refine ⟨_, _, _, twI rfl rfl, rfl, (by omega), gt_at (1 + c) (by omega) (lenlt (j := 18) (hA.up (by rw [List.length_set, hX]; rfl)) (show (1 + c) < 17 by omega)), ?_⟩
      rw [upn_ne _ _ (by decide), isRow0 hr (by omega)]
      conv => whnf
      rw [ior_eq (by have := hx.1; omega) (by omega)]
      refine hW _ (fin _ _ (by rw [List.length_set, hX]) hx2 (fun a' c' h1 h2 h3 => ?_))
      rw [gt_set (by omega)]
      by_cases e : a' = a ∧ c' = c
      · rw [if_pos (by omega), e.1, e.2, hDt]
      · rw [if_neg (by omega)]; exact h a' c' h1 h2 (by omega)
    · have hb := b0.mp c1
      rw [if_neg hb] at hx2
      refine hW _ (fin x X hX hx2 (fun a' c' h1 h2 h3 => h a' c' h1 h2 ?_))
      by_cases e : a' = a ∧ c' = c
      · have : D a c ≠ t := fun z => hb ((hm.2 c).mpr ⟨by omega, z⟩)
        rw [e.1, e.2] at h3 ⊢
        omega
      · omega
theorem meas_t (hG : G.wf) (hD : Far G D) (hA : lens A) (hr : isRow (A 18) 0 G) {a T : Nat} (ha : a < G.1) (hT : ∀ v, v < G.1 → D a v < T) (hT2 : T < 1000) {Q : Rs → AH → Prop}
    (hQ : ∀ (X : List Int) (x2 x3 x4 x5 x6 : Option AV), X.length = 256 → FarK X G D (a + 1) 0 0 → wp (d + 2) 338 (106, [some (vR (some M)), some (vI a), x2, x3, x4, x5, x6], [], tw h0 M (up A 25 X) sc) Q) :
    ∀ (j t s m : Nat) (X : List Int) (x5 x6 : Option AV), T = j + t → X.length = 256 → setR G D a t s → moreR G D a t m → FarK X G D a t 0 → wp (d + 2) 338 (21, [some (vR (some M)), some (vI a), some (vI s), some (vI m), some (vI t), x5, x6], [], tw h0 M (up A 25 X) sc) Q := by
  have done : ∀ (t : Nat) (X : List Int), (∀ v, v < G.1 → D a v ≠ t) → FarK X G D a t 0 → FarK X G D (a + 1) 0 0 := fun t X h hF a' c' h1 h2 h3 => hF a' c' h1 h2 (by
    have g := gapR hG hD ha h
    by_cases e : a' < a
    · exact Or.inl e
    · right
      refine ⟨by omega, ?_⟩
      have := g (D a c' - t) c' h2
      omega)
  have zero : ∀ {t m : Nat}, moreR G D a t m → m = 0 → ∀ v, v < G.1 → D a v ≠ t := fun hm h0 v hv e => by
    have := (hm.2 v).mpr ⟨hv, e⟩
    rw [h0] at this
    simp at this
  intro j
  induction j with
  | zero =>
    intro t s m X x5 x6 hj hX hs hm hF
    have hno : ∀ v, v < G.1 → D a v ≠ t := fun v hv e => by have := hT v hv; omega
    have : m = 0 := by
      apply Nat.eq_of_testBit_eq
      intro i
      rw [Nat.zero_testBit]
      cases e : m.testBit i with
      | false => rfl
      | true => exact absurd ((hm.2 i).mp e).2 (hno i ((hm.2 i).mp e).1)
    subst this
    refine wp.go [21, 106] 20 fun W C hW hC => ?_
    refine ⟨fun _ => ?_, fun c => absurd rfl c⟩
    exact hW _ (hQ X _ _ _ _ _ hX (done t X hno hF))
  | succ j ih =>
    intro t s m X x5 x6 hj hX hs hm hF
    refine wp.go [21, 31, 106] 40 fun W C hW hC => ?_
    refine ⟨fun c => ?_, fun c => ?_⟩
    · exact hW _ (hQ X _ _ _ _ _ hX (done t X (zero hm (by omega)) hF))
    · refine hW _ (meas_in hG hA hr ha (by omega) hm (fun Y x hY hx hF2 => ?_) G.1 0 0 X rfl hX ⟨by decide, fun w => ?_⟩ hF)
      · obtain ⟨k1, k2⟩ := bfsR hG hD ha hs hm hx
        refine wp.go [21] 40 fun W C hW hC => ?_
        conv => whnf
        rw [iandn_eq (by have := hx.1; omega) (by have := hs.1; omega), ior_eq (by have := hs.1; omega) (by have := hx.1; omega), iadd_eq (by omega)]
        exact hW _ (ih (t + 1) _ _ Y _ _ (by omega) hY k1 k2 hF2)
      · rw [Nat.zero_testBit]
        constructor
        · intro h; exact absurd h (by decide)
        · rintro ⟨v, h, -⟩; exact absurd h (by omega)
/-- distances stay below the number of carbons -/
theorem Far.small (hG : G.wf) (hD : Far G D) {a : Nat} (ha : a < G.1) : ∀ v, v < G.1 → D a v < 17 := by
  have hn := hG.2.1
  intro v hv
  apply Classical.byContradiction
  intro hbig
  -- one at each distance up to that of v
  have ex : ∀ k, k ≤ D a v → ∃ u, u < G.1 ∧ D a u = k := by
    intro k hk
    apply Classical.byContradiction
    intro hno
    have g := gapR hG hD ha (t := k) (fun u hu e => hno ⟨u, hu, e⟩) (D a v - k) v hv
    omega
  have c1 : ∀ k, k ≤ 17 → k ≤ cnt G.1 fun u => decide (D a u < k) := by
    intro k
    induction k with
    | zero => intro _; omega
    | succ k ih =>
      intro hk
      have := ih (by omega)
      obtain ⟨u, hu, e⟩ := ex k (by omega)
      have hlt := cnt_lt (n := G.1) (p := fun u => decide (D a u < k)) (q := fun u => decide (D a u < k + 1)) (k := u) (fun i _ h => decide_eq_true (by have := of_decide_eq_true h; omega)) hu (decide_eq_false (by omega)) (decide_eq_true (by omega))
      omega
  have := c1 17 (by omega)
  have h2 := cnt_le (fun u => decide (D a u < 17)) G.1
  omega
theorem meas_out (hG : G.wf) (hD : Far G D) (hA : lens A) (hr : isRow (A 18) 0 G) :
    ∀ (j a : Nat) (X : List Int) (x2 x3 x4 x5 x6 : Option AV), j + a = G.1 → X.length = 256 → FarK X G D a 0 0 → wp (d + 2) 338 (2, [some (vR (some M)), some (vI a), x2, x3, x4, x5, x6], [], tw h0 M (up A 25 X) sc) (fun r h' => r = .inl none ∧ ∃ X, h' = tw h0 M (up A 25 X) sc ∧ X.length = 256 ∧ ∀ a c, a < G.1 → c < G.1 → gt X (16 * a + c) = ((D a c : Nat) : Int)) := by
  have hn := hG.2.1
  intro j
  induction j with
  | zero =>
    intro a X x2 x3 x4 x5 x6 hj hX h
    obtain rfl : a = G.1 := by omega
    have hA' : lens (up A 25 X) := hA.up (by rw [hX]; rfl)
    refine wp.go [2] 40 fun W C hW hC => ?_
    refine ⟨_, _, _, _, twF, rfl, rfl, ?_⟩
    refine ⟨_, _, _, twI rfl rfl, rfl, (by omega), gt_at (0) (by omega) (lenlt (j := 18) (hA') (show (0) < 17 by omega)), ?_⟩
    rw [upn_ne _ _ (by decide), hr.1]
    refine ⟨fun _ => ⟨rfl, X, rfl, hX, fun a c h1 h2 => h a c h1 h2 (by omega)⟩, fun c => absurd c (by omega)⟩
  | succ j ih =>
    intro a X x2 x3 x4 x5 x6 hj hX h
    have hA' : lens (up A 25 X) := hA.up (by rw [hX]; rfl)
    have ha : a < G.1 := by omega
    have h00 : D a a = 0 := (hD a a ha ha).2.1.mpr rfl
    have key : ∀ v, (2 ^ a).testBit v = true ↔ v < G.1 ∧ D a v = 0 := by
      intro v
      rw [Nat.testBit_two_pow, decide_eq_true_eq]
      constructor
      · rintro rfl; exact ⟨ha, h00⟩
      · rintro ⟨h1, h2⟩; exact (hD a v ha h1).2.1.mp h2
    refine wp.go [2, 21] 60 fun W C hW hC => ?_
    refine ⟨_, _, _, _, twF, rfl, rfl, ?_⟩
    refine ⟨_, _, _, twI rfl rfl, rfl, (by omega), gt_at (0) (by omega) (lenlt (j := 18) (hA') (show (0) < 17 by omega)), ?_⟩
    rw [upn_ne _ _ (by decide), hr.1]
    refine ⟨fun c => absurd c (by omega), fun _ => ?_⟩
    conv => whnf
    rw [pow_i (by omega)]
    refine hW _ (meas_t hG hD hA hr ha (T := 17) (hD.small hG ha) (by decide) (fun Y y2 y3 y4 y5 y6 hY hF => ?_) 17 0 _ _ X _ _ rfl hX ⟨pow16 (by omega), fun v => by rw [key, Nat.le_zero]⟩ ⟨pow16 (by omega), key⟩ h)
    refine wp.go [2] 20 fun W C hW hC => ?_
    (conv => whnf); simp (disch := omega) only [iadd_eq, isub_eq, imul_eq]
    exact hW _ (ih (a + 1) Y _ _ _ _ _ (by omega) hY hF)
/-- Model.measures -/
theorem measures_spec (hG : G.wf) (hD : Far G D) (hA : lens A) (hr : isRow (A 18) 0 G) : wp (d + 2) 338 (0, ent 7 [vR (some M)], [], tw h0 M A sc) (fun r h' => r = .inl none ∧ ∃ X, h' = tw h0 M (up A 25 X) sc ∧ X.length = 256 ∧ ∀ a c, a < G.1 → c < G.1 → gt X (16 * a + c) = ((D a c : Nat) : Int)) := by
  have hl : (A 25).length = 256 := by rw [hA.eq 25]; rfl
  have key := meas_out (d := d) (h0 := h0) (M := M) (sc := sc) hG hD hA hr G.1 0 (A 25) none none none none none rfl hl (fun a' c' h1 h2 h3 => absurd h3 (by omega))
  rw [upn_self] at key
  refine wp.go [2] 20 fun W C hW hC => ?_
  exact hW _ key
/-- seen and measured -/
def SeenM (A : Nat → List Int) (sc : Nat → Int) (tab : List Tr) (G : Gr) (D : Nat → Nat → Nat) : Prop := Seen A sc tab G D ∧ ∀ a c, a < G.1 → c < G.1 → gt (A 25) (16 * a + c) = ((D a c : Nat) : Int)
abbrev JM : List Nat := [10, 11, 12, 13, 14, 15, 16, 17, 18, 19, 20, 21, 22, 23, 24, 25]
/-- Model.looks -/
theorem looks_spec (hG : G.ok) (hD : Far G D) (hA : lens A) (hr : isRow (A 1) 0 G) : wp (d + 11) 337 (0, ent 1 [vR (some M)], [], tw h0 M A sc) (fun r h' => r = .inl none ∧ ∃ A' sc' tab, h' = tw h0 M A' sc' ∧ SeenM A' sc' tab G D ∧ Fr JM [5, 6] A A' sc sc') := by
  refine wp.go [] 20 fun W C hW hC => ?_
  refine ⟨_, _, _, _, twF, rfl, rfl, ?_⟩
  refine ⟨_, _, _, twF, rfl, ?_⟩
  refine hC _ _ _ (use (looksAt_spec (jr := 1) (w := 0) hG hD hA rfl rfl rfl (by decide) (by rw [hA.eq 1]; decide) (by decide) hr) ?_)
  rintro _ _ ⟨rfl, A1, sc1, tab, rfl, hS, hF⟩
  refine ⟨_, _, _, twF, rfl, ?_⟩
  refine hC _ _ _ (use (wpd.up (show d + 2 ≤ d + 10 by omega) (measures_spec (d := d) hG.1 hD hS.1.1 hS.2.1)) ?_)
  rintro _ _ ⟨rfl, X, rfl, hX, hX2⟩
  refine ⟨rfl, _, sc1, tab, rfl, ⟨⟨⟨hS.1.1.up (by rw [hX]; rfl), hS.1.2⟩, hS.2⟩, fun a c h1 h2 => by rw [up_eq]; exact hX2 a c h1 h2⟩, (hF.wide rfl rfl).trans (Fr.upA rfl)⟩
end MEAS
