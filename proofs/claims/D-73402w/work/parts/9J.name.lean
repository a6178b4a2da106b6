/-! THE TWIN's name -/
def pairF (G : Gr) (D : Nat → Nat → Nat) (a : Nat) (acc : Tx) (b : Nat) : Tx := if D a b + 1 = lngG G D then minT acc (wayT G D a b (-1)) else acc
def rowF (G : Gr) (D : Nat → Nat → Nat) (a b : Nat) (acc : Tx) : Tx := (List.range b).foldl (pairF G D a) acc
def allF (G : Gr) (D : Nat → Nat → Nat) (a : Nat) : Tx := (List.range a).foldl (fun acc a => rowF G D a G.1 acc) []
def nameG (G : Gr) (D : Nat → Nat → Nat) : Tx := allF G D G.1
def aName (S : AS) (D : Nat → Nat → Nat) (i : Int) : Int := if i < -1 then -1 else if i = -1 then (((nameG S.1 D).length : Nat) : Int) else if i < (((nameG S.1 D).length : Nat) : Int) then gt (nameG S.1 D) i.toNat else -1
section NAME
variable {d : Nat} {h0 : AH} {M : Nat} {A : Nat → List Int} {sc : Nat → Int} {tab : List Tr} {G : Gr} {D : Nat → Nat → Nat} {S : AS}
abbrev txt80 (t : Tx) : Prop := okX t ∧ t.length ≤ 80
theorem min80 {x y : Tx} (h1 : txt80 x) (h2 : txt80 y) : txt80 (minT x y) := by
  unfold minT
  split
  · exact h2
  · split
    · exact h2
    · exact h1
theorem row80 (hG : G.wf) (hD : Far G D) {a : Nat} (ha : a < G.1) {acc : Tx} (h : txt80 acc) : ∀ b, b ≤ G.1 → txt80 (rowF G D a b acc)
  | 0, _ => h
  | b + 1, hb => by
    unfold rowF
    rw [List.range_succ, List.foldl_append]
    show txt80 (pairF G D a (rowF G D a b acc) b)
    have ih := row80 hG hD ha h b (by omega)
    unfold pairF
    split
    · obtain ⟨w1, w2, w3⟩ := way_len hG hD ha (show b < G.1 by omega)
      exact min80 ih ⟨w1, w3⟩
    · exact ih
theorem all80 (hG : G.wf) (hD : Far G D) : ∀ a, a ≤ G.1 → txt80 (allF G D a)
  | 0, _ => ⟨fun x hx => (nomatch hx), Nat.zero_le _⟩
  | a + 1, ha => by
    unfold allF
    rw [List.range_succ, List.foldl_append]
    show txt80 (rowF G D a G.1 (allF G D a))
    exact row80 hG hD (by omega) (all80 hG hD a (by omega)) G.1 (Nat.le_refl _)
/-- which texts lie there already -/
def nmDone (G : Gr) (D : Nat → Nat → Nat) (A : Nat → List Int) (s a c : Nat) : Prop := ∀ a' c', G.2 a' c' = true → (bsz G D a' c' < s ∨ (bsz G D a' c' = s ∧ (a' < a ∨ (a' = a ∧ c' < c)))) → TxtAt A (16 * a' + c') (brT G D a' c')
theorem names_in (hG : G.ok) (hD : Far G D) {A0 : Nat → List Int} {sc0 : Nat → Int} (hM : SeenM A0 sc0 tab G D) {s a : Nat} (ha : a < G.1) {Q : Rs → AH → Prop}
    (hQ : ∀ A' sc' x4, lens A' → Fr JT KN A0 A' sc0 sc' → nmDone G D A' s (a + 1) 0 → wp (d + 5) 382 (74, [some (vR (some M)), some (vI ((G.1 : Nat) : Int)), some (vI ((s : Nat) : Int)), some (vI ((a : Nat) : Int)), x4], [], tw h0 M A' sc') Q) :
    ∀ (j c : Nat) (A' : Nat → List Int) (sc' : Nat → Int), j + c = G.1 → lens A' → Fr JT KN A0 A' sc0 sc' → nmDone G D A' s a c → wp (d + 5) 382 (28, [some (vR (some M)), some (vI ((G.1 : Nat) : Int)), some (vI ((s : Nat) : Int)), some (vI ((a : Nat) : Int)), some (vI ((c : Nat) : Int))], [], tw h0 M A' sc') Q := by
  have hn16 := hG.1.2.1
  have hrow := row_lt hn16 (c := a)
  intro j
  induction j with
  | zero =>
    intro c A' sc' hj i1 i2 i3
    obtain rfl : c = G.1 := by omega
    refine wp.go [28, 68, 74] 20 fun W C hW hC => ?_
    refine ⟨fun _ => ?_, fun q => absurd q (by omega)⟩
    refine hW _ (hQ A' sc' _ i1 i2 fun a' c' h1 h2 => i3 a' c' h1 ?_)
    have := (hG.1.2.2 _ _ h1).2.1
    omega
  | succ j ih =>
    intro c A' sc' hj i1 i2 i3
    have hM1 : SeenM A' sc' tab G D := hM.keepN i1 i2
    have step : ∀ (A2 : Nat → List Int) (sc2 : Nat → Int), lens A2 → Fr JT KN A0 A2 sc0 sc2 → nmDone G D A2 s a (c + 1) → wp (d + 5) 382 (68, [some (vR (some M)), some (vI ((G.1 : Nat) : Int)), some (vI ((s : Nat) : Int)), some (vI ((a : Nat) : Int)), some (vI ((c : Nat) : Int))], [], tw h0 M A2 sc2) Q := by
      intro A2 sc2 k1 k2 k3
      refine wp.go [28] 10 fun W C hW hC => ?_
      (conv => whnf); simp (disch := omega) only [iadd_eq, isub_eq, imul_eq]
      exact hW _ (ih (c + 1) A2 sc2 (by omega) k1 k2 k3)
    refine wp.go [28, 68, 74] 60 fun W C hW hC => ?_
    refine ⟨fun q => absurd q (by omega), fun _ => ?_⟩
    refine ⟨_, _, _, _, twF, rfl, rfl, ?_⟩
    (conv => whnf); simp (disch := omega) only [iadd_eq, isub_eq, imul_eq]
    refine ⟨_, _, _, twI rfl rfl, rfl, (by omega), gt_at (1 + a) (by omega) (lenlt (j := 18) (i1) (show (1 + a) < 17 by omega)), ?_⟩
    rw [isRow0 hM1.1.2.1 ha]
    refine hC _ _ _ (use (wpd.up (show d + 1 ≤ d + 4 by omega) (has_spec (d := d) (by omega) (by omega))) ?_); rintro _ _ ⟨rfl, rfl⟩
    rw [row_bit hG.1]
    refine ⟨fun q => ?_, fun q => ?_⟩
    · have q2 := b0.mp q
      refine hW _ (step A' sc' i1 i2 fun a' c' h1 h2 => ?_)
      by_cases e : a' = a ∧ c' = c
      · obtain ⟨rfl, rfl⟩ := e
        exact absurd h1 q2
      · exact i3 a' c' h1 (by omega)
    · have q2 := b1.mp q
      have hbb : bB G D a c < 65536 := Nat.lt_of_lt_of_le (bits_lt _ _) (Nat.pow_le_pow_right (n := 2) (by decide) hn16)
      refine ⟨_, _, _, twF, rfl, ?_⟩
      refine hC _ _ _ (use (wpd.up (show d + 2 ≤ d + 4 by omega) (sizeSeen_spec (d := d) i1 (by omega) (by omega) (hM1.1.2.2.1 a c q2) hbb)) ?_); rintro _ _ ⟨rfl, rfl⟩
      rw [bB_size hn16]
      refine ⟨fun q3 => ?_, fun q3 => ?_⟩
      · refine hW _ (step A' sc' i1 i2 fun a' c' h1 h2 => ?_)
        by_cases e : a' = a ∧ c' = c
        · obtain ⟨rfl, rfl⟩ := e
          exact i3 a' c' h1 (by omega)
        · exact i3 a' c' h1 (by omega)
      · have q4 : bsz G D a c = s := by omega
        refine ⟨_, _, _, twF, rfl, ?_⟩
        refine hC _ _ _ (use (writesBranch_spec (d := d) hG hD hM1 q2 (fun a' c' h1 h2 => i3 a' c' h1 (Or.inl (by omega)))) ?_)
        rintro _ _ ⟨rfl, A2, sc2, rfl, k1, k2, k3, k4⟩
        refine hW _ (step A2 sc2 k1 (i2.trans k2) fun a' c' h1 h2 => ?_)
        have hl := hG.1.2.2 _ _ h1
        have hl2 := hG.1.2.2 _ _ q2
        by_cases e : a' = a ∧ c' = c
        · obtain ⟨rfl, rfl⟩ := e
          exact k3
        · obtain ⟨b1, b2, b3⟩ := brT_len hG.1 hD a' c' h1
          have := bsz_lt hG.1 hD h1
          exact k4 _ _ (by omega) (by omega) (by omega) (i3 a' c' h1 (by omega))
theorem names_mid (hG : G.ok) (hD : Far G D) {A0 : Nat → List Int} {sc0 : Nat → Int} (hM : SeenM A0 sc0 tab G D) {s : Nat} {Q : Rs → AH → Prop}
    (hQ : ∀ A' sc' x3 x4, lens A' → Fr JT KN A0 A' sc0 sc' → nmDone G D A' (s + 1) 0 0 → wp (d + 5) 382 (80, [some (vR (some M)), some (vI ((G.1 : Nat) : Int)), some (vI ((s : Nat) : Int)), x3, x4], [], tw h0 M A' sc') Q) :
    ∀ (j a : Nat) (A' : Nat → List Int) (sc' : Nat → Int) (x4 : Option AV), j + a = G.1 → lens A' → Fr JT KN A0 A' sc0 sc' → nmDone G D A' s a 0 → wp (d + 5) 382 (20, [some (vR (some M)), some (vI ((G.1 : Nat) : Int)), some (vI ((s : Nat) : Int)), some (vI ((a : Nat) : Int)), x4], [], tw h0 M A' sc') Q := by
  have hn16 := hG.1.2.1
  intro j
  induction j with
  | zero =>
    intro a A' sc' x4 hj i1 i2 i3
    obtain rfl : a = G.1 := by omega
    refine wp.go [20, 28, 80] 20 fun W C hW hC => ?_
    refine ⟨fun _ => ?_, fun q => absurd q (by omega)⟩
    refine hW _ (hQ A' sc' _ _ i1 i2 fun a' c' h1 h2 => i3 a' c' h1 ?_)
    have := (hG.1.2.2 _ _ h1).1
    omega
  | succ j ih =>
    intro a A' sc' x4 hj i1 i2 i3
    refine wp.go [20, 28, 80] 20 fun W C hW hC => ?_
    refine ⟨fun q => absurd q (by omega), fun _ => ?_⟩
    refine hW _ (names_in (A0 := A0) (sc0 := sc0) hG hD hM (by omega) (fun A2 sc2 y4 k1 k2 k3 => ?_) G.1 0 A' sc' rfl i1 i2 i3)
    refine wp.go [20] 10 fun W C hW hC => ?_
    (conv => whnf); simp (disch := omega) only [iadd_eq, isub_eq, imul_eq]
    exact hW _ (ih (a + 1) A2 sc2 y4 (by omega) k1 k2 k3)
theorem names_out (hG : G.ok) (hD : Far G D) {A0 : Nat → List Int} {sc0 : Nat → Int} (hM : SeenM A0 sc0 tab G D) {Q : Rs → AH → Prop}
    (hQ : ∀ A' sc' x2 x3 x4, lens A' → Fr JT KN A0 A' sc0 sc' → nmDone G D A' G.1 0 0 → wp (d + 5) 382 (86, [some (vR (some M)), some (vI ((G.1 : Nat) : Int)), some (vI x2), x3, x4], [], tw h0 M A' sc') Q) :
    ∀ (j s : Nat) (A' : Nat → List Int) (sc' : Nat → Int) (x3 x4 : Option AV), j + s = G.1 → lens A' → Fr JT KN A0 A' sc0 sc' → nmDone G D A' s 0 0 → wp (d + 5) 382 (13, [some (vR (some M)), some (vI ((G.1 : Nat) : Int)), some (vI ((s : Nat) : Int)), x3, x4], [], tw h0 M A' sc') Q := by
  have hn16 := hG.1.2.1
  intro j
  induction j with
  | zero =>
    intro s A' sc' x3 x4 hj i1 i2 i3
    obtain rfl : s = G.1 := by omega
    refine wp.go [13, 20, 86] 20 fun W C hW hC => ?_
    refine ⟨fun _ => ?_, fun q => absurd q (by omega)⟩
    exact hW _ (hQ A' sc' _ _ _ i1 i2 i3)
  | succ j ih =>
    intro s A' sc' x3 x4 hj i1 i2 i3
    refine wp.go [13, 20, 86] 20 fun W C hW hC => ?_
    refine ⟨fun q => absurd q (by omega), fun _ => ?_⟩
    refine hW _ (names_mid (A0 := A0) (sc0 := sc0) hG hD hM (fun A2 sc2 y3 y4 k1 k2 k3 => ?_) G.1 0 A' sc' x4 rfl i1 i2 i3)
    refine wp.go [13] 10 fun W C hW hC => ?_
    (conv => whnf); simp (disch := omega) only [iadd_eq, isub_eq, imul_eq]
    exact hW _ (ih (s + 1) A2 sc2 y3 y4 (by omega) k1 k2 k3)
/-- ways between each two that are farthest -/
theorem pair_in (hG : G.ok) (hD : Far G D) {A0 : Nat → List Int} {sc0 : Nat → Int} (hM : SeenM A0 sc0 tab G D) (hT : nmDone G D A0 G.1 0 0) {a : Nat} (ha : a < G.1) {acc : Tx} (hac : txt80 acc) {Q : Rs → AH → Prop}
    (hQ : ∀ A' sc' x4, lens A' → Fr JN KN A0 A' sc0 sc' → txAt (A' 43) 0 (sc' 14) (rowF G D a G.1 acc) → wp (d + 5) 382 (144, [some (vR (some M)), some (vI ((G.1 : Nat) : Int)), some (vI ((lngG G D : Nat) - 1 : Int)), some (vI ((a : Nat) : Int)), x4], [], tw h0 M A' sc') Q) :
    ∀ (j b : Nat) (A' : Nat → List Int) (sc' : Nat → Int), j + b = G.1 → lens A' → Fr JN KN A0 A' sc0 sc' → txAt (A' 43) 0 (sc' 14) (rowF G D a b acc) → wp (d + 5) 382 (108, [some (vR (some M)), some (vI ((G.1 : Nat) : Int)), some (vI ((lngG G D : Nat) - 1 : Int)), some (vI ((a : Nat) : Int)), some (vI ((b : Nat) : Int))], [], tw h0 M A' sc') Q := by
  have hn16 := hG.1.2.1
  intro j
  induction j with
  | zero =>
    intro b A' sc' hj i1 i2 i3
    obtain rfl : b = G.1 := by omega
    refine wp.go [108, 138, 144] 20 fun W C hW hC => ?_
    refine ⟨fun _ => ?_, fun q => absurd q (by omega)⟩
    exact hW _ (hQ A' sc' _ i1 i2 i3)
  | succ j ih =>
    intro b A' sc' hj i1 i2 i3
    have hb : b < G.1 := by omega
    have hM1 : SeenM A' sc' tab G D := hM.keepN i1 (i2.wide rfl rfl)
    have step : ∀ (A2 : Nat → List Int) (sc2 : Nat → Int), lens A2 → Fr JN KN A0 A2 sc0 sc2 → txAt (A2 43) 0 (sc2 14) (rowF G D a (b + 1) acc) → wp (d + 5) 382 (138, [some (vR (some M)), some (vI ((G.1 : Nat) : Int)), some (vI ((lngG G D : Nat) - 1 : Int)), some (vI ((a : Nat) : Int)), some (vI ((b : Nat) : Int))], [], tw h0 M A2 sc2) Q := by
      intro A2 sc2 k1 k2 k3
      refine wp.go [108] 10 fun W C hW hC => ?_
      (conv => whnf); simp (disch := omega) only [iadd_eq, isub_eq, imul_eq]
      exact hW _ (ih (b + 1) A2 sc2 (by omega) k1 k2 k3)
    have hsu : rowF G D a (b + 1) acc = pairF G D a (rowF G D a b acc) b := by
      unfold rowF
      rw [List.range_succ, List.foldl_append]
      rfl
    have hfar := hM1.2 a b ha hb
    obtain ⟨o1, o2⟩ := row80 hG.1 hD ha hac b (by omega)
    refine wp.go [108, 138, 144] 40 fun W C hW hC => ?_
    refine ⟨fun q => absurd q (by omega), fun _ => ?_⟩
    refine ⟨_, _, _, _, twF, rfl, rfl, ?_⟩
    (conv => whnf); simp (disch := omega) only [iadd_eq, isub_eq, imul_eq]
    refine ⟨_, _, _, twI rfl rfl, rfl, (by omega), gt_at (16 * a + b) (by omega) (lenlt (j := 25) (i1) (show (16 * a + b) < 256 by omega)), ?_⟩
    rw [hfar]
    refine ⟨fun q => ?_, fun q => ?_⟩
    · refine hW _ (step A' sc' i1 i2 ?_)
      rw [hsu]
      unfold pairF
      rw [if_neg (fun k => q (by omega))]
      exact i3
    · have q2 : D a b + 1 = lngG G D := by omega
      obtain ⟨w1, w2, w3⟩ := way_len hG.1 hD ha hb
      refine ⟨_, _, _, twF, rfl, ?_⟩
      refine hC _ _ _ (use (wpd.up (show d + 3 ≤ d + 4 by omega) (writesChain_spec (d := d) (a := a) (b := b) (fr := -1) hG hD hM1 ha hb (fun k hk x hx => ?_) w1 (by omega) i3 o1 (by omega))) ?_)
      · have hx2 := hn_mem hG.1 hx
        have := hT _ x hx2 (Or.inl (bsz_lt hG.1 hD hx2))
        unfold TxtAt at this
        rw [i2.1 40 rfl, i2.1 41 rfl]
        obtain ⟨b1, b2, b3⟩ := brT_len hG.1 hD _ x hx2
        have := bsz_lt hG.1 hD hx2
        exact ⟨by assumption, b1, by omega⟩
      · rintro _ _ ⟨rfl, A2, sc2, rfl, k1, k2, k3⟩
        refine hW _ (step A2 sc2 k1 (i2.trans k2) ?_)
        rw [hsu]
        unfold pairF
        rw [if_pos q2]
        exact k3
theorem names_tw (h : TW A sc S) (ho : S.ok) (hD : Far S.1 D) : wp (d + 12) 382 (0, ent 5 [vR (some M)], [], tw h0 M A sc) (fun r h' => r = .inl none ∧ ∃ A' sc', h' = tw h0 M A' sc' ∧ TW A' sc' S ∧ txAt (A' 43) 0 (sc' 14) (nameG S.1 D)) := by
  have hG := ho.1
  have hn16 := hG.1.2.1
  have fin : ∀ (A1 : Nat → List Int) (sc1 : Nat → Int) (tab : List Tr), SeenM A1 sc1 tab S.1 D → TW A1 sc1 S → ∀ (x2 : Int) (x3 x4 : Option AV), nmDone S.1 D A1 S.1.1 0 0 → wp (d + 12) 382 (86, [some (vR (some M)), some (vI ((S.1.1 : Nat) : Int)), some (vI x2), x3, x4], [], tw h0 M A1 sc1) (fun r h' => r = .inl none ∧ ∃ A' sc', h' = tw h0 M A' sc' ∧ TW A' sc' S ∧ txAt (A' 43) 0 (sc' 14) (nameG S.1 D)) := by
    intro A1 sc1 tab hM hT1 x2 x3 x4 hN
    have hlng : lngG S.1 D ≤ 16 := by
      unfold lngG
      have : maxR S.1.1 (farC S.1 D) ≤ 15 := maxR_le fun i hi => maxR_le fun k hk => by have := Far.lt hG.1 hD hi hk; omega
      omega
    have hM2 : SeenM A1 (up sc1 14 0) tab S.1 D := hM.keepN hM.1.1.1 (Fr.upS rfl)
    have out : ∀ (j a : Nat) (A' : Nat → List Int) (sc' : Nat → Int) (x4 : Option AV), j + a = S.1.1 → lens A' → Fr JN KN A1 A' (up sc1 14 0) sc' → txAt (A' 43) 0 (sc' 14) (allF S.1 D a) → wp (d + 12) 382 (100, [some (vR (some M)), some (vI ((S.1.1 : Nat) : Int)), some (vI ((lngG S.1 D : Nat) - 1 : Int)), some (vI ((a : Nat) : Int)), x4], [], tw h0 M A' sc') (fun r h' => r = .inl none ∧ ∃ A' sc', h' = tw h0 M A' sc' ∧ TW A' sc' S ∧ txAt (A' 43) 0 (sc' 14) (nameG S.1 D)) := by
      intro j
      induction j with
      | zero =>
        intro a A' sc' x4 hj i1 i2 i3
        obtain rfl : a = S.1.1 := by omega
        refine wp.go [100, 108] 20 fun W C hW hC => ?_
        refine ⟨fun _ => ?_, fun q => absurd q (by omega)⟩
        exact ⟨rfl, A', sc', rfl, hT1.keep i1 ((Fr.upS (J := JN) (K := KN) rfl).trans i2) rfl rfl, i3⟩
      | succ j ih =>
        intro a A' sc' x4 hj i1 i2 i3
        have hN' : nmDone S.1 D A' S.1.1 0 0 := fun a' c' h1 h2 => by
          have := hN a' c' h1 h2
          unfold TxtAt at this ⊢
          rw [i2.1 40 rfl, i2.1 41 rfl]
          exact this
        have hM' : SeenM A' sc' tab S.1 D := hM2.keepN i1 (i2.wide rfl rfl)
        refine wp.go [100, 108] 20 fun W C hW hC => ?_
        refine ⟨fun q => absurd q (by omega), fun _ => ?_⟩
        refine hW _ (pair_in (d := d + 7) (A0 := A') (sc0 := sc') hG hD hM' hN' (show a < S.1.1 by omega) (all80 hG.1 hD a (by omega)) (fun A2 sc2 y4 k1 k2 k3 => ?_) S.1.1 0 A' sc' rfl i1 Fr.refl i3)
        refine wp.go [100] 10 fun W C hW hC => ?_
        (conv => whnf); simp (disch := omega) only [iadd_eq, isub_eq, imul_eq]
        refine hW _ (ih (a + 1) A2 sc2 y4 (by omega) k1 (i2.trans k2) ?_)
        have : allF S.1 D (a + 1) = rowF S.1 D a S.1.1 (allF S.1 D a) := by
          unfold allF
          rw [List.range_succ, List.foldl_append]
          rfl
        rw [this]
        exact k3
    refine wp.go [100] 40 fun W C hW hC => ?_
    refine ⟨_, _, _, twF, rfl, ?_⟩
    refine hC _ _ _ (use (wpd.up (show d + 2 ≤ d + 11 by omega) (longest_spec (d := d) hG.1 hD hM)) ?_); rintro _ _ ⟨rfl, rfl⟩
    conv => whnf
    rw [isub_eq (by omega)]
    (refine ⟨_, _, _, twF, rfl, (Nat.le_of_ble_eq_true rfl), ?_⟩; rw [twP14])
    exact hW _ (out S.1.1 0 A1 (up sc1 14 0) x4 rfl hM.1.1.1 Fr.refl ⟨up_eq _ _ _, fun i x hi => absurd hi (by simp [allF])⟩)
  refine wp.go [13] 40 fun W C hW hC => ?_
  refine ⟨_, _, _, twF, rfl, ?_⟩
  refine hC _ _ _ (use (looks_tw (d := d) h ho hD) ?_)
  rintro _ _ ⟨rfl, A1, sc1, tab, rfl, hM, hT1⟩
  refine ⟨_, _, _, _, twF, rfl, rfl, ?_⟩
  refine ⟨_, _, _, twI rfl rfl, rfl, (by omega), gt_at (0) (by omega) (lenlt (j := 18) (hT1.1) (show (0) < 17 by omega)), ?_⟩
  rw [hM.1.2.1.1]
  refine hW _ (names_out (d := d + 7) (A0 := A1) (sc0 := sc1) hG hD hM (fun A2 sc2 x2 x3 x4 k1 k2 k3 => ?_) (S.1.1 - 1) 1 A1 sc1 none none (by have := hG.1.1; omega) hT1.1 Fr.refl fun a' c' h1 h2 => ?_)
  · exact fin A2 sc2 tab (hM.keepN k1 k2) (hT1.keep k1 k2 rfl rfl) x2 x3 x4 k3
  · have := bsz_pos hG.1 hD h1
    omega
theorem nameG_80 (hG : G.wf) (hD : Far G D) : txt80 (nameG G D) := all80 hG hD G.1 (Nat.le_refl _)
theorem name_tw (h : TW A sc S) (ho : S.ok) (hD : Far S.1 D) {i : Int} : wp (d + 13) 381 (0, ent 2 [vR (some M), vI i], [], tw h0 M A sc) (twEnd h0 M (vI (aName S D i)) S) := by
  obtain ⟨o1, o2⟩ := nameG_80 ho.1.1 hD
  unfold aName
  refine wp.go [] 40 fun W C hW hC => ?_
  refine ⟨fun c => ?_, fun c => ?_⟩
  · rw [if_neg (by omega)]
    refine ⟨_, _, _, twF, rfl, ?_⟩
    refine hC _ _ _ (use (names_tw (d := d) h ho hD) ?_)
    rintro _ _ ⟨rfl, A1, sc1, rfl, hT, hN⟩
    refine ⟨fun c2 => ?_, fun c2 => ?_⟩
    · rw [if_neg c2]
      refine ⟨_, _, _, _, twF, rfl, rfl, ?_⟩
      rw [hN.1]
      refine ⟨fun c3 => ?_, fun c3 => ?_⟩
      · rw [if_neg (by omega)]
        exact ⟨rfl, _, _, rfl, hT⟩
      · rw [if_pos (by omega)]
        obtain ⟨k, rfl⟩ : ∃ k : Nat, i = (k : Int) := ⟨i.toNat, by omega⟩
        have hk : k < (nameG S.1 D).length := by omega
        have hx := hN.2 k _ (List.getElem?_eq_getElem hk)
        rw [Nat.zero_add] at hx
        refine ⟨_, _, _, _, twF, rfl, rfl, ?_⟩
        refine ⟨_, _, _, twI rfl rfl, rfl, (by omega), gt_at (k) (by omega) (lenlt (j := 43) (hT.1) (show (k) < 96 by omega)), ?_⟩
        refine ⟨?_, _, _, rfl, hT⟩
        rw [hx, Int.toNat_natCast]
        unfold gt
        rw [List.getElem?_eq_getElem hk]
        rfl
    · rw [if_pos c2]
      refine ⟨_, _, _, _, twF, rfl, rfl, ?_⟩
      rw [hN.1]
      exact ⟨rfl, _, _, rfl, hT⟩
  · rw [if_pos (by omega)]
    exact ⟨rfl, _, _, rfl, h⟩
end NAME
