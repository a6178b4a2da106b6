section CHAIN2
variable {d : Nat} {h0 : AH} {M : Nat} {A : Nat → List Int} {sc : Nat → Int} {tab : List Tr} {G : Gr} {D : Nat → Nat → Nat}
abbrev JH : List Nat := [42, 45]
abbrev JN : List Nat := [42, 43, 44, 45]
abbrev KN : List Nat := [13, 14]
/-- the line is kept if it is less -/
theorem keepLeast {L acc : Tx} {x1 x2 x3 x4 : Int} {x5 x6 x7 x8 : Option AV} (h : LineOk A sc L) (hLo : okX L) (hL : L.length ≤ 95) (hL1 : 1 ≤ L.length) (ha : txAt (A 43) 0 (sc 14) acc) (hao : okX acc) (hal : acc.length ≤ 95) :
    wp (d + 3) 384 (130, [some (vR (some M)), some (vI x1), some (vI x2), some (vI x3), some (vI x4), x5, x6, x7, x8], [], tw h0 M A sc) (fun r h' => r = .inl none ∧ ∃ A' sc', h' = tw h0 M A' sc' ∧ lens A' ∧ Fr [43] [14] A A' sc sc' ∧ txAt (A' 43) 0 (sc' 14) (minT acc L)) := by
  obtain ⟨hA, k1, k2⟩ := id h
  have hl43 : (A 43).length = 96 := by rw [hA.eq 43]; rfl
  have copy : ∀ (j i : Nat) (X : List Int), j + i = L.length → X.length = 96 → (∀ m, m < i → gt X m = gt (A 42) m) → wp (d + 3) 384 (156, [some (vR (some M)), some (vI x1), some (vI x2), some (vI x3), some (vI x4), some (vI ((i : Nat) : Int)), x6, x7, x8], [], tw h0 M (up A 43 X) (up sc 14 ((L.length : Nat) : Int))) (fun r h' => r = .inl none ∧ ∃ A' sc', h' = tw h0 M A' sc' ∧ lens A' ∧ Fr [43] [14] A A' sc sc' ∧ txAt (A' 43) 0 (sc' 14) L) := by
    intro j
    induction j with
    | zero =>
      intro i X hj hX he
      obtain rfl : i = L.length := by omega
      refine wp.go [156] 40 fun W C hW hC => ?_
      refine ⟨_, _, _, _, twF, rfl, rfl, ?_⟩
      rw [upn_ne _ _ (show 13 ≠ 14 by decide), k1]
      refine ⟨fun _ => ?_, fun c => absurd c (by omega)⟩
      refine ⟨rfl, _, _, rfl, hA.up (by rw [hX]; rfl), (Fr.upA rfl).trans (Fr.upS rfl), ?_, fun i x hi => ?_⟩
      · rw [up_eq]
      · have hil := (List.getElem?_eq_some_iff.mp hi).1
        have := k2 i x hi
        rw [Nat.zero_add] at this ⊢
        rw [up_eq, he i hil]
        exact this
    | succ j ih =>
      intro i X hj hX he
      have hA2 : lens (up A 43 X) := hA.up (by rw [hX]; rfl)
      have hil : i < L.length := by omega
      have hx := k2 i _ (List.getElem?_eq_getElem hil)
      rw [Nat.zero_add] at hx
      have hxo := hLo _ (List.getElem_mem hil)
      refine wp.go [156] 40 fun W C hW hC => ?_
      refine ⟨_, _, _, _, twF, rfl, rfl, ?_⟩
      rw [upn_ne _ _ (show 13 ≠ 14 by decide), k1]
      refine ⟨fun c => absurd c (by omega), fun _ => ?_⟩
      refine ⟨_, _, _, _, twF, rfl, rfl, ?_⟩
      refine ⟨_, _, _, _, twF, rfl, rfl, ?_⟩
      refine ⟨_, _, _, twI rfl rfl, rfl, (by omega), gt_at (i) (by omega) (lenlt (j := 42) (hA2) (show (i) < 96 by omega)), ?_⟩
      rw [upn_ne _ _ (show 42 ≠ 43 by decide), hx]
      refine ⟨_, _, twI rfl rfl, by omega, (by rw [up_eq, hX]; omega), Or.inl ⟨rfl, ?_⟩⟩
      rw [twSetI rfl rfl, up_up, up_eq, Int.toNat_natCast, i2b_small hxo]
      (conv => whnf); simp (disch := omega) only [iadd_eq, isub_eq, imul_eq]
      refine hW _ (ih (i + 1) _ (by omega) (by rw [List.length_set]; exact hX) fun m hm => ?_)
      rw [gt_set (by omega)]
      by_cases e : m = i
      · rw [if_pos e, e, hx]
      · rw [if_neg e]; exact he m (by omega)
  have take : minT acc L = L → wp (d + 3) 384 (145, [some (vR (some M)), some (vI x1), some (vI x2), some (vI x3), some (vI x4), x5, x6, x7, x8], [], tw h0 M A sc) (fun r h' => r = .inl none ∧ ∃ A' sc', h' = tw h0 M A' sc' ∧ lens A' ∧ Fr [43] [14] A A' sc sc' ∧ txAt (A' 43) 0 (sc' 14) (minT acc L)) := by
    intro e
    rw [e]
    refine wp.go [156] 30 fun W C hW hC => ?_
    refine ⟨_, _, _, _, twF, rfl, rfl, ?_⟩
    rw [k1]
    (refine ⟨_, _, _, twF, rfl, (Nat.le_of_ble_eq_true rfl), ?_⟩; rw [twP14])
    have key := copy L.length 0 (A 43) (by omega) hl43 (fun m hm => absurd hm (Nat.not_lt_zero m))
    rw [upn_self] at key
    exact hW _ key
  refine wp.go [145] 30 fun W C hW hC => ?_
  refine ⟨_, _, _, _, twF, rfl, rfl, ?_⟩
  rw [ha.1]
  refine ⟨fun c => ?_, fun c => ?_⟩
  · refine hW _ (take ?_)
    have : acc = [] := List.length_eq_zero_iff.mp (by omega)
    unfold minT
    rw [if_pos this]
  · have hne : acc ≠ [] := by
      intro q
      rw [q] at c
      simp at c
    refine ⟨_, _, _, twF, rfl, ?_⟩
    refine hC _ _ _ (use (wpd.up (show d + 1 ≤ d + 2 by omega) (againstLeast_spec (d := d) h ha hLo hao (by omega) (by omega))) ?_); rintro _ _ ⟨rfl, rfl⟩
    refine ⟨fun c2 => ?_, fun c2 => ?_⟩
    · refine hW _ (take ?_)
      unfold minT
      rw [if_neg hne, if_pos c2]
    · refine ⟨rfl, A, sc, rfl, hA, Fr.refl, ?_⟩
      unfold minT
      rw [if_neg hne, if_neg (by omega)]
      exact ha
theorem writesChain_spec (hG : G.ok) (hD : Far G D) (hM : SeenM A sc tab G D) {a b : Nat} {fr : Int} (ha : a < G.1) (hb : b < G.1)
    (hT : ∀ i, i ≤ D a b → ∀ x, x ∈ hn G (pthL G D (D a b) a b) fr i → txAt (A 40) (96 * (16 * ptN (pthL G D (D a b) a b) i + x)) (gt (A 41) (16 * ptN (pthL G D (D a b) a b) i + x)) (brT G D (ptN (pthL G D (D a b) a b) i) x) ∧ okX (brT G D (ptN (pthL G D (D a b) a b) i) x) ∧ (brT G D (ptN (pthL G D (D a b) a b) i) x).length ≤ 96)
    (hWo : okX (wayT G D a b fr)) (hWl : (wayT G D a b fr).length ≤ 95) {acc : Tx} (hacc : txAt (A 43) 0 (sc 14) acc) (hao : okX acc) (hal : acc.length ≤ 95) :
    wp (d + 3) 384 (0, ent 9 [vR (some M), vI ((a : Nat) : Int), vI ((b : Nat) : Int), vI fr], [], tw h0 M A sc) (fun r h' => r = .inl none ∧ ∃ A' sc', h' = tw h0 M A' sc' ∧ lens A' ∧ Fr JN KN A A' sc sc' ∧ txAt (A' 43) 0 (sc' 14) (minT acc (wayT G D a b fr))) := by
  have hlt := Far.lt hG.1 hD ha hb
  have hn16 := hG.1.2.1
  have hpl := pth_len (G := G) (D := D) (D a b) a b
  have hpw := pt_way hG.1 hD (D a b) a b ha hb rfl
  refine wp.go [22] 40 fun W C hW hC => ?_
  refine ⟨_, _, _, twF, rfl, ?_⟩
  refine hC _ _ _ (use (laysPath_spec (d := d) hG.1 hD hM ha hb) ?_)
  rintro _ _ ⟨rfl, X, rfl, hX, hXp⟩
  have hA1 : lens (up A 44 X) := hM.1.1.1.up (by rw [hX]; rfl)
  generalize hP : pthL G D (D a b) a b = P at *
  have hr1 : isRow (up A 44 X 18) 0 G := by rw [upn_ne _ _ (by decide)]; exact hM.1.2.1
  (refine ⟨_, _, _, twF, rfl, (Nat.le_of_ble_eq_true rfl), ?_⟩; rw [twP13])
  refine ⟨_, _, _, twF, rfl, ?_⟩
  have hL0 : LineOk (up A 44 X) (up sc 13 0) [] := ⟨hA1, up_eq _ _ _, fun i x hx => by simp at hx⟩
  refine hC _ _ _ (use (writesN_spec (d := d) (v := D a b + 1) hL0 (by decide) (by omega)) ?_)
  rintro _ _ ⟨rfl, A2, sc2, rfl, i1, i2⟩
  rw [List.nil_append] at i1
  have loop : ∀ (j i : Nat) (A' : Nat → List Int) (sc' : Nat → Int) (x6 x7 x8 : Option AV), j + i = D a b + 1 → LineOk A' sc' (chF G (brT G D) P fr i) → Fr JH [13] (up A 44 X) A' (up sc 13 0) sc' → wp (d + 3) 384 (22, [some (vR (some M)), some (vI ((a : Nat) : Int)), some (vI ((b : Nat) : Int)), some (vI fr), some (vI ((D a b + 1 : Nat) : Int)), some (vI ((i : Nat) : Int)), x6, x7, x8], [], tw h0 M A' sc') (fun r h' => r = .inl none ∧ ∃ A' sc', h' = tw h0 M A' sc' ∧ lens A' ∧ Fr JN KN A A' sc sc' ∧ txAt (A' 43) 0 (sc' 14) (minT acc (wayT G D a b fr))) := by
    intro j
    induction j with
    | zero =>
      intro i A' sc' x6 x7 x8 hj hL hF
      obtain rfl : i = D a b + 1 := by omega
      have hway : chF G (brT G D) P fr (D a b + 1) = wayT G D a b fr := by unfold wayT chT; rw [hP, hpl]
      rw [hway] at hL
      refine wp.go [22, 130] 30 fun W C hW hC => ?_
      refine ⟨fun _ => ?_, fun c => absurd c (by omega)⟩
      refine hW _ (use (keepLeast (d := d) hL hWo hWl (by rw [← hway]; exact chF_pos _) (acc := acc) ?_ hao hal) ?_)
      · rw [hF.1 43 rfl, upn_ne _ _ (by decide), hF.2 14 rfl, upn_ne _ _ (by decide)]; exact hacc
      · rintro _ _ ⟨rfl, A3, sc3, rfl, j1, j2, j3⟩
        exact ⟨rfl, A3, sc3, rfl, j1, (((Fr.upA rfl).trans (Fr.upS rfl)).trans (hF.wide rfl rfl)).trans (j2.wide rfl rfl), j3⟩
    | succ j ih =>
      intro i A' sc' x6 x7 x8 hj hL hF
      have hA' := hL.1
      have f18 : A' 18 = up A 44 X 18 := hF.1 18 rfl
      have f44 : A' 44 = X := by rw [hF.1 44 rfl, up_eq]
      have f40 : A' 40 = A 40 := by rw [hF.1 40 rfl, upn_ne _ _ (by decide)]
      have f41 : A' 41 = A 41 := by rw [hF.1 41 rfl, upn_ne _ _ (by decide)]
      have hTi := hT i (by omega)
      have hci := (hpw i (by omega)).1
      have hung := laysHung_spec (d := d) (h0 := h0) (M := M) (sc := sc') (A := A') (P := P) (fr := fr) (i := i) (tx := brT G D (ptN P i)) hG.1 hG.2.1 (by rw [f18]; exact hr1) hA' (fun k hk => by rw [f44]; exact hXp k (by omega)) (by omega) (fun k hk => (hpw k (by omega)).1) (by omega) (fun x hx => by rw [f40, f41]; exact hTi x hx)
      rw [hpl] at hung
      refine wp.go [22, 43] 40 fun W C hW hC => ?_
      refine ⟨fun c => absurd c (by omega), fun _ => ?_⟩
      refine ⟨_, _, _, twF, rfl, ?_⟩
      refine hC _ _ _ (use hung ?_)
      rintro _ _ ⟨rfl, Y, R, rfl, hY, hv, hRm, hRs⟩
      have hA3 : lens (up A' 45 Y) := hA'.up (by rw [hY]; rfl)
      have hRl : (hn G P fr i).length = R.length := by
        have h1 := congrArg List.length hRm
        have h2 := hangT_len (brT G D (ptN P i)) (hn G P fr i)
        unfold hangT at h2
        rw [List.length_reverse] at h2
        rw [List.length_map, h2] at h1
        exact h1.symm
      have hR4 : R.length ≤ 4 := by rw [← hRl]; exact Nat.le_trans (List.length_filter_le _ _) (hG.2.1 (ptN P i))
      have hchain : chF G (brT G D) P fr (i + 1) = chF G (brT G D) P fr i ++ ((R.map (brT G D (ptN P i))).reverse).flatMap (oneT i) := by
        rw [hRm]; rfl
      have hlen : (chF G (brT G D) P fr (i + 1)).length ≤ 95 := by
        have h1 := chF_mono (G := G) (tx := brT G D) (P := P) (fr := fr) j (i + 1)
        have h2 : (chF G (brT G D) P fr (i + 1 + j)).length = (wayT G D a b fr).length := by unfold wayT chT; rw [hP, hpl, show i + 1 + j = D a b + 1 by omega]
        omega
      rw [hRl]
      have key := place_go (d := d) (h0 := h0) (M := M) (a := ((a : Nat) : Int)) (b := ((b : Nat) : Int)) (fr := fr) (many := D a b + 1) (i := i) (R := R) (c := ptN P i) (tx := brT G D (ptN P i)) (L0 := chF G (brT G D) P fr i) (A1 := up A' 45 Y) (sc1 := sc') (by omega) (by omega) hR4 (fun x hx => by
        have hx2 := hRs x hx
        have := hTi x hx2
        rw [upn_ne _ _ (by decide), upn_ne _ _ (by decide), f40, f41]
        exact ⟨by have := (hG.1.2.2 _ _ (hn_mem hG.1 hx2)).2.1; omega, this.2.1, this.2.2, this.1⟩) (by rw [up_eq]; exact hv) (by rw [← hchain]; exact hlen) (Q := fun r h' => r = .inl none ∧ ∃ A' sc', h' = tw h0 M A' sc' ∧ lens A' ∧ Fr JN KN A A' sc sc' ∧ txAt (A' 43) 0 (sc' 14) (minT acc (wayT G D a b fr))) (fun A4 sc4 y7 y8 h4 hF4 => ?_) R.length 0 (up A' 45 Y) sc' x8 (by omega) (by rw [List.take_zero]; simp only [List.flatMap_nil, List.append_nil]; exact hL.frame (J := [45]) (K := []) hA3 (Fr.upA rfl) rfl rfl) Fr.refl
      · exact hW _ key
      · rw [← hchain] at h4
        refine wp.go [22] 10 fun W C hW hC => ?_
        (conv => whnf); simp (disch := omega) only [iadd_eq, isub_eq, imul_eq]
        exact hW _ (ih (i + 1) A4 sc4 _ y7 y8 (by omega) h4 (hF.trans ((Fr.upA rfl).trans (hF4.wide rfl rfl))))
  refine hW _ (loop (D a b + 1) 0 A2 sc2 none none none rfl ?_ (i2.wide rfl rfl))
  show LineOk A2 sc2 (numT P.length)
  rw [hpl]
  exact i1
end CHAIN2
