section FORMS2
variable {d : Nat} {h0 : AH} {M : Nat} {A A' : Nat → List Int} {sc sc' : Nat → Int} {tab : List Tr} {G : Gr} {D : Nat → Nat → Nat} {S : AS}
theorem allOwn_spec (hG : G.ok) (hD : Far G D) (hS : Seen A sc tab G D) : wp (d + 5) 378 (0, ent 5 [vR (some M)], [], tw h0 M A sc) (fun r h' => r = .inl (some (vL ((aoG G D : Nat) : Int))) ∧ ∃ A' sc', h' = tw h0 M A' sc' ∧ Seen A' sc' tab G D ∧ Fr [39] [9, 10, 11, 12] A A' sc sc') := by
  have hn := hG.1.2.1
  obtain ⟨hB, hr, hb, hat, hrt⟩ := id hS
  obtain ⟨hA, hTb, hK, hV, hH, -⟩ := id hB
  have h63 := hTb.2.2
  unfold aoG
  refine wp.go [] 80 fun W C hW hC => ?_
  refine ⟨_, _, _, twF, rfl, ?_⟩
  refine hC _ _ _ (use (centroidAt_spec (d := d) (k := 0) hG.1 hD hS (by decide)) ?_); rintro _ _ ⟨rfl, rfl⟩
  refine ⟨_, _, _, twF, rfl, ?_⟩
  refine hC _ _ _ (use (centroidAt_spec (d := d) (k := 1) hG.1 hD hS (by decide)) ?_); rintro _ _ ⟨rfl, rfl⟩
  rcases cens_cases hG.1 hD with ⟨c, e, h1, h2⟩ | ⟨a, b, e, h1, h2, h3, h4, h5⟩
  · rw [e]
    have e0 : atN [c] 0 = (c : Int) := rfl
    refine ⟨fun c => absurd rfl c, fun _ => ?_⟩
    rw [e0]
    refine ⟨_, _, _, twF, rfl, ?_⟩
    refine hC _ _ _ (wpd.up (show d + 1 ≤ d + 4 by omega) (rootAt_spec (d := d) hS h1 hn (fun i i1 i2 => ?_)))
    have ht := hTb.2.1 _ (gtT_le i2).2.2
    have hsz := sz_mk (kidsT (TT G 16 c))
    rw [mk_kids _ ht.1] at hsz
    have hsum : sumS (kidsT (TT G 16 c)) ≤ 15 := by have := ht.2.1; unfold sumS; omega
    obtain ⟨l9, l10, l11, l12⟩ := q_le ht.2.2.1 hsum
    have fb := (fO_le hsum 0).1
    refine ⟨_, _, _, twF, rfl, ?_⟩
    refine hC _ _ _ (use (wpd.up (show d + 2 ≤ d + 4 by omega) (countsRows_spec (d := d) hB i2 ht.2.1)) ?_)
    rintro _ _ ⟨rfl, X, sc1, rfl, hX, hXa, hF, k9, k10, k11, k12⟩
    have hA1 : lens (up A 39 X) := hA.up (by rw [hX]; rfl)
    have hF2 : Fr [39] [9, 10, 11, 12] A (up A 39 X) sc sc1 := ⟨fun j hj => (Fr.upA (J := [39]) (K := []) (sc := sc) (A := A) (x := X) (j := 39) rfl).1 j hj, hF.2⟩
    have hS1 := hS.keep hA1 hF2
    obtain ⟨y, y1, y2, y3⟩ := hXa 0 (by decide)
    obtain ⟨z, z1, z2, z3⟩ := hXa 3 (by decide)
    have ok : ∀ k : Nat, okO (kidsT (TT G 16 c))[k]? := by
      intro k
      cases e : (kidsT (TT G 16 c))[k]? with
      | none => trivial
      | some v => exact ok_kid _ ht.1 v (List.mem_of_getElem? e)
    have hE : EL (kidsT (TT G 16 c)) 0 3 = true ↔ y = z := by
      unfold EL
      rw [eqO_iff (ok 0) (ok 3)]
      constructor
      · intro e; exact gtT_inj hTb.1 y1 z1 (by rw [y3, z3, e])
      · rintro rfl; rw [← y3, ← z3]
    have hf := (hV.f hH y1).1
    rw [y3] at hf
    refine ⟨_, _, _, _, twF, rfl, rfl, ?_⟩
    refine ⟨_, _, _, twI rfl rfl, rfl, (by omega), gt_at (0) (by omega) (lenlt (j := 39) (hA1) (show (0) < 4 by omega)), ?_⟩
    rw [up_eq, y2]
    refine ⟨_, _, _, _, twF, rfl, rfl, ?_⟩
    refine ⟨_, _, _, twI rfl rfl, rfl, (by omega), gt_at (3) (by omega) (lenlt (j := 39) (hA1) (show (3) < 4 by omega)), ?_⟩
    rw [up_eq, z2]
    refine ⟨fun n => ?_, fun n => ?_⟩
    · have : EL (kidsT (TT G 16 c)) 0 3 = false := by
        cases q : EL (kidsT (TT G 16 c)) 0 3 with
        | false => rfl
        | true => exact absurd (congrArg Nat.cast (hE.mp q)) n
      dsimp only
      rw [this]
      refine ⟨_, _, _, _, twF, rfl, rfl, ?_⟩
      rw [k12]
      refine ⟨by decide, ?_⟩
      conv => whnf
      have a1 := laddN (a := q12 (kidsT (TT G 16 c))) (b := 0) (by omega)
      have dd := ldivN (a := q12 (kidsT (TT G 16 c)) + 0) (b := 2) (by omega) (by decide) (by decide)
      refine ⟨?_, _, _, rfl, hS1, hF2⟩
      show _ = Sum.inl (some (vL (((q12 (kidsT (TT G 16 c)) + 0) / 2 : Nat) : Int)))
      rw [← dd, ← a1]
      rfl
    · dsimp only
      rw [hE.mpr (by omega)]
      refine ⟨_, _, _, _, twF, rfl, rfl, ?_⟩
      refine ⟨_, _, _, _, twF, rfl, rfl, ?_⟩
      refine ⟨_, _, _, twI rfl rfl, rfl, (by omega), gt_at (0) (by omega) (lenlt (j := 39) (hA1) (show (0) < 4 by omega)), ?_⟩
      rw [up_eq, y2]
      refine ⟨_, _, _, twI rfl rfl, rfl, (by omega), gt_at (y) (by omega) (lenlt (j := 14) (hA1) (show (y) < 64 by omega)), ?_⟩
      rw [upn_ne _ _ (by decide), hf]
      refine ⟨_, _, _, _, twF, rfl, rfl, ?_⟩
      rw [k12]
      refine ⟨by decide, ?_⟩
      conv => whnf
      have a1 := laddN (a := q12 (kidsT (TT G 16 c))) (b := fO (kidsT (TT G 16 c))[0]?) (by omega)
      have dd := ldivN (a := q12 (kidsT (TT G 16 c)) + fO (kidsT (TT G 16 c))[0]?) (b := 2) (by omega) (by decide) (by decide)
      refine ⟨?_, _, _, rfl, hS1, hF2⟩
      show _ = Sum.inl (some (vL (((q12 (kidsT (TT G 16 c)) + fO (kidsT (TT G 16 c))[0]?) / 2 : Nat) : Int)))
      rw [← dd, ← a1]
      rfl
  · rw [e]
    have ea : atN [a, b] 0 = (a : Int) := rfl
    have eb : atN [a, b] 1 = (b : Int) := rfl
    have hba := (hG.1.2.2 _ _ h3).2.2.1
    obtain ⟨i, i1, i2, i3⟩ := hat a b h3
    obtain ⟨j, j1, j2, j3⟩ := hat b a hba
    have s1 : szT (TT G a b) ≤ 15 := by rw [TT_sz hG.1 hD _ _ h3]; have := bsz_lt hG.1 hD h3; omega
    have s2 : szT (TT G b a) ≤ 15 := by rw [TT_sz hG.1 hD _ _ hba]; have := bsz_lt hG.1 hD hba; omega
    have f1 := Nat.le_trans (own_le (TT G a b)) (pow15 s1)
    have f2 := Nat.le_trans (own_le (TT G b a)) (pow15 s2)
    have f0 := Nat.le_trans (forms_le (TT G b a)) (pow15 s2)
    refine ⟨fun _ => ?_, fun c => absurd c (by show ¬ ((b : Nat) : Int) = -1; omega)⟩
    refine ⟨_, _, _, _, twF, rfl, rfl, ?_⟩
    conv => whnf
    rw [ea, eb]
    simp (disch := omega) only [iadd_eq, imul_eq]
    refine ⟨_, _, _, twI rfl rfl, rfl, (by omega), gt_at (16 * b + a) (by omega) (lenlt (j := 19) (hA) (show (16 * b + a) < 272 by omega)), ?_⟩
    rw [j2]
    refine ⟨_, _, _, _, twF, rfl, rfl, ?_⟩
    conv => whnf
    simp (disch := omega) only [iadd_eq, imul_eq]
    refine ⟨_, _, _, twI rfl rfl, rfl, (by omega), gt_at (16 * a + b) (by omega) (lenlt (j := 19) (hA) (show (16 * a + b) < 272 by omega)), ?_⟩
    rw [i2]
    refine ⟨fun c => ?_, fun c => ?_⟩
    · have c2 := fun z => c ((gtT_ne hTb j3 i3).mpr z)
      dsimp only
      rw [if_neg c2]
      refine ⟨_, _, _, _, twF, rfl, rfl, ?_⟩
      refine ⟨_, _, _, twI rfl rfl, rfl, (by omega), gt_at (j) (by omega) (lenlt (j := 15) (hA) (show (j) < 64 by omega)), ?_⟩
      rw [(hV j _ j3).2.1]
      refine ⟨_, _, _, _, twF, rfl, rfl, ?_⟩
      refine ⟨_, _, _, twI rfl rfl, rfl, (by omega), gt_at (i) (by omega) (lenlt (j := 15) (hA) (show (i) < 64 by omega)), ?_⟩
      rw [(hV i _ i3).2.1]
      conv => whnf
      rw [lmulN (Nat.le_trans (Nat.mul_le_mul f2 f1) (by decide))]
      exact ⟨rfl, _, _, rfl, hS, Fr.refl⟩
    · have c2 := (gtT_ne hTb j3 i3).mp c
      dsimp only
      rw [if_pos c2]
      refine ⟨_, _, _, _, twF, rfl, rfl, ?_⟩
      refine ⟨_, _, _, twI rfl rfl, rfl, (by omega), gt_at (j) (by omega) (lenlt (j := 15) (hA) (show (j) < 64 by omega)), ?_⟩
      rw [(hV j _ j3).2.1]
      refine ⟨_, _, _, _, twF, rfl, rfl, ?_⟩
      refine ⟨_, _, _, twI rfl rfl, rfl, (by omega), gt_at (j) (by omega) (lenlt (j := 15) (hA) (show (j) < 64 by omega)), ?_⟩
      rw [(hV j _ j3).2.1]
      refine ⟨_, _, _, _, twF, rfl, rfl, ?_⟩
      conv => whnf
      have f3 : ownT (TT G b a) * ownT (TT G b a) ≤ 65536 * 65536 := Nat.mul_le_mul f2 f2
      rw [lmulN (Nat.le_trans f3 (by decide))]
      refine ⟨_, _, _, twI rfl rfl, rfl, (by omega), gt_at (j) (by omega) (lenlt (j := 14) (hA) (show (j) < 64 by omega)), ?_⟩
      rw [(hV j _ j3).1]
      refine ⟨by decide, ?_⟩
      conv => whnf
      have f4 : ownT (TT G b a) * ownT (TT G b a) + formsT (TT G b a) ≤ 65536 * 65536 + 65536 := Nat.add_le_add f3 f0
      have a1 := laddN (a := ownT (TT G b a) * ownT (TT G b a)) (b := formsT (TT G b a)) (Nat.le_trans f4 (by decide))
      have dd := ldivN (a := ownT (TT G b a) * ownT (TT G b a) + formsT (TT G b a)) (b := 2) (Nat.le_trans f4 (by decide)) (by decide) (by decide)
      refine ⟨?_, _, _, rfl, hS, Fr.refl⟩
      rw [← dd, ← a1]
      rfl
theorem forms_tw (h : TW A sc S) (ho : S.ok) (hD : Far S.1 D) {w : Int} : wp (d + 12) 373 (0, ent 2 [vR (some M), vI w], [], tw h0 M A sc) (twEnd h0 M (vL (aForms S D w)) S) := by
  have hn := ho.1.1.2.1
  unfold aForms
  refine wp.go [] 60 fun W C hW hC => ?_
  refine hC _ _ _ (use (wpd.up (show d + 1 ≤ d + 11 by omega) (isIn_s (d := d) _ _ _ _)) ?_); rintro _ _ ⟨rfl, rfl⟩
  refine ⟨fun c1 => ?_, fun c1 => ?_⟩
  rotate_left
  · rw [if_neg (b0.mp c1)]
    exact ⟨rfl, _, _, rfl, h⟩
  have c1 := b1.mp c1
  rw [if_pos c1]
  refine ⟨_, _, _, twF, rfl, ?_⟩
  refine hC _ _ _ (use (looks_tw h ho hD) ?_)
  rintro _ _ ⟨rfl, A1, sc1, tab, rfl, hM, hT⟩
  refine ⟨fun c2 => ?_, fun c2 => ?_⟩
  · rw [if_neg c2]
    refine ⟨fun c3 => ?_, fun c3 => ?_⟩
    · rw [if_neg c3]
      refine ⟨_, _, _, twF, rfl, ?_⟩
      refine hC _ _ _ (use (wpd.up (show d + 5 ≤ d + 11 by omega) (allForms_spec (d := d) ho.1 hD hM.1)) ?_)
      rintro _ _ ⟨rfl, A2, sc2, rfl, hS2, hF2⟩
      refine ⟨_, _, _, twF, rfl, ?_⟩
      refine hC _ _ _ (use (wpd.up (show d + 5 ≤ d + 11 by omega) (allOwn_spec (d := d) ho.1 hD hS2)) ?_)
      rintro _ _ ⟨rfl, A3, sc3, rfl, hS3, hF3⟩
      refine ⟨by decide, ?_⟩
      exact ⟨rfl, _, _, rfl, (hT.keep hS2.1.1 hF2 rfl rfl).keep hS3.1.1 hF3 rfl rfl⟩
    · rw [if_pos c3]
      refine ⟨_, _, _, twF, rfl, ?_⟩
      refine hC _ _ _ (use (wpd.up (show d + 5 ≤ d + 11 by omega) (allOwn_spec (d := d) ho.1 hD hM.1)) ?_)
      rintro _ _ ⟨rfl, A2, sc2, rfl, hS2, hF2⟩
      exact ⟨rfl, _, _, rfl, hT.keep hS2.1.1 hF2 rfl rfl⟩
  · rw [if_pos c2]
    refine ⟨_, _, _, twF, rfl, ?_⟩
    refine hC _ _ _ (use (wpd.up (show d + 5 ≤ d + 11 by omega) (allForms_spec (d := d) ho.1 hD hM.1)) ?_)
    rintro _ _ ⟨rfl, A2, sc2, rfl, hS2, hF2⟩
    exact ⟨rfl, _, _, rfl, hT.keep hS2.1.1 hF2 rfl rfl⟩
end FORMS2
