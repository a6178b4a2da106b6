def afG (G : Gr) (D : Nat → Nat → Nat) : Nat := match cens G D with
  | [a] => (q9 (kidsT (TT G 16 a)) + 3 * q10 (kidsT (TT G 16 a)) + 8 * q11 (kidsT (TT G 16 a))) / 12
  | a :: b :: _ => if eqT (TT G b a) (TT G a b) = true then formsT (TT G b a) * (formsT (TT G b a) + 1) / 2 else formsT (TT G b a) * formsT (TT G a b)
  | [] => 0
def aoG (G : Gr) (D : Nat → Nat → Nat) : Nat := match cens G D with
  | [a] => (q12 (kidsT (TT G 16 a)) + cond (EL (kidsT (TT G 16 a)) 0 3) (FL (kidsT (TT G 16 a)) 0) 0) / 2
  | a :: b :: _ => if eqT (TT G b a) (TT G a b) = true then (ownT (TT G b a) * ownT (TT G b a) + formsT (TT G b a)) / 2 else ownT (TT G b a) * ownT (TT G a b)
  | [] => 0
def aForms (S : AS) (D : Nat → Nat → Nat) (w : Int) : Int := if 0 ≤ w ∧ w ≤ 2 then (if w = 0 then ((afG S.1 D : Nat) : Int) else if w = 1 then ((aoG S.1 D : Nat) : Int) else ldiv (lsub ((afG S.1 D : Nat) : Int) ((aoG S.1 D : Nat) : Int)) 2) else -1
section FORMS
variable {d : Nat} {h0 : AH} {M : Nat} {A A' : Nat → List Int} {sc sc' : Nat → Int} {tab : List Tr} {G : Gr} {D : Nat → Nat → Nat} {S : AS}
theorem Seen.keep (h : Seen A sc tab G D) (hA : lens A') (hF : Fr [39] [9, 10, 11, 12] A A' sc sc') : Seen A' sc' tab G D := by
  obtain ⟨⟨-, hT, hK, hV, hH, h5⟩, hr, hb, hat, hrt⟩ := h
  have e := fun j (hj : [39].elem j = false) => hF.1 j hj
  unfold Seen Tbl TbK TbV TbH at *
  rw [e 10 rfl, e 11 rfl, e 12 rfl, e 13 rfl, e 14 rfl, e 15 rfl, e 16 rfl, e 17 rfl, e 18 rfl, e 19 rfl, e 20 rfl, hF.2 5 rfl]
  exact ⟨⟨hA, hT, hK, hV, hH, h5⟩, hr, hb, hat, hrt⟩
theorem q_le {l : List Tr} (hl : l.length ≤ 4) (hs : sumS l ≤ 15) : q9 l ≤ 1000000000 ∧ q10 l ≤ 1000000000 ∧ q11 l ≤ 1000000000 ∧ q12 l ≤ 1000000000 := by
  have hFB := four_bnd hl hs
  exact ⟨Nat.le_trans (Nat.div_le_self _ _) (sumg_bd (fun i hi => (g_bd (E := EL l) hFB hi).1) (Nat.le_refl 64)), Nat.le_trans (Nat.div_le_self _ _) (sumg_bd (fun i hi => (g_bd (E := EL l) hFB hi).2.1) (Nat.le_refl 64)), Nat.le_trans (Nat.div_le_self _ _) (sumg_bd (fun i hi => (g_bd (E := EL l) hFB hi).2.2.1) (Nat.le_refl 64)), Nat.le_trans (Nat.div_le_self _ _) (sumg_bd (fun i hi => (g_bd (E := EL l) hFB hi).2.2.2) (Nat.le_refl 64))⟩
theorem allForms_spec (hG : G.ok) (hD : Far G D) (hS : Seen A sc tab G D) : wp (d + 5) 374 (0, ent 5 [vR (some M)], [], tw h0 M A sc) (fun r h' => r = .inl (some (vL ((afG G D : Nat) : Int))) ∧ ∃ A' sc', h' = tw h0 M A' sc' ∧ Seen A' sc' tab G D ∧ Fr [39] [9, 10, 11, 12] A A' sc sc') := by
  have hn := hG.1.2.1
  obtain ⟨hB, hr, hb, hat, hrt⟩ := id hS
  obtain ⟨hA, hTb, hK, hV, hH, -⟩ := id hB
  have h63 := hTb.2.2
  unfold afG
  refine wp.go [] 80 fun W C hW hC => ?_
  refine ⟨_, _, _, twF, rfl, ?_⟩
  refine hC _ _ _ (use (centroidAt_spec (d := d) (k := 0) hG.1 hD hS (by decide)) ?_); rintro _ _ ⟨rfl, rfl⟩
  refine ⟨_, _, _, twF, rfl, ?_⟩
  refine hC _ _ _ (use (centroidAt_spec (d := d) (k := 1) hG.1 hD hS (by decide)) ?_); rintro _ _ ⟨rfl, rfl⟩
  rcases cens_cases hG.1 hD with ⟨c, e, h1, h2⟩ | ⟨a, b, e, h1, h2, h3, h4, h5⟩
  · rw [e]
    have e0 : atN [c] 0 = (c : Int) := rfl
    refine ⟨fun c => absurd rfl c, fun _ => ?_⟩
    rw [e0]
    refine ⟨_, _, _, twF, rfl, ?_⟩
    refine hC _ _ _ (wpd.up (show d + 1 ≤ d + 4 by omega) (rootAt_spec (d := d) hS h1 hn (fun i i1 i2 => ?_)))
    have ht := hTb.2.1 _ (gtT_le i2).2.2
    have hsz := sz_mk (kidsT (TT G 16 c))
    rw [mk_kids _ ht.1] at hsz
    obtain ⟨l9, l10, l11, l12⟩ := q_le ht.2.2.1 (show sumS (kidsT (TT G 16 c)) ≤ 15 by have := ht.2.1; unfold sumS; omega)
    refine ⟨_, _, _, twF, rfl, ?_⟩
    refine hC _ _ _ (use (wpd.up (show d + 2 ≤ d + 4 by omega) (countsRows_spec (d := d) hB i2 ht.2.1)) ?_)
    rintro _ _ ⟨rfl, X, sc1, rfl, hX, hXa, hF, k9, k10, k11, k12⟩
    refine ⟨_, _, _, _, twF, rfl, rfl, ?_⟩
    rw [k9]
    refine ⟨_, _, _, _, twF, rfl, rfl, ?_⟩
    rw [k10]
    refine ⟨_, _, _, _, twF, rfl, rfl, ?_⟩
    rw [k11]
    refine ⟨by decide, ?_⟩
    conv => whnf
    have m3 := lmulN (a := 3) (b := q10 (kidsT (TT G 16 c))) (by omega)
    have m8 := lmulN (a := 8) (b := q11 (kidsT (TT G 16 c))) (by omega)
    have a1 := laddN (a := q9 (kidsT (TT G 16 c))) (b := 3 * q10 (kidsT (TT G 16 c))) (by omega)
    have a2 := laddN (a := q9 (kidsT (TT G 16 c)) + 3 * q10 (kidsT (TT G 16 c))) (b := 8 * q11 (kidsT (TT G 16 c))) (by omega)
    have dd := ldivN (a := q9 (kidsT (TT G 16 c)) + 3 * q10 (kidsT (TT G 16 c)) + 8 * q11 (kidsT (TT G 16 c))) (b := 12) (by omega) (by decide) (by decide)
    have hF2 : Fr [39] [9, 10, 11, 12] A (up A 39 X) sc sc1 := ⟨fun j hj => (Fr.upA (J := [39]) (K := []) (sc := sc) (A := A) (x := X) (j := 39) rfl).1 j hj, hF.2⟩
    refine ⟨?_, _, _, rfl, hS.keep (hA.up (by rw [hX]; rfl)) hF2, hF2⟩
    rw [← dd, ← a2, ← a1, ← m3, ← m8]
    rfl
  · rw [e]
    have ea : atN [a, b] 0 = (a : Int) := rfl
    have eb : atN [a, b] 1 = (b : Int) := rfl
    have hba := (hG.1.2.2 _ _ h3).2.2.1
    obtain ⟨i, i1, i2, i3⟩ := hat a b h3
    obtain ⟨j, j1, j2, j3⟩ := hat b a hba
    have s1 : szT (TT G a b) ≤ 15 := by rw [TT_sz hG.1 hD _ _ h3]; have := bsz_lt hG.1 hD h3; omega
    have s2 : szT (TT G b a) ≤ 15 := by rw [TT_sz hG.1 hD _ _ hba]; have := bsz_lt hG.1 hD hba; omega
    have f1 := Nat.le_trans (forms_le (TT G a b)) (pow15 s1)
    have f2 := Nat.le_trans (forms_le (TT G b a)) (pow15 s2)
    refine ⟨fun _ => ?_, fun c => absurd c (by show ¬ ((b : Nat) : Int) = -1; omega)⟩
    refine ⟨_, _, _, _, twF, rfl, rfl, ?_⟩
    conv => whnf
    rw [ea, eb]
    simp (disch := omega) only [iadd_eq, imul_eq]
    refine ⟨_, _, _, twI rfl rfl, rfl, (by omega), gt_at (16 * b + a) (by omega) (lenlt (j := 19) (hA) (show (16 * b + a) < 272 by omega)), ?_⟩
    rw [j2]
    refine ⟨_, _, _, _, twF, rfl, rfl, ?_⟩
    conv => whnf
    simp (disch := omega) only [iadd_eq, imul_eq]
    refine ⟨_, _, _, twI rfl rfl, rfl, (by omega), gt_at (16 * a + b) (by omega) (lenlt (j := 19) (hA) (show (16 * a + b) < 272 by omega)), ?_⟩
    rw [i2]
    refine ⟨fun c => ?_, fun c => ?_⟩
    · have c2 := fun z => c ((gtT_ne hTb j3 i3).mpr z)
      dsimp only
      rw [if_neg c2]
      refine ⟨_, _, _, _, twF, rfl, rfl, ?_⟩
      refine ⟨_, _, _, twI rfl rfl, rfl, (by omega), gt_at (j) (by omega) (lenlt (j := 14) (hA) (show (j) < 64 by omega)), ?_⟩
      rw [(hV j _ j3).1]
      refine ⟨_, _, _, _, twF, rfl, rfl, ?_⟩
      refine ⟨_, _, _, twI rfl rfl, rfl, (by omega), gt_at (i) (by omega) (lenlt (j := 14) (hA) (show (i) < 64 by omega)), ?_⟩
      rw [(hV i _ i3).1]
      conv => whnf
      rw [lmulN (Nat.le_trans (Nat.mul_le_mul f2 f1) (by decide))]
      exact ⟨rfl, _, _, rfl, hS, Fr.refl⟩
    · have c2 := (gtT_ne hTb j3 i3).mp c
      dsimp only
      rw [if_pos c2]
      refine ⟨_, _, _, _, twF, rfl, rfl, ?_⟩
      refine ⟨_, _, _, twI rfl rfl, rfl, (by omega), gt_at (j) (by omega) (lenlt (j := 14) (hA) (show (j) < 64 by omega)), ?_⟩
      rw [(hV j _ j3).1]
      refine ⟨_, _, _, _, twF, rfl, rfl, ?_⟩
      refine ⟨_, _, _, twI rfl rfl, rfl, (by omega), gt_at (j) (by omega) (lenlt (j := 14) (hA) (show (j) < 64 by omega)), ?_⟩
      rw [(hV j _ j3).1]
      refine ⟨by decide, ?_⟩
      conv => whnf
      have a1 := laddN (a := formsT (TT G b a)) (b := 1) (by omega)
      have f3 : formsT (TT G b a) * (formsT (TT G b a) + 1) ≤ 65536 * 65537 := Nat.mul_le_mul f2 (by omega)
      have m1 := lmulN (a := formsT (TT G b a)) (b := formsT (TT G b a) + 1) (Nat.le_trans f3 (by decide))
      have dd := ldivN (a := formsT (TT G b a) * (formsT (TT G b a) + 1)) (b := 2) (Nat.le_trans f3 (by decide)) (by decide) (by decide)
      refine ⟨?_, _, _, rfl, hS, Fr.refl⟩
      rw [← dd, ← m1, ← a1]
      rfl
end FORMS
