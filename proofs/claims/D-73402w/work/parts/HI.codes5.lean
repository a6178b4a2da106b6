/-! codesOf: a size that is asked for the first time -/
abbrev hsOk (h : AH) (x z u : Nat) : Prop := (h.S 4 = some z ∧ h.R z = (206, []) ∧ z < x) ∧ h.S 7 = some u ∧ h.F u = (228, []) ∧ u < x
theorem ones_ck : (List.range 12).all (fun n => Nat.ble (9 * (rowsB brL 4 (n - 1) ((n - 1) / 2) none).length + e96 n) 1436) = true := by decide +kernel
theorem ones_c {n : Nat} (h2 : n ≤ 11) : 9 * (onesL n).length + e96 n ≤ 1436 := by
  have := List.all_eq_true.mp ones_ck n (List.mem_range.mpr (by omega))
  unfold onesL
  rw [List.length_map]
  exact Nat.le_of_ble_eq_true this
section MISS
variable {d x z : Nat} {ld : Int} {nw : Nat} {wh nm : Option Nat} {tp : Nat} {h : AH} {P : Nat → Prop} {eB : Nat} {mB : Int} {lB : List Nat} {kB : Nat} {n u : Nat} {cs : List (Option Nat)}
theorem codFin.wide {c c' σ σ' : Nat} {r : Rs} {h' : AH} {fl : List AV} {eB1 : Nat} (k : codFin x z fl h eB P eB1 mB lB kB n cs c σ r h') (w1 : c ≤ c') (w2 : σ ≤ σ') : codFin x z fl h eB P eB1 mB lB kB n cs c' σ' r h' := by
  obtain ⟨rr, e1, e2, e3, e4, e5, e6, e7⟩ := k
  exact ⟨rr, e1, e2, e3, by omega, e5, by omega, e7⟩
/-- behind the branches: the map and its first iterator -/
theorem miss_st {P1 P2 : Nat → Prop} {G2 g1 g3 : AH} {eB1 : Nat} {mB1 : Int} {lB1 : List Nat} {kB1 e1 : Nat} {m1 : Int} {l1 : List Nat} {k1 : Nat} {refs1 : List (Option Nat)} {Ts : List Tr} {cc : Nat} (hx : x + 87 < h.sz) (heB1 : eB ≠ x + 1) (E2 : ext 2 7 h G2) (hz2 : G2.sz = h.sz + 2) (hcc : cc ≤ 820) (hTl : Ts.length ≤ 160)
    (b1 : bL x z (flC x ld nw wh nm tp) P1 g1 eB1 mB1 lB1 kB1) (d1 : bD x P G2 eB 240 7200 P1 g1 eB1) (hi : hI x (h.sz + 1) h.sz (flC x ld nw wh nm tp) eB1 mB1 lB1 kB1 lB1.length P2 g3 e1 m1 l1 k1 Ts refs1) (hd : hD (h.sz + 1) h.sz P1 g1 z [] [none, none, none, none] 0 cc P2 g3 e1 l1 refs1) (hP : ∀ v, P v → v < h.sz) (hRe : eB < h.sz) :
    bL x z (flC x ld nw wh nm tp) P2 g3 eB1 mB1 lB1 kB1 ∧ frH 1062 57407 (x + 1) (x + 1) eB h g3 ∧ (eB1 = eB ∨ h.sz ≤ eB1) ∧ (∀ v, P2 v → P v ∨ h.sz ≤ v) ∧ h.sz + 2 ≤ g3.sz := by
  obtain ⟨i1, i2, i3, ⟨i4, i5, i6⟩, ⟨i7, i8, i9, i10⟩, ⟨i11, i12, i13⟩, i14, i15⟩ := hi
  obtain ⟨⟨f1, f2, f3, f4, f5, f6⟩, q2, q3, q4, q5, q6, q7⟩ := hd
  obtain ⟨⟨c1, c2, c3, c4, c5, c6⟩, c7, c8, c9⟩ := d1
  obtain ⟨⟨b1a, b1a'⟩, b2, b3, b4, b5, ⟨b6, b7, b8⟩⟩ := b1
  obtain ⟨v1, v2, v3, v4, v5, v6⟩ := E2
  have hll : l1.length * l1.length ≤ 160 * 160 := Nat.mul_le_mul (by omega) (by omega)
  have Rz : ∀ v, v < g1.sz → v ≠ h.sz + 1 → g3.R v = g1.R v := fun v hv w => (f6 v hv).2.1 w (fun _ => by rw [b7])
  refine ⟨⟨i1, i2, fun v hv => ⟨(i3 v hv).1, (i3 v hv).2.1⟩, ?_, b5, by rw [f5]; exact b6, (Rz z (by omega) (by omega)).trans b7, b8⟩, ⟨by omega, by omega, by omega, ?_, f5.trans (c5.trans v6), fun v hv => ?_⟩, by omega, fun v hv => ?_, by omega⟩
  · rw [Rz eB1 b2.2.1 i15]
    exact b4
  · have : ([] : List Nat).length * ([] : List Nat).length = 0 := rfl
    omega
  · have p1 := v5 v hv
    have p2 := c6 v (by omega)
    have p3 := f6 v (by omega)
    refine ⟨p3.1.trans (p2.1.trans p1.1), fun w1 w2 => (Rz v (by omega) (by omega)).trans ((p2.2.1 w1 (fun q => ?_)).trans p1.2.1), fun w => (p3.2.2 (by omega)).trans ((p2.2.2 w).trans p1.2.2)⟩
    rw [(v5 eB hRe).2.1]
    exact w2 q
  · rcases q4 v hv with q | q
    · rcases c9 v q with w | w
      · exact Or.inl w
      · exact Or.inr (by omega)
    · exact Or.inr (by omega)
theorem miss_spec (h1 : 1 ≤ n) (h2 : n ≤ 11) (ho : hsOk h x z u) (hb : bL x z (flC x ld nw wh nm tp) P h eB mB lB kB) (hcs : h.R (x + 2) = (3, cs)) (hc12 : cs.length = 12) (hcn : cs[n]? = some none) (he2 : eB ≠ x + 2) :
    wp (d + 41) 189 (0, ent 8 [vR (some x), vI ((n : Nat) : Int)], [], h) (fun r h' => ∃ P' eB' mB' lB' kB', codFin x z (flC x ld nw wh nm tp) h eB P' eB' mB' lB' kB' n cs 2500 85000 r h' ∧ (∀ v, P' v → P v ∨ h.sz ≤ v) ∧ (eB' = eB ∨ h.sz ≤ eB')) := by
  obtain ⟨⟨o1, o2, o3⟩, o4, o5, o6⟩ := ho
  have hx := hb.1.2
  have hgc := hgC_at h2
  have hne1 := hb.2.2.2.2.1
  have hPz : ∀ v, P v → v < h.sz := fun v hv => (hb.2.2.1 v hv).2
  obtain ⟨G1, eG1⟩ : ∃ G, G = (h.newF 10 [vI 0, vR none, vI 0]).setF h.sz [vI 0, vR (some z), vI 0] := ⟨_, rfl⟩
  have z1 : G1.sz = h.sz + 1 := by rw [eG1]; rfl
  obtain ⟨G2, eG2⟩ : ∃ G, G = G1.newR 1 [none, none, none, none] := ⟨_, rfl⟩
  have z2 : G2.sz = h.sz + 2 := by rw [eG2, ← show h.sz + 1 + 1 = h.sz + 2 from rfl, ← z1]; rfl
  have E1 : ext 1 3 h G1 := by rw [eG1]; exact ext_newF.setF (Nat.le_refl _)
  have E2 : ext 2 7 h G2 := by rw [eG2]; exact E1.trans ext_newR
  have hb2 := hb.st (stI.ofExt (it := h.sz) E2) (fun q => absurd (hPz _ q) (by omega)) (by omega) (by omega)
  have F1 : G1.F h.sz = (10, [vI 0, vR (some z), vI 0]) := by rw [eG1]; exact setF_at newF_at
  have A2 : AL G2 h.sz z 0 [] 0 := ⟨by rw [eG2]; exact F1, Or.inr ⟨rfl, rfl, by rw [E2.2.2.2.2.2]; exact o1, by rw [(E2.2.2.2.2.1 z (by omega)).2.1]; exact o2⟩⟩
  have R2 : G2.R (h.sz + 1) = (1, [none, none, none, none]) := by rw [eG2, ← z1]; exact newR_at
  have hg := hangs_gen (d := d) (left := n - 1) (most := (n - 1) / 2) (ρ := h.sz + 1) (ι := h.sz) (by omega) (by omega) hb2 ⟨A2, by omega, by omega, fun q => absurd (hPz _ q) (by omega)⟩ ⟨R2, by omega, by omega, fun q => absurd (hPz _ q) (by omega)⟩ (by have := hb.2.1.2.1; omega) (by omega)
  refine wp.go [58] 200 fun W C0 hW hC => ?_
  refine ⟨_, _, _, _, hb.1.1, rfl, rfl, ?_⟩
  refine ⟨_, _, _, hcs, by decide, by omega, by rw [Int.toNat_natCast]; exact hcn, ?_⟩
  refine hC _ _ _ (use (wpd.up (by omega) (alInit_spec (d := 0) newF_at (show (h.newF 10 [vI 0, vR none, vI 0]).S 4 = some z from o1) (show (h.newF 10 [vI 0, vR none, vI 0]).R z = (206, []) from o2))) ?_)
  rintro _ g1 ⟨rfl, he, -⟩
  rw [he, ← eG1]
  refine ⟨by decide, ?_⟩
  refine ⟨by decide, by decide, ?_⟩
  rw [show List.replicate (4 : Int).toNat (none : Option Nat) = [none, none, none, none] from rfl, ← eG2]
  refine ⟨_, _, _, hb2.1.1, rfl, ?_⟩
  conv => whnf
  rw [isub_eq (by omega), idiv_eq ⟨by omega, by omega⟩ ⟨by omega, by omega⟩, show ((n : Nat) : Int) - 1 = ((n - 1 : Nat) : Int) by omega, show ((n - 1 : Nat) : Int) / 2 = (((n - 1) / 2 : Nat) : Int) by omega]
  rw [show G1.sz = h.sz + 1 from z1]
  refine hC _ _ _ (use (wpd.up (by omega) hg) ?_)
  rintro _ g3 ⟨g1, P1, eB1, mB1, lB1, kB1, b1, d1, rfl, P2, e1, m1, l1, k1, refs1, hi, hdd⟩
  obtain ⟨c1, c2, c3, c4, c5⟩ := miss_st (Ts := onesL n) hx hne1 E2 z2 hgc.1 (by unfold onesL; rw [List.length_map]; exact hgc.2) b1 d1 hi hdd hPz hb.2.1.2.1
  have c1z : ∀ v, P2 v → v < g3.sz := fun v hv => (c1.2.2.1 v hv).2
  obtain ⟨G4, eG4⟩ : ∃ G, G = (g3.newF 12 [vR none, vR none, vR none, vR none, vI 0, vI 0, vR none, vR none, vR none]).setF g3.sz (tmL none none 0 0) := ⟨_, rfl⟩
  have z4 : G4.sz = g3.sz + 1 := by rw [eG4]; rfl
  obtain ⟨G5, eG5⟩ : ∃ G, G = G4.newF 11 [vI 0, vI (-1), vI m1, vR (some h.sz)] := ⟨_, rfl⟩
  have z5 : G5.sz = g3.sz + 2 := by rw [eG5, ← show g3.sz + 1 + 1 = g3.sz + 2 from rfl, ← z4]; rfl
  have E4 : ext 1 9 g3 G4 := by rw [eG4]; exact ext_newF.setF (Nat.le_refl _)
  have E5 : ext 2 13 g3 G5 := by rw [eG5]; exact E4.trans ext_newF
  have hb5 := c1.st (stI.ofExt (it := g3.sz) E5) (fun q => absurd (c1z _ q) (by omega)) (by omega) (by omega)
  obtain ⟨j1, j2, j3, ⟨j4, j5, j6⟩, ⟨j7, j8, j9, j10⟩, -⟩ := id hi
  have AL4 : AL G4 h.sz e1 m1 l1 k1 := j4.to E4.2.2.2.2.2 (E4.2.2.2.2.1 h.sz j8).2.2 (E4.2.2.2.2.1 e1 j9).2.1
  have AL5 : AL G5 h.sz e1 m1 l1 k1 := j4.to E5.2.2.2.2.2 (E5.2.2.2.2.1 h.sz j8).2.2 (E5.2.2.2.2.1 e1 j9).2.1
  have PG : ∀ v, P2 v → P2 v ∧ G5.R v = g3.R v ∧ G5.F v = g3.F v := fun v hv => ⟨hv, (E5.2.2.2.2.1 v (c1z v hv)).2.1, (E5.2.2.2.2.1 v (c1z v hv)).2.2⟩
  have kS : cS x z (flC x ld nw wh nm tp) h eB g3.sz P2 G5 eB1 mB1 lB1 kB1 [] (fun _ => (none, none)) (fun _ => []) n 0 [] 1064 57420 := by
    obtain ⟨p1, p2, p3, p4, p5, p6⟩ := c2
    have q1 := E5.2.2.1
    have q2 := E5.2.2.2.1
    refine ⟨hb5, ⟨⟨by omega, by omega, by omega, by omega, E5.2.2.2.2.2.trans p5, fun v hv => ?_⟩, c3, hne1, hx⟩, ⟨mapNil (by rw [eG5, newF_ne (by omega), eG4]; exact setF_at newF_at), by omega, by omega, fun a ha => (nomatch ha)⟩, ⟨fun L => Iff.rfl, rfl⟩, fun a ha => (nomatch ha), fun v hv => ⟨fun w => (nomatch w), by have := c1z v hv; omega⟩⟩
    have p := p6 v hv
    have q := E5.2.2.2.2.1 v (by omega)
    exact ⟨q.1.trans p.1, fun w1 w2 => q.2.1.trans (p.2.1 w1 w2), fun w => q.2.2.trans (p.2.2 w)⟩
  have hl160 : (onesL n).length ≤ 160 := by unfold onesL; rw [List.length_map]; exact hgc.2
  have hoc := ones_c h2
  have hj5 : l1.length = (onesL n).length := j5
  have key := ones_loop (d := d + 14) (u := u) (Ts := onesL n) (bs := l1) (it := g3.sz + 1) (ι := h.sz) (eι := e1) (mι := m1) (kι := k1) (tail := (twosL n).map fun p => preT (rootW (p.1, some p.2)) 0) (l6 := none) (l7 := none) (doneF := (onesL n).map fun T => preT T 0) (cF := 1064 + 9 * (onesL n).length) (σF := 57420 + 81 * (onesL n).length) (Q := fun r h' => ∃ P' eB' mB' lB' kB', codFin x z (flC x ld nw wh nm tp) h eB P' eB' mB' lB' kB' n cs 2500 85000 r h' ∧ (∀ v, P' v → P v ∨ h.sz ≤ v) ∧ (eB' = eB ∨ h.sz ≤ eB')) h1 h2 o4 o5 o6 hj5 (fun T hT => (one_okW h1 h2 hT).1) (by omega) (by omega) (by omega) (fun q => absurd (c1z _ q) (by omega)) (by omega) (by omega) (fun g' A' K' kc' mc' l5 kk => wpd.mono (fun r h' q => by
      obtain ⟨P', eB', mB', lB', kB', q1, q2, q3⟩ := q
      refine ⟨P', eB', mB', lB', kB', q1.wide (by omega) (by omega), fun v hv => ?_, q3⟩
      rcases q2 v hv with w | w
      · exact c4 v w
      · exact Or.inr w) _ _ _ (end96 (d := d) h1 h2 o4 o5 o6 kk hcs hc12 he2 rfl)) (onesL n) 0 G5 [] _ _ _ _ _ _ none rfl (Nat.zero_le _) kS AL5 (fun j b T w1 w2 => (j6 j b T w1 w2).to PG) ⟨_, by rw [eG5, ← z4]; exact newF_at⟩ (fun w => nomatch w) (fun w => nomatch w) (by omega) (by omega) rfl rfl rfl rfl
  refine hC _ _ _ (use (wpd.up (by omega) (tmInit_spec (d := 0) newF_at)) ?_)
  rintro _ g4 ⟨rfl, he4⟩
  rw [he4, ← eG4]
  refine ⟨_, _, _, AL4.1, rfl, ?_⟩
  refine hC _ _ _ (useE (wpd.up (by omega) (iter_spec (d := 0) AL4 (by omega))) ?_)
  rw [← eG5]
  rw [show G4.sz = g3.sz + 1 from z4]
  exact hW _ key
end MISS
