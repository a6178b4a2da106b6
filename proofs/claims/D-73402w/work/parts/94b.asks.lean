section ASKS2
variable {d : Nat} {h0 : AH} {M : Nat} {A : Nat → List Int} {sc : Nat → Int} {S : AS} {D : Nat → Nat → Nat}
theorem isC_s (h : TW A sc S) {c : Int} : wp (d + 1) 273 (0, ent 2 [vR (some M), vI c], [], tw h0 M A sc) (gives (tw h0 M A sc) (if isC S c then 1 else 0)) := by
  have k := isCarbon_spec (d := d) (h0 := h0) (M := M) (A := A) (sc := sc) (c := c) (by rw [h.1.eq 1]; rfl)
  rw [h.2.1.1] at k
  exact k
theorem degree_s (h : TW A sc S) (ho : S.ok) {c : Nat} (hc : c < S.1.1) : wp (d + 2) 274 (0, ent 2 [vR (some M), vI c], [], tw h0 M A sc) (gives (tw h0 M A sc) ((deg S.1 c : Nat) : Int)) := by
  have hn := ho.1.1.2.1
  have := row_lt (G := S.1) hn (c := c)
  have k := degree_spec (d := d) (h0 := h0) (M := M) (sc := sc) h.1 (show c < 16 by omega) (isRow0 h.2.1 hc) (by omega)
  rw [row_deg hn] at k
  exact k
theorem about_tw (h : TW A sc S) (ho : S.ok) (hD : Far S.1 D) {c w : Int} : wp (d + 12) 366 (0, ent 3 [vR (some M), vI c, vI w], [], tw h0 M A sc) (twEnd h0 M (vI (aAbout S D c w)) S) := by
  have hn := ho.1.1.2.1
  unfold aAbout
  refine wp.go [] 60 fun W C hW hC => ?_
  refine ⟨_, _, _, twF, rfl, ?_⟩
  refine hC _ _ _ (use (wpd.up (show d + 1 ≤ d + 11 by omega) (isC_s (d := d) h)) ?_); rintro _ _ ⟨rfl, rfl⟩
  refine ⟨fun c1 => ?_, fun c1 => ?_⟩
  · rw [if_pos (Or.inl (b0.mp c1))]
    exact ⟨rfl, _, _, rfl, h⟩
  have c1 := b1.mp c1
  refine hC _ _ _ (use (wpd.up (show d + 1 ≤ d + 11 by omega) (isIn_s (d := d) _ _ _ _)) ?_); rintro _ _ ⟨rfl, rfl⟩
  refine ⟨fun c2 => ?_, fun c2 => ?_⟩
  · have c2 := b1.mp c2
    rw [if_neg (by rintro (e | e); exact e c1; exact e c2)]
    obtain ⟨k, rfl⟩ : ∃ k : Nat, c = (k : Int) := ⟨c.toNat, by omega⟩
    have hk : k < S.1.1 := by omega
    refine ⟨_, _, _, twF, rfl, ?_⟩
    refine hC _ _ _ (use (looks_tw h ho hD) ?_)
    rintro _ _ ⟨rfl, A', sc', tab, rfl, hM, hT⟩
    refine ⟨fun e => ?_, fun e0 => ⟨fun e => ?_, fun e1 => ⟨fun e => ?_, fun e2 => ⟨fun e => ?_, fun e3 => ?_⟩⟩⟩⟩
    · rw [if_pos e]
      refine ⟨_, _, _, twF, rfl, ?_⟩
      refine hC _ _ _ (use (wpd.up (show d + 2 ≤ d + 11 by omega) (leastLike_spec (d := d) ho.1.1 hM.1 hk)) ?_); rintro _ _ ⟨rfl, rfl⟩
      exact ⟨rfl, _, _, rfl, hT⟩
    · rw [if_neg e0, if_pos e]
      refine ⟨_, _, _, twF, rfl, ?_⟩
      refine hC _ _ _ (use (wpd.up (show d + 2 ≤ d + 11 by omega) (isAsymmetric_spec (d := d) ho.1.1 hM.1 hk)) ?_); rintro _ _ ⟨rfl, rfl⟩
      rw [Int.toNat_natCast]
      cases asyT (TT S.1 16 k)
      · exact ⟨fun _ => ⟨rfl, _, _, rfl, hT⟩, fun c => absurd rfl c⟩
      · exact ⟨fun c => absurd c (by decide), fun _ => ⟨rfl, _, _, rfl, hT⟩⟩
    · rw [if_neg e0, if_neg e1, if_pos e]
      refine ⟨_, _, _, twF, rfl, ?_⟩
      refine hC _ _ _ (use (wpd.up (show d + 1 ≤ d + 11 by omega) (farthest_spec (d := d) ho.1.1 hD hM hk)) ?_); rintro _ _ ⟨rfl, rfl⟩
      exact ⟨rfl, _, _, rfl, hT⟩
    · rw [if_neg e0, if_neg e1, if_neg e2, if_pos e]
      refine ⟨_, _, _, twF, rfl, ?_⟩
      refine hC _ _ _ (use (wpd.up (show d + 1 ≤ d + 11 by omega) (together_spec (d := d) ho.1.1 hD hM hk)) ?_); rintro _ _ ⟨rfl, rfl⟩
      exact ⟨rfl, _, _, rfl, hT⟩
    · rw [if_neg e0, if_neg e1, if_neg e2, if_neg e3]
      refine ⟨_, _, _, twF, rfl, ?_⟩
      refine hC _ _ _ (use (wpd.up (show d + 2 ≤ d + 11 by omega) (degree_s (d := d) hT ho hk)) ?_); rintro _ _ ⟨rfl, rfl⟩
      have := ho.1.2.1 k
      conv => whnf
      rw [isub_eq (by omega)]
      exact ⟨rfl, _, _, rfl, hT⟩
  · rw [if_pos (Or.inr (b0.mp c2))]
    exact ⟨rfl, _, _, rfl, h⟩
theorem apart_tw (h : TW A sc S) (ho : S.ok) (hD : Far S.1 D) {c o : Int} : wp (d + 12) 369 (0, ent 3 [vR (some M), vI c, vI o], [], tw h0 M A sc) (twEnd h0 M (vI (aApart S D c o)) S) := by
  have hn := ho.1.1.2.1
  unfold aApart
  refine wp.go [] 60 fun W C hW hC => ?_
  refine ⟨_, _, _, twF, rfl, ?_⟩
  refine hC _ _ _ (use (wpd.up (show d + 1 ≤ d + 11 by omega) (isC_s (d := d) h)) ?_); rintro _ _ ⟨rfl, rfl⟩
  refine ⟨fun c1 => ?_, fun c1 => ?_⟩
  · rw [if_neg (fun e => (b0.mp c1) e.1)]
    exact ⟨rfl, _, _, rfl, h⟩
  have c1 := b1.mp c1
  refine ⟨_, _, _, twF, rfl, ?_⟩
  refine hC _ _ _ (use (wpd.up (show d + 1 ≤ d + 11 by omega) (isC_s (d := d) h)) ?_); rintro _ _ ⟨rfl, rfl⟩
  refine ⟨fun c2 => ?_, fun c2 => ?_⟩
  · have c2 := b1.mp c2
    rw [if_pos ⟨c1, c2⟩]
    obtain ⟨k, rfl⟩ : ∃ k : Nat, c = (k : Int) := ⟨c.toNat, by omega⟩
    obtain ⟨m, rfl⟩ : ∃ k : Nat, o = (k : Int) := ⟨o.toNat, by omega⟩
    refine ⟨_, _, _, twF, rfl, ?_⟩
    refine hC _ _ _ (use (looks_tw h ho hD) ?_)
    rintro _ _ ⟨rfl, A', sc', tab, rfl, hM, hT⟩
    have hA := hT.1
    refine ⟨_, _, _, _, twF, rfl, rfl, ?_⟩
    conv => whnf
    simp (disch := omega) only [iadd_eq, imul_eq]
    refine ⟨_, _, _, twI rfl rfl, rfl, (by omega), gt_at (16 * k + m) (by omega) (lenlt (j := 25) (hA) (show (16 * k + m) < 256 by omega)), ?_⟩
    rw [hM.2 k m (by omega) (by omega)]
    exact ⟨rfl, _, _, rfl, hT⟩
  · rw [if_neg (fun e => (b0.mp c2) e.2)]
    exact ⟨rfl, _, _, rfl, h⟩
theorem areBound_s (h : TW A sc S) (ho : S.ok) {c o : Int} : wp (d + 2) 371 (0, ent 3 [vR (some M), vI c, vI o], [], tw h0 M A sc) (gives (tw h0 M A sc) (if isB S c o then 1 else 0)) := by
  have hn := ho.1.1.2.1
  have hA := h.1
  refine wp.go [] 60 fun W C hW hC => ?_
  refine ⟨_, _, _, twF, rfl, ?_⟩
  refine hC _ _ _ (use (isC_s (d := d) h) ?_); rintro _ _ ⟨rfl, rfl⟩
  refine ⟨fun c1 => ?_, fun c1 => ?_⟩
  · rw [if_neg (fun e => (b0.mp c1) e.1)]
    exact ⟨Or.inl rfl, rfl, rfl⟩
  have c1 := b1.mp c1
  refine ⟨_, _, _, twF, rfl, ?_⟩
  refine hC _ _ _ (use (isC_s (d := d) h) ?_); rintro _ _ ⟨rfl, rfl⟩
  refine ⟨fun c2 => ?_, fun c2 => ?_⟩
  · rw [if_neg (fun e => (b0.mp c2) e.2.1)]
    exact ⟨Or.inl rfl, rfl, rfl⟩
  have c2 := b1.mp c2
  obtain ⟨k, rfl⟩ : ∃ k : Nat, c = (k : Int) := ⟨c.toNat, by omega⟩
  obtain ⟨m, rfl⟩ : ∃ k : Nat, o = (k : Int) := ⟨o.toNat, by omega⟩
  have hrow := row_lt (G := S.1) hn (c := k)
  refine ⟨_, _, _, _, twF, rfl, rfl, ?_⟩
  (conv => whnf); simp (disch := omega) only [iadd_eq, isub_eq, imul_eq]
  refine ⟨_, _, _, twI rfl rfl, rfl, (by omega), gt_at (1 + k) (by omega) (lenlt (j := 1) (hA) (show (1 + k) < 17 by omega)), ?_⟩
  rw [isRow0 h.2.1 (by omega)]
  refine hC _ _ _ (use (has_spec (by omega) (by omega)) ?_); rintro _ _ ⟨rfl, rfl⟩
  refine ⟨fun c3 => ?_, fun c3 => ?_⟩
  · rw [if_neg (fun e => (b0.mp c3) ((row_bit ho.1.1).trans e.2.2))]
    exact ⟨Or.inl rfl, rfl, rfl⟩
  · rw [if_pos ⟨c1, c2, (row_bit ho.1.1).symm.trans (b1.mp c3)⟩]
    exact ⟨Or.inr rfl, rfl, rfl⟩
theorem branch_tw (h : TW A sc S) (ho : S.ok) (hD : Far S.1 D) {c o w : Int} : wp (d + 12) 370 (0, ent 5 [vR (some M), vI c, vI o, vI w], [], tw h0 M A sc) (twEnd h0 M (vL (aBranch S c o w)) S) := by
  have hn := ho.1.1.2.1
  unfold aBranch
  refine wp.go [] 60 fun W C hW hC => ?_
  refine ⟨_, _, _, twF, rfl, ?_⟩
  refine hC _ _ _ (use (wpd.up (show d + 2 ≤ d + 11 by omega) (areBound_s (d := d) h ho)) ?_); rintro _ _ ⟨rfl, rfl⟩
  refine ⟨fun c1 => ?_, fun c1 => ?_⟩
  · rw [if_pos (Or.inl (b0.mp c1))]
    exact ⟨rfl, _, _, rfl, h⟩
  have c1 := b1.mp c1
  refine hC _ _ _ (use (wpd.up (show d + 1 ≤ d + 11 by omega) (isIn_s (d := d) _ _ _ _)) ?_); rintro _ _ ⟨rfl, rfl⟩
  refine ⟨fun c2 => ?_, fun c2 => ?_⟩
  · have c2 := b1.mp c2
    rw [if_neg (by rintro (e | e); exact e c1; exact e c2)]
    obtain ⟨c3, c4, c5⟩ := c1
    obtain ⟨k, rfl⟩ : ∃ k : Nat, c = (k : Int) := ⟨c.toNat, by omega⟩
    obtain ⟨m, rfl⟩ : ∃ k : Nat, o = (k : Int) := ⟨o.toNat, by omega⟩
    rw [Int.toNat_natCast, Int.toNat_natCast] at c5 ⊢
    refine ⟨_, _, _, twF, rfl, ?_⟩
    refine hC _ _ _ (use (looks_tw h ho hD) ?_)
    rintro _ _ ⟨rfl, A', sc', tab, rfl, hM, hT⟩
    have hA := hT.1
    obtain ⟨⟨-, hTb, hK, hV, hH, -⟩, hr, hb, hat, hrt⟩ := hM.1
    obtain ⟨i, i1, i2, i3⟩ := hat k m c5
    have h63 := hTb.2.2
    refine ⟨_, _, _, _, twF, rfl, rfl, ?_⟩
    conv => whnf
    simp (disch := omega) only [iadd_eq, imul_eq]
    refine ⟨_, _, _, twI rfl rfl, rfl, (by omega), gt_at (16 * k + m) (by omega) (lenlt (j := 19) (hA) (show (16 * k + m) < 272 by omega)), ?_⟩
    rw [i2]
    obtain ⟨p1, p2, p3, p4⟩ := hK i _ i3
    obtain ⟨q1, q2, q3, q4⟩ := hV i _ i3
    refine ⟨fun e => ?_, fun e0 => ⟨fun e => ?_, fun e1 => ⟨fun e => ?_, fun e2 => ?_⟩⟩⟩
    · rw [if_pos e]
      refine ⟨_, _, _, _, twF, rfl, rfl, ?_⟩
      refine ⟨_, _, _, twI rfl rfl, rfl, (by omega), gt_at (i) (by omega) (lenlt (j := 10) (hA) (show (i) < 64 by omega)), ?_⟩
      rw [p1]
      exact ⟨rfl, _, _, rfl, hT⟩
    · rw [if_neg e0, if_pos e]
      refine ⟨_, _, _, _, twF, rfl, rfl, ?_⟩
      refine ⟨_, _, _, twI rfl rfl, rfl, (by omega), gt_at (i) (by omega) (lenlt (j := 13) (hA) (show (i) < 64 by omega)), ?_⟩
      rw [p3]
      exact ⟨rfl, _, _, rfl, hT⟩
    · rw [if_neg e0, if_neg e1, if_pos e]
      refine ⟨_, _, _, _, twF, rfl, rfl, ?_⟩
      refine ⟨_, _, _, twI rfl rfl, rfl, (by omega), gt_at (i) (by omega) (lenlt (j := 14) (hA) (show (i) < 64 by omega)), ?_⟩
      rw [q1]
      exact ⟨rfl, _, _, rfl, hT⟩
    · rw [if_neg e0, if_neg e1, if_neg e2]
      refine ⟨_, _, _, _, twF, rfl, rfl, ?_⟩
      refine ⟨_, _, _, twI rfl rfl, rfl, (by omega), gt_at (i) (by omega) (lenlt (j := 15) (hA) (show (i) < 64 by omega)), ?_⟩
      rw [q2]
      exact ⟨rfl, _, _, rfl, hT⟩
  · rw [if_pos (Or.inr (b0.mp c2))]
    exact ⟨rfl, _, _, rfl, h⟩
theorem greater_tw (h : TW A sc S) (ho : S.ok) (hD : Far S.1 D) {c o p : Int} : wp (d + 12) 372 (0, ent 4 [vR (some M), vI c, vI o, vI p], [], tw h0 M A sc) (twEnd h0 M (vI (aGreater S c o p)) S) := by
  have hn := ho.1.1.2.1
  unfold aGreater
  refine wp.go [] 60 fun W C hW hC => ?_
  refine ⟨_, _, _, twF, rfl, ?_⟩
  refine hC _ _ _ (use (wpd.up (show d + 2 ≤ d + 11 by omega) (areBound_s (d := d) h ho)) ?_); rintro _ _ ⟨rfl, rfl⟩
  refine ⟨fun c1 => ?_, fun c1 => ?_⟩
  · rw [if_pos (Or.inl (b0.mp c1))]
    exact ⟨rfl, _, _, rfl, h⟩
  have c1 := b1.mp c1
  refine ⟨_, _, _, twF, rfl, ?_⟩
  refine hC _ _ _ (use (wpd.up (show d + 2 ≤ d + 11 by omega) (areBound_s (d := d) h ho)) ?_); rintro _ _ ⟨rfl, rfl⟩
  refine ⟨fun c2 => ?_, fun c2 => ?_⟩
  · rw [if_pos (Or.inr (Or.inl (b0.mp c2)))]
    exact ⟨rfl, _, _, rfl, h⟩
  have c2 := b1.mp c2
  refine ⟨fun c3 => ?_, fun c3 => ?_⟩
  · rw [if_neg (by rintro (e | e | e); exact e c1; exact e c2; exact c3 e)]
    obtain ⟨a1, a2, a3⟩ := c1
    obtain ⟨a4, a5, a6⟩ := c2
    obtain ⟨k, rfl⟩ : ∃ k : Nat, c = (k : Int) := ⟨c.toNat, by omega⟩
    obtain ⟨m, rfl⟩ : ∃ k : Nat, o = (k : Int) := ⟨o.toNat, by omega⟩
    obtain ⟨n, rfl⟩ : ∃ k : Nat, p = (k : Int) := ⟨p.toNat, by omega⟩
    rw [Int.toNat_natCast, Int.toNat_natCast] at a3 a6
    rw [Int.toNat_natCast, Int.toNat_natCast, Int.toNat_natCast]
    refine ⟨_, _, _, twF, rfl, ?_⟩
    refine hC _ _ _ (use (looks_tw h ho hD) ?_)
    rintro _ _ ⟨rfl, A', sc', tab, rfl, hM, hT⟩
    have hA := hT.1
    obtain ⟨⟨-, hTb, hK, hV, hH, -⟩, hr, hb, hat, hrt⟩ := hM.1
    obtain ⟨i, i1, i2, i3⟩ := hat k m a3
    obtain ⟨j, j1, j2, j3⟩ := hat k n a6
    have h63 := hTb.2.2
    refine ⟨_, _, _, _, twF, rfl, rfl, ?_⟩
    conv => whnf
    simp (disch := omega) only [iadd_eq, imul_eq]
    refine ⟨_, _, _, twI rfl rfl, rfl, (by omega), gt_at (16 * k + m) (by omega) (lenlt (j := 19) (hA) (show (16 * k + m) < 272 by omega)), ?_⟩
    rw [i2]
    refine ⟨_, _, _, _, twF, rfl, rfl, ?_⟩
    conv => whnf
    simp (disch := omega) only [iadd_eq, imul_eq]
    refine ⟨_, _, _, twI rfl rfl, rfl, (by omega), gt_at (16 * k + n) (by omega) (lenlt (j := 19) (hA) (show (16 * k + n) < 272 by omega)), ?_⟩
    rw [j2]
    refine ⟨_, _, _, twF, rfl, ?_⟩
    refine hC _ _ _ (use (wpd.up (show d + 1 ≤ d + 11 by omega) (compares_spec (d := d) hA hTb hK hH i1 j1)) ?_); rintro _ _ ⟨rfl, rfl⟩
    rw [i3, j3, cmpO_some]
    exact ⟨rfl, _, _, rfl, hT⟩
  · rw [if_pos (Or.inr (Or.inr c3))]
    exact ⟨rfl, _, _, rfl, h⟩
end ASKS2
