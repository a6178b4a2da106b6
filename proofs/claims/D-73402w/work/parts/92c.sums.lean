/-! SUMS OVER ALL CARBONS -/
def lngG (G : Gr) (D : Nat → Nat → Nat) : Nat := maxR G.1 (farC G D) + 1
def wnG (G : Gr) (m : Nat) : Nat := cnt G.1 fun c => Nat.beq (deg G c) m
def asyG (G : Gr) : Nat := cnt G.1 fun c => asyT (TT G 16 c)
def unlG (G : Gr) : Nat := cnt G.1 fun c => Nat.beq (lkC G c) c
def apaG (G : Gr) (D : Nat → Nat → Nat) : Nat := sumR G.1 (togC G D) / 2
section SUMS
variable {d : Nat} {h0 : AH} {M : Nat} {A : Nat → List Int} {sc : Nat → Int} {tab : List Tr} {G : Gr} {D : Nat → Nat → Nat}
theorem farC_lt (hG : G.wf) (hD : Far G D) {c : Nat} (hc : c < G.1) : farC G D c ≤ 16 := maxR_le fun i hi => by have := hD.small hG hc i hi; omega
theorem togC_le (hG : G.wf) (hD : Far G D) {c : Nat} (hc : c < G.1) : togC G D c ≤ 256 := by
  have h := sumR_bd (f := D c) (B := 16) (n := G.1) fun i hi => by have := hD.small hG hc i hi; omega
  have := hG.2.1
  unfold togC; omega
theorem longest_spec (hG : G.wf) (hD : Far G D) (hM : SeenM A sc tab G D) : wp (d + 2) 358 (0, ent 3 [vR (some M)], [], tw h0 M A sc) (gives (tw h0 M A sc) ((lngG G D : Nat) : Int)) := by
  have hn := hG.2.1
  have hA := hM.1.1.1
  have hr := hM.1.2.1
  have loop : ∀ (j e : Nat), j + e = G.1 → wp (d + 2) 358 (4, [some (vR (some M)), some (vI ((maxR e (farC G D) : Nat) : Int)), some (vI e)], [], tw h0 M A sc) (gives (tw h0 M A sc) ((lngG G D : Nat) : Int)) := by
    intro j
    induction j with
    | zero =>
      intro e hj
      obtain rfl : e = G.1 := by omega
      have hB : maxR G.1 (farC G D) ≤ 16 := maxR_le fun i hi => farC_lt hG hD hi
      refine wp.go [4] 40 fun W C hW hC => ?_
      refine ⟨_, _, _, _, twF, rfl, rfl, ?_⟩
      refine ⟨_, _, _, twI rfl rfl, rfl, (by omega), gt_at (0) (by omega) (lenlt (j := 18) (hA) (show (0) < 17 by omega)), ?_⟩
      rw [hr.1]
      refine ⟨fun _ => ?_, fun c => absurd c (by omega)⟩
      conv => whnf
      rw [iadd_eq (by omega)]
      exact ⟨rfl, rfl⟩
    | succ j ih =>
      intro e hj
      have hm : maxR (e + 1) (farC G D) = max (maxR e (farC G D)) (farC G D e) := rfl
      refine wp.go [4] 60 fun W C hW hC => ?_
      refine ⟨_, _, _, _, twF, rfl, rfl, ?_⟩
      refine ⟨_, _, _, twI rfl rfl, rfl, (by omega), gt_at (0) (by omega) (lenlt (j := 18) (hA) (show (0) < 17 by omega)), ?_⟩
      rw [hr.1]
      refine ⟨fun c => absurd c (by omega), fun _ => ?_⟩
      refine ⟨_, _, _, twF, rfl, ?_⟩
      refine hC _ _ _ (use (farthest_spec hG hD hM (c := e) (by omega)) ?_); rintro _ _ ⟨rfl, rfl⟩
      refine ⟨fun c1 => ?_, fun c1 => ?_⟩
      · (conv => whnf); simp (disch := omega) only [iadd_eq, isub_eq, imul_eq]
        have k := ih (e + 1) (by omega)
        rw [hm, Nat.max_eq_left (by omega)] at k
        exact hW _ k
      · refine ⟨_, _, _, twF, rfl, ?_⟩
        refine hC _ _ _ (use (farthest_spec hG hD hM (c := e) (by omega)) ?_); rintro _ _ ⟨rfl, rfl⟩
        (conv => whnf); simp (disch := omega) only [iadd_eq, isub_eq, imul_eq]
        have k := ih (e + 1) (by omega)
        rw [hm, Nat.max_eq_right (by omega)] at k
        exact hW _ k
  refine wp.go [4] 20 fun W C hW hC => ?_
  exact hW _ (loop G.1 0 rfl)
theorem withNeighbours_spec (hG : G.wf) (hS : Seen A sc tab G D) {m : Nat} (hm : m < 1000) : wp (d + 2) 360 (0, ent 4 [vR (some M), vI m], [], tw h0 M A sc) (gives (tw h0 M A sc) ((wnG G m : Nat) : Int)) := by
  have hn := hG.2.1
  have hA := hS.1.1
  have hr := hS.2.1
  have loop : ∀ (j e : Nat), j + e = G.1 → wp (d + 2) 360 (4, [some (vR (some M)), some (vI m), some (vI ((cnt e (fun c => Nat.beq (deg G c) m) : Nat) : Int)), some (vI e)], [], tw h0 M A sc) (gives (tw h0 M A sc) ((wnG G m : Nat) : Int)) := by
    intro j
    induction j with
    | zero =>
      intro e hj
      obtain rfl : e = G.1 := by omega
      refine wp.go [4] 40 fun W C hW hC => ?_
      refine ⟨_, _, _, _, twF, rfl, rfl, ?_⟩
      refine ⟨_, _, _, twI rfl rfl, rfl, (by omega), gt_at (0) (by omega) (lenlt (j := 18) (hA) (show (0) < 17 by omega)), ?_⟩
      rw [hr.1]
      refine ⟨fun _ => ⟨rfl, rfl⟩, fun c => absurd c (by omega)⟩
    | succ j ih =>
      intro e hj
      have hc := cnt_le (fun c => Nat.beq (deg G c) m) e
      have hst : cnt (e + 1) (fun c => Nat.beq (deg G c) m) = cnt e (fun c => Nat.beq (deg G c) m) + b01 (Nat.beq (deg G e) m) := rfl
      have k := ih (e + 1) (by omega)
      rw [hst] at k
      have hrow := row_lt (G := G) hn (c := e)
      refine wp.go [4] 60 fun W C hW hC => ?_
      refine ⟨_, _, _, _, twF, rfl, rfl, ?_⟩
      refine ⟨_, _, _, twI rfl rfl, rfl, (by omega), gt_at (0) (by omega) (lenlt (j := 18) (hA) (show (0) < 17 by omega)), ?_⟩
      rw [hr.1]
      refine ⟨fun c => absurd c (by omega), fun _ => ?_⟩
      refine ⟨_, _, _, _, twF, rfl, rfl, ?_⟩
      (conv => whnf); simp (disch := omega) only [iadd_eq, isub_eq, imul_eq]
      refine ⟨_, _, _, twI rfl rfl, rfl, (by omega), gt_at (1 + e) (by omega) (lenlt (j := 18) (hA) (show (1 + e) < 17 by omega)), ?_⟩
      rw [isRow0 hr (by omega)]
      refine hC _ _ _ (use (size_spec (show row G e < 2147483648 by omega)) ?_); rintro _ _ ⟨rfl, rfl⟩
      rw [row_deg hn]
      refine ⟨fun c1 => ?_, fun c1 => ?_⟩
      · have : Nat.beq (deg G e) m = false := by
          cases z : Nat.beq (deg G e) m with
          | false => rfl
          | true => exact absurd (congrArg Nat.cast (beqN.mp z)) c1
        rw [this] at k
        (conv => whnf); simp (disch := omega) only [iadd_eq, isub_eq, imul_eq]
        exact hW _ k
      · have : Nat.beq (deg G e) m = true := beqN.mpr (by omega)
        rw [this] at k
        (conv => whnf); simp (disch := omega) only [iadd_eq, isub_eq, imul_eq]
        exact hW _ k
  refine wp.go [4] 20 fun W C hW hC => ?_
  exact hW _ (loop G.1 0 rfl)
theorem asymmetricMany_spec (hG : G.wf) (hS : Seen A sc tab G D) : wp (d + 3) 361 (0, ent 3 [vR (some M)], [], tw h0 M A sc) (gives (tw h0 M A sc) ((asyG G : Nat) : Int)) := by
  have hn := hG.2.1
  have hA := hS.1.1
  have hr := hS.2.1
  have loop : ∀ (j e : Nat), j + e = G.1 → wp (d + 3) 361 (4, [some (vR (some M)), some (vI ((cnt e (fun c => asyT (TT G 16 c)) : Nat) : Int)), some (vI e)], [], tw h0 M A sc) (gives (tw h0 M A sc) ((asyG G : Nat) : Int)) := by
    intro j
    induction j with
    | zero =>
      intro e hj
      obtain rfl : e = G.1 := by omega
      refine wp.go [4] 40 fun W C hW hC => ?_
      refine ⟨_, _, _, _, twF, rfl, rfl, ?_⟩
      refine ⟨_, _, _, twI rfl rfl, rfl, (by omega), gt_at (0) (by omega) (lenlt (j := 18) (hA) (show (0) < 17 by omega)), ?_⟩
      rw [hr.1]
      refine ⟨fun _ => ⟨rfl, rfl⟩, fun c => absurd c (by omega)⟩
    | succ j ih =>
      intro e hj
      have hc := cnt_le (fun c => asyT (TT G 16 c)) e
      have hst : cnt (e + 1) (fun c => asyT (TT G 16 c)) = cnt e (fun c => asyT (TT G 16 c)) + b01 (asyT (TT G 16 e)) := rfl
      have k := ih (e + 1) (by omega)
      rw [hst] at k
      refine wp.go [4] 60 fun W C hW hC => ?_
      refine ⟨_, _, _, _, twF, rfl, rfl, ?_⟩
      refine ⟨_, _, _, twI rfl rfl, rfl, (by omega), gt_at (0) (by omega) (lenlt (j := 18) (hA) (show (0) < 17 by omega)), ?_⟩
      rw [hr.1]
      refine ⟨fun c => absurd c (by omega), fun _ => ?_⟩
      refine ⟨_, _, _, twF, rfl, ?_⟩
      refine hC _ _ _ (use (isAsymmetric_spec hG hS (c := e) (by omega)) ?_); rintro _ _ ⟨rfl, rfl⟩
      cases z : asyT (TT G 16 e) with
      | false =>
        rw [z] at k
        refine ⟨fun _ => ?_, fun c => absurd rfl c⟩
        (conv => whnf); simp (disch := omega) only [iadd_eq, isub_eq, imul_eq]
        exact hW _ k
      | true =>
        rw [z] at k
        refine ⟨fun c => absurd c (by decide), fun _ => ?_⟩
        (conv => whnf); simp (disch := omega) only [iadd_eq, isub_eq, imul_eq]
        exact hW _ k
  refine wp.go [4] 20 fun W C hW hC => ?_
  exact hW _ (loop G.1 0 rfl)
theorem unlike_spec (hG : G.wf) (hS : Seen A sc tab G D) : wp (d + 3) 364 (0, ent 3 [vR (some M)], [], tw h0 M A sc) (gives (tw h0 M A sc) ((unlG G : Nat) : Int)) := by
  have hn := hG.2.1
  have hA := hS.1.1
  have hr := hS.2.1
  have loop : ∀ (j e : Nat), j + e = G.1 → wp (d + 3) 364 (4, [some (vR (some M)), some (vI ((cnt e (fun c => Nat.beq (lkC G c) c) : Nat) : Int)), some (vI e)], [], tw h0 M A sc) (gives (tw h0 M A sc) ((unlG G : Nat) : Int)) := by
    intro j
    induction j with
    | zero =>
      intro e hj
      obtain rfl : e = G.1 := by omega
      refine wp.go [4] 40 fun W C hW hC => ?_
      refine ⟨_, _, _, _, twF, rfl, rfl, ?_⟩
      refine ⟨_, _, _, twI rfl rfl, rfl, (by omega), gt_at (0) (by omega) (lenlt (j := 18) (hA) (show (0) < 17 by omega)), ?_⟩
      rw [hr.1]
      refine ⟨fun _ => ⟨rfl, rfl⟩, fun c => absurd c (by omega)⟩
    | succ j ih =>
      intro e hj
      have hc := cnt_le (fun c => Nat.beq (lkC G c) c) e
      have hst : cnt (e + 1) (fun c => Nat.beq (lkC G c) c) = cnt e (fun c => Nat.beq (lkC G c) c) + b01 (Nat.beq (lkC G e) e) := rfl
      have k := ih (e + 1) (by omega)
      rw [hst] at k
      refine wp.go [4] 60 fun W C hW hC => ?_
      refine ⟨_, _, _, _, twF, rfl, rfl, ?_⟩
      refine ⟨_, _, _, twI rfl rfl, rfl, (by omega), gt_at (0) (by omega) (lenlt (j := 18) (hA) (show (0) < 17 by omega)), ?_⟩
      rw [hr.1]
      refine ⟨fun c => absurd c (by omega), fun _ => ?_⟩
      refine ⟨_, _, _, twF, rfl, ?_⟩
      refine hC _ _ _ (use (leastLike_spec hG hS (c := e) (by omega)) ?_); rintro _ _ ⟨rfl, rfl⟩
      refine ⟨fun c1 => ?_, fun c1 => ?_⟩
      · have : Nat.beq (lkC G e) e = false := by
          cases z : Nat.beq (lkC G e) e with
          | false => rfl
          | true => exact absurd (congrArg Nat.cast (beqN.mp z)) c1
        rw [this] at k
        (conv => whnf); simp (disch := omega) only [iadd_eq, isub_eq, imul_eq]
        exact hW _ k
      · have : Nat.beq (lkC G e) e = true := beqN.mpr (by omega)
        rw [this] at k
        (conv => whnf); simp (disch := omega) only [iadd_eq, isub_eq, imul_eq]
        exact hW _ k
  refine wp.go [4] 20 fun W C hW hC => ?_
  exact hW _ (loop G.1 0 rfl)
theorem allApart_spec (hG : G.wf) (hD : Far G D) (hM : SeenM A sc tab G D) : wp (d + 2) 394 (0, ent 3 [vR (some M)], [], tw h0 M A sc) (gives (tw h0 M A sc) ((apaG G D : Nat) : Int)) := by
  have hn := hG.2.1
  have hA := hM.1.1.1
  have hr := hM.1.2.1
  have hbd : ∀ e, e ≤ G.1 → sumR e (togC G D) ≤ 16 * 256 := fun e he => by
    exact Nat.le_trans (sumR_bd (f := togC G D) (B := 256) (n := e) fun i hi => togC_le hG hD (by omega)) (Nat.mul_le_mul_right 256 (by omega))
  have loop : ∀ (j e : Nat), j + e = G.1 → wp (d + 2) 394 (4, [some (vR (some M)), some (vI ((sumR e (togC G D) : Nat) : Int)), some (vI e)], [], tw h0 M A sc) (gives (tw h0 M A sc) ((apaG G D : Nat) : Int)) := by
    intro j
    induction j with
    | zero =>
      intro e hj
      obtain rfl : e = G.1 := by omega
      have := hbd G.1 (Nat.le_refl _)
      refine wp.go [4] 40 fun W C hW hC => ?_
      refine ⟨_, _, _, _, twF, rfl, rfl, ?_⟩
      refine ⟨_, _, _, twI rfl rfl, rfl, (by omega), gt_at (0) (by omega) (lenlt (j := 18) (hA) (show (0) < 17 by omega)), ?_⟩
      rw [hr.1]
      refine ⟨fun _ => ?_, fun c => absurd c (by omega)⟩
      refine ⟨by decide, ?_⟩
      conv => whnf
      rw [idiv_eq (by omega) (by decide)]
      exact ⟨rfl, rfl⟩
    | succ j ih =>
      intro e hj
      have h1 := hbd e (by omega)
      have h2 := togC_le hG hD (c := e) (by omega)
      refine wp.go [4] 60 fun W C hW hC => ?_
      refine ⟨_, _, _, _, twF, rfl, rfl, ?_⟩
      refine ⟨_, _, _, twI rfl rfl, rfl, (by omega), gt_at (0) (by omega) (lenlt (j := 18) (hA) (show (0) < 17 by omega)), ?_⟩
      rw [hr.1]
      refine ⟨fun c => absurd c (by omega), fun _ => ?_⟩
      refine ⟨_, _, _, twF, rfl, ?_⟩
      refine hC _ _ _ (use (together_spec hG hD hM (c := e) (by omega)) ?_); rintro _ _ ⟨rfl, rfl⟩
      (conv => whnf); simp (disch := omega) only [iadd_eq, isub_eq, imul_eq]
      exact hW _ (ih (e + 1) (by omega))
  refine wp.go [4] 20 fun W C hW hC => ?_
  exact hW _ (loop G.1 0 rfl)
def hasG (G : Gr) (D : Nat → Nat → Nat) (w : Nat) : Nat := if w = 0 then lngG G D else if w = 1 then wnG G 1 else if w = 2 then asyG G else unlG G
theorem has2_spec (hG : G.wf) (hD : Far G D) (hM : SeenM A sc tab G D) {w : Nat} (hw : w < 4) : wp (d + 4) 357 (0, ent 2 [vR (some M), vI w], [], tw h0 M A sc) (gives (tw h0 M A sc) ((hasG G D w : Nat) : Int)) := by
  unfold hasG
  obtain rfl | rfl | rfl | rfl : w = 0 ∨ w = 1 ∨ w = 2 ∨ w = 3 := by omega
  · refine wp.go [] 40 fun W C hW hC => ?_
    refine ⟨fun c => absurd rfl c, fun _ => ?_⟩
    refine ⟨_, _, _, twF, rfl, ?_⟩
    refine hC _ _ _ (use (wpd.up (show d + 2 ≤ d + 3 by omega) (longest_spec (d := d) hG hD hM)) ?_); rintro _ _ ⟨rfl, rfl⟩
    exact ⟨rfl, rfl⟩
  · refine wp.go [] 40 fun W C hW hC => ?_
    refine ⟨fun _ => ?_, fun c => absurd c (by decide)⟩
    refine ⟨fun c => absurd rfl c, fun _ => ?_⟩
    refine ⟨_, _, _, twF, rfl, ?_⟩
    refine hC _ _ _ (use (wpd.up (show d + 2 ≤ d + 3 by omega) (withNeighbours_spec (d := d) (m := 1) hG hM.1 (by decide))) ?_); rintro _ _ ⟨rfl, rfl⟩
    exact ⟨rfl, rfl⟩
  · refine wp.go [] 40 fun W C hW hC => ?_
    refine ⟨fun _ => ?_, fun c => absurd c (by decide)⟩
    refine ⟨fun _ => ?_, fun c => absurd c (by decide)⟩
    refine ⟨fun c => absurd rfl c, fun _ => ?_⟩
    refine ⟨_, _, _, twF, rfl, ?_⟩
    refine hC _ _ _ (use (asymmetricMany_spec (d := d) hG hM.1) ?_); rintro _ _ ⟨rfl, rfl⟩
    exact ⟨rfl, rfl⟩
  · refine wp.go [] 40 fun W C hW hC => ?_
    refine ⟨fun _ => ?_, fun c => absurd c (by decide)⟩
    refine ⟨fun _ => ?_, fun c => absurd c (by decide)⟩
    refine ⟨fun _ => ?_, fun c => absurd c (by decide)⟩
    refine ⟨_, _, _, twF, rfl, ?_⟩
    refine hC _ _ _ (use (unlike_spec (d := d) hG hM.1) ?_); rintro _ _ ⟨rfl, rfl⟩
    exact ⟨rfl, rfl⟩
end SUMS
