def symG (G : Gr) (D : Nat → Nat → Nat) : Nat := match cens G D with
  | [a] => waysT (TT G 16 a)
  | a :: b :: _ => waysT (TT G b a) * waysT (TT G a b) * (if eqT (TT G b a) (TT G a b) = true then 2 else 1)
  | [] => 0
def mrkG (G : Gr) (D : Nat → Nat → Nat) (k : Nat) : Nat := match cens G D with
  | [a] => marksT (TT G 16 a) (4 - ((kidsT (TT G 16 a)).length : Int)) k
  | a :: b :: _ => if eqT (TT G b a) (TT G a b) = true then sevM (wOf (TT G b a)) 2 k else timesM (wOf (TT G b a)) (wOf (TT G a b)) k
  | [] => 0
def aMarked (S : AS) (D : Nat → Nat → Nat) (k : Int) : Int := if 1 ≤ k ∧ k ≤ 3 then ((mrkG S.1 D k.toNat : Nat) : Int) else -1
section SYM
variable {d : Nat} {h0 : AH} {M : Nat} {A : Nat → List Int} {sc : Nat → Int} {S : AS} {D : Nat → Nat → Nat} {G : Gr} {tab : List Tr}
theorem kids3 (hG : G.ok) (hD : Far G D) {a b : Nat} (h : G.2 a b = true) : (kidsT (TT G a b)).length ≤ 3 := by
  have h1 := kids_len hG.1 hD (Or.inl h)
  have h2 := ch_len hG.1 h
  have h3 := hG.2.1 b
  omega
theorem kids4 (hG : G.ok) (hD : Far G D) {c : Nat} : (kidsT (TT G 16 c)).length ≤ 4 := by
  have h1 := kids_len hG.1 hD (a := 16) (c := c) (Or.inr rfl)
  rw [ch_root hG.1] at h1
  have h3 := hG.2.1 c
  have : (nb G c).length = deg G c := rfl
  omega
theorem gtT_ne (hT : TbT tab) {i j : Nat} {t u : Tr} (hi : gtT tab i = some t) (hj : gtT tab j = some u) : (((i : Nat) : Int) = ((j : Nat) : Int)) ↔ eqT t u = true := by
  rw [eqT_iff (hT.2.1 _ (gtT_le hi).2.2).1 (hT.2.1 _ (gtT_le hj).2.2).1]
  constructor
  · intro e
    have : i = j := by omega
    subst this
    exact Option.some.inj (hi.symm.trans hj)
  · rintro rfl
    rw [gtT_inj hT.1 (gtT_le hi).2.1 (gtT_le hj).2.1 (hi.trans hj.symm)]
theorem symmetry_tw (h : TW A sc S) (ho : S.ok) (hD : Far S.1 D) : wp (d + 12) 379 (0, ent 5 [vR (some M)], [], tw h0 M A sc) (twEnd h0 M (vL ((symG S.1 D : Nat) : Int)) S) := by
  have hn := ho.1.1.2.1
  have hG := ho.1.1
  have hp : 6 ^ S.1.1 ≤ 6 ^ 16 := Nat.pow_le_pow_right (by decide) hn
  unfold symG
  refine wp.go [] 60 fun W C hW hC => ?_
  refine ⟨_, _, _, twF, rfl, ?_⟩
  refine hC _ _ _ (use (looks_tw h ho hD) ?_)
  rintro _ _ ⟨rfl, A', sc', tab, rfl, hM, hT⟩
  have hA := hT.1
  refine ⟨_, _, _, twF, rfl, ?_⟩
  refine hC _ _ _ (use (wpd.up (show d + 4 ≤ d + 11 by omega) (centroidAt_spec (d := d) (k := 0) hG hD hM.1 (by decide))) ?_); rintro _ _ ⟨rfl, rfl⟩
  refine ⟨_, _, _, twF, rfl, ?_⟩
  refine hC _ _ _ (use (wpd.up (show d + 4 ≤ d + 11 by omega) (centroidAt_spec (d := d) (k := 1) hG hD hM.1 (by decide))) ?_); rintro _ _ ⟨rfl, rfl⟩
  obtain ⟨⟨-, hTb, hK, hV, hH, -⟩, hr, hb, hat, hrt⟩ := hM.1
  have h63 := hTb.2.2
  rcases cens_cases hG hD with ⟨c, e, h1, h2⟩ | ⟨a, b, e, h1, h2, h3, h4, h5⟩
  · rw [e]
    have e0 : atN [c] 0 = (c : Int) := rfl
    refine ⟨fun c => absurd rfl c, fun _ => ?_⟩
    refine ⟨_, _, _, _, twF, rfl, rfl, ?_⟩
    conv => whnf
    rw [e0]
    refine ⟨_, _, _, twF, rfl, ?_⟩
    refine hC _ _ _ (wpd.up (show d + 1 ≤ d + 11 by omega) (rootAt_spec (d := d) hM.1 h1 hn (fun i i1 i2 => ?_)))
    refine ⟨_, _, _, twI rfl rfl, rfl, (by omega), gt_at (i) (by omega) (lenlt (j := 16) (hA) (show (i) < 64 by omega)), ?_⟩
    rw [(hV i _ i2).2.2.1]
    exact ⟨rfl, _, _, rfl, hT⟩
  · rw [e]
    have ea : atN [a, b] 0 = (a : Int) := rfl
    have eb : atN [a, b] 1 = (b : Int) := rfl
    have hba := (hG.2.2 _ _ h3).2.2.1
    obtain ⟨i, i1, i2, i3⟩ := hat a b h3
    obtain ⟨j, j1, j2, j3⟩ := hat b a hba
    have w1 := tab_ways hTb _ _ (Nat.le_refl _) (gtT_le i3).2.2 (kids3 ho.1 hD h3)
    have w2 := tab_ways hTb _ _ (Nat.le_refl _) (gtT_le j3).2.2 (kids3 ho.1 hD hba)
    have w3 : waysT (TT S.1 b a) * waysT (TT S.1 a b) ≤ 2821109907456 := by
      refine Nat.le_trans (Nat.mul_le_mul w2 w1) ?_
      rw [← Nat.pow_add, TT_sz hG hD _ _ hba, TT_sz hG hD _ _ h3, bsz_both hG hD hba]
      exact hp
    refine ⟨fun _ => ?_, fun c => absurd c (by show ¬ ((b : Nat) : Int) = -1; omega)⟩
    refine ⟨_, _, _, _, twF, rfl, rfl, ?_⟩
    conv => whnf
    rw [ea, eb]
    simp (disch := omega) only [iadd_eq, imul_eq]
    refine ⟨_, _, _, twI rfl rfl, rfl, (by omega), gt_at (16 * b + a) (by omega) (lenlt (j := 19) (hA) (show (16 * b + a) < 272 by omega)), ?_⟩
    rw [j2]
    refine ⟨_, _, _, _, twF, rfl, rfl, ?_⟩
    conv => whnf
    simp (disch := omega) only [iadd_eq, imul_eq]
    refine ⟨_, _, _, twI rfl rfl, rfl, (by omega), gt_at (16 * a + b) (by omega) (lenlt (j := 19) (hA) (show (16 * a + b) < 272 by omega)), ?_⟩
    rw [i2]
    refine ⟨_, _, _, _, twF, rfl, rfl, ?_⟩
    refine ⟨_, _, _, twI rfl rfl, rfl, (by omega), gt_at (j) (by omega) (lenlt (j := 16) (hA) (show (j) < 64 by omega)), ?_⟩
    rw [(hV j _ j3).2.2.1]
    refine ⟨_, _, _, _, twF, rfl, rfl, ?_⟩
    refine ⟨_, _, _, twI rfl rfl, rfl, (by omega), gt_at (i) (by omega) (lenlt (j := 16) (hA) (show (i) < 64 by omega)), ?_⟩
    rw [(hV i _ i3).2.2.1]
    refine ⟨fun c => ?_, fun c => ?_⟩
    · have c2 := fun z => c ((gtT_ne hTb j3 i3).mpr z)
      dsimp only
      rw [if_neg c2]
      conv => whnf
      rw [lmulN (Nat.le_trans w3 (by decide))]
      have := lmulN (a := waysT (TT S.1 b a) * waysT (TT S.1 a b)) (b := 1) (Nat.le_trans (Nat.mul_le_mul_right 1 w3) (by decide))
      exact ⟨by rw [← this]; rfl, _, _, rfl, hT⟩
    · have c2 := (gtT_ne hTb j3 i3).mp c
      dsimp only
      rw [if_pos c2]
      conv => whnf
      rw [lmulN (Nat.le_trans w3 (by decide))]
      have := lmulN (a := waysT (TT S.1 b a) * waysT (TT S.1 a b)) (b := 2) (Nat.le_trans (Nat.mul_le_mul_right 2 w3) (by decide))
      exact ⟨by rw [← this]; rfl, _, _, rfl, hT⟩
theorem wOf_get {A : Nat → List Int} (hV : TbV A tab) {i : Nat} {t : Tr} (hi : gtT tab i = some t) : ∀ k, k < 4 → gt (A 17) (4 * i + k) = ((wOf t k : Nat) : Int) := fun k hk => (hV i t hi).2.2.2 k hk
theorem mk_loop (hA : lens A) {i j k : Nat} (hi : i ≤ 63) (hj : j ≤ 63) (hk : k < 4) {v w : Wm} (hv : ∀ k, k < 4 → gt (A 17) (4 * i + k) = ((v k : Nat) : Int)) (hw : ∀ k, k < 4 → gt (A 17) (4 * j + k) = ((w k : Nat) : Int)) (bv : ∀ k, k < 4 → v k ≤ 100000) (bw : ∀ k, k < 4 → w k ≤ 100000) (hB : timesM v w k ≤ 1000000000) {x2 x3 : Int} :
    ∀ (f t : Nat), f + t = k + 1 → wp (d + 2) 380 (111, [some (vR (some M)), some (vI ((k : Nat) : Int)), some (vI x2), some (vI x3), some (vI ((i : Nat) : Int)), some (vI ((j : Nat) : Int)), some (vI ((sumR t (fun i => v i * w (k - i)) : Nat) : Int)), some (vI ((t : Nat) : Int))], [], tw h0 M A sc) (gives (tw h0 M A sc) ((timesM v w k : Nat) : Int)) := by
  intro f
  induction f with
  | zero =>
    intro t ht
    obtain rfl : t = k + 1 := by omega
    refine wp.go [111] 20 fun W C hW hC => ?_
    refine ⟨fun _ => ⟨rfl, rfl⟩, fun c => absurd c (by omega)⟩
  | succ f ih =>
    intro t ht
    have q := ih (t + 1) (by omega)
    have hst : sumR (t + 1) (fun i => v i * w (k - i)) = sumR t (fun i => v i * w (k - i)) + v t * w (k - t) := rfl
    have hle : sumR (t + 1) (fun i => v i * w (k - i)) ≤ 1000000000 := Nat.le_trans (sumR_mono (by omega)) hB
    rw [hst] at q hle
    refine wp.go [111] 60 fun W C hW hC => ?_
    refine ⟨fun c => absurd c (by omega), fun _ => ?_⟩
    refine ⟨_, _, _, twF, rfl, ?_⟩
    refine hC _ _ _ (use (marksBy_spec hA hi (show t < 4 by omega)) ?_); rintro _ _ ⟨rfl, rfl⟩
    rw [hv t (by omega)]
    have e1 : ((k : Nat) : Int) - ((t : Nat) : Int) = ((k - t : Nat) : Int) := by omega
    (conv => whnf); simp (disch := omega) only [iadd_eq, isub_eq, imul_eq]
    rw [e1]
    refine ⟨_, _, _, twF, rfl, ?_⟩
    refine hC _ _ _ (use (marksBy_spec hA hj (show k - t < 4 by omega)) ?_); rintro _ _ ⟨rfl, rfl⟩
    rw [hw (k - t) (by omega)]
    conv => whnf
    rw [imulN (by omega), iaddN (by omega), iadd_eq (by omega)]
    exact hW _ q
theorem marked_tw (h : TW A sc S) (ho : S.ok) (hD : Far S.1 D) {k : Int} : wp (d + 12) 380 (0, ent 8 [vR (some M), vI k], [], tw h0 M A sc) (twEnd h0 M (vI (aMarked S D k)) S) := by
  have hn := ho.1.1.2.1
  have hG := ho.1.1
  unfold aMarked
  refine wp.go [111] 60 fun W C hW hC => ?_
  refine hC _ _ _ (use (wpd.up (show d + 1 ≤ d + 11 by omega) (isIn_s (d := d) _ _ _ _)) ?_); rintro _ _ ⟨rfl, rfl⟩
  refine ⟨fun c1 => ?_, fun c1 => ?_⟩
  rotate_left
  · rw [if_neg (b0.mp c1)]
    exact ⟨rfl, _, _, rfl, h⟩
  have c1 := b1.mp c1
  rw [if_pos c1] at hW ⊢
  obtain ⟨k, rfl⟩ : ∃ m : Nat, k = (m : Int) := ⟨k.toNat, by omega⟩
  rw [Int.toNat_natCast] at hW ⊢
  have hk : k < 4 := by omega
  refine ⟨_, _, _, twF, rfl, ?_⟩
  refine hC _ _ _ (use (looks_tw h ho hD) ?_)
  rintro _ _ ⟨rfl, A', sc', tab, rfl, hM, hT⟩
  have hA := hT.1
  refine ⟨_, _, _, twF, rfl, ?_⟩
  refine hC _ _ _ (use (wpd.up (show d + 4 ≤ d + 11 by omega) (centroidAt_spec (d := d) (k := 0) hG hD hM.1 (by decide))) ?_); rintro _ _ ⟨rfl, rfl⟩
  refine ⟨_, _, _, twF, rfl, ?_⟩
  refine hC _ _ _ (use (wpd.up (show d + 4 ≤ d + 11 by omega) (centroidAt_spec (d := d) (k := 1) hG hD hM.1 (by decide))) ?_); rintro _ _ ⟨rfl, rfl⟩
  obtain ⟨⟨-, hTb, hK, hV, hH, -⟩, hr, hb, hat, hrt⟩ := hM.1
  have h63 := hTb.2.2
  rcases cens_cases hG hD with ⟨c, e, h1, h2⟩ | ⟨a, b, e, h1, h2, h3, h4, h5⟩
  · rw [e]
    have hmr : mrkG S.1 D k = marksT (TT S.1 16 c) (4 - ((kidsT (TT S.1 16 c)).length : Int)) k := by unfold mrkG; rw [e]
    have e0 : atN [c] 0 = (c : Int) := rfl
    refine ⟨fun c => absurd rfl c, fun _ => ?_⟩
    rw [e0]
    refine ⟨_, _, _, twF, rfl, ?_⟩
    refine hC _ _ _ (wpd.up (show d + 1 ≤ d + 11 by omega) (rootAt_spec (d := d) hM.1 h1 hn (fun i i1 i2 => ?_)))
    refine ⟨_, _, _, _, twF, rfl, rfl, ?_⟩
    refine ⟨_, _, _, twF, rfl, ?_⟩
    refine hC _ _ _ (wpd.up (show d + 1 ≤ d + 11 by omega) (rootAt_spec (d := d) hM.1 h1 hn (fun j j1 j2 => ?_)))
    obtain rfl := gtT_inj hTb.1 i1 j1 (i2.trans j2.symm)
    obtain ⟨p1, p2, p3, p4⟩ := hK i _ i2
    have ht := hTb.2.1 _ (gtT_le i2).2.2
    have hsz := sz_mk (kidsT (TT S.1 16 c))
    rw [mk_kids _ ht.1] at hsz
    refine ⟨_, _, _, twI rfl rfl, rfl, (by omega), gt_at (i) (by omega) (lenlt (j := 12) (hA) (show (i) < 64 by omega)), ?_⟩
    rw [p2]
    have h4 := ht.2.2.1
    conv => whnf
    rw [isub_eq (by omega)]
    refine ⟨_, _, _, twF, rfl, ?_⟩
    refine hC _ _ _ (use (wpd.up (show d + 4 ≤ d + 11 by omega) (marksOn_spec (d := d) (l := kidsT (TT S.1 16 c)) (hh := 4 - ((kidsT (TT S.1 16 c)).length : Int)) hA hTb hV ⟨by omega, p2, h4, fun v hv => (ht.2.2.2 v hv).1, p4⟩ (fun v hv => (ht.2.2.2 v hv).2) (by have := ht.2.1; unfold sumS; omega) (by omega))) ?_)
    rintro _ _ ⟨rfl, A2, rfl, hA2, hF2, hm⟩
    rw [mk_kids _ ht.1] at hm
    refine ⟨_, _, _, _, twF, rfl, rfl, ?_⟩
    refine ⟨_, _, _, twI rfl rfl, rfl, (by omega), gt_at (k) (by omega) (lenlt (j := 22) (hA2) (show (k) < 4 by omega)), ?_⟩
    rw [hm k hk]
    exact ⟨by rw [hmr], _, _, rfl, hT.keep hA2 hF2 rfl rfl⟩
  · rw [e]
    have ea : atN [a, b] 0 = (a : Int) := rfl
    have eb : atN [a, b] 1 = (b : Int) := rfl
    have hba := (hG.2.2 _ _ h3).2.2.1
    obtain ⟨i, i1, i2, i3⟩ := hat a b h3
    obtain ⟨j, j1, j2, j3⟩ := hat b a hba
    have hmr : mrkG S.1 D k = if eqT (TT S.1 b a) (TT S.1 a b) = true then sevM (wOf (TT S.1 b a)) 2 k else timesM (wOf (TT S.1 b a)) (wOf (TT S.1 a b)) k := by unfold mrkG; rw [e]
    have w1 := tab_marks hTb _ _ (Nat.le_refl _) (gtT_le i3).2.2 (kids3 ho.1 hD h3)
    have w2 := tab_marks hTb _ _ (Nat.le_refl _) (gtT_le j3).2.2 (kids3 ho.1 hD hba)
    have s1 : szT (TT S.1 a b) ≤ 15 := by rw [TT_sz hG hD _ _ h3]; have := bsz_lt hG hD h3; omega
    have s2 : szT (TT S.1 b a) ≤ 15 := by rw [TT_sz hG hD _ _ hba]; have := bsz_lt hG hD hba; omega
    have k1 := wB_wK w1.1 w1.2 (by omega)
    have k2 := wB_wK w2.1 w2.2 (by omega)
    refine ⟨fun _ => ?_, fun c => absurd c (by show ¬ ((b : Nat) : Int) = -1; omega)⟩
    refine ⟨_, _, _, _, twF, rfl, rfl, ?_⟩
    conv => whnf
    rw [ea, eb]
    simp (disch := omega) only [iadd_eq, imul_eq]
    refine ⟨_, _, _, twI rfl rfl, rfl, (by omega), gt_at (16 * b + a) (by omega) (lenlt (j := 19) (hA) (show (16 * b + a) < 272 by omega)), ?_⟩
    rw [j2]
    refine ⟨_, _, _, _, twF, rfl, rfl, ?_⟩
    conv => whnf
    simp (disch := omega) only [iadd_eq, imul_eq]
    refine ⟨_, _, _, twI rfl rfl, rfl, (by omega), gt_at (16 * a + b) (by omega) (lenlt (j := 19) (hA) (show (16 * a + b) < 272 by omega)), ?_⟩
    rw [i2]
    have lim : ∀ {w : Wm}, wK w → ∀ k, k < 4 → w k ≤ 100000 := by
      rintro w ⟨q0, q1, q2, q3⟩ k hk
      obtain rfl | rfl | rfl | rfl : k = 0 ∨ k = 1 ∨ k = 2 ∨ k = 3 := by omega
      · omega
      · omega
      · omega
      · omega
    refine ⟨fun c => ?_, fun c => ?_⟩
    · have c2 := fun z => c ((gtT_ne hTb j3 i3).mpr z)
      rw [if_neg c2] at hmr
      have hB : timesM (wOf (TT S.1 b a)) (wOf (TT S.1 a b)) k ≤ 1000000000 := Nat.le_trans (wB_lim (wB_times w2.1 w1.1) (by omega) k hk) (by decide)
      refine hW _ (wpd.up (show d + 2 ≤ d + 12 by omega) (use (mk_loop (d := d) (h0 := h0) (M := M) (sc := sc') (i := j) (j := i) (x2 := a) (x3 := b) hA (by omega) (by omega) hk (wOf_get hV j3) (wOf_get hV i3) (lim k2) (lim k1) hB (k + 1) 0 rfl) ?_))
      rintro _ _ ⟨rfl, rfl⟩
      exact ⟨by rw [hmr], _, _, rfl, hT⟩
    · have c2 := (gtT_ne hTb j3 i3).mp c
      rw [if_pos c2] at hmr
      refine ⟨_, _, _, twF, rfl, ?_⟩
      refine hC _ _ _ (use (wpd.up (show d + 2 ≤ d + 11 by omega) (waysOf_spec (d := d) (s := j) (many := 2) hA (by omega) (wOf_get hV j3) k2 (by decide) (by decide) hk)) ?_); rintro _ _ ⟨rfl, rfl⟩
      exact ⟨by rw [hmr], _, _, rfl, hT⟩
end SYM
