def aLike (S : AS) (D E : Nat → Nat → Nat) (k : Int) : Int := if 0 ≤ k ∧ k ≤ 2 then (match S.2.2.1 k.toNat with
  | none => -2
  | some H => if H.1 = S.1.1 ∧ codG S.1 D = codG H E then 1 else 0) else -1
section LIKE2
variable {d : Nat} {h0 : AH} {M : Nat} {A : Nat → List Int} {sc : Nat → Int} {S : AS} {D E : Nat → Nat → Nat} {G : Gr} {tab : List Tr}
theorem like_copy (hn : S.1.1 ≤ 16) (h : TW A sc S) {L : List Nat} (hL : L.length = S.1.1) (hZ : isAt (A 26) L) {x1 : Int} {Q : Rs → AH → Prop} (hQ : ∀ X x2, X.length = 16 → isAt X L → wp (d + 12) 340 (84, [some (vR (some M)), some (vI x1), some (vI x2)], [], tw h0 M (up A 33 X) sc) Q) :
    ∀ (j i : Nat) (X : List Int), j + i = S.1.1 → X.length = 16 → isAt X (L.take i) → wp (d + 12) 340 (56, [some (vR (some M)), some (vI x1), some (vI i)], [], tw h0 M (up A 33 X) sc) Q := by
  have hA := h.1
  intro j
  induction j with
  | zero =>
    intro i X hj hX hi
    have hA' : lens (up A 33 X) := hA.up (by rw [hX]; rfl)
    obtain rfl : i = S.1.1 := by omega
    rw [← hL, List.take_length] at hi
    refine wp.go [56, 84] 40 fun W C hW hC => ?_
    refine ⟨_, _, _, _, twF, rfl, rfl, ?_⟩
    refine ⟨_, _, _, twI rfl rfl, rfl, (by omega), gt_at (0) (by omega) (lenlt (j := 1) (hA') (show (0) < 17 by omega)), ?_⟩
    rw [upn_ne _ _ (by decide), h.2.1.1]
    refine ⟨fun _ => hW _ (hQ X _ hX hi), fun c => absurd c (by omega)⟩
  | succ j ih =>
    intro i X hj hX hi
    have hA' : lens (up A 33 X) := hA.up (by rw [hX]; rfl)
    refine wp.go [56, 84] 60 fun W C hW hC => ?_
    refine ⟨_, _, _, _, twF, rfl, rfl, ?_⟩
    refine ⟨_, _, _, twI rfl rfl, rfl, (by omega), gt_at (0) (by omega) (lenlt (j := 1) (hA') (show (0) < 17 by omega)), ?_⟩
    rw [upn_ne _ _ (by decide), h.2.1.1]
    refine ⟨fun c => absurd c (by omega), fun _ => ?_⟩
    refine ⟨_, _, _, _, twF, rfl, rfl, ?_⟩
    refine ⟨_, _, _, _, twF, rfl, rfl, ?_⟩
    refine ⟨_, _, _, twI rfl rfl, rfl, (by omega), gt_at (i) (by omega) (lenlt (j := 26) (hA') (show (i) < 16 by omega)), ?_⟩
    rw [upn_ne _ _ (by decide)]
    (refine ⟨_, twI rfl rfl, (by omega), (ilt (i) (by omega) (lenlt (j := 33) (hA') (show (i) < 16 by omega))), ?_⟩; rw [twSetI rfl rfl]; try rw [Int.toNat_natCast])
    rw [up_up, up_eq]
    (conv => whnf); simp (disch := omega) only [iadd_eq, isub_eq, imul_eq]
    refine hW _ (ih (i + 1) _ (by omega) (by rw [List.length_set]; exact hX) (fun m x hm => ?_))
    have hm2 := (List.getElem?_eq_some_iff.mp hm).1
    rw [List.length_take] at hm2
    rw [List.getElem?_take_of_lt (by omega)] at hm
    rw [gt_set (by omega)]
    by_cases e : m = i
    · subst e
      rw [if_pos rfl]; exact hZ m x hm
    · rw [if_neg e]; exact hi m x (by rw [List.getElem?_take_of_lt (by omega)]; exact hm)
theorem like_cmp (hn : S.1.1 ≤ 16) (h : TW A sc S) {L K : List Nat} (hL : L.length = S.1.1) (hK : K.length = S.1.1) (hX : isAt (A 33) L) (hZ : isAt (A 26) K) {x1 : Int} :
    ∀ (j i : Nat), j + i = S.1.1 → (∀ m, m < i → L[m]? = K[m]?) → wp (d + 12) 340 (102, [some (vR (some M)), some (vI x1), some (vI i)], [], tw h0 M A sc) (gives (tw h0 M A sc) (if L = K then 1 else 0)) := by
  have hA := h.1
  intro j
  induction j with
  | zero =>
    intro i hj hi
    obtain rfl : i = S.1.1 := by omega
    rw [if_pos (List.ext_getElem? fun m => if e : m < S.1.1 then hi m e else by rw [List.getElem?_eq_none (by omega), List.getElem?_eq_none (by omega)])]
    refine wp.go [102] 40 fun W C hW hC => ?_
    refine ⟨_, _, _, _, twF, rfl, rfl, ?_⟩
    refine ⟨_, _, _, twI rfl rfl, rfl, (by omega), gt_at (0) (by omega) (lenlt (j := 1) (hA) (show (0) < 17 by omega)), ?_⟩
    rw [h.2.1.1]
    refine ⟨fun _ => ⟨rfl, rfl⟩, fun c => absurd c (by omega)⟩
  | succ j ih =>
    intro i hj hi
    have g1 := hX i _ (List.getElem?_eq_getElem (show i < L.length by omega))
    have g2 := hZ i _ (List.getElem?_eq_getElem (show i < K.length by omega))
    refine wp.go [102] 60 fun W C hW hC => ?_
    refine ⟨_, _, _, _, twF, rfl, rfl, ?_⟩
    refine ⟨_, _, _, twI rfl rfl, rfl, (by omega), gt_at (0) (by omega) (lenlt (j := 1) (hA) (show (0) < 17 by omega)), ?_⟩
    rw [h.2.1.1]
    refine ⟨fun c => absurd c (by omega), fun _ => ?_⟩
    refine ⟨_, _, _, _, twF, rfl, rfl, ?_⟩
    refine ⟨_, _, _, twI rfl rfl, rfl, (by omega), gt_at (i) (by omega) (lenlt (j := 33) (hA) (show (i) < 16 by omega)), ?_⟩
    rw [g1]
    refine ⟨_, _, _, _, twF, rfl, rfl, ?_⟩
    refine ⟨_, _, _, twI rfl rfl, rfl, (by omega), gt_at (i) (by omega) (lenlt (j := 26) (hA) (show (i) < 16 by omega)), ?_⟩
    rw [g2]
    refine ⟨fun c => ?_, fun c => ?_⟩
    · (conv => whnf); simp (disch := omega) only [iadd_eq, isub_eq, imul_eq]
      refine hW _ (ih (i + 1) (by omega) (fun m hm => ?_))
      by_cases e : m = i
      · subst e
        rw [List.getElem?_eq_getElem (show m < L.length by omega), List.getElem?_eq_getElem (show m < K.length by omega)]
        congr 1; omega
      · exact hi m (by omega)
    · have : L ≠ K := by
        rintro rfl
        exact c rfl
      rw [if_neg this]
      exact ⟨rfl, rfl⟩
theorem like_tw (h : TW A sc S) (ho : S.ok) (hD : Far S.1 D) {k : Int} (hE : ∀ H, S.2.2.1 k.toNat = some H → Far H E) : wp (d + 12) 340 (0, ent 3 [vR (some M), vI k], [], tw h0 M A sc) (twEnd h0 M (vI (aLike S D E k)) S) := by
  have hn := ho.1.1.2.1
  have hG := ho.1.1
  have hA := h.1
  have hl := codG_len hG hD
  unfold aLike
  refine wp.go [56, 102] 60 fun W C hW hC => ?_
  refine hC _ _ _ (use (wpd.up (show d + 1 ≤ d + 11 by omega) (isIn_s (d := d) _ _ _ _)) ?_); rintro _ _ ⟨rfl, rfl⟩
  refine ⟨fun c1 => ?_, fun c1 => ?_⟩
  rotate_left
  · rw [if_neg (b0.mp c1)]
    exact ⟨rfl, _, _, rfl, h⟩
  have c1 := b1.mp c1
  rw [if_pos c1] at hW ⊢
  obtain ⟨k, rfl⟩ : ∃ m : Nat, k = (m : Int) := ⟨k.toNat, by omega⟩
  rw [Int.toNat_natCast] at hW hE ⊢
  obtain ⟨q1, q2⟩ := h.2.2.2.1 k (by omega)
  refine ⟨_, _, _, _, twF, rfl, rfl, ?_⟩
  refine ⟨_, _, _, twI rfl rfl, rfl, (by omega), gt_at (k) (by omega) (lenlt (j := 4) (hA) (show (k) < 3 by omega)), ?_⟩
  rw [q1]
  cases e : S.2.2.1 k with
  | none =>
    exact ⟨fun c => absurd rfl c, fun _ => ⟨rfl, _, _, rfl, h⟩⟩
  | some H =>
    rw [e] at hW
    obtain ⟨q3, q4⟩ := q2 H e
    have hH := (ho.2.2.1 k H e).2
    refine ⟨fun _ => ?_, fun c => absurd c (show ¬ (1 : Int) = 0 by decide)⟩
    refine ⟨_, _, _, _, twF, rfl, rfl, ?_⟩
    conv => whnf
    simp (disch := omega) only [imul_eq]
    refine ⟨_, _, _, twI rfl rfl, rfl, (by omega), gt_at (17 * k) (by omega) (lenlt (j := 3) (hA) (show (17 * k) < 51 by omega)), ?_⟩
    rw [q4.1]
    refine ⟨_, _, _, _, twF, rfl, rfl, ?_⟩
    refine ⟨_, _, _, twI rfl rfl, rfl, (by omega), gt_at (0) (by omega) (lenlt (j := 1) (hA) (show (0) < 17 by omega)), ?_⟩
    rw [h.2.1.1]
    refine ⟨fun c => ?_, fun c => ?_⟩
    rotate_left
    · dsimp only
      rw [if_neg (fun z => c (by rw [z.1]))]
      exact ⟨rfl, _, _, rfl, h⟩
    have hHn : H.1 = S.1.1 := by omega
    refine ⟨_, _, _, twF, rfl, ?_⟩
    refine hC _ _ _ (use (looks_tw h ho hD) ?_)
    rintro _ _ ⟨rfl, A1, sc1, tab1, rfl, hM, hT⟩
    refine ⟨_, _, _, twF, rfl, ?_⟩
    refine hC _ _ _ (use (wpd.up (show d + 6 ≤ d + 11 by omega) (codes_spec (d := d) hG hD hM.1)) ?_)
    rintro _ _ ⟨rfl, X, Y, Z, hX, hY, hZ, rfl, hZ2⟩
    have hA2 : lens (up (up (up A1 26 Z) 27 X) 28 Y) := ((hM.1.1.1.up (by rw [hZ]; rfl)).up (by rw [hX]; rfl)).up (by rw [hY]; rfl)
    have hT2 := hT.keep (J := [26, 27, 28]) (K := []) (sc' := sc1) hA2 (((Fr.upA rfl).trans (Fr.upA rfl)).trans (Fr.upA rfl)) rfl rfl
    have hl33 : ((up (up (up A1 26 Z) 27 X) 28 Y) 33).length = 16 := by rw [hA2.eq 33]; rfl
    have key := like_copy (d := d) (h0 := h0) (M := M) (x1 := (k : Int)) hn hT2 hl hZ2 (Q := twEnd h0 M (vI (if H.1 = S.1.1 ∧ codG S.1 D = codG H E then 1 else 0)) S) (fun W2 x2 hW2 hW3 => ?_) S.1.1 0 _ rfl hl33 (fun m x hm => by simp at hm)
    · rw [upn_self] at key
      exact hW _ key
    · have hA3 := hA2.up (j := 33) (x := W2) (by rw [hW2]; rfl)
      have hT3 := hT2.keep (J := [33]) (K := []) (sc' := sc1) hA3 (Fr.upA rfl) rfl rfl
      have hr3 := ((hT3.2.2.2.1 k (by omega)).2 H e).2
      refine wp.go [102] 60 fun W C hW hC => ?_
      refine ⟨_, _, _, _, twF, rfl, rfl, ?_⟩
      conv => whnf
      simp (disch := omega) only [imul_eq]
      refine ⟨_, _, _, twF, rfl, ?_⟩
      refine hC _ _ _ (use (wpd.up (show d + 10 ≤ d + 11 by omega) (looksAt_spec (d := d) (jr := 3) (w := 17 * k) hH (hE H e) hA3 rfl rfl rfl (by decide) (by rw [hA3.eq 3]; show 17 * k + 17 ≤ 51; omega) (by omega) hr3)) ?_)
      rintro _ _ ⟨rfl, A4, sc4, tab4, rfl, hS4, hF4⟩
      refine ⟨_, _, _, twF, rfl, ?_⟩
      refine hC _ _ _ (use (wpd.up (show d + 6 ≤ d + 11 by omega) (codes_spec (d := d) hH.1 (hE H e) hS4)) ?_)
      rintro _ _ ⟨rfl, X5, Y5, Z5, hX5, hY5, hZ5, rfl, hZ6⟩
      have hA5 : lens (up (up (up A4 26 Z5) 27 X5) 28 Y5) := ((hS4.1.1.up (by rw [hZ5]; rfl)).up (by rw [hX5]; rfl)).up (by rw [hY5]; rfl)
      have hT5 := (hT3.keep hS4.1.1 hF4 rfl rfl).keep (J := [26, 27, 28]) (K := []) (sc' := sc4) hA5 (((Fr.upA rfl).trans (Fr.upA rfl)).trans (Fr.upA rfl)) rfl rfl
      have hX33 : isAt ((up (up (up A4 26 Z5) 27 X5) 28 Y5) 33) (codG S.1 D) := by
        rw [upn_ne _ _ (by decide), upn_ne _ _ (by decide), upn_ne _ _ (by decide), hF4.1 33 rfl, up_eq]
        exact hW3
      refine hW _ (use (like_cmp (d := d) (h0 := h0) (M := M) (x1 := (k : Int)) hn hT5 hl ((codG_len hH.1 (hE H e)).trans hHn) hX33 hZ6 S.1.1 0 rfl (fun m hm => absurd hm (by omega))) ?_)
      rintro _ _ ⟨rfl, rfl⟩
      refine ⟨?_, _, _, rfl, hT5⟩
      by_cases z : codG S.1 D = codG H E
      · rw [if_pos z, if_pos ⟨hHn, z⟩]
      · rw [if_neg z, if_neg (fun y => z y.2)]
end LIKE2
