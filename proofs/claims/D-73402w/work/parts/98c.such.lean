/-! THE TWIN's such -/
noncomputable def suchP (n w : Nat) (v : Int) (L : List Nat) : Bool := decide (((hasG (gC L (n - 1)) (dst (gC L (n - 1))) w : Nat) : Int) = v)
noncomputable def aSuch (n w v : Int) : Int := if ¬ (1 ≤ n ∧ n ≤ 11) ∨ ¬ (0 ≤ w ∧ w ≤ 3) ∨ v < 0 then -1 else ((((codesL n.toNat).filter (suchP n.toNat w.toNat v)).length : Nat) : Int)
section SUCH
variable {d : Nat} {h0 : AH} {M : Nat} {A : Nat → List Int} {sc : Nat → Int} {S : AS}
theorem filter_take_succ {α : Type} (p : α → Bool) (l : List α) {k : Nat} (hk : k < l.length) : ((l.take (k + 1)).filter p).length = ((l.take k).filter p).length + cond (p l[k]) 1 0 := by
  rw [List.take_succ, List.getElem?_eq_getElem hk, List.filter_append, List.length_append]
  cases e : p l[k] <;> simp [e]
theorem LAll.keep {A A' : Nat → List Int} {sc sc' : Nat → Int} {J K : List Nat} (h : LAll A) (hF : Fr J K A A' sc sc') (hJ : ([29, 30, 31].all fun j => !J.elem j) = true) : LAll A' := by
  have hj : ∀ j, j ∈ [29, 30, 31] → A' j = A j := fun j hj => hF.1 j (by simpa using List.all_eq_true.mp hJ j hj)
  intro n n1 n2
  exact (h n n1 n2).low (by rw [hj 29 (by decide)]) (by rw [hj 30 (by decide)]) (Nat.le_refl _) (fun p _ => by rw [hj 31 (by decide)])
theorem such_loop {n w : Nat} {v : Int} (hn1 : 1 ≤ n) (hn : n ≤ 11) (hw : w < 4) : ∀ (j k : Nat) (A : Nat → List Int) (sc : Nat → Int), j + k = (codesL n).length → TW A sc S → LAll A →
    wp (d + 12) 356 (40, [some (vR (some M)), some (vI ((n : Nat) : Int)), some (vI ((w : Nat) : Int)), some (vI v), some (vI (((((codesL n).take k).filter (suchP n w v)).length : Nat) : Int)), some (vI ((k : Nat) : Int))], [], tw h0 M A sc) (twEnd h0 M (vI ((((codesL n).filter (suchP n w v)).length : Nat) : Int)) S) := by
  have hroom := off_room n hn1 hn
  have hlen : (codesL n).length ≤ 3200 := by
    have : 1 * (codesL n).length ≤ n * (codesL n).length := Nat.mul_le_mul_right _ hn1
    omega
  intro j
  induction j with
  | zero =>
    intro k A sc hj hT hL
    obtain rfl : k = (codesL n).length := by omega
    have hA := hT.1
    refine wp.go [40] 30 fun W C hW hC => ?_
    refine ⟨_, _, _, _, twF, rfl, rfl, ?_⟩
    refine ⟨_, _, _, twI rfl rfl, rfl, (by omega), gt_at (n) (by omega) (lenlt (j := 29) (hA) (show (n) < 12 by omega)), ?_⟩
    rw [(hL n hn1 hn).1]
    refine ⟨fun _ => ?_, fun c => absurd c (by omega)⟩
    refine ⟨?_, _, _, rfl, hT⟩
    rw [List.take_length]
  | succ j ih =>
    intro k A sc hj hT hL
    have hA := hT.1
    have hLm := hL n hn1 hn
    have hkl : k < (codesL n).length := by omega
    have hr := hLm.room hkl
    obtain ⟨p1, p2, p3⟩ := hLm.2.2.2 k _ (List.getElem?_eq_getElem hkl)
    obtain ⟨q1, q2, q3, q4⟩ := cod_at hn1 hn (List.getElem_mem hkl)
    have hg := q4 (n - 1) (by omega)
    have hD := dst_far hg
    have hfl : (((codesL n).take k).filter (suchP n w v)).length ≤ 3200 := by
      have h1 := List.length_filter_le (suchP n w v) ((codesL n).take k)
      have h2 := List.length_take_le k (codesL n)
      omega
    refine wp.go [40] 90 fun W C hW hC => ?_
    refine ⟨_, _, _, _, twF, rfl, rfl, ?_⟩
    refine ⟨_, _, _, twI rfl rfl, rfl, (by omega), gt_at (n) (by omega) (lenlt (j := 29) (hA) (show (n) < 12 by omega)), ?_⟩
    rw [hLm.1]
    refine ⟨fun c => absurd c (by omega), fun _ => ?_⟩
    refine ⟨_, _, _, twF, rfl, ?_⟩
    refine hC _ _ _ (use (wpd.up (show d + 1 ≤ d + 11 by omega) (codeAt_spec (d := d) (k := k) hA (by omega) hLm.2.1 (by omega))) ?_); rintro _ _ ⟨rfl, rfl⟩
    refine ⟨_, _, _, twF, rfl, ?_⟩
    refine hC _ _ _ (use (wpd.up (show d + 1 ≤ d + 11 by omega) (makes_spec (d := d) hA hn1 (by omega) hr p1 q3 p3 p2)) ?_)
    rintro _ _ ⟨rfl, X, rfl, hX, hXr⟩
    have hA2 : lens (up A 32 X) := hA.up (by rw [hX]; rfl)
    refine ⟨_, _, _, _, twF, rfl, rfl, ?_⟩
    refine ⟨_, _, _, twF, rfl, ?_⟩
    refine hC _ _ _ (use (wpd.up (show d + 10 ≤ d + 11 by omega) (looksAt_spec (d := d) hg hD hA2 (jr := 32) (w := 0) rfl rfl rfl (by decide) (by rw [up_eq, hX]; decide) (by decide) (by rw [up_eq]; exact hXr))) ?_)
    rintro _ _ ⟨rfl, A3, sc3, tab, rfl, hS, hF3⟩
    refine ⟨_, _, _, twF, rfl, ?_⟩
    refine hC _ _ _ (use (wpd.up (show d + 2 ≤ d + 11 by omega) (measures_spec (d := d) hg.1 hD hS.1.1 hS.2.1)) ?_)
    rintro _ _ ⟨rfl, Y, rfl, hY, hYd⟩
    have hM : SeenM (up A3 25 Y) sc3 tab (gC ((codesL n)[k]) (n - 1)) (dst (gC ((codesL n)[k]) (n - 1))) := by
      refine ⟨?_, fun a c ha hc => by rw [up_eq]; exact hYd a c ha hc⟩
      obtain ⟨⟨z0, hT1, hK, hV, hH, h5⟩, hr, hb, hat, hrt⟩ := hS
      have e := fun j (hj : j ≠ 25) => upn_ne A3 Y hj
      unfold Seen Tbl TbK TbV TbH at *
      rw [e 10 (by decide), e 11 (by decide), e 12 (by decide), e 13 (by decide), e 14 (by decide), e 15 (by decide), e 16 (by decide), e 17 (by decide), e 18 (by decide), e 19 (by decide), e 20 (by decide)]
      exact ⟨⟨z0.up (by rw [hY]; rfl), hT1, hK, hV, hH, h5⟩, hr, hb, hat, hrt⟩
    refine ⟨_, _, _, twF, rfl, ?_⟩
    refine hC _ _ _ (use (wpd.up (show d + 4 ≤ d + 11 by omega) (has2_spec (d := d) hg.1 hD hM hw)) ?_); rintro _ _ ⟨rfl, rfl⟩
    have hF : Fr JX [5, 6] A (up A3 25 Y) sc sc3 := ((Fr.upA (A := A) (j := 32) rfl).trans (hF3.wide rfl rfl)).trans (Fr.upA rfl)
    have hFb : Fr [10, 11, 12, 13, 14, 15, 16, 17, 18, 19, 20, 21, 22, 23, 24, 25, 32] [5, 6] A (up A3 25 Y) sc sc3 := ((Fr.upA (A := A) (j := 32) rfl).trans (hF3.wide rfl rfl)).trans (Fr.upA rfl)
    have hT2 : TW (up A3 25 Y) sc3 S := hT.keep hM.1.1.1 hFb rfl rfl
    have hL2 : LAll (up A3 25 Y) := hL.keep hFb rfl
    have hsuc := filter_take_succ (suchP n w v) (codesL n) hkl
    have fin : ∀ x : Nat, (((codesL n).take (k + 1)).filter (suchP n w v)).length = (((codesL n).take k).filter (suchP n w v)).length + x → W (40, [some (vR (some M)), some (vI ((n : Nat) : Int)), some (vI ((w : Nat) : Int)), some (vI v), some (vI (((((codesL n).take k).filter (suchP n w v)).length : Int) + (x : Int))), some (vI ((k : Int) + 1))], [], tw h0 M (up A3 25 Y) sc3) := by
      intro x hx
      have := ih (k + 1) (up A3 25 Y) sc3 (by omega) hT2 hL2
      rw [hx] at this
      rw [Int.natCast_add] at this
      exact hW _ this
    refine ⟨fun c => ?_, fun c => ?_⟩
    · (conv => whnf); simp (disch := omega) only [iadd_eq, isub_eq, imul_eq]
      refine fin 0 ?_
      rw [hsuc]
      have : suchP n w v ((codesL n)[k]) = false := decide_eq_false c
      rw [this]; rfl
    · (conv => whnf); simp (disch := omega) only [iadd_eq, isub_eq, imul_eq]
      refine fin 1 ?_
      rw [hsuc]
      have : suchP n w v ((codesL n)[k]) = true := decide_eq_true c
      rw [this]; rfl
theorem such_tw (h : TW A sc S) {n w v : Int} : wp (d + 13) 356 (0, ent 6 [vR (some M), vI n, vI w, vI v], [], tw h0 M A sc) (twEnd h0 M (vI (aSuch n w v)) S) := by
  refine wp.go [40] 60 fun W C hW hC => ?_
  refine hC _ _ _ (use (wpd.up (show d + 1 ≤ d + 12 by omega) (isIn_s (d := d) _ _ _ _)) ?_); rintro _ _ ⟨rfl, rfl⟩
  refine ⟨fun c => ?_, fun c => ?_⟩
  · have c1 := b0.mp c
    unfold aSuch
    rw [if_pos (Or.inl c1)]
    exact ⟨rfl, _, _, rfl, h⟩
  · have c1 := b1.mp c
    refine hC _ _ _ (use (wpd.up (show d + 1 ≤ d + 12 by omega) (isIn_s (d := d) _ _ _ _)) ?_); rintro _ _ ⟨rfl, rfl⟩
    refine ⟨fun c => ?_, fun c => ?_⟩
    · have c2 := b0.mp c
      unfold aSuch
      rw [if_pos (Or.inr (Or.inl c2))]
      exact ⟨rfl, _, _, rfl, h⟩
    · have c2 := b1.mp c
      refine ⟨fun c3 => ?_, fun c3 => ?_⟩
      · obtain ⟨n, rfl⟩ : ∃ m : Nat, n = (m : Int) := ⟨n.toNat, by omega⟩
        obtain ⟨w, rfl⟩ : ∃ m : Nat, w = (m : Int) := ⟨w.toNat, by omega⟩
        have ha : aSuch ((n : Nat) : Int) ((w : Nat) : Int) v = ((((codesL n).filter (suchP n w v)).length : Nat) : Int) := by
          unfold aSuch
          rw [if_neg (by omega), Int.toNat_natCast, Int.toNat_natCast]
        rw [ha] at hW
        refine ⟨_, _, _, twF, rfl, ?_⟩
        refine hC _ _ _ (use (lists_tw h) ?_)
        rintro _ _ ⟨rfl, A1, sc1, rfl, hT1, hL⟩
        exact hW _ (wpd.up (show d + 12 ≤ d + 13 by omega) (such_loop (d := d) (n := n) (w := w) (v := v) (by omega) (by omega) (by omega) (codesL n).length 0 A1 sc1 rfl hT1 hL))
      · unfold aSuch
        rw [if_pos (Or.inr (Or.inr (by omega)))]
        exact ⟨rfl, _, _, rfl, h⟩
end SUCH
