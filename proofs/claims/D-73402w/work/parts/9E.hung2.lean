section HUNG2
variable {d : Nat} {h0 : AH} {M : Nat} {A : Nat → List Int} {sc : Nat → Int} {tab : List Tr} {G : Gr} {D : Nat → Nat → Nat}
def hnQ (G : Gr) (P : List Nat) (fr : Int) (i e : Nat) : Bool := (!decide (((e : Nat) : Int) = fr) && (!(decide (0 < i) && Nat.beq e (ptN P (i - 1))) && !(decide (i + 1 < P.length) && Nat.beq e (ptN P (i + 1))))) && G.2 (ptN P i) e
theorem hn_range (G : Gr) (P : List Nat) (fr : Int) (i : Nat) : hn G P fr i = (List.range G.1).filter (hnQ G P fr i) := by
  unfold hn nb
  rw [List.filter_filter]
  rfl
theorem hvAt_cons {X : List Int} {c x : Nat} {r : List Nat} (h : hvAt X c (x :: r)) : gt X r.length = ((16 * c + x : Nat) : Int) := by
  refine h _ _ ?_
  rw [List.reverse_cons, List.getElem?_append_right (by rw [List.length_reverse]; exact Nat.le_refl _), List.length_reverse, Nat.sub_self]
  rfl
theorem ins_go {tx : Nat → Tx} {c e n i many : Nat} {fr : Int} (hA : lens A) (hc : c < 16) (he : e < 16) (hTe : txAt (A 40) (96 * (16 * c + e)) (gt (A 41) (16 * c + e)) (tx e) ∧ okX (tx e) ∧ (tx e).length ≤ 96) (hn4 : n < 4) {X0 : List Int} {R : List Nat} (hR : hvAt X0 c R) (hRn : R.length = n) (hRt : ∀ x, x ∈ R → txAt (A 40) (96 * (16 * c + x)) (gt (A 41) (16 * c + x)) (tx x) ∧ okX (tx x) ∧ (tx x).length ≤ 96 ∧ x < 16)
    {Q : Rs → AH → Prop} (hQ : ∀ X x7, X.length = 4 → hvAt X c (insV tx e R) → wp (d + 2) 388 (161, [some (vR (some M)), some (vI ((i : Nat) : Int)), some (vI ((many : Nat) : Int)), some (vI fr), some (vI ((c : Nat) : Int)), some (vI ((n + 1 : Nat) : Int)), some (vI ((e : Nat) : Int)), x7], [], tw h0 M (up A 45 X) sc) Q) :
    ∀ (R2 R1 : List Nat) (X : List Int), R = R1 ++ R2 → (∀ x, x ∈ R1 → difT (tx e) (tx x) < 0) → X.length = 4 → (∀ j, j < R2.length → gt X j = gt X0 j) → (∀ j, R2.length ≤ j → j < n → gt X (j + 1) = gt X0 j) →
      wp (d + 2) 388 (92, [some (vR (some M)), some (vI ((i : Nat) : Int)), some (vI ((many : Nat) : Int)), some (vI fr), some (vI ((c : Nat) : Int)), some (vI ((n : Nat) : Int)), some (vI ((e : Nat) : Int)), some (vI ((R2.length : Nat) : Int))], [], tw h0 M (up A 45 X) sc) Q := by
  have fin : ∀ (R2 R1 : List Nat) (X : List Int), R = R1 ++ R2 → (∀ x, x ∈ R1 → difT (tx e) (tx x) < 0) → (∀ x, R2[0]? = some x → ¬ difT (tx e) (tx x) < 0) → X.length = 4 → (∀ j, j < R2.length → gt X j = gt X0 j) → (∀ j, R2.length ≤ j → j < n → gt X (j + 1) = gt X0 j) →
      wp (d + 2) 388 (143, [some (vR (some M)), some (vI ((i : Nat) : Int)), some (vI ((many : Nat) : Int)), some (vI fr), some (vI ((c : Nat) : Int)), some (vI ((n : Nat) : Int)), some (vI ((e : Nat) : Int)), some (vI ((R2.length : Nat) : Int))], [], tw h0 M (up A 45 X) sc) Q := by
    intro R2 R1 X hR12 h1 h2 hX hx1 hx2
    have hlen : R1.length + R2.length = n := by rw [← hRn, hR12, List.length_append]
    have hA2 : lens (up A 45 X) := hA.up (by rw [hX]; rfl)
    refine wp.go [161] 40 fun W C hW hC => ?_
    refine ⟨_, _, _, _, twF, rfl, rfl, ?_⟩
    (conv => whnf); simp (disch := omega) only [iadd_eq, isub_eq, imul_eq]
    (refine ⟨_, twI rfl rfl, (by omega), (ilt (R2.length) (by omega) (lenlt (j := 45) (hA2) (show (R2.length) < 4 by omega))), ?_⟩; rw [twSetI rfl rfl]; try rw [Int.toNat_natCast])
    rw [up_up, up_eq, show 16 * ((c : Nat) : Int) + ((e : Nat) : Int) = ((16 * c + e : Nat) : Int) by omega]
    (conv => whnf); simp (disch := omega) only [iadd_eq, isub_eq, imul_eq]
    refine hW _ (hQ _ _ (by rw [List.length_set]; exact hX) ?_)
    rw [hR12, insV_at tx e R1 R2 h1 h2]
    intro j x hx
    rw [List.reverse_append, List.reverse_cons, List.append_assoc] at hx
    rw [hR12] at hR
    rw [gt_set (by omega)]
    by_cases c1 : j = R2.length
    · subst c1
      rw [List.getElem?_append_right (by rw [List.length_reverse]; exact Nat.le_refl _), List.length_reverse, Nat.sub_self] at hx
      cases hx
      rw [if_pos rfl]
    · rw [if_neg c1]
      by_cases c2 : j < R2.length
      · rw [List.getElem?_append_left (by rw [List.length_reverse]; exact c2)] at hx
        rw [hx1 j c2]
        refine hR j x ?_
        rw [List.reverse_append, List.getElem?_append_left (by rw [List.length_reverse]; exact c2)]
        exact hx
      · obtain ⟨k, rfl⟩ : ∃ k, j = k + 1 := ⟨j - 1, by omega⟩
        rw [List.getElem?_append_right (by rw [List.length_reverse]; omega), List.length_reverse, show k + 1 - R2.length = (k - R2.length) + 1 by omega, List.singleton_append, List.getElem?_cons_succ] at hx
        have hk := (List.getElem?_eq_some_iff.mp hx).1
        rw [List.length_reverse] at hk
        rw [hx2 k (by omega) (by omega)]
        refine hR k x ?_
        rw [List.reverse_append, List.getElem?_append_right (by rw [List.length_reverse]; omega), List.length_reverse]
        exact hx
  intro R2
  induction R2 with
  | nil =>
    intro R1 X hR12 h1 hX hx1 hx2
    refine wp.go [92, 143] 40 fun W C hW hC => ?_
    refine ⟨fun _ => ?_, fun q => absurd q (by simp)⟩
    exact hW _ (fin [] R1 X hR12 h1 (fun x hx => by simp at hx) hX hx1 hx2)
  | cons y r ih =>
    intro R1 X hR12 h1 hX hx1 hx2
    have hlen : R1.length + (r.length + 1) = n := by rw [← hRn, hR12, List.length_append, List.length_cons]
    have hA2 : lens (up A 45 X) := hA.up (by rw [hX]; rfl)
    have hy : gt X0 r.length = ((16 * c + y : Nat) : Int) := by
      refine hR _ _ ?_
      rw [hR12, List.reverse_append, List.reverse_cons, List.append_assoc, List.getElem?_append_right (by rw [List.length_reverse]; exact Nat.le_refl _), List.length_reverse, Nat.sub_self]
      rfl
    obtain ⟨y1, y2, y3, y4⟩ := hRt y (by rw [hR12]; exact List.mem_append.mpr (Or.inr List.mem_cons_self))
    have hxr : gt X r.length = ((16 * c + y : Nat) : Int) := by rw [hx1 r.length (by rw [List.length_cons]; omega)]; exact hy
    have hat := againstText_spec (d := d) (h0 := h0) (M := M) (sc := sc) (A := up A 45 X) (x := 16 * c + e) (y := 16 * c + y) hA2 (by omega) (by omega) (by rw [upn_ne _ _ (by decide), upn_ne _ _ (by decide)]; exact hTe.1) (by rw [upn_ne _ _ (by decide), upn_ne _ _ (by decide)]; exact y1) hTe.2.1 y2 hTe.2.2 y3
    rw [List.length_cons] at hx1 hx2
    refine wp.go [92, 143] 60 fun W C hW hC => ?_
    refine ⟨fun q => absurd q (by rw [List.length_cons]; omega), fun _ => ?_⟩
    refine ⟨_, _, _, _, twF, rfl, rfl, ?_⟩
    rw [List.length_cons]
    (conv => whnf); simp (disch := omega) only [iadd_eq, isub_eq, imul_eq]
    refine ⟨_, _, _, twI rfl rfl, rfl, (by omega), gt_at (r.length) (by omega) (lenlt (j := 45) (hA2) (show (r.length) < 4 by omega)), ?_⟩
    rw [up_eq, hxr, show 16 * ((c : Nat) : Int) + ((e : Nat) : Int) = ((16 * c + e : Nat) : Int) by omega]
    refine ⟨_, _, _, twF, rfl, ?_⟩
    refine hC _ _ _ (use (hat) ?_); rintro _ _ ⟨rfl, rfl⟩
    refine ⟨fun q => ?_, fun q => ?_⟩
    · exact hW _ (fin (y :: r) R1 X hR12 h1 (fun x hx => by cases hx; omega) hX (by rw [List.length_cons]; exact hx1) (by rw [List.length_cons]; exact hx2))
    · refine ⟨_, _, _, _, twF, rfl, rfl, ?_⟩
      refine ⟨_, _, _, _, twF, rfl, rfl, ?_⟩
      (conv => whnf); simp (disch := omega) only [iadd_eq, isub_eq, imul_eq]
      refine ⟨_, _, _, twI rfl rfl, rfl, (by omega), gt_at (r.length) (by omega) (lenlt (j := 45) (hA2) (show (r.length) < 4 by omega)), ?_⟩
      rw [up_eq, hxr]
      (refine ⟨_, twI rfl rfl, (by omega), (ilt (r.length + 1) (by omega) (lenlt (j := 45) (hA2) (show (r.length + 1) < 4 by omega))), ?_⟩; rw [twSetI rfl rfl]; try rw [Int.toNat_natCast])
      rw [up_up, up_eq]
      (conv => whnf); simp (disch := omega) only [iadd_eq, isub_eq, imul_eq]
      rw [show ((r.length + 1 : Nat) : Int) + -1 = ((r.length : Nat) : Int) by omega]
      refine hW _ (ih (R1 ++ [y]) _ (by rw [hR12, List.append_assoc]; rfl) (fun x hx => ?_) (by rw [List.length_set]; exact hX) (fun j hj => ?_) (fun j hj1 hj2 => ?_))
      · rcases List.mem_append.mp hx with hx | hx
        · exact h1 x hx
        · rw [List.mem_singleton.mp hx]; exact q
      · rw [gt_set (by omega), if_neg (by omega)]; exact hx1 j (by omega)
      · rw [gt_set (by omega)]
        by_cases e1 : j = r.length
        · subst e1
          rw [if_pos rfl, hy]
        · rw [if_neg (by omega)]; exact hx2 j (by omega) hj2
theorem laysHung_spec {P : List Nat} {fr : Int} {i : Nat} {tx : Nat → Tx} (hG : G.wf) (hd4 : ∀ a, deg G a ≤ 4) (hr : isRow (A 18) 0 G) (hA : lens A) (hP : ∀ j, j < P.length → gt (A 44) j = ((ptN P j : Nat) : Int)) (hPl : P.length ≤ 16) (hPn : ∀ j, j < P.length → ptN P j < G.1) (hi : i < P.length)
    (hT : ∀ x, x ∈ hn G P fr i → txAt (A 40) (96 * (16 * ptN P i + x)) (gt (A 41) (16 * ptN P i + x)) (tx x) ∧ okX (tx x) ∧ (tx x).length ≤ 96) :
    wp (d + 2) 388 (0, ent 8 [vR (some M), vI ((i : Nat) : Int), vI ((P.length : Nat) : Int), vI fr], [], tw h0 M A sc) (fun r h' => r = .inl (some (vI (((hn G P fr i).length : Nat) : Int))) ∧ ∃ X R, h' = tw h0 M (up A 45 X) sc ∧ X.length = 4 ∧ hvAt X (ptN P i) R ∧ R.map tx = hangR tx (hn G P fr i) ∧ ∀ x, x ∈ R → x ∈ hn G P fr i) := by
  have hn16 := hG.2.1
  have hci := hPn i hi
  have hrow := row_lt hn16 (c := ptN P i)
  have hl45 : (A 45).length = 4 := by rw [hA.eq 45]; rfl
  have hlen : (hn G P fr i).length ≤ 4 := Nat.le_trans (List.length_filter_le _ _) (hd4 (ptN P i))
  have hmx : ∀ x, x ∈ hn G P fr i → x < 16 := fun x hx => by have := (hG.2.2 _ _ (hn_mem hG hx)).2.1; omega
  rw [hn_range] at hlen hT hmx ⊢
  have loop : ∀ (j e : Nat) (X : List Int) (R : List Nat) (x7 : Option AV), j + e = G.1 → X.length = 4 → hvAt X (ptN P i) R → R.length = ((List.range e).filter (hnQ G P fr i)).length → R.map tx = hangR tx ((List.range e).filter (hnQ G P fr i)) → (∀ x, x ∈ R → x ∈ (List.range e).filter (hnQ G P fr i)) →
      wp (d + 2) 388 (14, [some (vR (some M)), some (vI ((i : Nat) : Int)), some (vI ((P.length : Nat) : Int)), some (vI fr), some (vI ((ptN P i : Nat) : Int)), some (vI ((R.length : Nat) : Int)), some (vI ((e : Nat) : Int)), x7], [], tw h0 M (up A 45 X) sc) (fun r h' => r = .inl (some (vI ((((List.range G.1).filter (hnQ G P fr i)).length : Nat) : Int))) ∧ ∃ X R, h' = tw h0 M (up A 45 X) sc ∧ X.length = 4 ∧ hvAt X (ptN P i) R ∧ R.map tx = hangR tx ((List.range G.1).filter (hnQ G P fr i)) ∧ ∀ x, x ∈ R → x ∈ (List.range G.1).filter (hnQ G P fr i)) := by
    intro j
    induction j with
    | zero =>
      intro e X R x7 hj hX hR hRl hRm hRs
      obtain rfl : e = G.1 := by omega
      have hA2 : lens (up A 45 X) := hA.up (by rw [hX]; rfl)
      refine wp.go [14] 40 fun W C hW hC => ?_
      refine ⟨_, _, _, _, twF, rfl, rfl, ?_⟩
      refine ⟨_, _, _, twI rfl rfl, rfl, (by omega), gt_at (0) (by omega) (lenlt (j := 18) (hA2) (show (0) < 17 by omega)), ?_⟩
      rw [upn_ne _ _ (by decide), hr.1]
      refine ⟨fun _ => ?_, fun q => absurd q (by omega)⟩
      refine ⟨?_, X, R, rfl, hX, hR, hRm, hRs⟩
      rw [hRl]
    | succ j ih =>
      intro e X R x7 hj hX hR hRl hRm hRs
      have hA2 : lens (up A 45 X) := hA.up (by rw [hX]; rfl)
      have hsuc : (List.range (e + 1)).filter (hnQ G P fr i) = (List.range e).filter (hnQ G P fr i) ++ (if hnQ G P fr i e = true then [e] else []) := by
        rw [List.range_succ, List.filter_append, List.filter_cons]
        rfl
      have skip : ∀ x7, hnQ G P fr i e = false → wp (d + 2) 388 (161, [some (vR (some M)), some (vI ((i : Nat) : Int)), some (vI ((P.length : Nat) : Int)), some (vI fr), some (vI ((ptN P i : Nat) : Int)), some (vI ((R.length : Nat) : Int)), some (vI ((e : Nat) : Int)), x7], [], tw h0 M (up A 45 X) sc) (fun r h' => r = .inl (some (vI ((((List.range G.1).filter (hnQ G P fr i)).length : Nat) : Int))) ∧ ∃ X R, h' = tw h0 M (up A 45 X) sc ∧ X.length = 4 ∧ hvAt X (ptN P i) R ∧ R.map tx = hangR tx ((List.range G.1).filter (hnQ G P fr i)) ∧ ∀ x, x ∈ R → x ∈ (List.range G.1).filter (hnQ G P fr i)) := by
        intro x7 hq
        rw [hq, if_neg (by decide), List.append_nil] at hsuc
        refine wp.go [14] 10 fun W C hW hC => ?_
        (conv => whnf); simp (disch := omega) only [iadd_eq, isub_eq, imul_eq]
        exact hW _ (ih (e + 1) X R x7 (by omega) hX hR (by rw [hsuc]; exact hRl) (by rw [hsuc]; exact hRm) (by rw [hsuc]; exact hRs))
      have put : hnQ G P fr i e = true → ∀ x7, wp (d + 2) 388 (88, [some (vR (some M)), some (vI ((i : Nat) : Int)), some (vI ((P.length : Nat) : Int)), some (vI fr), some (vI ((ptN P i : Nat) : Int)), some (vI ((R.length : Nat) : Int)), some (vI ((e : Nat) : Int)), x7], [], tw h0 M (up A 45 X) sc) (fun r h' => r = .inl (some (vI ((((List.range G.1).filter (hnQ G P fr i)).length : Nat) : Int))) ∧ ∃ X R, h' = tw h0 M (up A 45 X) sc ∧ X.length = 4 ∧ hvAt X (ptN P i) R ∧ R.map tx = hangR tx ((List.range G.1).filter (hnQ G P fr i)) ∧ ∀ x, x ∈ R → x ∈ (List.range G.1).filter (hnQ G P fr i)) := by
        intro hq x7
        rw [hq, if_pos rfl] at hsuc
        have hsub : ∀ m x, m ≤ G.1 → x ∈ (List.range m).filter (hnQ G P fr i) → x ∈ (List.range G.1).filter (hnQ G P fr i) := by
          intro m x hm hx
          obtain ⟨h1, h2⟩ := List.mem_filter.mp hx
          exact List.mem_filter.mpr ⟨List.mem_range.mpr (by have := List.mem_range.mp h1; omega), h2⟩
        have hle : ((List.range (e + 1)).filter (hnQ G P fr i)).length ≤ 4 := by
          refine Nat.le_trans ?_ hlen
          have : (List.range (e + 1)).Sublist (List.range G.1) := List.range_sublist.mpr (by omega)
          exact (this.filter _).length_le
        rw [hsuc, List.length_append, List.length_singleton] at hle
        have hemem : e ∈ (List.range G.1).filter (hnQ G P fr i) := List.mem_filter.mpr ⟨List.mem_range.mpr (by omega), hq⟩
        have key := ins_go (d := d) (h0 := h0) (M := M) (sc := sc) (tx := tx) (c := ptN P i) (e := e) (n := R.length) (i := i) (many := P.length) (fr := fr) hA (by omega) (by omega) (hT e hemem) (by omega) hR rfl (fun x hx => by
          have hx2 := hsub e x (by omega) (hRs x hx)
          have := hT x hx2
          exact ⟨this.1, this.2.1, this.2.2, hmx x hx2⟩) (Q := fun r h' => r = .inl (some (vI ((((List.range G.1).filter (hnQ G P fr i)).length : Nat) : Int))) ∧ ∃ X R, h' = tw h0 M (up A 45 X) sc ∧ X.length = 4 ∧ hvAt X (ptN P i) R ∧ R.map tx = hangR tx ((List.range G.1).filter (hnQ G P fr i)) ∧ ∀ x, x ∈ R → x ∈ (List.range G.1).filter (hnQ G P fr i)) (fun X' x7' hX' hv' => ?_) R [] X rfl (fun x hx => (nomatch hx)) hX (fun _ _ => rfl) (fun j h1 h2 => by omega)
        · refine wp.go [92] 10 fun W C hW hC => ?_
          exact hW _ key
        · have hvl : (insV tx e R).length = R.length + 1 := by
            have := congrArg List.length (insV_map tx e R)
            rw [List.length_map, insR_len, List.length_map] at this
            exact this
          refine wp.go [14] 10 fun W C hW hC => ?_
          (conv => whnf); simp (disch := omega) only [iadd_eq, isub_eq, imul_eq]
          have := ih (e + 1) X' (insV tx e R) x7' (by omega) hX' hv' (by rw [hvl, hsuc, List.length_append, List.length_singleton, hRl]) (by rw [insV_map, hRm, hsuc, hangR_snoc]) (fun x hx => ?_)
          · rw [hvl] at this
            exact hW _ this
          · rw [hsuc]
            have hm : ∀ l : List Nat, x ∈ insV tx e l → x = e ∨ x ∈ l := by
              intro l
              induction l with
              | nil => intro h; exact Or.inl (List.mem_singleton.mp h)
              | cons y s ihl =>
                intro h
                unfold insV at h
                split at h
                · rcases List.mem_cons.mp h with rfl | h
                  · exact Or.inr List.mem_cons_self
                  · rcases ihl h with q | q
                    · exact Or.inl q
                    · exact Or.inr (List.mem_cons_of_mem _ q)
                · rcases List.mem_cons.mp h with rfl | h
                  · exact Or.inl rfl
                  · exact Or.inr h
            rcases hm R hx with q | q
            · exact List.mem_append.mpr (Or.inr (List.mem_singleton.mpr q))
            · exact List.mem_append.mpr (Or.inl (hRs x q))
      refine wp.go [14, 65, 161] 90 fun W C hW hC => ?_
      refine ⟨_, _, _, _, twF, rfl, rfl, ?_⟩
      refine ⟨_, _, _, twI rfl rfl, rfl, (by omega), gt_at (0) (by omega) (lenlt (j := 18) (hA2) (show (0) < 17 by omega)), ?_⟩
      rw [upn_ne _ _ (by decide), hr.1]
      refine ⟨fun q => absurd q (by omega), fun _ => ?_⟩
      refine ⟨_, _, _, _, twF, rfl, rfl, ?_⟩
      (conv => whnf); simp (disch := omega) only [iadd_eq, isub_eq, imul_eq]
      refine ⟨_, _, _, twI rfl rfl, rfl, (by omega), gt_at (1 + ptN P i) (by omega) (lenlt (j := 18) (hA2) (show (1 + ptN P i) < 17 by omega)), ?_⟩
      rw [upn_ne _ _ (by decide), isRow0 hr hci]
      refine hC _ _ _ (use (has_spec (d := d) (by omega) (by omega)) ?_); rintro _ _ ⟨rfl, rfl⟩
      rw [row_bit hG]
      refine ⟨fun q => ?_, fun q => ?_⟩
      · refine hW _ (skip _ ?_)
        have := b0.mp q
        unfold hnQ
        rw [Bool.eq_false_iff.mpr this, Bool.and_false]
      · have hce := b1.mp q
        refine ⟨fun c1 => ?_, fun c1 => ?_⟩
        · refine hW _ (skip _ ?_)
          unfold hnQ
          rw [decide_eq_true c1]; rfl
        · have tail : (decide (0 < i) && Nat.beq e (ptN P (i - 1))) = false → wp (d + 2) 388 (65, [some (vR (some M)), some (vI ((i : Nat) : Int)), some (vI ((P.length : Nat) : Int)), some (vI fr), some (vI ((ptN P i : Nat) : Int)), some (vI ((R.length : Nat) : Int)), some (vI ((e : Nat) : Int)), x7], [], tw h0 M (up A 45 X) sc) (fun r h' => r = .inl (some (vI ((((List.range G.1).filter (hnQ G P fr i)).length : Nat) : Int))) ∧ ∃ X R, h' = tw h0 M (up A 45 X) sc ∧ X.length = 4 ∧ hvAt X (ptN P i) R ∧ R.map tx = hangR tx ((List.range G.1).filter (hnQ G P fr i)) ∧ ∀ x, x ∈ R → x ∈ (List.range G.1).filter (hnQ G P fr i)) := by
            intro hp
            refine wp.go [88, 161] 60 fun W C hW hC => ?_
            (conv => whnf); simp (disch := omega) only [iadd_eq, isub_eq, imul_eq]
            refine ⟨fun c2 => ?_, fun c2 => ?_⟩
            · refine hW _ (put ?_ _)
              unfold hnQ
              rw [decide_eq_false c1, hp, decide_eq_false (show ¬ i + 1 < P.length by omega), hce]
              rfl
            · refine ⟨_, _, _, _, twF, rfl, rfl, ?_⟩
              (conv => whnf); simp (disch := omega) only [iadd_eq, isub_eq, imul_eq]
              refine ⟨_, _, _, twI rfl rfl, rfl, (by omega), gt_at (i + 1) (by omega) (lenlt (j := 44) (hA2) (show (i + 1) < 16 by omega)), ?_⟩
              rw [upn_ne _ _ (by decide), hP (i + 1) (by omega)]
              refine ⟨fun c3 => ?_, fun c3 => ?_⟩
              · refine hW _ (put ?_ _)
                unfold hnQ
                rw [decide_eq_false c1, hp, beq_ff (show e ≠ ptN P (i + 1) by omega), Bool.and_false, hce]
                rfl
              · refine hW _ (skip _ ?_)
                unfold hnQ
                rw [hp, decide_eq_true (show i + 1 < P.length by omega), beqN.mpr (show e = ptN P (i + 1) by omega)]
                simp
          refine ⟨fun c2 => ?_, fun c2 => ?_⟩
          · refine hW _ (tail ?_)
            rw [decide_eq_false (show ¬ 0 < i by omega)]; rfl
          · refine ⟨_, _, _, _, twF, rfl, rfl, ?_⟩
            (conv => whnf); simp (disch := omega) only [iadd_eq, isub_eq, imul_eq]
            refine ⟨_, _, _, twI rfl rfl, rfl, (by omega), gt_at (i - 1) (by omega) (lenlt (j := 44) (hA2) (show (i - 1) < 16 by omega)), ?_⟩
            rw [upn_ne _ _ (by decide), hP (i - 1) (by omega)]
            refine ⟨fun c3 => ?_, fun c3 => ?_⟩
            · refine hW _ (skip _ ?_)
              unfold hnQ
              rw [decide_eq_true (show 0 < i by omega), beqN.mpr (show e = ptN P (i - 1) by omega)]
              simp
            · refine hW _ (tail ?_)
              rw [beq_ff (show e ≠ ptN P (i - 1) by omega), Bool.and_false]
  refine wp.go [14] 30 fun W C hW hC => ?_
  refine ⟨_, _, _, _, twF, rfl, rfl, ?_⟩
  refine ⟨_, _, _, twI rfl rfl, rfl, (by omega), gt_at (i) (by omega) (lenlt (j := 44) (hA) (show (i) < 16 by omega)), ?_⟩
  rw [hP i hi]
  have key := loop G.1 0 (A 45) [] none rfl hl45 (fun k x hx => by simp at hx) rfl rfl (fun x hx => (nomatch hx))
  rw [upn_self] at key
  exact hW _ key
end HUNG2
