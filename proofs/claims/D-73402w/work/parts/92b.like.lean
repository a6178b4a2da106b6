/-! LIKE CARBONS, SUMS OVER ALL CARBONS -/
/-- the first carbon like c -/
def lkC (G : Gr) (c : Nat) : Nat := (List.range G.1).findIdx fun e => eqT (TT G 16 e) (TT G 16 c)
theorem findIdx_at {p : Nat → Bool} {n e : Nat} (he : e < n) (hp : p e = true) (hno : ∀ i, i < e → p i = false) : (List.range n).findIdx p = e := by
  have hl : (List.range n).findIdx p < (List.range n).length := List.findIdx_lt_length_of_exists ⟨e, List.mem_range.mpr he, hp⟩
  have h1 := List.findIdx_getElem (xs := List.range n) (p := p) (w := hl)
  rw [List.getElem_range] at h1
  have h2 : ∀ i, i < (List.range n).findIdx p → p i = false := by
    intro i hi
    have := List.not_of_lt_findIdx hi
    rw [List.getElem_range] at this
    exact Bool.eq_false_iff.mpr (by simpa using this)
  by_cases h : (List.range n).findIdx p < e
  · rw [hno _ h] at h1; exact absurd h1 (by decide)
  · by_cases k : e < (List.range n).findIdx p
    · rw [h2 _ k] at hp; exact absurd hp (by decide)
    · omega
section LIKE
variable {d : Nat} {h0 : AH} {M : Nat} {A : Nat → List Int} {sc : Nat → Int} {tab : List Tr} {G : Gr} {D : Nat → Nat → Nat}
theorem leastLike_spec (hG : G.wf) (hS : Seen A sc tab G D) {c : Nat} (hc : c < G.1) : wp (d + 2) 365 (0, ent 3 [vR (some M), vI c], [], tw h0 M A sc) (gives (tw h0 M A sc) ((lkC G c : Nat) : Int)) := by
  have hn := hG.2.1
  have hT := hS.1.2.1
  have loop : ∀ (j e : Nat), j + e = c → (∀ e', e' < e → eqT (TT G 16 e') (TT G 16 c) = false) → wp (d + 2) 365 (2, [some (vR (some M)), some (vI c), some (vI e)], [], tw h0 M A sc) (gives (tw h0 M A sc) ((lkC G c : Nat) : Int)) := by
    intro j
    induction j with
    | zero =>
      intro e hj h
      obtain rfl : e = c := by omega
      have hl : lkC G e = e := findIdx_at (p := fun i => eqT (TT G 16 i) (TT G 16 e)) hc ((eqT_iff (TT_ok G 16 e) (TT_ok G 16 e)).mpr rfl) h
      refine wp.go [2] 40 fun W C hW hC => ?_
      refine ⟨_, _, _, twF, rfl, ?_⟩
      refine hC _ _ _ (wpd.up (show d + 1 ≤ d + 1 by omega) (rootAt_spec (d := d) hS hc hn (fun i i1 i2 => ?_)))
      refine ⟨_, _, _, twF, rfl, ?_⟩
      refine hC _ _ _ (rootAt_spec (d := d) hS hc hn (fun k k1 k2 => ?_))
      obtain rfl := gtT_inj hT.1 i1 k1 (i2.trans k2.symm)
      refine ⟨fun _ => ⟨by rw [hl], rfl⟩, fun c => absurd rfl c⟩
    | succ j ih =>
      intro e hj h
      refine wp.go [2] 40 fun W C hW hC => ?_
      refine ⟨_, _, _, twF, rfl, ?_⟩
      refine hC _ _ _ (rootAt_spec (d := d) hS (c := e) (by omega) hn (fun i i1 i2 => ?_))
      refine ⟨_, _, _, twF, rfl, ?_⟩
      refine hC _ _ _ (rootAt_spec (d := d) hS hc hn (fun k k1 k2 => ?_))
      refine ⟨fun c1 => ?_, fun c1 => ?_⟩
      · have : i = k := by omega
        subst this
        have ht : TT G 16 e = TT G 16 c := Option.some.inj (i2.symm.trans k2)
        have hl : lkC G c = e := findIdx_at (p := fun i => eqT (TT G 16 i) (TT G 16 c)) (by omega) ((eqT_iff (TT_ok G 16 e) (TT_ok G 16 c)).mpr ht) h
        exact ⟨by rw [hl], rfl⟩
      · (conv => whnf); simp (disch := omega) only [iadd_eq, isub_eq, imul_eq]
        refine hW _ (ih (e + 1) (by omega) (fun e' h1 => ?_))
        by_cases z : e' = e
        · subst z
          cases q : eqT (TT G 16 e') (TT G 16 c) with
          | false => rfl
          | true =>
            have ht := (eqT_iff (TT_ok G 16 e') (TT_ok G 16 c)).mp q
            rw [ht] at i2
            exact absurd (congrArg Nat.cast (gtT_inj hT.1 i1 k1 (i2.trans k2.symm))) c1
        · exact h e' (by omega)
  refine wp.go [2] 20 fun W C hW hC => ?_
  exact hW _ (loop c 0 rfl (fun _ h => absurd h (by omega)))
theorem difL_step : ∀ (k : Nat) (l : List Tr), k + 1 < l.length → difL (l.take (k + 2)) = (difL (l.take (k + 1)) && !eqO l[k]? l[k + 1]?)
  | _, [], h => absurd h (Nat.not_lt_zero _)
  | _, [_], h => absurd h (by simp)
  | 0, a :: b :: l, _ => by
    show (!eqT a b && true) = (true && !eqT a b)
    cases eqT a b <;> rfl
  | k + 1, a :: b :: l, h => by
    have ih := difL_step k (b :: l) (by simp only [List.length_cons] at h ⊢; omega)
    show (!eqT a b && difL ((b :: l).take (k + 2))) = ((!eqT a b && difL ((b :: l).take (k + 1))) && !eqO (b :: l)[k]? (b :: l)[k + 1]?)
    rw [ih]
    cases eqT a b <;> simp
theorem isAsymmetric_spec (hG : G.wf) (hS : Seen A sc tab G D) {c : Nat} (hc : c < G.1) : wp (d + 2) 362 (0, ent 5 [vR (some M), vI c], [], tw h0 M A sc) (gives (tw h0 M A sc) (z01 (asyT (TT G 16 c)))) := by
  have hn := hG.2.1
  obtain ⟨⟨hA, hT, hK, hV, hH, -⟩, hr, hb, hat, hrt⟩ := id hS
  have key : ∀ i, i ≤ tab.length → gtT tab i = some (TT G 16 c) → ∀ (j k : Nat), j + k = max (kidsT (TT G 16 c)).length 1 → 1 ≤ k → wp (d + 2) 362 (25, [some (vR (some M)), some (vI c), some (vI ((i : Nat) : Int)), some (vI (z01 (decide (2 < (kidsT (TT G 16 c)).length) && difL ((kidsT (TT G 16 c)).take k)))), some (vI k)], [], tw h0 M A sc) (gives (tw h0 M A sc) (z01 (asyT (TT G 16 c)))) := by
    intro i i1 i2
    obtain ⟨t1, t2, t3⟩ := gtT_le i2
    have hl4 := (hT.2.1 _ t3).2.2.1
    have hok := (hT.2.1 _ t3).1
    have h63 := hT.2.2
    obtain ⟨a1, a2, a3, a4⟩ := hK i _ i2
    generalize hL : kidsT (TT G 16 c) = L at *
    intro j
    induction j with
    | zero =>
      intro k hj hk
      have hfin : (decide (2 < L.length) && difL (L.take k)) = asyT (TT G 16 c) := by
        unfold asyT; rw [hL, List.take_of_length_le (by omega)]
      rw [hfin]
      refine wp.go [25] 40 fun W C hW hC => ?_
      refine ⟨_, _, _, _, twF, rfl, rfl, ?_⟩
      refine ⟨_, _, _, twI rfl rfl, rfl, (by omega), gt_at (i) (by omega) (lenlt (j := 12) (hA) (show (i) < 64 by omega)), ?_⟩
      rw [a2]
      refine ⟨fun _ => ⟨?_, rfl, rfl⟩, fun c => absurd c (by omega)⟩
      cases asyT (TT G 16 c)
      · exact Or.inl rfl
      · exact Or.inr rfl
    | succ j ih =>
      intro k hj hk
      have fin : ∀ (b : Bool) (b0 : Int), b = (decide (2 < L.length) && difL (L.take (k + 1))) → wp (d + 2) 362 (72, [some (vR (some M)), some (vI c), some (vI ((i : Nat) : Int)), some (vI b0), some (vI k)], [vI (z01 b)], tw h0 M A sc) (gives (tw h0 M A sc) (z01 (asyT (TT G 16 c)))) := by
        intro b b0 hb
        have q := ih (k + 1) (by omega) (by omega)
        rw [← hb] at q
        refine wp.go [25] 20 fun W C hW hC => ?_
        (conv => whnf); simp (disch := omega) only [iadd_eq, isub_eq, imul_eq]
        exact hW _ q
      obtain ⟨m, rfl⟩ : ∃ m, k = m + 1 := ⟨k - 1, by omega⟩
      have hst := difL_step m L (by omega)
      obtain ⟨x, x1, x2, x3⟩ := a4 (m + 1) (by omega)
      obtain ⟨y, y1, y2, y3⟩ := a4 m (by omega)
      refine wp.go [25, 72] 60 fun W C hW hC => ?_
      refine ⟨_, _, _, _, twF, rfl, rfl, ?_⟩
      refine ⟨_, _, _, twI rfl rfl, rfl, (by omega), gt_at (i) (by omega) (lenlt (j := 12) (hA) (show (i) < 64 by omega)), ?_⟩
      rw [a2]
      refine ⟨fun c => absurd c (by omega), fun _ => ?_⟩
      cases hb : (decide (2 < L.length) && difL (L.take (m + 1))) with
      | false =>
        refine ⟨fun _ => ?_, fun c => absurd rfl c⟩
        refine hW _ (fin false _ ?_)
        rw [hst, ← Bool.and_assoc, hb]; rfl
      | true =>
        refine ⟨fun c => absurd c (by decide), fun _ => ?_⟩
        refine ⟨_, _, _, _, twF, rfl, rfl, ?_⟩
        conv => whnf
        simp (disch := omega) only [iadd_eq, imul_eq]
        refine ⟨_, _, _, twI rfl rfl, rfl, (by omega), gt_at (4 * i + (m + 1)) (by omega) (lenlt (j := 11) (hA) (show (4 * i + (m + 1)) < 256 by omega)), ?_⟩
        rw [x2]
        refine ⟨_, _, _, _, twF, rfl, rfl, ?_⟩
        conv => whnf
        simp (disch := omega) only [iadd_eq, imul_eq, isub_eq]
        refine ⟨_, _, _, twI rfl rfl, rfl, (by omega), gt_at (4 * i + m) (by omega) (lenlt (j := 11) (hA) (show (4 * i + m) < 256 by omega)), ?_⟩
        rw [y2]
        have ok : ∀ k : Nat, okO L[k]? := by
          intro k
          cases e : L[k]? with
          | none => trivial
          | some v => exact ok_kid _ hok v (by rw [hL]; exact List.mem_of_getElem? e)
        refine ⟨fun c1 => ?_, fun c1 => ?_⟩
        · have : x = y := by omega
          subst this
          refine hW _ (fin false _ ?_)
          rw [hst, (eqO_iff (ok m) (ok (m + 1))).mpr (y3.symm.trans x3)]; simp
        · refine hW _ (fin true _ ?_)
          rw [hst, ← Bool.and_assoc, hb]
          cases q : eqO L[m]? L[m + 1]? with
          | false => rfl
          | true => exact absurd (congrArg Nat.cast (gtT_inj hT.1 x1 y1 (x3.trans ((eqO_iff (ok m) (ok (m + 1))).mp q |>.symm.trans y3.symm)))) c1
  refine wp.go [25] 40 fun W C hW hC => ?_
  refine ⟨_, _, _, twF, rfl, ?_⟩
  refine hC _ _ _ (rootAt_spec (d := d) hS hc hn (fun i i1 i2 => ?_))
  obtain ⟨t1, t2, t3⟩ := gtT_le i2
  have h63 := hT.2.2
  have kk := key i i1 i2 (max (kidsT (TT G 16 c)).length 1 - 1) 1 (by omega) (by omega)
  have hd1 : difL ((kidsT (TT G 16 c)).take 1) = true := by
    cases kidsT (TT G 16 c) <;> rfl
  rw [hd1, Bool.and_true] at kk
  refine ⟨_, _, _, _, twF, rfl, rfl, ?_⟩
  refine ⟨_, _, _, twI rfl rfl, rfl, (by omega), gt_at (i) (by omega) (lenlt (j := 12) (hA) (show (i) < 64 by omega)), ?_⟩
  rw [(hK i _ i2).2.1]
  refine ⟨fun c1 => ?_, fun c1 => ?_⟩
  · rw [decide_eq_false (by omega)] at kk
    exact hW _ kk
  · rw [decide_eq_true (by omega)] at kk
    exact hW _ kk
end LIKE
