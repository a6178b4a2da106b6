/-! WHAT IS READ grows: carbons in a row -/
abbrev gNil : Gr := (0, fun _ _ => false)
def gAdd1 (G : Gr) (to : Int) : Gr := if to = -1 then (G.1 + 1, G.2) else gGrow G to.toNat
def lasT (G : Gr) (to : Int) (k : Nat) : Int := if k = 0 then to else ((G.1 + k - 1 : Nat) : Int)
def gAdds (G : Gr) (to : Int) : Nat → Gr
  | 0 => G
  | k + 1 => gAdd1 (gAdds G to k) (lasT G to k)
theorem adds_n (G : Gr) (to : Int) : ∀ k, (gAdds G to k).1 = G.1 + k
  | 0 => rfl
  | k + 1 => by
    show (gAdd1 (gAdds G to k) (lasT G to k)).1 = _
    unfold gAdd1
    split
    · show (gAdds G to k).1 + 1 = _; rw [adds_n G to k]; omega
    · show (gAdds G to k).1 + 1 = _; rw [adds_n G to k]; omega
/-- what is read so far: nothing, or a skeleton; to whom more can be bound -/
abbrev rdTo (G : Gr) (to : Int) : Prop := (G = gNil ∧ to = -1) ∨ (G.ok ∧ 0 ≤ to ∧ to < ((G.1 : Nat) : Int) ∧ deg G to.toNat ≠ 4)
theorem adds_ok {G : Gr} {to : Int} (h : rdTo G to) : ∀ k, 1 ≤ k → G.1 + k ≤ 16 → (gAdds G to k).ok ∧ deg (gAdds G to k) (G.1 + k - 1) ≤ 1
  | 0, h1, _ => by omega
  | 1, _, h2 => by
    show (gAdd1 G (lasT G to 0)).ok ∧ _
    show (gAdd1 G to).ok ∧ deg (gAdd1 G to) (G.1 + 1 - 1) ≤ 1
    rcases h with ⟨rfl, rfl⟩ | ⟨k1, k2, k3, k4⟩
    · exact ⟨one_ok, by decide⟩
    · unfold gAdd1
      rw [if_neg (by omega)]
      refine ⟨grow_ok k1 (by omega) (by omega) k4, ?_⟩
      rw [grow_deg k1.1 (by omega) _ (by omega), if_neg (by omega)]
      exact Nat.le_refl _
  | k + 2, _, h2 => by
    obtain ⟨i1, i2⟩ := adds_ok h (k + 1) (by omega) (by omega)
    have hn := adds_n G to (k + 1)
    show (gAdd1 (gAdds G to (k + 1)) (lasT G to (k + 1))).ok ∧ deg (gAdd1 (gAdds G to (k + 1)) (lasT G to (k + 1))) _ ≤ 1
    unfold gAdd1 lasT
    rw [if_neg (show ¬ k + 1 = 0 by omega), if_neg (by omega), Int.toNat_natCast]
    refine ⟨grow_ok i1 (by omega) (by omega) (by omega), ?_⟩
    rw [grow_deg i1.1 (by omega) _ (by omega), if_neg (by omega)]
    exact Nat.le_refl _
section ADDS
variable {d : Nat} {h0 : AH} {M : Nat} {A : Nat → List Int} {sc : Nat → Int}
/-- one carbon more in a row of 17 -/
theorem add1_rows {H : Gr} {X : List Int} (hX : X.length = 17) (hr : isRow X 0 H) (hn : H.1 < 16) {to : Int} (h : (H = gNil ∧ to = -1) ∨ (H.wf ∧ 0 ≤ to ∧ to < ((H.1 : Nat) : Int))) :
    (to = -1 → isRow ((X.set (1 + H.1) 0).set 0 ((H.1 + 1 : Nat) : Int)) 0 (gAdd1 H to)) ∧
    (0 ≤ to → isRow ((((X.set (1 + H.1) 0).set 0 ((H.1 + 1 : Nat) : Int)).set (1 + H.1) ((2 ^ to.toNat : Nat) : Int)).set (1 + to.toNat) ((row H to.toNat ||| 2 ^ H.1 : Nat) : Int)) 0 (gAdd1 H to)) := by
  constructor
  · intro e
    rcases h with ⟨rfl, -⟩ | ⟨-, h, -⟩
    · subst e
      refine ⟨?_, fun c hc => ?_⟩
      · rw [gt_set (by rw [List.length_set]; omega), if_pos rfl]; rfl
      · have hc : c < 1 := hc
        obtain rfl : c = 0 := by omega
        show gt ((X.set (1 + 0) 0).set 0 ((0 + 1 : Nat) : Int)) (0 + 1 + 0) = _
        rw [gt_set (by rw [List.length_set]; omega), if_neg (by decide), gt_set (by omega), if_pos rfl]
        rfl
    · omega
  · intro hto
    rcases h with ⟨-, h⟩ | ⟨hw, -, h⟩
    · omega
    · obtain ⟨c, rfl⟩ : ∃ c : Nat, to = (c : Int) := ⟨to.toNat, by omega⟩
      have hc : c < H.1 := by omega
      unfold gAdd1
      rw [if_neg (by omega), Int.toNat_natCast]
      have l1 : (X.set (1 + H.1) 0).length = 17 := by rw [List.length_set]; exact hX
      have l2 : ((X.set (1 + H.1) 0).set 0 ((H.1 + 1 : Nat) : Int)).length = 17 := by rw [List.length_set]; exact l1
      have l3 : (((X.set (1 + H.1) 0).set 0 ((H.1 + 1 : Nat) : Int)).set (1 + H.1) ((2 ^ c : Nat) : Int)).length = 17 := by rw [List.length_set]; exact l2
      refine ⟨?_, fun i hi => ?_⟩
      · rw [gt_set (by omega), if_neg (by omega), gt_set (by omega), if_neg (by omega), gt_set (by omega), if_pos rfl]; rfl
      · have hi : i < H.1 + 1 := hi
        rw [Nat.zero_add, gt_set (by omega)]
        by_cases e : i = c
        · subst e
          rw [if_pos rfl, row_grow hw hc hn hc, if_pos rfl]
        · rw [if_neg (by omega), gt_set (by omega)]
          by_cases e2 : i = H.1
          · subst e2
            rw [if_pos rfl, row_grow_n hw hc hn, Nat.zero_or]
          · rw [if_neg (by omega), gt_set (by omega), if_neg (by omega), gt_set (by omega), if_neg (by omega), row_grow hw hc hn (by omega), if_neg e]
            exact isRow0 hr (by omega)
theorem adds_spec (hA : lens A) {G : Gr} (hr : isRow (A 6) 0 G) {to : Int} (hto : rdTo G to) {n : Nat} (hn : G.1 + n ≤ 16) : wp (d + 1) 297 (0, ent 6 [vR (some M), vI ((n : Nat) : Int), vI to], [], tw h0 M A sc) (fun r h' => r = .inl none ∧ ∃ X, h' = tw h0 M (up A 6 X) sc ∧ X.length = 17 ∧ isRow X 0 (gAdds G to n)) := by
  have hl6 : (A 6).length = 17 := by rw [hA.eq 6]; rfl
  have loop : ∀ (j k : Nat) (X : List Int) (x5 : Option AV), j + k = n → X.length = 17 → isRow X 0 (gAdds G to k) → wp (d + 1) 297 (5, [some (vR (some M)), some (vI ((n : Nat) : Int)), some (vI to), some (vI (lasT G to k)), some (vI ((k : Nat) : Int)), x5], [], tw h0 M (up A 6 X) sc) (fun r h' => r = .inl none ∧ ∃ X, h' = tw h0 M (up A 6 X) sc ∧ X.length = 17 ∧ isRow X 0 (gAdds G to n)) := by
    intro j
    induction j with
    | zero =>
      intro k X x5 hj hX hXr
      obtain rfl : k = n := by omega
      refine wp.go [5, 74] 20 fun W C hW hC => ?_
      exact ⟨fun _ => ⟨rfl, X, rfl, hX, hXr⟩, fun c => absurd c (by omega)⟩
    | succ j ih =>
      intro k X x5 hj hX hXr
      have hHn := adds_n G to k
      have hlast : (gAdds G to k = gNil ∧ lasT G to k = -1) ∨ ((gAdds G to k).wf ∧ 0 ≤ lasT G to k ∧ lasT G to k < (((gAdds G to k).1 : Nat) : Int)) := by
        by_cases e : k = 0
        · subst e
          rcases hto with ⟨h1, h2⟩ | ⟨h1, h2, h3, h4⟩
          · exact Or.inl ⟨h1, h2⟩
          · exact Or.inr ⟨h1.1, h2, h3⟩
        · right
          obtain ⟨o1, o2⟩ := adds_ok hto k (by omega) (by omega)
          unfold lasT
          rw [if_neg e]
          exact ⟨o1.1, by omega, by omega⟩
      obtain ⟨r1, r2⟩ := add1_rows hX hXr (by omega) hlast
      have hnext : lasT G to (k + 1) = (((gAdds G to k).1 : Nat) : Int) := by
        unfold lasT
        rw [if_neg (by omega), hHn]
        omega
      have hA1 : lens (up A 6 X) := hA.up (by rw [hX]; rfl)
      have st : ∀ Y : List Int, Y.length = 17 → isRow Y 0 (gAdds G to (k + 1)) → ∀ y : Int, wp (d + 1) 297 (74, [some (vR (some M)), some (vI ((n : Nat) : Int)), some (vI to), some (vI y), some (vI ((k : Nat) : Int)), some (vI (((gAdds G to k).1 : Nat) : Int))], [], tw h0 M (up A 6 Y) sc) (fun r h' => r = .inl none ∧ ∃ X, h' = tw h0 M (up A 6 X) sc ∧ X.length = 17 ∧ isRow X 0 (gAdds G to n)) := by
        intro Y hY hYr y
        refine wp.go [5] 20 fun W C hW hC => ?_
        (conv => whnf); simp (disch := omega) only [iadd_eq, isub_eq, imul_eq]
        have := ih (k + 1) Y (some (vI (((gAdds G to k).1 : Nat) : Int))) (by omega) hY hYr
        rw [hnext] at this
        exact hW _ this
      refine wp.go [5, 74] 90 fun W C hW hC => ?_
      refine ⟨fun c => absurd c (by omega), fun _ => ?_⟩
      refine ⟨_, _, _, _, twF, rfl, rfl, ?_⟩
      refine ⟨_, _, _, twI rfl rfl, rfl, (by omega), gt_at (0) (by omega) (lenlt (j := 6) (hA1) (show (0) < 17 by omega)), ?_⟩
      rw [up_eq, hXr.1]
      refine ⟨_, _, _, _, twF, rfl, rfl, ?_⟩
      (conv => whnf); simp (disch := omega) only [iadd_eq, isub_eq, imul_eq]
      (refine ⟨_, twI rfl rfl, (by omega), (ilt (1 + (gAdds G to k).1) (by omega) (lenlt (j := 6) (hA1) (show (1 + (gAdds G to k).1) < 17 by omega))), ?_⟩; rw [twSetI rfl rfl]; try rw [Int.toNat_natCast])
      rw [up_up, up_eq, show ((1 + (((gAdds G to k).1 : Nat) : Int)).toNat) = 1 + (gAdds G to k).1 by omega]
      have hA2 : lens (up A 6 (X.set (1 + (gAdds G to k).1) 0)) := hA.up (by rw [List.length_set, hX]; rfl)
      refine ⟨_, _, _, _, twF, rfl, rfl, ?_⟩
      refine ⟨_, _, _, twI rfl rfl, rfl, (by omega), gt_at (0) (by omega) (lenlt (j := 6) (hA2) (show (0) < 17 by omega)), ?_⟩
      rw [up_eq, gt_set (by omega), if_neg (by omega), hXr.1]
      (conv => whnf); simp (disch := omega) only [iadd_eq, isub_eq, imul_eq]
      (refine ⟨_, twI rfl rfl, (by omega), (ilt (0) (by omega) (lenlt (j := 6) (hA2) (show (0) < 17 by omega))), ?_⟩; rw [twSetI rfl rfl]; try rw [Int.toNat_natCast])
      rw [show Int.toNat 0 = 0 from rfl]
      rw [up_up, up_eq, show (((gAdds G to k).1 : Nat) : Int) + 1 = (((gAdds G to k).1 + 1 : Nat) : Int) by omega]
      refine ⟨fun c => ?_, fun c => ?_⟩
      · refine hW _ (st _ (by rw [List.length_set, List.length_set]; exact hX) ?_ _)
        exact r1 c
      · have hw : (gAdds G to k).wf ∧ 0 ≤ lasT G to k ∧ lasT G to k < (((gAdds G to k).1 : Nat) : Int) := by
          rcases hlast with ⟨-, q⟩ | q
          · exact absurd q c
          · exact q
        have r3 := r2 hw.2.1
        have hlt := hw.2.2
        have hge := hw.2.1
        obtain ⟨c', hc'⟩ : ∃ c' : Nat, lasT G to k = (c' : Int) := ⟨(lasT G to k).toNat, by omega⟩
        rw [hc', Int.toNat_natCast] at r3
        rw [hc'] at hlt ⊢
        have hcl : c' < (gAdds G to k).1 := by omega
        have hrow := row_lt hw.1.2.1 (c := c')
        have hp1 := pow16 (k := c') (by omega)
        have hp2 := pow16 (k := (gAdds G to k).1) (by omega)
        have l1 : (X.set (1 + (gAdds G to k).1) 0).length = 17 := by rw [List.length_set]; exact hX
        have l2 : ((X.set (1 + (gAdds G to k).1) 0).set 0 (((gAdds G to k).1 + 1 : Nat) : Int)).length = 17 := by rw [List.length_set]; exact l1
        have hA3 : lens (up A 6 ((X.set (1 + (gAdds G to k).1) 0).set 0 (((gAdds G to k).1 + 1 : Nat) : Int))) := hA.up (by rw [l2]; rfl)
        refine ⟨_, _, _, _, twF, rfl, rfl, ?_⟩
        (conv => whnf); simp (disch := omega) only [iadd_eq, isub_eq, imul_eq]
        refine ⟨_, _, _, twI rfl rfl, rfl, (by omega), gt_at (1 + (gAdds G to k).1) (by omega) (lenlt (j := 6) (hA3) (show (1 + (gAdds G to k).1) < 17 by omega)), ?_⟩
        rw [up_eq, gt_set (by omega), if_neg (by omega), gt_set (by omega), if_pos rfl]
        conv => whnf
        rw [pow_i (by omega), show ior 0 ((2 ^ c' : Nat) : Int) = ((0 ||| 2 ^ c' : Nat) : Int) from ior_eq (a := 0) (by decide) (by omega), Nat.zero_or]
        (refine ⟨_, twI rfl rfl, (by omega), (ilt (1 + (gAdds G to k).1) (by omega) (lenlt (j := 6) (hA3) (show (1 + (gAdds G to k).1) < 17 by omega))), ?_⟩; rw [twSetI rfl rfl]; try rw [Int.toNat_natCast])
        rw [up_up, up_eq, show ((1 + (((gAdds G to k).1 : Nat) : Int)).toNat) = 1 + (gAdds G to k).1 by omega]
        have l3 : (((X.set (1 + (gAdds G to k).1) 0).set 0 (((gAdds G to k).1 + 1 : Nat) : Int)).set (1 + (gAdds G to k).1) ((2 ^ c' : Nat) : Int)).length = 17 := by rw [List.length_set]; exact l2
        have hA4 : lens (up A 6 (((X.set (1 + (gAdds G to k).1) 0).set 0 (((gAdds G to k).1 + 1 : Nat) : Int)).set (1 + (gAdds G to k).1) ((2 ^ c' : Nat) : Int))) := hA.up (by rw [l3]; rfl)
        refine ⟨_, _, _, _, twF, rfl, rfl, ?_⟩
        (conv => whnf); simp (disch := omega) only [iadd_eq, isub_eq, imul_eq]
        refine ⟨_, _, _, twI rfl rfl, rfl, (by omega), gt_at (1 + c') (by omega) (lenlt (j := 6) (hA4) (show (1 + c') < 17 by omega)), ?_⟩
        rw [up_eq, gt_set (by omega), if_neg (by omega), gt_set (by omega), if_neg (by omega), gt_set (by omega), if_neg (by omega), isRow0 hXr hcl]
        conv => whnf
        rw [pow_i (by omega), ior_eq (by omega) (by omega)]
        (refine ⟨_, twI rfl rfl, (by omega), (ilt (1 + c') (by omega) (lenlt (j := 6) (hA4) (show (1 + c') < 17 by omega))), ?_⟩; rw [twSetI rfl rfl]; try rw [Int.toNat_natCast])
        rw [up_up, up_eq, show ((1 + (c' : Int)).toNat) = 1 + c' by omega]
        refine hW _ (st _ (by rw [List.length_set]; exact l3) ?_ _)
        show isRow _ 0 (gAdd1 (gAdds G to k) (lasT G to k))
        rw [hc']
        exact r3
  refine wp.go [5] 10 fun W C hW hC => ?_
  have key := loop n 0 (A 6) none (by omega) hl6 hr
  rw [upn_self] at key
  exact hW _ key
end ADDS
