/-! EACH ACT leaves a state that is as it must be -/
theorem pushG_ok {ps : List Gr} {G : Gr} (h : ∀ H, H ∈ ps → H.ok) (hG : G.ok) : ∀ H, H ∈ pushG ps G → H.ok := by
  intro H hH
  unfold pushG at hH
  rcases List.mem_append.mp hH with hH | hH
  · split at hH
    · exact h H (List.mem_of_mem_tail hH)
    · exact h H hH
  · rw [List.mem_singleton.mp hH]; exact hG
theorem act_ok {S : AS} {G : Gr} (h : S.ok) (hG : G.ok) : (actS S G).ok := ⟨hG, pushG_ok h.2.1 h.1, h.2.2⟩
theorem aUndo_ok {S : AS} (h : S.ok) : (aUndo S).2.ok := by
  unfold aUndo
  cases e : S.2.1.getLast? with
  | none => exact h
  | some G =>
    have hm : G ∈ S.2.1 := List.mem_of_getLast? e
    exact ⟨h.2.1 G hm, fun H hH => h.2.1 H ((List.dropLast_sublist _).subset hH), h.2.2⟩
theorem aKeep_ok {S : AS} (h : S.ok) (k : Int) : (aKeep S k).2.ok := by
  unfold aKeep
  split
  · rename_i c
    refine ⟨h.1, h.2.1, fun j G hG => ?_, h.2.2.2⟩
    have hG : up S.2.2.1 k.toNat (some S.1) j = some G := hG
    by_cases e : j = k.toNat
    · subst e
      rw [up_eq] at hG
      cases hG
      exact ⟨by omega, h.1⟩
    · rw [upn_ne _ _ e] at hG
      exact h.2.2.1 j G hG
  · exact h
theorem aGrow_ok {S : AS} (h : S.ok) (c : Int) : (aGrow S c).2.ok := by
  unfold aGrow
  by_cases c1 : isC S c
  · rw [if_neg (Classical.not_not.mpr c1)]
    by_cases c2 : deg S.1 c.toNat = 4
    · rw [if_pos c2]; exact h
    · rw [if_neg c2]
      by_cases c3 : S.1.1 = 16
      · rw [if_pos c3]; exact h
      · rw [if_neg c3]
        have := h.1.1.2.1
        exact act_ok h (grow_ok h.1 (by have := c1.1; have := c1.2; omega) (by omega) c2)
  · rw [if_pos c1]; exact h
theorem aPrune_ok {S : AS} (h : S.ok) (c : Int) : (aPrune S c).2.ok := by
  unfold aPrune
  by_cases c1 : isC S c
  · rw [if_neg (Classical.not_not.mpr c1)]
    by_cases c2 : deg S.1 c.toNat = 1
    · rw [if_neg (Classical.not_not.mpr c2)]
      exact act_ok h (prune_ok h.1 (by have := c1.1; have := c1.2; omega) c2)
    · rw [if_pos c2]; exact h
  · rw [if_pos c1]; exact h
theorem aBind_ok {S : AS} (h : S.ok) (c k o : Int) : (aBind S c k o).2.ok := by
  unfold aBind
  cases e : (if 0 ≤ k ∧ k ≤ 2 then S.2.2.1 k.toNat else none) with
  | none => exact h
  | some H =>
    dsimp only
    have hH : H.ok := by
      split at e
      · exact (h.2.2.1 _ _ e).2
      · cases e
    by_cases c1 : isC S c ∧ 0 ≤ o ∧ o < ((H.1 : Nat) : Int)
    · rw [if_neg (Classical.not_not.mpr c1)]
      by_cases c2 : deg S.1 c.toNat = 4 ∨ deg H o.toNat = 4
      · rw [if_pos c2]; exact h
      · rw [if_neg c2]
        by_cases c3 : 16 < S.1.1 + H.1
        · rw [if_pos c3]; exact h
        · rw [if_neg c3]
          exact act_ok h (bind_ok h.1 hH (by have := c1.1.1; have := c1.1.2; omega) (by omega) (by omega) (fun q => c2 (Or.inl q)) (fun q => c2 (Or.inr q)))
    · rw [if_pos c1]; exact h
theorem i2b_rng (x : Int) : -128 ≤ i2b x ∧ i2b x ≤ 127 := by
  unfold i2b
  rw [Int8.toInt_toInt32]
  have h1 := Int8.le_toInt (Int32.ofInt x).toInt8
  have h2 := Int8.toInt_lt (Int32.ofInt x).toInt8
  omega
theorem bytes_rng (v : Int) : ∀ b, b ∈ bytesOf v → -128 ≤ b ∧ b ≤ 127 := by
  intro b hb
  unfold bytesOf at hb
  simp only [List.mem_cons, List.not_mem_nil, or_false] at hb
  rcases hb with rfl | rfl | rfl | rfl <;> exact i2b_rng _
theorem aFeed_ok {S : AS} (h : S.ok) (a b c e f : Int) : (aFeed S a b c e f).2.ok := by
  unfold aFeed
  split
  · exact h
  · rename_i c1
    refine ⟨h.1, h.2.1, h.2.2.1, ?_, fun x hx => ?_⟩
    · show (S.2.2.2 ++ (bytesOf a ++ (bytesOf b ++ (bytesOf c ++ (bytesOf e ++ bytesOf f))))).length ≤ 120
      simp only [List.length_append]
      show S.2.2.2.length + (4 + (4 + (4 + (4 + 4)))) ≤ 120
      omega
    · have hx : x ∈ S.2.2.2 ++ (bytesOf a ++ (bytesOf b ++ (bytesOf c ++ (bytesOf e ++ bytesOf f)))) := hx
      simp only [List.mem_append] at hx
      rcases hx with hx | hx | hx | hx | hx | hx
      · exact h.2.2.2.2 x hx
      all_goals exact bytes_rng _ x hx
theorem aEnd_ok {S : AS} (h : S.ok) (n : Int) : (aEnd S n).2.ok := by
  unfold aEnd
  split
  · refine ⟨h.1, h.2.1, h.2.2.1, ?_, fun x hx => h.2.2.2.2 x (List.mem_of_mem_take hx)⟩
    exact Nat.le_trans (List.length_take_le' _ _) h.2.2.2.1
  · exact h
theorem aTell_ok {S : AS} (h : S.ok) (w : Int) : (aTell S w).2.ok := by
  unfold aTell
  split
  · cases e : rdR S.2.2.2 w with
    | inl x => exact ⟨h.1, h.2.1, h.2.2.1, Nat.zero_le _, fun b hb => (nomatch hb)⟩
    | inr H => exact ⟨rdR_ok H e, pushG_ok h.2.1 h.1, h.2.2.1, Nat.zero_le _, fun b hb => (nomatch hb)⟩
  · exact h
theorem aTake_ok {S : AS} (h : S.ok) (n k : Int) : (aTake S n k).2.ok := by
  unfold aTake
  by_cases c : isL n k
  · rw [if_pos c]
    obtain ⟨⟨c1, c2⟩, c3, c4⟩ := c
    have hk : k.toNat < (codesL n.toNat).length := by omega
    rw [List.getElem?_eq_getElem hk]
    exact act_ok h ((cod_at (by omega) (by omega) (List.getElem_mem hk)).2.2.2 _ (by omega))
  · rw [if_neg c]; exact h
theorem aSplit_ok {S : AS} {D : Nat → Nat → Nat} (h : S.ok) (hD : Far S.1 D) (c o : Int) : (aSplit S D c o).2.ok := by
  unfold aSplit
  by_cases q : isB S c o
  · rw [if_neg (Classical.not_not.mpr q)]
    exact act_ok h (stay_ok h.1 hD q.2.2)
  · rw [if_pos q]; exact h
