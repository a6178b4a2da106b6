section NEWSHAPE
variable {d : Nat} {h0 : AH} {M : Nat} {A : Nat → List Int} {sc : Nat → Int} {tab : List Tr}
def Tbl (A : Nat → List Int) (sc : Nat → Int) (tab : List Tr) : Prop := lens A ∧ TbT tab ∧ TbK A tab ∧ TbV A tab ∧ TbH A ∧ sc 5 = ((tab.length + 1 : Nat) : Int)
/-- values of shapes below s stay -/
theorem TbV.keep {A A' : Nat → List Int} {tab : List Tr} {s : Nat} (h : TbV A tab) (hs : tab.length < s) (h14 : ∀ m, m < s → gt (A' 14) m = gt (A 14) m) (h15 : ∀ m, m < s → gt (A' 15) m = gt (A 15) m) (h16 : ∀ m, m < s → gt (A' 16) m = gt (A 16) m) (h17 : ∀ m, m < 4 * s → gt (A' 17) m = gt (A 17) m) : TbV A' tab := by
  intro i t hi
  obtain ⟨g1, g2, -⟩ := gtT_le hi
  obtain ⟨a1, a2, a3, a4⟩ := h i t hi
  exact ⟨by rw [h14 i (by omega)]; exact a1, by rw [h15 i (by omega)]; exact a2, by rw [h16 i (by omega)]; exact a3, fun k hk => by rw [h17 _ (by omega)]; exact a4 k hk⟩
theorem lays_spec (hB : Tbl A sc tab) {l : List Tr} (hF : Found4 (A 21) tab l) (hn : sc 6 = ((l.length : Nat) : Int)) (hl4 : l.length ≤ 4) (hl : ∀ v, v ∈ l → v ∈ tab ∧ (kidsT v).length ≤ 3) (hs15 : sumS l ≤ 15) (hnew : mkT l ∉ tab) (h62 : tab.length ≤ 62) :
    wp (d + 6) 316 (0, ent 3 [vR (some M)], [], tw h0 M A sc) (fun r h' => r = .inl none ∧ ∃ A' sc', h' = tw h0 M A' sc' ∧ Tbl A' sc' (tab ++ [mkT l]) ∧ Fr [10, 11, 12, 13, 14, 15, 16, 17, 22, 23, 24] [5] A A' sc sc') := by
  obtain ⟨hA, hT, hK, hV, hH, h5⟩ := hB
  have ho : ∀ v, v ∈ l → okT0 v := fun v hv => (hT.2.1 v (hl v hv).1).1
  obtain ⟨s, hs⟩ : ∃ s, s = tab.length + 1 := ⟨_, rfl⟩
  rw [← hs] at h5
  have hs63 : s ≤ 63 := by omega
  have h137 : ∀ A1, LayP A A1 (up sc 5 ((s + 1 : Nat) : Int)) tab l s 4 4 4 → wp (d + 6) 316 (137, [some (vR (some M)), some (vI s), some (vI 4)], [], tw h0 M A1 (up sc 5 ((s + 1 : Nat) : Int))) (fun r h' => r = .inl none ∧ ∃ A' sc', h' = tw h0 M A' sc' ∧ Tbl A' sc' (tab ++ [mkT l]) ∧ Fr [10, 11, 12, 13, 14, 15, 16, 17, 22, 23, 24] [5] A A' sc sc') := by
    intro A1 hP
    obtain ⟨hA1, hFr, e1, e2, e3, e4, e5, e6⟩ := hP
    rw [List.take_of_length_le hl4] at e3 e5
    have hK1 : KidsOf A1 tab s l := ⟨hs63, e4, hl4, fun v hv => (hl v hv).1, e6⟩
    have hV1 : TbV A1 tab := hV.keep (s := s) (by omega) (fun m _ => by rw [hFr.1 14 rfl]) (fun m _ => by rw [hFr.1 15 rfl]) (fun m _ => by rw [hFr.1 16 rfl]) (fun m _ => by rw [hFr.1 17 rfl])
    have hH1 : TbH A1 := by
      obtain ⟨z1, z2, z3, z4, z5, z6, z7⟩ := hH
      exact ⟨by rw [e1.1 0 (by omega)]; exact z1, by rw [e1.2.1 0 (by omega)]; exact z2, by rw [e1.2.2 0 (by omega)]; exact z3, by rw [hFr.1 14 rfl]; exact z4, by rw [hFr.1 15 rfl]; exact z5, by rw [hFr.1 16 rfl]; exact z6, fun k hk => by rw [e2 k (by omega)]; exact z7 k hk⟩
    refine wp.go [] 60 fun W C hW hC => ?_
    refine ⟨_, _, _, twF, rfl, ?_⟩
    refine hC _ _ _ (use (laysForms_spec hA1 hT hV1 hH1 hK1 hs15 (by omega)) ?_)
    rintro _ _ ⟨rfl, rfl⟩
    have l14 := lenlt (j := 14) hA1 (show s < 64 by omega)
    have l15 := lenlt (j := 15) hA1 (show s < 64 by omega)
    obtain ⟨A2, hA2e⟩ : ∃ A2, A2 = up (up A1 14 ((A1 14).set s ((formsT (mkT l) : Nat) : Int))) 15 ((A1 15).set s ((ownT (mkT l) : Nat) : Int)) := ⟨_, rfl⟩
    rw [← hA2e]
    have hA2 : lens A2 := by
      rw [hA2e]
      exact (hA1.up (by rw [List.length_set]; exact hA1.eq 14)).up (by rw [List.length_set]; exact hA1.eq 15)
    have f14 : ∀ m, gt (A2 14) m = if m = s then ((formsT (mkT l) : Nat) : Int) else gt (A1 14) m := fun m => by
      rw [hA2e, upn_ne _ _ (by decide), up_eq, gt_set l14]
    have f15 : ∀ m, gt (A2 15) m = if m = s then ((ownT (mkT l) : Nat) : Int) else gt (A1 15) m := fun m => by
      rw [hA2e, up_eq, gt_set l15]
    have hF2 : Fr [14, 15] [] A1 A2 (up sc 5 ((s + 1 : Nat) : Int)) (up sc 5 ((s + 1 : Nat) : Int)) := by
      rw [hA2e]; exact (Fr.upA rfl).trans (Fr.upA rfl)
    have hK2 := hK1.same (hF2.1 11 rfl) (hF2.1 12 rfl)
    have hV2 : TbV A2 tab := hV1.keep (s := s) (by omega) (fun m hm => by rw [f14, if_neg (by omega)]) (fun m hm => by rw [f15, if_neg (by omega)]) (fun m _ => by rw [hF2.1 16 rfl]) (fun m _ => by rw [hF2.1 17 rfl])
    refine ⟨_, _, _, twF, rfl, ?_⟩
    refine hC _ _ _ (use (laysSymmetry_spec hA2 hT hV2 hK2 hs15 (fun v hv => (hl v hv).2)) ?_)
    rintro _ _ ⟨rfl, X16, rfl, hX16⟩
    have l16 := lenlt (j := 16) hA2 (show s < 64 by omega)
    obtain ⟨A3, hA3e⟩ : ∃ A3, A3 = up A2 16 X16 := ⟨_, rfl⟩
    rw [← hA3e]
    have hA3 : lens A3 := by
      rw [hA3e]
      exact hA2.up (by rw [hX16, List.length_set]; exact hA2.eq 16)
    have f16 : ∀ m, gt (A3 16) m = if m = s then ((waysT (mkT l) : Nat) : Int) else gt (A2 16) m := fun m => by
      rw [hA3e, up_eq, hX16, gt_set l16]
    have hF3 : Fr [16] [] A2 A3 (up sc 5 ((s + 1 : Nat) : Int)) (up sc 5 ((s + 1 : Nat) : Int)) := by
      rw [hA3e]; exact Fr.upA rfl
    have hK3 := hK2.same (hF3.1 11 rfl) (hF3.1 12 rfl)
    have hV3 : TbV A3 tab := hV2.keep (s := s) (by omega) (fun m hm => by rw [hF3.1 14 rfl]) (fun m hm => by rw [hF3.1 15 rfl]) (fun m hm => by rw [f16, if_neg (by omega)]) (fun m _ => by rw [hF3.1 17 rfl])
    refine ⟨_, _, _, _, twF, rfl, rfl, ?_⟩
    have hsc6 : up sc 5 ((s + 1 : Nat) : Int) 6 = ((l.length : Nat) : Int) := by rw [upn_ne _ _ (by decide)]; exact hn
    rw [hsc6]
    conv => whnf
    rw [isub_eq (by omega)]
    refine ⟨_, _, _, twF, rfl, ?_⟩
    refine hC _ _ _ (use (laysMarks_spec hA3 hT hV3 hK3 (fun v hv => (hl v hv).2) hs15 (by omega)) ?_)
    rintro _ _ ⟨rfl, A4, rfl, hA4, hF4, g1, g2⟩
    refine ⟨rfl, A4, _, rfl, ?_, ?_⟩
    · have r10 : A4 10 = A1 10 := (hF4.1 10 rfl).trans ((hF3.1 10 rfl).trans (hF2.1 10 rfl))
      have r11 : A4 11 = A1 11 := (hF4.1 11 rfl).trans ((hF3.1 11 rfl).trans (hF2.1 11 rfl))
      have r12 : A4 12 = A1 12 := (hF4.1 12 rfl).trans ((hF3.1 12 rfl).trans (hF2.1 12 rfl))
      have r13 : A4 13 = A1 13 := (hF4.1 13 rfl).trans ((hF3.1 13 rfl).trans (hF2.1 13 rfl))
      have r14 : A4 14 = A2 14 := (hF4.1 14 rfl).trans (hF3.1 14 rfl)
      have r15 : A4 15 = A2 15 := (hF4.1 15 rfl).trans (hF3.1 15 rfl)
      have r16 : A4 16 = A3 16 := hF4.1 16 rfl
      have hV4 : TbV A4 tab := hV3.keep (s := s) (by omega) (fun m hm => by rw [hF4.1 14 rfl]) (fun m hm => by rw [hF4.1 15 rfl]) (fun m hm => by rw [hF4.1 16 rfl]) g1
      have old : ∀ i t, gtT (tab ++ [mkT l]) i = some t → gtT tab i = some t ∨ (i = s ∧ t = mkT l) := by
        intro i t h
        have := gtT_le h
        by_cases c : i ≤ tab.length
        · rw [gtT_app c] at h; exact Or.inl h
        · have : i = tab.length + 1 := by simp at this; omega
          subst this
          rw [gtT_new] at h
          cases h
          exact Or.inr ⟨hs.symm, rfl⟩
      refine ⟨hA4, ⟨?_, ?_, by simp; omega⟩, ?_, ?_, ?_, ?_⟩
      · rw [List.nodup_append]
        refine ⟨hT.1, by simp, fun a ha b hb => ?_⟩
        have : b = mkT l := by simpa using hb
        subst this
        rintro rfl
        exact hnew ha
      · intro t ht
        rcases List.mem_append.mp ht with ht | ht
        · obtain ⟨k1, k2, k3, k4⟩ := hT.2.1 t ht
          exact ⟨k1, k2, k3, fun v hv => ⟨List.mem_append_left _ (k4 v hv).1, (k4 v hv).2⟩⟩
        · have : t = mkT l := by simpa using ht
          subst this
          rw [kids_mk]
          refine ⟨ok_mk l ho, ?_, hl4, fun v hv => ⟨List.mem_append_left _ (hl v hv).1, (hl v hv).2⟩⟩
          rw [sz_mk]
          have : sumS l = (l.map szT).sum := rfl
          omega
      · intro i t h
        rcases old i t h with h | ⟨rfl, rfl⟩
        · have hi := gtT_le h
          obtain ⟨k1, k2, k3, k4⟩ := hK i t h
          refine ⟨by rw [r10, e1.1 i (by omega)]; exact k1, by rw [r12, e1.2.1 i (by omega)]; exact k2, by rw [r13, e1.2.2 i (by omega)]; exact k3, fun k hk => ?_⟩
          obtain ⟨x, x1, x2, x3⟩ := k4 k hk
          exact ⟨x, by simp; omega, by rw [r11, e2 _ (by omega)]; exact x2, by rw [gtT_app x1]; exact x3⟩
        · rw [kids_mk]
          refine ⟨by rw [r10]; exact e3, by rw [r12]; exact e4, by rw [r13]; exact e5, fun k hk => ?_⟩
          obtain ⟨x, x1, x2, x3⟩ := e6 k hk
          exact ⟨x, by simp; omega, by rw [r11]; exact x2, by rw [gtT_app x1]; exact x3⟩
      · intro i t h
        rcases old i t h with h | ⟨rfl, rfl⟩
        · exact hV4 i t h
        · refine ⟨by rw [r14, f14, if_pos rfl], by rw [r15, f15, if_pos rfl], by rw [r16, f16, if_pos rfl], fun k hk => ?_⟩
          rw [kids_mk]; exact g2 k hk
      · obtain ⟨z1, z2, z3, z4, z5, z6, z7⟩ := hH1
        refine ⟨by rw [r10]; exact z1, by rw [r12]; exact z2, by rw [r13]; exact z3, by rw [r14, f14, if_neg (by omega)]; exact z4, by rw [r15, f15, if_neg (by omega)]; exact z5, by rw [r16, f16, if_neg (by omega), hF2.1 16 rfl]; exact z6, fun k hk => by rw [r11]; exact z7 k hk⟩
      · rw [up_eq]; simp; omega
    · have q1 : Fr [10, 11, 12, 13, 14, 15, 16, 17, 22, 23, 24] [5] A A1 sc (up sc 5 ((s + 1 : Nat) : Int)) := ⟨fun j hj => (hFr.wide (J' := [10, 11, 12, 13, 14, 15, 16, 17, 22, 23, 24]) (K' := [5]) rfl rfl).1 j hj, (Fr.upS (J := []) (A := A) (K := [5]) rfl).2⟩
      exact q1.trans ((hF2.wide rfl rfl).trans ((hF3.wide rfl rfl).trans (hF4.wide rfl rfl)))
  have b10 := lenlt (j := 10) hA (show s < 64 by omega)
  have b12 := lenlt (j := 12) hA (show s < 64 by omega)
  have b13 := lenlt (j := 13) hA (show s < 64 by omega)
  have hA1 : lens (up A 10 ((A 10).set s 1)) := hA.up (by rw [List.length_set]; exact hA.eq 10)
  have hA2 : lens (up (up A 10 ((A 10).set s 1)) 12 ((A 12).set s ((l.length : Nat) : Int))) := hA1.up (by rw [List.length_set]; exact hA.eq 12)
  have hA3 : lens (up (up (up A 10 ((A 10).set s 1)) 12 ((A 12).set s ((l.length : Nat) : Int))) 13 ((A 13).set s 1)) := hA2.up (by rw [List.length_set]; exact hA.eq 13)
  refine wp.go [41] 60 fun W C hW hC => ?_
  refine ⟨_, _, _, _, twF, rfl, rfl, ?_⟩
  refine ⟨_, _, _, _, twF, rfl, rfl, ?_⟩
  rw [h5]
  conv => whnf
  rw [show iadd ((s : Nat) : Int) 1 = ((s + 1 : Nat) : Int) by rw [iadd_eq (by omega)]; omega]
  (refine ⟨_, _, _, twF, rfl, (Nat.le_of_ble_eq_true rfl), ?_⟩; rw [twP5])
  refine ⟨_, _, _, _, twF, rfl, rfl, ?_⟩
  (refine ⟨_, twI rfl rfl, (by omega), (ilt (s) (by omega) (lenlt (j := 10) (hA) (show (s) < 64 by omega))), ?_⟩; rw [twSetI rfl rfl]; try rw [Int.toNat_natCast])
  refine ⟨_, _, _, _, twF, rfl, rfl, ?_⟩
  refine ⟨_, _, _, _, twF, rfl, rfl, ?_⟩
  rw [show up sc 5 ((s + 1 : Nat) : Int) 6 = ((l.length : Nat) : Int) by rw [upn_ne _ _ (by decide)]; exact hn]
  (refine ⟨_, twI rfl rfl, (by omega), (ilt (s) (by omega) (lenlt (j := 12) (hA1) (show (s) < 64 by omega))), ?_⟩; rw [twSetI rfl rfl]; try rw [Int.toNat_natCast])
  refine ⟨_, _, _, _, twF, rfl, rfl, ?_⟩
  (refine ⟨_, twI rfl rfl, (by omega), (ilt (s) (by omega) (lenlt (j := 13) (hA2) (show (s) < 64 by omega))), ?_⟩; rw [twSetI rfl rfl]; try rw [Int.toNat_natCast])
  refine hW _ (lays_loop (A0 := A) hT hK hH hF hl4 hs15 (by rw [upn_ne _ _ (by decide)]; exact hn) (by omega) hs63 h137 4 0 _ rfl ⟨hA3, ?_, ⟨fun m hm => ?_, fun m hm => ?_, fun m hm => ?_⟩, fun m hm => rfl, ?_, ?_, ?_, fun m hm => absurd hm (by omega)⟩)
  · exact (Fr.upA rfl).trans ((Fr.upA rfl).trans (Fr.upA rfl))
  · show gt ((A 10).set s 1) m = _
    rw [gt_set b10, if_neg (by omega)]
  · show gt ((A 12).set s ((l.length : Nat) : Int)) m = _
    rw [gt_set b12, if_neg (by omega)]
  · show gt ((A 13).set s 1) m = _
    rw [gt_set b13, if_neg (by omega)]
  · show gt ((A 10).set s 1) s = _
    rw [gt_set b10, if_pos rfl]; rfl
  · show gt ((A 12).set s ((l.length : Nat) : Int)) s = _
    rw [gt_set b12, if_pos rfl]
  · show gt ((A 13).set s 1) s = _
    rw [gt_set b13, if_pos rfl]; rfl
end NEWSHAPE
