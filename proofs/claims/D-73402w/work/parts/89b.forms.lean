/-! THE TWIN LAYS A SHAPE's FORMS -/
section FORMS
variable {d : Nat} {h0 : AH} {M : Nat} {A : Nat → List Int} {sc : Nat → Int} {tab : List Tr}
theorem TbV.f (hV : TbV A tab) (hH : TbH A) {i : Nat} (hi : i ≤ tab.length) : gt (A 14) i = ((fO (gtT tab i) : Nat) : Int) ∧ gt (A 15) i = ((oO (gtT tab i) : Nat) : Int) := by
  cases e : gtT tab i with
  | none => rw [gtT_none e hi]; exact ⟨hH.2.2.2.1, hH.2.2.2.2.1⟩
  | some t => exact ⟨(hV i t e).1, (hV i t e).2.1⟩
theorem sumS_mem {l : List Tr} {v : Tr} (h : v ∈ l) : szT v ≤ sumS l := by
  induction l with
  | nil => cases h
  | cons a t ih =>
    have e : sumS (a :: t) = szT a + sumS t := by simp [sumS]
    rw [e]
    rcases List.mem_cons.mp h with rfl | h
    · omega
    · have := ih h; omega
theorem fO_le {l : List Tr} (hs : sumS l ≤ 15) (k : Nat) : fO l[k]? ≤ 32768 ∧ oO l[k]? ≤ 32768 := by
  cases e : l[k]? with
  | none => exact ⟨by decide, by decide⟩
  | some t =>
    have h1 := sumS_mem (List.mem_of_getElem? e)
    have h2 : 2 ^ szT t ≤ 2 ^ 15 := Nat.pow_le_pow_right (by decide) (by omega)
    have h3 := forms_le t
    have h4 := own_le t
    exact ⟨by show formsT t ≤ 32768; omega, by show ownT t ≤ 32768; omega⟩
set_option maxHeartbeats 2000000 in
/-- Model.laysForms -/
theorem laysForms_spec (hA : lens A) (hT : TbT tab) (hV : TbV A tab) (hH : TbH A) {s : Nat} {l : List Tr} (hK : KidsOf A tab s l) (hs : sumS l ≤ 15) (hst : tab.length < s) : wp (d + 1) 317 (0, ent 9 [vR (some M), vI s], [], tw h0 M A sc) (fun r h' => r = .inl none ∧ h' = tw h0 M (up (up A 14 ((A 14).set s ((formsT (mkT l) : Nat) : Int))) 15 ((A 15).set s ((ownT (mkT l) : Nat) : Int))) sc) := by
  obtain ⟨hs63, hK1, hl4, hin, hK2⟩ := hK
  obtain ⟨i0, a1, a2, a3⟩ := hK2 0 (by decide)
  obtain ⟨i1, b1, b2, b3⟩ := hK2 1 (by decide)
  obtain ⟨i2, c1, c2, c3⟩ := hK2 2 (by decide)
  have ok : ∀ k : Nat, okO l[k]? := fun k => by
    cases e : l[k]? with
    | none => trivial
    | some t => exact (hT.2.1 t (hin t (List.mem_of_getElem? e))).1
  have ef := formsT_eq (mkT l)
  have eo := ownT_eq (mkT l)
  rw [kids_mk] at ef eo
  obtain ⟨f0, o0⟩ := hV.f hH a1
  obtain ⟨f1, o1⟩ := hV.f hH b1
  obtain ⟨f2, o2⟩ := hV.f hH c1
  rw [a3] at f0 o0
  rw [b3] at f1 o1
  rw [c3] at f2 o2
  obtain ⟨x0, y0⟩ := fO_le hs 0
  obtain ⟨x1, y1⟩ := fO_le hs 1
  obtain ⟨x2, y2⟩ := fO_le hs 2
  have e01 : i0 = i1 ↔ l[0]? = l[1]? := by rw [← a3, ← b3]; exact ⟨fun e => by rw [e], gtT_inj hT.1 a1 b1⟩
  have e12 : i1 = i2 ↔ l[1]? = l[2]? := by rw [← b3, ← c3]; exact ⟨fun e => by rw [e], gtT_inj hT.1 b1 c1⟩
  have q01 := eqO_iff (ok 0) (ok 1)
  have q12 := eqO_iff (ok 1) (ok 2)
  generalize hF0 : fO l[0]? = F0 at *
  generalize hF1 : fO l[1]? = F1 at *
  generalize hF2 : fO l[2]? = F2 at *
  generalize hO0 : oO l[0]? = O0 at *
  generalize hO2 : oO l[2]? = O2 at *
  have hlt : ∀ (X : List Int), X.length = 64 → lens (up A 14 X) := fun X hX => hA.up (by rw [hX]; rfl)
  have hl14 : ∀ v : Int, ((A 14).set s v).length = 64 := fun v => by rw [List.length_set, hA.eq 14]; rfl
  have rd : ∀ (v : Int) (i : Nat), i ≤ tab.length → gt ((A 14).set s v) i = gt (A 14) i := fun v i hi => by rw [gt_set (by have := lenlt (j := 14) hA (show s < 64 by omega); omega), if_neg (by omega)]
  refine wp.go [148] 200 fun W C hW hC => ?_
  refine ⟨_, _, _, _, twF, rfl, rfl, ?_⟩
  (conv => whnf); simp (disch := omega) only [iadd_eq, isub_eq, imul_eq]
  refine ⟨_, _, _, twI rfl rfl, rfl, (by omega), gt_at (4 * s + 0) (by omega) (lenlt (j := 11) (hA) (show (4 * s + 0) < 256 by omega)), ?_⟩
  rw [a2]
  refine ⟨_, _, _, _, twF, rfl, rfl, ?_⟩
  (conv => whnf); simp (disch := omega) only [iadd_eq, isub_eq, imul_eq]
  refine ⟨_, _, _, twI rfl rfl, rfl, (by omega), gt_at (4 * s + 1) (by omega) (lenlt (j := 11) (hA) (show (4 * s + 1) < 256 by omega)), ?_⟩
  rw [b2]
  refine ⟨_, _, _, _, twF, rfl, rfl, ?_⟩
  (conv => whnf); simp (disch := omega) only [iadd_eq, isub_eq, imul_eq]
  refine ⟨_, _, _, twI rfl rfl, rfl, (by omega), gt_at (4 * s + 2) (by omega) (lenlt (j := 11) (hA) (show (4 * s + 2) < 256 by omega)), ?_⟩
  rw [c2]
  refine ⟨_, _, _, _, twF, rfl, rfl, ?_⟩
  refine ⟨_, _, _, twI rfl rfl, rfl, (by omega), gt_at (i0) (by omega) (lenlt (j := 14) (hA) (show (i0) < 64 by omega)), ?_⟩
  rw [f0]
  refine ⟨_, _, _, _, twF, rfl, rfl, ?_⟩
  refine ⟨_, _, _, twI rfl rfl, rfl, (by omega), gt_at (s) (by omega) (lenlt (j := 12) (hA) (show (s) < 64 by omega)), ?_⟩
  rw [hK1]
  refine ⟨fun h4 => ?_, fun h4 => ?_⟩
  · rw [if_neg (by omega)] at ef eo
    have two : ∀ (io : Nat) (FO OO : Nat), io ≤ tab.length → gt (A 14) io = (FO : Int) → gt (A 15) io = (OO : Int) → FO ≤ 32768 → OO ≤ 32768 → F1 * F1 * FO = formsT (mkT l) → F1 * OO = ownT (mkT l) → wp (d + 1) 317 (148, [some (vR (some M)), some (vI s), some (vI i0), some (vI i1), some (vI i2), some (vL ((F0 : Nat) : Int)), none, some (vI i1), some (vI io)], [], tw h0 M A sc) (fun r h' => r = .inl none ∧ h' = tw h0 M (up (up A 14 ((A 14).set s ((formsT (mkT l) : Nat) : Int))) 15 ((A 15).set s ((ownT (mkT l) : Nat) : Int))) sc) := by
      intro io FO OO k1 k2 k3 k4 k5 k6 k7
      have m1 := Nat.mul_le_mul x1 x1
      have m2 := Nat.mul_le_mul m1 k4
      have m3 := Nat.mul_le_mul x1 k5
      have hl := hT.2.2
      refine wp.go [] 100 fun W C hW hC => ?_
      refine ⟨_, _, _, _, twF, rfl, rfl, ?_⟩
      refine ⟨_, _, _, _, twF, rfl, rfl, ?_⟩
      refine ⟨_, _, _, twI rfl rfl, rfl, (by omega), gt_at (i1) (by omega) (lenlt (j := 14) (hA) (show (i1) < 64 by omega)), ?_⟩
      rw [f1]
      refine ⟨_, _, _, _, twF, rfl, rfl, ?_⟩
      refine ⟨_, _, _, twI rfl rfl, rfl, (by omega), gt_at (i1) (by omega) (lenlt (j := 14) (hA) (show (i1) < 64 by omega)), ?_⟩
      rw [f1]
      refine ⟨_, _, _, _, twF, rfl, rfl, ?_⟩
      refine ⟨_, _, _, twI rfl rfl, rfl, (by omega), gt_at (io) (by omega) (lenlt (j := 14) (hA) (show (io) < 64 by omega)), ?_⟩
      rw [k2]
      conv => whnf
      rw [lmulN (by omega), lmulN (by omega), k6]
      (refine ⟨_, twI rfl rfl, (by omega), (ilt (s) (by omega) (lenlt (j := 14) (hA) (show (s) < 64 by omega))), ?_⟩; rw [twSetI rfl rfl]; try rw [Int.toNat_natCast])
      refine ⟨_, _, _, _, twF, rfl, rfl, ?_⟩
      refine ⟨_, _, _, _, twF, rfl, rfl, ?_⟩
      refine ⟨_, _, _, twI rfl rfl, rfl, (by omega), gt_at (i1) (by omega) (lenlt (j := 14) (hlt _ (hl14 _)) (show (i1) < 64 by omega)), ?_⟩
      rw [up_eq, rd _ _ b1, f1]
      refine ⟨_, _, _, _, twF, rfl, rfl, ?_⟩
      refine ⟨_, _, _, twI rfl rfl, rfl, (by omega), gt_at (io) (by omega) (lenlt (j := 15) (hlt _ (hl14 _)) (show (io) < 64 by omega)), ?_⟩
      rw [upn_ne _ _ (by decide), k3]
      conv => whnf
      rw [lmulN (by omega), k7]
      (refine ⟨_, twI rfl rfl, (by omega), (ilt (s) (by omega) (lenlt (j := 15) (hlt _ (hl14 _)) (show (s) < 64 by omega))), ?_⟩; rw [twSetI rfl rfl]; try rw [Int.toNat_natCast])
      exact ⟨rfl, rfl⟩
    have hl := hT.2.2
    refine ⟨fun n01 => ?_, fun h01 => ?_⟩
    · have n01' : l[0]? ≠ l[1]? := fun e => n01 (by rw [e01.mpr e])
      have z01 : eqO l[0]? l[1]? = false := by cases e : eqO l[0]? l[1]? with | false => rfl | true => exact absurd (q01.mp e) n01'
      refine ⟨fun h => absurd h n01, fun _ => ?_⟩
      refine ⟨fun n12 => ?_, fun h12 => ?_⟩
      · have n12' : l[1]? ≠ l[2]? := fun e => n12 (by rw [e12.mpr e])
        have z12 : eqO l[1]? l[2]? = false := by cases e : eqO l[1]? l[2]? with | false => rfl | true => exact absurd (q12.mp e) n12'
        rw [z01, z12] at ef eo
        simp only [f3, o3, Bool.and_false, Bool.or_false, cond_false] at ef eo
        have m1 := Nat.mul_le_mul x0 x1
        have m2 := Nat.mul_le_mul m1 x2
        have e2 : 2 * F0 * F1 * F2 = 2 * (F0 * F1 * F2) := by grind
        have e1 : 2 * F0 * F1 = 2 * (F0 * F1) := by grind
        refine ⟨_, _, _, _, twF, rfl, rfl, ?_⟩
        refine ⟨_, _, _, _, twF, rfl, rfl, ?_⟩
        refine ⟨_, _, _, twI rfl rfl, rfl, (by omega), gt_at (i1) (by omega) (lenlt (j := 14) (hA) (show (i1) < 64 by omega)), ?_⟩
        rw [f1]
        refine ⟨_, _, _, _, twF, rfl, rfl, ?_⟩
        refine ⟨_, _, _, twI rfl rfl, rfl, (by omega), gt_at (i2) (by omega) (lenlt (j := 14) (hA) (show (i2) < 64 by omega)), ?_⟩
        rw [f2]
        conv => whnf
        rw [show (2 : Int) = ((2 : Nat) : Int) from rfl, lmulN (by omega), lmulN (by omega), lmulN (by omega), e2, ← ef]
        (refine ⟨_, twI rfl rfl, (by omega), (ilt (s) (by omega) (lenlt (j := 14) (hA) (show (s) < 64 by omega))), ?_⟩; rw [twSetI rfl rfl]; try rw [Int.toNat_natCast])
        refine ⟨_, _, _, _, twF, rfl, rfl, ?_⟩
        (refine ⟨_, twI rfl rfl, (by omega), (ilt (s) (by omega) (lenlt (j := 15) (hlt _ (hl14 _)) (show (s) < 64 by omega))), ?_⟩; rw [twSetI rfl rfl]; try rw [Int.toNat_natCast])
        rw [eo]
        exact ⟨rfl, rfl⟩
      · have h12' : i1 = i2 := by omega
        have l12 := e12.mp h12'
        rw [z01, q12.mpr l12] at ef eo
        simp only [f3, o3, Bool.false_and, Bool.false_or, cond_false, cond_true] at ef eo
        refine ⟨fun _ => ?_, fun h => absurd h n01⟩
        exact hW _ (two i0 F0 O0 a1 f0 o0 x0 y0 (by rw [ef, ← hF2, ← l12, hF1]; grind) (by rw [eo]))
    · have h01' : i0 = i1 := by omega
      have l01 := e01.mp h01'
      refine ⟨fun n12 => ?_, fun h12 => ?_⟩
      · have n12' : l[1]? ≠ l[2]? := fun e => n12 (by rw [e12.mpr e])
        have z12 : eqO l[1]? l[2]? = false := by cases e : eqO l[1]? l[2]? with | false => rfl | true => exact absurd (q12.mp e) n12'
        rw [q01.mpr l01, z12] at ef eo
        simp only [f3, o3, Bool.and_false, Bool.or_false, cond_false, cond_true] at ef eo
        have e10 : F0 = F1 := by rw [← hF0, ← hF1, l01]
        refine ⟨fun _ => ?_, fun h => absurd h01 h⟩
        refine ⟨fun h => absurd h01 h, fun _ => ?_⟩
        exact hW _ (two i2 F2 O2 c1 f2 o2 x2 y2 (by rw [ef, e10]) (by rw [eo, e10]))
      · have h12' : i1 = i2 := by omega
        have l12 := e12.mp h12'
        rw [q01.mpr l01, q12.mpr l12] at ef eo
        simp only [f3, o3, Bool.and_self, cond_true] at ef eo
        have eO : O2 = O0 := by rw [← hO0, ← hO2, l01, l12]
        rw [eO] at eo
        have m1 := Nat.mul_le_mul x0 x0
        have m2 := Nat.mul_le_mul m1 x0
        have m3 := Nat.mul_le_mul x0 y0
        refine ⟨_, _, _, _, twF, rfl, rfl, ?_⟩
        conv => whnf
        refine ⟨by decide, ?_⟩
        rw [show (2 : Int) = ((2 : Nat) : Int) from rfl, show (3 : Int) = ((3 : Nat) : Int) from rfl, lmulN (by omega), lmulN (by omega), lmulN (by omega), laddN (by omega), ldivN (by omega) (by decide) (by decide), ← ef]
        (refine ⟨_, twI rfl rfl, (by omega), (ilt (s) (by omega) (lenlt (j := 14) (hA) (show (s) < 64 by omega))), ?_⟩; rw [twSetI rfl rfl]; try rw [Int.toNat_natCast])
        refine ⟨_, _, _, _, twF, rfl, rfl, ?_⟩
        refine ⟨_, _, _, _, twF, rfl, rfl, ?_⟩
        refine ⟨_, _, _, twI rfl rfl, rfl, (by omega), gt_at (i0) (by omega) (lenlt (j := 15) (hlt _ (hl14 _)) (show (i0) < 64 by omega)), ?_⟩
        rw [upn_ne _ _ (by decide), o0]
        conv => whnf
        rw [lmulN (by omega), ← eo]
        (refine ⟨_, twI rfl rfl, (by omega), (ilt (s) (by omega) (lenlt (j := 15) (hlt _ (hl14 _)) (show (s) < 64 by omega))), ?_⟩; rw [twSetI rfl rfl]; try rw [Int.toNat_natCast])
        exact ⟨rfl, rfl⟩
  · rw [if_pos (by omega)] at ef eo
    refine ⟨_, _, _, _, twF, rfl, rfl, ?_⟩
    (refine ⟨_, twI rfl rfl, (by omega), (ilt (s) (by omega) (lenlt (j := 14) (hA) (show (s) < 64 by omega))), ?_⟩; rw [twSetI rfl rfl]; try rw [Int.toNat_natCast])
    refine ⟨_, _, _, _, twF, rfl, rfl, ?_⟩
    (refine ⟨_, twI rfl rfl, (by omega), (ilt (s) (by omega) (lenlt (j := 15) (hlt _ (hl14 _)) (show (s) < 64 by omega))), ?_⟩; rw [twSetI rfl rfl]; try rw [Int.toNat_natCast])
    rw [ef, eo]
    exact ⟨rfl, rfl⟩
end FORMS
