/-! Branch's constructor -/
theorem setF_setF {h : AH} {p : Nat} {a b : List AV} : (h.setF p a).setF p b = h.setF p b := by
  have e : va_up (h.setF p a).F p (((h.setF p a).F p).1, b) = (h.setF p b).F := by
    funext q
    show (if q = p then (((if p = p then ((h.F p).1, a) else h.F p)).1, b) else if q = p then ((h.F p).1, a) else h.F q) = if q = p then ((h.F p).1, b) else h.F q
    by_cases c : q = p
    · rw [if_pos c, if_pos c, if_pos rfl]
    · rw [if_neg c, if_neg c, if_neg c]
  show ((h.setF p a).1, (h.setF p a).2.1, (h.setF p a).I, (h.setF p a).R, va_up (h.setF p a).F p (((h.setF p a).F p).1, b), (h.setF p a).S) = _
  rw [e]
  rfl
theorem setF_setR {h : AH} {x p : Nat} {a : List AV} {b : List (Option Nat)} : (h.setF x a).setR p b = (h.setR p b).setF x a := rfl
section BINIT
variable {d : Nat} {H : AH} {x p : Nat}
abbrev fsN (p : Nat) (a b : Int) (w f o : Int) : List AV := [vR (some p), vI a, vI b, vL w, vL f, vL o]
theorem fields_go {Z : Zs} {a1 a2 a3 a4 a5 : Int} (HR : H.R p = (1, refZ Z)) (HF : H.F x = (7, fsN p a1 a2 a3 a4 a5)) (hZ : ∀ fs' z, z ∈ Z → OAt (H.setF x fs') (some z.1) (some z.2)) (hsum : sumS (treZ Z) ≤ 15) {k : Int} :
    wp (d + 20) 413 (134, [some (vR (some x)), some (vR (some p)), some (vI ((szT (mkT (treZ Z)) : Nat) : Int)), some (vI ((tallT (mkT (treZ Z)) - 1 : Nat) : Int)), some (vL ((waysT (mkT (treZ Z)) : Nat) : Int)), none, some (vI k)], [], H) (fun r h' => r = .inl none ∧ h' = H.setF x (brF p (mkT (treZ Z)))) := by
  have htp := tall_pos (mkT (treZ Z))
  have htl := tall_le_sz (mkT (treZ Z))
  have hsz : szT (mkT (treZ Z)) = 1 + sumS (treZ Z) := sz_mk _
  have HF' : ∀ fs', (H.setF x fs').F x = (7, fs') := fun fs' => setF_at HF
  have hlt : (treZ Z).length = Z.length := List.length_map _
  have oat : ∀ fs' (i : Nat), OAt (H.setF x fs') ((refZ Z)[i]?.getD none) (treZ Z)[i]? := by
    intro fs' i
    rw [List.getElem?_map, List.getElem?_map]
    cases e : Z[i]? with
    | none => exact trivial
    | some z => exact hZ fs' z (List.mem_of_getElem? e)
  have hfo := formsT_eq (mkT (treZ Z))
  have how := ownT_eq (mkT (treZ Z))
  rw [kids_mk] at hfo how
  have own : ∀ F : Int, F = ((formsT (mkT (treZ Z)) : Nat) : Int) → wp (d + 20) 413 (184, [some (vR (some x)), some (vR (some p)), some (vI ((szT (mkT (treZ Z)) : Nat) : Int)), some (vI ((tallT (mkT (treZ Z)) - 1 : Nat) : Int)), some (vL ((waysT (mkT (treZ Z)) : Nat) : Int)), none, some (vI k)], [], H.setF x (fsN p ((szT (mkT (treZ Z)) : Nat) : Int) ((tallT (mkT (treZ Z)) : Nat) : Int) ((waysT (mkT (treZ Z)) : Nat) : Int) F a5)) (fun r h' => r = .inl none ∧ h' = H.setF x (brF p (mkT (treZ Z)))) := by
    rintro F rfl
    refine wp.go [] 60 fun W C hW hC => ?_
    refine ⟨_, Or.inr ⟨_, _, HR, by decide, rfl⟩, ?_⟩
    rw [List.length_map]
    refine ⟨fun c => ?_, fun c => ?_⟩
    · rw [if_neg (by omega)] at how
      refine ⟨_, _, _, HF' _, rfl, ?_⟩
      refine hC _ _ _ (use (wpd.up (show d + 1 ≤ d + 19 by omega) (at_spec (d := d) (k := 0) (HF' _) HR (by decide) (by decide))) ?_); rintro _ _ ⟨rfl, rfl⟩
      refine ⟨_, _, _, HF' _, rfl, ?_⟩
      refine hC _ _ _ (use (wpd.up (show d + 1 ≤ d + 19 by omega) (at_spec (d := d) (k := 1) (HF' _) HR (by decide) (by decide))) ?_); rintro _ _ ⟨rfl, rfl⟩
      refine ⟨_, _, _, HF' _, rfl, ?_⟩
      refine hC _ _ _ (use (wpd.up (show d + 1 ≤ d + 19 by omega) (at_spec (d := d) (k := 2) (HF' _) HR (by decide) (by decide))) ?_); rintro _ _ ⟨rfl, rfl⟩
      refine hC _ _ _ (use (o3_spec (d := d) (oat _ 0) (oat _ 1) (oat _ 2)) ?_); rintro _ _ ⟨rfl, rfl⟩
      rw [← how]
      refine ⟨_, _, _, HF' _, rfl, (Nat.le_of_ble_eq_true rfl), ?_⟩
      rw [setF_setF]
      exact ⟨rfl, rfl⟩
    · rw [if_pos (by omega)] at how
      refine ⟨_, _, _, HF' _, rfl, (Nat.le_of_ble_eq_true rfl), ?_⟩
      rw [setF_setF]
      refine ⟨rfl, ?_⟩
      show _ = H.setF x (brF p (mkT (treZ Z)))
      unfold brF
      rw [how]
      rfl
  refine wp.go [184] 60 fun W C hW hC => ?_
  refine ⟨_, _, _, HF, rfl, (Nat.le_of_ble_eq_true rfl), ?_⟩
  conv => whnf
  rw [iadd_eq (by omega), show ((tallT (mkT (treZ Z)) - 1 : Nat) : Int) + 1 = ((tallT (mkT (treZ Z)) : Nat) : Int) by omega]
  refine ⟨_, _, _, HF' _, rfl, (Nat.le_of_ble_eq_true rfl), ?_⟩
  rw [setF_setF]
  refine ⟨_, _, _, HF' _, rfl, (Nat.le_of_ble_eq_true rfl), ?_⟩
  rw [setF_setF]
  refine ⟨_, Or.inr ⟨_, _, HR, by decide, rfl⟩, ?_⟩
  rw [List.length_map]
  refine ⟨fun c => ?_, fun c => ?_⟩
  · rw [if_neg (by omega)] at hfo
    refine ⟨_, _, _, HF' _, rfl, ?_⟩
    refine hC _ _ _ (use (wpd.up (show d + 1 ≤ d + 19 by omega) (at_spec (d := d) (k := 0) (HF' _) HR (by decide) (by decide))) ?_); rintro _ _ ⟨rfl, rfl⟩
    refine ⟨_, _, _, HF' _, rfl, ?_⟩
    refine hC _ _ _ (use (wpd.up (show d + 1 ≤ d + 19 by omega) (at_spec (d := d) (k := 1) (HF' _) HR (by decide) (by decide))) ?_); rintro _ _ ⟨rfl, rfl⟩
    refine ⟨_, _, _, HF' _, rfl, ?_⟩
    refine hC _ _ _ (use (wpd.up (show d + 1 ≤ d + 19 by omega) (at_spec (d := d) (k := 2) (HF' _) HR (by decide) (by decide))) ?_); rintro _ _ ⟨rfl, rfl⟩
    refine hC _ _ _ (use (f3_spec (d := d) (oat _ 0) (oat _ 1) (oat _ 2)) ?_); rintro _ _ ⟨rfl, rfl⟩
    rw [← hfo]
    refine ⟨_, _, _, HF' _, rfl, (Nat.le_of_ble_eq_true rfl), ?_⟩
    rw [setF_setF]
    exact hW _ (own _ rfl)
  · rw [if_pos (by omega)] at hfo
    refine ⟨_, _, _, HF' _, rfl, (Nat.le_of_ble_eq_true rfl), ?_⟩
    rw [setF_setF]
    refine hW _ (own 0 ?_)
    rw [hfo]; rfl
end BINIT
