section TOTAL
variable {d : Nat} {H : AH} {x p : Nat}
theorem total_go {Z : Zs} {fs : List AV} (HR : H.R p = (1, refZ Z)) (HF : H.F x = (7, vR (some p) :: fs)) (hZ : ∀ z, z ∈ Z → OAt H (some z.1) (some z.2)) (hl : Z.length ≤ 4) (hsum : sumS (treZ Z) ≤ 15) (hw : waysT (mkT (treZ Z)) ≤ 11284439629824) (hwz : ∀ z, z ∈ Z → waysT z.2 ≤ 11284439629824) {Q : Rs → AH → Prop}
    (hQ : ∀ k, wp (d + 19) 413 (134, [some (vR (some x)), some (vR (some p)), some (vI ((szT (mkT (treZ Z)) : Nat) : Int)), some (vI ((tallT (mkT (treZ Z)) - 1 : Nat) : Int)), some (vL ((waysT (mkT (treZ Z)) : Nat) : Int)), none, some (vI k)], [], H) Q) :
    ∀ (j k : Nat), j + k = Z.length → wp (d + 19) 413 (79, [some (vR (some x)), some (vR (some p)), some (vI ((1 + sumS ((treZ Z).take k) : Nat) : Int)), some (vI ((((treZ Z).take k).foldl (fun m a => max m (tallT a)) 0 : Nat) : Int)), some (vL ((waysN (treZ Z) k : Nat) : Int)), none, some (vI ((k : Nat) : Int))], [], H) Q := by
  have hlt : (treZ Z).length = Z.length := List.length_map _
  intro j
  induction j with
  | zero =>
    intro k hj
    obtain rfl : k = Z.length := by omega
    have e1 : (treZ Z).take Z.length = treZ Z := by rw [← hlt, List.take_length]
    have e2 : waysN (treZ Z) Z.length = waysT (mkT (treZ Z)) := by rw [← hlt]; exact waysN_all _
    have e3 : 1 + sumS (treZ Z) = szT (mkT (treZ Z)) := (sz_mk _).symm
    have e4 : (treZ Z).foldl (fun m a => max m (tallT a)) 0 = tallT (mkT (treZ Z)) - 1 := by rw [tall_mk]; rfl
    rw [e1, e2, e3, e4]
    refine wp.go [79, 134] 30 fun W C hW hC => ?_
    refine ⟨_, Or.inr ⟨_, _, HR, by decide, rfl⟩, ?_⟩
    rw [List.length_map]
    refine ⟨fun _ => ?_, fun c => absurd c (by omega)⟩
    exact hW _ (hQ _)
  | succ j ih =>
    intro k hj
    have hkl : k < Z.length := by omega
    have hkt : k < (treZ Z).length := by omega
    have hz := hZ _ (List.getElem_mem hkl)
    obtain ⟨⟨q, qs, b1, b2, b3, b4, b5⟩, ho, hs16⟩ := id hz
    have hget : (refZ Z)[k]? = some (some (Z[k]).1) := by rw [List.getElem?_map, List.getElem?_eq_getElem hkl]; rfl
    have hgt : (treZ Z)[k]? = some (Z[k]).2 := by rw [List.getElem?_map, List.getElem?_eq_getElem hkl]; rfl
    have htk : (treZ Z).take (k + 1) = (treZ Z).take k ++ [(Z[k]).2] := by rw [List.take_succ, hgt]; rfl
    have s1 : sumS ((treZ Z).take (k + 1)) = sumS ((treZ Z).take k) + szT (Z[k]).2 := by
      rw [htk]; unfold sumS; rw [List.map_append, List.sum_append]; simp
    have s2 : ((treZ Z).take (k + 1)).foldl (fun m a => max m (tallT a)) 0 = max (((treZ Z).take k).foldl (fun m a => max m (tallT a)) 0) (tallT (Z[k]).2) := by
      rw [htk, List.foldl_append]; rfl
    have s3 : waysN (treZ Z) (k + 1) = waysN (treZ Z) k * (waysT (Z[k]).2 * runL (treZ Z) k) := by
      show waysN (treZ Z) k * ((match (treZ Z)[k]? with | some t => waysT t | none => 1) * runL (treZ Z) k) = _
      rw [hgt]
    have hle : waysN (treZ Z) (k + 1) ≤ 11284439629824 := by
      refine Nat.le_trans (waysN_mono (treZ Z) j (k + 1)) ?_
      rw [show k + 1 + j = (treZ Z).length by omega, waysN_all]
      exact hw
    have hsz : sumS ((treZ Z).take (k + 1)) ≤ sumS (treZ Z) := by
      have e : treZ Z = (treZ Z).take (k + 1) ++ (treZ Z).drop (k + 1) := (List.take_append_drop _ _).symm
      have : sumS (treZ Z) = sumS ((treZ Z).take (k + 1)) + sumS ((treZ Z).drop (k + 1)) := by
        conv => lhs; rw [e]
        unfold sumS
        rw [List.map_append, List.sum_append]
      omega
    have hwk := hwz _ (List.getElem_mem hkl)
    have hrun : runL (treZ Z) k ≤ 4 := by
      have hol : ∀ t, t ∈ treZ Z → okT0 t := fun t ht => by
        obtain ⟨z, hz1, rfl⟩ := List.mem_map.mp ht
        exact (hZ z hz1).2.1
      have := (runL_ok (treZ Z) hol k).2.1
      omega
    have hmul : waysT (Z[k]).2 * runL (treZ Z) k ≤ 11284439629824 * 4 := Nat.mul_le_mul hwk hrun
    have like := likeAhead_spec (d := d) (k := k) (l := treZ Z) HF HR (fun i t hi => by
      rw [List.getElem?_map] at hi
      cases e : Z[i]? with
      | none => rw [e] at hi; cases hi
      | some z =>
        rw [e] at hi
        cases hi
        rw [List.getElem?_map, e]
        exact hZ z (List.mem_of_getElem? e)) (by rw [List.length_map, List.length_map]) (by omega) hkt
    have ihk := ih (k + 1) (by omega)
    rw [s1, s2, s3] at ihk
    refine wp.go [79, 134] 60 fun W C hW hC => ?_
    refine ⟨_, Or.inr ⟨_, _, HR, by decide, rfl⟩, ?_⟩
    rw [List.length_map]
    refine ⟨fun c => absurd c (by omega), fun _ => ?_⟩
    refine ⟨_, _, _, HR, by decide, by omega, by rw [Int.toNat_natCast]; exact hget, ?_⟩
    refine ⟨_, _, _, _, b2, rfl, rfl, ?_⟩
    conv => whnf
    refine ⟨_, _, _, HR, by decide, by omega, by rw [Int.toNat_natCast]; exact hget, ?_⟩
    refine ⟨_, _, _, _, b2, rfl, rfl, ?_⟩
    refine hC _ _ _ (use (wpd.up (show d + 1 ≤ d + 18 by omega) (max_spec (d := d))) ?_); rintro _ _ ⟨rfl, rfl⟩
    refine ⟨_, _, _, HR, by decide, by omega, by rw [Int.toNat_natCast]; exact hget, ?_⟩
    refine ⟨_, _, _, _, b2, rfl, rfl, ?_⟩
    refine ⟨_, _, _, HF, rfl, ?_⟩
    refine hC _ _ _ (use (like) ?_); rintro _ _ ⟨rfl, rfl⟩
    conv => whnf
    rw [iadd_eq (by omega), iadd_eq (by omega), lmulN (by omega), lmulN (by rw [← s3]; omega)]
    rw [show ((1 + sumS ((treZ Z).take k) : Nat) : Int) + ((szT (Z[k]).2 : Nat) : Int) = ((1 + (sumS ((treZ Z).take k) + szT (Z[k]).2) : Nat) : Int) by omega]
    rw [show max ((((treZ Z).take k).foldl (fun m a => max m (tallT a)) 0 : Nat) : Int) ((tallT (Z[k]).2 : Nat) : Int) = ((max (((treZ Z).take k).foldl (fun m a => max m (tallT a)) 0) (tallT (Z[k]).2) : Nat) : Int) by omega]
    exact hW _ ihk
end TOTAL
