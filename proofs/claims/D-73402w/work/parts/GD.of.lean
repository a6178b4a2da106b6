section OFROW
variable {d : Nat} {h : AH} {rs bs : Nat} {refs : List (Option Nat)} {bys : List Int}
theorem cof_spec (hR : h.R rs = (7, refs)) (hB : h.I bs = (1, bys)) {most : Nat} (hm : most ≤ 40) {L : List ((Nat → Int) × Nat)} {t : Nat} (hP : cRow h refs bys 0 L) (hL : L.length ≤ 4) (ht : t ≤ 100) : wp (d + 6) 177 (0, ent 4 [vI ((t : Nat) : Int), vI ((most : Nat) : Int), vR (some rs), vR (some bs)], [], h) (givesL h (w64 (pZ most L t))) := by
  refine wp.go [] 20 fun W C hW hC => ?_
  refine hC _ _ _ (useE (wpd.up (by omega) (cprod_spec (d := 0) hR hB hm L 0 t hP (by omega) ht)) ?_)
  exact ⟨rfl, rfl⟩
theorem crow_spec {o : Option Nat} : wp (d + 1) 176 (0, ent 1 [vR o], [], h) (fun r h' => r = .inl (some (vR o)) ∧ h' = h) := by
  refine wp.go [] 10 fun W C hW hC => ?_
  exact ⟨rfl, rfl⟩
end OFROW
