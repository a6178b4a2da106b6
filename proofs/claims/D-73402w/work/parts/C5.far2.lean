section FAR2
variable {d : Nat} {h : AH} {s : Nat} {G : Gr} {D : Nat → Nat → Nat}
theorem far_spec (hS : SkAt h s G) (hG : G.wf) (hd : ∀ a, deg G a ≤ 4) (hD : Far G D) {c : Nat} (hc : c < G.1) : wp (d + 17) 235 (0, ent 3 [vR (some s), vI ((c : Nat) : Int)], [], h) (fun r h' => r = .inl (some (vR (some h.sz))) ∧ ext 1 16 h h' ∧ h'.sz = h.sz + 1 ∧ ∃ X, h'.I h.sz = (1, X) ∧ X.length = G.1 ∧ ∀ v, v < G.1 → gt X v = ((D c v : Nat) : Int)) := by
  have hn := hG.2.1
  have k2 := hS.2.1
  have hS2 : SkAt (h.newI 1 (List.replicate G.1 0)) s G := hS.mono ext_newI
  have hI := newI_at (h := h) (t := 1) (x := List.replicate G.1 0)
  have hb : bszF G D 16 c ≤ 16 := by unfold bszF; rw [← root_eq hG hD hc]; exact hn
  have call := clays_spec (d := d) (f := h.sz) hS2 (by have := hS.1; omega) (by rw [hI]) hG hd hD 16 16 c 0 (List.replicate G.1 0) hb (Or.inr rfl) hc (by decide) (List.length_replicate)
  rw [setI_self hI] at call
  refine wp.go [] 30 fun W C hW hC => ?_
  refine ⟨_, _, _, _, k2, rfl, rfl, ?_⟩
  refine ⟨by omega, by omega, ?_⟩
  rw [Int.toNat_natCast]
  refine ⟨_, _, _, hS2.2.1, rfl, ?_⟩
  refine hC _ _ _ (use call ?_)
  rintro _ _ ⟨rfl, Y, rfl, y1, y2⟩
  refine ⟨rfl, ?_, rfl, Y, setI_at hI, y1, fun v hv => ?_⟩
  · refine ⟨Nat.le_succ _, Nat.le_refl _, Nat.le_add_right _ _, ?_, fun a ha => ⟨?_, rfl, rfl⟩, rfl⟩
    · show h.sl + (List.replicate G.1 (0 : Int)).length ≤ h.sl + 16
      rw [List.length_replicate]; omega
    · rw [setI_ne (by omega)]
      exact (ext_newI.2.2.2.2.1 a ha).1
  · have := (y2 v hv).1 (Or.inl rfl)
    rw [Nat.zero_add] at this
    exact this
end FAR2
