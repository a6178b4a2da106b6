section ACTS3
variable {d : Nat} {h0 : AH} {M : Nat} {A : Nat → List Int} {sc : Nat → Int}
theorem b1 {P : Prop} [Decidable P] : (if P then (1 : Int) else 0) ≠ 0 ↔ P := by
  by_cases c : P
  · simp [c]
  · simp [c]
theorem b0 {P : Prop} [Decidable P] : (if P then (1 : Int) else 0) = 0 ↔ ¬ P := by
  by_cases c : P
  · simp [c]
  · simp [c]
/-- Model.isIn, at any depth -/
theorem isIn_s (v lo hi : Int) (h : AH) : wp (d + 1) 271 (0, ent 6 [vL v, vL lo, vL hi], [], h) (gives h (if lo ≤ v ∧ v ≤ hi then 1 else 0)) := by
  refine wpd.mono ?_ _ _ _ (wpd.up (by omega) (isIn_spec v lo hi h))
  rintro r h' ⟨rfl, rfl⟩
  exact ⟨rfl, rfl⟩
theorem isRow0 {N : List Int} {G : Gr} (h : isRow N 0 G) {c : Nat} (hc : c < G.1) : gt N (1 + c) = ((row G c : Nat) : Int) := by
  have := h.2 c hc
  rw [Nat.zero_add] at this
  exact this
/-- Model.prune -/
theorem prune_spec (hA : lens A) {ps : List Gr} {G : Gr} (hh : hist (A 2) (sc 0) ps) (hG : G.wf) (hr : isRow (A 1) 0 G) {c : Int} : wp (d + 3) 278 (0, ent 2 [vR (some M), vI c], [], tw h0 M A sc)
    (fun r h' => (¬ (0 ≤ c ∧ c < G.1) → r = .inl (some (vI (-1))) ∧ h' = tw h0 M A sc) ∧
      (0 ≤ c ∧ c < G.1 → deg G c.toNat ≠ 1 → r = .inl (some (vI (-2))) ∧ h' = tw h0 M A sc) ∧
      (0 ≤ c ∧ c < G.1 → deg G c.toNat = 1 → r = .inl (some (vI (((G.1 - 1 : Nat)) : Int))) ∧ ∃ V u N, h' = tw h0 M (up (up A 2 V) 1 N) (up sc 0 u) ∧ V.length = 204 ∧ N.length = 17 ∧ hist V u (pushG ps G) ∧ isRow N 0 (gRem G c.toNat))) := by
  have hn := hG.2.1
  have hl := hA.eq 1
  rw [ln1] at hl
  refine wp.go [] 20 fun W C hW hC => ?_
  refine ⟨_, _, _, twF, rfl, hC _ _ _ (use (isCarbon_spec hl) ?_)⟩
  rintro r h ⟨rfl, rfl⟩
  rw [hr.1]
  refine ⟨fun c1 => ?_, fun c1 => ?_⟩
  · have c2 := b1.mp c1
    obtain ⟨k, rfl⟩ : ∃ k : Nat, c = (k : Int) := ⟨c.toNat, by omega⟩
    have hk : k < G.1 := by omega
    refine ⟨_, _, _, twF, rfl, hC _ _ _ (use (degree_spec hA (by omega) (isRow0 hr hk) (by have := row_lt hn (c := k); omega)) ?_)⟩
    rintro r h ⟨rfl, rfl⟩
    rw [row_deg hn]
    refine ⟨fun c3 => ?_, fun c3 => ?_⟩
    · have c3 : deg G k = 1 := by have c3 : ((deg G k : Nat) : Int) = 1 := c3; omega
      refine ⟨_, _, _, twF, rfl, hC _ _ _ (use (keepsAct_spec hA hh hn hr) ?_)⟩
      rintro r h ⟨rfl, V, u, rfl, hV, hh'⟩
      refine ⟨_, _, _, twF, rfl, hC _ _ _ (use (removes_spec (hA.up (by rw [hV]; rfl)) hG (G := G) (by rw [upn_ne _ _ (by decide)]; exact hr) hk) ?_)⟩
      rintro r h ⟨rfl, N, rfl, hN, hrN⟩
      refine ⟨_, _, _, _, twF, rfl, rfl, ?_⟩
      refine ⟨_, _, _, twI rfl rfl, rfl, by decide, gt_some (by rw [up_eq, hN]; decide), ?_⟩
      refine ⟨fun e => absurd c2 e, fun _ e => absurd c3 e, fun _ _ => ⟨?_, V, u, N, rfl, hV, hN, hh', hrN⟩⟩
      rw [up_eq, show ((0 : Int).toNat) = 0 from rfl, hrN.1]
      rfl
    · have c3 : deg G k ≠ 1 := by have c3 : ((deg G k : Nat) : Int) ≠ 1 := c3; omega
      exact ⟨fun e => absurd c2 e, fun _ _ => ⟨rfl, rfl⟩, fun _ e => absurd e c3⟩
  · have c2 := b0.mp c1
    exact ⟨fun _ => ⟨rfl, rfl⟩, fun e => absurd e c2, fun e => absurd e c2⟩
end ACTS3
