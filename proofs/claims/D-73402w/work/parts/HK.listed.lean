/-! isListed, listed -/
theorem codesL_len : ∀ n, n ≤ 11 → (codesL n).length ≤ 200 := by decide +kernel
section LISTED
variable {d x z u : Nat} {hs h : AH} {ld : Int} {nw : Nat} {wh nm : Option Nat} {tp ep : Nat} {S ST : AS} {fd : Nat → Nat → Bool}
abbrev allEnd (hs h : AH) (x : Nat) (ld : Int) (nw : Nat) (wh nm : Option Nat) (tp ep : Nat) (S ST : AS) (fd : Nat → Nat → Bool) (c s : Nat) (v : AV) : Rs → AH → Prop := fun r h' => r = .inl (some v) ∧ Base h' x ld nw wh nm tp ep S ∧ Cache hs h' x ld ep fd ∧ Twn h' x ST ∧ h.sz ≤ h'.sz ∧ h'.sz + 2500 * cdN h' x ≤ h.sz + 2500 * cdN h x + c ∧ h.sl ≤ h'.sl ∧ h'.sl + 85000 * cdN h' x ≤ h.sl + 85000 * cdN h x + s
theorem isListed_spec (hk : hsK hs z u) (b : Base h x ld nw wh nm tp ep S) (k : Cache hs h x ld ep fd) (T : Twn h x ST) {n j : Int} :
    wp (d + 42) 188 (0, ent 3 [vR (some x), vI n, vI j], [], h) (fun r h' => allEnd hs h x ld nw wh nm tp ep S ST fd 0 0 (vI (if isL n j then 1 else 0)) r h' ∧ (isL n j → ∃ rr cs, codAtC h' x rr n.toNat ∧ h'.R (x + 2) = (3, cs) ∧ cs[n.toNat]? = some (some rr))) := by
  refine wp.go [] 60 fun W C0 hW hC => ?_
  refine hC _ _ _ (useE (wpd.up (by omega) (in_spec (d := 0))) ?_)
  refine ⟨fun c => ?_, fun c => ?_⟩
  · have c1 := b0.mp c
    rw [if_neg (fun q => c1 q.1)]
    exact ⟨by decide, ⟨rfl, b, k, T, Nat.le_refl _, Nat.le_add_right _ _, Nat.le_refl _, Nat.le_add_right _ _⟩, fun q => absurd q.1 c1⟩
  · have c1 := b1.mp c
    obtain ⟨m, rfl⟩ : ∃ m : Nat, n = ((m : Nat) : Int) := ⟨n.toNat, by omega⟩
    refine ⟨_, _, _, b.2.1, rfl, ?_⟩
    refine hC _ _ _ (use (wpd.up (by omega) (codesOf_spec (d := 0) (n := m) hk b k T (by omega) (by omega))) ?_)
    rintro _ h' ⟨rr, rfl, ⟨r0, rows, r1, r2, r3⟩, b', k', T', z1, z2, z3, z4, -, cs', y1, y2⟩
    have hl := codesL_len m (by omega)
    refine ⟨_, Or.inr ⟨_, _, r1, by decide, rfl⟩, ?_⟩
    conv => whnf
    rw [isub_eq (by omega)]
    refine hC _ _ _ (useE (wpd.up (by omega) (in_spec (d := 0))) ?_)
    refine ⟨fun c => ?_, fun c => ?_⟩
    · have c2 := b0.mp c
      have c3 : ¬ isL ((m : Nat) : Int) j := fun q => c2 (by have := q.2; rw [Int.toNat_natCast] at this; omega)
      rw [if_neg c3]
      exact ⟨by decide, ⟨rfl, b', k', T', z1, z2, z3, z4⟩, fun q => absurd q c3⟩
    · have c2 := b1.mp c
      rw [if_pos (show isL ((m : Nat) : Int) j from ⟨c1, by rw [Int.toNat_natCast]; omega⟩)]
      exact ⟨by decide, ⟨rfl, b', k', T', z1, z2, z3, z4⟩, fun _ => ⟨rr, cs', ⟨r0, rows, r1, r2, r3⟩, y1, y2⟩⟩
end LISTED
