section WITH
variable {d : Nat} {h : AH} {s : Nat} {G : Gr}
theorem cwith_spec (hS : SkAt h s G) (hn : G.1 ≤ 16) {m : Nat} : wp (d + 2) 238 (0, ent 4 [vR (some s), vI ((m : Nat) : Int)], [], h) (gives h ((wnG G m : Nat) : Int)) := by
  obtain ⟨k1, k2, k3, ⟨W, k4, k5, k6⟩, k7⟩ := hS
  have loop : ∀ (j c : Nat), j + c = G.1 → wp (d + 2) 238 (4, [some (vR (some s)), some (vI ((m : Nat) : Int)), some (vI ((cnt c (fun c => Nat.beq (deg G c) m) : Nat) : Int)), some (vI ((c : Nat) : Int))], [], h) (gives h ((wnG G m : Nat) : Int)) := by
    intro j
    induction j with
    | zero =>
      intro c hj
      obtain rfl : c = G.1 := by omega
      refine wp.go [4] 30 fun W C hW hC => ?_
      refine ⟨_, _, _, _, k2, rfl, rfl, ?_⟩
      refine ⟨fun _ => ⟨rfl, rfl⟩, fun q => absurd q (by omega)⟩
    | succ j ih =>
      intro c hj
      have hcl := cnt_le (fun c => Nat.beq (deg G c) m) c
      have hcs : cnt (c + 1) (fun c => Nat.beq (deg G c) m) = cnt c (fun c => Nat.beq (deg G c) m) + b01 (Nat.beq (deg G c) m) := rfl
      have fin : ∀ b : Bool, b = Nat.beq (deg G c) m → wp (d + 2) 238 (28, [some (vR (some s)), some (vI ((m : Nat) : Int)), some (vI ((cnt c (fun c => Nat.beq (deg G c) m) : Nat) : Int)), some (vI ((c : Nat) : Int))], [vI (z01 b), vI ((cnt c (fun c => Nat.beq (deg G c) m) : Nat) : Int)], h) (gives h ((wnG G m : Nat) : Int)) := by
        intro b hb
        refine wp.go [4] 20 fun W C hW hC => ?_
        refine hC _ _ _ (use (bit_spec (d := d)) ?_); rintro _ _ ⟨rfl, rfl⟩
        have := ih (c + 1) (by omega)
        rw [hcs, ← hb] at this
        cases b with
        | true =>
          rw [show z01 true = 1 from rfl]
          (conv => whnf); simp (disch := omega) only [iadd_eq, isub_eq, imul_eq]
          exact hW _ this
        | false =>
          rw [show z01 false = 0 from rfl]
          (conv => whnf); simp (disch := omega) only [iadd_eq, isub_eq, imul_eq]
          rw [Int.add_zero]
          exact hW _ this
      refine wp.go [4, 28] 40 fun W C hW hC => ?_
      refine ⟨_, _, _, _, k2, rfl, rfl, ?_⟩
      refine ⟨fun q => absurd q (by omega), fun _ => ?_⟩
      refine ⟨_, _, _, _, k2, rfl, rfl, ?_⟩
      refine ⟨_, _, _, k4, rfl, by omega, gt_at c (by omega) (by omega), ?_⟩
      rw [k6 c (by omega)]
      refine ⟨fun q => ?_, fun q => ?_⟩
      · exact hW _ (fin false (beq_ff (by omega)).symm)
      · exact hW _ (fin true (beqN.mpr (by omega)).symm)
  refine wp.go [4] 10 fun W C hW hC => ?_
  exact hW _ (loop G.1 0 rfl)
end WITH
