section HANG
variable {d : Nat} {h : AH} {s : Nat} {G : Gr} {D : Nat → Nat → Nat}
theorem hanging_spec (hS : SkAt h s G) (hG : G.wf) (hd : ∀ a, deg G a ≤ 4) (hD : Far G D) : ∀ (n a c : Nat), bsz G D a c ≤ n → G.2 a c = true → wp (d + n) 230 (0, ent 5 [vR (some s), vI ((c : Nat) : Int), vI ((a : Nat) : Int)], [], h) (gives h ((bB G D a c : Nat) : Int)) := by
  obtain ⟨k1, k2, k3, ⟨W, k4, k5, k6⟩, k7⟩ := id hS
  have hn := hG.2.1
  intro n
  induction n with
  | zero => intro a c h1 h2; have := bsz_pos hG hD h2; omega
  | succ n ih =>
    intro a c h1 hac
    obtain ⟨ha, hc, hca, hne⟩ := hG.2.2 _ _ hac
    obtain ⟨X, x1, x2, x3⟩ := k7 c (by omega)
    have x3 := x3 hc
    have hdc := hd c
    have loop : ∀ (j k S : Nat), j + k = deg G c → S < 65536 → (∀ v, S.testBit v = true ↔ v < G.1 ∧ (v = c ∨ ∃ i e, i < k ∧ (nb G c)[i]? = some e ∧ e ≠ a ∧ inB D c e v)) → wp (d + (n + 1)) 230 (7, [some (vR (some s)), some (vI ((c : Nat) : Int)), some (vI ((a : Nat) : Int)), some (vI ((S : Nat) : Int)), some (vI ((k : Nat) : Int))], [], h) (gives h ((bB G D a c : Nat) : Int)) := by
      intro j
      induction j with
      | zero =>
        intro k S hj hS1 hS2
        refine wp.go [7, 48] 30 fun W C hW hC => ?_
        refine ⟨_, _, _, _, k2, rfl, rfl, ?_⟩
        refine ⟨_, _, _, k4, rfl, by omega, gt_at c (by omega) (by omega), ?_⟩
        rw [k6 c hc]
        refine ⟨fun _ => ?_, fun q => absurd q (by omega)⟩
        have e : S = bB G D a c := bB_eq fun v => by
          rw [hS2]
          constructor
          · rintro ⟨g1, g2 | ⟨i, e, h2, h3, h4, h5⟩⟩
            · rw [g2]; exact ⟨hc, (hD.self hG hac).1⟩
            · exact ⟨g1, Far.sub hG hD hac ((nb_mem hG).mp (List.mem_of_getElem? h3)) h4 g1 h5⟩
          · rintro ⟨h1, h2⟩
            refine ⟨h1, ?_⟩
            by_cases q : v = c
            · exact Or.inl q
            · obtain ⟨e, e1, e2, e3⟩ := Far.child hG hD hc h1 q h2
              obtain ⟨i, hi⟩ := List.getElem?_of_mem ((nb_mem hG).mpr e1)
              have hil := (List.getElem?_eq_some_iff.mp hi).1
              have hil : i < deg G c := hil
              exact Or.inr ⟨i, e, by omega, hi, e2, e3⟩
        rw [e]
        exact ⟨rfl, rfl⟩
      | succ j ihj =>
        intro k S hj hS1 hS2
        have hkl : k < (nb G c).length := by show k < deg G c; omega
        have hget := List.getElem?_eq_getElem hkl
        have hx := x3 k _ hget
        have hce : G.2 c (nb G c)[k] = true := (nb_mem hG).mp (List.getElem_mem hkl)
        generalize (nb G c)[k] = e at hget hx hce
        have step : ∀ S', S' < 65536 → (∀ v, S'.testBit v = true ↔ v < G.1 ∧ (v = c ∨ ∃ i e, i < k + 1 ∧ (nb G c)[i]? = some e ∧ e ≠ a ∧ inB D c e v)) → wp (d + (n + 1)) 230 (48, [some (vR (some s)), some (vI ((c : Nat) : Int)), some (vI ((a : Nat) : Int)), some (vI ((S' : Nat) : Int)), some (vI ((k : Nat) : Int))], [], h) (gives h ((bB G D a c : Nat) : Int)) := by
          intro S' h1 h2
          refine wp.go [7] 10 fun W C hW hC => ?_
          (conv => whnf); simp (disch := omega) only [iadd_eq, isub_eq, imul_eq]
          exact hW _ (ihj (k + 1) S' (by omega) h1 h2)
        refine wp.go [7, 48] 60 fun W C hW hC => ?_
        refine ⟨_, _, _, _, k2, rfl, rfl, ?_⟩
        refine ⟨_, _, _, k4, rfl, by omega, gt_at c (by omega) (by omega), ?_⟩
        rw [k6 c hc]
        refine ⟨fun q => absurd q (by omega), fun _ => ?_⟩
        refine ⟨_, _, _, _, k2, rfl, rfl, ?_⟩
        refine ⟨_, _, _, k3, by decide, by omega, by rw [Int.toNat_natCast]; exact row_ref (by omega), ?_⟩
        refine ⟨_, _, _, x1, rfl, by omega, gt_at k (by omega) (by omega), ?_⟩
        rw [hx]
        refine ⟨fun q => ?_, fun q => ?_⟩
        · refine hW _ (step S hS1 fun v => ?_)
          rw [hS2]
          constructor
          · rintro ⟨h1, h2 | ⟨i, e', h2, h3⟩⟩
            · exact ⟨h1, Or.inl h2⟩
            · exact ⟨h1, Or.inr ⟨i, e', by omega, h3⟩⟩
          · rintro ⟨h1, h2 | ⟨i, e', h2, h3, h4, h5⟩⟩
            · exact ⟨h1, Or.inl h2⟩
            · by_cases qi : i = k
              · subst qi
                rw [hget] at h3
                cases h3
                omega
              · exact ⟨h1, Or.inr ⟨i, e', by omega, h3, h4, h5⟩⟩
        · have hea : e ≠ a := by omega
          have hbe : bB G D c e < 65536 := Nat.lt_of_lt_of_le (bits_lt _ _) (Nat.pow_le_pow_right (n := 2) (by decide) hn)
          refine ⟨_, _, _, _, k2, rfl, rfl, ?_⟩
          refine ⟨_, _, _, k3, by decide, by omega, by rw [Int.toNat_natCast]; exact row_ref (by omega), ?_⟩
          refine ⟨_, _, _, x1, rfl, by omega, gt_at k (by omega) (by omega), ?_⟩
          rw [hx]
          refine ⟨_, _, _, k2, rfl, ?_⟩
          refine hC _ _ _ (use (ih c e (by have := bsz_child hG hD hac hce hea; omega) hce) ?_); rintro _ _ ⟨rfl, rfl⟩
          conv => whnf
          rw [ior_eq (by omega) (by omega)]
          refine hW _ (step _ (or16 hS1 hbe) fun v => ?_)
          have hb : (bB G D c e).testBit v = true ↔ v < G.1 ∧ inB D c e v := by
            unfold bB
            rw [bits_bit, Bool.and_eq_true, decide_eq_true_eq, decide_eq_true_eq]
          rw [Nat.testBit_or, Bool.or_eq_true, hS2, hb]
          constructor
          · rintro (⟨h1, h2 | ⟨i, e', h2, h3⟩⟩ | ⟨h1, h2⟩)
            · exact ⟨h1, Or.inl h2⟩
            · exact ⟨h1, Or.inr ⟨i, e', by omega, h3⟩⟩
            · exact ⟨h1, Or.inr ⟨k, e, by omega, hget, hea, h2⟩⟩
          · rintro ⟨h1, h2 | ⟨i, e', h2, h3, h4, h5⟩⟩
            · exact Or.inl ⟨h1, Or.inl h2⟩
            · by_cases qi : i = k
              · subst qi
                rw [hget] at h3
                cases h3
                exact Or.inr ⟨h1, h5⟩
              · exact Or.inl ⟨h1, Or.inr ⟨i, e', by omega, h3, h4, h5⟩⟩
    refine wp.go [7] 20 fun W C hW hC => ?_
    conv => whnf
    rw [pow_i (by omega)]
    refine hW _ (loop (deg G c) 0 (2 ^ c) rfl (pow16 (by omega)) fun v => ?_)
    rw [Nat.testBit_two_pow, decide_eq_true_eq]
    constructor
    · rintro rfl; exact ⟨hc, Or.inl rfl⟩
    · rintro ⟨h1, rfl | ⟨i, e, h2, -⟩⟩
      · rfl
      · omega
end HANG
