theorem size_loop {d n : Nat} {h : AH} {s0 : Int} : ∀ (c : Nat) (a m : Nat), bcnt a 31 = c → a < 2147483648 → m + c ≤ 31 → wp (d + 1) 275 (4, [some (vI s0), some (vI m), some (vI a)], [], h) (gives h ((m + c : Nat) : Int)) := by
  intro c
  induction c with
  | zero =>
    intro a m ha hb hm
    refine wp.go [4] 20 fun W C hW hC => ?_
    refine ⟨fun hc => ⟨rfl, rfl⟩, fun hc => ?_⟩
    have := bcnt_low (a := a) (by omega) 31 hb
    omega
  | succ c ih =>
    intro a m ha hb hm
    refine wp.go [4] 20 fun W C hW hC => ?_
    refine ⟨fun hc => ?_, fun hc => ?_⟩
    · have h0 : a = 0 := by omega
      subst h0
      rw [bcnt_zero] at ha
      omega
    · have h1 : a ≠ 0 := by omega
      have h2 := bcnt_low h1 31 hb
      have h3 : a &&& (a - 1) < 2147483648 := Nat.lt_of_le_of_lt Nat.and_le_left hb
      have e1 : isub (a : Int) 1 = ((a - 1 : Nat) : Int) := by rw [isub_eq (by omega)]; omega
      have e2 : iadd (m : Int) 1 = ((m + 1 : Nat) : Int) := by rw [iadd_eq (by omega)]; omega
      conv => whnf
      rw [e1, e2, iand_eq hb (by omega)]
      have := ih (a &&& (a - 1)) (m + 1) (by omega) h3 (by omega)
      rw [show m + 1 + c = m + (c + 1) by omega] at this
      exact hW _ this
/-- Model.size -/
theorem size_spec {d : Nat} {h : AH} {a : Nat} (ha : a < 2147483648) : wp (d + 1) 275 (0, ent 3 [vI a], [], h) (gives h ((bcnt a 31 : Nat) : Int)) := by
  refine wp.go [4] 4 fun W C hW hC => ?_
  have := size_loop (n := 0) (d := d) (h := h) (s0 := a) (bcnt a 31) a 0 rfl ha (by have := bcnt_le a 31; omega)
  rw [Nat.zero_add] at this
  exact hW _ this
/-- Model.has -/
theorem has_spec {d : Nat} {h : AH} {a k : Nat} (ha : a < 2147483648) (hk : k < 32) : wp (d + 1) 283 (0, ent 2 [vI a, vI k], [], h) (gives h (if a.testBit k then 1 else 0)) := by
  refine wp.go [] 20 fun W C hW hC => ?_
  conv => whnf
  rw [ibit_eq hk ha]
  refine ⟨fun hc => ?_, fun hc => ?_⟩
  · refine ⟨Or.inl rfl, ?_, rfl⟩
    rw [if_neg]
    intro c
    rw [if_pos c] at hc
    exact hc rfl
  · refine ⟨Or.inr rfl, ?_, rfl⟩
    rw [if_pos]
    apply Classical.byContradiction
    intro c
    rw [if_neg c] at hc
    exact absurd hc (by decide)
theorem isCarbon_spec {d : Nat} {h0 : AH} {M : Nat} {A : Nat → List Int} {sc : Nat → Int} {c : Int} (hl : (A 1).length = 17) : wp (d + 1) 273 (0, ent 2 [vR (some M), vI c], [], tw h0 M A sc) (gives (tw h0 M A sc) (if 0 ≤ c ∧ c < gt (A 1) 0 then 1 else 0)) := by
  refine wp.go [] 20 fun W C hW hC => ?_
  refine ⟨fun hc => ?_, fun hc => ?_⟩
  · refine ⟨Or.inl rfl, ?_, rfl⟩
    rw [if_neg (by omega)]
  · refine ⟨_, _, _, _, twF, rfl, rfl, ?_⟩
    refine ⟨_, _, _, twI rfl rfl, rfl, by decide, gt_some (by rw [hl]; decide), ?_⟩
    refine ⟨fun hd => ⟨Or.inl rfl, ?_, rfl⟩, fun hd => ⟨Or.inr rfl, ?_, rfl⟩⟩
    · rw [if_neg]
      intro ⟨_, h2⟩
      exact absurd h2 (Int.not_lt.mpr hd)
    · rw [if_pos ⟨hc, hd⟩]
