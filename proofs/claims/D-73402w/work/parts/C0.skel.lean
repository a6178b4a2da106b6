/-! SKELETONS in the heap: neighbours by carbons, rising; how many -/
def SkAt (h : AH) (a : Nat) (G : Gr) : Prop := a + 18 < h.sz ∧ h.F a = (2, [vR (some (a + 1)), vR (some (a + 18)), vI ((G.1 : Nat) : Int)]) ∧ h.R (a + 1) = (2, (List.range 16).map fun i => some (a + 2 + i)) ∧ (∃ W, h.I (a + 18) = (1, W) ∧ W.length = 16 ∧ ∀ c, c < G.1 → gt W c = ((deg G c : Nat) : Int)) ∧ ∀ c, c < 16 → ∃ X, h.I (a + 2 + c) = (1, X) ∧ X.length = 4 ∧ (c < G.1 → ∀ (k e : Nat), (nb G c)[k]? = some e → gt X k = ((e : Nat) : Int))
theorem SkAt.mono {h h' : AH} {c s a : Nat} {G : Gr} (e : ext c s h h') (k : SkAt h a G) : SkAt h' a G := by
  obtain ⟨k1, k2, k3, ⟨W, k4, k5⟩, k6⟩ := k
  have e5 := e.2.2.2.2.1
  have e1 := e.1
  refine ⟨by omega, (e5 a (by omega)).2.2.trans k2, (e5 _ (by omega)).2.1.trans k3, ⟨W, (e5 _ (by omega)).1.trans k4, k5⟩, fun c hc => ?_⟩
  obtain ⟨X, x1, x2⟩ := k6 c hc
  exact ⟨X, (e5 _ (by omega)).1.trans x1, x2⟩
theorem row_ref {a c : Nat} (hc : c < 16) : ((List.range 16).map fun i => some (a + 2 + i))[c]? = some (some (a + 2 + c)) := by
  rw [List.getElem?_map, List.getElem?_range hc]; rfl
section SKEL
variable {d : Nat} {h : AH} {a : Nat} {G : Gr}
theorem isFull_spec (hS : SkAt h a G) (hn : G.1 ≤ 16) {c : Nat} (hc : c < G.1) : wp (d + 1) 222 (0, ent 2 [vR (some a), vI ((c : Nat) : Int)], [], h) (gives h (if deg G c = 4 then 1 else 0)) := by
  obtain ⟨k1, k2, k3, ⟨W, k4, k5, k6⟩, k7⟩ := hS
  refine wp.go [] 20 fun W C hW hC => ?_
  refine ⟨_, _, _, _, k2, rfl, rfl, ?_⟩
  refine ⟨_, _, _, k4, rfl, by omega, gt_at c (by omega) (by omega), ?_⟩
  rw [k6 c hc]
  refine ⟨fun q => ?_, fun q => ?_⟩
  · rw [if_neg (fun k => q (by rw [k]; rfl))]
    exact ⟨Or.inl rfl, rfl, rfl⟩
  · rw [if_pos (by have q : ((deg G c : Nat) : Int) = 4 := q; omega)]
    exact ⟨Or.inr rfl, rfl, rfl⟩
theorem isBound_spec (hS : SkAt h a G) (hG : G.wf) (hd : ∀ a, deg G a ≤ 4) {c e : Nat} (hc : c < G.1) : wp (d + 1) 229 (0, ent 4 [vR (some a), vI ((c : Nat) : Int), vI ((e : Nat) : Int)], [], h) (gives h (z01 (G.2 c e))) := by
  obtain ⟨k1, k2, k3, ⟨W, k4, k5, k6⟩, k7⟩ := hS
  have hn := hG.2.1
  obtain ⟨X, x1, x2, x3⟩ := k7 c (by omega)
  have x3 := x3 hc
  have hdc := hd c
  have loop : ∀ (j k : Nat), j + k = deg G c → (∀ i, i < k → (nb G c)[i]? ≠ some e) → wp (d + 1) 229 (2, [some (vR (some a)), some (vI ((c : Nat) : Int)), some (vI ((e : Nat) : Int)), some (vI ((k : Nat) : Int))], [], h) (gives h (z01 (G.2 c e))) := by
    intro j
    induction j with
    | zero =>
      intro k hj hne
      refine wp.go [2] 30 fun W C hW hC => ?_
      refine ⟨_, _, _, _, k2, rfl, rfl, ?_⟩
      refine ⟨_, _, _, k4, rfl, by omega, gt_at c (by omega) (by omega), ?_⟩
      rw [k6 c hc]
      refine ⟨fun _ => ?_, fun q => absurd q (by omega)⟩
      have : G.2 c e = false := by
        cases q : G.2 c e with
        | false => rfl
        | true =>
          obtain ⟨i, hi⟩ := List.getElem?_of_mem ((nb_mem hG).mpr q)
          have hil := (List.getElem?_eq_some_iff.mp hi).1
          have hil : i < deg G c := hil
          exact absurd hi (hne i (by omega))
      rw [this]
      exact ⟨Or.inl rfl, rfl, rfl⟩
    | succ j ih =>
      intro k hj hne
      have hkl : k < (nb G c).length := by show k < deg G c; omega
      have hx := x3 k _ (List.getElem?_eq_getElem hkl)
      refine wp.go [2] 40 fun W C hW hC => ?_
      refine ⟨_, _, _, _, k2, rfl, rfl, ?_⟩
      refine ⟨_, _, _, k4, rfl, by omega, gt_at c (by omega) (by omega), ?_⟩
      rw [k6 c hc]
      refine ⟨fun q => absurd q (by omega), fun _ => ?_⟩
      refine ⟨_, _, _, _, k2, rfl, rfl, ?_⟩
      refine ⟨_, _, _, k3, by decide, by omega, by rw [Int.toNat_natCast]; exact row_ref (by omega), ?_⟩
      refine ⟨_, _, _, x1, rfl, by omega, gt_at k (by omega) (by omega), ?_⟩
      rw [hx]
      refine ⟨fun q => ?_, fun q => ?_⟩
      · (conv => whnf); simp (disch := omega) only [iadd_eq, isub_eq, imul_eq]
        refine hW _ (ih (k + 1) (by omega) fun i hi => ?_)
        by_cases e1 : i = k
        · subst e1
          rw [List.getElem?_eq_getElem hkl]
          intro w
          cases w
          exact q rfl
        · exact hne i (by omega)
      · have he : (nb G c)[k] = e := by omega
        have : G.2 c e = true := (nb_mem hG).mp (by rw [← he]; exact List.getElem_mem hkl)
        rw [this]
        exact ⟨Or.inr rfl, rfl, rfl⟩
  refine wp.go [2] 10 fun W C hW hC => ?_
  exact hW _ (loop (deg G c) 0 rfl fun i hi => absurd hi (Nat.not_lt_zero i))
end SKEL
