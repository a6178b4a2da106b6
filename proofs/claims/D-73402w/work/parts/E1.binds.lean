section PUTS
variable {d : Nat} {h : AH} {s n : Nat} {rs : Nat → List Nat}
theorem puts_spec (hS : SkR h s n rs) (hn : n ≤ 16) {a b : Nat} (ha : a < n) (hl : (rs a).length ≤ 3) (hb : b < 100) : wp (d + 1) 224 (0, ent 4 [vR (some s), vI ((a : Nat) : Int), vI ((b : Nat) : Int)], [], h) (fun r h' => r = .inl none ∧ skU s h h' ∧ ∃ l1 l2, rs a = l1 ++ l2 ∧ (∀ x, x ∈ l2 → b < x) ∧ (∀ x, l1.getLast? = some x → x ≤ b) ∧ SkR h' s n (up rs a (l1 ++ b :: l2))) := by
  obtain ⟨k1, k2, k3, ⟨W, k4, k5, k6⟩, k7⟩ := hS
  obtain ⟨X, x1, x2, x3⟩ := k7 a (by omega)
  have x3 := x3 ha
  have hI : ∀ Y, (h.setI (s + 2 + a) Y).I (s + 2 + a) = (1, Y) := fun Y => setI_at x1
  have hW18 : ∀ Y, (h.setI (s + 2 + a) Y).I (s + 18) = (1, W) := fun Y => by rw [setI_ne (by omega)]; exact k4
  have hrow : (2 : Nat) ≠ 0 := by decide
  have fin : ∀ (m : Nat) (Y : List Int), m ≤ (rs a).length → Y.length = 4 → (∀ i e, i < m → (rs a)[i]? = some e → gt Y i = ((e : Nat) : Int)) → (∀ i e, m ≤ i → (rs a)[i]? = some e → gt Y (i + 1) = ((e : Nat) : Int)) → (∀ x, x ∈ (rs a).drop m → b < x) → (∀ x, ((rs a).take m).getLast? = some x → x ≤ b) →
      wp (d + 1) 224 (49, [some (vR (some s)), some (vI ((a : Nat) : Int)), some (vI ((b : Nat) : Int)), some (vI ((m : Nat) : Int))], [], h.setI (s + 2 + a) Y) (fun r h' => r = .inl none ∧ skU s h h' ∧ ∃ l1 l2, rs a = l1 ++ l2 ∧ (∀ x, x ∈ l2 → b < x) ∧ (∀ x, l1.getLast? = some x → x ≤ b) ∧ SkR h' s n (up rs a (l1 ++ b :: l2))) := by
    intro m Y hm hY y1 y2 y3 y4
    refine wp.go [] 40 fun W C hW hC => ?_
    refine ⟨_, _, _, _, k2, rfl, rfl, ?_⟩
    refine ⟨_, _, _, k3, by decide, by omega, by rw [Int.toNat_natCast]; exact row_ref (by omega), ?_⟩
    refine ⟨_, hI _, by omega, by omega, ?_⟩
    rw [setI_setI, Int.toNat_natCast]
    refine ⟨_, _, _, _, k2, rfl, rfl, ?_⟩
    refine ⟨_, _, _, hW18 _, rfl, by omega, gt_at a (by omega) (by omega), ?_⟩
    rw [k6 a ha]
    refine ⟨_, hW18 _, by omega, by omega, ?_⟩
    rw [Int.toNat_natCast, iadd_eq (by omega)]
    refine ⟨rfl, (skU.setI skU.refl (by omega) (by omega)).setI (by omega) (by omega), (rs a).take m, (rs a).drop m, (List.take_append_drop _ _).symm, y3, y4, k1, k2, k3, ⟨_, setI_at (hW18 _), by rw [List.length_set]; exact k5, fun c hc => ?_⟩, fun c hc => ?_⟩
    · rw [gt_set (by omega)]
      by_cases q : c = a
      · rw [if_pos q, q, up_eq, List.length_append, List.length_cons, List.length_take, List.length_drop]
        omega
      · rw [if_neg q, upn_ne _ _ q]
        exact k6 c hc
    · by_cases q : c = a
      · subst q
        refine ⟨Y.set m ((b : Nat) : Int), by rw [setI_ne (by omega)]; exact hI _, by rw [List.length_set]; exact hY, fun _ k e hk => ?_⟩
        rw [up_eq] at hk
        rw [gt_set (by omega)]
        by_cases q1 : k < m
        · rw [List.getElem?_append_left (by rw [List.length_take]; omega), List.getElem?_take, if_pos q1] at hk
          rw [if_neg (by omega)]
          exact y1 k e q1 hk
        · rw [List.getElem?_append_right (by rw [List.length_take]; omega), List.length_take, Nat.min_eq_left hm] at hk
          by_cases q2 : k = m
          · subst q2
            rw [Nat.sub_self] at hk
            cases hk
            rw [if_pos rfl]
          · rw [show k - m = (k - m - 1) + 1 by omega, List.getElem?_cons_succ, List.getElem?_drop, show m + (k - m - 1) = k - 1 by omega] at hk
            rw [if_neg q2]
            have := y2 (k - 1) e (by omega) hk
            rw [show k - 1 + 1 = k by omega] at this
            exact this
      · obtain ⟨Z, z1, z2, z3⟩ := k7 c hc
        refine ⟨Z, by rw [setI_ne (by omega), setI_ne (by omega)]; exact z1, z2, fun hc2 => ?_⟩
        rw [upn_ne _ _ q]
        exact z3 hc2
  have loop : ∀ (m : Nat) (Y : List Int), m ≤ (rs a).length → Y.length = 4 → (∀ i e, i < m → (rs a)[i]? = some e → gt Y i = ((e : Nat) : Int)) → (∀ i e, m ≤ i → (rs a)[i]? = some e → gt Y (i + 1) = ((e : Nat) : Int)) → (∀ x, x ∈ (rs a).drop m → b < x) →
      wp (d + 1) 224 (7, [some (vR (some s)), some (vI ((a : Nat) : Int)), some (vI ((b : Nat) : Int)), some (vI ((m : Nat) : Int))], [], h.setI (s + 2 + a) Y) (fun r h' => r = .inl none ∧ skU s h h' ∧ ∃ l1 l2, rs a = l1 ++ l2 ∧ (∀ x, x ∈ l2 → b < x) ∧ (∀ x, l1.getLast? = some x → x ≤ b) ∧ SkR h' s n (up rs a (l1 ++ b :: l2))) := by
    intro m
    induction m with
    | zero =>
      intro Y hm hY y1 y2 y3
      refine wp.go [7, 49] 10 fun W C hW hC => ?_
      refine ⟨fun _ => ?_, fun q => absurd q (by decide)⟩
      exact hW _ (fin 0 Y hm hY y1 y2 y3 (fun x hx => by simp at hx))
    | succ m ih =>
      intro Y hm hY y1 y2 y3
      have hml : m < (rs a).length := by omega
      have hget := List.getElem?_eq_getElem hml
      generalize (rs a)[m] = e at hget
      have hg := y1 m e (by omega) hget
      refine wp.go [7, 49] 60 fun W C hW hC => ?_
      refine ⟨fun q => absurd q (by omega), fun _ => ?_⟩
      refine ⟨_, _, _, _, k2, rfl, rfl, ?_⟩
      refine ⟨_, _, _, k3, by decide, by omega, by rw [Int.toNat_natCast]; exact row_ref (by omega), ?_⟩
      conv => whnf
      rw [isub_eq (by omega)]
      refine ⟨_, _, _, hI _, rfl, by omega, gt_at m (by omega) (by omega), ?_⟩
      rw [hg]
      refine ⟨fun q => ?_, fun q => ?_⟩
      · refine hW _ (fin (m + 1) Y hm hY y1 y2 y3 (fun x hx => ?_))
        rw [List.take_succ, hget] at hx
        simp at hx
        omega
      · refine ⟨_, _, _, _, k2, rfl, rfl, ?_⟩
        refine ⟨_, _, _, k3, by decide, by omega, by rw [Int.toNat_natCast]; exact row_ref (by omega), ?_⟩
        refine ⟨_, _, _, _, k2, rfl, rfl, ?_⟩
        refine ⟨_, _, _, k3, by decide, by omega, by rw [Int.toNat_natCast]; exact row_ref (by omega), ?_⟩
        conv => whnf
        rw [isub_eq (by omega)]
        refine ⟨_, _, _, hI _, rfl, by omega, gt_at m (by omega) (by omega), ?_⟩
        rw [hg]
        refine ⟨_, hI _, by omega, by omega, ?_⟩
        rw [setI_setI, Int.toNat_natCast]
        (conv => whnf); simp (disch := omega) only [iadd_eq, isub_eq, imul_eq]
        rw [show ((m + 1 : Nat) : Int) + -1 = ((m : Nat) : Int) by omega]
        refine hW _ (ih _ (by omega) (by rw [List.length_set]; exact hY) (fun i e' hi he => ?_) (fun i e' hi he => ?_) (fun x hx => ?_))
        · rw [gt_set (by omega), if_neg (by omega)]
          exact y1 i e' (by omega) he
        · rw [gt_set (by omega)]
          by_cases q2 : i = m
          · subst q2
            rw [hget] at he
            cases he
            rw [if_pos rfl]
          · rw [if_neg (by omega)]
            exact y2 i e' (by omega) he
        · rw [List.drop_eq_getElem_cons hml] at hx
          rcases List.mem_cons.mp hx with hx | hx
          · have : (rs a)[m]? = some x := by rw [List.getElem?_eq_getElem hml, hx]
            rw [hget] at this
            cases this
            omega
          · exact y3 x hx
  have key := loop (rs a).length X (Nat.le_refl _) x2 (fun i e _ he => x3 i e he) (fun i e hi he => by have := (List.getElem?_eq_some_iff.mp he).1; omega) (fun x hx => by rw [List.drop_length] at hx; cases hx)
  rw [setI_self x1] at key
  refine wp.go [7] 20 fun W C hW hC => ?_
  refine ⟨_, _, _, _, k2, rfl, rfl, ?_⟩
  refine ⟨_, _, _, k4, rfl, by omega, gt_at a (by omega) (by omega), ?_⟩
  rw [k6 a ha]
  exact hW _ key
end PUTS
section ADDS
variable {d : Nat} {h : AH} {s : Nat} {G : Gr}
theorem cadds_spec (hS : SkAt h s G) (hw : wf0 G) (hn : G.1 < 16) : wp (d + 1) 221 (0, ent 1 [vR (some s)], [], h) (fun r h' => r = .inl (some (vR (some s))) ∧ skU s h h' ∧ SkAt h' s (G.1 + 1, G.2)) := by
  obtain ⟨k1, k2, k3, ⟨V0, k4, k5, k6⟩, k7⟩ := hS
  have hnb : ∀ c, c < G.1 → nb (G.1 + 1, G.2) c = nb G c := by
    intro c hc
    show (List.range (G.1 + 1)).filter (G.2 c) = _
    rw [List.range_succ, List.filter_append]
    have : G.2 c G.1 = false := by
      cases q : G.2 c G.1 with
      | false => rfl
      | true => have := (hw.2 _ _ q).2.1; omega
    simp [this]
    rfl
  have hnb2 : nb (G.1 + 1, G.2) G.1 = [] := by
    show (List.range (G.1 + 1)).filter (G.2 G.1) = []
    rw [List.filter_eq_nil_iff]
    intro x _ hx
    have := (hw.2 _ _ hx).1
    omega
  refine wp.go [] 30 fun W C hW hC => ?_
  refine ⟨_, _, _, _, k2, rfl, rfl, ?_⟩
  refine ⟨_, _, _, _, k2, rfl, rfl, ?_⟩
  refine ⟨_, k4, by omega, by omega, ?_⟩
  rw [Int.toNat_natCast]
  refine ⟨_, _, _, _, k2, rfl, rfl, ?_⟩
  refine ⟨_, _, _, k2, rfl, (Nat.le_of_ble_eq_true rfl), ?_⟩
  rw [iadd_eq (by omega)]
  refine ⟨rfl, (skU.setI skU.refl (by omega) (by omega)).setF, k1, ?_, k3, ⟨_, setI_at k4, by rw [List.length_set]; exact k5, fun c hc => ?_⟩, fun c hc => ?_⟩
  · exact (setF_at (h := h.setI (s + 18) (V0.set G.1 0)) (x := [vR (some (s + 1)), vR (some (s + 18)), vI ((G.1 : Nat) : Int)]) k2).trans rfl
  · have hc : c < G.1 + 1 := hc
    show gt (V0.set G.1 0) c = (((nb (G.1 + 1, G.2) c).length : Nat) : Int)
    rw [gt_set (by omega)]
    by_cases q : c = G.1
    · rw [if_pos q, q, hnb2]; rfl
    · rw [if_neg q, hnb c (by omega)]
      exact k6 c (by omega)
  · obtain ⟨X, x1, x2, x3⟩ := k7 c hc
    refine ⟨X, by show (h.setI (s + 18) _).I _ = _; rw [setI_ne (by omega)]; exact x1, x2, fun hc2 k e hk => ?_⟩
    have hc2 : c < G.1 + 1 := hc2
    have hk : (nb (G.1 + 1, G.2) c)[k]? = some e := hk
    by_cases q : c = G.1
    · rw [q, hnb2] at hk; cases hk
    · rw [hnb c (by omega)] at hk
      exact x3 (by omega) k e hk
theorem cbinds_spec (hS : SkAt h s G) (hw : wf0 G) {a b : Nat} (ha : a < G.1) (hb : b < G.1) (hab : a ≠ b) (hne : G.2 a b = false) (da : deg G a ≤ 3) (db : deg G b ≤ 3) : wp (d + 2) 223 (0, ent 3 [vR (some s), vI ((a : Nat) : Int), vI ((b : Nat) : Int)], [], h) (fun r h' => r = .inl none ∧ skU s h h' ∧ SkAt h' s (gAdd G a b)) := by
  have hn := hw.1
  have hne2 : G.2 b a = false := by
    cases q : G.2 b a with
    | false => rfl
    | true => have := (hw.2 _ _ q).2.2.1; rw [hne] at this; cases this
  have k2 := hS.2.1
  refine wp.go [] 20 fun W C hW hC => ?_
  refine ⟨_, _, _, k2, rfl, ?_⟩
  refine hC _ _ _ (use (wpd.up (by omega) (puts_spec (d := 0) hS hn (b := b) ha da (by omega))) ?_)
  rintro _ h1 ⟨rfl, u1, l1, l2, e1, e2, e3, S1⟩
  refine ⟨_, _, _, S1.2.1, rfl, ?_⟩
  refine hC _ _ _ (use (wpd.up (by omega) (puts_spec (d := 0) S1 hn (a := b) (b := a) hb (by rw [upn_ne _ _ (Ne.symm hab)]; exact db) (by omega))) ?_)
  rintro _ h2 ⟨rfl, u2, m1, m2, f1, f2, f3, S2⟩
  rw [upn_ne _ _ (Ne.symm hab)] at f1
  refine ⟨rfl, u1.trans u2, S2.congr fun c hc => ?_⟩
  by_cases q1 : c = b
  · subst q1
    rw [up_eq]
    refine row_add (G := G) rfl ha f1 f2 f3 hne2 fun x => ?_
    rw [gAdd_iff]
    constructor
    · rintro (w | ⟨w1, w2⟩ | ⟨w1, w2⟩)
      · exact Or.inl w
      · omega
      · exact Or.inr w2
    · rintro (w | w)
      · exact Or.inl w
      · exact Or.inr (Or.inr ⟨rfl, w⟩)
  · rw [upn_ne _ _ q1]
    by_cases q2 : c = a
    · subst q2
      rw [up_eq]
      refine row_add (G := G) rfl hb e1 e2 e3 hne fun x => ?_
      rw [gAdd_iff]
      constructor
      · rintro (w | ⟨w1, w2⟩ | ⟨w1, w2⟩)
        · exact Or.inl w
        · exact Or.inr w2
        · omega
      · rintro (w | w)
        · exact Or.inl w
        · exact Or.inr (Or.inl ⟨rfl, w⟩)
    · rw [upn_ne _ _ q2]
      refine nb_same rfl fun x => ?_
      rw [Bool.eq_iff_iff, gAdd_iff]
      constructor
      · rintro (w | ⟨w1, w2⟩ | ⟨w1, w2⟩)
        · exact w
        · omega
        · omega
      · exact Or.inl
end ADDS
