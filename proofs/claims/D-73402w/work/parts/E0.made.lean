/-! SKELETONS ARE MADE: rows by carbons -/
def SkR (h : AH) (a n : Nat) (rs : Nat → List Nat) : Prop := a + 18 < h.sz ∧ h.F a = (2, [vR (some (a + 1)), vR (some (a + 18)), vI ((n : Nat) : Int)]) ∧ h.R (a + 1) = (2, (List.range 16).map fun i => some (a + 2 + i)) ∧ (∃ W, h.I (a + 18) = (1, W) ∧ W.length = 16 ∧ ∀ c, c < n → gt W c = (((rs c).length : Nat) : Int)) ∧ ∀ c, c < 16 → ∃ X, h.I (a + 2 + c) = (1, X) ∧ X.length = 4 ∧ (c < n → ∀ (k e : Nat), (rs c)[k]? = some e → gt X k = ((e : Nat) : Int))
theorem SkAt_iff {h : AH} {a : Nat} {G : Gr} : SkAt h a G ↔ SkR h a G.1 (nb G) := Iff.rfl
theorem SkR.congr {h : AH} {a n : Nat} {rs rs' : Nat → List Nat} (k : SkR h a n rs) (e : ∀ c, c < n → rs' c = rs c) : SkR h a n rs' := by
  obtain ⟨k1, k2, k3, ⟨W, k4, k5, k6⟩, k7⟩ := k
  refine ⟨k1, k2, k3, ⟨W, k4, k5, fun c hc => by rw [e c hc]; exact k6 c hc⟩, fun c hc => ?_⟩
  obtain ⟨X, x1, x2, x3⟩ := k7 c hc
  exact ⟨X, x1, x2, fun h => by rw [e c h]; exact x3 h⟩
/-- nothing else has changed than a skeleton -/
def skU (s : Nat) (h h' : AH) : Prop := h'.sz = h.sz ∧ h'.sl = h.sl ∧ h'.S = h.S ∧ ∀ a, (a < s ∨ s + 18 < a) → h'.I a = h.I a ∧ h'.R a = h.R a ∧ h'.F a = h.F a
theorem skU.refl {s : Nat} {h : AH} : skU s h h := ⟨rfl, rfl, rfl, fun _ _ => ⟨rfl, rfl, rfl⟩⟩
theorem skU.trans {s : Nat} {h h1 h2 : AH} (a : skU s h h1) (b : skU s h1 h2) : skU s h h2 := by
  obtain ⟨a1, a2, a3, a4⟩ := a
  obtain ⟨b1, b2, b3, b4⟩ := b
  refine ⟨b1.trans a1, b2.trans a2, b3.trans a3, fun v hv => ?_⟩
  have p := a4 v hv
  have q := b4 v hv
  exact ⟨q.1.trans p.1, q.2.1.trans p.2.1, q.2.2.trans p.2.2⟩
theorem skU.setI {s p : Nat} {h h' : AH} {x : List Int} (a : skU s h h') (h1 : s ≤ p) (h2 : p ≤ s + 18) : skU s h (h'.setI p x) := by
  obtain ⟨a1, a2, a3, a4⟩ := a
  refine ⟨a1, a2, a3, fun v hv => ⟨?_, (a4 v hv).2.1, (a4 v hv).2.2⟩⟩
  rw [setI_ne (by omega)]
  exact (a4 v hv).1
theorem skU.setF {s : Nat} {h h' : AH} {x : List AV} (a : skU s h h') : skU s h (h'.setF s x) := by
  obtain ⟨a1, a2, a3, a4⟩ := a
  refine ⟨a1, a2, a3, fun v hv => ⟨(a4 v hv).1, (a4 v hv).2.1, ?_⟩⟩
  rw [setF_ne (by omega)]
  exact (a4 v hv).2.2
theorem ext.skU {c q s : Nat} {h0 h h' : AH} (e : ext c q h0 h) (hs : h0.sz ≤ s) (u : skU s h h') : ext c q h0 h' := by
  obtain ⟨a1, a2, a3, a4, a5, a6⟩ := e
  obtain ⟨u1, u2, u3, u4⟩ := u
  refine ⟨by omega, by omega, by omega, by omega, fun a ha => ?_, u3.trans a6⟩
  have p := a5 a ha
  have q := u4 a (by omega)
  exact ⟨q.1.trans p.1, q.2.1.trans p.2.1, q.2.2.trans p.2.2⟩
theorem SkAt.skU {h h' : AH} {o s : Nat} {G : Gr} (k : SkAt h o G) (u : skU s h h') (hs : o + 18 < s ∨ s + 18 < o) : SkAt h' o G := by
  obtain ⟨k1, k2, k3, ⟨W, k4, k5⟩, k6⟩ := k
  obtain ⟨u1, u2, u3, u4⟩ := u
  refine ⟨by omega, (u4 o (by omega)).2.2.trans k2, (u4 _ (by omega)).2.1.trans k3, ⟨W, (u4 _ (by omega)).1.trans k4, k5⟩, fun c hc => ?_⟩
  obtain ⟨X, x1, x2⟩ := k6 c hc
  exact ⟨X, (u4 _ (by omega)).1.trans x1, x2⟩
/-! rows of zeros -/
theorem newIs_at (t k : Nat) : ∀ (n : Nat) (h : AH), (newIs t k n h).sz = h.sz + n ∧ (newIs t k n h).sl = h.sl + n * k ∧ (newIs t k n h).R = h.R ∧ (newIs t k n h).F = h.F ∧ (newIs t k n h).S = h.S ∧ (∀ a, a < h.sz → (newIs t k n h).I a = h.I a) ∧ ∀ a, h.sz ≤ a → a < h.sz + n → (newIs t k n h).I a = (t, List.replicate k 0)
  | 0, h => ⟨rfl, by rw [Nat.zero_mul]; rfl, rfl, rfl, rfl, fun _ _ => rfl, fun a h1 h2 => by omega⟩
  | n + 1, h => by
    obtain ⟨a1, a2, a3, a4, a5, a6, a7⟩ := newIs_at t k n (h.newI t (List.replicate k 0))
    have hs : (h.newI t (List.replicate k 0)).sz = h.sz + 1 := rfl
    have hl : (h.newI t (List.replicate k 0)).sl = h.sl + k := by show h.sl + (List.replicate k (0 : Int)).length = _; rw [List.length_replicate]
    refine ⟨?_, ?_, a3, a4, a5, fun a ha => ?_, fun a h1 h2 => ?_⟩
    · show (newIs t k n (h.newI t (List.replicate k 0))).sz = _
      rw [a1, hs]; omega
    · show (newIs t k n (h.newI t (List.replicate k 0))).sl = _
      rw [a2, hl, Nat.add_mul]; omega
    · show (newIs t k n (h.newI t (List.replicate k 0))).I a = _
      rw [a6 a (by omega), newI_ne (by omega)]
    · show (newIs t k n (h.newI t (List.replicate k 0))).I a = _
      by_cases q : a = h.sz
      · rw [a6 a (by omega), q]; exact newI_at
      · exact a7 a (by omega) (by omega)
section SKINIT
variable {d : Nat} {h : AH}
/-- Skeleton's constructor, on the object that was made last -/
theorem skInit_spec {s : Nat} (hs : h.sz = s + 1) (HF : h.F s = (2, [vR none, vR none, vI 0])) : wp (d + 1) 220 (0, ent 1 [vR (some s)], [], h) (fun r h' => r = .inl none ∧ h'.sz = h.sz + 18 ∧ h'.sl = h.sl + 96 ∧ h'.S = h.S ∧ (∀ a, a < s → h'.I a = h.I a ∧ h'.R a = h.R a ∧ h'.F a = h.F a) ∧ SkAt h' s gNil) := by
  obtain ⟨H1, hH1⟩ : ∃ H1, H1 = h.newR 2 ((List.range (16 : Int).toNat).map fun i => some (h.sz + 1 + i)) := ⟨_, rfl⟩
  obtain ⟨a1, a2, a3, a4, a5, a6, a7⟩ := newIs_at 1 4 16 H1
  have z1 : H1.sz = h.sz + 1 := by rw [hH1]; rfl
  have z2 : H1.sl = h.sl + 16 := by rw [hH1]; rfl
  have z3 : H1.R h.sz = (2, (List.range 16).map fun i => some (h.sz + 1 + i)) := by rw [hH1]; exact newR_at
  have z4 : H1.F = h.F := by rw [hH1]; rfl
  have z5 : H1.I = h.I := by rw [hH1]; rfl
  have z6 : H1.S = h.S := by rw [hH1]; rfl
  have z7 : ∀ a, a < h.sz → H1.R a = h.R a := fun a ha => by rw [hH1]; exact newR_ne (by omega)
  obtain ⟨H2, hH2⟩ : ∃ H2, H2 = newIs 1 4 16 H1 := ⟨_, rfl⟩
  rw [← hH2] at a1 a2 a3 a4 a5 a6 a7
  have F2 : H2.F s = (2, [vR none, vR none, vI 0]) := by rw [a4, z4]; exact HF
  obtain ⟨H3, hH3⟩ : ∃ H3, H3 = H2.setF s [vR (some h.sz), vR none, vI 0] := ⟨_, rfl⟩
  have F3 : H3.F s = (2, [vR (some h.sz), vR none, vI 0]) := by rw [hH3]; exact setF_at F2
  have sz3 : H3.sz = h.sz + 17 := by rw [hH3]; show H2.sz = _; omega
  obtain ⟨H4, hH4⟩ : ∃ H4, H4 = H3.newI 1 (List.replicate 16 0) := ⟨_, rfl⟩
  have F4 : H4.F s = (2, [vR (some h.sz), vR none, vI 0]) := by rw [hH4]; exact F3
  have sz4 : H4.sz = h.sz + 18 := by rw [hH4]; show H3.sz + 1 = _; omega
  refine wp.go [] 30 fun W C hW hC => ?_
  refine ⟨by decide, by decide, by decide, by decide, ?_⟩
  rw [show newIs 1 (4 : Int).toNat (16 : Int).toNat (h.newR 2 ((List.range (16 : Int).toNat).map fun i => some (h.sz + 1 + i))) = H2 by rw [hH2, hH1]; rfl]
  refine ⟨_, _, _, F2, rfl, (Nat.le_of_ble_eq_true rfl), ?_⟩
  rw [show ([vR none, vR none, vI 0] : List AV).set 0 (vR (some h.sz)) = [vR (some h.sz), vR none, vI 0] from rfl, ← hH3]
  refine ⟨by decide, by decide, ?_⟩
  rw [show ((16 : Int).toNat) = 16 from rfl, ← hH4]
  refine ⟨_, _, _, F4, rfl, (Nat.le_of_ble_eq_true rfl), ?_⟩
  refine ⟨rfl, sz4, ?_, ?_, fun a ha => ⟨?_, ?_, ?_⟩, ?_, ?_, ?_, ⟨List.replicate 16 0, ?_, rfl, fun c hc => absurd hc (Nat.not_lt_zero c)⟩, fun c hc => ⟨List.replicate 4 0, ?_, rfl, fun hc => absurd hc (Nat.not_lt_zero c)⟩⟩
  · show H4.sl = _
    rw [hH4]
    show H3.sl + (List.replicate 16 (0 : Int)).length = _
    rw [hH3, List.length_replicate]
    show H2.sl + 16 = _
    omega
  · show H4.S = _
    rw [hH4]
    show H3.S = _
    rw [hH3]
    show H2.S = _
    rw [a5, z6]
  · show H4.I a = _
    rw [hH4, newI_ne (by omega), hH3]
    show H2.I a = _
    rw [a6 a (by omega), z5]
  · show H4.R a = _
    rw [hH4]
    show H3.R a = _
    rw [hH3]
    show H2.R a = _
    rw [a3]
    exact z7 a (by omega)
  · rw [setF_ne (by omega), hH4]
    show H3.F a = _
    rw [hH3, setF_ne (by omega), a4, z4]
  · show s + 18 < H4.sz
    omega
  · rw [setF_at F4, sz3, hs]
    rfl
  · show H4.R (s + 1) = _
    rw [hH4]
    show H3.R (s + 1) = _
    rw [hH3]
    show H2.R (s + 1) = _
    rw [a3, ← hs, z3]
    congr 2
    funext i
    congr 1
    omega
  · show H4.I (s + 18) = _
    rw [hH4, show s + 18 = H3.sz by omega]
    exact newI_at
  · show H4.I (s + 2 + c) = _
    rw [hH4, newI_ne (by omega), hH3]
    show H2.I (s + 2 + c) = _
    exact a7 _ (by omega) (by omega)
theorem sk_new {s : Nat} {h' : AH} (k : h'.sz = (h.newF 2 [vR none, vR none, vI 0]).sz + 18 ∧ h'.sl = (h.newF 2 [vR none, vR none, vI 0]).sl + 96 ∧ h'.S = (h.newF 2 [vR none, vR none, vI 0]).S ∧ (∀ a, a < h.sz → h'.I a = (h.newF 2 [vR none, vR none, vI 0]).I a ∧ h'.R a = (h.newF 2 [vR none, vR none, vI 0]).R a ∧ h'.F a = (h.newF 2 [vR none, vR none, vI 0]).F a)) : ext 19 99 h h' ∧ h'.sz = h.sz + 19 := by
  obtain ⟨k1, k2, k3, k4⟩ := k
  have k1 : h'.sz = h.sz + 1 + 18 := k1
  have k2 : h'.sl = h.sl + 3 + 96 := k2
  refine ⟨⟨by omega, by omega, by omega, by omega, fun a ha => ?_, k3⟩, by omega⟩
  have := k4 a ha
  exact ⟨this.1, this.2.1, this.2.2.trans (newF_ne (by omega))⟩
end SKINIT
/-! rows that rise -/
theorem sort_uniq : ∀ {l m : List Nat}, l.Pairwise (· < ·) → m.Pairwise (· < ·) → (∀ x, x ∈ l ↔ x ∈ m) → l = m
  | [], [], _, _, _ => rfl
  | [], b :: m, _, _, h => absurd ((h b).mpr List.mem_cons_self) (by simp)
  | a :: l, [], _, _, h => absurd ((h a).mp List.mem_cons_self) (by simp)
  | a :: l, b :: m, h1, h2, h => by
    have p1 := List.pairwise_cons.mp h1
    have p2 := List.pairwise_cons.mp h2
    have hab : a = b := by
      rcases List.mem_cons.mp ((h a).mp List.mem_cons_self) with q | q
      · exact q
      · rcases List.mem_cons.mp ((h b).mpr List.mem_cons_self) with r | r
        · exact r.symm
        · have := p2.1 a q
          have := p1.1 b r
          omega
    subst hab
    congr 1
    refine sort_uniq p1.2 p2.2 fun x => ⟨fun hx => ?_, fun hx => ?_⟩
    · rcases List.mem_cons.mp ((h x).mp (List.mem_cons_of_mem _ hx)) with q | q
      · have := p1.1 x hx; omega
      · exact q
    · rcases List.mem_cons.mp ((h x).mpr (List.mem_cons_of_mem _ hx)) with q | q
      · have := p2.1 x hx; omega
      · exact q
theorem nb_sorted (G : Gr) (c : Nat) : (nb G c).Pairwise (· < ·) := List.Pairwise.filter _ List.pairwise_lt_range
theorem nb_in {G : Gr} {c e : Nat} : e ∈ nb G c ↔ e < G.1 ∧ G.2 c e = true := by
  unfold nb
  rw [List.mem_filter, List.mem_range]
def wf0 (G : Gr) : Prop := G.1 ≤ 16 ∧ ∀ a b, G.2 a b = true → a < G.1 ∧ b < G.1 ∧ G.2 b a = true ∧ a ≠ b
theorem Gr.wf.to0 {G : Gr} (h : G.wf) : wf0 G := ⟨h.2.1, h.2.2⟩
def gAdd (G : Gr) (a b : Nat) : Gr := (G.1, fun x y => G.2 x y || (Nat.beq x a && Nat.beq y b) || (Nat.beq x b && Nat.beq y a))
theorem gAdd_iff {G : Gr} {a b x y : Nat} : (gAdd G a b).2 x y = true ↔ G.2 x y = true ∨ (x = a ∧ y = b) ∨ (x = b ∧ y = a) := by
  show (G.2 x y || (Nat.beq x a && Nat.beq y b) || (Nat.beq x b && Nat.beq y a)) = true ↔ _
  simp only [Bool.or_eq_true, Bool.and_eq_true, beqN]
  constructor
  · rintro ((h | h) | h)
    · exact Or.inl h
    · exact Or.inr (Or.inl h)
    · exact Or.inr (Or.inr h)
  · rintro (h | h | h)
    · exact Or.inl (Or.inl h)
    · exact Or.inl (Or.inr h)
    · exact Or.inr h
theorem add_wf0 {G : Gr} (h : wf0 G) {a b : Nat} (ha : a < G.1) (hb : b < G.1) (hab : a ≠ b) : wf0 (gAdd G a b) := by
  refine ⟨h.1, fun x y hxy => ?_⟩
  show x < G.1 ∧ y < G.1 ∧ _ ∧ _
  rcases gAdd_iff.mp hxy with q | ⟨rfl, rfl⟩ | ⟨rfl, rfl⟩
  · obtain ⟨h1, h2, h3, h4⟩ := h.2 x y q
    exact ⟨h1, h2, gAdd_iff.mpr (Or.inl h3), h4⟩
  · exact ⟨ha, hb, gAdd_iff.mpr (Or.inr (Or.inr ⟨rfl, rfl⟩)), hab⟩
  · exact ⟨hb, ha, gAdd_iff.mpr (Or.inr (Or.inl ⟨rfl, rfl⟩)), Ne.symm hab⟩
/-- a neighbour comes into a row -/
theorem row_add {G G' : Gr} {a b : Nat} {l1 l2 : List Nat} (hn : G'.1 = G.1) (hb : b < G.1) (hl : nb G a = l1 ++ l2) (h2 : ∀ x, x ∈ l2 → b < x) (h1 : ∀ x, l1.getLast? = some x → x ≤ b) (hne : G.2 a b = false) (hG : ∀ x, G'.2 a x = true ↔ G.2 a x = true ∨ x = b) : nb G' a = l1 ++ b :: l2 := by
  have hs := nb_sorted G a
  rw [hl, List.pairwise_append] at hs
  obtain ⟨s1, s2, s3⟩ := hs
  have hb1 : ∀ x, x ∈ l1 → x < b := by
    intro x hx
    have hxn : x ∈ nb G a := by rw [hl]; exact List.mem_append.mpr (Or.inl hx)
    have hxb : x ≠ b := fun e => by
      have := (nb_in.mp hxn).2
      rw [e, hne] at this
      cases this
    obtain ⟨y, hy⟩ : ∃ y, l1.getLast? = some y := by
      cases e : l1.getLast? with
      | none => rw [List.getLast?_eq_none_iff] at e; rw [e] at hx; cases hx
      | some y => exact ⟨y, rfl⟩
    have hyb := h1 y hy
    obtain ⟨m, hm⟩ := List.getLast?_eq_some_iff.mp hy
    rw [hm] at hx s1
    rcases List.mem_append.mp hx with hx | hx
    · have := (List.pairwise_append.mp s1).2.2 x hx y (List.mem_singleton.mpr rfl)
      omega
    · have := List.mem_singleton.mp hx
      omega
  refine sort_uniq (nb_sorted G' a) ?_ fun x => ?_
  · rw [List.pairwise_append]
    refine ⟨s1, List.pairwise_cons.mpr ⟨h2, s2⟩, fun x hx y hy => ?_⟩
    rcases List.mem_cons.mp hy with rfl | hy
    · exact hb1 x hx
    · exact s3 x hx y hy
  · rw [nb_in, hn, hG]
    have key : (x < G.1 ∧ G.2 a x = true) ↔ x ∈ l1 ++ l2 := by rw [← hl]; exact nb_in.symm
    rw [List.mem_append, List.mem_cons]
    rw [List.mem_append] at key
    constructor
    · rintro ⟨q1, q2 | q2⟩
      · rcases key.mp ⟨q1, q2⟩ with q | q
        · exact Or.inl q
        · exact Or.inr (Or.inr q)
      · exact Or.inr (Or.inl q2)
    · rintro (q | q | q)
      · have := key.mpr (Or.inl q); exact ⟨this.1, Or.inl this.2⟩
      · exact ⟨by omega, Or.inr q⟩
      · have := key.mpr (Or.inr q); exact ⟨this.1, Or.inl this.2⟩
theorem nb_same {G G' : Gr} {c : Nat} (hn : G'.1 = G.1) (h : ∀ x, G'.2 c x = G.2 c x) : nb G' c = nb G c := by
  unfold nb
  rw [hn]
  congr 1
  funext x
  exact h x
