/-! ACTS OF THE COMPONENT -/
theorem frB.ofChg {x ep c s : Nat} {h h' : AH} (k : chg (fun v => v = x + 26 ∨ v = ep) c s h h') (he : h'.I ep = h.I ep ∧ h'.F ep = h.F ep) (ha : h'.I (x + 26) = h.I (x + 26) ∧ h'.R (x + 26) = h.R (x + 26)) (h2 : (h.R ep).1 = 206 → h'.R ep = h.R ep) : frB x ep h h' := by
  obtain ⟨a1, a2, a3, a4, a5, a6⟩ := k
  refine ⟨a1, a5, fun v hv => ?_⟩
  by_cases q1 : v = x + 26
  · subst q1
    exact ⟨fun _ => ha.1, fun _ _ => ha.2, fun _ w => absurd rfl w⟩
  · by_cases q2 : v = ep
    · subst q2
      exact ⟨fun _ => he.1, fun _ w => h2 (w rfl), fun _ _ => he.2⟩
    · have := a6 v hv (fun w => by rcases w with w | w; exact q1 w; exact q2 w)
      exact ⟨fun _ => this.1, fun _ _ => this.2.1, fun _ _ => this.2.2⟩
section ACTS
variable {d : Nat} {h : AH} {x : Nat} {ld : Int} {nw : Nat} {wh nm : Option Nat} {tp ep : Nat} {S : AS}
theorem is_spec {H : AH} {s : Nat} (hF : H.F x = (1, flC x ld nw wh nm tp)) : wp (d + 1) 181 (0, ent 2 [vR (some x), vR (some s)], [], H) (fun r h' => r = .inl none ∧ h' = H.setF x (flC x ld s none none tp)) := by
  refine wp.go [] 20 fun W C hW hC => ?_
  refine ⟨_, _, _, hF, rfl, (Nat.le_of_ble_eq_true rfl), ?_⟩
  refine ⟨_, _, _, setF_at hF, rfl, (Nat.le_of_ble_eq_true rfl), ?_⟩
  rw [setF_setF]
  refine ⟨_, _, _, setF_at hF, rfl, (Nat.le_of_ble_eq_true rfl), ?_⟩
  rw [setF_setF]
  exact ⟨rfl, rfl⟩
/-- a skeleton becomes the one of now -/
abbrev becEnd (h : AH) (x : Nat) (ld : Int) (tp ep : Nat) (S : AS) (s : Nat) (G : Gr) : Rs → AH → Prop := fun r h' => r = .inl (some (vI ((G.1 : Nat) : Int))) ∧ ∃ ep', Base h' x ld s none none tp ep' (actS S G) ∧ frB x ep h h' ∧ (ep' = ep ∨ h.sz ≤ ep') ∧ h'.sz ≤ h.sz + 1 ∧ h.sl ≤ h'.sl ∧ h'.sl ≤ h.sl + 34
theorem becomes_spec (b : Base h x ld nw wh nm tp ep S) (h12 : S.2.1.length ≤ 12) {s : Nat} {G : Gr} (hs : x + 87 < s) (hG : SkAt h s G) : wp (d + 8) 186 (0, ent 2 [vR (some x), vR (some s)], [], h) (becEnd h x ld tp ep S s G) := by
  have h6 := b.six
  have hb := b
  obtain ⟨b1, b2, ⟨b3, b4⟩, ⟨⟨p1, p2⟩, m, pl, k, p3, p4, p5⟩, ⟨sl, s1, s2, s3⟩, ⟨T, t1, t2⟩, b7, b8⟩ := b
  have tail : ∀ (h1 : AH) (m1 : Int) (k1 : Nat) (q : List Nat) (gs : List Gr), AL h1 (x + 26) ep m1 q k1 → q.length = gs.length → q.length ≤ 12 → (∀ (i s' : Nat) (G' : Gr), q[i]? = some s' → gs[i]? = some G' → skOk x s' ∧ SkAt h s' G') → chg (fun v => v = x + 26 ∨ v = ep) 0 0 h h1 → h1.sz = h.sz → (h1.I ep = h.I ep ∧ h1.F ep = h.F ep) → (h1.I (x + 26) = h.I (x + 26) ∧ h1.R (x + 26) = h.R (x + 26)) → gs ++ [S.1] = pushG S.2.1 S.1 → ((h.R ep).1 = 206 → h1.R ep = h.R ep) →
      wp (d + 8) 186 (21, [some (vR (some x)), some (vR (some s))], [], h1) (becEnd h x ld tp ep S s G) := by
    intro h1 m1 k1 q gs a1 a2 a3 a4 a5 a6 a7 a8 a9 a10
    have f1 := frB.ofChg a5 a7 a8 a10
    have F1 : h1.F x = (1, flC x ld nw wh nm tp) := (a5.2.2.2.2.2 x (by omega) (by omega)).2.2.trans b2
    have ok : ∀ s' G', skOk x s' → SkAt h s' G' → okE h1 s' := by
      intro s' G' g1 g2
      have := (g2.fr f1 g1 h6).2.1
      unfold okE
      rw [this]
      exact Or.inl rfl
    have okq : ∀ y, y ∈ q → okE h1 y := by
      intro y hy
      obtain ⟨i, hi⟩ := List.getElem?_of_mem hy
      have hil := (List.getElem?_eq_some_iff.mp hi).1
      have hg := List.getElem?_eq_getElem (show i < gs.length by omega)
      have := a4 i y _ hi hg
      exact ok y _ this.1 this.2
    refine wp.go [] 30 fun W C hW hC => ?_
    refine ⟨_, _, _, _, F1, rfl, rfl, ?_⟩
    refine ⟨_, _, _, _, F1, rfl, rfl, ?_⟩
    refine ⟨_, _, _, a1.1, rfl, ?_⟩
    refine hC _ _ _ (use (wpd.up (by omega) (al_add (d := 0) a1 (by omega) (by omega) (by omega) (by omega) okq (ok nw S.1 b3 b4))) ?_)
    rintro _ h2 ⟨rfl, e', m', k', c1, c2, c3, c4, c5, c6, c7⟩
    have c4' : chg (fun v => v = x + 26 ∨ v = ep) 1 34 h h2 := (a5.trans c4 (fun v _ w => w)).more (fun v w => w) (by omega) (by omega)
    have f2 := frB.ofChg c4' ⟨c5.1.trans a7.1, c5.2.trans a7.2⟩ ⟨c6.1.trans a8.1, c6.2.trans a8.2⟩ (fun w => (c7 (by rw [a10 w]; exact w)).trans (a10 w))
    have F2 : h2.F x = (1, flC x ld nw wh nm tp) := (c4'.2.2.2.2.2 x (by omega) (by omega)).2.2.trans b2
    refine ⟨_, _, _, F2, rfl, ?_⟩
    refine hC _ _ _ (useE (wpd.up (by omega) (is_spec (d := 0) (s := s) F2)) ?_)
    have f3 : frB x ep h (h2.setF x (flC x ld s none none tp)) := f2.setF
    have S3 := hG.fr f3 (Or.inr hs) h6
    refine ⟨_, _, _, _, S3.2.1, rfl, rfl, ?_⟩
    have z2 := c4'.1
    refine ⟨rfl, e', ⟨by show x + 87 < h2.sz; omega, setF_at F2, ⟨Or.inr hs, S3⟩, ⟨⟨c2, by omega⟩, m', q ++ [nw], k', ⟨?_, ?_⟩, ?_, ?_⟩, ⟨sl, ?_, s2, ?_⟩, ⟨T, ?_, t2⟩, fun w e => (by cases e), fun w e => (by cases e)⟩, f3, by omega, c4'.2.1, c4'.2.2.1, c4'.2.2.2.1⟩
    · rw [setF_ne (by omega)]; exact c1.1
    · exact c1.2
    · show (q ++ [nw]).length = (pushG S.2.1 S.1).length
      rw [← a9, List.length_append, List.length_append, a2]
      rfl
    · intro i s' G' h1' h2'
      have h2' : (pushG S.2.1 S.1)[i]? = some G' := h2'
      rw [← a9] at h2'
      by_cases w : i < q.length
      · rw [List.getElem?_append_left w] at h1'
        rw [List.getElem?_append_left (by omega)] at h2'
        have := a4 i s' G' h1' h2'
        exact ⟨this.1, this.2.fr f3 this.1 h6⟩
      · rw [List.getElem?_append_right (by omega)] at h1' h2'
        have e1 := List.mem_singleton.mp (List.mem_of_getElem? h1')
        have e2 := List.mem_singleton.mp (List.mem_of_getElem? h2')
        rw [e1, e2]
        exact ⟨b3, b4.fr f3 b3 h6⟩
    · exact ((c4'.2.2.2.2.2 (x + 25) (by omega) (by omega)).2.1).trans s1
    · intro k hk
      have := s3 k hk
      show match S.2.2.1 k with | none => sl[k]? = some none | some G => ∃ s, sl[k]? = some (some s) ∧ skOk x s ∧ SkAt _ s G
      revert this
      cases S.2.2.1 k with
      | none => exact id
      | some G =>
        rintro ⟨s', g1, g2, g3⟩
        exact ⟨s', g1, g2, g3.fr f3 g2 h6⟩
    · exact ((c4'.2.2.2.2.2 (x + 27) (by omega) (by omega)).1).trans t1
  have oks : ∀ s' G', SkAt h s' G' → okE h s' := by
    intro s' G' g
    unfold okE
    rw [g.2.1]
    exact Or.inl rfl
  by_cases q : S.2.1.length = 12
  · obtain ⟨y, r, hpl⟩ : ∃ y r, pl = y :: r := by
      cases pl with
      | nil => rw [q] at p4; cases p4
      | cons y r => exact ⟨y, r, rfl⟩
    obtain ⟨g0, gr, hgs⟩ : ∃ y r, S.2.1 = y :: r := by
      cases e : S.2.1 with
      | nil => rw [e] at q; cases q
      | cons y r => exact ⟨y, r, rfl⟩
    subst hpl
    have hl : (y :: r).length = 12 := by omega
    rw [hgs] at p5 p4
    refine wp.go [21] 30 fun W C hW hC => ?_
    refine ⟨_, _, _, _, b2, rfl, rfl, ?_⟩
    refine ⟨_, _, _, p3.1, rfl, ?_⟩
    refine hC _ _ _ (useE (wpd.up (by omega) (size_spec' (d := 0) p3)) ?_)
    rw [hl]
    refine ⟨fun w => absurd rfl w, fun _ => ?_⟩
    refine ⟨_, _, _, _, b2, rfl, rfl, ?_⟩
    refine ⟨_, _, _, p3.1, rfl, ?_⟩
    have call := al_remove (d := 0) (l1 := []) (x := y) (l2 := r) p3 (by omega) (by show (y :: r).length ≤ 5000; omega) (fun z hz => by
      obtain ⟨i, hi⟩ := List.getElem?_of_mem hz
      have hil := (List.getElem?_eq_some_iff.mp hi).1
      have hg := List.getElem?_eq_getElem (show i + 1 < (g0 :: gr).length by rw [← p4]; simp only [List.length_cons]; omega)
      have := p5 (i + 1) z _ (by rw [List.getElem?_cons_succ]; exact hi) hg
      exact oks z _ this.2)
    refine hC _ _ _ (use (wpd.up (by omega) (call)) ?_)
    rintro _ h1 ⟨rfl, m', k', c1, c2, c3, c4, c5⟩
    refine hW _ (tail h1 m' k' r gr c1 (by simp only [List.length_cons] at p4; omega) (by simp only [List.length_cons] at hl; omega) (fun i s' G' w1 w2 => p5 (i + 1) s' G' (by rw [List.getElem?_cons_succ]; exact w1) (by rw [List.getElem?_cons_succ]; exact w2)) c2 c3 c4 c5 ?_ (fun w => by rcases p3.2 with q | ⟨q, -⟩; rw [q] at w; cases w; cases q))
    unfold pushG
    rw [if_pos q, hgs]
    rfl
  · refine wp.go [21] 30 fun W C hW hC => ?_
    refine ⟨_, _, _, _, b2, rfl, rfl, ?_⟩
    refine ⟨_, _, _, p3.1, rfl, ?_⟩
    refine hC _ _ _ (useE (wpd.up (by omega) (size_spec' (d := 0) p3)) ?_)
    refine ⟨fun _ => ?_, fun w => absurd w (by omega)⟩
    refine hW _ (tail h m k pl S.2.1 p3 p4 (by omega) p5 chg.refl rfl ⟨rfl, rfl⟩ ⟨rfl, rfl⟩ ?_ (fun _ => rfl))
    unfold pushG
    rw [if_neg q]
end ACTS
