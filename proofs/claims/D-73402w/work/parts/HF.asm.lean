/-! codesOf: what stays, put together -/
theorem MapAt.kd {h h' : AH} {tm : Nat} {A : List Nat} {K : Nat → Option Nat × Option Nat} {kc : Nat → List Nat} {n : Nat} {v1 : Option Nat} {mc : Int} (k : MapAt h tm A K kc n v1 mc) (w : WF h) (hz : h.sz ≤ h'.sz) (hI : ∀ a, a < h.sz → h'.I a = h.I a) (hF : ∀ a, a < h.sz → (h.F a).1 = 15 ∨ (h.F a).1 = 12 ∨ (h.F a).1 = 14 → h'.F a = h.F a) : MapAt h' tm A K kc n v1 mc := by
  obtain ⟨M, C, t, ⟨k1, k2, k3⟩, k4, k5, k6, k7, k8, k9⟩ := k
  refine ⟨M, C, t, ⟨fun a ha => (hF a (w.F (by rw [k1 a ha]; simp)) (Or.inl (by rw [k1 a ha]))).trans (k1 a ha), (hF tm (w.F (by rw [k2]; simp)) (Or.inr (Or.inl (by rw [k2])))).trans k2, k3⟩, k4, k5, k6, k7, fun a ha => ?_, k9⟩
  obtain ⟨g1, g2, s, g3, g4, v, x1, x2, b1, b2⟩ := k8 a ha
  exact ⟨g1, g2, s, g3, by omega, v, x1, x2, (hF s g4 (Or.inr (Or.inr (by rw [b1])))).trans b1, (hI v (w.I (by rw [b2]; simp))).trans b2⟩
section ASM
variable {d x z : Nat} {fl : List AV} {h0 : AH} {eB0 tm : Nat} {P P3 : Nat → Prop} {g g' : AH} {eB eB3 : Nat} {mB mB3 : Int} {lB lB3 : List Nat} {kB kB3 : Nat} {A : List Nat} {K : Nat → Option Nat × Option Nat} {kc : Nat → List Nat} {n : Nat} {mc : Int} {done : List (List Nat)} {c σ c' σ' : Nat}
/-- lists of branches are made the while -/
theorem cS.bof (k : cS x z fl h0 eB0 tm P g eB mB lB kB A K kc n mc done c σ) (w : WF g) (b3 : bL x z fl P3 g' eB3 mB3 lB3 kB3) (dd : bD x P g eB c' σ' P3 g' eB3) : cS x z fl h0 eB0 tm P3 g' eB3 mB3 lB3 kB3 A K kc n mc done (c + c') (σ + σ') := by
  obtain ⟨k1, ⟨k2, k2b, k2c, k2d⟩, ⟨k3, k3b, k3c, k3d⟩, k4, k5, k6⟩ := k
  obtain ⟨d1, d2, d3, d4⟩ := dd
  have f6 := d1.2.2.2.2.2
  have fz := d1.1
  have hz := k2.1
  have h10 : (g.F (x + 1)).1 = 10 := by rw [k1.2.1.1.1]
  refine ⟨b3, ⟨k2.trans d1 k2b (Or.inl k2c), by omega, k2c, k2d⟩, ⟨k3.kd w fz (fun a ha => (f6 a ha).1) (fun a ha ht => (f6 a ha).2.2 (fun q => by rw [q, h10] at ht; rcases ht with t | t | t <;> cases t)), k3b, by omega, fun a ha => ⟨(k3d a ha).1, by have := (k3d a ha).2; omega⟩⟩, k4, fun a ha => ?_, fun v hv => ?_⟩
  · obtain ⟨f, g1, g2, g3, g4⟩ := k5 a ha
    exact ⟨f, g1, g2, by omega, (f6 f g3).1.trans g4⟩
  · rcases d4 v hv with q | q
    · exact k6 v q
    · exact ⟨fun w => by have := (k3d v w).2; omega, by omega⟩
/-- all of the component's state and cache behind codesOf -/
theorem codes_asm {hs h h' : AH} {ld : Int} {nw : Nat} {wh nm : Option Nat} {tp ep : Nat} {S ST : AS} {fd : Nat → Nat → Bool} {cs : List (Option Nat)} {rr : Nat} {P0 : Nat → Prop} (b : Base h x ld nw wh nm tp ep S) (k : Cache hs h x ld ep fd) (T : Twn h x ST) (hz : h.sz ≤ h'.sz) (hS : h'.S = h.S) (hfr : ∀ v, v < h.sz → h'.I v = h.I v ∧ (v ≠ x + 1 → v ≠ x + 2 → (v = eB0 → (h.R eB0).1 = 206) → h'.R v = h.R v) ∧ (v ≠ x + 1 → h'.F v = h.F v))
    (hP0 : ∀ v, P0 v → gdA x h v ∧ v ≠ ep) (he0 : (x + 87 < eB0 ∧ eB0 ≠ ep) ∨ (h.R eB0).1 = 206) (h6 : (h.R eB0).1 = 6 ∨ (h.R eB0).1 = 206) (heBz : eB0 < h.sz) (hb : bL x z (flC x ld nw wh nm tp) P h' eB mB lB kB) (hPn : ∀ v, P v → P0 v ∨ h.sz ≤ v) (heB : eB = eB0 ∨ h.sz ≤ eB) (hcs : h.R (x + 2) = (3, cs)) (hcs' : h'.R (x + 2) = (3, cs.set n (some rr))) (h1 : 1 ≤ n) (h2 : n ≤ 11) (hrr : codAtC h' x rr n) : Base h' x ld nw wh nm tp ep S ∧ Cache hs h' x ld ep fd ∧ Twn h' x ST := by
  have hx := b.1
  have hep := b.2.2.2.1.1.1
  have h25 := b.h25
  have hb6 := b.six
  obtain ⟨c1, c2, c3, ⟨N, c4⟩, c5, c6⟩ := k
  have hepx := b.2.2.2.1.1.2
  have Rsame : ∀ v, v < h.sz → v ≠ x + 1 → v ≠ x + 2 → (h.R v).1 ≠ 6 → h'.R v = h.R v := fun v hv w1 w2 w3 => (hfr v hv).2.1 w1 w2 (fun q => by
    rcases h6 with t | t
    · rw [q] at w3; exact absurd t w3
    · exact t)
  have f : frW x ep h h' := by
    refine ⟨hz, hS, fun v hv hg => ⟨(hfr v hv).1, fun w6 => (hfr v hv).2.1 (by omega) (by omega) (fun q => ?_), fun _ => (hfr v hv).2.2 (by omega)⟩⟩
    rcases h6 with t | t
    · rcases he0 with e | e
      · exact absurd (q.symm.trans (w6 (by rw [q]; exact t))) e.2
      · exact e
    · exact t
  refine ⟨b.fw f (((hfr x (by omega)).2.2 (by omega)).trans b.2.1), ⟨c1.to hS (fun v hv => ⟨(hfr v (by omega)).1, (hfr v (by omega)).2.1 (by omega) (by omega) (fun q => ?_), (hfr v (by omega)).2.2 (by omega)⟩), ?_, c3.to (hfr _ (by omega)).1 (hfr _ (by omega)).1 (hfr _ (by omega)).1, ⟨lB.length, P, eB, mB, lB, kB, fun v hv => ⟨hb.2.2.1 v hv, ?_⟩, ?_, rfl, hb.2.1⟩, ?_, c6.to hz (fun v v1 v2 => (hfr v (by omega)).2.1 (by omega) (by omega) (fun q => ?_)) (fun v v1 v2 => (hfr v v2).1)⟩, T.to ((hfr _ (by omega)).2.2 (by omega)) (fun v v1 v2 => (hfr v (by omega)).1)⟩
  · rcases he0 with e | e
    · omega
    · exact e
  · rcases c2 with q | q
    · exact Or.inl q
    · right
      rw [(hfr ep hep).2.1 (by omega) (by omega) (fun w => by rw [← w]; exact q)]
      exact q
  · rcases hPn v hv with q | q
    · exact (hP0 v q).2
    · omega
  · rcases heB with q | q
    · rcases he0 with e | e
      · exact Or.inl (by rw [q]; exact e)
      · right
        have n2 : eB0 ≠ x + 2 := fun w => by rw [w, hcs] at e; cases e
        have n1 : eB0 ≠ x + 1 := fun w => hb.2.2.2.2.1 (q.trans w)
        rw [q, (hfr eB0 heBz).2.1 n1 n2 (fun _ => e)]
        exact e
    · exact Or.inl ⟨by omega, by omega⟩
  · obtain ⟨cs0, d1, d2, d3⟩ := c5
    have e0 : cs0 = cs := by
      have := d1.symm.trans hcs
      cases this
      rfl
    subst e0
    refine ⟨_, hcs', by rw [List.length_set]; exact d2, fun m hm => ?_⟩
    by_cases q : m = n
    · subst q
      exact Or.inr ⟨h1, rr, List.getElem?_set_self (by omega), hrr⟩
    · rw [List.getElem?_set_ne (Ne.symm q)]
      rcases d3 m hm with w | ⟨w1, r', w2, w3⟩
      · exact Or.inl w
      · exact Or.inr ⟨w1, r', w2, w3.to hz (fun v v1 v2 v3 => Rsame v v2 (by omega) (by omega) (by rw [v3]; decide)) (fun v v1 v2 => (hfr v v2).1)⟩
  · rcases he0 with e | e
    · omega
    · exact e
end ASM
