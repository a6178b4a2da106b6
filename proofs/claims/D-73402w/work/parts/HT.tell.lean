/-! tell: a reader is made, reads, and what it has read becomes the skeleton of now -/
section TELLC
variable {d x : Nat} {h : AH} {ld : Int} {nw : Nat} {wh nm : Option Nat} {tp ep : Nat} {S : AS} {tag : Nat}
theorem Base.zero (b : Base h x ld nw wh nm tp ep S) : Base (h.setF x (flC x ld nw wh nm 0)) x ld nw wh nm 0 ep (S.1, S.2.1, S.2.2.1, []) ∧ frB x ep h (h.setF x (flC x ld nw wh nm 0)) := by
  have h6 := b.six
  obtain ⟨b1, b2, ⟨b3, b4⟩, ⟨⟨p1, p2⟩, m, pl, pk, p3, p4, p5⟩, ⟨sl, s1, s2, s3⟩, ⟨T, t1, t2, t3, t4⟩, b7, b8⟩ := b
  have f : frB x ep h (h.setF x (flC x ld nw wh nm 0)) := (frB.of ext.refl).setF
  refine ⟨⟨b1, setF_at b2, ⟨b3, b4.fr f b3 h6⟩, ⟨⟨p1, p2⟩, m, pl, pk, ⟨(setF_ne (by omega)).trans p3.1, p3.2⟩, p4, fun i s G w1 w2 => ⟨(p5 i s G w1 w2).1, (p5 i s G w1 w2).2.fr f (p5 i s G w1 w2).1 h6⟩⟩, ⟨sl, s1, s2, fun j hj => ?_⟩, ⟨T, t1, t2, rfl, fun i hi => absurd hi (Nat.not_lt_zero i)⟩, fun w e => (b7 w e).fr f h6, fun s e => (b8 s e).fr f⟩, f⟩
  have := s3 j hj
  show match S.2.2.1 j with | none => sl[j]? = some none | some G => ∃ s, sl[j]? = some (some s) ∧ skOk x s ∧ SkAt _ s G
  revert this
  cases S.2.2.1 j with
  | none => exact id
  | some G =>
    rintro ⟨s, g1, g2, g3⟩
    exact ⟨s, g1, g2, g3.fr f g2 h6⟩
theorem Base.rdE (b : Base h x ld nw wh nm tp ep S) (ho : S.ok) : RdE h x S.2.2.2 := by
  obtain ⟨b1, b2, -, -, -, ⟨T, t1, t2, t3, t4⟩, -⟩ := b
  subst t3
  exact ⟨b1, ⟨ld, nw, wh, nm, b2⟩, ⟨T, t1, t2, t4⟩, ho.2.2.2.1, ho.2.2.2.2⟩
/-- Reader's constructor -/
theorem rdInit_spec {H : AH} {v2 : Option Nat} (ht : rT tag) (hz : H.sz = h.sz + 1) (hsl : H.sl = h.sl + 4) (hS : H.S = h.S) (hv : ∀ v, v < h.sz → H.I v = h.I v ∧ H.R v = h.R v ∧ H.F v = h.F v) (HF : H.F h.sz = (tag, [vR none, vI 0, vR v2, vR (some x)])) : wp (d + 2) 395 (0, ent 2 [vR (some h.sz), vR (some x)], [], H) (fun r h' => r = .inl none ∧ RdS h tag x 0 gNil h') := by
  obtain ⟨H1, e1⟩ : ∃ G, G = H.setF h.sz [vR none, vI 0, vR (some x), vR (some x)] := ⟨_, rfl⟩
  have F1 : H1.F h.sz = (tag, [vR none, vI 0, vR (some x), vR (some x)]) := by rw [e1]; exact setF_at HF
  have z1 : H1.sz = h.sz + 1 := by rw [e1]; exact hz
  obtain ⟨H2, e2⟩ : ∃ G, G = H1.newF 2 [vR none, vR none, vI 0] := ⟨_, rfl⟩
  have z2 : H2.sz = h.sz + 1 + 1 := by rw [e2, ← z1]; rfl
  have F2 : H2.F (h.sz + 1) = (2, [vR none, vR none, vI 0]) := by rw [e2, ← z1]; exact newF_at
  have F2r : H2.F h.sz = (tag, [vR none, vI 0, vR (some x), vR (some x)]) := by rw [e2, newF_ne (by omega)]; exact F1
  refine wp.go [] 60 fun W C0 hW hC => ?_
  refine ⟨_, _, _, HF, lkn ht, (Nat.le_of_ble_eq_true rfl), ?_⟩
  rw [show H.setF h.sz (([vR none, vI 0, vR v2, vR (some x)] : List AV).set 2 (vR (some x))) = H1 from e1.symm]
  conv => whnf
  rw [← e2, z1]
  refine hC _ _ _ (use (wpd.up (by omega) (skInit_spec (d := 0) z2 F2)) ?_)
  rintro _ H3 ⟨rfl, k1, k2, k3, k4, k5⟩
  have F3 := (k4 h.sz (by omega)).2.2.trans F2r
  refine ⟨_, _, _, F3, lkn ht, (Nat.le_of_ble_eq_true rfl), ?_⟩
  have l2 : H2.sl = h.sl + 7 := by rw [e2, e1]; show H.sl + 3 = _; omega
  have S2 : H2.S = h.S := by rw [e2, e1]; exact hS
  refine ⟨rfl, ⟨by show H3.sz = _; omega, by show H3.sl = _; omega, k3.trans S2, fun v w => ?_⟩, setF_at F3, k5.setF (Nat.lt_succ_self _)⟩
  have a := k4 v (by omega)
  have b := hv v w
  refine ⟨a.1.trans ?_, a.2.1.trans ?_, (setF_ne (by omega)).trans (a.2.2.trans ?_)⟩
  · rw [e2, e1]; exact b.1
  · rw [e2, e1]; exact b.2.1
  · rw [e2, newF_ne (by omega), e1, setF_ne (by omega)]; exact b.2.2
theorem rdNew4_spec (hx : x < h.sz) : wp (d + 3) 401 (0, ent 2 [vR (some h.sz), vR (some x)], [], h.newF 4 [vR none, vI 0, vR none, vR none]) (fun r h' => r = .inl none ∧ RdS h 4 x 0 gNil h') := by
  refine wp.go [] 20 fun W C0 hW hC => ?_
  refine ⟨_, _, _, newF_at, rfl, (Nat.le_of_ble_eq_true rfl), ?_⟩
  refine hC _ _ _ (use (wpd.up (by omega) (rdInit_spec (d := 0) (h := h) (tag := 4) (v2 := none) (Or.inl rfl) rfl rfl rfl (fun v hv => ⟨rfl, rfl, (setF_ne (by omega)).trans (newF_ne (by omega))⟩) (setF_at newF_at))) ?_)
  rintro _ g ⟨rfl, q⟩
  exact ⟨rfl, q⟩
theorem rdNew5_spec (hx : x < h.sz) : wp (d + 3) 408 (0, ent 2 [vR (some h.sz), vR (some x)], [], h.newF 5 [vR none, vI 0, vR none, vR none]) (fun r h' => r = .inl none ∧ RdS h 5 x 0 gNil h') := by
  refine wp.go [] 20 fun W C0 hW hC => ?_
  refine ⟨_, _, _, newF_at, rfl, (Nat.le_of_ble_eq_true rfl), ?_⟩
  refine hC _ _ _ (use (wpd.up (by omega) (rdInit_spec (d := 0) (h := h) (tag := 5) (v2 := none) (Or.inr rfl) rfl rfl rfl (fun v hv => ⟨rfl, rfl, (setF_ne (by omega)).trans (newF_ne (by omega))⟩) (setF_at newF_at))) ?_)
  rintro _ g ⟨rfl, q⟩
  exact ⟨rfl, q⟩
theorem RdS.ext {k : Nat} {G : Gr} {g : AH} (q : RdS h tag x k G g) : ext 20 103 h g := by
  obtain ⟨⟨z1, z2, z3, z4⟩, -, -⟩ := q
  exact ⟨by omega, by omega, by omega, by omega, z4, z3⟩
/-- what was read becomes the skeleton of now -/
theorem tell_ok (b : Base h x ld nw wh nm tp ep S) (h12 : S.2.1.length ≤ 12) {k : Nat} {H : Gr} {g : AH} {w : Int} (ht : rT tag) (q : RdS h tag x k H g) : wp (d + 9) 185 (40, [some (vR (some x)), some (vI w), some (vR (some h.sz)), none, none, none], [], g) (cEnd h x ld ep (vI ((H.1 : Nat) : Int)) (H, pushG S.2.1 S.1, S.2.2.1, []) 21 137 (fun n => n = none)) := by
  have e1 := q.ext
  have hb := b.grown e1
  have hx := b.1
  refine wp.go [] 60 fun W C0 hW hC => ?_
  refine ⟨_, _, _, _, q.2.1, lkm ht, rfl, ?_⟩
  refine ⟨_, _, _, hb.2.1, rfl, ?_⟩
  refine hC _ _ _ (use (wpd.up (by omega) (becomes_spec (d := 0) hb h12 (show x + 87 < h.sz + 1 by omega) q.2.2)) ?_)
  rintro _ h4 ⟨rfl, ep', f1, f2, f3, f4, f5, f6⟩
  refine ⟨_, _, _, f1.2.1, rfl, (Nat.le_of_ble_eq_true rfl), ?_⟩
  obtain ⟨z1, z2⟩ := f1.zero
  have g1 := e1.1
  have g2 := e1.2.1
  have g3 := e1.2.2.1
  have g4 := e1.2.2.2.1
  have hf4 := b.2.2.2.1.1
  exact ⟨rfl, h.sz + 1, none, none, 0, ep', z1, ((frB.of e1).trans f2 (Or.inl rfl)).trans z2 (by omega), by omega, by show h4.sz ≤ _; omega, by show h.sl ≤ h4.sl; omega, by show h4.sl ≤ _; omega, rfl⟩
/-- what was wrong is told -/
theorem tell_bad (b : Base h x ld nw wh nm tp ep S) {g : AH} {w : Int} {ρ : Option Nat} {p e : Nat} (e1 : ext 21 110 h g) (hp : g.F p = (6, [vR none, vR none, vR none, vR none, vR none, vI 0, vI ((e : Nat) : Int)])) : wp (d + 9) 185 (56, [some (vR (some x)), some (vI w), some (vR ρ), none, none, none], [vR (some p)], g) (cEnd h x ld ep (vI (isub (-2) ((e : Nat) : Int))) (S.1, S.2.1, S.2.2.1, []) 21 137 (fun n => n = nm)) := by
  have hb := b.grown e1
  have g2 := e1.2.1
  have g3 := e1.2.2.1
  have g4 := e1.2.2.2.1
  refine wp.go [] 60 fun W C0 hW hC => ?_
  refine ⟨_, _, _, _, hp, rfl, rfl, ?_⟩
  refine ⟨_, _, _, hb.2.1, rfl, (Nat.le_of_ble_eq_true rfl), ?_⟩
  obtain ⟨z1, z2⟩ := hb.zero
  exact ⟨rfl, nw, wh, nm, 0, ep, z1, (frB.of e1).trans z2 (Or.inl rfl), Or.inl rfl, by show g.sz ≤ _; omega, g3, by show g.sl ≤ _; omega, rfl⟩
theorem ctell_spec (b : Base h x ld nw wh nm tp ep S) (ho : S.ok) (h12 : S.2.1.length ≤ 12) {w : Int} : wp (d + 49) 185 (0, ent 6 [vR (some x), vI w], [], h) (cEnd h x ld ep (vI (aTell S w).1) (aTell S w).2 21 137 (actN nm)) := by
  have hE := b.rdE ho
  have hx := b.1
  by_cases hw : 0 ≤ w ∧ w ≤ 1
  · have hA : aTell S w = match rdR S.2.2.2 w with
      | .inl e => (isub (-2) ((e : Nat) : Int), (S.1, S.2.1, S.2.2.1, []))
      | .inr H => (((H.1 : Nat) : Int), (H, pushG S.2.1 S.1, S.2.2.1, [])) := if_pos hw
    obtain ⟨y, hy⟩ : ∃ y, y = aTell S w := ⟨_, rfl⟩
    rw [← hy]
    refine wp.go [40, 56] 90 fun W C0 hW hC => ?_
    refine hC _ _ _ (useE (wpd.up (by omega) (in_spec (d := 0))) ?_)
    rw [if_pos hw]
    refine ⟨fun _ => ?_, fun c => absurd c (by decide)⟩
    refine ⟨fun c => ?_, fun c => ?_⟩
    · have hR : rdR S.2.2.2 w = nBegin S.2.2.2 := if_neg c
      refine hC _ _ _ (use (wpd.up (by omega) (rdNew5_spec (d := 0) (h := h) (x := x) (by omega))) ?_)
      rintro _ g ⟨rfl, hg⟩
      refine ⟨_, _, _, hg.2.1, rfl, ?_⟩
      refine hC _ _ _ (use (wpd.up (by omega) (readsN_spec (d := 0) hE hg)) ?_)
      rintro r g2 (⟨e, e1, p, rfl, e2, e3⟩ | ⟨H, k', e1, rfl, hg2⟩)
      · obtain ⟨v, hv⟩ : ∃ v : Int, v = isub (-2) ((e : Nat) : Int) := ⟨_, rfl⟩
        obtain rfl : y = (v, (S.1, S.2.1, S.2.2.1, [])) := by rw [hy, hA, hR, e1, hv]
        have key := tell_bad (d := d + 40) (w := w) (ρ := some h.sz) b e3 e2
        rw [← hv] at key
        simp only [kx]
        rw [e2]
        show W (56, [some (vR (some x)), some (vI w), some (vR (some h.sz)), none, none, none], [vR (some p)], g2)
        exact hW _ (wpd.mono (fun r h' q => q.wide (Nat.le_refl _) (Nat.le_refl _) (fun _ q => Or.inr q)) _ _ _ key)
      · obtain rfl : y = (((H.1 : Nat) : Int), (H, pushG S.2.1 S.1, S.2.2.1, [])) := by rw [hy, hA, hR, e1]
        exact hW _ (wpd.mono (fun r h' q => q.wide (Nat.le_refl _) (Nat.le_refl _) (fun _ q => Or.inl q)) _ _ _ (tell_ok (d := d + 40) b h12 (Or.inr rfl) hg2))
    · have hR : rdR S.2.2.2 w = bR S.2.2.2 0 gNil [-1] false := if_pos c
      refine hC _ _ _ (use (wpd.up (by omega) (rdNew4_spec (d := 0) (h := h) (x := x) (by omega))) ?_)
      rintro _ g ⟨rfl, hg⟩
      refine ⟨_, _, _, hg.2.1, rfl, ?_⟩
      refine hC _ _ _ (use (wpd.up (by omega) (readsB_spec (d := 0) hE hg)) ?_)
      rintro r g2 (⟨e, e1, p, rfl, e2, e3⟩ | ⟨H, k', e1, rfl, hg2⟩)
      · obtain ⟨v, hv⟩ : ∃ v : Int, v = isub (-2) ((e : Nat) : Int) := ⟨_, rfl⟩
        obtain rfl : y = (v, (S.1, S.2.1, S.2.2.1, [])) := by rw [hy, hA, hR, e1, hv]
        have key := tell_bad (d := d + 40) (w := w) (ρ := some h.sz) b e3 e2
        rw [← hv] at key
        simp only [kx]
        rw [e2]
        show W (56, [some (vR (some x)), some (vI w), some (vR (some h.sz)), none, none, none], [vR (some p)], g2)
        exact hW _ (wpd.mono (fun r h' q => q.wide (Nat.le_refl _) (Nat.le_refl _) (fun _ q => Or.inr q)) _ _ _ key)
      · obtain rfl : y = (((H.1 : Nat) : Int), (H, pushG S.2.1 S.1, S.2.2.1, [])) := by rw [hy, hA, hR, e1]
        exact hW _ (wpd.mono (fun r h' q => q.wide (Nat.le_refl _) (Nat.le_refl _) (fun _ q => Or.inl q)) _ _ _ (tell_ok (d := d + 40) b h12 (Or.inl rfl) hg2))
  · have hA : aTell S w = (-1, S) := if_neg hw
    rw [hA]
    refine wp.go [40, 56] 20 fun W C0 hW hC => ?_
    refine hC _ _ _ (useE (wpd.up (by omega) (in_spec (d := 0))) ?_)
    rw [if_neg hw]
    refine ⟨fun c => absurd rfl c, fun _ => ?_⟩
    exact b.same.wide (by omega) (by omega) (fun _ e => Or.inr e)
end TELLC
