/-! COUNTING ALONE: laysTo, Count (printed by tools/mkGF.py) -/
theorem iskL {h : AH} {a : Nat} {X : List Int} (e : h.I a = (2, X)) : isk h (eok 7) (some a) := by
  intro b hb
  cases hb
  exact ⟨(1, 2), rfl, by decide, by show (h.I a).1 = 2; rw [e]⟩
theorem cRow_nil {h : AH} {refs : List (Option Nat)} {bys : List Int} {f : Nat} (e : refs.length = f) : cRow h refs bys f [] := ⟨e, fun i r b hi => (by simp at hi)⟩
theorem cRow_cons {h : AH} {refs : List (Option Nat)} {bys : List Int} {f a b : Nat} {X : List Int} {L : List ((Nat → Int) × Nat)} (hr : refs[f]? = some (some a)) (hI : h.I a = (2, X)) (hl : X.length = 41) (hb : bys[f]? = some ((b : Nat) : Int)) (h14 : 1 ≤ b ∧ b ≤ 4) (k : cRow h refs bys (f + 1) L) : cRow h refs bys f ((gt X, b) :: L) := by
  refine ⟨by rw [k.1, List.length_cons]; omega, fun i r b' hi => ?_⟩
  cases i with
  | zero =>
    have hi : some (gt X, b) = some (r, b') := hi
    cases hi
    exact ⟨⟨a, X, hr, hI, hl, fun _ _ => rfl⟩, hb, h14⟩
  | succ i =>
    rw [List.getElem?_cons_succ] at hi
    have := k.2 i r b' hi
    rw [show f + 1 + i = f + (i + 1) by omega] at this
    exact this
theorem cRow.to {h h' : AH} {refs : List (Option Nat)} {bys : List Int} {f : Nat} {L : List ((Nat → Int) × Nat)} (k : cRow h refs bys f L) (hI : ∀ a, some a ∈ refs → h'.I a = h.I a) : cRow h' refs bys f L := by
  refine ⟨k.1, fun i r b hi => ?_⟩
  obtain ⟨⟨a, X, k1, k2, k3⟩, k4⟩ := k.2 i r b hi
  exact ⟨⟨a, X, k1, (hI a (List.mem_of_getElem? k1)).trans k2, k3⟩, k4⟩
section OFX
variable {d : Nat} {g H : AH} {rs bs : Nat} {refs : List (Option Nat)} {bys : List Int} {c s : Nat}
theorem rowX (hR : H.R rs = (7, refs)) (he : ext c s g H) : wp (d + 1) 176 (0, ent 1 [vR (some rs)], [], H) (fun r h' => r = .inl (some (vR (some rs))) ∧ h'.R rs = (7, refs) ∧ ext c s g h') := by
  refine use crow_spec ?_
  rintro _ _ ⟨rfl, rfl⟩
  exact ⟨rfl, hR, he⟩
theorem cofX (he : ext c s g H) (hR : H.R rs = (7, refs)) (hB : H.I bs = (1, bys)) {most : Nat} (hm : most ≤ 40) {L : List ((Nat → Int) × Nat)} {t : Nat} (hP : cRow g refs bys 0 L) (hlt : ∀ a, some a ∈ refs → a < g.sz) (hL : L.length ≤ 4) (ht : t ≤ 100) : wp (d + 6) 177 (0, ent 4 [vI ((t : Nat) : Int), vI ((most : Nat) : Int), vR (some rs), vR (some bs)], [], H) (fun r h' => r = .inl (some (vL (w64 (pZ most L t)))) ∧ ext c s g h') := by
  refine use (cof_spec hR hB hm (hP.to fun a ha => (he.2.2.2.2.1 a (hlt a ha)).1) hL ht) ?_
  rintro _ _ ⟨rfl, rfl⟩
  exact ⟨rfl, he⟩
end OFX
def cntC (h : AH) (x : Nat) (ld : Int) : Prop := -1 ≤ ld ∧ ld ≤ 40 ∧ ∃ R F O, h.I (x + 3) = (2, R) ∧ h.I (x + 4) = (2, F) ∧ h.I (x + 5) = (2, O) ∧ R.length = 41 ∧ F.length = 41 ∧ O.length = 41 ∧ ∀ i : Nat, (i : Int) ≤ ld → gt R i = cR i ∧ gt F i = cF i ∧ gt O i = cO i
abbrev cM (x v : Nat) : Prop := v = x ∨ v = x + 3 ∨ v = x + 4 ∨ v = x + 5
theorem cnt_zero : cR 0 = 1 ∧ cF 0 = 1 ∧ cO 0 = 1 := by decide
section CLAYS
variable {d : Nat} {h : AH} {x : Nat} {nw : Nat} {wh nm : Option Nat} {tp : Nat}
theorem clays_cnt (hx : x + 87 < h.sz) {n : Nat} (hn : n ≤ 40) : ∀ (j : Nat) (g : AH) (ld : Int), j ≤ 41 → ((n : Nat) : Int) - ld ≤ ((j : Nat) : Int) → g.F x = (1, flC x ld nw wh nm tp) → cntC g x ld → chg (cM x) (12 * (41 - j)) (24 * (41 - j)) h g → ∀ l2 l3, wp (d + 8) 175 (0, [some (vR (some x)), some (vI ((n : Nat) : Int)), l2, l3], [], g) (fun r h' => r = .inl none ∧ ∃ ld', ((n : Nat) : Int) ≤ ld' ∧ h'.F x = (1, flC x ld' nw wh nm tp) ∧ cntC h' x ld' ∧ chg (cM x) 492 984 h h') := by
  intro j
  induction j with
  | zero =>
    intro g ld hj hn' hF hC hg l2 l3
    refine wp.go [] 20 fun W C hW hCC => ?_
    refine ⟨_, _, _, _, hF, rfl, rfl, ?_⟩
    refine ⟨fun _ => ⟨rfl, ld, by omega, hF, hC, hg⟩, fun q => absurd q (by omega)⟩
  | succ j ih =>
    intro g ld hj hn' hF hCn hg l2 l3
    by_cases q : ((n : Nat) : Int) ≤ ld
    · refine wp.go [] 20 fun W C hW hCC => ?_
      refine ⟨_, _, _, _, hF, rfl, rfl, ?_⟩
      exact ⟨fun _ => ⟨rfl, ld, q, hF, hCn, hg.more (fun v w => w) (by omega) (by omega)⟩, fun w => absurd w (by omega)⟩
    obtain ⟨c1, c2, R, F, O, iR0, iF0, iO0, lR, lF, lO, hv⟩ := hCn
    have gx : x + 87 < g.sz := by have := hg.1; omega
    obtain ⟨k, hk⟩ : ∃ k : Nat, ((k : Nat) : Int) = ld + 1 := ⟨(ld + 1).toNat, by omega⟩
    have hk41 : k < 41 := by omega
    have nxt0 : ∀ (H : AH) (R' F' O' : List Int) (l3 : Option AV), H.F x = (1, flC x ld nw wh nm tp) → H.I (x + 3) = (2, R') → H.I (x + 4) = (2, F') → H.I (x + 5) = (2, O') → R' = R.set k (cR k) → F' = F.set k (cF k) → O' = O.set k (cO k) → chg (cM x) (12 * (41 - j)) (24 * (41 - j)) h H → wp (d + 8) 175 (306, [some (vR (some x)), some (vI ((n : Nat) : Int)), some (vI ((k : Nat) : Int)), l3], [], H) (fun r h' => r = .inl none ∧ ∃ ld', ((n : Nat) : Int) ≤ ld' ∧ h'.F x = (1, flC x ld' nw wh nm tp) ∧ cntC h' x ld' ∧ chg (cM x) 492 984 h h') := by
      intro H R' F' O' l3 g1 g2 g3 g4 e1 e2 e3 g5
      refine wp.go [0] 10 fun W C hW hCC => ?_
      refine ⟨_, _, _, g1, rfl, (Nat.le_of_ble_eq_true rfl), ?_⟩
      refine hW _ (ih _ ((k : Nat) : Int) (by omega) (by omega) (setF_at g1) ⟨by omega, by omega, R', F', O', g2, g3, g4, by rw [e1, List.length_set]; exact lR, by rw [e2, List.length_set]; exact lF, by rw [e3, List.length_set]; exact lO, fun i hi => ?_⟩ (g5.setF (Or.inl (Or.inl rfl))) _ _)
      rw [e1, e2, e3, gt_set (by omega), gt_set (by omega), gt_set (by omega)]
      by_cases w : i = k
      · rw [if_pos w, if_pos w, if_pos w, w]
        exact ⟨rfl, rfl, rfl⟩
      · rw [if_neg w, if_neg w, if_neg w]
        exact hv i (by omega)
    by_cases k0 : k = 0
    · subst k0
      obtain ⟨z1, z2, z3⟩ := cnt_zero
      have hl : ld = -1 := by omega
      subst hl
      refine wp.go [0, 306] 60 fun W C hW hCC => ?_
      refine ⟨_, _, _, _, hF, rfl, rfl, ?_⟩
      refine ⟨fun w => absurd w (by omega), fun _ => ?_⟩
      refine ⟨_, _, _, _, hF, rfl, rfl, ?_⟩
      refine ⟨_, _, _, _, hF, rfl, rfl, ?_⟩
      refine ⟨fun w => absurd rfl w, fun _ => ?_⟩
      refine ⟨_, iR0, by decide, by rw [lR]; decide, ?_⟩
      refine ⟨_, _, _, _, hF, rfl, rfl, ?_⟩
      refine ⟨fun w => absurd rfl w, fun _ => ?_⟩
      refine ⟨_, (setI_ne (by omega)).trans iF0, by decide, by rw [lF]; decide, ?_⟩
      refine ⟨_, _, _, _, hF, rfl, rfl, ?_⟩
      refine ⟨fun w => absurd rfl w, fun _ => ?_⟩
      refine ⟨_, (setI_ne (by omega)).trans ((setI_ne (by omega)).trans iO0), by decide, by rw [lO]; decide, ?_⟩
      refine hW _ (nxt0 _ _ _ _ _ hF ((setI_ne (by omega)).trans ((setI_ne (by omega)).trans (setI_at iR0))) ((setI_ne (by omega)).trans (setI_at ((setI_ne (by omega)).trans iF0))) (setI_at ((setI_ne (by omega)).trans ((setI_ne (by omega)).trans iO0))) (by rw [z1]; rfl) (by rw [z2]; rfl) (by rw [z3]; rfl) ?_)
      exact (((hg.more (fun v w => w) (by omega) (by omega)).setI (Or.inl (Or.inr (Or.inl rfl)))).setI (Or.inl (Or.inr (Or.inr (Or.inl rfl))))).setI (Or.inl (Or.inr (Or.inr (Or.inr rfl))))
    · obtain ⟨m, rfl⟩ : ∃ m, k = m + 1 := ⟨k - 1, by omega⟩
      have hm : m < 40 := by omega
      have vals : ∀ s, s ≤ m → gt R s = cR s ∧ gt F s = cF s ∧ gt O s = cO s := fun s hs => hv s (by omega)
      obtain ⟨v1, v2, v3⟩ := cnt_next hm
      have E1 : pZ m [(gt R, 1), (gt R, 1), (gt R, 1)] m = pZ m [(cR, 1), (cR, 1), (cR, 1)] m := pZ_congr (by exact ⟨⟨rfl, fun s hs => (vals s hs).1⟩, ⟨rfl, fun s hs => (vals s hs).1⟩, ⟨rfl, fun s hs => (vals s hs).1⟩, trivial⟩) _
      have E2 : pZ m [(gt R, 1), (gt R, 2)] m = pZ m [(cR, 1), (cR, 2)] m := pZ_congr (by exact ⟨⟨rfl, fun s hs => (vals s hs).1⟩, ⟨rfl, fun s hs => (vals s hs).1⟩, trivial⟩) _
      have E3 : pZ m [(gt R, 3)] m = pZ m [(cR, 3)] m := pZ_congr (by exact ⟨⟨rfl, fun s hs => (vals s hs).1⟩, trivial⟩) _
      have E4 : pZ m [(gt F, 1), (gt F, 1), (gt F, 1)] m = pZ m [(cF, 1), (cF, 1), (cF, 1)] m := pZ_congr (by exact ⟨⟨rfl, fun s hs => (vals s hs).2.1⟩, ⟨rfl, fun s hs => (vals s hs).2.1⟩, ⟨rfl, fun s hs => (vals s hs).2.1⟩, trivial⟩) _
      have E5 : pZ m [(gt F, 3)] m = pZ m [(cF, 3)] m := pZ_congr (by exact ⟨⟨rfl, fun s hs => (vals s hs).2.1⟩, trivial⟩) _
      have E6 : pZ m [(gt O, 1), (gt F, 2)] m = pZ m [(cO, 1), (cF, 2)] m := pZ_congr (by exact ⟨⟨rfl, fun s hs => (vals s hs).2.2⟩, ⟨rfl, fun s hs => (vals s hs).2.1⟩, trivial⟩) _
      have hk1 : iadd ld 1 = ((m + 1 : Nat) : Int) := by rw [iadd_eq (by omega)]; omega
      have hk2 : isub ((m + 1 : Nat) : Int) 1 = ((m : Nat) : Int) := by rw [isub_eq (by omega)]; omega
      refine wp.go [0, 306] 200 fun W C hW hC => ?_
      refine ⟨_, _, _, _, hF, rfl, rfl, ?_⟩
      refine ⟨fun w => absurd w (by omega), fun _ => ?_⟩
      refine ⟨_, _, _, _, hF, rfl, rfl, ?_⟩
      conv => whnf
      rw [hk1, hk2]
      refine ⟨_, _, _, _, hF, rfl, rfl, ?_⟩
      refine ⟨fun _ => ?_, fun w => absurd w (by omega)⟩
      refine ⟨by decide, by decide, ?_⟩
      refine ⟨_, _, _, _, hF, rfl, rfl, ?_⟩
      refine ⟨7, [none, none, none], newR_at, by decide, by decide, by decide, (by simp), iskL iR0, fun q => (by cases q), ?_⟩
      refine ⟨_, _, _, _, hF, rfl, rfl, ?_⟩
      refine ⟨7, [some (x + 3), none, none], (setR_at newR_at), by decide, by decide, by decide, (by simp), iskL iR0, fun q => (by cases q), ?_⟩
      refine ⟨_, _, _, _, hF, rfl, rfl, ?_⟩
      refine ⟨7, [some (x + 3), some (x + 3), none], (setR_at (setR_at newR_at)), by decide, by decide, by decide, (by simp), iskL iR0, fun q => (by cases q), ?_⟩
      refine hC _ _ _ (use (wpd.up (by omega) (rowX (d := 0) (g := g) (refs := [some (x + 3), some (x + 3), some (x + 3)]) (s := 3) (setR_at (setR_at (setR_at newR_at))) (((ext_newR.setR (Nat.le_refl _)).setR (Nat.le_refl _)).setR (Nat.le_refl _)))) ?_)
      rintro _ g1a ⟨rfl, z1, e1⟩
      have n1 := e1.1
      have p1 := e1.2.2.2.2.1
      refine ⟨by decide, by decide, ?_⟩
      refine ⟨[0, 0, 0], newI_at, by decide, by decide, ?_⟩
      refine ⟨[1, 0, 0], (setI_at newI_at), by decide, by decide, ?_⟩
      refine ⟨[1, 1, 0], (setI_at (setI_at newI_at)), by decide, by decide, ?_⟩
      refine hC _ _ _ (use (wpd.up (by omega) (cofX (d := 0) (g := g1a) (bys := [1, 1, 1]) (s := 3) (L := [(gt R, 1), (gt R, 1), (gt R, 1)]) (most := m) (t := m) (((ext_newI.setI (Nat.le_refl _)).setI (Nat.le_refl _)).setI (Nat.le_refl _)) (by exact z1) (by exact (setI_at (setI_at (setI_at newI_at)))) (by omega) (cRow_cons rfl ((p1 _ (by omega)).1.trans iR0) lR rfl (by decide) (cRow_cons rfl ((p1 _ (by omega)).1.trans iR0) lR rfl (by decide) (cRow_cons rfl ((p1 _ (by omega)).1.trans iR0) lR rfl (by decide) (cRow_nil rfl)))) (by intro a ha; simp at ha; omega) (by simp) (by omega))) ?_)
      rintro _ g1 ⟨rfl, f1⟩
      have t1 := e1.trans f1
      have m1 := t1.1
      have Fx1 := (t1.2.2.2.2.1 x (by omega)).2.2.trans hF
      have iR1 := (t1.2.2.2.2.1 (x + 3) (by omega)).1.trans iR0
      have iF1 := (t1.2.2.2.2.1 (x + 4) (by omega)).1.trans iF0
      have iO1 := (t1.2.2.2.2.1 (x + 5) (by omega)).1.trans iO0
      refine ⟨by decide, by decide, ?_⟩
      refine ⟨_, _, _, _, Fx1, rfl, rfl, ?_⟩
      refine ⟨7, [none, none], newR_at, by decide, by decide, by decide, (by simp), iskL iR1, fun q => (by cases q), ?_⟩
      refine ⟨_, _, _, _, Fx1, rfl, rfl, ?_⟩
      refine ⟨7, [some (x + 3), none], (setR_at newR_at), by decide, by decide, by decide, (by simp), iskL iR1, fun q => (by cases q), ?_⟩
      refine hC _ _ _ (use (wpd.up (by omega) (rowX (d := 0) (g := g1) (refs := [some (x + 3), some (x + 3)]) (s := 2) (setR_at (setR_at newR_at)) ((ext_newR.setR (Nat.le_refl _)).setR (Nat.le_refl _)))) ?_)
      rintro _ g2a ⟨rfl, z2, e2⟩
      have n2 := e2.1
      have p2 := e2.2.2.2.2.1
      refine ⟨by decide, by decide, ?_⟩
      refine ⟨[0, 0], newI_at, by decide, by decide, ?_⟩
      refine ⟨[1, 0], (setI_at newI_at), by decide, by decide, ?_⟩
      refine hC _ _ _ (use (wpd.up (by omega) (cofX (d := 0) (g := g2a) (bys := [1, 2]) (s := 2) (L := [(gt R, 1), (gt R, 2)]) (most := m) (t := m) ((ext_newI.setI (Nat.le_refl _)).setI (Nat.le_refl _)) (by exact z2) (by exact (setI_at (setI_at newI_at))) (by omega) (cRow_cons rfl ((p2 _ (by omega)).1.trans iR1) lR rfl (by decide) (cRow_cons rfl ((p2 _ (by omega)).1.trans iR1) lR rfl (by decide) (cRow_nil rfl))) (by intro a ha; simp at ha; omega) (by simp) (by omega))) ?_)
      rintro _ g2 ⟨rfl, f2⟩
      have t2 := e2.trans f2
      have m2 := t2.1
      have Fx2 := (t2.2.2.2.2.1 x (by omega)).2.2.trans Fx1
      have iR2 := (t2.2.2.2.2.1 (x + 3) (by omega)).1.trans iR1
      have iF2 := (t2.2.2.2.2.1 (x + 4) (by omega)).1.trans iF1
      have iO2 := (t2.2.2.2.2.1 (x + 5) (by omega)).1.trans iO1
      refine ⟨by decide, by decide, ?_⟩
      refine ⟨_, _, _, _, Fx2, rfl, rfl, ?_⟩
      refine ⟨7, [none], newR_at, by decide, by decide, by decide, (by simp), iskL iR2, fun q => (by cases q), ?_⟩
      refine hC _ _ _ (use (wpd.up (by omega) (rowX (d := 0) (g := g2) (refs := [some (x + 3)]) (s := 1) (setR_at newR_at) (ext_newR.setR (Nat.le_refl _)))) ?_)
      rintro _ g3a ⟨rfl, z3, e3⟩
      have n3 := e3.1
      have p3 := e3.2.2.2.2.1
      refine ⟨by decide, by decide, ?_⟩
      refine ⟨[0], newI_at, by decide, by decide, ?_⟩
      refine hC _ _ _ (use (wpd.up (by omega) (cofX (d := 0) (g := g3a) (bys := [3]) (s := 1) (L := [(gt R, 3)]) (most := m) (t := m) (ext_newI.setI (Nat.le_refl _)) (by exact z3) (by exact (setI_at newI_at)) (by omega) (cRow_cons rfl ((p3 _ (by omega)).1.trans iR2) lR rfl (by decide) (cRow_nil rfl)) (by intro a ha; simp at ha; omega) (by simp) (by omega))) ?_)
      rintro _ g3 ⟨rfl, f3⟩
      have t3 := e3.trans f3
      have m3 := t3.1
      have Fx3 := (t3.2.2.2.2.1 x (by omega)).2.2.trans Fx2
      have iR3 := (t3.2.2.2.2.1 (x + 3) (by omega)).1.trans iR2
      have iF3 := (t3.2.2.2.2.1 (x + 4) (by omega)).1.trans iF2
      have iO3 := (t3.2.2.2.2.1 (x + 5) (by omega)).1.trans iO2
      refine ⟨by decide, ?_⟩
      conv => whnf
      simp only [lmul_w, ladd_w, w_mul_l, w_mul_r, w_add_l, w_add_r]
      rw [E1, E2, E3, v1]
      refine ⟨_, iR3, by omega, by omega, ?_⟩
      rw [Int.toNat_natCast]
      obtain ⟨G1, hG1⟩ : ∃ H, H = g3.setI (x + 3) (R.set (m + 1) (cR (m + 1))) := ⟨_, rfl⟩
      rw [← hG1]
      have G1s : G1.sz = g3.sz := by rw [hG1]; rfl
      have Fa : G1.F x = _ := (by rw [hG1]; exact Fx3 : G1.F x = (1, flC x ld nw wh nm tp))
      have iFa : G1.I (x + 4) = (2, F) := by rw [hG1, setI_ne (by omega)]; exact iF3
      have iOa : G1.I (x + 5) = (2, O) := by rw [hG1, setI_ne (by omega)]; exact iO3
      have iRa : G1.I (x + 3) = (2, R.set (m + 1) (cR (m + 1))) := by rw [hG1]; exact setI_at iR3
      refine ⟨_, _, _, _, Fa, rfl, rfl, ?_⟩
      refine ⟨fun _ => ?_, fun w => absurd w (by omega)⟩
      refine ⟨by decide, by decide, ?_⟩
      refine ⟨_, _, _, _, Fa, rfl, rfl, ?_⟩
      refine ⟨7, [none, none, none], newR_at, by decide, by decide, by decide, (by simp), iskL iFa, fun q => (by cases q), ?_⟩
      refine ⟨_, _, _, _, Fa, rfl, rfl, ?_⟩
      refine ⟨7, [some (x + 4), none, none], (setR_at newR_at), by decide, by decide, by decide, (by simp), iskL iFa, fun q => (by cases q), ?_⟩
      refine ⟨_, _, _, _, Fa, rfl, rfl, ?_⟩
      refine ⟨7, [some (x + 4), some (x + 4), none], (setR_at (setR_at newR_at)), by decide, by decide, by decide, (by simp), iskL iFa, fun q => (by cases q), ?_⟩
      refine hC _ _ _ (use (wpd.up (by omega) (rowX (d := 0) (g := G1) (refs := [some (x + 4), some (x + 4), some (x + 4)]) (s := 3) (setR_at (setR_at (setR_at newR_at))) (((ext_newR.setR (Nat.le_refl _)).setR (Nat.le_refl _)).setR (Nat.le_refl _)))) ?_)
      rintro _ g4a ⟨rfl, z4, e4⟩
      have n4 := e4.1
      have p4 := e4.2.2.2.2.1
      refine ⟨by decide, by decide, ?_⟩
      refine ⟨[0, 0, 0], newI_at, by decide, by decide, ?_⟩
      refine ⟨[1, 0, 0], (setI_at newI_at), by decide, by decide, ?_⟩
      refine ⟨[1, 1, 0], (setI_at (setI_at newI_at)), by decide, by decide, ?_⟩
      refine hC _ _ _ (use (wpd.up (by omega) (cofX (d := 0) (g := g4a) (bys := [1, 1, 1]) (s := 3) (L := [(gt F, 1), (gt F, 1), (gt F, 1)]) (most := m) (t := m) (((ext_newI.setI (Nat.le_refl _)).setI (Nat.le_refl _)).setI (Nat.le_refl _)) (by exact z4) (by exact (setI_at (setI_at (setI_at newI_at)))) (by omega) (cRow_cons rfl ((p4 _ (by omega)).1.trans iFa) lF rfl (by decide) (cRow_cons rfl ((p4 _ (by omega)).1.trans iFa) lF rfl (by decide) (cRow_cons rfl ((p4 _ (by omega)).1.trans iFa) lF rfl (by decide) (cRow_nil rfl)))) (by intro a ha; simp at ha; omega) (by simp) (by omega))) ?_)
      rintro _ g4 ⟨rfl, f4⟩
      have t4 := e4.trans f4
      have m4 := t4.1
      have Fx4 := (t4.2.2.2.2.1 x (by omega)).2.2.trans Fa
      have iR4 := (t4.2.2.2.2.1 (x + 3) (by omega)).1.trans iRa
      have iF4 := (t4.2.2.2.2.1 (x + 4) (by omega)).1.trans iFa
      have iO4 := (t4.2.2.2.2.1 (x + 5) (by omega)).1.trans iOa
      refine ⟨by decide, by decide, ?_⟩
      refine ⟨_, _, _, _, Fx4, rfl, rfl, ?_⟩
      refine ⟨7, [none], newR_at, by decide, by decide, by decide, (by simp), iskL iF4, fun q => (by cases q), ?_⟩
      refine hC _ _ _ (use (wpd.up (by omega) (rowX (d := 0) (g := g4) (refs := [some (x + 4)]) (s := 1) (setR_at newR_at) (ext_newR.setR (Nat.le_refl _)))) ?_)
      rintro _ g5a ⟨rfl, z5, e5⟩
      have n5 := e5.1
      have p5 := e5.2.2.2.2.1
      refine ⟨by decide, by decide, ?_⟩
      refine ⟨[0], newI_at, by decide, by decide, ?_⟩
      refine hC _ _ _ (use (wpd.up (by omega) (cofX (d := 0) (g := g5a) (bys := [3]) (s := 1) (L := [(gt F, 3)]) (most := m) (t := m) (ext_newI.setI (Nat.le_refl _)) (by exact z5) (by exact (setI_at newI_at)) (by omega) (cRow_cons rfl ((p5 _ (by omega)).1.trans iF4) lF rfl (by decide) (cRow_nil rfl)) (by intro a ha; simp at ha; omega) (by simp) (by omega))) ?_)
      rintro _ g5 ⟨rfl, f5⟩
      have t5 := e5.trans f5
      have m5 := t5.1
      have Fx5 := (t5.2.2.2.2.1 x (by omega)).2.2.trans Fx4
      have iR5 := (t5.2.2.2.2.1 (x + 3) (by omega)).1.trans iR4
      have iF5 := (t5.2.2.2.2.1 (x + 4) (by omega)).1.trans iF4
      have iO5 := (t5.2.2.2.2.1 (x + 5) (by omega)).1.trans iO4
      refine ⟨by decide, ?_⟩
      conv => whnf
      simp only [lmul_w, ladd_w, w_mul_l, w_mul_r, w_add_l, w_add_r]
      rw [E4, E5, v2]
      refine ⟨_, iF5, by omega, by omega, ?_⟩
      rw [Int.toNat_natCast]
      obtain ⟨G2, hG2⟩ : ∃ H, H = g5.setI (x + 4) (F.set (m + 1) (cF (m + 1))) := ⟨_, rfl⟩
      rw [← hG2]
      have G2s : G2.sz = g5.sz := by rw [hG2]; rfl
      have Fb : G2.F x = (1, flC x ld nw wh nm tp) := by rw [hG2]; exact Fx5
      have iFb : G2.I (x + 4) = (2, F.set (m + 1) (cF (m + 1))) := by rw [hG2]; exact setI_at iF5
      have iOb : G2.I (x + 5) = (2, O) := by rw [hG2, setI_ne (by omega)]; exact iO5
      have iRb : G2.I (x + 3) = (2, R.set (m + 1) (cR (m + 1))) := by rw [hG2, setI_ne (by omega)]; exact iR5
      have iFb0 : ∃ Y, G2.I (x + 4) = (2, Y) ∧ Y.length = 41 ∧ ∀ s, s ≤ m → gt Y s = cF s := ⟨_, iFb, by rw [List.length_set]; exact lF, fun s hs => by rw [gt_set (by omega), if_neg (by omega)]; exact (vals s hs).2.1⟩
      obtain ⟨Y, iY, lY, vY⟩ := iFb0
      have E6 : pZ m [(gt O, 1), (gt Y, 2)] m = pZ m [(cO, 1), (cF, 2)] m := pZ_congr (by exact ⟨⟨rfl, fun s hs => (vals s hs).2.2⟩, ⟨rfl, fun s hs => vY s hs⟩, trivial⟩) _
      refine ⟨_, _, _, _, Fb, rfl, rfl, ?_⟩
      refine ⟨fun _ => ?_, fun w => absurd w (by omega)⟩
      refine ⟨by decide, by decide, ?_⟩
      refine ⟨_, _, _, _, Fb, rfl, rfl, ?_⟩
      refine ⟨7, [none, none], newR_at, by decide, by decide, by decide, (by simp), iskL iOb, fun q => (by cases q), ?_⟩
      refine ⟨_, _, _, _, Fb, rfl, rfl, ?_⟩
      refine ⟨7, [some (x + 5), none], (setR_at newR_at), by decide, by decide, by decide, (by simp), iskL iY, fun q => (by cases q), ?_⟩
      refine hC _ _ _ (use (wpd.up (by omega) (rowX (d := 0) (g := G2) (refs := [some (x + 5), some (x + 4)]) (s := 2) (setR_at (setR_at newR_at)) ((ext_newR.setR (Nat.le_refl _)).setR (Nat.le_refl _)))) ?_)
      rintro _ g6a ⟨rfl, z6, e6⟩
      have n6 := e6.1
      have p6 := e6.2.2.2.2.1
      refine ⟨by decide, by decide, ?_⟩
      refine ⟨[0, 0], newI_at, by decide, by decide, ?_⟩
      refine ⟨[1, 0], (setI_at newI_at), by decide, by decide, ?_⟩
      refine hC _ _ _ (use (wpd.up (by omega) (cofX (d := 0) (g := g6a) (bys := [1, 2]) (s := 2) (L := [(gt O, 1), (gt Y, 2)]) (most := m) (t := m) ((ext_newI.setI (Nat.le_refl _)).setI (Nat.le_refl _)) (by exact z6) (by exact (setI_at (setI_at newI_at))) (by omega) (cRow_cons rfl ((p6 _ (by omega)).1.trans iOb) lO rfl (by decide) (cRow_cons rfl ((p6 _ (by omega)).1.trans iY) lY rfl (by decide) (cRow_nil rfl))) (by intro a ha; simp at ha; omega) (by simp) (by omega))) ?_)
      rintro _ g6 ⟨rfl, f6⟩
      have t6 := e6.trans f6
      have m6 := t6.1
      have Fx6 := (t6.2.2.2.2.1 x (by omega)).2.2.trans Fb
      have iR6 := (t6.2.2.2.2.1 (x + 3) (by omega)).1.trans iRb
      have iF6 := (t6.2.2.2.2.1 (x + 4) (by omega)).1.trans iFb
      have iO6 := (t6.2.2.2.2.1 (x + 5) (by omega)).1.trans iOb
      refine ⟨_, iO6, by omega, by omega, ?_⟩
      rw [Int.toNat_natCast, E6, v3]
      refine hW _ (nxt0 _ _ _ _ _ Fx6 ((setI_ne (by omega)).trans iR6) ((setI_ne (by omega)).trans iF6) (setI_at iO6) rfl rfl rfl ?_)
      have u1 : chg (cM x) (12 * (41 - (j + 1)) + (1 + 1 + (1 + 1) + (1 + 1))) (24 * (41 - (j + 1)) + (3 + 3 + (2 + 2) + (1 + 1))) h g3 := hg.trans ((t1.trans t2).trans t3).chg (fun v _ w => w)
      have u2 := u1.setI (a := x + 3) (x := R.set (m + 1) (cR (m + 1))) (Or.inl (Or.inr (Or.inl rfl)))
      rw [← hG1] at u2
      have u3 := (u2.trans (t4.trans t5).chg (fun v _ w => w)).setI (a := x + 4) (x := F.set (m + 1) (cF (m + 1))) (Or.inl (Or.inr (Or.inr (Or.inl rfl))))
      rw [← hG2] at u3
      exact ((u3.trans t6.chg (fun v _ w => w)).more (fun v w => w) (by omega) (by omega)).setI (Or.inl (Or.inr (Or.inr (Or.inr rfl))))
theorem claysTo_spec (hx : x + 87 < h.sz) {n : Nat} (hn : n ≤ 40) {ld : Int} (hF : h.F x = (1, flC x ld nw wh nm tp)) (hC : cntC h x ld) : wp (d + 8) 175 (0, ent 4 [vR (some x), vI ((n : Nat) : Int)], [], h) (fun r h' => r = .inl none ∧ ∃ ld', ((n : Nat) : Int) ≤ ld' ∧ h'.F x = (1, flC x ld' nw wh nm tp) ∧ cntC h' x ld' ∧ chg (cM x) 492 984 h h') := by
  have := clays_cnt (d := d) hx hn 41 h ld (Nat.le_refl _) (by have := hC.1; omega) hF hC (chg.refl.more (fun v w => w) (by omega) (by omega)) none none
  exact this
theorem cone1_spec {q : Nat} {ld : Int} (hx : x + 87 < h.sz) (hF : h.F x = (1, flC x ld nw wh nm tp)) {R : List Int} (iR0 : h.I (x + 3) = (2, R)) (lR : R.length = 41) {t m : Nat} (ht : t ≤ 40) (hm : m ≤ 40) : wp (d + 7) 256 (0, ent 5 [vR (some q), vR (some x), vI ((t : Nat) : Int), vI ((m : Nat) : Int)], [], h) (fun r h' => r = .inl (some (vL (ldiv (w64 (pZ m [(gt R, 1), (gt R, 1), (gt R, 1), (gt R, 1)] t + 6 * pZ m [(gt R, 1), (gt R, 1), (gt R, 2)] t + 3 * pZ m [(gt R, 2), (gt R, 2)] t + 8 * pZ m [(gt R, 1), (gt R, 3)] t + 6 * pZ m [(gt R, 4)] t)) 24))) ∧ ext 10 24 h h') := by
  refine wp.go [] 220 fun W C hW hC => ?_
  refine ⟨_, _, _, _, hF, rfl, rfl, ?_⟩
  refine ⟨by decide, by decide, ?_⟩
  refine ⟨7, [none, none, none, none], newR_at, by decide, by decide, by decide, (by simp), iskL iR0, fun q => (by cases q), ?_⟩
  refine ⟨7, [some (x + 3), none, none, none], (setR_at newR_at), by decide, by decide, by decide, (by simp), iskL iR0, fun q => (by cases q), ?_⟩
  refine ⟨7, [some (x + 3), some (x + 3), none, none], (setR_at (setR_at newR_at)), by decide, by decide, by decide, (by simp), iskL iR0, fun q => (by cases q), ?_⟩
  refine ⟨7, [some (x + 3), some (x + 3), some (x + 3), none], (setR_at (setR_at (setR_at newR_at))), by decide, by decide, by decide, (by simp), iskL iR0, fun q => (by cases q), ?_⟩
  refine hC _ _ _ (use (wpd.up (by omega) (rowX (d := 0) (g := h) (refs := [some (x + 3), some (x + 3), some (x + 3), some (x + 3)]) (s := 4) (setR_at (setR_at (setR_at (setR_at newR_at)))) ((((ext_newR.setR (Nat.le_refl _)).setR (Nat.le_refl _)).setR (Nat.le_refl _)).setR (Nat.le_refl _)))) ?_)
  rintro _ g1a ⟨rfl, z1, e1⟩
  have n1 := e1.1
  have p1 := e1.2.2.2.2.1
  refine ⟨by decide, by decide, ?_⟩
  refine ⟨[0, 0, 0, 0], newI_at, by decide, by decide, ?_⟩
  refine ⟨[1, 0, 0, 0], (setI_at newI_at), by decide, by decide, ?_⟩
  refine ⟨[1, 1, 0, 0], (setI_at (setI_at newI_at)), by decide, by decide, ?_⟩
  refine ⟨[1, 1, 1, 0], (setI_at (setI_at (setI_at newI_at))), by decide, by decide, ?_⟩
  refine hC _ _ _ (use (wpd.up (by omega) (cofX (d := 0) (g := g1a) (bys := [1, 1, 1, 1]) (s := 4) (L := [(gt R, 1), (gt R, 1), (gt R, 1), (gt R, 1)]) (most := m) (t := t) ((((ext_newI.setI (Nat.le_refl _)).setI (Nat.le_refl _)).setI (Nat.le_refl _)).setI (Nat.le_refl _)) (by exact z1) (by exact (setI_at (setI_at (setI_at (setI_at newI_at))))) hm (cRow_cons rfl ((p1 _ (by omega)).1.trans iR0) lR rfl (by decide) (cRow_cons rfl ((p1 _ (by omega)).1.trans iR0) lR rfl (by decide) (cRow_cons rfl ((p1 _ (by omega)).1.trans iR0) lR rfl (by decide) (cRow_cons rfl ((p1 _ (by omega)).1.trans iR0) lR rfl (by decide) (cRow_nil rfl))))) (by intro a ha; simp at ha; omega) (by simp) (by omega))) ?_)
  rintro _ g1 ⟨rfl, f1⟩
  have t1 := e1.trans f1
  have m1 := t1.1
  have Fx1 := (t1.2.2.2.2.1 x (by omega)).2.2.trans hF
  have iR1 := (t1.2.2.2.2.1 (x + 3) (by omega)).1.trans iR0
  refine ⟨by decide, by decide, ?_⟩
  refine ⟨7, [none, none, none], newR_at, by decide, by decide, by decide, (by simp), iskL iR1, fun q => (by cases q), ?_⟩
  refine ⟨7, [some (x + 3), none, none], (setR_at newR_at), by decide, by decide, by decide, (by simp), iskL iR1, fun q => (by cases q), ?_⟩
  refine ⟨7, [some (x + 3), some (x + 3), none], (setR_at (setR_at newR_at)), by decide, by decide, by decide, (by simp), iskL iR1, fun q => (by cases q), ?_⟩
  refine hC _ _ _ (use (wpd.up (by omega) (rowX (d := 0) (g := g1) (refs := [some (x + 3), some (x + 3), some (x + 3)]) (s := 3) (setR_at (setR_at (setR_at newR_at))) (((ext_newR.setR (Nat.le_refl _)).setR (Nat.le_refl _)).setR (Nat.le_refl _)))) ?_)
  rintro _ g2a ⟨rfl, z2, e2⟩
  have n2 := e2.1
  have p2 := e2.2.2.2.2.1
  refine ⟨by decide, by decide, ?_⟩
  refine ⟨[0, 0, 0], newI_at, by decide, by decide, ?_⟩
  refine ⟨[1, 0, 0], (setI_at newI_at), by decide, by decide, ?_⟩
  refine ⟨[1, 1, 0], (setI_at (setI_at newI_at)), by decide, by decide, ?_⟩
  refine hC _ _ _ (use (wpd.up (by omega) (cofX (d := 0) (g := g2a) (bys := [1, 1, 2]) (s := 3) (L := [(gt R, 1), (gt R, 1), (gt R, 2)]) (most := m) (t := t) (((ext_newI.setI (Nat.le_refl _)).setI (Nat.le_refl _)).setI (Nat.le_refl _)) (by exact z2) (by exact (setI_at (setI_at (setI_at newI_at)))) hm (cRow_cons rfl ((p2 _ (by omega)).1.trans iR1) lR rfl (by decide) (cRow_cons rfl ((p2 _ (by omega)).1.trans iR1) lR rfl (by decide) (cRow_cons rfl ((p2 _ (by omega)).1.trans iR1) lR rfl (by decide) (cRow_nil rfl)))) (by intro a ha; simp at ha; omega) (by simp) (by omega))) ?_)
  rintro _ g2 ⟨rfl, f2⟩
  have t2 := e2.trans f2
  have m2 := t2.1
  have Fx2 := (t2.2.2.2.2.1 x (by omega)).2.2.trans Fx1
  have iR2 := (t2.2.2.2.2.1 (x + 3) (by omega)).1.trans iR1
  refine ⟨by decide, by decide, ?_⟩
  refine ⟨7, [none, none], newR_at, by decide, by decide, by decide, (by simp), iskL iR2, fun q => (by cases q), ?_⟩
  refine ⟨7, [some (x + 3), none], (setR_at newR_at), by decide, by decide, by decide, (by simp), iskL iR2, fun q => (by cases q), ?_⟩
  refine hC _ _ _ (use (wpd.up (by omega) (rowX (d := 0) (g := g2) (refs := [some (x + 3), some (x + 3)]) (s := 2) (setR_at (setR_at newR_at)) ((ext_newR.setR (Nat.le_refl _)).setR (Nat.le_refl _)))) ?_)
  rintro _ g3a ⟨rfl, z3, e3⟩
  have n3 := e3.1
  have p3 := e3.2.2.2.2.1
  refine ⟨by decide, by decide, ?_⟩
  refine ⟨[0, 0], newI_at, by decide, by decide, ?_⟩
  refine ⟨[2, 0], (setI_at newI_at), by decide, by decide, ?_⟩
  refine hC _ _ _ (use (wpd.up (by omega) (cofX (d := 0) (g := g3a) (bys := [2, 2]) (s := 2) (L := [(gt R, 2), (gt R, 2)]) (most := m) (t := t) ((ext_newI.setI (Nat.le_refl _)).setI (Nat.le_refl _)) (by exact z3) (by exact (setI_at (setI_at newI_at))) hm (cRow_cons rfl ((p3 _ (by omega)).1.trans iR2) lR rfl (by decide) (cRow_cons rfl ((p3 _ (by omega)).1.trans iR2) lR rfl (by decide) (cRow_nil rfl))) (by intro a ha; simp at ha; omega) (by simp) (by omega))) ?_)
  rintro _ g3 ⟨rfl, f3⟩
  have t3 := e3.trans f3
  have m3 := t3.1
  have Fx3 := (t3.2.2.2.2.1 x (by omega)).2.2.trans Fx2
  have iR3 := (t3.2.2.2.2.1 (x + 3) (by omega)).1.trans iR2
  refine ⟨by decide, by decide, ?_⟩
  refine ⟨7, [none, none], newR_at, by decide, by decide, by decide, (by simp), iskL iR3, fun q => (by cases q), ?_⟩
  refine ⟨7, [some (x + 3), none], (setR_at newR_at), by decide, by decide, by decide, (by simp), iskL iR3, fun q => (by cases q), ?_⟩
  refine hC _ _ _ (use (wpd.up (by omega) (rowX (d := 0) (g := g3) (refs := [some (x + 3), some (x + 3)]) (s := 2) (setR_at (setR_at newR_at)) ((ext_newR.setR (Nat.le_refl _)).setR (Nat.le_refl _)))) ?_)
  rintro _ g4a ⟨rfl, z4, e4⟩
  have n4 := e4.1
  have p4 := e4.2.2.2.2.1
  refine ⟨by decide, by decide, ?_⟩
  refine ⟨[0, 0], newI_at, by decide, by decide, ?_⟩
  refine ⟨[1, 0], (setI_at newI_at), by decide, by decide, ?_⟩
  refine hC _ _ _ (use (wpd.up (by omega) (cofX (d := 0) (g := g4a) (bys := [1, 3]) (s := 2) (L := [(gt R, 1), (gt R, 3)]) (most := m) (t := t) ((ext_newI.setI (Nat.le_refl _)).setI (Nat.le_refl _)) (by exact z4) (by exact (setI_at (setI_at newI_at))) hm (cRow_cons rfl ((p4 _ (by omega)).1.trans iR3) lR rfl (by decide) (cRow_cons rfl ((p4 _ (by omega)).1.trans iR3) lR rfl (by decide) (cRow_nil rfl))) (by intro a ha; simp at ha; omega) (by simp) (by omega))) ?_)
  rintro _ g4 ⟨rfl, f4⟩
  have t4 := e4.trans f4
  have m4 := t4.1
  have Fx4 := (t4.2.2.2.2.1 x (by omega)).2.2.trans Fx3
  have iR4 := (t4.2.2.2.2.1 (x + 3) (by omega)).1.trans iR3
  refine ⟨by decide, by decide, ?_⟩
  refine ⟨7, [none], newR_at, by decide, by decide, by decide, (by simp), iskL iR4, fun q => (by cases q), ?_⟩
  refine hC _ _ _ (use (wpd.up (by omega) (rowX (d := 0) (g := g4) (refs := [some (x + 3)]) (s := 1) (setR_at newR_at) (ext_newR.setR (Nat.le_refl _)))) ?_)
  rintro _ g5a ⟨rfl, z5, e5⟩
  have n5 := e5.1
  have p5 := e5.2.2.2.2.1
  refine ⟨by decide, by decide, ?_⟩
  refine ⟨[0], newI_at, by decide, by decide, ?_⟩
  refine hC _ _ _ (use (wpd.up (by omega) (cofX (d := 0) (g := g5a) (bys := [4]) (s := 1) (L := [(gt R, 4)]) (most := m) (t := t) (ext_newI.setI (Nat.le_refl _)) (by exact z5) (by exact (setI_at newI_at)) hm (cRow_cons rfl ((p5 _ (by omega)).1.trans iR4) lR rfl (by decide) (cRow_nil rfl)) (by intro a ha; simp at ha; omega) (by simp) (by omega))) ?_)
  rintro _ g5 ⟨rfl, f5⟩
  have t5 := e5.trans f5
  have m5 := t5.1
  refine ⟨by decide, ?_⟩
  conv => whnf
  simp only [lmul_w, ladd_w, w_mul_l, w_mul_r, w_add_l, w_add_r]
  exact ⟨by first | trivial | rfl, ((((t1.trans t2).trans t3).trans t4).trans t5).more (by omega) (by omega)⟩
theorem cone2_spec {q : Nat} {ld : Int} (hx : x + 87 < h.sz) (hF : h.F x = (1, flC x ld nw wh nm tp)) {F : List Int} (iF0 : h.I (x + 4) = (2, F)) (lF : F.length = 41) {t m : Nat} (ht : t ≤ 40) (hm : m ≤ 40) : wp (d + 7) 258 (0, ent 5 [vR (some q), vR (some x), vI ((t : Nat) : Int), vI ((m : Nat) : Int)], [], h) (fun r h' => r = .inl (some (vL (ldiv (w64 (pZ m [(gt F, 1), (gt F, 1), (gt F, 1), (gt F, 1)] t + 3 * pZ m [(gt F, 2), (gt F, 2)] t + 8 * pZ m [(gt F, 1), (gt F, 3)] t)) 12))) ∧ ext 10 24 h h') := by
  refine wp.go [] 220 fun W C hW hC => ?_
  refine ⟨_, _, _, _, hF, rfl, rfl, ?_⟩
  refine ⟨by decide, by decide, ?_⟩
  refine ⟨7, [none, none, none, none], newR_at, by decide, by decide, by decide, (by simp), iskL iF0, fun q => (by cases q), ?_⟩
  refine ⟨7, [some (x + 4), none, none, none], (setR_at newR_at), by decide, by decide, by decide, (by simp), iskL iF0, fun q => (by cases q), ?_⟩
  refine ⟨7, [some (x + 4), some (x + 4), none, none], (setR_at (setR_at newR_at)), by decide, by decide, by decide, (by simp), iskL iF0, fun q => (by cases q), ?_⟩
  refine ⟨7, [some (x + 4), some (x + 4), some (x + 4), none], (setR_at (setR_at (setR_at newR_at))), by decide, by decide, by decide, (by simp), iskL iF0, fun q => (by cases q), ?_⟩
  refine hC _ _ _ (use (wpd.up (by omega) (rowX (d := 0) (g := h) (refs := [some (x + 4), some (x + 4), some (x + 4), some (x + 4)]) (s := 4) (setR_at (setR_at (setR_at (setR_at newR_at)))) ((((ext_newR.setR (Nat.le_refl _)).setR (Nat.le_refl _)).setR (Nat.le_refl _)).setR (Nat.le_refl _)))) ?_)
  rintro _ g1a ⟨rfl, z1, e1⟩
  have n1 := e1.1
  have p1 := e1.2.2.2.2.1
  refine ⟨by decide, by decide, ?_⟩
  refine ⟨[0, 0, 0, 0], newI_at, by decide, by decide, ?_⟩
  refine ⟨[1, 0, 0, 0], (setI_at newI_at), by decide, by decide, ?_⟩
  refine ⟨[1, 1, 0, 0], (setI_at (setI_at newI_at)), by decide, by decide, ?_⟩
  refine ⟨[1, 1, 1, 0], (setI_at (setI_at (setI_at newI_at))), by decide, by decide, ?_⟩
  refine hC _ _ _ (use (wpd.up (by omega) (cofX (d := 0) (g := g1a) (bys := [1, 1, 1, 1]) (s := 4) (L := [(gt F, 1), (gt F, 1), (gt F, 1), (gt F, 1)]) (most := m) (t := t) ((((ext_newI.setI (Nat.le_refl _)).setI (Nat.le_refl _)).setI (Nat.le_refl _)).setI (Nat.le_refl _)) (by exact z1) (by exact (setI_at (setI_at (setI_at (setI_at newI_at))))) hm (cRow_cons rfl ((p1 _ (by omega)).1.trans iF0) lF rfl (by decide) (cRow_cons rfl ((p1 _ (by omega)).1.trans iF0) lF rfl (by decide) (cRow_cons rfl ((p1 _ (by omega)).1.trans iF0) lF rfl (by decide) (cRow_cons rfl ((p1 _ (by omega)).1.trans iF0) lF rfl (by decide) (cRow_nil rfl))))) (by intro a ha; simp at ha; omega) (by simp) (by omega))) ?_)
  rintro _ g1 ⟨rfl, f1⟩
  have t1 := e1.trans f1
  have m1 := t1.1
  have Fx1 := (t1.2.2.2.2.1 x (by omega)).2.2.trans hF
  have iF1 := (t1.2.2.2.2.1 (x + 4) (by omega)).1.trans iF0
  refine ⟨by decide, by decide, ?_⟩
  refine ⟨7, [none, none], newR_at, by decide, by decide, by decide, (by simp), iskL iF1, fun q => (by cases q), ?_⟩
  refine ⟨7, [some (x + 4), none], (setR_at newR_at), by decide, by decide, by decide, (by simp), iskL iF1, fun q => (by cases q), ?_⟩
  refine hC _ _ _ (use (wpd.up (by omega) (rowX (d := 0) (g := g1) (refs := [some (x + 4), some (x + 4)]) (s := 2) (setR_at (setR_at newR_at)) ((ext_newR.setR (Nat.le_refl _)).setR (Nat.le_refl _)))) ?_)
  rintro _ g2a ⟨rfl, z2, e2⟩
  have n2 := e2.1
  have p2 := e2.2.2.2.2.1
  refine ⟨by decide, by decide, ?_⟩
  refine ⟨[0, 0], newI_at, by decide, by decide, ?_⟩
  refine ⟨[2, 0], (setI_at newI_at), by decide, by decide, ?_⟩
  refine hC _ _ _ (use (wpd.up (by omega) (cofX (d := 0) (g := g2a) (bys := [2, 2]) (s := 2) (L := [(gt F, 2), (gt F, 2)]) (most := m) (t := t) ((ext_newI.setI (Nat.le_refl _)).setI (Nat.le_refl _)) (by exact z2) (by exact (setI_at (setI_at newI_at))) hm (cRow_cons rfl ((p2 _ (by omega)).1.trans iF1) lF rfl (by decide) (cRow_cons rfl ((p2 _ (by omega)).1.trans iF1) lF rfl (by decide) (cRow_nil rfl))) (by intro a ha; simp at ha; omega) (by simp) (by omega))) ?_)
  rintro _ g2 ⟨rfl, f2⟩
  have t2 := e2.trans f2
  have m2 := t2.1
  have Fx2 := (t2.2.2.2.2.1 x (by omega)).2.2.trans Fx1
  have iF2 := (t2.2.2.2.2.1 (x + 4) (by omega)).1.trans iF1
  refine ⟨by decide, by decide, ?_⟩
  refine ⟨7, [none, none], newR_at, by decide, by decide, by decide, (by simp), iskL iF2, fun q => (by cases q), ?_⟩
  refine ⟨7, [some (x + 4), none], (setR_at newR_at), by decide, by decide, by decide, (by simp), iskL iF2, fun q => (by cases q), ?_⟩
  refine hC _ _ _ (use (wpd.up (by omega) (rowX (d := 0) (g := g2) (refs := [some (x + 4), some (x + 4)]) (s := 2) (setR_at (setR_at newR_at)) ((ext_newR.setR (Nat.le_refl _)).setR (Nat.le_refl _)))) ?_)
  rintro _ g3a ⟨rfl, z3, e3⟩
  have n3 := e3.1
  have p3 := e3.2.2.2.2.1
  refine ⟨by decide, by decide, ?_⟩
  refine ⟨[0, 0], newI_at, by decide, by decide, ?_⟩
  refine ⟨[1, 0], (setI_at newI_at), by decide, by decide, ?_⟩
  refine hC _ _ _ (use (wpd.up (by omega) (cofX (d := 0) (g := g3a) (bys := [1, 3]) (s := 2) (L := [(gt F, 1), (gt F, 3)]) (most := m) (t := t) ((ext_newI.setI (Nat.le_refl _)).setI (Nat.le_refl _)) (by exact z3) (by exact (setI_at (setI_at newI_at))) hm (cRow_cons rfl ((p3 _ (by omega)).1.trans iF2) lF rfl (by decide) (cRow_cons rfl ((p3 _ (by omega)).1.trans iF2) lF rfl (by decide) (cRow_nil rfl))) (by intro a ha; simp at ha; omega) (by simp) (by omega))) ?_)
  rintro _ g3 ⟨rfl, f3⟩
  have t3 := e3.trans f3
  have m3 := t3.1
  refine ⟨by decide, ?_⟩
  conv => whnf
  simp only [lmul_w, ladd_w, w_mul_l, w_mul_r, w_add_l, w_add_r]
  exact ⟨by first | trivial | rfl, ((t1.trans t2).trans t3).more (by omega) (by omega)⟩
theorem cone3_spec {q : Nat} {ld : Int} (hx : x + 87 < h.sz) (hF : h.F x = (1, flC x ld nw wh nm tp)) {F : List Int} (iF0 : h.I (x + 4) = (2, F)) (lF : F.length = 41) {O : List Int} (iO0 : h.I (x + 5) = (2, O)) (lO : O.length = 41) {t m : Nat} (ht : t ≤ 40) (hm : m ≤ 40) : wp (d + 7) 260 (0, ent 4 [vR (some q), vR (some x), vI ((t : Nat) : Int), vI ((m : Nat) : Int)], [], h) (fun r h' => r = .inl (some (vL (ldiv (w64 (pZ m [(gt O, 1), (gt O, 1), (gt F, 2)] t + pZ m [(gt F, 4)] t)) 2))) ∧ ext 10 24 h h') := by
  refine wp.go [] 220 fun W C hW hC => ?_
  refine ⟨by decide, by decide, ?_⟩
  refine ⟨_, _, _, _, hF, rfl, rfl, ?_⟩
  refine ⟨7, [none, none, none], newR_at, by decide, by decide, by decide, (by simp), iskL iO0, fun q => (by cases q), ?_⟩
  refine ⟨_, _, _, _, hF, rfl, rfl, ?_⟩
  refine ⟨7, [some (x + 5), none, none], (setR_at newR_at), by decide, by decide, by decide, (by simp), iskL iO0, fun q => (by cases q), ?_⟩
  refine ⟨_, _, _, _, hF, rfl, rfl, ?_⟩
  refine ⟨7, [some (x + 5), some (x + 5), none], (setR_at (setR_at newR_at)), by decide, by decide, by decide, (by simp), iskL iF0, fun q => (by cases q), ?_⟩
  refine hC _ _ _ (use (wpd.up (by omega) (rowX (d := 0) (g := h) (refs := [some (x + 5), some (x + 5), some (x + 4)]) (s := 3) (setR_at (setR_at (setR_at newR_at))) (((ext_newR.setR (Nat.le_refl _)).setR (Nat.le_refl _)).setR (Nat.le_refl _)))) ?_)
  rintro _ g1a ⟨rfl, z1, e1⟩
  have n1 := e1.1
  have p1 := e1.2.2.2.2.1
  refine ⟨by decide, by decide, ?_⟩
  refine ⟨[0, 0, 0], newI_at, by decide, by decide, ?_⟩
  refine ⟨[1, 0, 0], (setI_at newI_at), by decide, by decide, ?_⟩
  refine ⟨[1, 1, 0], (setI_at (setI_at newI_at)), by decide, by decide, ?_⟩
  refine hC _ _ _ (use (wpd.up (by omega) (cofX (d := 0) (g := g1a) (bys := [1, 1, 2]) (s := 3) (L := [(gt O, 1), (gt O, 1), (gt F, 2)]) (most := m) (t := t) (((ext_newI.setI (Nat.le_refl _)).setI (Nat.le_refl _)).setI (Nat.le_refl _)) (by exact z1) (by exact (setI_at (setI_at (setI_at newI_at)))) hm (cRow_cons rfl ((p1 _ (by omega)).1.trans iO0) lO rfl (by decide) (cRow_cons rfl ((p1 _ (by omega)).1.trans iO0) lO rfl (by decide) (cRow_cons rfl ((p1 _ (by omega)).1.trans iF0) lF rfl (by decide) (cRow_nil rfl)))) (by intro a ha; simp at ha; omega) (by simp) (by omega))) ?_)
  rintro _ g1 ⟨rfl, f1⟩
  have t1 := e1.trans f1
  have m1 := t1.1
  have Fx1 := (t1.2.2.2.2.1 x (by omega)).2.2.trans hF
  have iF1 := (t1.2.2.2.2.1 (x + 4) (by omega)).1.trans iF0
  have iO1 := (t1.2.2.2.2.1 (x + 5) (by omega)).1.trans iO0
  refine ⟨by decide, by decide, ?_⟩
  refine ⟨_, _, _, _, Fx1, rfl, rfl, ?_⟩
  refine ⟨7, [none], newR_at, by decide, by decide, by decide, (by simp), iskL iF1, fun q => (by cases q), ?_⟩
  refine hC _ _ _ (use (wpd.up (by omega) (rowX (d := 0) (g := g1) (refs := [some (x + 4)]) (s := 1) (setR_at newR_at) (ext_newR.setR (Nat.le_refl _)))) ?_)
  rintro _ g2a ⟨rfl, z2, e2⟩
  have n2 := e2.1
  have p2 := e2.2.2.2.2.1
  refine ⟨by decide, by decide, ?_⟩
  refine ⟨[0], newI_at, by decide, by decide, ?_⟩
  refine hC _ _ _ (use (wpd.up (by omega) (cofX (d := 0) (g := g2a) (bys := [4]) (s := 1) (L := [(gt F, 4)]) (most := m) (t := t) (ext_newI.setI (Nat.le_refl _)) (by exact z2) (by exact (setI_at newI_at)) hm (cRow_cons rfl ((p2 _ (by omega)).1.trans iF1) lF rfl (by decide) (cRow_nil rfl)) (by intro a ha; simp at ha; omega) (by simp) (by omega))) ?_)
  rintro _ g2 ⟨rfl, f2⟩
  have t2 := e2.trans f2
  have m2 := t2.1
  refine ⟨by decide, ?_⟩
  conv => whnf
  simp only [lmul_w, ladd_w, w_mul_l, w_mul_r, w_add_l, w_add_r]
  exact ⟨by first | trivial | rfl, (t1.trans t2).more (by omega) (by omega)⟩
theorem ctwo1_spec {q : Nat} {ld : Int} (hF : h.F x = (1, flC x ld nw wh nm tp)) {R : List Int} (iR0 : h.I (x + 3) = (2, R)) (lR : R.length = 41) {b : Nat} (hb : b ≤ 40) : wp (d + 1) 257 (0, ent 3 [vR (some q), vR (some x), vI ((b : Nat) : Int)], [], h) (givesL h (ldiv (w64 (gt R b * (gt R b + 1))) 2)) := by
  refine wp.go [] 60 fun W C hW hC => ?_
  refine ⟨_, _, _, _, hF, rfl, rfl, ?_⟩
  refine ⟨_, _, _, iR0, rfl, by omega, gt_at b (by omega) (by omega), ?_⟩
  refine ⟨_, _, _, _, hF, rfl, rfl, ?_⟩
  refine ⟨_, _, _, iR0, rfl, by omega, gt_at b (by omega) (by omega), ?_⟩
  refine ⟨by decide, ?_⟩
  conv => whnf
  simp only [lmul_w, ladd_w, w_mul_l, w_mul_r, w_add_l, w_add_r]
  exact ⟨by first | trivial | rfl, by first | trivial | rfl⟩
theorem ctwo2_spec {q : Nat} {ld : Int} (hF : h.F x = (1, flC x ld nw wh nm tp)) {F : List Int} (iF0 : h.I (x + 4) = (2, F)) (lF : F.length = 41) {b : Nat} (hb : b ≤ 40) : wp (d + 1) 259 (0, ent 3 [vR (some q), vR (some x), vI ((b : Nat) : Int)], [], h) (givesL h (ldiv (w64 (gt F b * (gt F b + 1))) 2)) := by
  refine wp.go [] 60 fun W C hW hC => ?_
  refine ⟨_, _, _, _, hF, rfl, rfl, ?_⟩
  refine ⟨_, _, _, iF0, rfl, by omega, gt_at b (by omega) (by omega), ?_⟩
  refine ⟨_, _, _, _, hF, rfl, rfl, ?_⟩
  refine ⟨_, _, _, iF0, rfl, by omega, gt_at b (by omega) (by omega), ?_⟩
  refine ⟨by decide, ?_⟩
  conv => whnf
  simp only [lmul_w, ladd_w, w_mul_l, w_mul_r, w_add_l, w_add_r]
  exact ⟨by first | trivial | rfl, by first | trivial | rfl⟩
theorem ctwo3_spec {q : Nat} {ld : Int} (hF : h.F x = (1, flC x ld nw wh nm tp)) {F : List Int} (iF0 : h.I (x + 4) = (2, F)) (lF : F.length = 41) {O : List Int} (iO0 : h.I (x + 5) = (2, O)) (lO : O.length = 41) {b : Nat} (hb : b ≤ 40) : wp (d + 1) 261 (0, ent 3 [vR (some q), vR (some x), vI ((b : Nat) : Int)], [], h) (givesL h (ldiv (w64 (gt O b * gt O b + gt F b)) 2)) := by
  refine wp.go [] 60 fun W C hW hC => ?_
  refine ⟨_, _, _, _, hF, rfl, rfl, ?_⟩
  refine ⟨_, _, _, iO0, rfl, by omega, gt_at b (by omega) (by omega), ?_⟩
  refine ⟨_, _, _, _, hF, rfl, rfl, ?_⟩
  refine ⟨_, _, _, iO0, rfl, by omega, gt_at b (by omega) (by omega), ?_⟩
  refine ⟨_, _, _, _, hF, rfl, rfl, ?_⟩
  refine ⟨_, _, _, iF0, rfl, by omega, gt_at b (by omega) (by omega), ?_⟩
  refine ⟨by decide, ?_⟩
  conv => whnf
  simp only [lmul_w, ladd_w, w_mul_l, w_mul_r, w_add_l, w_add_r]
  exact ⟨by first | trivial | rfl, by first | trivial | rfl⟩
end CLAYS
