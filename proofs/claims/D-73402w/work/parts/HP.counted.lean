/-! counted (printed by tools/mkHP.py) -/
theorem w64_ldiv {x y : Int} : w64 (ldiv x y) = ldiv x y := by unfold w64 ldiv; rw [Int64.ofInt_toInt]
abbrev cntN (h : AH) (x n : Nat) : Prop := ∃ R F O, h.I (x + 3) = (2, R) ∧ h.I (x + 4) = (2, F) ∧ h.I (x + 5) = (2, O) ∧ R.length = 41 ∧ F.length = 41 ∧ O.length = 41 ∧ ∀ i : Nat, i ≤ n → gt R i = cR i ∧ gt F i = cF i ∧ gt O i = cO i
theorem cntC.n {h : AH} {x n : Nat} {ld : Int} (k : cntC h x ld) (hn : ((n : Nat) : Int) ≤ ld) : cntN h x n := by
  obtain ⟨-, -, R, F, O, k1, k2, k3, k4, k5, k6, k7⟩ := k
  exact ⟨R, F, O, k1, k2, k3, k4, k5, k6, fun i hi => k7 i (by omega)⟩
theorem cntN.ext {h h' : AH} {x n c s : Nat} (k : cntN h x n) (hx : x + 87 < h.sz) (e : ext c s h h') : cntN h' x n := by
  obtain ⟨R, F, O, k1, k2, k3, k4⟩ := k
  have e5 := e.2.2.2.2.1
  exact ⟨R, F, O, (e5 _ (by omega)).1.trans k1, (e5 _ (by omega)).1.trans k2, (e5 _ (by omega)).1.trans k3, k4⟩
abbrev coH (hs : AH) : Prop := (∃ a, hs.S 8 = some a ∧ hs.F a = (221, [])) ∧ (∃ a, hs.S 9 = some a ∧ hs.F a = (222, [])) ∧ ∃ a, hs.S 10 = some a ∧ hs.F a = (223, [])
section COUNTED
variable {d x z u : Nat} {hs h : AH} {ld : Int} {nw : Nat} {wh nm : Option Nat} {tp ep : Nat} {S ST : AS} {fd : Nat → Nat → Bool}
theorem counted_asm {H : AH} {ld' : Int} {c s : Nat} (hwf : WF h) (b : Base h x ld nw wh nm tp ep S) (k : Cache hs h x ld ep fd) (T : Twn h x ST) (hg : chg (cM x) c s h H) (hF : H.F x = (1, flC x ld' nw wh nm tp)) (hK : cntC H x ld') :
    Base H x ld' nw wh nm tp ep S ∧ Cache hs H x ld' ep fd ∧ Twn H x ST ∧ cdN H x = cdN h x := by
  have hx := b.1
  have hep := b.2.2.2.1.1
  obtain ⟨g1, g2, g3, g4, g5, g6⟩ := hg
  have old : ∀ v, v < h.sz → ¬ cM x v → H.I v = h.I v ∧ H.R v = h.R v ∧ H.F v = h.F v := g6
  have nx : ∀ v, v < x ∨ x + 6 ≤ v → ¬ cM x v := fun v hv => by unfold cM; omega
  obtain ⟨c1, c2, c3, ⟨N, c4⟩, c5, c6⟩ := k
  obtain ⟨-, -, R, F, O, i1, i2, i3, -⟩ := id c3
  have t1 := ((hwf.2 x).2.2 (by rw [b.2.1]; exact ⟨by simp, by simp⟩)).2
  have t2 := ((hwf.2 (x + 3)).1 (by rw [i1]; exact ⟨by simp, by simp⟩)).1
  have t3 := ((hwf.2 (x + 4)).1 (by rw [i2]; exact ⟨by simp, by simp⟩)).1
  have t4 := ((hwf.2 (x + 5)).1 (by rw [i3]; exact ⟨by simp, by simp⟩)).1
  have R206 : ∀ v, v < h.sz → (h.R v).1 = 206 → H.R v = h.R v := fun v hv w => (old v hv (fun q => by
    rcases q with q | q | q | q
    · rw [q, t1] at w; cases w
    · rw [q, t2] at w; cases w
    · rw [q, t3] at w; cases w
    · rw [q, t4] at w; cases w)).2.1
  refine ⟨b.fw ⟨g1, g5, fun v hv hg => ?_⟩ hF, ?_, T.to (old _ (by omega) (nx _ (by omega))).2.2 (fun v v1 v2 => (old v (by omega) (nx _ (by omega))).1), congrArg (fun r => nnL r.2) (old (x + 2) (by omega) (by unfold cM; omega)).2.1⟩
  · have := old v hv (nx v (by rcases hg with q | q | q <;> omega))
    exact ⟨this.1, fun _ => this.2.1, fun _ => this.2.2⟩
  · refine ⟨c1.to g5 fun v hv => old v (by omega) (nx v (by omega)), ?_, hK, ⟨N, c4.to g1 g5 (old (x + 1) (by omega) (by unfold cM; omega)).2.2 (fun v v1 v2 => (old v v2 (nx v (by omega))).2.2) (fun v v1 v2 => ?_) (Or.inl rfl)⟩, c5.to g1 (old (x + 2) (by omega) (by unfold cM; omega)).2.1 (fun v v1 v2 _ => (old v v2 (nx v (by omega))).2.1) (fun v v1 v2 => (old v v2 (nx v (by omega))).1), c6.to g1 (fun v v1 v2 => (old v (by omega) (nx v (by omega))).2.1) (fun v v1 v2 => (old v v2 (nx v (by omega))).1)⟩
    · rcases c2 with q | q
      · exact Or.inl q
      · exact Or.inr (by rw [(old ep hep.1 (nx ep (by omega))).2.1]; exact q)
    · rcases v2 with q | q
      · exact (old v v1 (nx v (by omega))).2.1
      · exact R206 v v1 q

theorem all1_spec {q n : Nat} (hx : x + 87 < h.sz) (hF : h.F x = (1, flC x ld nw wh nm tp)) (hK : cntN h x n) (h1 : 1 ≤ n) (h40 : n ≤ 40) (hq : h.F q = (221, [])) (hqz : q < h.sz) : wp (d + 8) 255 (0, ent 3 [vR (some q), vR (some x), vI ((n : Nat) : Int)], [], h) (fun r h' => r = .inl (some (vL (skC n))) ∧ ext 10 24 h h') := by
  obtain ⟨R, F, O, k1, k2, k3, k4, k5, k6, k7⟩ := hK
  have E0 : pZ ((n - 1) / 2) [(gt R, 1), (gt R, 1), (gt R, 1), (gt R, 1)] (n - 1) = pZ ((n - 1) / 2) [(cR, 1), (cR, 1), (cR, 1), (cR, 1)] (n - 1) := pZ_congr (by exact ⟨⟨rfl, fun s hs => (k7 s (by omega)).1⟩, ⟨rfl, fun s hs => (k7 s (by omega)).1⟩, ⟨rfl, fun s hs => (k7 s (by omega)).1⟩, ⟨rfl, fun s hs => (k7 s (by omega)).1⟩, trivial⟩) _
  have E1 : pZ ((n - 1) / 2) [(gt R, 1), (gt R, 1), (gt R, 2)] (n - 1) = pZ ((n - 1) / 2) [(cR, 1), (cR, 1), (cR, 2)] (n - 1) := pZ_congr (by exact ⟨⟨rfl, fun s hs => (k7 s (by omega)).1⟩, ⟨rfl, fun s hs => (k7 s (by omega)).1⟩, ⟨rfl, fun s hs => (k7 s (by omega)).1⟩, trivial⟩) _
  have E2 : pZ ((n - 1) / 2) [(gt R, 2), (gt R, 2)] (n - 1) = pZ ((n - 1) / 2) [(cR, 2), (cR, 2)] (n - 1) := pZ_congr (by exact ⟨⟨rfl, fun s hs => (k7 s (by omega)).1⟩, ⟨rfl, fun s hs => (k7 s (by omega)).1⟩, trivial⟩) _
  have E3 : pZ ((n - 1) / 2) [(gt R, 1), (gt R, 3)] (n - 1) = pZ ((n - 1) / 2) [(cR, 1), (cR, 3)] (n - 1) := pZ_congr (by exact ⟨⟨rfl, fun s hs => (k7 s (by omega)).1⟩, ⟨rfl, fun s hs => (k7 s (by omega)).1⟩, trivial⟩) _
  have E4 : pZ ((n - 1) / 2) [(gt R, 4)] (n - 1) = pZ ((n - 1) / 2) [(cR, 4)] (n - 1) := pZ_congr (by exact ⟨⟨rfl, fun s hs => (k7 s (by omega)).1⟩, trivial⟩) _
  have hsum := cnt_sums (m := n - 1) (by omega)
  have call := cone1_spec (d := d) (t := n - 1) (m := (n - 1) / 2) (q := q) hx hF k1 k4 (by omega) (by omega)
  rw [E0, E1, E2, E3, E4, hsum.1] at call
  refine wp.go [] 60 fun W C0 hW hC => ?_
  refine ⟨by decide, ?_⟩
  conv => whnf
  rw [isub_eq (by omega), show ((n : Nat) : Int) - 1 = ((n - 1 : Nat) : Int) by omega, idiv_eq ⟨by omega, by omega⟩ ⟨by omega, by omega⟩, show ((n - 1 : Nat) : Int) / 2 = (((n - 1) / 2 : Nat) : Int) by omega]
  refine ⟨_, _, _, hq, rfl, ?_⟩
  refine hC _ _ _ (use call ?_)
  rintro _ g ⟨rfl, e⟩
  have e5 := e.2.2.2.2.1
  refine ⟨by decide, ?_⟩
  conv => whnf
  rw [irem_eq ⟨by omega, by omega⟩ ⟨by omega, by omega⟩]
  refine ⟨fun c => ?_, fun c => ?_⟩
  · conv => whnf
    rw [ladd_w, Int.add_zero, w64_ldiv]
    refine ⟨?_, e⟩
    unfold skC
    dsimp only
    rw [if_neg (show ¬ n % 2 = 0 by omega)]
  · refine ⟨by decide, ?_⟩
    conv => whnf
    rw [idiv_eq ⟨by omega, by omega⟩ ⟨by omega, by omega⟩, show ((n : Nat) : Int) / 2 = ((n / 2 : Nat) : Int) by omega]
    refine ⟨_, _, _, (e5 q hqz).2.2.trans hq, rfl, ?_⟩
    refine hC _ _ _ (useE (wpd.up (by omega) (ctwo1_spec (d := 0) (b := n / 2) (q := q) ((e5 x (by omega)).2.2.trans hF) ((e5 _ (by omega)).1.trans k1) k4 (by omega))) ?_)
    conv => whnf
    obtain ⟨v1, v2, v3⟩ := k7 (n / 2) (by omega)
    rw [ladd_w, v1]
    refine ⟨?_, e⟩
    unfold skC
    dsimp only
    rw [if_pos (show n % 2 = 0 by omega)]
theorem all2_spec {q n : Nat} (hx : x + 87 < h.sz) (hF : h.F x = (1, flC x ld nw wh nm tp)) (hK : cntN h x n) (h1 : 1 ≤ n) (h40 : n ≤ 40) (hq : h.F q = (222, [])) (hqz : q < h.sz) : wp (d + 8) 255 (0, ent 3 [vR (some q), vR (some x), vI ((n : Nat) : Int)], [], h) (fun r h' => r = .inl (some (vL (foC n))) ∧ ext 10 24 h h') := by
  obtain ⟨R, F, O, k1, k2, k3, k4, k5, k6, k7⟩ := hK
  have E0 : pZ ((n - 1) / 2) [(gt F, 1), (gt F, 1), (gt F, 1), (gt F, 1)] (n - 1) = pZ ((n - 1) / 2) [(cF, 1), (cF, 1), (cF, 1), (cF, 1)] (n - 1) := pZ_congr (by exact ⟨⟨rfl, fun s hs => (k7 s (by omega)).2.1⟩, ⟨rfl, fun s hs => (k7 s (by omega)).2.1⟩, ⟨rfl, fun s hs => (k7 s (by omega)).2.1⟩, ⟨rfl, fun s hs => (k7 s (by omega)).2.1⟩, trivial⟩) _
  have E1 : pZ ((n - 1) / 2) [(gt F, 2), (gt F, 2)] (n - 1) = pZ ((n - 1) / 2) [(cF, 2), (cF, 2)] (n - 1) := pZ_congr (by exact ⟨⟨rfl, fun s hs => (k7 s (by omega)).2.1⟩, ⟨rfl, fun s hs => (k7 s (by omega)).2.1⟩, trivial⟩) _
  have E2 : pZ ((n - 1) / 2) [(gt F, 1), (gt F, 3)] (n - 1) = pZ ((n - 1) / 2) [(cF, 1), (cF, 3)] (n - 1) := pZ_congr (by exact ⟨⟨rfl, fun s hs => (k7 s (by omega)).2.1⟩, ⟨rfl, fun s hs => (k7 s (by omega)).2.1⟩, trivial⟩) _
  have hsum := cnt_sums (m := n - 1) (by omega)
  have call := cone2_spec (d := d) (t := n - 1) (m := (n - 1) / 2) (q := q) hx hF k2 k5 (by omega) (by omega)
  rw [E0, E1, E2, hsum.2.1] at call
  refine wp.go [] 60 fun W C0 hW hC => ?_
  refine ⟨by decide, ?_⟩
  conv => whnf
  rw [isub_eq (by omega), show ((n : Nat) : Int) - 1 = ((n - 1 : Nat) : Int) by omega, idiv_eq ⟨by omega, by omega⟩ ⟨by omega, by omega⟩, show ((n - 1 : Nat) : Int) / 2 = (((n - 1) / 2 : Nat) : Int) by omega]
  refine ⟨_, _, _, hq, rfl, ?_⟩
  refine hC _ _ _ (use call ?_)
  rintro _ g ⟨rfl, e⟩
  have e5 := e.2.2.2.2.1
  refine ⟨by decide, ?_⟩
  conv => whnf
  rw [irem_eq ⟨by omega, by omega⟩ ⟨by omega, by omega⟩]
  refine ⟨fun c => ?_, fun c => ?_⟩
  · conv => whnf
    rw [ladd_w, Int.add_zero, w64_ldiv]
    refine ⟨?_, e⟩
    unfold foC
    dsimp only
    rw [if_neg (show ¬ n % 2 = 0 by omega)]
  · refine ⟨by decide, ?_⟩
    conv => whnf
    rw [idiv_eq ⟨by omega, by omega⟩ ⟨by omega, by omega⟩, show ((n : Nat) : Int) / 2 = ((n / 2 : Nat) : Int) by omega]
    refine ⟨_, _, _, (e5 q hqz).2.2.trans hq, rfl, ?_⟩
    refine hC _ _ _ (useE (wpd.up (by omega) (ctwo2_spec (d := 0) (b := n / 2) (q := q) ((e5 x (by omega)).2.2.trans hF) ((e5 _ (by omega)).1.trans k2) k5 (by omega))) ?_)
    conv => whnf
    obtain ⟨v1, v2, v3⟩ := k7 (n / 2) (by omega)
    rw [ladd_w, v2]
    refine ⟨?_, e⟩
    unfold foC
    dsimp only
    rw [if_pos (show n % 2 = 0 by omega)]
theorem all3_spec {q n : Nat} (hx : x + 87 < h.sz) (hF : h.F x = (1, flC x ld nw wh nm tp)) (hK : cntN h x n) (h1 : 1 ≤ n) (h40 : n ≤ 40) (hq : h.F q = (223, [])) (hqz : q < h.sz) : wp (d + 8) 255 (0, ent 3 [vR (some q), vR (some x), vI ((n : Nat) : Int)], [], h) (fun r h' => r = .inl (some (vL (owC n))) ∧ ext 10 24 h h') := by
  obtain ⟨R, F, O, k1, k2, k3, k4, k5, k6, k7⟩ := hK
  have E0 : pZ ((n - 1) / 2) [(gt O, 1), (gt O, 1), (gt F, 2)] (n - 1) = pZ ((n - 1) / 2) [(cO, 1), (cO, 1), (cF, 2)] (n - 1) := pZ_congr (by exact ⟨⟨rfl, fun s hs => (k7 s (by omega)).2.2⟩, ⟨rfl, fun s hs => (k7 s (by omega)).2.2⟩, ⟨rfl, fun s hs => (k7 s (by omega)).2.1⟩, trivial⟩) _
  have E1 : pZ ((n - 1) / 2) [(gt F, 4)] (n - 1) = pZ ((n - 1) / 2) [(cF, 4)] (n - 1) := pZ_congr (by exact ⟨⟨rfl, fun s hs => (k7 s (by omega)).2.1⟩, trivial⟩) _
  have hsum := cnt_sums (m := n - 1) (by omega)
  have call := cone3_spec (d := d) (t := n - 1) (m := (n - 1) / 2) (q := q) hx hF k2 k5 k3 k6 (by omega) (by omega)
  rw [E0, E1, hsum.2.2] at call
  refine wp.go [] 60 fun W C0 hW hC => ?_
  refine ⟨by decide, ?_⟩
  conv => whnf
  rw [isub_eq (by omega), show ((n : Nat) : Int) - 1 = ((n - 1 : Nat) : Int) by omega, idiv_eq ⟨by omega, by omega⟩ ⟨by omega, by omega⟩, show ((n - 1 : Nat) : Int) / 2 = (((n - 1) / 2 : Nat) : Int) by omega]
  refine ⟨_, _, _, hq, rfl, ?_⟩
  refine hC _ _ _ (use call ?_)
  rintro _ g ⟨rfl, e⟩
  have e5 := e.2.2.2.2.1
  refine ⟨by decide, ?_⟩
  conv => whnf
  rw [irem_eq ⟨by omega, by omega⟩ ⟨by omega, by omega⟩]
  refine ⟨fun c => ?_, fun c => ?_⟩
  · conv => whnf
    rw [ladd_w, Int.add_zero, w64_ldiv]
    refine ⟨?_, e⟩
    unfold owC
    dsimp only
    rw [if_neg (show ¬ n % 2 = 0 by omega)]
  · refine ⟨by decide, ?_⟩
    conv => whnf
    rw [idiv_eq ⟨by omega, by omega⟩ ⟨by omega, by omega⟩, show ((n : Nat) : Int) / 2 = ((n / 2 : Nat) : Int) by omega]
    refine ⟨_, _, _, (e5 q hqz).2.2.trans hq, rfl, ?_⟩
    refine hC _ _ _ (useE (wpd.up (by omega) (ctwo3_spec (d := 0) (b := n / 2) (q := q) ((e5 x (by omega)).2.2.trans hF) ((e5 _ (by omega)).1.trans k2) k5 ((e5 _ (by omega)).1.trans k3) k6 (by omega))) ?_)
    conv => whnf
    obtain ⟨v1, v2, v3⟩ := k7 (n / 2) (by omega)
    rw [ladd_w, v2, v3]
    refine ⟨?_, e⟩
    unfold owC
    dsimp only
    rw [if_pos (show n % 2 = 0 by omega)]
theorem ccounted_spec (hwf0 : WF hs) (hco : coH hs) (b : Base h x ld nw wh nm tp ep S) (k : Cache hs h x ld ep fd) (T : Twn h x ST) {n w : Int} : wp (d + 20) 173 (0, ent 3 [vR (some x), vI n, vI w], [], h) (qEnd hs h x (vL (aCounted n w)) S ST 512 1032 (fun n => n = nm) fd) := by
  refine wpd.wf fun hwf => ?_
  have hwf : WF h := hwf
  have hx := b.1
  unfold aCounted
  refine wp.go [] 90 fun W C0 hW hC => ?_
  refine hC _ _ _ (useE (wpd.up (by omega) (in_spec (d := 0))) ?_)
  refine ⟨fun c => ?_, fun c => ?_⟩
  · rw [if_pos (Or.inl (b0.mp c))]
    exact ⟨rfl, ⟨nm, rfl, _, _, _, _, _, b, k, T⟩, by omega, by omega, by omega⟩
  · have c1 := b1.mp c
    refine hC _ _ _ (useE (wpd.up (by omega) (in_spec (d := 0))) ?_)
    refine ⟨fun c => ?_, fun c => ?_⟩
    · have c2 := b1.mp c
      rw [if_neg (by omega)]
      obtain ⟨m, rfl⟩ : ∃ m : Nat, n = ((m : Nat) : Int) := ⟨n.toNat, by omega⟩
      rw [Int.toNat_natCast]
      refine ⟨_, _, _, b.2.1, rfl, ?_⟩
      refine hC _ _ _ (use (wpd.up (by omega) (claysTo_spec (d := 0) (n := m) hx (by omega) b.2.1 k.2.2.1)) ?_)
      rintro _ H ⟨rfl, ld', l1, hF, hK, hg⟩
      obtain ⟨bH, kH, tH, cdH⟩ := counted_asm hwf b k T hg hF hK
      have hHx := bH.1
      obtain ⟨g1, g2, g3, g4, g5, g6⟩ := hg
      have hKn := hK.n l1
      obtain ⟨⟨a8, s8, f8⟩, ⟨a9, s9, f9⟩, a10, s10, f10⟩ := hco
      obtain ⟨o1, o2, o3⟩ := kH.1
      have z8 : a8 < hs.sz := hwf0.F (by rw [f8]; simp)
      have z9 : a9 < hs.sz := hwf0.F (by rw [f9]; simp)
      have z10 : a10 < hs.sz := hwf0.F (by rw [f10]; simp)
      have F8 := (o3 a8 z8).2.2.trans f8
      have F9 := (o3 a9 z9).2.2.trans f9
      have F10 := (o3 a10 z10).2.2.trans f10
      have fin : ∀ (G : AH) (v : AV) (c s : Nat), ext c s H G → c ≤ 20 → s ≤ 48 → qEnd hs h x v S ST 512 1032 (fun n => n = nm) fd (.inl (some v)) G := fun G v c s e w1 w2 => by
        have fr : frB x ep H G := frB.of e
        have cdG : cdN G x = cdN h x := (fr.cd hHx kH.2.1).trans cdH
        have e2 := e.2.1
        have e3 := e.2.2.1
        have e4 := e.2.2.2.1
        exact ⟨rfl, ⟨nm, rfl, _, _, _, _, _, bH.grown e, kH.fr hHx fr bH.six bH.h25 (Or.inl rfl), tH.fr hHx fr⟩, by rw [cdG]; omega, by omega, by rw [cdG]; omega⟩
      refine ⟨fun e => ?_, fun n0 => ⟨fun e => ?_, fun n1 => ⟨fun e => ?_, fun n2 => ⟨fun e => ?_, fun n3 => ?_⟩⟩⟩⟩
      · rw [if_pos e]
        conv => whnf
        rw [o2, s8]
        refine ⟨_, _, _, F8, rfl, ?_⟩
        refine hC _ _ _ (use (wpd.up (by omega) (all1_spec (d := 0) (n := m) hHx hF hKn (by omega) (by omega) F8 (by omega))) ?_)
        rintro _ G ⟨rfl, e⟩
        exact fin G _ _ _ e (by omega) (by omega)
      · rw [if_neg n0, if_pos e]
        obtain ⟨R, F, O, k1, k2, k3, k4, k5, k6, k7⟩ := hKn
        refine ⟨_, _, _, _, hF, rfl, rfl, ?_⟩
        refine ⟨_, _, _, k1, rfl, by omega, gt_at m (by omega) (by omega), ?_⟩
        rw [(k7 m (Nat.le_refl _)).1]
        exact fin H _ _ _ ext.refl (by omega) (by omega)
      · rw [if_neg n0, if_neg n1, if_pos e]
        conv => whnf
        rw [o2, s9]
        refine ⟨_, _, _, F9, rfl, ?_⟩
        refine hC _ _ _ (use (wpd.up (by omega) (all2_spec (d := 0) (n := m) hHx hF hKn (by omega) (by omega) F9 (by omega))) ?_)
        rintro _ G ⟨rfl, e⟩
        exact fin G _ _ _ e (by omega) (by omega)
      · rw [if_neg n0, if_neg n1, if_neg n2, if_pos e]
        conv => whnf
        rw [o2, s10]
        refine ⟨_, _, _, F10, rfl, ?_⟩
        refine hC _ _ _ (use (wpd.up (by omega) (all3_spec (d := 0) (n := m) hHx hF hKn (by omega) (by omega) F10 (by omega))) ?_)
        rintro _ G ⟨rfl, e⟩
        exact fin G _ _ _ e (by omega) (by omega)
      · rw [if_neg n0, if_neg n1, if_neg n2, if_neg n3]
        conv => whnf
        rw [o2, s9]
        refine ⟨_, _, _, F9, rfl, ?_⟩
        refine hC _ _ _ (use (wpd.up (by omega) (all2_spec (d := 0) (n := m) hHx hF hKn (by omega) (by omega) F9 (by omega))) ?_)
        rintro _ G ⟨rfl, e⟩
        have e5 := e.2.2.2.2.1
        have hGx : x + 87 < G.sz := by have := e.1; omega
        conv => whnf
        rw [e.2.2.2.2.2, o2, s10]
        refine ⟨_, _, _, (e5 a10 (by omega)).2.2.trans F10, rfl, ?_⟩
        refine hC _ _ _ (use (wpd.up (by omega) (all3_spec (d := 0) (n := m) hGx ((e5 x (by omega)).2.2.trans hF) (hKn.ext hHx e) (by omega) (by omega) ((e5 a10 (by omega)).2.2.trans F10) (by have := e.1; omega))) ?_)
        rintro _ G2 ⟨rfl, e2⟩
        refine ⟨by decide, ?_⟩
        exact fin G2 _ _ _ (e.trans e2) (by omega) (by omega)
    · have c2 := b0.mp c
      rw [if_pos (Or.inr c2)]
      exact ⟨rfl, ⟨nm, rfl, _, _, _, _, _, b, k, T⟩, by omega, by omega, by omega⟩
end COUNTED
