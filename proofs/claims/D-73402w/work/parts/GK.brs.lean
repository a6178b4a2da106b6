/-! branchesOf: all lists up to a size are made, once -/
theorem frH.ofAdd {ρ a e c s : Nat} {h h' : AH} (c4 : chg (fun v => v = a ∨ v = e) c s h h') (c5 : h'.I e = h.I e ∧ h'.F e = h.F e) (c6 : h'.I a = h.I a ∧ h'.R a = h.R a) (c7 : (h.R e).1 = 206 → h'.R e = h.R e) : frH c s ρ a e h h' := by
  obtain ⟨a1, a2, a3, a4, a5, a6⟩ := c4
  refine ⟨a1, a2, a3, a4, a5, fun v hv => ?_⟩
  by_cases q1 : v = a
  · subst q1
    exact ⟨c6.1, fun _ _ => c6.2, fun w => absurd rfl w⟩
  · by_cases q2 : v = e
    · subst q2
      exact ⟨c5.1, fun _ w => c7 (w rfl), fun _ => c5.2⟩
    · have := a6 v hv (fun w => by rcases w with w | w; exact q1 w; exact q2 w)
      exact ⟨this.1, fun _ _ => this.2.1, fun _ => this.2.2⟩
/-- the list of lists, all told; the empty row -/
def bL (x z : Nat) (fl : List AV) (P : Nat → Prop) (g : AH) (eB : Nat) (mB : Int) (lB : List Nat) (kB : Nat) : Prop := (g.F x = (1, fl) ∧ x + 87 < g.sz) ∧ brsF P g x eB mB lB kB lB.length ∧ (∀ v, P v → x + 87 < v ∧ v < g.sz) ∧ (x + 87 < eB ∨ (g.R eB).1 = 206) ∧ eB ≠ x + 1 ∧ (g.S 4 = some z ∧ g.R z = (206, []) ∧ z < x)
/-- what its deeds change -/
def bD (x : Nat) (P : Nat → Prop) (g : AH) (eB c s : Nat) (P1 : Nat → Prop) (g1 : AH) (eB1 : Nat) : Prop := frH c s (x + 1) (x + 1) eB g g1 ∧ (eB1 = eB ∨ g.sz ≤ eB1) ∧ (∀ v, P v → P1 v) ∧ ∀ v, P1 v → P v ∨ g.sz ≤ v
theorem bD.refl {x eB : Nat} {P : Nat → Prop} {g : AH} : bD x P g eB 0 0 P g eB := ⟨frH.refl, Or.inl rfl, fun _ h => h, fun _ h => Or.inl h⟩
theorem bD.zero {x eB c s : Nat} {P : Nat → Prop} {g : AH} : bD x P g eB c s P g eB := ⟨frH.refl.more (Nat.zero_le _) (Nat.zero_le _), Or.inl rfl, fun _ h => h, fun _ h => Or.inl h⟩
theorem bD.trans {x eB eB1 eB2 c s c' s' : Nat} {P P1 P2 : Nat → Prop} {g g1 g2 : AH} (a : bD x P g eB c s P1 g1 eB1) (b : bD x P1 g1 eB1 c' s' P2 g2 eB2) (hne : eB ≠ x + 1) : bD x P g eB (c + c') (s + s') P2 g2 eB2 := by
  obtain ⟨a1, a2, a3, a4⟩ := a
  obtain ⟨b1, b2, b3, b4⟩ := b
  have z := a1.1
  refine ⟨a1.trans b1 a2 (Or.inl hne), by omega, fun v h => b3 v (a3 v h), fun v h => ?_⟩
  rcases b4 v h with q | q
  · exact a4 v q
  · exact Or.inr (by omega)
theorem hgC_brs : ∀ N, N < 5 → hgC 3 N N none ≤ 35 := by decide +kernel
theorem rows_brs : ∀ N, N < 5 → (rowsB brL 3 N N none).length ≤ 8 := by decide +kernel
section BOF
variable {d x z : Nat} {ld : Int} {nw : Nat} {wh nm : Option Nat} {tp : Nat}
theorem bof_loop {s : Nat} (hs : s ≤ 5) : ∀ (j : Nat) (P : Nat → Prop) (g : AH) (eB : Nat) (mB : Int) (lB : List Nat) (kB : Nat) (l2 : Option AV), s + 1 - lB.length ≤ j → bL x z (flC x ld nw wh nm tp) P g eB mB lB kB →
    wp (d + 30) 191 (0, [some (vR (some x)), some (vI ((s : Nat) : Int)), l2], [], g) (fun r h' => ∃ a, r = .inl (some (vR (some a))) ∧ ∃ P1 eB1 mB1 lB1 kB1, bL x z (flC x ld nw wh nm tp) P1 h' eB1 mB1 lB1 kB1 ∧ lB1[s]? = some a ∧ bD x P g eB (40 * j) (1200 * j) P1 h' eB1) := by
  intro j
  induction j with
  | zero =>
    intro P g eB mB lB kB l2 hj hb
    have hlt : s < lB.length := by omega
    have hgl := List.getElem?_eq_getElem hlt
    generalize lB[s] = a at hgl
    have h1 := hb.1.1
    have hA := hb.2.1.1
    obtain ⟨-, e, m, bs, k, a2, -⟩ := hb.2.1.2.2.2.2.2 s a hlt hgl
    refine wp.go [0] 40 fun W C hW hC => ?_
    refine ⟨_, _, _, _, h1, rfl, rfl, ?_⟩
    refine ⟨_, _, _, hA.1, rfl, ?_⟩
    refine hC _ _ _ (useE (wpd.up (by omega) (size_spec' (d := 0) hA)) ?_)
    refine ⟨fun _ => ?_, fun w => absurd w (by omega)⟩
    refine ⟨_, _, _, _, h1, rfl, rfl, ?_⟩
    refine ⟨_, _, _, hA.1, rfl, ?_⟩
    refine hC _ _ _ (useE (wpd.up (by omega) (get_spec (d := 0) hA hgl)) ?_)
    refine ⟨fun b hb' => ?_, ?_⟩
    · cases hb'
      exact ⟨(0, 10), rfl, by decide, by show (g.F a).1 % 200 = 10; rw [a2.1]; rfl⟩
    · exact ⟨a, rfl, P, eB, mB, lB, kB, hb, hgl, bD.refl⟩
  | succ j ih =>
    intro P g eB mB lB kB l2 hj hb
    by_cases hlt : s < lB.length
    · have hgl := List.getElem?_eq_getElem hlt
      generalize lB[s] = a at hgl
      have h1 := hb.1.1
      have hA := hb.2.1.1
      obtain ⟨-, e, m, bs, k, a2, -⟩ := hb.2.1.2.2.2.2.2 s a hlt hgl
      refine wp.go [0] 40 fun W C hW hC => ?_
      refine ⟨_, _, _, _, h1, rfl, rfl, ?_⟩
      refine ⟨_, _, _, hA.1, rfl, ?_⟩
      refine hC _ _ _ (useE (wpd.up (by omega) (size_spec' (d := 0) hA)) ?_)
      refine ⟨fun _ => ?_, fun w => absurd w (by omega)⟩
      refine ⟨_, _, _, _, h1, rfl, rfl, ?_⟩
      refine ⟨_, _, _, hA.1, rfl, ?_⟩
      refine hC _ _ _ (useE (wpd.up (by omega) (get_spec (d := 0) hA hgl)) ?_)
      refine ⟨fun b hb' => ?_, ?_⟩
      · cases hb'
        exact ⟨(0, 10), rfl, by decide, by show (g.F a).1 % 200 = 10; rw [a2.1]; rfl⟩
      · exact ⟨a, rfl, P, eB, mB, lB, kB, hb, hgl, bD.zero⟩
    · obtain ⟨⟨h1, h1'⟩, h2, h3, h4, h5, ⟨h6, h7, h8⟩⟩ := id hb
      obtain ⟨b1, b2, b3, b4, b5, b6⟩ := id h2
      obtain ⟨N, hN⟩ : ∃ N, N = lB.length := ⟨_, rfl⟩
      have hN5 : N ≤ 5 := by omega
      obtain ⟨gA, hgA⟩ : ∃ H, H = (g.newF 10 [vI 0, vR none, vI 0]).setF g.sz [vI 0, vR (some z), vI 0] := ⟨_, rfl⟩
      have EA : ext 1 3 g gA := by rw [hgA]; exact ext_newF.setF (Nat.le_refl _)
      have EA5 := EA.2.2.2.2.1
      have SA : gA.sz = g.sz + 1 := by rw [hgA]; rfl
      have AA : AL gA g.sz z 0 [] 0 := by
        rw [hgA]
        exact ⟨setF_at newF_at, Or.inr ⟨rfl, rfl, h6, h7⟩⟩
      have FA : gA.F x = (1, flC x ld nw wh nm tp) := (EA5 x (by omega)).2.2.trans h1
      have BA : AL gA (x + 1) eB mB lB kB := b1.to EA.2.2.2.2.2 (EA5 _ (by omega)).2.2 (EA5 _ b2).2.1
      have okl : ∀ y, y ∈ lB → okE gA y := by
        intro y hy
        obtain ⟨i, hi⟩ := List.getElem?_of_mem hy
        have hil := (List.getElem?_eq_some_iff.mp hi).1
        obtain ⟨c1, e, m, bs, k, c2, -⟩ := b6 i y hil hi
        refine Or.inr (Or.inr ?_)
        rw [(EA5 y (h3 y c1).2).2.2, c2.1]
        rfl
      have hinit := alInit_spec (d := 0) (h := g.newF 10 [vI 0, vR none, vI 0]) (a := g.sz) (v0 := 0) (v1 := none) (z := z) newF_at h6 h7
      have hadd := al_add (d := 0) BA (by omega) (by omega) (Ne.symm h5) (by omega) okl (x := g.sz) (by refine Or.inr (Or.inr ?_); rw [AA.1]; rfl)
      have tl : ∀ (P' : Nat → Prop) (h' : AH) (e' : Nat) (m' : Int) (k' c1 s1 : Nat) (l2' : Option AV), bL x z (flC x ld nw wh nm tp) P' h' e' m' (lB ++ [g.sz]) k' → bD x P g eB c1 s1 P' h' e' → c1 ≤ 40 → s1 ≤ 1200 → wp (d + 30) 191 (0, [some (vR (some x)), some (vI ((s : Nat) : Int)), l2'], [], h') (fun r h' => ∃ a, r = .inl (some (vR (some a))) ∧ ∃ P1 eB1 mB1 lB1 kB1, bL x z (flC x ld nw wh nm tp) P1 h' eB1 mB1 lB1 kB1 ∧ lB1[s]? = some a ∧ bD x P g eB (40 * (j + 1)) (1200 * (j + 1)) P1 h' eB1) := by
        intro P' h' e' m' k' c1 s1 l2' hb' hd' hc1 hs1
        refine wpd.mono ?_ _ _ _ (ih P' h' e' m' (lB ++ [g.sz]) k' l2' (by rw [List.length_append, List.length_singleton]; omega) hb')
        rintro r h'' ⟨a, q1, P1, eB1, mB1, lB1, kB1, q2, q3, q4⟩
        have q5 := hd'.trans q4 h5
        exact ⟨a, q1, P1, eB1, mB1, lB1, kB1, q2, q3, q5.1.more (by omega) (by omega), q5.2⟩
      refine wp.go [0] 120 fun W C hW hC => ?_
      refine ⟨_, _, _, _, h1, rfl, rfl, ?_⟩
      refine ⟨_, _, _, b1.1, rfl, ?_⟩
      refine hC _ _ _ (useE (wpd.up (by omega) (size_spec' (d := 0) b1)) ?_)
      refine ⟨fun w => absurd w (by omega), fun _ => ?_⟩
      refine hC _ _ _ (use (wpd.up (by omega) hinit) ?_)
      rintro _ _ ⟨rfl, rfl, -⟩
      rw [← hgA]
      refine ⟨_, _, _, _, FA, rfl, rfl, ?_⟩
      refine ⟨_, _, _, BA.1, rfl, ?_⟩
      refine hC _ _ _ (use (wpd.up (by omega) hadd) ?_)
      rintro _ gB ⟨rfl, e', m', k', c1, c2, c3, c4, c5, c6, c7⟩
      have FB := frH.ofAdd (ρ := x + 1) c4 c5 c6 c7
      have FB5 := FB.2.2.2.2.2
      have SB := FB.1
      have FBx : gB.F x = (1, flC x ld nw wh nm tp) := ((FB5 x (by omega)).2.2 (by omega)).trans FA
      have hzne : z ≠ x + 1 := by omega
      have RzA : gA.R z = (206, []) := (EA5 z (by omega)).2.1.trans h7
      have RzB : gB.R z = (206, []) := ((FB5 z (by omega)).2.1 hzne (fun w => by rw [← w, RzA])).trans RzA
      have S4B : gB.S 4 = some z := by rw [FB.2.2.2.2.1, EA.2.2.2.2.2]; exact h6
      have PB : ∀ v, P v → gB.R v = g.R v ∧ gB.F v = g.F v := fun v hv => by
        have w := h3 v hv
        have u := FB5 v (by omega)
        exact ⟨(u.2.1 (by omega) (fun q => by
          exfalso
          rw [q] at hv
          exact b3 hv)).trans (EA5 v w.2).2.1, (u.2.2 (by omega)).trans (EA5 v w.2).2.2⟩
      have R206 : ∀ v, v < g.sz → (g.R v).1 = 206 → gB.R v = g.R v := fun v hv w => by
        by_cases q : v = x + 1
        · rw [q]
          rw [c6.2, (EA5 _ (by omega)).2.1]
        · exact ((FB5 v (by omega)).2.1 q (fun q' => by rw [← q', (EA5 v hv).2.1]; exact w)).trans (EA5 v hv).2.1
      have AB : AL gB g.sz z 0 [] 0 := AA.to FB.2.2.2.2.1 ((FB5 _ (by omega)).2.2 (by omega)) (RzB.trans RzA.symm)
      have lsB : ∀ (P' : Nat → Prop) i a, (∀ v, P v → P' v) → i < N → (lB ++ [g.sz])[i]? = some a → lsP P' gB a (brL i) := by
        intro P' i a hP' hi ha
        rw [List.getElem?_append_left (by omega)] at ha
        exact (b6 i a (by omega) ha).to (by omega) (FB.2.2.2.2.1.trans EA.2.2.2.2.2) (fun v hv => ⟨hP' v hv, PB v hv⟩) R206
      have e'P : ¬ P e' := fun w => by
        rcases c3 with q | q
        · rw [q] at w; exact b3 w
        · have := (h3 _ w).2; omega
      have e'g : e' ≠ g.sz := by omega
      have e'x : e' ≠ x + 1 := by omega
      have DB : frH 2 (3 + (10 + 2 * lB.length)) (x + 1) (x + 1) eB g gB := by
        have := (EA.frH (ρ := x + 1) (ι := x + 1) (e := eB)).trans FB (Or.inl rfl) (Or.inl h5)
        exact this.more (by omega) (by omega)
      have e'k : x + 87 < e' ∨ (gB.R e').1 = 206 := by
        rcases c3 with q | q
        · rcases h4 with w | w
          · left; omega
          · right
            rw [q, R206 eB b2 w]; exact w
        · left; omega
      refine ⟨_, _, _, _, FBx, rfl, rfl, ?_⟩
      refine ⟨_, _, _, c1.1, rfl, ?_⟩
      refine hC _ _ _ (useE (wpd.up (by omega) (size_spec' (d := 0) c1)) ?_)
      rw [show (((lB ++ [g.sz]).length : Nat) : Int) = ((N + 1 : Nat) : Int) by rw [List.length_append, List.length_singleton, hN]]
      refine ⟨fun q => ?_, fun q => ?_⟩
      · have N0 : N = 0 := by omega
        refine hW _ (tl (fun v => P v ∨ v = g.sz) gB e' m' k' 2 (3 + (10 + 2 * lB.length)) _ ⟨⟨FBx, by omega⟩, ⟨c1, c2, fun w => by rcases w with w | w; exact e'P w; exact e'g w, Nat.le_refl _, by rw [List.length_append, List.length_singleton]; omega, fun i a hi ha => ?_⟩, fun v hv => ?_, e'k, e'x, S4B, RzB, h8⟩ ⟨DB, by omega, fun v h => Or.inl h, fun v h => by rcases h with q | q; exact Or.inl q; exact Or.inr (by omega)⟩ (by omega) (by omega))
        · have hi0 : i = 0 := by rw [List.length_append, List.length_singleton] at hi; omega
          subst hi0
          rw [List.getElem?_append_right (by omega)] at ha
          have ha := List.mem_singleton.mp (List.mem_of_getElem? ha)
          subst ha
          exact ⟨Or.inr rfl, z, 0, [], 0, AB, Or.inr ⟨by omega, by rw [RzB]⟩, rfl, fun j b t w => (by simp at w)⟩
        · rcases hv with w | w
          · have := h3 v w; exact ⟨this.1, by omega⟩
          · exact ⟨by omega, by omega⟩
      · obtain ⟨M, hM⟩ : ∃ M, N = M + 1 := ⟨N - 1, by omega⟩
        obtain ⟨gC, egC⟩ : ∃ H, H = gB.newR 1 [none, none, none] := ⟨_, rfl⟩
        have EC : ext 1 3 gB gC := by rw [egC]; exact ext_newR
        have EC5 := EC.2.2.2.2.1
        have SC : gC.sz = gB.sz + 1 := by rw [egC]; rfl
        have AC : AL gC (x + 1) e' m' (lB ++ [g.sz]) k' := c1.to EC.2.2.2.2.2 (EC5 _ (by omega)).2.2 (EC5 _ c2).2.1
        have PC : ∀ v, P v → P v ∧ gC.R v = gB.R v ∧ gC.F v = gB.F v := fun v hv => ⟨hv, (EC5 v (by have := h3 v hv; omega)).2.1, (EC5 v (by have := h3 v hv; omega)).2.2⟩
        have RzC : gC.R z = (206, []) := (EC5 z (by omega)).2.1.trans RzB
        have hIC : hI x gB.sz g.sz (flC x ld nw wh nm tp) e' m' (lB ++ [g.sz]) k' N P gC z 0 [] 0 [] [none, none, none] := by
          refine ⟨⟨(EC5 x (by omega)).2.2.trans FBx, by omega⟩, ⟨AC, by omega, e'P, by rw [List.length_append]; omega, by rw [List.length_append, List.length_singleton]; omega, fun i a hi ha => (lsB P i a (fun _ h => h) hi ha).to (by omega) EC.2.2.2.2.2 PC (fun v hv _ => (EC5 v hv).2.1)⟩, fun v hv => ?_, ⟨AB.to EC.2.2.2.2.2 (EC5 _ (by omega)).2.2 (RzC.trans RzB.symm), rfl, fun j b t w => (by simp at w)⟩, ⟨h1', by omega, by omega, by omega⟩, ⟨by omega, by omega, by rw [egC]; exact newR_at⟩, Or.inr (by rw [RzC]), by omega⟩
          have := h3 v hv
          exact ⟨this.1, by omega, by omega, by omega, by omega⟩
        have hlen := rows_brs M (by omega)
        have call := hangs_hit (d := 0) (x := x) (ρ := gB.sz) (ι := g.sz) (ld := ld) (nw := nw) (wh := wh) (nm := nm) (tp := tp) (eB := e') (mB := m') (lB := lB ++ [g.sz]) (kB := k') (N := N) (by omega) 3 P gC M M 0 [] none none z 0 [] 0 [] [none, none, none] hIC rfl rfl (by omega) (by simp) ⟨fun z hz => (nomatch hz), Or.inl ⟨rfl, rfl⟩⟩ trivial (fun y hy => (nomatch hy)) (by show 0 + M ≤ 15; omega) (Or.inr (by omega)) (by omega) (by show 0 + _ ≤ 400; omega)
        refine ⟨_, _, _, _, FBx, rfl, rfl, ?_⟩
        refine ⟨_, _, _, c1.1, rfl, ?_⟩
        refine hC _ _ _ (useE (wpd.up (by omega) (size_spec' (d := 0) c1)) ?_)
        rw [show (((lB ++ [g.sz]).length : Nat) : Int) = ((N + 1 : Nat) : Int) by rw [List.length_append, List.length_singleton, hN]]
        refine ⟨_, _, _, _, FBx, rfl, rfl, ?_⟩
        refine ⟨_, _, _, c1.1, rfl, ?_⟩
        refine hC _ _ _ (useE (wpd.up (by omega) (size_spec' (d := 0) c1)) ?_)
        rw [show (((lB ++ [g.sz]).length : Nat) : Int) = ((N + 1 : Nat) : Int) by rw [List.length_append, List.length_singleton, hN]]
        refine ⟨by decide, by decide, ?_⟩
        rw [show gB.newR 1 (List.replicate (Int.toNat 3) none) = gC from egC.symm]
        refine ⟨_, _, _, hIC.1.1, rfl, ?_⟩
        conv => whnf
        rw [isub_eq (x := ((N + 1 : Nat) : Int)) (y := 2) (by omega), show ((N + 1 : Nat) : Int) - 2 = ((M : Nat) : Int) by omega]
        refine hC _ _ _ (use (wpd.up (by omega) call) ?_)
        rintro _ gD ⟨rfl, P1, e1, m1, l1, k1, refs1, hi1, hd1⟩
        obtain ⟨⟨i1, i1'⟩, ⟨i2, i2b, i2c, i2d, i2e, i2f⟩, i3, ⟨i4, i5, i6⟩, ⟨i7, i8, i9, i10⟩, ⟨i11, i12, i13⟩, i14, i15⟩ := id hi1
        obtain ⟨D1, D2, D3, D4, D5, D6, D7⟩ := id hd1
        have D15 := D1.2.2.2.2.2
        have hbrl : brL N = (rowsB brL 3 M M none).map mkT := by rw [hM]; exact brL_eq M (by omega)
        have RzD : gD.R z = (206, []) := ((D15 z (by omega)).2.1 (by omega) (fun _ => by rw [RzC])).trans RzC
        have hl1 : l1.length ≤ 8 := by
          have : l1.length = ((rowsB brL 3 M M none).map fun r => mkT (treZ [] ++ r)).length := i5
          rw [List.length_map] at this
          omega
        have hcost := hgC_brs M (by omega)
        refine hW _ (tl (fun v => P1 v ∨ v = g.sz ∨ (v = e1 ∧ x + 87 < e1)) gD e' m' k' (2 + (1 + hgC 3 M M none)) (3 + (10 + 2 * lB.length) + (3 + (30 * hgC 3 M M none + (l1.length * l1.length - 0 * 0)))) _ ⟨⟨i1, i1'⟩, ⟨i2, i2b, fun w => ?_, Nat.le_refl _, i2e, fun i a hi ha => ?_⟩, fun v hv => ?_, ?_, e'x, by rw [D1.2.2.2.2.1, EC.2.2.2.2.2]; exact S4B, RzD, h8⟩ ⟨?_, by omega, fun v h => Or.inl (D3 v h), fun v h => ?_⟩ (by omega) ?_)
        · rcases w with w | w | w
          · exact i2c w
          · exact e'g w
          · omega
        · by_cases q2 : i < N
          · exact (i2f i a q2 ha).to (Nat.le_refl _) rfl (fun v hv => ⟨Or.inl hv, rfl, rfl⟩) (fun _ _ _ => rfl)
          · have hiN : i = N := by rw [List.length_append, List.length_singleton] at hi; omega
            subst hiN
            rw [List.getElem?_append_right (by omega)] at ha
            have ha := List.mem_singleton.mp (List.mem_of_getElem? ha)
            subst ha
            refine ⟨Or.inr (Or.inl rfl), e1, m1, l1, k1, i4, ?_, by rw [hbrl]; exact i5.trans (by simp), fun j b t w1 w2 => ?_⟩
            · rcases D2 with w | w
              · exact Or.inr ⟨i9, by rw [w, RzD]⟩
              · exact Or.inl (Or.inr (Or.inr ⟨rfl, by omega⟩))
            · rw [hbrl] at w2
              exact (i6 j b t w1 w2).to fun v hv => ⟨Or.inl hv, rfl, rfl⟩
        · rcases hv with w | w | w
          · have := i3 v w; exact ⟨this.1, this.2.1⟩
          · exact ⟨by omega, by omega⟩
          · exact ⟨by omega, by omega⟩
        · rcases e'k with w | w
          · exact Or.inl w
          · right
            have hC6 : (gC.R e').1 = 206 := by rw [(EC5 _ c2).2.1]; exact w
            rw [(D15 e' (by omega)).2.1 (by omega) (fun q => by rw [← q]; exact hC6)]
            exact hC6
        · obtain ⟨u1, u2, u3, u4, u5, u6⟩ := DB
          have z1 := EC.2.1
          have z2 := EC.2.2.1
          have z3 := EC.2.2.2.1
          have D1a := D1.1
          have D1b := D1.2.1
          have D1c := D1.2.2.1
          have D1s : gD.sl ≤ gC.sl + (30 * hgC 3 M M none + (l1.length * l1.length - 0 * 0)) := D1.2.2.2.1
          refine ⟨by omega, by omega, by omega, by omega, D1.2.2.2.2.1.trans (EC.2.2.2.2.2.trans u5), fun v hv => ⟨((D15 v (by omega)).1).trans ((EC5 v (by omega)).1.trans (u6 v hv).1), fun w1 w2 => ?_, fun w => ?_⟩⟩
          · exact ((D15 v (by omega)).2.1 (by omega) (fun q => by rw [RzC])).trans ((EC5 v (by omega)).2.1.trans ((u6 v hv).2.1 w1 w2))
          · exact ((D15 v (by omega)).2.2 (by omega)).trans ((EC5 v (by omega)).2.2.trans ((u6 v hv).2.2 w))
        · rcases h with w | w | w
          · rcases D4 v w with u | u
            · exact Or.inl u
            · exact Or.inr (by omega)
          · exact Or.inr (by omega)
          · rcases D2 with u | u
            · omega
            · exact Or.inr (by omega)
        · have := Nat.mul_le_mul hl1 hl1
          omega
theorem bof_spec {s : Nat} (hs : s ≤ 5) {P : Nat → Prop} {g : AH} {eB : Nat} {mB : Int} {lB : List Nat} {kB : Nat} (hb : bL x z (flC x ld nw wh nm tp) P g eB mB lB kB) : wp (d + 30) 191 (0, ent 3 [vR (some x), vI ((s : Nat) : Int)], [], g) (fun r h' => ∃ a, r = .inl (some (vR (some a))) ∧ ∃ P1 eB1 mB1 lB1 kB1, bL x z (flC x ld nw wh nm tp) P1 h' eB1 mB1 lB1 kB1 ∧ lB1[s]? = some a ∧ bD x P g eB 240 7200 P1 h' eB1) :=
  bof_loop hs 6 P g eB mB lB kB none (by omega) hb
/-- branches of so many carbons together come into places, where the lists may have to be made -/
theorem hangs_gen {left most ρ ι : Nat} (hl1 : left ≤ 10) (hm1 : most ≤ 5) {P : Nat → Prop} {g : AH} {eB : Nat} {mB : Int} {lB : List Nat} {kB : Nat} (hb : bL x z (flC x ld nw wh nm tp) P g eB mB lB kB) (hι : AL g ι z 0 [] 0 ∧ x + 87 < ι ∧ ι < g.sz ∧ ¬ P ι) (hρ : g.R ρ = (1, [none, none, none, none]) ∧ x + 87 < ρ ∧ ρ < g.sz ∧ ¬ P ρ) (hne : eB ≠ ρ) (hlen : (rowsB brL 4 left most none).length ≤ 400) :
    wp (d + 40) 190 (0, ent 11 [vR (some x), vI ((left : Nat) : Int), vI 4, vI ((most : Nat) : Int), vR none, vR (some ρ), vI 0, vR (some ι)], [], g) (fun r h' => ∃ g1 P1 eB1 mB1 lB1 kB1, bL x z (flC x ld nw wh nm tp) P1 g1 eB1 mB1 lB1 kB1 ∧ bD x P g eB 240 7200 P1 g1 eB1 ∧ hgEnd x ρ ι (flC x ld nw wh nm tp) eB1 mB1 lB1 kB1 lB1.length P1 g1 z [] [] [none, none, none, none] 0 (hgC 4 left most none) ((rowsB brL 4 left most none).map mkT) r h') := by
  have mkI : ∀ P1 g1 eB1 mB1 lB1 kB1, bL x z (flC x ld nw wh nm tp) P1 g1 eB1 mB1 lB1 kB1 → bD x P g eB 240 7200 P1 g1 eB1 → hI x ρ ι (flC x ld nw wh nm tp) eB1 mB1 lB1 kB1 lB1.length P1 g1 z 0 [] 0 [] [none, none, none, none] := by
    intro P1 g1 eB1 mB1 lB1 kB1 b1 d1
    obtain ⟨⟨h1, h1'⟩, h2, h3, h4, h5, ⟨h6, h7, h8⟩⟩ := b1
    obtain ⟨k1, k2, k3, k4⟩ := d1
    have k5 := k1.2.2.2.2.2
    have kz := k1.1
    obtain ⟨j1, j2, j3, j4⟩ := hι
    obtain ⟨r1, r2, r3, r4⟩ := hρ
    have hz0 := hb.2.2.2.2.2
    refine ⟨⟨h1, h1'⟩, h2, fun v hv => ?_, ⟨j1.to k1.2.2.2.2.1 ((k5 ι j3).2.2 (by omega)) (h7.trans hz0.2.1.symm), rfl, fun j b t w => (by simp at w)⟩, ⟨j2, by omega, by omega, by omega⟩, ⟨r2, by omega, ((k5 ρ r3).2.1 (by omega) (fun w => absurd w.symm hne)).trans r1⟩, Or.inr (by rw [h7]), by omega⟩
    have hv1 := h3 v hv
    refine ⟨hv1.1, hv1.2, fun w => ?_, fun w => ?_, by omega⟩
    · rcases k4 v hv with q | q
      · rw [w] at q; exact r4 q
      · omega
    · rcases k4 v hv with q | q
      · rw [w] at q; exact j4 q
      · omega
  have hmap : ∀ l : List (List Tr), l.map (fun r => mkT (treZ [] ++ r)) = l.map mkT := fun l => rfl
  have hit := fun (P1 : Nat → Prop) (g1 : AH) (eB1 : Nat) (mB1 : Int) (lB1 : List Nat) (kB1 : Nat) (b1 : bL x z (flC x ld nw wh nm tp) P1 g1 eB1 mB1 lB1 kB1) => hangs_hit (d := d + 9) (x := x) (ρ := ρ) (ι := ι) (ld := ld) (nw := nw) (wh := wh) (nm := nm) (tp := tp) (eB := eB1) (mB := mB1) (lB := lB1) (kB := kB1) (N := lB1.length) b1.2.1.2.2.2.2.1
  by_cases q : min left most = 0
  · have call := hit P g eB mB lB kB hb 4 P g left most 0 [] none none z 0 [] 0 [] [none, none, none, none] (mkI _ _ _ _ _ _ hb bD.zero) rfl rfl (by omega) (by simp) ⟨fun z hz => (nomatch hz), Or.inl ⟨rfl, rfl⟩⟩ trivial (fun y hy => (nomatch hy)) (by show 0 + left ≤ 15; omega) (Or.inl q) (by omega) (by show 0 + _ ≤ 400; omega)
    refine use (wpd.up (by omega) call) ?_
    intro r h' k
    exact ⟨g, P, eB, mB, lB, kB, hb, bD.zero, k⟩
  · obtain ⟨s, hs⟩ : ∃ s, min left most = s + 1 := ⟨min left most - 1, by omega⟩
    have hl0 : left ≠ 0 := by omega
    have e1 : rowsB brL 4 left most none = downF (fun s => (brL s).flatMap (resB 3 left s none)) (min left most) := by unfold rowsB; rw [beq_ff hl0]; rfl
    have e2 : hgC 4 left most none = dnS (fun s => 1 + ((brL s).map (cstB 3 left s none)).sum) (min left most) := by unfold hgC; rw [beq_ff hl0]; rfl
    rw [e1, hs] at hlen
    rw [e1, e2, hs]
    have hD0 : downF (fun s => (brL s).flatMap (resB 3 left s none)) (s + 1) = (brL (s + 1)).flatMap (resB 3 left (s + 1) none) ++ downF (fun s => (brL s).flatMap (resB 3 left s none)) s := rfl
    have hS0 : dnS (fun s => 1 + ((brL s).map (cstB 3 left s none)).sum) (s + 1) = 1 + ((brL (s + 1)).map (cstB 3 left (s + 1) none)).sum + dnS (fun s => 1 + ((brL s).map (cstB 3 left s none)).sum) s := rfl
    rw [hD0, List.length_append] at hlen
    refine wp.go [61] 60 fun W C hW hC => ?_
    refine ⟨fun _ => ?_, fun w => absurd w (by omega)⟩
    refine ⟨fun _ => ?_, fun w => absurd w (by decide)⟩
    refine hC _ _ _ (useE (wpd.up (by omega) (min_spec (d := 0))) ?_)
    rw [show min ((left : Nat) : Int) ((most : Nat) : Int) = ((s + 1 : Nat) : Int) by omega]
    refine ⟨fun w => absurd w (by omega), fun _ => ?_⟩
    refine ⟨_, _, _, hb.1.1, rfl, ?_⟩
    refine hC _ _ _ (use (wpd.up (by omega) (bof_spec (d := 0) (s := s + 1) (by omega) hb)) ?_)
    rintro _ g1 ⟨as, rfl, P1, eB1, mB1, lB1, kB1, b1, ha, d1⟩
    have hI1 := mkI _ _ _ _ _ _ b1 d1
    have hlt := (List.getElem?_eq_some_iff.mp ha).1
    obtain ⟨a1, es, ms, bs, ks, a2, a3, a4, a5⟩ := b1.2.1.2.2.2.2.2 (s + 1) as hlt ha
    refine hW _ (wpd.mono (fun r h' k => ⟨g1, P1, eB1, mB1, lB1, kB1, b1, d1, k⟩) _ _ _ ?_)
    have ih := hit P1 g1 eB1 mB1 lB1 kB1 b1 3
    refine wpd.up (show d + 9 + (3 + 1) + 24 ≤ d + 40 by omega) (hg_body ih (P0 := P1) (g0 := g1) (e0 := z) (l0 := []) (refs0 := [none, none, none, none]) (left := left) (most := most) (n := 0) (zs := []) (ahr := none) (ah := none) rfl (by omega) trivial (fun y hy => (nomatch hy)) (by show 0 + left ≤ 15; omega) b1.2.1.2.2.2.2.1 hI1.neρ (by simp) rfl (s := s) (by omega) hlt hI1 hD.refl ⟨fun z hz => (nomatch hz), Or.inl ⟨rfl, rfl⟩⟩ ⟨a1, a2, a3, a4, a5⟩ (by show 0 + _ ≤ 400; omega) fun P2 g2 e2 m2 l2 k2 refs2 x9 x10 u1 u2 u3 => ?_)
    refine hg_out ih (P0 := P1) (g0 := g1) (e0 := z) (l0 := []) (refs0 := [none, none, none, none]) (left := left) (most := most) (n := 0) (zs := []) (ahr := none) (ah := none) rfl (by omega) trivial (fun y hy => (nomatch hy)) (by show 0 + left ≤ 15; omega) b1.2.1.2.2.2.2.1 hI1.neρ (by simp) rfl s P2 g2 e2 m2 l2 k2 _ refs2 _ x9 x10 (by omega) (by omega) u1 u2 u3 (by
      have v1 := u1.2.2.2.1.2.1
      rw [List.nil_append, List.length_map] at v1
      omega) ?_ ?_
    · rw [hD0, List.map_append]
      rfl
    · rw [hS0]
end BOF
