/-! hangs: the walk, where all lists of branches are there already -/
section HANGS
variable {d x ρ ι : Nat} {ld : Int} {nw : Nat} {wh nm : Option Nat} {tp : Nat} {eB : Nat} {mB : Int} {lB : List Nat} {kB N : Nat}
theorem isk_brA {P : Nat → Prop} {h : AH} {b : Nat} {t : Tr} (k : BrA P h b t) : isk h [(0, 7)] (some b) := by
  intro v hv
  cases hv
  refine ⟨(0, 7), rfl, by decide, ?_⟩
  show (h.F b).1 % 200 = 7
  rw [k.choose_spec.choose_spec.2.1]
  rfl
theorem okE_brA {P : Nat → Prop} {h : AH} {b : Nat} {t : Tr} (k : BrA P h b t) : okE h b := by
  refine Or.inr (Or.inl ?_)
  rw [k.choose_spec.choose_spec.2.1]
  rfl
/-- a row is full: its branch comes into the list -/
theorem hg_leaf {P : Nat → Prop} {g : AH} {p most n : Nat} {zs : Zs} {ahr : Option Nat} {e : Nat} {m : Int} {l : List Nat} {k : Nat} {Ts : List Tr} {refs : List (Option Nat)} (hI0 : hI x ρ ι (flC x ld nw wh nm tp) eB mB lB kB N P g e m l k Ts refs) (hz : refs.take n = refZ zs) (hn : zs.length = n) (hn4 : n ≤ 4) (hnr : n ≤ refs.length) (hbr : ∀ z, z ∈ zs → BrA P g z.1 z.2 ∧ brT1 z.2) (hst : sortedT (treZ zs)) (hsum : sumS (treZ zs) ≤ 15) (hl : l.length ≤ 400) :
    wp (d + 24) 190 (0, ent 11 [vR (some x), vI 0, vI ((p : Nat) : Int), vI ((most : Nat) : Int), vR ahr, vR (some ρ), vI ((n : Nat) : Int), vR (some ι)], [], g) (hgEnd x ρ ι (flC x ld nw wh nm tp) eB mB lB kB N P g e l Ts refs n 3 [mkT (treZ zs)]) := by
  have hne := hI0.neρ
  obtain ⟨⟨h1, h1'⟩, h2, h3, ⟨h4, h5, h6⟩, ⟨h7, h8, h9, h10⟩, ⟨h11, h12, h13⟩, h14, h15⟩ := id hI0
  obtain ⟨H, hH⟩ : ∃ H, H = (g.newR 1 (List.replicate n none)).setR g.sz (refs.take n) := ⟨_, rfl⟩
  have HR : H.R g.sz = (1, refZ zs) := by rw [hH, ← hz]; exact setR_at newR_at
  have He : ext 1 n g H := by
    rw [hH]
    refine ext.setR ?_ (Nat.le_refl _)
    exact ext_newR.more (Nat.le_refl _) (by rw [List.length_replicate]; omega)
  have Hsz : H.sz = g.sz + 1 := by rw [hH]; rfl
  have hcall := brInit_spec (d := 0) (h := H.newF 7 [vR none, vI 0, vI 0, vL 0, vL 0, vL 0]) (x := H.sz) (p := g.sz) (zs := zs)
    (fun z hz ar fs => ((hbr z hz).1.to (P' := fun v => v < H.sz + 1) fun v hv => ⟨by have := (h3 v hv).2.1; omega, by rw [show ((((H.newF 7 [vR none, vI 0, vI 0, vL 0, vL 0, vL 0]).setR g.sz ar).setF H.sz fs).R v) = ((H.newF 7 [vR none, vI 0, vI 0, vL 0, vL 0, vL 0]).setR g.sz ar).R v from rfl, setR_ne (by have := (h3 v hv).2.1; omega)]; exact (He.2.2.2.2.1 v (h3 v hv).2.1).2.1, by rw [setF_ne (by have := (h3 v hv).2.1; omega)]; exact (newF_ne (by have := (h3 v hv).2.1; omega)).trans (He.2.2.2.2.1 v (h3 v hv).2.1).2.2⟩).at fun v hv => hv)
    (by show g.sz < H.sz + 1; omega) (by show H.sz < H.sz + 1; omega) newF_at HR
    (fun z hz => ⟨(hbr z hz).2.1, (hbr z hz).2.2.1⟩) (by omega) hsum (fun z hz => (hbr z hz).2.2.2)
  have hR' : ∀ y, (g.newR 1 y).R ρ = (1, refs) := fun y => by rw [newR_ne (by omega)]; exact h13
  refine wp.go [] 60 fun W C hW hC => ?_
  refine ⟨fun w => absurd rfl w, fun _ => ?_⟩
  refine ⟨by omega, by omega, ?_⟩
  rw [Int.toNat_natCast]
  refine ⟨rfl, by omega, by decide, by decide, Or.inr ⟨_, _, _, _, hR' _, newR_at, by decide, rfl, by omega, by rw [List.length_replicate]; omega, fun z hz' => ?_, ?_⟩⟩
  · rw [Int.toNat_natCast, show ((0 : Int).toNat) = 0 from rfl, List.drop_zero, hz] at hz'
    obtain ⟨z0, hz0, rfl⟩ := List.mem_map.mp hz'
    intro b hb
    cases hb
    refine ⟨(0, 7), rfl, by decide, ?_⟩
    show (g.F z0.1).1 % 200 = 7
    rw [(hbr z0 hz0).1.choose_spec.choose_spec.2.1]
    rfl
  rw [Int.toNat_natCast, show ((0 : Int).toNat) = 0 from rfl, cpy_pre _ _ _ hnr, ← hH]
  refine hC _ _ _ (use (wpd.up (by omega) (hcall)) ?_)
  rintro _ _ ⟨rfl, Z, z1, z2, rfl, z3⟩
  have hT : mkT (treZ Z) = mkT (treZ zs) := by
    rw [z1, srt_id _ hst (fun t ht => by obtain ⟨z, hz, rfl⟩ := List.mem_map.mp ht; exact (hbr z hz).2.1)]
  obtain ⟨H4, hH4⟩ : ∃ H4, H4 = ((H.newF 7 [vR none, vI 0, vI 0, vL 0, vL 0, vL 0]).setR g.sz (refZ Z)).setF H.sz (brF g.sz (mkT (treZ Z))) := ⟨_, rfl⟩
  rw [← hH4]
  have E4 : ext 2 (n + 6) g H4 := by
    rw [hH4]
    refine ext.setF (ext.setR ?_ (Nat.le_refl _)) (by omega)
    exact (He.trans (ext_newF (t := 7) (x := [vR none, vI 0, vI 0, vL 0, vL 0, vL 0])))
  have S4 : H4.sz = g.sz + 2 := by rw [hH4]; show H.sz + 1 = _; omega
  have B4 : BrA (fun v => P v ∨ (g.sz ≤ v ∧ v < g.sz + 2)) H4 H.sz (mkT (treZ zs)) := by
    rw [← hT, hH4]
    refine brMade (P := P) (h := H.newF 7 [vR none, vI 0, vI 0, vL 0, vL 0, vL 0]) (Or.inr (by omega)) (Or.inr (by omega)) newF_at HR (fun z hz => ((hbr z (z2 z hz)).1.to fun v hv => ⟨hv, (He.2.2.2.2.1 v (h3 v hv).2.1).2.1, (newF_ne (by have := (h3 v hv).2.1; omega)).trans (He.2.2.2.2.1 v (h3 v hv).2.1).2.2⟩)) (fun v hv => ⟨Or.inl hv, by have := (h3 v hv).2.1; omega, by have := (h3 v hv).2.1; omega⟩)
  have I4 := hI0.ext E4
  obtain ⟨⟨j1, j1'⟩, j2, j3, ⟨j4, j5, j6⟩, ⟨j7, j8, j9, j10⟩, ⟨j11, j12, j13⟩, j14, j15⟩ := id I4
  have okl : ∀ y, y ∈ l → okE H4 y := by
    intro y hy
    obtain ⟨i, hi⟩ := List.getElem?_of_mem hy
    have hil := (List.getElem?_eq_some_iff.mp hi).1
    exact okE_brA (j6 i y _ hi (List.getElem?_eq_getElem (show i < Ts.length by omega)))
  refine ⟨_, _, _, j4.1, rfl, ?_⟩
  refine hC _ _ _ (use (wpd.up (by omega) (al_add (d := 0) j4 j8 j9 j10 (by omega) okl (okE_brA B4))) ?_)
  rintro _ H5 ⟨rfl, e', m', k', c1, c2, c3, c4, c5, c6, c7⟩
  have F5 : frH 1 (10 + 2 * l.length) ρ ι e H4 H5 := by
    obtain ⟨a1, a2, a3, a4, a5, a6⟩ := c4
    refine ⟨a1, a2, a3, a4, a5, fun v hv => ?_⟩
    by_cases q1 : v = ι
    · subst q1
      exact ⟨c6.1, fun _ _ => c6.2, fun w => absurd rfl w⟩
    · by_cases q2 : v = e
      · subst q2
        exact ⟨c5.1, fun _ w => c7 (w rfl), fun _ => c5.2⟩
      · have := a6 v hv (fun w => by rcases w with w | w; exact q1 w; exact q2 w)
        exact ⟨this.1, fun _ _ => this.2.1, fun _ => this.2.2⟩
  have z5 := c4.1
  have D5 := F5.2.2.2.2.2
  have R5 : H5.R ρ = H4.R ρ := by
    by_cases q : ρ = ι
    · rw [q]; exact c6.2
    · exact (c4.2.2.2.2.2 ρ j12 (fun w => by rcases w with w | w; exact q w; exact hne w.symm)).2.1
  have P5 : ∀ v, P v → H5.R v = H4.R v ∧ H5.F v = H4.F v := fun v hv => by
    obtain ⟨w1, w2, w3, w4, w5⟩ := j3 v hv
    exact ⟨(D5 v w2).2.1 w3 (fun w => absurd w w5), (D5 v w2).2.2 w4⟩
  have e'g : e' ≠ g.sz ∧ e' ≠ g.sz + 1 := by omega
  have Q5 : ∀ v, (P v ∨ (g.sz ≤ v ∧ v < g.sz + 2)) → (P v ∨ (g.sz ≤ v ∧ v < g.sz + 2)) ∧ H5.R v = H4.R v ∧ H5.F v = H4.F v := by
    intro v hv
    refine ⟨hv, ?_⟩
    rcases hv with q | q
    · exact P5 v q
    · exact ⟨(D5 v (by omega)).2.1 (by omega) (fun w => by omega), (D5 v (by omega)).2.2 (by omega)⟩
  refine ⟨rfl, fun v => P v ∨ (g.sz ≤ v ∧ v < g.sz + 2), e', m', l ++ [H.sz], k', refs, ⟨⟨((D5 x (by omega)).2.2 (by omega)).trans j1, by omega⟩, ?_, fun v hv => ?_, ⟨c1, ?_, ?_⟩, ⟨h7, by omega, c2, ?_⟩, ⟨h11, by omega, ?_⟩, ?_, h15⟩, ⟨?_, by omega, fun v h => Or.inl h, fun v h => by rcases h with q | q; exact Or.inl q; exact Or.inr q.1, rfl, fun _ _ => rfl, by rw [List.length_append]; omega⟩⟩
  · refine j2.to z5 F5.2.2.2.2.1 (fun v hv => ⟨Or.inl hv, P5 v hv⟩) (fun v hv w => (D5 v hv).2.1 (fun q => by rw [q, j13] at w; cases w) (fun q => by rw [← q]; exact w)) ((D5 _ (by omega)).2.2 (by omega)) ((D5 _ j2.2.1).2.1 h15 (fun q => ?_)) (fun w => ?_)
    · rcases j14 with q' | q'
      · exact absurd q q'
      · exact q'
    · rcases w with w | w
      · exact j2.2.2.1 w
      · have := h2.2.1; omega
  · rcases hv with q | q
    · obtain ⟨w1, w2, w3, w4, w5⟩ := h3 v q
      exact ⟨w1, by omega, w3, w4, by omega⟩
    · exact ⟨by omega, by omega, by omega, by omega, by omega⟩
  · rw [List.length_append, List.length_append, h5]; rfl
  · intro j b t w1 w2
    by_cases q : j < l.length
    · rw [List.getElem?_append_left q] at w1
      rw [List.getElem?_append_left (by omega)] at w2
      exact (j6 j b t w1 w2).to fun v hv => ⟨Or.inl hv, P5 v hv⟩
    · rw [List.getElem?_append_right (by omega)] at w1 w2
      have e1 := List.mem_singleton.mp (List.mem_of_getElem? w1)
      have e2 := List.mem_singleton.mp (List.mem_of_getElem? w2)
      rw [e1, e2]
      exact B4.to Q5
  · omega
  · exact R5.trans j13
  · rcases c3 with q | q
    · rcases j14 with w | w
      · left; omega
      · right
        rw [q, c7 w]; exact w
    · left
      have := j2.2.1
      omega
  · refine (((E4.frH (ρ := ρ) (ι := ι) (e := e)).trans F5 (Or.inl rfl) (Or.inl hne)).more (by omega) ?_)
    rw [List.length_append, show (l.length + [H.sz].length) * (l.length + [H.sz].length) = l.length * l.length + (2 * l.length + 1) by show (l.length + 1) * (l.length + 1) = _; rw [Nat.add_mul, Nat.mul_add]; omega]
    omega
abbrev ahOk (P : Nat → Prop) (g : AH) (ahr : Option Nat) (ah : Option Tr) : Prop := (ahr = none ∧ ah = none) ∨ ∃ b t, ahr = some b ∧ ah = some t ∧ BrA P g b t ∧ brT1 t
def hZ (P : Nat → Prop) (g : AH) (zs : Zs) (ahr : Option Nat) (ah : Option Tr) : Prop := (∀ z, z ∈ zs → BrA P g z.1 z.2 ∧ brT1 z.2) ∧ ahOk P g ahr ah
theorem hZ.to {P P' : Nat → Prop} {g g' : AH} {zs : Zs} {ahr : Option Nat} {ah : Option Tr} (k : hZ P g zs ahr ah) (hP : ∀ v, P v → P' v ∧ g'.R v = g.R v ∧ g'.F v = g.F v) : hZ P' g' zs ahr ah := by
  refine ⟨fun z hz => ⟨(k.1 z hz).1.to hP, (k.1 z hz).2⟩, ?_⟩
  rcases k.2 with q | ⟨b, t, q1, q2, q3, q4⟩
  · exact Or.inl q
  · exact Or.inr ⟨b, t, q1, q2, q3.to hP, q4⟩
theorem hI.keep {fl : List AV} {P P1 : Nat → Prop} {g g1 : AH} {e e1 n c : Nat} {m : Int} {l l1 : List Nat} {k : Nat} {Ts : List Tr} {refs refs1 : List (Option Nat)} (h : hI x ρ ι fl eB mB lB kB N P g e m l k Ts refs) (dd : hD ρ ι P g e l refs n c P1 g1 e1 l1 refs1) : ∀ v, P v → P1 v ∧ g1.R v = g.R v ∧ g1.F v = g.F v := by
  intro v hv
  obtain ⟨w1, w2, w3, w4, w5⟩ := h.2.2.1 v hv
  obtain ⟨u1, u2, u3⟩ := dd.1.2.2.2.2.2 v w2
  exact ⟨dd.2.2.1 v hv, u2 w3 (fun w => absurd w w5), u3 w4⟩
theorem take_eq {α : Type} {a b : List α} {n : Nat} (h : ∀ i, i < n → a[i]? = b[i]?) : a.take n = b.take n := by
  apply List.ext_getElem?
  intro i
  by_cases q : i < n
  · rw [List.getElem?_take_of_lt q, List.getElem?_take_of_lt q, h i q]
  · rw [List.getElem?_eq_none (by rw [List.length_take]; omega), List.getElem?_eq_none (by rw [List.length_take]; omega)]
/-- what the recursion does -/
def hgOK (d x ρ ι : Nat) (fl : List AV) (eB : Nat) (mB : Int) (lB : List Nat) (kB N p : Nat) : Prop := ∀ (P : Nat → Prop) (g : AH) (left most n : Nat) (zs : Zs) (ahr : Option Nat) (ah : Option Tr) (e : Nat) (m : Int) (l : List Nat) (k : Nat) (Ts : List Tr) (refs : List (Option Nat)), hI x ρ ι fl eB mB lB kB N P g e m l k Ts refs → refs.take n = refZ zs → zs.length = n → n + p ≤ 4 → n + p ≤ refs.length → hZ P g zs ahr ah → sortedT (treZ zs) → (∀ y, y ∈ treZ zs → ∃ a, ah = some a ∧ 0 ≤ cmpT y a) → sumS (treZ zs) + left ≤ 15 → (min left most = 0 ∨ min left most < N) → most ≤ 15 → l.length + (rowsB brL p left most ah).length ≤ 400 →
  wp (d + p + 24) 190 (0, ent 11 [vR (some x), vI ((left : Nat) : Int), vI ((p : Nat) : Int), vI ((most : Nat) : Int), vR ahr, vR (some ρ), vI ((n : Nat) : Int), vR (some ι)], [], g) (hgEnd x ρ ι fl eB mB lB kB N P g e l Ts refs n (hgC p left most ah) ((rowsB brL p left most ah).map fun r => mkT (treZ zs ++ r)))
def resB (p left s : Nat) (ah : Option Tr) (b : Tr) : List (List Tr) := cond (ovO b ah) [] ((rowsB brL p (left - s) s (some b)).map fun r => b :: r)
def cstB (p left s : Nat) (ah : Option Tr) (b : Tr) : Nat := cond (ovO b ah) 0 (hgC p (left - s) s (some b))
theorem sumS_snoc (l : List Tr) (b : Tr) : sumS (l ++ [b]) = sumS l + szT b := by unfold sumS; simp
/-- a list that is there -/
theorem bhit_spec {fl : List AV} {g : AH} {s a : Nat} (hF : g.F x = (1, vR (some (x + 1)) :: fl)) (hA : AL g (x + 1) eB mB lB kB) (ha : lB[s]? = some a) (hk : (g.F a).1 % 200 = 10) : wp (d + 4) 191 (0, ent 3 [vR (some x), vI ((s : Nat) : Int)], [], g) (fun r h' => r = .inl (some (vR (some a))) ∧ h' = g) := by
  have hl := (List.getElem?_eq_some_iff.mp ha).1
  refine wp.go [] 40 fun W C hW hC => ?_
  refine ⟨_, _, _, _, hF, rfl, rfl, ?_⟩
  refine ⟨_, _, _, hA.1, rfl, ?_⟩
  refine hC _ _ _ (useE (wpd.up (by omega) (size_spec' (d := 0) hA)) ?_)
  refine ⟨fun _ => ?_, fun w => absurd w (by omega)⟩
  refine ⟨_, _, _, _, hF, rfl, rfl, ?_⟩
  refine ⟨_, _, _, hA.1, rfl, ?_⟩
  refine hC _ _ _ (useE (wpd.up (by omega) (get_spec (d := 0) hA ha)) ?_)
  refine ⟨fun b hb => ?_, ?_⟩
  · cases hb
    exact ⟨(0, 10), rfl, by decide, hk⟩
  · exact ⟨rfl, rfl⟩
theorem brL_len (s : Nat) : (brL s).length ≤ 8 := by
  match s with
  | 0 => decide
  | 1 => decide
  | 2 => decide
  | 3 => decide
  | 4 => decide
  | 5 => decide
  | _ + 6 => exact Nat.zero_le _
/-- one size: all branches of it -/
theorem hg_in {p : Nat} (ih : hgOK d x ρ ι (flC x ld nw wh nm tp) eB mB lB kB N p) {P0 : Nat → Prop} {g0 : AH} {e0 : Nat} {l0 : List Nat} {refs0 : List (Option Nat)} {left most n s t as es ks : Nat} {ms : Int} {bs : List Nat} {zs : Zs} {ahr : Option Nat} {ah : Option Tr} (hn : zs.length = n) (hn4 : n + (p + 1) ≤ 4) (hst : sortedT (treZ zs)) (hah : ∀ y, y ∈ treZ zs → ∃ a, ah = some a ∧ 0 ≤ cmpT y a) (hsum : sumS (treZ zs) + left ≤ 15) (hs1 : 1 ≤ s) (hsl : s ≤ left) (hsN : s < N) (hN6 : N ≤ 6) (htx : x + 87 < t) (ht0 : g0.sz ≤ t) (hne0 : e0 ≠ ρ) (hr0 : n + (p + 1) ≤ refs0.length) (hz0 : refs0.take n = refZ zs) (htι : t ≠ ι) (htas : t ≠ as) {Q : Rs → AH → Prop} {TsF : List Tr} {cF : Nat}
    (hQ : ∀ P1 g1 e1 m1 l1 k1 refs1 x10, hI x ρ ι (flC x ld nw wh nm tp) eB mB lB kB N P1 g1 e1 m1 l1 k1 TsF refs1 → hD ρ ι P0 g0 e0 l0 refs0 n cF P1 g1 e1 l1 refs1 → hZ P1 g1 zs ahr ah → wp (d + (p + 1) + 24) 190 (50, [some (vR (some x)), some (vI ((left : Nat) : Int)), some (vI ((p + 1 : Nat) : Int)), some (vI ((most : Nat) : Int)), some (vR ahr), some (vR (some ρ)), some (vI ((n : Nat) : Int)), some (vR (some ι)), some (vI ((s - 1 : Nat) : Int)), some (vR (some t)), x10], [], g1) Q) :
    ∀ (rest : List Tr) (c : Nat) (P : Nat → Prop) (g : AH) (e : Nat) (m : Int) (l : List Nat) (k : Nat) (Ts : List Tr) (refs : List (Option Nat)) (cc : Nat) (x10 : Option AV), (brL s).drop c = rest → c ≤ (brL s).length → hI x ρ ι (flC x ld nw wh nm tp) eB mB lB kB N P g e m l k Ts refs → hD ρ ι P0 g0 e0 l0 refs0 n cc P g e l refs → hZ P g zs ahr ah → lsX P g as es ms bs ks (brL s) → ItAt g t as c ms → ¬ P t → t < g.sz → l.length + (rest.flatMap (resB p left s ah)).length ≤ 400 → TsF = Ts ++ (rest.flatMap (resB p left s ah)).map (fun r => mkT (treZ zs ++ r)) → cF = cc + (rest.map (cstB p left s ah)).sum →
    wp (d + (p + 1) + 24) 190 (66, [some (vR (some x)), some (vI ((left : Nat) : Int)), some (vI ((p + 1 : Nat) : Int)), some (vI ((most : Nat) : Int)), some (vR ahr), some (vR (some ρ)), some (vI ((n : Nat) : Int)), some (vR (some ι)), some (vI ((s : Nat) : Int)), some (vR (some t)), x10], [], g) Q := by
  intro rest
  induction rest with
  | nil =>
    intro c P g e m l k Ts refs cc x10 hdr hcle hi hd hz hls hit hPt htg hlen hTF hcF
    have hc : c = bs.length := by
      have := congrArg List.length hdr
      rw [List.length_drop, List.length_nil] at this
      rw [hls.2.2.2.1]; omega
    obtain ⟨y, hit'⟩ := id hit
    have e1 : TsF = Ts := by rw [hTF]; exact List.append_nil _
    have e2 : cF = cc := hcF
    subst e1
    subst e2
    refine wp.go [66, 50] 30 fun W C hW hC => ?_
    refine ⟨_, _, _, hit', rfl, ?_⟩
    refine hC _ _ _ (useE (wpd.up (by omega) (hasNext_spec (d := 0) hit hls.2.1)) ?_)
    rw [hc, Nat.beq_refl]
    refine ⟨fun _ => ?_, fun w => absurd rfl w⟩
    conv => whnf
    rw [iadd_eq (by omega), show ((s : Nat) : Int) + -1 = ((s - 1 : Nat) : Int) by omega]
    exact hW _ (hQ P g e m l k refs x10 hi hd hz)
  | cons b rest ihr =>
    intro c P g e m l k Ts refs cc x10 hdr hcle hi hd hz hls hit hPt htg hlen hTF hcF
    have hcl : c < (brL s).length := by
      have := congrArg List.length hdr
      rw [List.length_drop, List.length_cons] at this
      omega
    rw [List.drop_eq_getElem_cons hcl] at hdr
    have hb0 : (brL s)[c] = b := by cases hdr; rfl
    have hrest : (brL s).drop (c + 1) = rest := by cases hdr; rfl
    have hget : (brL s)[c]? = some b := by rw [List.getElem?_eq_getElem hcl, hb0]
    have hbl : c < bs.length := by rw [hls.2.2.2.1]; exact hcl
    have hbb := List.getElem?_eq_getElem hbl
    generalize bs[c] = bb at hbb
    obtain ⟨hok, hbs⟩ := brL_all (show s ≤ 5 by omega) (List.mem_of_getElem? hget)
    obtain ⟨y, hit'⟩ := id hit
    obtain ⟨G1, hG1⟩ : ∃ G1, G1 = g.setF t [vI ((c + 1 : Nat) : Int), vI ((c : Nat) : Int), vI ms, vR (some as)] := ⟨_, rfl⟩
    have hP1 : ∀ v, P v → P v ∧ G1.R v = g.R v ∧ G1.F v = g.F v := fun v hv => ⟨hv, by rw [hG1]; rfl, by rw [hG1]; exact setF_ne (fun w => hPt (w ▸ hv))⟩
    have hi1 : hI x ρ ι (flC x ld nw wh nm tp) eB mB lB kB N P G1 e m l k Ts refs := by rw [hG1]; exact hi.setNew hPt htx htι
    have hz1 := hz.to hP1
    have B1 : BrA P G1 bb b := (hls.2.2.2.2 c bb b hbb hget).to hP1
    have hit1 : ItAt G1 t as (c + 1) ms := ⟨_, by rw [hG1]; exact setF_at hit'⟩
    have S1 : G1.sz = g.sz := by rw [hG1]; rfl
    have hls1 : lsX P G1 as es ms bs ks (brL s) := hls.to (by omega) (by rw [hG1]; rfl) hP1 (fun v _ _ => by rw [hG1]; rfl)
    have hd1 : hD ρ ι P0 g0 e0 l0 refs0 n cc P G1 e l refs := by
      rw [hG1]
      exact ⟨hd.1.setNew ht0, hd.2⟩
    have hrl : refs.length = refs0.length := hd.2.2.2.2.1
    have hzt : refs.take n = refZ zs := (take_eq hd.2.2.2.2.2.1).trans hz0
    have hNb : N ≤ 6 := hN6
    have tail : ovO b ah = false → wp (d + (p + 1) + 24) 190 (106, [some (vR (some x)), some (vI ((left : Nat) : Int)), some (vI ((p + 1 : Nat) : Int)), some (vI ((most : Nat) : Int)), some (vR ahr), some (vR (some ρ)), some (vI ((n : Nat) : Int)), some (vR (some ι)), some (vI ((s : Nat) : Int)), some (vR (some t)), some (vR (some bb))], [], G1) Q := by
      intro hov
      have hres : resB p left s ah b = (rowsB brL p (left - s) s (some b)).map fun r => b :: r := by unfold resB; rw [hov]; rfl
      have hcst : cstB p left s ah b = hgC p (left - s) s (some b) := by unfold cstB; rw [hov]; rfl
      have hρ := hi1.2.2.2.2.2.1
      have hset : (refs.set n (some bb)).take (n + 1) = refZ (zs ++ [(bb, b)]) := by
        rw [List.take_succ, take_eq (b := refs) (fun i hi => List.getElem?_set_ne (by omega)), hzt, List.getElem?_set_self (by omega)]
        simp
      have hP2 : ∀ v, P v → P v ∧ (G1.setR ρ (refs.set n (some bb))).R v = G1.R v ∧ (G1.setR ρ (refs.set n (some bb))).F v = G1.F v := fun v hv => ⟨hv, setR_ne (hi.2.2.1 v hv).2.2.1, rfl⟩
      have B2 := B1.to hP2
      have hsort : ∀ y, y ∈ treZ zs → 0 ≤ cmpT y b := by
        intro y hy
        obtain ⟨a, ha, ha2⟩ := hah y hy
        rw [ha] at hov
        have hov : ¬ 0 < cmpT b a := of_decide_eq_false hov
        exact cmpT_trans ha2 (by rw [cmpT_neg]; omega)
      have htre : treZ (zs ++ [(bb, b)]) = treZ zs ++ [b] := by simp
      have call := ih P (G1.setR ρ (refs.set n (some bb))) (left - s) s (n + 1) (zs ++ [(bb, b)]) (some bb) (some b) e m l k Ts (refs.set n (some bb)) hi1.setRho hset (by simp [hn]) (by omega) (by rw [List.length_set]; omega)
        ⟨fun z hz' => by
          rcases List.mem_append.mp hz' with q | q
          · exact ⟨(hz1.1 z q).1.to hP2, (hz1.1 z q).2⟩
          · rw [List.mem_singleton.mp q]; exact ⟨B2, hok⟩, Or.inr ⟨bb, b, rfl, rfl, B2, hok⟩⟩
        (by rw [htre]; exact sorted_snoc hst hsort)
        (by
          intro y hy
          rw [htre] at hy
          rcases List.mem_append.mp hy with q | q
          · exact ⟨b, rfl, hsort y q⟩
          · rw [List.mem_singleton.mp q]; exact ⟨b, rfl, by rw [cmpT_self]; decide⟩)
        (by rw [htre, sumS_snoc]; omega) (Or.inr (by omega)) (by omega)
        (by
          rw [List.flatMap_cons, List.length_append, hres, List.length_map] at hlen
          omega)
      have hFx : (G1.setR ρ (refs.set n (some bb))).F x = (1, flC x ld nw wh nm tp) := hi1.1.1
      refine wp.go [66] 60 fun W C hW hC => ?_
      refine ⟨_, _, hρ.2.2, by decide, by decide, by omega, by omega, isk_brA B1, fun q => (by cases q), ?_⟩
      rw [Int.toNat_natCast]
      conv => whnf
      refine ⟨1, flC x ld nw wh nm tp, 190, hFx, rfl, ?_⟩
      conv => whnf
      rw [isub_eq (x := ((left : Nat) : Int)) (y := ((s : Nat) : Int)) (by omega), isub_eq (x := ((p + 1 : Nat) : Int)) (y := 1) (by omega), iadd_eq (x := ((n : Nat) : Int)) (y := 1) (by omega), show ((left : Nat) : Int) - ((s : Nat) : Int) = ((left - s : Nat) : Int) by omega, show ((p + 1 : Nat) : Int) - 1 = ((p : Nat) : Int) by omega, show ((n : Nat) : Int) + 1 = ((n + 1 : Nat) : Int) by omega]
      refine hC _ _ _ (use (wpd.up (by omega) call) ?_)
      rintro _ g2 ⟨rfl, P2, e2, m2, l2, k2, refs2, hi2, hd3⟩
      have hd2 : hD ρ ι P0 g0 e0 l0 refs0 n cc P (G1.setR ρ (refs.set n (some bb))) e l (refs.set n (some bb)) := ⟨hd1.1.setRho, hd1.2.1, hd1.2.2.1, hd1.2.2.2.1, by rw [List.length_set]; exact hrl, fun i hi => (List.getElem?_set_ne (by omega)).trans (hd1.2.2.2.2.2.1 i hi), hd1.2.2.2.2.2.2⟩
      have hi1' := hi1.setRho (ys := refs.set n (some bb))
      have hK := hi1'.keep hd3
      have ht2 : g2.F t = (G1.setR ρ (refs.set n (some bb))).F t := (hd3.1.2.2.2.2.2 t (by show t < G1.sz; omega)).2.2 htι
      obtain ⟨y1, hy1⟩ := hit1
      refine hW _ (ihr (c + 1) P2 g2 e2 m2 l2 k2 _ refs2 _ _ hrest (by omega) hi2 (hd2.trans hd3 (by omega) hne0) ((hz1.to hP2).to hK) ((hls1.to (h' := G1.setR ρ (refs.set n (some bb))) (Nat.le_refl _) rfl hP2 (fun v v1 v2 => setR_ne (fun w => by rw [w, hρ.2.2] at v2; cases v2))).hD hi1' hd3) ⟨y1, ht2.trans hy1⟩ (fun w => ?_) (by have := hd3.1.1; have : G1.sz ≤ g2.sz := this; omega) ?_ ?_ ?_)
      · rcases hd3.2.2.2.1 t w with q | q
        · exact hPt q
        · have q : G1.sz ≤ t := q
          omega
      · have hl2 := hi2.2.2.2.1.2.1
        have hl1 := hi1.2.2.2.1.2.1
        rw [List.length_append, List.length_map] at hl2
        rw [List.flatMap_cons, List.length_append, hres, List.length_map] at hlen
        omega
      · rw [hTF, List.flatMap_cons, List.map_append, hres, List.map_map, List.append_assoc, htre]
        congr 2
        refine List.map_congr_left fun r hr => ?_
        show mkT (treZ zs ++ b :: r) = mkT (treZ zs ++ [b] ++ r)
        rw [List.append_assoc]
        rfl
      · rw [hcF, List.map_cons, List.sum_cons, hcst]
        omega
    refine wp.go [66, 106] 60 fun W C hW hC => ?_
    refine ⟨_, _, _, hit', rfl, ?_⟩
    refine hC _ _ _ (useE (wpd.up (by omega) (hasNext_spec (d := 0) hit hls.2.1)) ?_)
    rw [beq_ff (show c ≠ bs.length by omega)]
    refine ⟨fun w => absurd w (by decide), fun _ => ?_⟩
    refine ⟨_, _, _, hit', rfl, ?_⟩
    refine hC _ _ _ (useE (wpd.up (by omega) (next_spec (d := 0) hit hls.2.1 htas hbb (by rw [hls.2.2.2.1]; have : (brL s).length ≤ 8 := brL_len s; omega))) ?_)
    rw [← hG1]
    refine ⟨isk_brA B1, ?_⟩
    rcases hz1.2 with ⟨q1, q2⟩ | ⟨ab, at', q1, q2, q3, q4⟩
    · subst q1
      subst q2
      exact hW _ (tail rfl)
    · subst q1
      subst q2
      have hPz : ∀ v, P v → v < G1.sz := fun v hv => (hi1.2.2.1 v hv).2.1
      refine ⟨_, _, _, B1.choose_spec.choose_spec.2.1, rfl, ?_⟩
      refine hC _ _ _ (useE (wpd.up (by omega) (cmp16 (d := 0) (show OAt G1 (some bb) (some b) from ⟨B1.at hPz, hok.1, hok.2.1⟩) (show OAt G1 (some ab) (some at') from ⟨q3.at hPz, q4.1, q4.2.1⟩))) ?_)
      refine ⟨fun q => hW _ (tail (decide_eq_false (by omega))), fun q => ?_⟩
      have hov : ovO b (some at') = true := decide_eq_true q
      have hres : resB p left s (some at') b = [] := by unfold resB; rw [hov]; rfl
      have hcst : cstB p left s (some at') b = 0 := by unfold cstB; rw [hov]; rfl
      rw [List.flatMap_cons, hres, List.nil_append] at hlen hTF
      rw [List.map_cons, List.sum_cons, hcst, Nat.zero_add] at hcF
      exact hW _ (ihr (c + 1) P G1 e m l k Ts refs cc _ hrest (by omega) hi1 hd1 hz1 hls1 hit1 hPt (by omega) hlen hTF hcF)
/-- from behind the call that gives the list of a size -/
theorem hg_body {p : Nat} (ih : hgOK d x ρ ι (flC x ld nw wh nm tp) eB mB lB kB N p) {P0 : Nat → Prop} {g0 : AH} {e0 : Nat} {l0 : List Nat} {refs0 : List (Option Nat)} {left most n : Nat} {zs : Zs} {ahr : Option Nat} {ah : Option Tr} (hn : zs.length = n) (hn4 : n + (p + 1) ≤ 4) (hst : sortedT (treZ zs)) (hah : ∀ y, y ∈ treZ zs → ∃ a, ah = some a ∧ 0 ≤ cmpT y a) (hsum : sumS (treZ zs) + left ≤ 15) (hN6 : N ≤ 6) (hne0 : e0 ≠ ρ) (hr0 : n + (p + 1) ≤ refs0.length) (hz0 : refs0.take n = refZ zs) {s : Nat} {P : Nat → Prop} {g : AH} {e : Nat} {m : Int} {l : List Nat} {k : Nat} {Ts : List Tr} {refs : List (Option Nat)} {cc as es ks : Nat} {ms : Int} {bs : List Nat} {x9 x10 : Option AV} (hsl : s + 1 ≤ left) (hsN : s + 1 < N) (hi : hI x ρ ι (flC x ld nw wh nm tp) eB mB lB kB N P g e m l k Ts refs) (hd : hD ρ ι P0 g0 e0 l0 refs0 n cc P g e l refs) (hz : hZ P g zs ahr ah) (hls : lsX P g as es ms bs ks (brL (s + 1))) (hlen : l.length + ((brL (s + 1)).flatMap (resB p left (s + 1) ah)).length ≤ 400) {Q : Rs → AH → Prop}
    (hQ : ∀ P1 g1 e1 m1 l1 k1 refs1 x9 x10, hI x ρ ι (flC x ld nw wh nm tp) eB mB lB kB N P1 g1 e1 m1 l1 k1 (Ts ++ ((brL (s + 1)).flatMap (resB p left (s + 1) ah)).map (fun r => mkT (treZ zs ++ r))) refs1 → hD ρ ι P0 g0 e0 l0 refs0 n (cc + 1 + ((brL (s + 1)).map (cstB p left (s + 1) ah)).sum) P1 g1 e1 l1 refs1 → hZ P1 g1 zs ahr ah → wp (d + (p + 1) + 24) 190 (50, [some (vR (some x)), some (vI ((left : Nat) : Int)), some (vI ((p + 1 : Nat) : Int)), some (vI ((most : Nat) : Int)), some (vR ahr), some (vR (some ρ)), some (vI ((n : Nat) : Int)), some (vR (some ι)), some (vI ((s : Nat) : Int)), x9, x10], [], g1) Q) :
    wp (d + (p + 1) + 24) 190 (61, [some (vR (some x)), some (vI ((left : Nat) : Int)), some (vI ((p + 1 : Nat) : Int)), some (vI ((most : Nat) : Int)), some (vR ahr), some (vR (some ρ)), some (vI ((n : Nat) : Int)), some (vR (some ι)), some (vI ((s + 1 : Nat) : Int)), x9, x10], [vR (some as)], g) Q := by
  obtain ⟨⟨h1, h1'⟩, h2, h3, ⟨h4, h5, h6⟩, ⟨h7, h8, h9, h10⟩, ⟨h11, h12, h13⟩, h14, h15⟩ := id hi
  obtain ⟨a1, a2, a3, a4, a5⟩ := id hls
  obtain ⟨G1, hG1⟩ : ∃ G1, G1 = g.newF 11 [vI 0, vI (-1), vI ms, vR (some as)] := ⟨_, rfl⟩
  have E1 : ext 1 4 g G1 := by rw [hG1]; exact ext_newF
  have E5 := E1.2.2.2.2.1
  have hi1 := hi.ext E1
  have hP1 : ∀ v, P v → P v ∧ G1.R v = g.R v ∧ G1.F v = g.F v := fun v hv => ⟨hv, (E5 v (h3 v hv).2.1).2.1, (E5 v (h3 v hv).2.1).2.2⟩
  have hz1 := hz.to hP1
  have hls1 := hls.to E1.1 E1.2.2.2.2.2 hP1 (fun v hv _ => (E5 v hv).2.1)
  have hd1 : hD ρ ι P0 g0 e0 l0 refs0 n (cc + 1) P G1 e l refs := ⟨(hd.1.trans (E1.frH (ρ := ρ) (ι := ι) (e := e)) hd.2.1 (Or.inl hne0)).more (Nat.le_refl _) (by omega), hd.2⟩
  have hit1 : ItAt G1 g.sz as 0 ms := ⟨_, by rw [hG1]; exact newF_at⟩
  have asz := (h3 as a1).2.1
  have S1 : G1.sz = g.sz + 1 := by rw [hG1]; rfl
  have g0z := hd.1.1
  have key := hg_in ih (P0 := P0) (g0 := g0) (e0 := e0) (l0 := l0) (refs0 := refs0) (left := left) (most := most) (n := n) (s := s + 1) (t := g.sz) (as := as) (es := es) (ks := ks) (ms := ms) (bs := bs) (zs := zs) (ahr := ahr) (ah := ah) hn hn4 hst hah hsum (by omega) hsl hsN hN6 h1' (by omega) hne0 hr0 hz0 (by omega) (by omega)
    (Q := Q) (TsF := Ts ++ ((brL (s + 1)).flatMap (resB p left (s + 1) ah)).map (fun r => mkT (treZ zs ++ r))) (cF := cc + 1 + ((brL (s + 1)).map (cstB p left (s + 1) ah)).sum)
    (fun P1 g1 e1 m1 l1 k1 refs1 x10 u1 u2 u3 => hQ P1 g1 e1 m1 l1 k1 refs1 _ x10 u1 u2 u3)
    (brL (s + 1)) 0 P G1 e m l k Ts refs (cc + 1) x10 rfl (Nat.zero_le _) hi1 hd1 hz1 hls1 hit1 (fun w => by have := (h3 _ w).2.1; omega) (by omega) hlen rfl rfl
  refine wp.go [66] 60 fun W C hW hC => ?_
  refine ⟨_, _, _, a2.1, rfl, ?_⟩
  refine hC _ _ _ (useE (wpd.up (by omega) (iter_spec (d := 0) a2 asz)) ?_)
  rw [← hG1]
  exact hW _ key
/-- sizes falling -/
theorem hg_out {p : Nat} (ih : hgOK d x ρ ι (flC x ld nw wh nm tp) eB mB lB kB N p) {P0 : Nat → Prop} {g0 : AH} {e0 : Nat} {l0 : List Nat} {refs0 : List (Option Nat)} {left most n : Nat} {zs : Zs} {ahr : Option Nat} {ah : Option Tr} (hn : zs.length = n) (hn4 : n + (p + 1) ≤ 4) (hst : sortedT (treZ zs)) (hah : ∀ y, y ∈ treZ zs → ∃ a, ah = some a ∧ 0 ≤ cmpT y a) (hsum : sumS (treZ zs) + left ≤ 15) (hN6 : N ≤ 6) (hne0 : e0 ≠ ρ) (hr0 : n + (p + 1) ≤ refs0.length) (hz0 : refs0.take n = refZ zs) {Ts0 TsF : List Tr} {cF : Nat} :
    ∀ (s : Nat) (P : Nat → Prop) (g : AH) (e : Nat) (m : Int) (l : List Nat) (k : Nat) (Ts : List Tr) (refs : List (Option Nat)) (cc : Nat) (x9 x10 : Option AV), s ≤ left → (s = 0 ∨ s < N) → hI x ρ ι (flC x ld nw wh nm tp) eB mB lB kB N P g e m l k Ts refs → hD ρ ι P0 g0 e0 l0 refs0 n cc P g e l refs → hZ P g zs ahr ah → l.length + ((downF (fun s => (brL s).flatMap (resB p left s ah)) s).length) ≤ 400 → Ts0 ++ TsF = Ts ++ (downF (fun s => (brL s).flatMap (resB p left s ah)) s).map (fun r => mkT (treZ zs ++ r)) → cF = cc + dnS (fun s => 1 + ((brL s).map (cstB p left s ah)).sum) s →
    wp (d + (p + 1) + 24) 190 (50, [some (vR (some x)), some (vI ((left : Nat) : Int)), some (vI ((p + 1 : Nat) : Int)), some (vI ((most : Nat) : Int)), some (vR ahr), some (vR (some ρ)), some (vI ((n : Nat) : Int)), some (vR (some ι)), some (vI ((s : Nat) : Int)), x9, x10], [], g) (hgEnd x ρ ι (flC x ld nw wh nm tp) eB mB lB kB N P0 g0 e0 l0 Ts0 refs0 n cF TsF) := by
  intro s
  induction s with
  | zero =>
    intro P g e m l k Ts refs cc x9 x10 hsl hsN hi hd hz hlen hTF hcF
    refine wp.go [50] 20 fun W C hW hC => ?_
    refine ⟨fun _ => ⟨rfl, P, e, m, l, k, refs, ?_, ?_⟩, fun w => absurd w (by decide)⟩
    · rw [hTF]
      rw [show Ts ++ (downF (fun s => (brL s).flatMap (resB p left s ah)) 0).map (fun r => mkT (treZ zs ++ r)) = Ts from List.append_nil _]
      exact hi
    · rw [hcF]
      exact hd
  | succ s ihs =>
    intro P g e m l k Ts refs cc x9 x10 hsl hsN hi hd hz hlen hTF hcF
    have hsN : s + 1 < N := by omega
    have h1 := hi.1.1
    obtain ⟨k1, k2, k3, k4, k5, k6⟩ := id hi.2.1
    have hlt : s + 1 < lB.length := by omega
    have hgl := List.getElem?_eq_getElem hlt
    generalize lB[s + 1] = as at hgl
    obtain ⟨a1, es, ms, bs, ks, a2, a3, a4, a5⟩ := k6 (s + 1) as hsN hgl
    have hD0 : downF (fun s => (brL s).flatMap (resB p left s ah)) (s + 1) = (brL (s + 1)).flatMap (resB p left (s + 1) ah) ++ downF (fun s => (brL s).flatMap (resB p left s ah)) s := rfl
    have hS0 : dnS (fun s => 1 + ((brL s).map (cstB p left s ah)).sum) (s + 1) = 1 + ((brL (s + 1)).map (cstB p left (s + 1) ah)).sum + dnS (fun s => 1 + ((brL s).map (cstB p left s ah)).sum) s := rfl
    rw [hD0, List.length_append] at hlen
    refine wp.go [50, 61] 60 fun W C hW hC => ?_
    refine ⟨fun w => absurd w (by omega), fun _ => ?_⟩
    refine ⟨_, _, _, h1, rfl, ?_⟩
    refine hC _ _ _ (useE (wpd.up (by omega) (bhit_spec (d := 0) h1 k1 hgl (by rw [a2.1]; rfl))) ?_)
    refine hW _ (hg_body ih hn hn4 hst hah hsum hN6 hne0 hr0 hz0 hsl hsN hi hd hz ⟨a1, a2, a3, a4, a5⟩ (by omega) fun P1 g1 e1 m1 l1 k1 refs1 x9 x10 u1 u2 u3 => ihs P1 g1 e1 m1 l1 k1 _ refs1 _ _ _ (by omega) (by omega) u1 u2 u3 (by
          have v1 := u1.2.2.2.1.2.1
          have v2 := hi.2.2.2.1.2.1
          rw [List.length_append, List.length_map] at v1
          omega) (by rw [hTF, hD0, List.map_append, List.append_assoc]) (by rw [hcF, hS0]; omega))
theorem hangs_hit (hN6 : N ≤ 6) : ∀ p, hgOK d x ρ ι (flC x ld nw wh nm tp) eB mB lB kB N p := by
  intro p
  induction p with
  | zero =>
    intro P g left most n zs ahr ah e m l k Ts refs hi ht hn h4 hr hz hst hah hsum hmin hm15 hlen
    by_cases q : left = 0
    · subst q
      have e1 : rowsB brL 0 0 most ah = [[]] := rfl
      rw [e1] at hlen ⊢
      rw [show ([[]] : List (List Tr)).map (fun r => mkT (treZ zs ++ r)) = [mkT (treZ zs)] by simp, show hgC 0 0 most ah = 3 from rfl]
      exact hg_leaf (p := 0) hi ht hn (by omega) (by omega) hz.1 hst (by omega) (by omega)
    · have e1 : rowsB brL 0 left most ah = [] := by unfold rowsB; rw [beq_ff q]; rfl
      have e2 : hgC 0 left most ah = 0 := by unfold hgC; rw [beq_ff q]; rfl
      rw [e1, e2]
      refine wp.go [] 20 fun W C hW hC => ?_
      refine ⟨fun _ => ?_, fun w => absurd w (by omega)⟩
      refine ⟨fun w => absurd rfl w, fun _ => ?_⟩
      exact ⟨rfl, P, e, m, l, k, refs, by rw [List.map_nil, List.append_nil]; exact hi, hD.refl⟩
  | succ p ih =>
    intro P g left most n zs ahr ah e m l k Ts refs hi ht hn h4 hr hz hst hah hsum hmin hm15 hlen
    by_cases q : left = 0
    · subst q
      have e1 : rowsB brL (p + 1) 0 most ah = [[]] := rfl
      rw [e1] at hlen ⊢
      rw [show ([[]] : List (List Tr)).map (fun r => mkT (treZ zs ++ r)) = [mkT (treZ zs)] by simp, show hgC (p + 1) 0 most ah = 3 from rfl]
      exact wpd.up (by omega) (hg_leaf (d := d) (p := p + 1) hi ht hn (by omega) (by omega) hz.1 hst (by omega) (by omega))
    · have e1 : rowsB brL (p + 1) left most ah = downF (fun s => (brL s).flatMap (resB p left s ah)) (min left most) := by unfold rowsB; rw [beq_ff q]; rfl
      have e2 : hgC (p + 1) left most ah = dnS (fun s => 1 + ((brL s).map (cstB p left s ah)).sum) (min left most) := by unfold hgC; rw [beq_ff q]; rfl
      rw [e1] at hlen
      rw [e1, e2]
      have key := hg_out ih (P0 := P) (g0 := g) (e0 := e) (l0 := l) (refs0 := refs) (left := left) (most := most) (Ts0 := Ts) hn (by omega) hst hah hsum hN6 hi.neρ (by omega) ht (min left most) P g e m l k Ts refs 0 none none (by omega) hmin hi hD.refl hz hlen rfl (Nat.zero_add _).symm
      refine wp.go [50] 30 fun W C hW hC => ?_
      refine ⟨fun _ => ?_, fun w => absurd w (by omega)⟩
      refine ⟨fun _ => ?_, fun w => absurd w (by omega)⟩
      refine hC _ _ _ (useE (wpd.up (by omega) (min_spec (d := 0))) ?_)
      rw [show min ((left : Nat) : Int) ((most : Nat) : Int) = ((min left most : Nat) : Int) by omega]
      exact hW _ key
end HANGS
