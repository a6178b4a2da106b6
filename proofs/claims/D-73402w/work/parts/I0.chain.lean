/-! chain: the text of a way -/
theorem capG_mono : ∀ {i j : Nat}, i ≤ j → capG i ≤ capG j := by
  intro i j h
  induction h with
  | refl => exact Nat.le_refl _
  | step _ ih => exact Nat.le_trans ih (by show _ ≤ 2 * capG _ + 2; omega)
theorem grow_le {τ G' n : Nat} (hn : n ≤ τ) (hτ : τ ≤ 96) (h : G' = 0 ∨ capG (G' - 1) < n) : G' ≤ growN τ := by
  unfold growN
  rcases h with h | h
  · omega
  · by_cases q4 : 4 ≤ G'
    · have := capG_mono (show 3 ≤ G' - 1 by omega)
      have h3 : capG 3 = 142 := rfl
      omega
    · have h0 : capG 0 = 16 := rfl
      have h1 : capG 1 = 34 := rfl
      have h2 : capG 2 = 70 := rfl
      obtain rfl | rfl | rfl | rfl : G' = 0 ∨ G' = 1 ∨ G' = 2 ∨ G' = 3 := by omega
      · exact Nat.zero_le _
      · have h : capG 0 < n := h
        rw [if_neg (by omega)]
        split
        · exact Nat.le_refl _
        · split <;> decide
      · have h : capG 1 < n := h
        rw [if_neg (by omega), if_neg (by omega)]
        split
        · exact Nat.le_refl _
        · decide
      · have h : capG 2 < n := h
        rw [if_neg (by omega), if_neg (by omega), if_neg (by omega)]
        exact Nat.le_refl _
section CHAINC
variable {h : AH} {s N : Nat} {G : Gr} {D : Nat → Nat → Nat}
/-- who hangs along a way, as the component asks -/
theorem hn_eq (hG : G.wf) (hD : Far G D) {a c b : Nat} {fr : Int} (hs : seenF G D a c b fr) (hc : c < G.1) (hb : b < G.1) {i : Nat} (hi : i ≤ D c b) :
    (nb G (ptN (pthL G D (D c b) c b) i)).filter (hQ (if i = 0 then fr else ((ptN (pthL G D (D c b) c b) (i - 1) : Nat) : Int)) (if i < D c b then ((ptN (pthL G D (D c b) c b) (i + 1) : Nat) : Int) else -1)) = hn G (pthL G D (D c b) c b) fr i := by
  unfold hn
  refine List.filter_congr fun o ho => ?_
  have ho := (nb_mem hG).mp ho
  obtain ⟨w1, w2, -⟩ := pt_way hG hD (D c b) c b hc hb rfl i hi
  have p1 := Far.pm hG hD ho hb
  rw [pth_len]
  have hnx : decide (((o : Nat) : Int) = (if i < D c b then ((ptN (pthL G D (D c b) c b) (i + 1) : Nat) : Int) else -1)) = (decide (i + 1 < D c b + 1) && Nat.beq o (ptN (pthL G D (D c b) c b) (i + 1))) := by
    by_cases q : i < D c b
    · rw [if_pos q, decide_eq_true (show i + 1 < D c b + 1 by omega), Bool.true_and, beq_dec]
    · rw [if_neg q, decide_eq_false (show ¬ i + 1 < D c b + 1 by omega), Bool.false_and, decide_eq_false (by omega)]
  show (!decide (((o : Nat) : Int) = _) && !decide (((o : Nat) : Int) = _)) = _
  rw [hnx]
  by_cases ei : i = 0
  · subst ei
    rw [if_pos rfl, decide_eq_false (Nat.lt_irrefl 0), Bool.false_and, Bool.not_false, Bool.true_and]
  · have hA : decide (((o : Nat) : Int) = fr) = false := by
      refine decide_eq_false fun q => ?_
      rcases hs with ⟨h1, h2, h3⟩ | ⟨h1, h2⟩
      · have : o = a := by omega
        subst this
        have p2 := Far.pm hG hD h1 hb
        unfold inB at h2
        omega
      · omega
    rw [if_neg ei, hA, decide_eq_true (show 0 < i by omega), Bool.not_false, Bool.true_and, Bool.true_and, beq_dec o (ptN (pthL G D (D c b) c b) (i - 1))]
/-- the next one on the way, as it is looked for -/
def nxI (G : Gr) (D : Nat → Nat → Nat) (b v : Nat) (w : Int) (k : Nat) : Int := if ((nb G v).take k).any (fun d => decide (D d b + 1 = D v b)) = true then w else -1
theorem chain_spec {a c b e τ : Nat} {fr : Int} (he : 16 ≤ e) (hS : SkAt h s G) (hG : G.wf) (hd4 : ∀ a, deg G a ≤ 4) (hD : Far G D) (hN : nmC h N) (hs : seenF G D a c b fr) (hc : c < G.1) (hb : b < G.1)
    (hbr : ∀ i o, i ≤ D c b → o ∈ hn G (pthL G D (D c b) c b) fr i → brSp e s N G D (ptN (pthL G D (D c b) c b) i) o ∧ okX (brT G D (ptN (pthL G D (D c b) c b) i) o) ∧ 1 ≤ (brT G D (ptN (pthL G D (D c b) c b) i) o).length ∧ (brT G D (ptN (pthL G D (D c b) c b) i) o).length ≤ 96) (hlen : (wayT G D c b fr).length ≤ τ) (hτ : τ ≤ 90) :
    wp (e + 2) 244 (0, ent 11 [vR (some s), vI ((c : Nat) : Int), vI ((b : Nat) : Int), vI fr], [], h) (fun r h' => ∃ p, r = .inl (some (vR (some p))) ∧ ext (5 + growN τ + (D c b + 1) + hungS kC G D fr c b) (40 + 194 * growN τ + 4 * (D c b + 1) + τ + hungS kS G D fr c b) h h' ∧ tAt h.sz h' p (wayT G D c b fr)) := by
  have hn16 := hG.2.1
  obtain ⟨f, hf⟩ : ∃ f, f = D c b := ⟨_, rfl⟩
  have hfl := Far.lt hG hD hc hb
  rw [← hf] at hbr hfl ⊢
  obtain ⟨P, hP⟩ : ∃ P, P = pthL G D f c b := ⟨_, rfl⟩
  have hPl : P.length = f + 1 := by rw [hP, pth_len]
  have hway : wayT G D c b fr = chF G (brT G D) P fr (f + 1) := by
    show chF G (brT G D) (pthL G D (D c b) c b) fr (pthL G D (D c b) c b).length = _
    rw [pth_len, ← hf, ← hP]
  rw [← hP] at hbr
  have way : ∀ i, i ≤ f → ptN P i < G.1 ∧ D (ptN P i) b + i = f ∧ (i < f → G.2 (ptN P i) (ptN P (i + 1)) = true) := fun i hi => by
    rw [hP]
    exact pt_way hG hD f c b hc hb hf.symm i hi
  have hp0 : ptN P 0 = c := by rw [hP]; exact pt_zero _ _ _
  have hneq : ∀ i, i ≤ f → (nb G (ptN P i)).filter (hQ (if i = 0 then fr else ((ptN P (i - 1) : Nat) : Int)) (if i < f then ((ptN P (i + 1) : Nat) : Int) else -1)) = hn G P fr i := fun i hi => by
    have := hn_eq hG hD hs hc hb (i := i) (by omega)
    rw [← hf, ← hP] at this
    exact this
  have hmono : ∀ i, i ≤ f + 1 → (chF G (brT G D) P fr i).length ≤ τ := fun i hi => by
    have := chF_mono (G := G) (tx := brT G D) (P := P) (fr := fr) (f + 1 - i) i
    rw [show i + (f + 1 - i) = f + 1 by omega, ← hway] at this
    omega
  -- the loop along the way
  have loop : ∀ (j i : Nat) (g : AH) (vb Gc : Nat) (l9 l10 : Option AV) (X : List Int), j + i = f + 1 → ext (3 + i + (sumR i fun k => ((hn G P fr k).map fun o => cT kC (TT G (ptN P k) o)).sum) + Gc) (36 + 4 * i + (sumR i fun k => ((hn G P fr k).map fun o => cT kS (TT G (ptN P k) o)).sum) + 194 * Gc) h g → SbX g (h.sz + 1) vb (chF G (brT G D) P fr i) Gc → h.sz < vb → vb < g.sz → h.sz + 2 < g.sz → g.I h.sz = (1, X) → X.length = G.1 → (∀ v, v < G.1 → gt X v = ((D b v : Nat) : Int)) →
      wp (e + 2) 244 (37, [some (vR (some s)), some (vI ((c : Nat) : Int)), some (vI ((b : Nat) : Int)), some (vI fr), some (vR (some h.sz)), some (vR (some (h.sz + 1))), some (vI (if i = 0 then fr else ((ptN P (i - 1) : Nat) : Int))), some (vI (if i ≤ f then ((ptN P i : Nat) : Int) else -1)), some (vI ((i + 1 : Nat) : Int)), l9, l10], [], g) (fun r h' => ∃ p, r = .inl (some (vR (some p))) ∧ ext (5 + growN τ + (f + 1) + hungS kC G D fr c b) (40 + 194 * growN τ + 4 * (f + 1) + τ + hungS kS G D fr c b) h h' ∧ tAt h.sz h' p (wayT G D c b fr)) := by
    intro j
    induction j with
    | zero =>
      intro i g vb Gc l9 l10 X hj hE hX hvb hvz hgz hI hXl hXv
      obtain rfl : i = f + 1 := by omega
      have hXc := hXv c hc
      have hDs := Far.sym hD hb hc
      obtain ⟨Y, ⟨⟨wf, sF⟩, -⟩, -, -, -, hG', -⟩ := id hX
      have hgl := grow_le (hmono (f + 1) (Nat.le_refl _)) (by omega) hG'
      refine wp.go [37] 60 fun W C0 hW hC => ?_
      refine ⟨_, _, _, hI, by decide, by omega, gt_at c (by omega) (by omega), ?_⟩
      rw [hXc, hDs, ← hf]
      conv => whnf
      rw [iadd_eq (by omega)]
      refine ⟨fun _ => ?_, fun w => absurd w (by omega)⟩
      refine ⟨_, _, _, sF, rfl, ?_⟩
      refine hC _ _ _ (use (wpd.up (by omega) (toS_spec (d := 0) hX hvz (by omega) (by have := hmono (f + 1) (Nat.le_refl _); omega))) ?_)
      rintro _ g2 ⟨rfl, E2, z2, F2, I2⟩
      have hh := hE.trans E2
      have z := hE.1
      refine ⟨g.sz, rfl, hh.more ?_ ?_, g.sz + 1, vI 0, vI 0, ⟨by omega, by omega⟩, ⟨by omega, by omega⟩, F2, by rw [hway]; exact I2⟩
      · unfold hungS
        rw [← hf, ← hP]
        omega
      · unfold hungS
        rw [← hf, ← hP]
        have := hmono (f + 1) (Nat.le_refl _)
        have := Nat.mul_le_mul_left 194 hgl
        omega
    | succ j ih =>
      intro i g vb Gc l9 l10 X hj hE hX hvb hvz hgz hI hXl hXv
      have hif : i ≤ f := by omega
      obtain ⟨w1, w2, w3⟩ := way i hif
      have hXc := hXv c hc
      have hDs := Far.sym hD hb hc
      have hSg := hS.mono hE
      obtain ⟨k1, k2, k3, ⟨W1, k4, k5, k6⟩, k7⟩ := id hSg
      obtain ⟨XR, x1, x2, x3⟩ := k7 (ptN P i) (by omega)
      have hdc := hd4 (ptN P i)
      have z := hE.1
      rw [if_pos hif]
      obtain ⟨nw, hnw⟩ : ∃ w : Int, w = (if i < f then ((ptN P (i + 1) : Nat) : Int) else -1) := ⟨_, rfl⟩
      -- behind the search for the next one
      have behind : ∀ l10 : Option AV, wp (e + 2) 244 (107, [some (vR (some s)), some (vI ((c : Nat) : Int)), some (vI ((b : Nat) : Int)), some (vI fr), some (vR (some h.sz)), some (vR (some (h.sz + 1))), some (vI (if i = 0 then fr else ((ptN P (i - 1) : Nat) : Int))), some (vI ((ptN P i : Nat) : Int)), some (vI ((i + 1 : Nat) : Int)), some (vI nw), l10], [], g) (fun r h' => ∃ p, r = .inl (some (vR (some p))) ∧ ext (5 + growN τ + (f + 1) + hungS kC G D fr c b) (40 + 194 * growN τ + 4 * (f + 1) + τ + hungS kS G D fr c b) h h' ∧ tAt h.sz h' p (wayT G D c b fr)) := by
        intro l10
        have hq := hneq i hif
        rw [← hnw] at hq
        have hflat : chF G (brT G D) P fr i ++ (hangT (brT G D (ptN P i)) (hn G P fr i)).flatMap (oneT (i + 1 - 1)) = chF G (brT G D) P fr (i + 1) := rfl
        have hN0 := hN.1
        have call := hangs_spec (h := g) (s := s) (sb := h.sz + 1) (c := ptN P i) (N := N) (G := G) (before := if i = 0 then fr else ((ptN P (i - 1) : Nat) : Int)) (next := nw) (D := D) (e := e) (vb := vb) (Gc := Gc) (pl := i + 1) (t := chF G (brT G D) P fr i) (by omega) hSg hG hd4 w1 (hN.ext hE) (by omega) (by omega) (by omega) hvz hX (by omega) (by omega) (by rw [hq]; exact fun o ho => hbr i o hif ho) (by
          rw [hq, hflat]
          have := hmono (i + 1) (by omega)
          omega)
        rw [hq, hflat] at call
        refine wp.go [37] 40 fun W C0 hW hC => ?_
        refine ⟨_, _, _, k2, rfl, ?_⟩
        refine hC _ _ _ (use call ?_)
        rintro _ g2 ⟨rfl, vb2, Gc2, q1, q2, q3, q4, q5⟩
        have E2 := hE.sbF q5 (by omega) (by omega)
        have z2 := q5.1
        have I2 : g2.I h.sz = (1, X) := ((q5.2.2.2.2.2 h.sz (by omega)).1 (by omega)).trans hI
        conv => whnf
        rw [iadd_eq (by omega)]
        have key := ih (i + 1) g2 vb2 Gc2 (some (vI nw)) l10 X (by omega) (E2.more (by
          show _ ≤ 3 + (i + 1) + (sumR i _ + ((hn G P fr i).map fun o => cT kC (TT G (ptN P i) o)).sum) + Gc2
          omega) (by
          show _ ≤ 36 + 4 * (i + 1) + (sumR i _ + ((hn G P fr i).map fun o => cT kS (TT G (ptN P i) o)).sum) + 194 * Gc2
          omega)) q1 (by omega) q3 (by omega) I2 hXl hXv
        rw [if_neg (show ¬ i + 1 = 0 by omega), show i + 1 - 1 = i by omega] at key
        have en : (if i + 1 ≤ f then ((ptN P (i + 1) : Nat) : Int) else -1) = nw := by
          rw [hnw]
          by_cases q : i < f
          · rw [if_pos q, if_pos (by omega)]
          · rw [if_neg q, if_neg (by omega)]
        rw [en] at key
        exact hW _ key
      -- the search
      have search : ∀ (m k : Nat) (l10 : Option AV), m + k = deg G (ptN P i) → wp (e + 2) 244 (54, [some (vR (some s)), some (vI ((c : Nat) : Int)), some (vI ((b : Nat) : Int)), some (vI fr), some (vR (some h.sz)), some (vR (some (h.sz + 1))), some (vI (if i = 0 then fr else ((ptN P (i - 1) : Nat) : Int))), some (vI ((ptN P i : Nat) : Int)), some (vI ((i + 1 : Nat) : Int)), some (vI (nxI G D b (ptN P i) ((ptN P (i + 1) : Nat) : Int) k)), some (vI ((k : Nat) : Int))], [], g) (fun r h' => ∃ p, r = .inl (some (vR (some p))) ∧ ext (5 + growN τ + (f + 1) + hungS kC G D fr c b) (40 + 194 * growN τ + 4 * (f + 1) + τ + hungS kS G D fr c b) h h' ∧ tAt h.sz h' p (wayT G D c b fr)) := by
        intro m
        induction m with
        | zero =>
          intro k l10 hm
          obtain rfl : k = deg G (ptN P i) := by omega
          have hfin : nxI G D b (ptN P i) ((ptN P (i + 1) : Nat) : Int) (deg G (ptN P i)) = nw := by
            unfold nxI
            rw [show (nb G (ptN P i)).take (deg G (ptN P i)) = nb G (ptN P i) from List.take_length, hnw]
            by_cases q : i < f
            · rw [if_pos q, if_pos]
              have v3 := w3 q
              obtain ⟨-, v2, -⟩ := way (i + 1) (by omega)
              exact List.any_eq_true.mpr ⟨_, (nb_mem hG).mpr v3, decide_eq_true (by omega)⟩
            · rw [if_neg q, if_neg]
              intro w
              obtain ⟨d, -, d2⟩ := List.any_eq_true.mp w
              have := of_decide_eq_true d2
              omega
          rw [hfin]
          refine wp.go [54, 107] 20 fun W C0 hW hC => ?_
          refine ⟨_, _, _, _, k2, rfl, rfl, ?_⟩
          refine ⟨_, _, _, k4, rfl, by omega, gt_at (ptN P i) (by omega) (by omega), ?_⟩
          rw [k6 (ptN P i) w1]
          refine ⟨fun _ => ?_, fun w => absurd w (by omega)⟩
          exact hW _ (behind _)
        | succ m ihm =>
          intro k l10 hm
          have hkl : k < (nb G (ptN P i)).length := by show k < deg G (ptN P i); omega
          have hko := List.getElem?_eq_getElem hkl
          have hmem := List.getElem_mem hkl
          generalize (nb G (ptN P i))[k] = o at hko hmem
          have hGo := (nb_mem hG).mp hmem
          have hol := (hG.2.2 _ _ hGo).2.1
          have xk := x3 w1 k o hko
          have hXo := hXv o hol
          have hXp := hXv (ptN P i) w1
          have s1 := Far.sym hD hb hol
          have s2 := Far.sym hD hb w1
          have hlXR : (nb G (ptN P i)).length = deg G (ptN P i) := rfl
          have hsuc : nxI G D b (ptN P i) ((ptN P (i + 1) : Nat) : Int) (k + 1) = if D o b + 1 = D (ptN P i) b then ((ptN P (i + 1) : Nat) : Int) else nxI G D b (ptN P i) ((ptN P (i + 1) : Nat) : Int) k := by
            unfold nxI
            rw [List.take_succ, hko, List.any_append]
            by_cases q : D o b + 1 = D (ptN P i) b
            · rw [if_pos q, if_pos]
              simp [q]
            · rw [if_neg q]
              simp [q]
          refine wp.go [54, 107] 90 fun W C0 hW hC => ?_
          refine ⟨_, _, _, _, k2, rfl, rfl, ?_⟩
          refine ⟨_, _, _, k4, rfl, by omega, gt_at (ptN P i) (by omega) (by omega), ?_⟩
          rw [k6 (ptN P i) w1]
          refine ⟨fun w => absurd w (by omega), fun _ => ?_⟩
          refine ⟨_, _, _, _, k2, rfl, rfl, ?_⟩
          refine ⟨_, _, _, k3, by decide, by omega, by rw [Int.toNat_natCast]; exact row_ref (by omega), ?_⟩
          refine ⟨_, _, _, x1, rfl, by omega, gt_at k (by omega) (by omega), ?_⟩
          rw [xk]
          refine ⟨_, _, _, hI, by decide, by omega, gt_at o (by omega) (by omega), ?_⟩
          rw [hXo, s1]
          refine ⟨_, _, _, hI, by decide, by omega, gt_at (ptN P i) (by omega) (by omega), ?_⟩
          rw [hXp, s2]
          conv => whnf
          rw [isub_eq (by omega)]
          refine ⟨fun q => ?_, fun q => ?_⟩
          · conv => whnf
            rw [iadd_eq (by omega)]
            have key := ihm (k + 1) l10 (by omega)
            rw [hsuc, if_neg (show ¬ D o b + 1 = D (ptN P i) b by omega)] at key
            exact hW _ key
          · refine ⟨_, _, _, _, k2, rfl, rfl, ?_⟩
            refine ⟨_, _, _, k3, by decide, by omega, by rw [Int.toNat_natCast]; exact row_ref (by omega), ?_⟩
            refine ⟨_, _, _, x1, rfl, by omega, gt_at k (by omega) (by omega), ?_⟩
            rw [xk]
            conv => whnf
            rw [iadd_eq (by omega)]
            have key := ihm (k + 1) l10 (by omega)
            rw [hsuc, if_pos (show D o b + 1 = D (ptN P i) b by omega)] at key
            have hi2 : i < f := by omega
            obtain ⟨-, v2, -⟩ := way (i + 1) (by omega)
            have : o = ptN P (i + 1) := Far.uniq hG hD hb hGo (w3 hi2) (by omega) (by omega)
            rw [← this] at key
            exact hW _ key
      refine wp.go [37, 54] 40 fun W C0 hW hC => ?_
      refine ⟨_, _, _, hI, by decide, by omega, gt_at c (by omega) (by omega), ?_⟩
      rw [hXc, hDs, ← hf]
      conv => whnf
      rw [iadd_eq (by omega)]
      refine ⟨fun w => absurd w (by omega), fun _ => ?_⟩
      exact hW _ (search (deg G (ptN P i)) 0 none (by omega))
  -- the beginning
  have hXf := far_spec (d := 0) hS hG hd4 hD hb
  have hl0 : (chF G (brT G D) P fr 0) = numT (f + 1) := by
    show numT P.length = _
    rw [hPl]
  have hDs := Far.sym hD hb hc
  refine wp.go [37] 60 fun W C0 hW hC => ?_
  refine ⟨_, _, _, hS.2.1, rfl, ?_⟩
  refine hC _ _ _ (use (wpd.up (by omega) hXf) ?_)
  rintro _ h1 ⟨rfl, E1, z1, X, x1, x2, x3⟩
  refine hC _ _ _ (use (wpd.up (by omega) (sbInit_spec (d := 0) (h := h1.newF 13 [vR none, vI 0, vI 0, vI 0]) (s := h1.sz) newF_at)) ?_)
  rintro _ h2' ⟨rfl, eh2⟩
  obtain ⟨X2, E2⟩ := sbX_new (h0 := h1)
  have eh2' : h2' = ((h1.newF 13 [vR none, vI 0, vI 0, vI 0]).newI 3 (List.replicate 16 0)).setF h1.sz [vR (some (h1.sz + 1)), vI 0, vI 0, vI 0] := eh2
  rw [eh2']
  obtain ⟨h2, hh2⟩ : ∃ G, G = ((h1.newF 13 [vR none, vI 0, vI 0, vI 0]).newI 3 (List.replicate 16 0)).setF h1.sz [vR (some (h1.sz + 1)), vI 0, vI 0, vI 0] := ⟨_, rfl⟩
  rw [← hh2] at X2 E2 ⊢
  have z2 : h2.sz = h1.sz + 2 := by rw [hh2]; rfl
  have E12 := E1.trans E2
  have I2 : h2.I h.sz = (1, X) := (E2.2.2.2.2.1 h.sz (by omega)).1.trans x1
  obtain ⟨Y2, ⟨⟨wf2, sF2⟩, -⟩, -⟩ := id X2
  refine ⟨_, _, _, I2, by decide, by omega, gt_at c (by omega) (by omega), ?_⟩
  rw [x3 c hc, hDs, ← hf]
  conv => whnf
  rw [iadd_eq (by omega)]
  obtain ⟨hN0, ⟨zo, o1, o2, o3⟩, ⟨zt, u1, u2, u3⟩, -⟩ := id (hN.ext E12)
  refine ⟨_, _, _, sF2, rfl, ?_⟩
  have hNsz := hN.1
  have call := appI_spec (d := 0) (n := f + 1) X2 (show h1.sz + 1 < h2.sz by omega) (by omega) (by omega) ⟨o1, o3⟩ ⟨u1, u3⟩ (by omega) (by omega) (by simp)
  refine hC _ _ _ (use (wpd.up (by omega) call) ?_)
  rintro _ h3 ⟨rfl, v3, G3, q1, q2, q3, q4, q5⟩
  have E3 := E12.sbF q4 (by omega) (by omega)
  have z3 := q4.1
  have I3 : h3.I h.sz = (1, X) := ((q4.2.2.2.2.2 h.sz (by omega)).1 (by omega)).trans I2
  have q1 : SbX h3 h1.sz v3 (numT (f + 1)) G3 := q1
  rw [← hl0, z1] at q1
  have key := loop (f + 1) 0 h3 v3 G3 none none X rfl (E3.more (by show _ ≤ 3 + 0 + 0 + G3; omega) (by show _ ≤ 36 + 4 * 0 + 0 + 194 * G3; omega)) q1 (by omega) q5 (by omega) I3 x2 x3
  rw [if_pos rfl, if_pos (Nat.zero_le f), hp0] at key
  rw [z1]
  exact hW _ key
end CHAINC
