/-! name: the least text of all longest ways -/
theorem fold_est {α β : Type} (f : β → α → β) (P : β → Prop) (keep : ∀ b x, P b → P (f b x)) : ∀ (l : List α) (b : β), (P b ∨ ∃ x, x ∈ l ∧ ∀ b, P (f b x)) → P (l.foldl f b)
  | [], b, h => by
    rcases h with h | ⟨x, hx, -⟩
    · exact h
    · cases hx
  | y :: r, b, h => by
    rw [List.foldl_cons]
    refine fold_est f P keep r _ ?_
    rcases h with h | ⟨x, hx, hp⟩
    · exact Or.inl (keep b y h)
    · rcases List.mem_cons.mp hx with rfl | hx
      · exact Or.inl (hp b)
      · exact Or.inr ⟨x, hx, hp⟩
theorem minT_ne {acc t : Tx} (h : acc ≠ [] ∨ t ≠ []) (ht : t ≠ []) : minT acc t ≠ [] := by
  unfold minT
  by_cases q : acc = []
  · rw [if_pos q]; exact ht
  · rw [if_neg q]
    split
    · exact ht
    · exact q
section NAMEC
variable {s N : Nat} {G : Gr} {D : Nat → Nat → Nat}
theorem way_tx (hG : G.wf) (hD : Far G D) {a b : Nat} (ha : a < G.1) (hb : b < G.1) : okX (wayT G D a b (-1)) ∧ 1 ≤ (wayT G D a b (-1)).length ∧ (wayT G D a b (-1)).length ≤ txN G.1 (D a b + 1) := by
  have hn16 := hG.2.1
  have hl := pth_len (G := G) (D := D) (D a b) a b
  have hs : seenF G D 16 a b (-1) := Or.inr ⟨rfl, rfl⟩
  have hall := hang_all hG hD hs ha hb rfl
  rw [← root_eq hG hD ha] at hall
  have := chF_len (G := G) (tx := brT G D) (P := pthL G D (D a b) a b) (fr := -1) (bsz G D) (D a b + 1) (by omega) fun i hi x hx => by
    obtain ⟨o1, o2, o3⟩ := brT_len hG hD _ x (hn_mem hG hx)
    exact ⟨o1, by omega⟩
  unfold wayT chT
  rw [hl]
  rw [hl] at this
  refine ⟨this.1 (by omega), chF_pos _, ?_⟩
  have := this.2
  rw [nlN_len] at this
  unfold txN
  omega
theorem nameG_ne (hG : G.wf) (hD : Far G D) : nameG G D ≠ [] := by
  obtain ⟨a, b, ha, hb, hL⟩ := lng_ex (D := D) hG
  have pk : ∀ a acc x, acc ≠ [] → pairF G D a acc x ≠ [] := fun a acc x h => by
    unfold pairF
    split
    · unfold minT
      rw [if_neg h]
      split
      · rename_i hd _
        intro q
        have : 1 ≤ (wayT G D a x (-1)).length := chF_pos _
        rw [q] at this
        cases this
      · exact h
    · exact h
  have rk : ∀ acc a, acc ≠ [] → rowF G D a G.1 acc ≠ [] := fun acc a h => fold_est (pairF G D a) (· ≠ []) (fun b x hb => pk a b x hb) _ _ (Or.inl h)
  refine fold_est (fun acc a => rowF G D a G.1 acc) (· ≠ []) (fun acc a h => rk acc a h) _ _ (Or.inr ⟨a, List.mem_range.mpr ha, fun acc => ?_⟩)
  refine fold_est (pairF G D a) (· ≠ []) (fun b x hb => pk a b x hb) _ _ (Or.inr ⟨b, List.mem_range.mpr hb, fun acc => ?_⟩)
  unfold pairF
  rw [if_pos hL]
  have : 1 ≤ (wayT G D a b (-1)).length := chF_pos _
  have ht : wayT G D a b (-1) ≠ [] := fun q => by rw [q] at this; cases this
  exact minT_ne (Or.inr ht) ht
/-- all longest ways, of one carbon too -/
theorem ways_all (hG : G.wf) (hD : Far G D) (hd4 : ∀ a, deg G a ≤ 4) : ((List.range G.1).map fun a => rowS kC G D (kC.2.1 G.1 (lngG G D)) (lngG G D) a).sum ≤ 14208 ∧ ((List.range G.1).map fun a => rowS kS G D (kS.2.1 G.1 (lngG G D)) (lngG G D) a).sum ≤ 162456 := by
  by_cases h2 : 2 ≤ lngG G D
  · exact ways_le hG hD hd4 h2
  · have h1 := hG.1
    have hL : lngG G D = 1 := by unfold lngG at h2 ⊢; omega
    have hn1 : G.1 = 1 := by
      apply Classical.byContradiction
      intro q
      have u := lng_ub (D := D) hG (a := 0) (b := 1) (by omega) (by omega)
      have := (hD 0 1 (by omega) (by omega)).2.1
      have e : D 0 1 = 0 := by omega
      have := this.mp e
      omega
    have hz : ∀ κ, hungS κ G D (-1) 0 0 = 0 := fun κ => by
      unfold hungS
      rw [(hD 0 0 (by omega) (by omega)).2.1.mpr rfl]
      have : hn G (pthL G D 0 0 0) (-1) 0 = [] := by
        unfold hn
        rw [List.filter_eq_nil_iff]
        intro o ho
        have ho := (nb_mem hG).mp ho
        have := hG.2.2 _ _ ho
        rw [pt_zero] at this
        omega
      show 0 + ((hn G (pthL G D 0 0 0) (-1) 0).map _).sum = 0
      rw [this]
      rfl
    have hr : ∀ κ w, rowS κ G D w 1 0 ≤ w := fun κ w => by
      unfold rowS
      rw [hn1]
      refine Nat.le_trans (sub_sum _ (M := [0]) (List.Pairwise.filter _ List.nodup_range) fun e he => ?_) ?_
      · have := List.mem_range.mp (List.mem_filter.mp he).1
        rw [show e = 0 by omega]
        exact List.mem_singleton.mpr rfl
      · show w + hungS κ G D (-1) 0 0 + 0 ≤ w
        rw [hz]
        omega
    rw [hL, hn1]
    constructor
    · show rowS kC G D (kC.2.1 1 1) 1 0 + 0 ≤ 14208
      exact Nat.le_trans (hr kC _) (by decide)
    · show rowS kS G D (kS.2.1 1 1) 1 0 + 0 ≤ 162456
      exact Nat.le_trans (hr kS _) (by decide)
/-- the sum so far over one row -/
def rowK (κ : Kc) (G : Gr) (D : Nat → Nat → Nat) (a k : Nat) : Nat := (((List.range k).filter fun b => decide (D a b + 1 = lngG G D)).map fun b => κ.2.1 G.1 (lngG G D) + hungS κ G D (-1) a b).sum
theorem rowK_succ {κ : Kc} {a k : Nat} : rowK κ G D a (k + 1) = rowK κ G D a k + if D a k + 1 = lngG G D then κ.2.1 G.1 (lngG G D) + hungS κ G D (-1) a k else 0 := by
  unfold rowK
  rw [range_filter]
  by_cases q : D a k + 1 = lngG G D
  · rw [if_pos q, decide_eq_true q]
    show (((_ ++ [k]) : List Nat).map _).sum = _
    rw [List.map_append, List.sum_append]
    simp
  · rw [if_neg q, decide_eq_false q]
    show (((_ ++ []) : List Nat).map _).sum = _
    rw [List.append_nil]
    rfl
def allK (κ : Kc) (G : Gr) (D : Nat → Nat → Nat) (i : Nat) : Nat := ((List.range i).map fun a => rowK κ G D a G.1).sum
theorem allK_succ {κ : Kc} {i : Nat} : allK κ G D (i + 1) = allK κ G D i + rowK κ G D i G.1 := by
  unfold allK
  rw [List.range_succ, List.map_append, List.sum_append]
  simp
theorem rowF_succ {a k : Nat} {acc : Tx} : rowF G D a (k + 1) acc = pairF G D a (rowF G D a k acc) k := by
  unfold rowF
  rw [List.range_succ, List.foldl_append]
  rfl
theorem allF_succ {a : Nat} : allF G D (a + 1) = rowF G D a G.1 (allF G D a) := by
  unfold allF
  rw [List.range_succ, List.foldl_append]
  rfl
theorem cname_spec {g0 : AH} (hS : SkAt g0 s G) (hG : G.wf) (hd4 : ∀ a, deg G a ≤ 4) (hD : Far G D) (hN : nmC g0 N) : wp (70) 243 (0, ent 6 [vR (some s)], [], g0) (fun r g' => ∃ p, r = .inl (some (vR (some p))) ∧ ext 14240 162968 g0 g' ∧ tAt g0.sz g' p (nameG G D)) := by
  have hn := hG.2.1
  have hn1 := hG.1
  have hL1 : 1 ≤ lngG G D := by unfold lngG; omega
  have hLn : lngG G D ≤ G.1 := by
    obtain ⟨a, b, ha, hb, hL⟩ := lng_ex (D := D) hG
    have := Far.lt hG hD ha hb
    omega
  obtain ⟨L, hL⟩ : ∃ L, L = lngG G D := ⟨_, rfl⟩
  have hbr : ∀ x y, G.2 x y = true → brSp 67 s N G D x y := fun x y h => br_all hG hd4 hD trivial 16 x y (by have := bsz_lt hG hD h; omega) h
  have inner : ∀ {a : Nat}, a < G.1 → ∀ {Q : Rs → AH → Prop}, (∀ (g : AH) (o : Option Nat) (l4 l5 : Option AV), ext (G.1 + (a + 1) + allK kC G D (a + 1)) (16 * G.1 + 16 * (a + 1) + allK kS G D (a + 1)) g0 g → bestA g0.sz g o (allF G D (a + 1)) → wp (70) 243 (11, [some (vR (some s)), some (vI ((L - 1 : Nat) : Int)), some (vR o), some (vI ((a + 1 : Nat) : Int)), l4, l5], [], g) Q) →
      ∀ (j k : Nat) (g : AH) (o : Option Nat) (f : Nat) (X : List Int), j + k = G.1 → f < g.sz → g.I f = (1, X) → X.length = G.1 → (∀ v, v < G.1 → gt X v = ((D a v : Nat) : Int)) → ext (G.1 + (a + 1) + allK kC G D a + rowK kC G D a k) (16 * G.1 + 16 * (a + 1) + allK kS G D a + rowK kS G D a k) g0 g → bestA g0.sz g o (rowF G D a k (allF G D a)) →
        wp (70) 243 (29, [some (vR (some s)), some (vI ((L - 1 : Nat) : Int)), some (vR o), some (vI ((a : Nat) : Int)), some (vR (some f)), some (vI ((k : Nat) : Int))], [], g) Q := by
    intro a ha Q hQ' j
    induction j with
    | zero =>
      intro k g o f X hj hf hI hXl hXv hE hb
      obtain rfl : k = G.1 := by omega
      have k2 := (hS.mono hE).2.1
      refine wp.go [29, 11] 20 fun W C0 hW hC => ?_
      refine ⟨_, _, _, _, k2, rfl, rfl, ?_⟩
      refine ⟨fun _ => ?_, fun w => absurd w (by omega)⟩
      conv => whnf
      rw [iadd_eq (by omega)]
      refine hW _ (hQ' g o _ _ (hE.more (by rw [allK_succ]; omega) (by rw [allK_succ]; omega)) (by rw [allF_succ]; exact hb))
    | succ j ih =>
      intro k g o f X hj hf hI hXl hXv hE hb
      have hk : k < G.1 := by omega
      have hSg := hS.mono hE
      have k2 := hSg.2.1
      have hXk := hXv k hk
      have hsuc1 := rowK_succ (κ := kC) (G := G) (D := D) (a := a) (k := k)
      have hsuc2 := rowK_succ (κ := kS) (G := G) (D := D) (a := a) (k := k)
      have hrow := rowF_succ (G := G) (D := D) (a := a) (k := k) (acc := allF G D a)
      by_cases q : D a k + 1 = lngG G D
      · rw [if_pos q] at hsuc1 hsuc2
        obtain ⟨t1, t2, t3⟩ := way_tx hG hD ha hk
        have hsf : seenF G D 16 a k (-1) := Or.inr ⟨rfl, rfl⟩
        have htx : txN G.1 (D a k + 1) ≤ 90 := by
          unfold txN nlN
          split <;> omega
        have call := chain_spec (h := g) (s := s) (N := N) (G := G) (D := D) (a := 16) (c := a) (b := k) (e := 67) (τ := txN G.1 (D a k + 1)) (fr := -1) (by omega) hSg hG hd4 hD (hN.ext hE) hsf ha hk (fun i x hi hx => by
          have hx1 := hn_mem hG hx
          obtain ⟨b1, b2, b3⟩ := brT_len hG hD _ x hx1
          have := bsz_lt hG hD hx1
          exact ⟨hbr _ x hx1, b1, b2, by omega⟩) t3 htx
        have hpair : pairF G D a (rowF G D a k (allF G D a)) k = minT (rowF G D a k (allF G D a)) (wayT G D a k (-1)) := if_pos q
        refine wp.go [29, 11] 60 fun W C0 hW hC => ?_
        refine ⟨_, _, _, _, k2, rfl, rfl, ?_⟩
        refine ⟨fun w => absurd w (by omega), fun _ => ?_⟩
        refine ⟨_, _, _, hI, by decide, by omega, gt_at k (by omega) (by omega), ?_⟩
        rw [hXk]
        refine ⟨fun w => absurd w (by omega), fun _ => ?_⟩
        refine ⟨_, _, _, k2, rfl, ?_⟩
        refine hC _ _ _ (use call ?_)
        rintro _ g1 ⟨p, rfl, E1, tq⟩
        have E2 := hE.trans E1
        have z1 := hE.1
        have lsp := least_spec (d := 0) (h := g1) (N := N) (lo := g0.sz) (q := p) (o := o) (acc := rowF G D a k (allF G D a)) (t := wayT G D a k (-1)) (hN.ext E2) (hb.ext E1) (tq.low (by omega)) t1 t2 (by omega)
        refine hC _ _ _ (use (wpd.up (by omega) lsp) ?_)
        rintro _ g2 ⟨o', rfl, hg2, hb2⟩
        rw [hg2]
        conv => whnf
        rw [iadd_eq (by omega)]
        refine hW _ (ih (k + 1) g1 o' f X (by omega) (by have := E1.1; omega) ((E1.2.2.2.2.1 f hf).1.trans hI) hXl hXv (E2.more ?_ ?_) (by rw [hrow, hpair]; exact hb2))
        · rw [hsuc1, ← q]
          show _ ≤ G.1 + (a + 1) + allK kC G D a + (rowK kC G D a k + ((5 + growN (txN G.1 (D a k + 1)) + (D a k + 1)) + hungS kC G D (-1) a k))
          omega
        · rw [hsuc2, ← q]
          show _ ≤ 16 * G.1 + 16 * (a + 1) + allK kS G D a + (rowK kS G D a k + ((40 + 194 * growN (txN G.1 (D a k + 1)) + 4 * (D a k + 1) + txN G.1 (D a k + 1)) + hungS kS G D (-1) a k))
          omega
      · rw [if_neg q] at hsuc1 hsuc2
        have hpair : pairF G D a (rowF G D a k (allF G D a)) k = rowF G D a k (allF G D a) := if_neg q
        refine wp.go [29, 11] 60 fun W C0 hW hC => ?_
        refine ⟨_, _, _, _, k2, rfl, rfl, ?_⟩
        refine ⟨fun w => absurd w (by omega), fun _ => ?_⟩
        refine ⟨_, _, _, hI, by decide, by omega, gt_at k (by omega) (by omega), ?_⟩
        rw [hXk]
        refine ⟨fun _ => ?_, fun w => absurd w (by omega)⟩
        conv => whnf
        rw [iadd_eq (by omega)]
        exact hW _ (ih (k + 1) g o f X (by omega) hf hI hXl hXv (hE.more (by rw [hsuc1]; omega) (by rw [hsuc2]; omega)) (by rw [hrow, hpair]; exact hb))
  have outer : ∀ (j i : Nat) (g : AH) (o : Option Nat) (l4 l5 : Option AV), j + i = G.1 → ext (G.1 + i + allK kC G D i) (16 * G.1 + 16 * i + allK kS G D i) g0 g → bestA g0.sz g o (allF G D i) →
      wp (70) 243 (11, [some (vR (some s)), some (vI ((L - 1 : Nat) : Int)), some (vR o), some (vI ((i : Nat) : Int)), l4, l5], [], g) (fun r g' => ∃ p, r = .inl (some (vR (some p))) ∧ ext 14240 162968 g0 g' ∧ tAt g0.sz g' p (nameG G D)) := by
    intro j
    induction j with
    | zero =>
      intro i g o l4 l5 hj hE hb
      obtain rfl : i = G.1 := by omega
      have k2 := (hS.mono hE).2.1
      obtain ⟨w1, w2⟩ := ways_all hG hD hd4
      have w1 : allK kC G D G.1 ≤ 14208 := w1
      have w2 : allK kS G D G.1 ≤ 162456 := w2
      refine wp.go [11] 20 fun W C0 hW hC => ?_
      refine ⟨_, _, _, _, k2, rfl, rfl, ?_⟩
      refine ⟨fun _ => ?_, fun w => absurd w (by omega)⟩
      rcases hb with ⟨-, q⟩ | ⟨p, rfl, p1, p2, p3, p4⟩
      · exact absurd q (nameG_ne hG hD)
      · exact ⟨p, rfl, hE.more (by omega) (by omega), p4⟩
    | succ j ih =>
      intro i g o l4 l5 hj hE hb
      have hi : i < G.1 := by omega
      have hSg := hS.mono hE
      have k2 := hSg.2.1
      refine wp.go [11, 29] 40 fun W C0 hW hC => ?_
      refine ⟨_, _, _, _, k2, rfl, rfl, ?_⟩
      refine ⟨fun w => absurd w (by omega), fun _ => ?_⟩
      refine ⟨_, _, _, k2, rfl, ?_⟩
      refine hC _ _ _ (use (wpd.up (by omega) (far_spec (d := 0) hSg hG hd4 hD hi)) ?_)
      rintro _ g1 ⟨rfl, E1, z1, X, x1, x2, x3⟩
      have hr0 : rowK kC G D i 0 = 0 ∧ rowK kS G D i 0 = 0 := ⟨rfl, rfl⟩
      exact hW _ (inner hi (fun g o l4 l5 q1 q2 => ih (i + 1) g o l4 l5 (by omega) q1 q2) G.1 0 g1 o g.sz X rfl (by omega) x1 x2 x3 ((hE.trans E1).more (by omega) (by omega)) (hb.ext E1))
  refine wp.go [11] 40 fun W C0 hW hC => ?_
  refine ⟨_, _, _, hS.2.1, rfl, ?_⟩
  refine hC _ _ _ (use (wpd.up (by omega) (clongest_spec (d := 0) hS hG hd4 hD (fun a b ha hb => by have := Far.lt hG hD ha hb; omega))) ?_)
  rintro _ g1 ⟨rfl, E1⟩
  conv => whnf
  rw [isub_eq (by omega), ← hL, show ((L : Nat) : Int) - 1 = ((L - 1 : Nat) : Int) by omega]
  exact hW _ (outer G.1 0 g1 none none none rfl (E1.more (by show _ ≤ G.1 + 0 + 0; omega) (by show _ ≤ 16 * G.1 + 16 * 0 + 0; omega)) (Or.inl ⟨rfl, rfl⟩))
end NAMEC
