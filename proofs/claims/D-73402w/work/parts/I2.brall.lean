/-! branchName, whole: by the size of the branch -/
section BRALL
variable {h : AH} {s N : Nat} {G : Gr} {D : Nat → Nat → Nat}
abbrev okEnd (G : Gr) (D : Nat → Nat → Nat) (a c e : Nat) : Bool := decide (inB D a c e) && decide (D c e + 1 = tallT (TT G a c))
theorem range_filter (p : Nat → Bool) (k : Nat) : (List.range (k + 1)).filter p = (List.range k).filter p ++ cond (p k) [k] [] := by
  rw [List.range_succ, List.filter_append]
  cases e : p k <;> simp [e]
/-- the best of all ends -/
theorem br_ends {a c e M : Nat} {g0 : AH} {Y : List Int} (he : 16 ≤ e) (hS : SkAt g0 s G) (hG : G.wf) (hd4 : ∀ a, deg G a ≤ 4) (hD : Far G D) (hN : nmC g0 N) (hac : G.2 a c = true) (hM : M + 1 = tallT (TT G a c)) (hYl : Y.length = G.1) (hY : ∀ v, v < G.1 → gt Y v = if inB D a c v then ((D c v : Nat) : Int) else -1)
    (hbr : ∀ x y, G.2 x y = true → bsz G D x y < bsz G D a c → brSp e s N G D x y) {Q : Rs → AH → Prop}
    (hQ' : ∀ (g : AH) (o : Option Nat) (l7 l8 : Option AV), ext (1 + ((endsB G D a c).map fun x => kC.2.1 (bsz G D a c) (tallT (TT G a c)) + hungS kC G D ((a : Nat) : Int) c x).sum) (16 + ((endsB G D a c).map fun x => kS.2.1 (bsz G D a c) (tallT (TT G a c)) + hungS kS G D ((a : Nat) : Int) c x).sum) g0 g → bestA g0.sz g o (accB G D a c G.1) →
      wp (e + 3) 246 (108, [some (vR (some s)), some (vI ((c : Nat) : Int)), some (vI ((a : Nat) : Int)), some (vR (some g0.sz)), some (vI ((M : Nat) : Int)), some (vR o), some (vI ((G.1 : Nat) : Int)), l7, l8], [], g) Q) :
    ∀ (j k : Nat) (g : AH) (o : Option Nat) (l7 l8 : Option AV), j + k = G.1 → g0.sz < g.sz → g.I g0.sz = (1, Y) → ext (1 + (((List.range k).filter (okEnd G D a c)).map fun x => kC.2.1 (bsz G D a c) (tallT (TT G a c)) + hungS kC G D ((a : Nat) : Int) c x).sum) (16 + (((List.range k).filter (okEnd G D a c)).map fun x => kS.2.1 (bsz G D a c) (tallT (TT G a c)) + hungS kS G D ((a : Nat) : Int) c x).sum) g0 g → bestA g0.sz g o (accB G D a c k) →
      wp (e + 3) 246 (69, [some (vR (some s)), some (vI ((c : Nat) : Int)), some (vI ((a : Nat) : Int)), some (vR (some g0.sz)), some (vI ((M : Nat) : Int)), some (vR o), some (vI ((k : Nat) : Int)), l7, l8], [], g) Q := by
  have hn := hG.2.1
  have hc := (hG.2.2 _ _ hac).2.1
  have hlt := bsz_lt hG hD hac
  have htl := tall_le_sz (TT G a c)
  have hsz := TT_sz hG hD a c hac
  intro j
  induction j with
  | zero =>
    intro k g o l7 l8 hj hz hI hE hb
    obtain rfl : k = G.1 := by omega
    have k2 := (hS.mono hE).2.1
    refine wp.go [69, 108] 20 fun W C0 hW hC => ?_
    refine ⟨_, _, _, _, k2, rfl, rfl, ?_⟩
    refine ⟨fun _ => ?_, fun w => absurd w (by omega)⟩
    exact hW _ (hQ' g o l7 l8 hE hb)
  | succ j ih =>
    intro k g o l7 l8 hj hz hI hE hb
    have hS1 := hS.mono hE
    have k2 := hS1.2.1
    have hk : k < G.1 := by omega
    have hYk := hY k hk
    have hsuc := range_filter (okEnd G D a c) k
    have hacc := accB_succ (G := G) (D := D) (a := a) (c := c) (e := k)
    by_cases hok : inB D a c k ∧ D c k + 1 = tallT (TT G a c)
    · have hoE : okEnd G D a c k = true := by rw [show okEnd G D a c k = (decide (inB D a c k) && decide (D c k + 1 = tallT (TT G a c))) from rfl, decide_eq_true hok.1, decide_eq_true hok.2]; rfl
      rw [hoE] at hsuc
      have hsuc : (List.range (k + 1)).filter (okEnd G D a c) = (List.range k).filter (okEnd G D a c) ++ [k] := hsuc
      have hend : k ∈ endsB G D a c := ends_mem.mpr ⟨hk, hok⟩
      obtain ⟨t1, t2, t3, -⟩ := wayB_tx hG hD hac hend
      have hsf : seenF G D a c k ((a : Nat) : Int) := Or.inl ⟨hac, hok.1, rfl⟩
      have htx : txN (bsz G D a c) (tallT (TT G a c)) ≤ 90 := by
        unfold txN nlN
        split <;> omega
      have call := chain_spec (h := g) (s := s) (N := N) (G := G) (D := D) (a := a) (c := c) (b := k) (e := e) (τ := txN (bsz G D a c) (tallT (TT G a c))) (fr := ((a : Nat) : Int)) he hS1 hG hd4 hD (hN.ext hE) hsf hc hk (fun i x hi hx => by
        have hx1 := hn_mem hG hx
        have hl := hn_less hG hD hsf hc hk rfl hi hx
        rw [← bsz_eq hG hD hac] at hl
        obtain ⟨b1, b2, b3⟩ := brT_len hG hD _ x hx1
        have := bsz_lt hG hD hx1
        exact ⟨hbr _ x hx1 hl, b1, b2, by omega⟩) t3 htx
      refine wp.go [69, 108] 60 fun W C0 hW hC => ?_
      refine ⟨_, _, _, _, k2, rfl, rfl, ?_⟩
      refine ⟨fun w => absurd w (by omega), fun _ => ?_⟩
      refine ⟨_, _, _, hI, by decide, by omega, gt_at k (by omega) (by omega), ?_⟩
      rw [hYk, if_pos hok.1]
      refine ⟨fun w => absurd w (by omega), fun _ => ?_⟩
      refine ⟨_, _, _, k2, rfl, ?_⟩
      refine hC _ _ _ (use call ?_)
      rintro _ g1 ⟨q, rfl, E1, tq⟩
      have E2 := hE.trans E1
      have z1 := E1.1
      have lsp := least_spec (d := 0) (h := g1) (N := N) (lo := g0.sz) (q := q) (o := o) (acc := accB G D a c k) (t := wayT G D c k ((a : Nat) : Int)) (hN.ext E2) (hb.ext E1) (tq.low (by omega)) t1 t2 (by omega)
      refine hC _ _ _ (use (wpd.up (by omega) lsp) ?_)
      rintro _ g2 ⟨o', rfl, hg2, hb2⟩
      rw [hg2]
      have hb3 : bestA g0.sz g1 o' (accB G D a c (k + 1)) := by
        rw [hacc, if_pos hok]
        exact hb2
      conv => whnf
      rw [iadd_eq (by omega)]
      have key := ih (k + 1) g1 o' l7 l8 (by omega) (by omega) ((E1.2.2.2.2.1 g0.sz hz).1.trans hI)
      rw [hsuc] at key
      refine hW _ (key (E2.more ?_ ?_) hb3)
      · rw [List.map_append, List.sum_append]
        simp only [List.map_cons, List.map_nil, List.sum_cons, List.sum_nil]
        rw [hok.2]
        show _ ≤ 1 + (_ + ((5 + growN (txN (bsz G D a c) (tallT (TT G a c))) + tallT (TT G a c)) + _ + 0))
        omega
      · rw [List.map_append, List.sum_append]
        simp only [List.map_cons, List.map_nil, List.sum_cons, List.sum_nil]
        rw [hok.2]
        show _ ≤ 16 + (_ + ((40 + 194 * growN (txN (bsz G D a c) (tallT (TT G a c))) + 4 * tallT (TT G a c) + txN (bsz G D a c) (tallT (TT G a c))) + _ + 0))
        omega
    · have hoE : okEnd G D a c k = false := by
        cases q : okEnd G D a c k with
        | false => rfl
        | true =>
          have q : (decide (inB D a c k) && decide (D c k + 1 = tallT (TT G a c))) = true := q
          rw [Bool.and_eq_true] at q
          exact absurd ⟨of_decide_eq_true q.1, of_decide_eq_true q.2⟩ hok
      rw [hoE] at hsuc
      have hsuc : (List.range (k + 1)).filter (okEnd G D a c) = (List.range k).filter (okEnd G D a c) := by rw [hsuc]; exact List.append_nil _
      rw [if_neg hok] at hacc
      have hne : (if inB D a c k then ((D c k : Nat) : Int) else -1) ≠ ((M : Nat) : Int) := by
        by_cases q : inB D a c k
        · rw [if_pos q]
          intro w
          exact hok ⟨q, by omega⟩
        · rw [if_neg q]; omega
      refine wp.go [69, 108] 60 fun W C0 hW hC => ?_
      refine ⟨_, _, _, _, k2, rfl, rfl, ?_⟩
      refine ⟨fun w => absurd w (by omega), fun _ => ?_⟩
      refine ⟨_, _, _, hI, by decide, by omega, gt_at k (by omega) (by omega), ?_⟩
      rw [hYk]
      refine ⟨fun _ => ?_, fun w => absurd w hne⟩
      conv => whnf
      rw [iadd_eq (by omega)]
      have key := ih (k + 1) g o l7 l8 (by omega) hz hI
      rw [hsuc, hacc] at key
      exact hW _ (key hE hb)
/-- how far the farthest is -/
theorem br_most {a c e : Nat} {g : AH} {f : Nat} {Y : List Int} (hI : g.I f = (1, Y)) (hYl : Y.length = G.1) (hY : ∀ v, v < G.1 → gt Y v = if inB D a c v then ((D c v : Nat) : Int) else -1) (hs : ∀ v, v < G.1 → D c v ≤ 1000) (hn16 : G.1 ≤ 16) {Q : Rs → AH → Prop}
    (hQ' : ∀ (l7 l8 : Option AV), wp (e + 3) 246 (63, [some (vR (some s)), some (vI ((c : Nat) : Int)), some (vI ((a : Nat) : Int)), some (vR (some f)), some (vI ((maxR G.1 (fun v => if inB D a c v then D c v else 0) : Nat) : Int)), some (vR (some f)), some (vI ((G.1 : Nat) : Int)), l7, l8], [], g) Q) :
    ∀ (j k : Nat) (l8 : Option AV), j + k = G.1 → wp (e + 3) 246 (34, [some (vR (some s)), some (vI ((c : Nat) : Int)), some (vI ((a : Nat) : Int)), some (vR (some f)), some (vI ((maxR k (fun v => if inB D a c v then D c v else 0) : Nat) : Int)), some (vR (some f)), some (vI ((G.1 : Nat) : Int)), some (vI ((k : Nat) : Int)), l8], [], g) Q := by
  intro j
  induction j with
  | zero =>
    intro k l8 hj
    obtain rfl : k = G.1 := by omega
    refine wp.go [34, 63] 20 fun W C0 hW hC => ?_
    refine ⟨fun _ => ?_, fun w => absurd w (by omega)⟩
    exact hW _ (hQ' _ l8)
  | succ j ih =>
    intro k l8 hj
    have hk : k < G.1 := by omega
    have hYk := hY k hk
    have hsk := hs k hk
    refine wp.go [34, 63] 40 fun W C0 hW hC => ?_
    refine ⟨fun w => absurd w (by omega), fun _ => ?_⟩
    refine ⟨_, _, _, hI, by decide, by omega, gt_at k (by omega) (by omega), ?_⟩
    rw [hYk]
    refine hC _ _ _ (useE (wpd.up (by omega) (max_spec (d := 0))) ?_)
    have em : max ((maxR k (fun v => if inB D a c v then D c v else 0) : Nat) : Int) (if inB D a c k then ((D c k : Nat) : Int) else -1) = ((maxR (k + 1) (fun v => if inB D a c v then D c v else 0) : Nat) : Int) := by
      show _ = ((max (maxR k (fun v => if inB D a c v then D c v else 0)) (if inB D a c k then D c k else 0) : Nat) : Int)
      by_cases q : inB D a c k
      · rw [if_pos q, if_pos q]; omega
      · rw [if_neg q, if_neg q]; omega
    rw [em]
    conv => whnf
    rw [iadd_eq (by omega)]
    exact hW _ (ih (k + 1) _ (by omega))
theorem br_all (hG : G.wf) (hd4 : ∀ a, deg G a ≤ 4) (hD : Far G D) (hsN : True) : ∀ (n a c : Nat), bsz G D a c ≤ n → G.2 a c = true → brSp (3 * n + 19) s N G D a c := by
  intro n
  induction n with
  | zero =>
    intro a c h1 h2
    have := bsz_pos hG hD h2
    omega
  | succ n ihn =>
    intro a c hbs hac g0 hS hN
    have hn := hG.2.1
    have ha := (hG.2.2 _ _ hac).1
    have hc := (hG.2.2 _ _ hac).2.1
    have hpos := bsz_pos hG hD hac
    have hlt := bsz_lt hG hD hac
    have hsz := TT_sz hG hD a c hac
    have htp := tall_pos (TT G a c)
    obtain ⟨ht1, v, v1, v2, v3⟩ := TT_tall hG hD a c hac
    obtain ⟨k1, k2, -⟩ := id hS
    have hM : maxR G.1 (fun v => if inB D a c v then D c v else 0) + 1 = tallT (TT G a c) := by
      have h1 := maxR_ub (f := fun v => if inB D a c v then D c v else 0) v1
      rw [if_pos v2] at h1
      have h2 := maxR_le (f := fun v => if inB D a c v then D c v else 0) (B := tallT (TT G a c) - 1) (n := G.1) fun i hi => by
        by_cases q : inB D a c i
        · rw [if_pos q]
          have := ht1 i hi q
          omega
        · rw [if_neg q]; omega
      omega
    obtain ⟨h1, eh1⟩ : ∃ G', G' = g0.newI 1 (List.replicate G.1 0) := ⟨_, rfl⟩
    have z1 : h1.sz = g0.sz + 1 := by rw [eh1]; rfl
    have E1 : ext 1 G.1 g0 h1 := by
      have := ext_newI (h := g0) (t := 1) (x := List.replicate G.1 0)
      rw [List.length_replicate] at this
      rw [eh1]
      exact this
    have I1 : h1.I g0.sz = (1, List.replicate G.1 0) := by rw [eh1]; exact newI_at
    have hfr : frI a = ((a : Nat) : Int) := if_neg (by omega)
    have hbf : bszF G D a c = bsz G D a c := (bsz_eq hG hD hac).symm
    have lays := clays_spec (d := 0) (h := h1) (s := s) (f := g0.sz) (hS.mono E1) (by omega) (by rw [I1]) hG hd4 hD (bsz G D a c) a c 0 (List.replicate (List.replicate G.1 (0 : Int)).length (-1)) (by omega) (Or.inl hac) hc (by omega) (by rw [List.length_replicate, List.length_replicate])
    rw [hfr] at lays
    refine wp.go [34, 69, 108, 123] 60 fun W C0 hW hC => ?_
    refine ⟨_, _, _, _, k2, rfl, rfl, ?_⟩
    refine ⟨by omega, by omega, ?_⟩
    rw [Int.toNat_natCast, ← eh1]
    refine hC _ _ _ (use (wpd.up (by omega) (fill_spec (d := 0) I1 (by rw [List.length_replicate]; omega))) ?_)
    rintro _ h2 ⟨rfl, e2⟩
    rw [e2]
    have kF : (h1.setI g0.sz (List.replicate (List.replicate G.1 (0 : Int)).length (-1))).F s = h1.F s := rfl
    refine ⟨_, _, _, (hS.mono E1).2.1, rfl, ?_⟩
    refine hC _ _ _ (use (wpd.up (by omega) lays) ?_)
    rintro _ h3 ⟨rfl, Y, e3, y1, y2⟩
    have I3 : h3.I g0.sz = (1, Y) := by rw [e3]; exact setI_at I1
    have E3 : ext 1 G.1 g0 h3 := by rw [e3]; exact E1.setI (Nat.le_refl _)
    have z3 : h3.sz = g0.sz + 1 := by rw [e3]; exact z1
    have hY : ∀ v, v < G.1 → gt Y v = if inB D a c v then ((D c v : Nat) : Int) else -1 := fun v hv => by
      obtain ⟨q1, q2⟩ := y2 v hv
      by_cases q : inB D a c v
      · rw [if_pos q, q1 (Or.inr q), Nat.zero_add]
      · rw [if_neg q, q2 (fun w => by rcases w with w | w; omega; exact q w)]
        unfold gt
        rw [List.length_replicate, List.getElem?_replicate, if_pos hv]
        rfl
    refine ⟨_, Or.inl ⟨_, _, I3, by decide, rfl⟩, ?_⟩
    rw [y1]
    -- the best end, with brackets where something hangs
    have hacc : accB G D a c G.1 = (endsB G D a c).foldl (fun acc e => minT acc (wayT G D c e ((a : Nat) : Int))) [] := rfl
    have hbrT := brT_eq hG hD hac
    rw [← hacc] at hbrT
    have hne : endsB G D a c ≠ [] := fun q => by
      have := ends_mem.mpr ⟨v1, v2, v3⟩
      rw [q] at this
      cases this
    obtain ⟨m1, m2⟩ := min_fold (fun e => wayT G D c e ((a : Nat) : Int)) (endsB G D a c) [] fun e he q => by
      have := (wayB_tx hG hD hac he).2.1
      rw [q] at this
      cases this
    have m3 := m2 hne
    obtain ⟨x, hx, hmx⟩ : ∃ e, e ∈ endsB G D a c ∧ accB G D a c G.1 = wayT G D c e ((a : Nat) : Int) := by
      rcases m1 with q | q
      · exact absurd q m3
      · exact q
    obtain ⟨t1, t2, t3, t4⟩ := wayB_tx hG hD hac hx
    rw [← hmx] at t1 t2 t3 t4
    obtain ⟨c1, c2⟩ := ends_cost (κ := kC) hG hD a c hac
    obtain ⟨-, c3⟩ := ends_cost (κ := kS) hG hD a c hac
    have spl : ∀ (w : Nat) (f : Nat → Nat) (l : List Nat), (l.map fun b => w + f b).sum = l.length * w + (l.map f).sum := by
      intro w f l
      induction l with
      | nil => rw [List.length_nil, Nat.zero_mul]; rfl
      | cons e r ih =>
        rw [List.map_cons, List.sum_cons, List.map_cons, List.sum_cons, ih, List.length_cons, Nat.add_mul]
        omega
    have hlast : ∀ (g : AH) (o : Option Nat) (l7 l8 : Option AV), ext (1 + ((endsB G D a c).map fun x => kC.2.1 (bsz G D a c) (tallT (TT G a c)) + hungS kC G D ((a : Nat) : Int) c x).sum) (16 + ((endsB G D a c).map fun x => kS.2.1 (bsz G D a c) (tallT (TT G a c)) + hungS kS G D ((a : Nat) : Int) c x).sum) g0 g → bestA g0.sz g o (accB G D a c G.1) →
        wp (3 * n + 19 + 3) 246 (108, [some (vR (some s)), some (vI ((c : Nat) : Int)), some (vI ((a : Nat) : Int)), some (vR (some g0.sz)), some (vI ((maxR G.1 (fun v => if inB D a c v then D c v else 0) : Nat) : Int)), some (vR o), some (vI ((G.1 : Nat) : Int)), l7, l8], [], g) (fun r g' => ∃ p, r = .inl (some (vR (some p))) ∧ ext (cT kC (TT G a c)) (cT kS (TT G a c)) g0 g' ∧ tAt g0.sz g' p (brT G D a c)) := by
      intro g o l7 l8 hE hb
      rcases hb with ⟨-, q⟩ | ⟨p, rfl, p1, p2, p3, p4⟩
      · exact absurd q m3
      obtain ⟨pv, pw1, pw2, -, -, Fp, -⟩ := id p4
      have b1 : 1 + ((endsB G D a c).map fun x => kC.2.1 (bsz G D a c) (tallT (TT G a c)) + hungS kC G D ((a : Nat) : Int) c x).sum + kC.2.2 (bsz G D a c) (tallT (TT G a c)) ≤ cT kC (TT G a c) := by
        rw [spl]
        unfold cT
        rw [hsz, show kC.1 = 1 from rfl]
        have := Nat.mul_le_mul_right (kC.2.1 (bsz G D a c) (tallT (TT G a c))) c1
        have c2' : ((endsB G D a c).map (hungS kC G D ((a : Nat) : Int) c)).sum ≤ xT kC (TT G a c) := c2
        omega
      have b2 : 16 + ((endsB G D a c).map fun x => kS.2.1 (bsz G D a c) (tallT (TT G a c)) + hungS kS G D ((a : Nat) : Int) c x).sum + kS.2.2 (bsz G D a c) (tallT (TT G a c)) ≤ cT kS (TT G a c) := by
        rw [spl]
        unfold cT
        rw [hsz, show kS.1 = 16 from rfl]
        have := Nat.mul_le_mul_right (kS.2.1 (bsz G D a c) (tallT (TT G a c))) c1
        have c3' : ((endsB G D a c).map (hungS kS G D ((a : Nat) : Int) c)).sum ≤ xT kS (TT G a c) := c3
        omega
      refine wp.go [123] 30 fun W C0 hW hC => ?_
      refine ⟨_, _, _, Fp, rfl, ?_⟩
      refine hC _ _ _ (useE (wpd.up (by omega) (indexOf_spec (d := 0) p4.V (by omega))) ?_)
      refine ⟨fun q => ?_, fun q => ?_⟩
      · -- something hangs
        have hd : (45 : Int) ∈ accB G D a c G.1 := Classical.byContradiction fun w => by
          have := (idxT_rng 45 _ 0).mpr w
          omega
        have hst := t4.mp hd
        have hpl : plainB G a c = false := by
          cases w : plainB G a c with
          | false => rfl
          | true => exact absurd (by have := beqN.mp w; omega) hst
        rw [hpl] at hbrT
        have hbrT : brT G D a c = 40 :: (accB G D a c G.1 ++ [41]) := hbrT
        have htb : tallT (TT G a c) ≤ bsz G D a c := by rw [← hsz]; exact tall_le_sz _
        have htx : (accB G D a c G.1).length + 2 ≤ 5 * bsz G D a c - 4 := by
          unfold txN nlN at t3
          by_cases q9 : 9 < tallT (TT G a c)
          · rw [if_pos q9] at t3; omega
          · rw [if_neg q9] at t3
            by_cases q1 : tallT (TT G a c) = 1
            · have : bsz G D a c = 1 := by
                rcases tall_at (TT G a c) with ⟨w1, -⟩ | ⟨k, w1, w2⟩
                · have := mk_kids _ (TT_ok G a c)
                  rw [w1] at this
                  rw [← this] at hsz
                  exact hsz.symm
                · have := tall_pos k; omega
              exact absurd (by omega) hst
            · omega
        have wr := wrap_spec (d := 3 * n + 12) (h := g) (s := s) (N := N) (g0 := g0) (p := p) (τ := 5 * bsz G D a c - 4) (t := accB G D a c G.1) (l1 := some (vI ((c : Nat) : Int))) (l2 := some (vI ((a : Nat) : Int))) (l3 := some (vR (some g0.sz))) (l4 := some (vI ((maxR G.1 (fun v => if inB D a c v then D c v else 0) : Nat) : Int))) (l6 := some (vI ((G.1 : Nat) : Int))) (l7 := l7) (l8 := l8) (hN.ext hE) hN.1 hE.1 p4 t2 htx (by omega)
        refine hW _ (wpd.mono ?_ _ _ _ wr)
        rintro r h' ⟨q2, rfl, E2, tq⟩
        refine ⟨q2, rfl, (hE.trans E2).more (Nat.le_trans (Nat.le_of_eq ?_) b1) (Nat.le_trans (Nat.le_of_eq ?_) b2), by rw [hbrT]; exact tq⟩
        · have : kC.2.2 (bsz G D a c) (tallT (TT G a c)) = 4 + growN (5 * bsz G D a c - 4) := if_neg hst
          rw [this]
        · have : kS.2.2 (bsz G D a c) (tallT (TT G a c)) = 24 + 194 * growN (5 * bsz G D a c - 4) + (5 * bsz G D a c - 4) := if_neg hst
          rw [this]
      · have hd : ¬ (45 : Int) ∈ accB G D a c G.1 := (idxT_rng 45 _ 0).mp q
        have hst : bsz G D a c = tallT (TT G a c) := Classical.byContradiction fun w => hd (t4.mpr w)
        have hpl : plainB G a c = true := beqN.mpr (by omega)
        rw [hpl] at hbrT
        have hbrT : brT G D a c = accB G D a c G.1 := hbrT
        exact ⟨p, rfl, hE.more (by omega) (by omega), by rw [hbrT]; exact p4⟩
    have ends := br_ends (e := 3 * n + 19) (M := maxR G.1 (fun v => if inB D a c v then D c v else 0)) (g0 := g0) (Y := Y) (by omega) hS hG hd4 hD hN hac hM y1 hY (fun x y hxy hl => ihn x y (by omega) hxy) hlast
    have mid : ∀ (l7 l8 : Option AV), wp (3 * n + 19 + 3) 246 (63, [some (vR (some s)), some (vI ((c : Nat) : Int)), some (vI ((a : Nat) : Int)), some (vR (some g0.sz)), some (vI ((maxR G.1 (fun v => if inB D a c v then D c v else 0) : Nat) : Int)), some (vR (some g0.sz)), some (vI ((G.1 : Nat) : Int)), l7, l8], [], h3) (fun r g' => ∃ p, r = .inl (some (vR (some p))) ∧ ext (cT kC (TT G a c)) (cT kS (TT G a c)) g0 g' ∧ tAt g0.sz g' p (brT G D a c)) := by
      intro l7 l8
      refine wp.go [69] 20 fun W C0 hW hC => ?_
      exact hW _ (ends G.1 0 h3 none l7 l8 rfl (by omega) I3 (E3.more (Nat.le_refl _) (by show G.1 ≤ 16 + 0; omega)) (Or.inl ⟨rfl, rfl⟩))
    have most := br_most (s := s) (G := G) (D := D) (a := a) (c := c) (e := 3 * n + 19) (g := h3) (f := g0.sz) (Y := Y) I3 y1 hY (fun v hv => by have := Far.lt hG hD hc hv; omega) hn mid G.1 0 none rfl
    exact hW _ most
end BRALL
