section ASKSB
variable {d : Nat} {h : AH} {x : Nat} {ld : Int} {nw : Nat} {wh nm : Option Nat} {tp ep : Nat} {S : AS}
theorem cforms_spec (b : Base h x ld nw wh nm tp ep S) (ho : S.ok) {k : Int} : wp (d + 60) 214 (0, ent 6 [vR (some x), vI k], [], h) (cEnd h x ld ep (vL (aForms S (dst S.1) k)) S 66 324 (fun n => n = nm)) := by
  have hb := b
  have hD := dst_far ho.1
  obtain ⟨b1, b2, ⟨b3, b4⟩, -⟩ := b
  obtain ⟨wok, -⟩ := wh_ok ho.1.1 ho.1.2.1 hD
  obtain ⟨v1, v2, -, -⟩ := wh_vals ho.1.1 ho.1.2.1 hD
  unfold aForms
  rw [← v1, ← v2]
  by_cases q : 0 ≤ k ∧ k ≤ 2
  · rw [if_pos q]
    refine wp.go [] 60 fun W C hW hC => ?_
    refine hC _ _ _ (useE (wpd.up (by omega) (cin_spec (d := 0))) ?_)
    rw [decide_eq_true q]
    refine ⟨fun _ => ?_, fun w => absurd w (by decide)⟩
    refine ⟨_, _, _, b2, rfl, ?_⟩
    refine hC _ _ _ (use (wpd.up (by omega) (cwhole_spec (d := 0) hb ho)) ?_)
    rintro _ H ⟨w, rfl, hb2, f, hw, z1, z2, z3⟩
    cases hW0 : whG S.1 (dst S.1) with
    | mk t o =>
      rw [hW0] at hw wok
      have fin : ∀ (H2 : AH) (w' : Nat), Base H2 x ld nw (some w') nm tp ep S → frB x ep H H2 → H2.sz ≤ H.sz + 33 → H.sl ≤ H2.sl → H2.sl ≤ H.sl + 162 → ∀ v : AV, cEnd h x ld ep v S 66 324 (fun n => n = nm) (.inl (some v)) H2 := fun H2 w' hb3 f2 z4 z5 z6 v => ⟨rfl, nw, some w', nm, tp, ep, hb3, f.trans f2 (Or.inl rfl), Or.inl rfl, by omega, by omega, by omega, rfl⟩
      cases o with
      | none =>
        have hV := OneV_of (fun v hv => hv.2) hw wok
        obtain ⟨ok, h16, h4, h3⟩ := id wok
        have hsz := szT_kids ok
        have hB := four_bnd (l := kidsT t) h4 (by omega)
        obtain ⟨r, w1, w2, w3⟩ := id hw
        refine ⟨_, _, _, w2, rfl, ?_⟩
        refine hC _ _ _ (useE (wpd.up (by omega) (oneForms_spec (d := 0) hV hB)) ?_)
        refine ⟨_, _, _, hb2.2.1, rfl, ?_⟩
        refine hC _ _ _ (use (wpd.up (by omega) (cwhole_spec (d := 0) hb2 ho)) ?_)
        rintro _ H2 ⟨w', rfl, hb3, f2, hw2, z4, z5, z6⟩
        rw [hW0] at hw2
        have hV2 := OneV_of (fun v hv => hv.2) hw2 wok
        obtain ⟨r', w1', w2', w3'⟩ := id hw2
        refine ⟨_, _, _, w2', rfl, ?_⟩
        refine hC _ _ _ (useE (wpd.up (by omega) (oneOwn_spec (d := 0) hV2 hB)) ?_)
        have hend := fin H2 w' hb3 f2 z4 z5 z6
        refine ⟨fun q0 => ?_, fun q0 => ?_⟩
        · rw [if_neg q0]
          refine ⟨fun q1 => ?_, fun q1 => ?_⟩
          · rw [if_neg q1]
            refine ⟨by decide, ?_⟩
            exact hend _
          · rw [if_pos q1]
            exact hend _
        · rw [if_pos q0]
          exact hend _
      | some u =>
        have hV := TwoV_of (fun v hv => hv.2) hw wok
        obtain ⟨r, q', w1, w2, w3⟩ := id hw
        refine ⟨_, _, _, w2, rfl, ?_⟩
        refine hC _ _ _ (useE (wpd.up (by omega) (twoForms_spec (d := 0) hV)) ?_)
        refine ⟨_, _, _, hb2.2.1, rfl, ?_⟩
        refine hC _ _ _ (use (wpd.up (by omega) (cwhole_spec (d := 0) hb2 ho)) ?_)
        rintro _ H2 ⟨w', rfl, hb3, f2, hw2, z4, z5, z6⟩
        rw [hW0] at hw2
        have hV2 := TwoV_of (fun v hv => hv.2) hw2 wok
        obtain ⟨r', q2, w1', w2', w3'⟩ := id hw2
        refine ⟨_, _, _, w2', rfl, ?_⟩
        refine hC _ _ _ (useE (wpd.up (by omega) (twoOwn_spec (d := 0) hV2)) ?_)
        have hend := fin H2 w' hb3 f2 z4 z5 z6
        refine ⟨fun q0 => ?_, fun q0 => ?_⟩
        · rw [if_neg q0]
          refine ⟨fun q1 => ?_, fun q1 => ?_⟩
          · rw [if_neg q1]
            refine ⟨by decide, ?_⟩
            exact hend _
          · rw [if_pos q1]
            exact hend _
        · rw [if_pos q0]
          exact hend _
  · rw [if_neg q]
    refine wp.go [] 20 fun W C hW hC => ?_
    refine hC _ _ _ (useE (wpd.up (by omega) (cin_spec (d := 0))) ?_)
    rw [decide_eq_false q]
    refine ⟨fun w => absurd rfl w, fun _ => ?_⟩
    exact hb.same.wide (by omega) (by omega) (fun _ e => e)
theorem cbranch_spec (b : Base h x ld nw wh nm tp ep S) (ho : S.ok) {c o k : Int} : wp (d + 40) 212 (0, ent 5 [vR (some x), vI c, vI o, vI k], [], h) (cEnd h x ld ep (vL (aBranch S c o k)) S 32 160 (fun n => n = nm)) := by
  have hb := b
  have hn := ho.1.1.2.1
  have hD := dst_far ho.1
  obtain ⟨b1, b2, ⟨b3, b4⟩, -⟩ := b
  unfold aBranch
  refine wp.go [] 40 fun W C hW hC => ?_
  refine ⟨_, _, _, b2, rfl, ?_⟩
  refine hC _ _ _ (useE (wpd.up (by omega) (cbound_spec (d := 0) hb ho)) ?_)
  by_cases q1 : isB S c o
  · rw [decide_eq_true q1]
    refine ⟨fun w => absurd w (by decide), fun _ => ?_⟩
    refine hC _ _ _ (useE (wpd.up (by omega) (cin_spec (d := 0))) ?_)
    by_cases q2 : 0 ≤ k ∧ k ≤ 3
    · rw [decide_eq_true q2, if_neg (fun w => by rcases w with w | w; exact w q1; exact w q2)]
      refine ⟨fun _ => ?_, fun w => absurd w (by decide)⟩
      obtain ⟨p1, p2, p3⟩ := q1
      obtain ⟨c', rfl⟩ : ∃ k : Nat, c = (k : Int) := ⟨c.toNat, by have := p1.1; omega⟩
      obtain ⟨o', rfl⟩ : ∃ k : Nat, o = (k : Int) := ⟨o.toNat, by have := p2.1; omega⟩
      have p3 : S.1.2 c' o' = true := p3
      rw [Int.toNat_natCast, Int.toNat_natCast]
      have hb1 := bsz_lt ho.1.1 hD p3
      have hb2 : bszF S.1 (dst S.1) c' o' = bsz S.1 (dst S.1) c' o' := (bsz_eq ho.1.1 hD p3).symm
      have hc' := (ho.1.1.2.2 _ _ p3).1
      have ho' := (ho.1.1.2.2 _ _ p3).2.1
      have call := branch_spec (d := 0) ho.1.1 ho.1.2.1 hD 16 c' o' h b4 (by omega) (Or.inl p3) ho'
      rw [show frI c' = ((c' : Nat) : Int) from if_neg (by omega)] at call
      refine ⟨_, _, _, _, b2, rfl, rfl, ?_⟩
      refine ⟨_, _, _, b4.2.1, rfl, ?_⟩
      refine hC _ _ _ (use (wpd.up (by omega) (call)) ?_)
      rintro _ H ⟨y, rfl, e1, hy⟩
      obtain ⟨p, qs, y1, y2, -⟩ := hy
      have hend : ∀ v : AV, cEnd h x ld ep v S 32 160 (fun n => n = nm) (.inl (some v)) H := fun v => (hb.more e1).wide (by omega) (by omega) (fun _ e => e)
      refine ⟨fun k0 => ?_, fun k0 => ⟨fun k1 => ?_, fun k1 => ⟨fun k2 => ?_, fun k2 => ?_⟩⟩⟩
      · refine ⟨_, _, _, _, y2, rfl, rfl, ?_⟩
        rw [if_pos k0]
        exact hend _
      · refine ⟨_, _, _, _, y2, rfl, rfl, ?_⟩
        rw [if_neg k0, if_pos k1]
        exact hend _
      · refine ⟨_, _, _, _, y2, rfl, rfl, ?_⟩
        rw [if_neg k0, if_neg k1, if_pos k2]
        exact hend _
      · refine ⟨_, _, _, _, y2, rfl, rfl, ?_⟩
        rw [if_neg k0, if_neg k1, if_neg k2]
        exact hend _
    · rw [decide_eq_false q2, if_pos (Or.inr q2)]
      refine ⟨fun w => absurd rfl w, fun _ => ?_⟩
      exact hb.same.wide (by omega) (by omega) (fun _ e => e)
  · rw [decide_eq_false q1, if_pos (Or.inl q1)]
    refine ⟨fun _ => ?_, fun w => absurd rfl w⟩
    exact hb.same.wide (by omega) (by omega) (fun _ e => e)
theorem signum_spec {v : Int} {h : AH} (hv : v = -1 ∨ v = 0 ∨ v = 1) : wp (d + 1) 13 (0, ent 1 [vI v], [], h) (gives h v) := by
  have e : ior (ishr v 31) (iushr (ineg v) 31) = v := by rcases hv with rfl | rfl | rfl <;> decide
  refine wp.go [] 20 fun W C hW hC => ?_
  exact ⟨by rw [e], rfl⟩
theorem cgreater_spec (b : Base h x ld nw wh nm tp ep S) (ho : S.ok) {c o p : Int} : wp (d + 40) 213 (0, ent 4 [vR (some x), vI c, vI o, vI p], [], h) (cEnd h x ld ep (vI (aGreater S c o p)) S 64 320 (fun n => n = nm)) := by
  have hb := b
  have hn := ho.1.1.2.1
  have hD := dst_far ho.1
  obtain ⟨b1, b2, ⟨b3, b4⟩, -⟩ := b
  unfold aGreater
  refine wp.go [] 40 fun W C hW hC => ?_
  refine ⟨_, _, _, b2, rfl, ?_⟩
  refine hC _ _ _ (useE (wpd.up (by omega) (cbound_spec (d := 0) hb ho)) ?_)
  by_cases q1 : isB S c o
  · rw [decide_eq_true q1]
    refine ⟨fun w => absurd w (by decide), fun _ => ?_⟩
    refine ⟨_, _, _, b2, rfl, ?_⟩
    refine hC _ _ _ (useE (wpd.up (by omega) (cbound_spec (d := 0) hb ho)) ?_)
    by_cases q2 : isB S c p
    · rw [decide_eq_true q2]
      refine ⟨fun w => absurd w (by decide), fun _ => ?_⟩
      refine ⟨fun q3 => ?_, fun q3 => ?_⟩
      · rw [if_neg (fun w => by rcases w with w | w | w; exact w q1; exact w q2; exact q3 w)]
        obtain ⟨p1, p2, p3⟩ := q1
        obtain ⟨-, p4, p5⟩ := q2
        obtain ⟨c', rfl⟩ : ∃ k : Nat, c = (k : Int) := ⟨c.toNat, by have := p1.1; omega⟩
        obtain ⟨o', rfl⟩ : ∃ k : Nat, o = (k : Int) := ⟨o.toNat, by have := p2.1; omega⟩
        obtain ⟨p', rfl⟩ : ∃ k : Nat, p = (k : Int) := ⟨p.toNat, by have := p4.1; omega⟩
        have p3 : S.1.2 c' o' = true := p3
        have p5 : S.1.2 c' p' = true := p5
        rw [Int.toNat_natCast, Int.toNat_natCast, Int.toNat_natCast]
        have hb1 := bsz_lt ho.1.1 hD p3
        have hb2 : bszF S.1 (dst S.1) c' o' = bsz S.1 (dst S.1) c' o' := (bsz_eq ho.1.1 hD p3).symm
        have hb3 := bsz_lt ho.1.1 hD p5
        have hb4 : bszF S.1 (dst S.1) c' p' = bsz S.1 (dst S.1) c' p' := (bsz_eq ho.1.1 hD p5).symm
        have hc' := (ho.1.1.2.2 _ _ p3).1
        have ho' := (ho.1.1.2.2 _ _ p3).2.1
        have hp' := (ho.1.1.2.2 _ _ p5).2.1
        have call := branch_spec (d := 0) ho.1.1 ho.1.2.1 hD 16 c' o' h b4 (by omega) (Or.inl p3) ho'
        rw [show frI c' = ((c' : Nat) : Int) from if_neg (by omega)] at call
        refine ⟨_, _, _, _, b2, rfl, rfl, ?_⟩
        refine ⟨_, _, _, b4.2.1, rfl, ?_⟩
        refine hC _ _ _ (use (wpd.up (by omega) (call)) ?_)
        rintro _ H ⟨y, rfl, e1, hy⟩
        have hbb := hb.grown e1
        have S2 := b4.mono e1
        have call2 := branch_spec (d := 0) ho.1.1 ho.1.2.1 hD 16 c' p' H S2 (by omega) (Or.inl p5) hp'
        rw [show frI c' = ((c' : Nat) : Int) from if_neg (by omega)] at call2
        refine ⟨_, _, _, _, hbb.2.1, rfl, rfl, ?_⟩
        refine ⟨_, _, _, S2.2.1, rfl, ?_⟩
        refine hC _ _ _ (use (wpd.up (by omega) (call2)) ?_)
        rintro _ H2 ⟨z, rfl, e2, hz⟩
        have o1 : OAt H2 (some y) (some (TT S.1 c' o')) := ⟨(hy.at fun v hv => hv.2).mono e2, TT_ok _ _ _, by rw [TT_sz ho.1.1 hD _ _ p3]; omega⟩
        have o2 : OAt H2 (some z) (some (TT S.1 c' p')) := ⟨hz.at fun v hv => hv.2, TT_ok _ _ _, by rw [TT_sz ho.1.1 hD _ _ p5]; omega⟩
        refine ⟨_, _, _, o1.1.choose_spec.choose_spec.2.1, rfl, ?_⟩
        refine hC _ _ _ (useE (wpd.up (by omega) (cmp16 (d := 0) o1 o2)) ?_)
        refine hC _ _ _ (useE (wpd.up (by omega) (signum_spec (d := 0) (cmpT_rng (TT S.1 c' o') (TT S.1 c' p')))) ?_)
        exact (hb.more (e1.trans e2)).wide (by omega) (by omega) (fun _ e => e)
      · rw [if_pos (Or.inr (Or.inr q3))]
        exact hb.same.wide (by omega) (by omega) (fun _ e => e)
    · rw [decide_eq_false q2, if_pos (Or.inr (Or.inl q2))]
      refine ⟨fun _ => ?_, fun w => absurd rfl w⟩
      exact hb.same.wide (by omega) (by omega) (fun _ e => e)
  · rw [decide_eq_false q1, if_pos (Or.inl q1)]
    refine ⟨fun _ => ?_, fun w => absurd rfl w⟩
    exact hb.same.wide (by omega) (by omega) (fun _ e => e)
theorem ccen_spec (b : Base h x ld nw wh nm tp ep S) (ho : S.ok) {i : Int} (hi32 : i ≤ 2147483647) : wp (d + 20) 206 (0, ent 4 [vR (some x), vI i], [], h) (cEnd h x ld ep (vI (aCentroid S (dst S.1) i)) S 0 0 (fun n => n = nm)) := by
  have hb := b
  have hn := ho.1.1.2.1
  have hD := dst_far ho.1
  obtain ⟨b1, b2, ⟨b3, b4⟩, -⟩ := b
  unfold aCentroid
  by_cases q0 : i < -1
  · rw [if_pos q0]
    refine wp.go [] 20 fun W C hW hC => ?_
    refine ⟨fun w => absurd w (by omega), fun _ => ?_⟩
    exact hb.same
  · rw [if_neg q0]
    obtain ⟨P, hP⟩ : ∃ P : Nat → List Nat, ∀ c, P c = (List.range c).filter (isCen S.1 (dst S.1)) := ⟨_, fun _ => rfl⟩
    have hPall : P S.1.1 = cens S.1 (dst S.1) := by rw [hP]; rfl
    have hPl : ∀ c, (P c).length ≤ c := fun c => by
      rw [hP]
      have := List.length_filter_le (isCen S.1 (dst S.1)) (List.range c)
      rw [List.length_range] at this
      exact this
    have hPs : ∀ c, P (c + 1) = P c ++ (if isCen S.1 (dst S.1) c = true then [c] else []) := by
      intro c
      rw [hP, hP, List.range_succ, List.filter_append]
      congr 1
      by_cases w : isCen S.1 (dst S.1) c = true
      · rw [if_pos w]; simp [w]
      · rw [if_neg w]; simp [w]
    have hPm : ∀ j c, P (c + j) = P c ++ (P (c + j)).drop (P c).length := by
      intro j c
      induction j with
      | zero => rw [Nat.add_zero, List.drop_length, List.append_nil]
      | succ j ih =>
        rw [← Nat.add_assoc, hPs]
        rw [ih, List.append_assoc, List.drop_left]
    have loop : ∀ (j c : Nat), j + c = S.1.1 → (i = -1 ∨ ((P c).length : Int) ≤ i) → wp (d + 20) 206 (11, [some (vR (some x)), some (vI i), some (vI (((P c).length : Nat) : Int)), some (vI ((c : Nat) : Int))], [], h) (cEnd h x ld ep (vI (if i = -1 then (((cens S.1 (dst S.1)).length : Nat) : Int) else if atN (cens S.1 (dst S.1)) i.toNat = -1 then -2 else atN (cens S.1 (dst S.1)) i.toNat)) S 0 0 (fun n => n = nm)) := by
      intro j
      induction j with
      | zero =>
        intro c hj hlt
        obtain rfl : c = S.1.1 := by omega
        refine wp.go [11] 20 fun W C hW hC => ?_
        refine ⟨_, _, _, _, b2, rfl, rfl, ?_⟩
        refine ⟨_, _, _, _, b4.2.1, rfl, rfl, ?_⟩
        refine ⟨fun _ => ?_, fun w => absurd w (by omega)⟩
        refine ⟨fun q => ?_, fun q => ?_⟩
        · rw [if_neg q]
          have : atN (cens S.1 (dst S.1)) i.toNat = -1 := by
            unfold atN
            rw [List.getElem?_eq_none (by rw [← hPall]; omega)]
          rw [this, if_pos rfl]
          exact hb.same
        · rw [if_pos q, ← hPall]
          exact hb.same
      | succ j ih =>
        intro c hj hlt
        have hcl := hPl c
        refine wp.go [11] 30 fun W C hW hC => ?_
        refine ⟨_, _, _, _, b2, rfl, rfl, ?_⟩
        refine ⟨_, _, _, _, b4.2.1, rfl, rfl, ?_⟩
        refine ⟨fun w => absurd w (by omega), fun _ => ?_⟩
        refine ⟨_, _, _, _, b2, rfl, rfl, ?_⟩
        refine ⟨_, _, _, b4.2.1, rfl, ?_⟩
        refine hC _ _ _ (useE (wpd.up (by omega) (cisCen_spec (d := 0) b4 ho.1.1 ho.1.2.1 hD (show c < S.1.1 by omega))) ?_)
        have hs := hPs c
        cases q : isCen S.1 (dst S.1) c with
        | true =>
          rw [q, if_pos rfl] at hs
          refine ⟨fun _ => ?_, fun w => absurd w (by decide)⟩
          refine ⟨fun q2 => ?_, fun q2 => ?_⟩
          · (conv => whnf); simp (disch := omega) only [iadd_eq, isub_eq, imul_eq]
            have := ih (c + 1) (by omega) (by rw [hs, List.length_append, List.length_singleton]; omega)
            rw [hs, List.length_append, List.length_singleton] at this
            exact hW _ this
          · have hi : i.toNat = (P c).length := by omega
            have hat : (cens S.1 (dst S.1))[i.toNat]? = some c := by
              rw [← hPall, show S.1.1 = (c + 1) + j by omega, hPm j (c + 1), hs, List.append_assoc, hi]
              exact get_mid (L1 := P c)
            have : atN (cens S.1 (dst S.1)) i.toNat = ((c : Nat) : Int) := by unfold atN; rw [hat]
            rw [if_neg (by omega), this, if_neg (by omega)]
            exact hb.same
        | false =>
          rw [q, if_neg (by decide), List.append_nil] at hs
          refine ⟨fun w => absurd rfl w, fun _ => ?_⟩
          (conv => whnf); simp (disch := omega) only [iadd_eq, isub_eq, imul_eq]
          have := ih (c + 1) (by omega) (by rw [hs]; exact hlt)
          rw [hs] at this
          exact hW _ this
    have h0 : P 0 = [] := by rw [hP]; rfl
    have key := loop S.1.1 0 (by omega) (by rw [h0]; show i = -1 ∨ ((0 : Nat) : Int) ≤ i; omega)
    rw [h0] at key
    refine wp.go [11] 20 fun W C hW hC => ?_
    refine ⟨fun _ => ?_, fun w => absurd w (by omega)⟩
    exact hW _ key
end ASKSB
