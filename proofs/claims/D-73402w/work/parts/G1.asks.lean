/-! CALLS OF THE COMPONENT that only ask -/
theorem frB.setF {x ep : Nat} {h H : AH} {l : List AV} (f : frB x ep h H) : frB x ep h (H.setF x l) :=
  ⟨f.1, f.2.1, fun v hv => ⟨(f.2.2 v hv).1, (f.2.2 v hv).2.1, fun w1 w2 => (setF_ne w1).trans ((f.2.2 v hv).2.2 w1 w2)⟩⟩
section ASKS
variable {d : Nat} {h : AH} {x : Nat} {ld : Int} {nw : Nat} {wh nm : Option Nat} {tp ep : Nat} {S : AS}
theorem Base.then {h1 h2 : AH} {wh' : Option Nat} {c1 s1 c s : Nat} {v : AV} (b1 : Base h1 x ld nw wh' nm tp ep S) (f : frB x ep h h1) (z1 : h1.sz ≤ h.sz + c1) (z2 : h.sl ≤ h1.sl) (z3 : h1.sl ≤ h.sl + s1) (e : ext c s h1 h2) : cEnd h x ld ep v S (c1 + c) (s1 + s) (fun n => n = nm) (.inl (some v)) h2 := by
  have e1 := e.1
  have e2 := e.2.1
  have e3 := e.2.2.1
  have e4 := e.2.2.2.1
  exact ⟨rfl, nw, wh', nm, tp, ep, b1.grown e, f.trans (frB.of e) (Or.inl rfl), Or.inl rfl, by omega, by omega, by omega, rfl⟩
theorem cwhole_spec (b : Base h x ld nw wh nm tp ep S) (ho : S.ok) : wp (d + 41) 202 (0, ent 1 [vR (some x)], [], h) (fun r h' => ∃ w, r = .inl (some (vR (some w))) ∧ Base h' x ld nw (some w) nm tp ep S ∧ frB x ep h h' ∧ WhAt (gdA x h') h' w (whG S.1 (dst S.1)) ∧ h'.sz ≤ h.sz + 33 ∧ h.sl ≤ h'.sl ∧ h'.sl ≤ h.sl + 162) := by
  have hb := b
  obtain ⟨b1, b2, ⟨b3, b4⟩, b5, b6, b7, b8, b9⟩ := b
  cases wh with
  | some w =>
    refine wp.go [] 20 fun W C hW hC => ?_
    refine ⟨_, _, _, _, b2, rfl, rfl, ?_⟩
    refine ⟨_, _, _, _, b2, rfl, rfl, ?_⟩
    exact ⟨w, rfl, hb, frB.of ext.refl, b8 w rfl, by omega, by omega, by omega⟩
  | none =>
    refine wp.go [] 20 fun W C hW hC => ?_
    refine ⟨_, _, _, _, b2, rfl, rfl, ?_⟩
    refine ⟨_, _, _, _, b2, rfl, rfl, ?_⟩
    refine ⟨_, _, _, b4.2.1, rfl, ?_⟩
    refine hC _ _ _ (use (wpd.up (by omega) (whole_spec (d := 0) b4 ho.1.1 ho.1.2.1 (dst_far ho.1))) ?_)
    rintro _ H ⟨w, rfl, e1, hw⟩
    have e5 := e1.2.2.2.2.1
    have z1 := e1.1
    have hp := b5.1.1
    have F1 : H.F x = (1, flC x ld nw none nm tp) := (e5 x (by omega)).2.2.trans b2
    refine ⟨_, _, _, F1, rfl, (Nat.le_of_ble_eq_true rfl), ?_⟩
    have F2 : (H.setF x ((flC x ld nw none nm tp).set 9 (vR (some w)))).F x = (1, flC x ld nw (some w) nm tp) := setF_at F1
    refine ⟨_, _, _, _, F2, rfl, rfl, ?_⟩
    have f : frB x ep h (H.setF x ((flC x ld nw none nm tp).set 9 (vR (some w)))) := frB.setF (frB.of e1)
    have hw2 : WhAt (gdA x (H.setF x ((flC x ld nw none nm tp).set 9 (vR (some w))))) (H.setF x ((flC x ld nw none nm tp).set 9 (vR (some w)))) w (whG S.1 (dst S.1)) := by
      refine hw.to fun v hv => ?_
      have q1 : h.sz ≤ v ∧ v < H.sz := hv
      exact ⟨⟨by omega, q1.2⟩, rfl, setF_ne (by omega)⟩
    refine ⟨w, rfl, ?_, f, hw2, e1.2.1, e1.2.2.1, e1.2.2.2.1⟩
    exact hb.re f F2 (by rw [setF_ne (by omega)]; exact (e5 _ (by omega)).2.2) (e5 _ (by omega)).2.1 (e5 _ hp).2.1 (e5 _ (by omega)).1 (fun w' e => Or.inr (by cases e; exact hw2)) (fun s e => Or.inl e)
theorem cneigh_spec (b : Base h x ld nw wh nm tp ep S) (ho : S.ok) {c i : Int} : wp (d + 3) 204 (0, ent 3 [vR (some x), vI c, vI i], [], h) (cEnd h x ld ep (vI (aNeighbour S c i)) S 0 0 (fun n => n = nm)) := by
  have hb := b
  have hn := ho.1.1.2.1
  obtain ⟨b1, b2, ⟨b3, b4⟩, -⟩ := b
  unfold aNeighbour
  by_cases q1 : isC S c
  · obtain ⟨c', rfl⟩ : ∃ k : Nat, c = (k : Int) := ⟨c.toNat, by have := q1.1; omega⟩
    have hc' : c' < S.1.1 := by have := q1.2; omega
    have hdc := ho.1.2.1 c'
    obtain ⟨k1, k2, k3, ⟨W, k4, k5, k6⟩, k7⟩ := id b4
    refine wp.go [] 60 fun W C hW hC => ?_
    refine ⟨_, _, _, b2, rfl, ?_⟩
    refine hC _ _ _ (useE (wpd.up (by omega) (cisC_spec (d := 0) hb ho)) ?_)
    rw [decide_eq_true q1]
    refine ⟨fun w => absurd w (by decide), fun _ => ?_⟩
    refine ⟨_, _, _, _, b2, rfl, rfl, ?_⟩
    refine ⟨_, _, _, _, k2, rfl, rfl, ?_⟩
    refine ⟨_, _, _, k4, rfl, by omega, gt_at c' (by omega) (by omega), ?_⟩
    rw [k6 c' hc']
    conv => whnf
    rw [isub_eq (by omega)]
    refine hC _ _ _ (useE (wpd.up (by omega) (cin_spec (d := 0))) ?_)
    by_cases q2 : -1 ≤ i ∧ i ≤ ((deg S.1 c' : Nat) : Int) - 1
    · rw [decide_eq_true q2]
      refine ⟨fun _ => ?_, fun w => absurd w (by decide)⟩
      rw [if_neg (fun w => by rcases w with w | w; exact w q1; omega)]
      refine ⟨fun q3 => ?_, fun q3 => ?_⟩
      · rw [if_neg q3]
        obtain ⟨i', rfl⟩ : ∃ k : Nat, i = (k : Int) := ⟨i.toNat, by omega⟩
        have hil : i' < (nb S.1 c').length := by show i' < deg S.1 c'; omega
        have hget := List.getElem?_eq_getElem hil
        obtain ⟨X, x1, x2, x3⟩ := k7 c' (by omega)
        have x3 := x3 hc' i' _ hget
        refine ⟨_, _, _, _, b2, rfl, rfl, ?_⟩
        refine ⟨_, _, _, _, k2, rfl, rfl, ?_⟩
        refine ⟨_, _, _, k3, by decide, by omega, by rw [Int.toNat_natCast]; exact row_ref (by omega), ?_⟩
        refine ⟨_, _, _, x1, rfl, by omega, gt_at i' (by omega) (by omega), ?_⟩
        rw [x3]
        have : atN (nb S.1 ((c' : Int).toNat)) ((i' : Int).toNat) = (((nb S.1 c')[i'] : Nat) : Int) := by
          unfold atN
          rw [Int.toNat_natCast, Int.toNat_natCast, hget]
        rw [this]
        exact hb.same
      · rw [if_pos q3]
        refine ⟨_, _, _, _, b2, rfl, rfl, ?_⟩
        refine ⟨_, _, _, _, k2, rfl, rfl, ?_⟩
        refine ⟨_, _, _, k4, rfl, by omega, gt_at c' (by omega) (by omega), ?_⟩
        rw [k6 c' hc']
        exact hb.same
    · rw [decide_eq_false q2]
      refine ⟨fun w => absurd rfl w, fun _ => ?_⟩
      have : (if ¬ isC S ((c' : Nat) : Int) ∨ i < -1 then (-1 : Int) else if i = -1 then ((deg S.1 ((c' : Int).toNat) : Nat) : Int) else atN (nb S.1 ((c' : Int).toNat)) i.toNat) = -1 := by
        by_cases q3 : i < -1
        · rw [if_pos (Or.inr q3)]
        · rw [if_neg (fun w => by rcases w with w | w; exact w q1; exact q3 w), if_neg (by omega)]
          unfold atN
          rw [List.getElem?_eq_none (by show deg S.1 c' ≤ _; omega)]
      rw [this]
      exact hb.same
  · rw [if_pos (Or.inl q1)]
    refine wp.go [] 20 fun W C hW hC => ?_
    refine ⟨_, _, _, b2, rfl, ?_⟩
    refine hC _ _ _ (useE (wpd.up (by omega) (cisC_spec (d := 0) hb ho)) ?_)
    rw [decide_eq_false q1]
    refine ⟨fun _ => ?_, fun w => absurd rfl w⟩
    exact hb.same
theorem capart_spec (b : Base h x ld nw wh nm tp ep S) (ho : S.ok) {c o : Int} : wp (d + 18) 205 (0, ent 3 [vR (some x), vI c, vI o], [], h) (cEnd h x ld ep (vI (aApart S (dst S.1) c o)) S 1 16 (fun n => n = nm)) := by
  have hb := b
  have hn := ho.1.1.2.1
  obtain ⟨b1, b2, ⟨b3, b4⟩, -⟩ := b
  unfold aApart
  refine wp.go [] 40 fun W C hW hC => ?_
  refine ⟨_, _, _, b2, rfl, ?_⟩
  refine hC _ _ _ (useE (wpd.up (by omega) (cisC_spec (d := 0) hb ho)) ?_)
  by_cases q1 : isC S c
  · rw [decide_eq_true q1]
    refine ⟨fun w => absurd w (by decide), fun _ => ?_⟩
    refine ⟨_, _, _, b2, rfl, ?_⟩
    refine hC _ _ _ (useE (wpd.up (by omega) (cisC_spec (d := 0) hb ho)) ?_)
    by_cases q2 : isC S o
    · rw [decide_eq_true q2, if_pos ⟨q1, q2⟩]
      refine ⟨fun w => absurd w (by decide), fun _ => ?_⟩
      obtain ⟨c', rfl⟩ : ∃ k : Nat, c = (k : Int) := ⟨c.toNat, by have := q1.1; omega⟩
      obtain ⟨o', rfl⟩ : ∃ k : Nat, o = (k : Int) := ⟨o.toNat, by have := q2.1; omega⟩
      have hc' : c' < S.1.1 := by have := q1.2; omega
      have ho' : o' < S.1.1 := by have := q2.2; omega
      refine ⟨_, _, _, _, b2, rfl, rfl, ?_⟩
      refine ⟨_, _, _, b4.2.1, rfl, ?_⟩
      refine hC _ _ _ (use (wpd.up (by omega) (far_spec (d := 0) b4 ho.1.1 ho.1.2.1 (dst_far ho.1) hc')) ?_)
      rintro _ H ⟨rfl, e1, z1, X, y1, y2, y3⟩
      refine ⟨_, _, _, y1, rfl, by omega, gt_at o' (by omega) (by omega), ?_⟩
      rw [y3 o' ho']
      exact hb.more e1
    · rw [decide_eq_false q2, if_neg (fun w => q2 w.2)]
      refine ⟨fun _ => ?_, fun w => absurd rfl w⟩
      exact hb.same.wide (by omega) (by omega) (fun _ e => e)
  · rw [decide_eq_false q1, if_neg (fun w => q1 w.1)]
    refine ⟨fun _ => ?_, fun w => absurd rfl w⟩
    exact hb.same.wide (by omega) (by omega) (fun _ e => e)
theorem ccode_call (b : Base h x ld nw wh nm tp ep S) (ho : S.ok) {i : Int} : wp (d + 42) 207 (0, ent 2 [vR (some x), vI i], [], h) (cEnd h x ld ep (vI (aCode S (dst S.1) i)) S 36 189 (fun n => n = nm)) := by
  have hb := b
  have hn := ho.1.1.2.1
  have hD := dst_far ho.1
  obtain ⟨b1, b2, ⟨b3, b4⟩, -⟩ := b
  unfold aCode
  refine wp.go [] 40 fun W C hW hC => ?_
  refine ⟨_, _, _, _, b2, rfl, rfl, ?_⟩
  refine ⟨_, _, _, _, b4.2.1, rfl, rfl, ?_⟩
  conv => whnf
  rw [isub_eq (by omega)]
  refine hC _ _ _ (useE (wpd.up (by omega) (cin_spec (d := 0))) ?_)
  by_cases q : 0 ≤ i ∧ i ≤ ((S.1.1 : Nat) : Int) - 1
  · rw [decide_eq_true q, if_pos q]
    refine ⟨fun w => absurd w (by decide), fun _ => ?_⟩
    obtain ⟨i', rfl⟩ : ∃ k : Nat, i = (k : Int) := ⟨i.toNat, by omega⟩
    refine ⟨_, _, _, b2, rfl, ?_⟩
    refine hC _ _ _ (use (wpd.up (by omega) (cwhole_spec (d := 0) hb ho)) ?_)
    rintro _ H ⟨w, rfl, hb2, f, hw, z1, z2, z3⟩
    obtain ⟨wok, wroot⟩ := wh_ok ho.1.1 ho.1.2.1 hD
    have hlen : (preT (TT S.1 16 (fstC S.1 (dst S.1))) 0).length = S.1.1 := by rw [preT_len, TT_root ho.1.1 hD (fstC_lt ho.1.1 hD)]
    have hil : i' < (codG S.1 (dst S.1)).length := by show i' < (preT (TT S.1 16 (fstC S.1 (dst S.1))) 0).length; omega
    have fin : ∀ (H2 : AH) (f2 : Nat), ext 3 27 H H2 → H2.I f2 = (1, codeI (rootW (whG S.1 (dst S.1)))) → cEnd h x ld ep (vI (atN (codG S.1 (dst S.1)) ((i' : Int).toNat))) S 36 189 (fun n => n = nm) (.inl (some (vI (((codG S.1 (dst S.1))[i'] : Nat) : Int)))) H2 := by
      intro H2 f2 e2 hI
      have : atN (codG S.1 (dst S.1)) ((i' : Int).toNat) = (((codG S.1 (dst S.1))[i'] : Nat) : Int) := by
        unfold atN
        rw [Int.toNat_natCast, List.getElem?_eq_getElem hil]
      rw [this]
      exact hb2.then f z1 z2 z3 e2
    have hget : (codeI (rootW (whG S.1 (dst S.1))))[i']? = some ((((codG S.1 (dst S.1))[i'] : Nat)) : Int) := by
      rw [List.getElem?_map, wroot]
      show Option.map _ (codG S.1 (dst S.1))[i']? = _
      rw [List.getElem?_eq_getElem hil]
      rfl
    have call := ccode_spec (d := 0) (P := gdA x H) (fun v hv => hv.2) hw wok
    cases hW0 : whG S.1 (dst S.1) with
    | mk t o =>
      rw [hW0] at hw
      cases o with
      | none =>
        obtain ⟨r, w1, w2, w3⟩ := hw
        refine ⟨_, _, _, w2, rfl, ?_⟩
        refine hC _ _ _ (use (wpd.up (by omega) (call)) ?_)
        rintro _ H2 ⟨f2, rfl, e2, g1, g2, g3⟩
        refine ⟨_, _, _, g3, rfl, by omega, by rw [Int.toNat_natCast]; exact hget, ?_⟩
        exact fin H2 f2 e2 g3
      | some u =>
        obtain ⟨r, r', w1, w2, w3, w4⟩ := hw
        refine ⟨_, _, _, w2, rfl, ?_⟩
        refine hC _ _ _ (use (wpd.up (by omega) (call)) ?_)
        rintro _ H2 ⟨f2, rfl, e2, g1, g2, g3⟩
        refine ⟨_, _, _, g3, rfl, by omega, by rw [Int.toNat_natCast]; exact hget, ?_⟩
        exact fin H2 f2 e2 g3
  · rw [decide_eq_false q, if_neg q]
    refine ⟨fun _ => ?_, fun w => absurd rfl w⟩
    exact hb.same.wide (by omega) (by omega) (fun _ e => e)
theorem csym_spec (b : Base h x ld nw wh nm tp ep S) (ho : S.ok) : wp (d + 42) 215 (0, ent 1 [vR (some x)], [], h) (cEnd h x ld ep (vL ((symG S.1 (dst S.1) : Nat) : Int)) S 33 162 (fun n => n = nm)) := by
  have hb := b
  have hD := dst_far ho.1
  obtain ⟨b1, b2, ⟨b3, b4⟩, -⟩ := b
  obtain ⟨wok, -⟩ := wh_ok ho.1.1 ho.1.2.1 hD
  obtain ⟨-, -, v3, -⟩ := wh_vals ho.1.1 ho.1.2.1 hD
  rw [← v3]
  refine wp.go [] 20 fun W C hW hC => ?_
  refine ⟨_, _, _, b2, rfl, ?_⟩
  refine hC _ _ _ (use (wpd.up (by omega) (cwhole_spec (d := 0) hb ho)) ?_)
  rintro _ H ⟨w, rfl, hb2, f, hw, z1, z2, z3⟩
  have hP : ∀ v, gdA x H v → v < H.sz := fun v hv => hv.2
  cases hW0 : whG S.1 (dst S.1) with
  | mk t o =>
    rw [hW0] at hw wok
    cases o with
    | none =>
      have hw0 := hw
      obtain ⟨r, w1, w2, w3⟩ := hw
      refine ⟨_, _, _, w2, rfl, ?_⟩
      refine hC _ _ _ (useE (wpd.up (by omega) (oneSym_spec (d := 0) hw0)) ?_)
      exact (hb2.then f z1 z2 z3 ext.refl)
    | some u =>
      have hV := TwoV_of hP hw wok
      obtain ⟨r, r', w1, w2, w3, w4⟩ := hw
      refine ⟨_, _, _, w2, rfl, ?_⟩
      refine hC _ _ _ (useE (wpd.up (by omega) (twoSym_spec (d := 0) hV wok)) ?_)
      exact (hb2.then f z1 z2 z3 ext.refl)
theorem cmrk_spec (b : Base h x ld nw wh nm tp ep S) (ho : S.ok) {k : Int} : wp (d + 60) 216 (0, ent 2 [vR (some x), vI k], [], h) (cEnd h x ld ep (vI (aMarked S (dst S.1) k)) S 133 562 (fun n => n = nm)) := by
  have hb := b
  have hD := dst_far ho.1
  obtain ⟨b1, b2, ⟨b3, b4⟩, -⟩ := b
  obtain ⟨wok, -⟩ := wh_ok ho.1.1 ho.1.2.1 hD
  obtain ⟨-, -, -, v4⟩ := wh_vals ho.1.1 ho.1.2.1 hD
  unfold aMarked
  refine wp.go [] 30 fun W C hW hC => ?_
  refine hC _ _ _ (useE (wpd.up (by omega) (cin_spec (d := 0))) ?_)
  by_cases q : 1 ≤ k ∧ k ≤ 3
  · rw [decide_eq_true q, if_pos q]
    refine ⟨fun w => absurd w (by decide), fun _ => ?_⟩
    obtain ⟨k', rfl⟩ : ∃ n : Nat, k = (n : Int) := ⟨k.toNat, by omega⟩
    have hk' : k' < 4 := by omega
    rw [Int.toNat_natCast, ← v4 k' hk']
    refine ⟨_, _, _, b2, rfl, ?_⟩
    refine hC _ _ _ (use (wpd.up (by omega) (cwhole_spec (d := 0) hb ho)) ?_)
    rintro _ H ⟨w, rfl, hb2, f, hw, z1, z2, z3⟩
    have hP : ∀ v, gdA x H v → v < H.sz := fun v hv => hv.2
    cases hW0 : whG S.1 (dst S.1) with
    | mk t o =>
      rw [hW0] at hw wok
      cases o with
      | none =>
        have hw0 := hw
        obtain ⟨r, w1, w2, w3⟩ := hw
        have hsm : marksW (t, none) k' ≤ 1000000 := by
          obtain ⟨ok, h16, h4, h3⟩ := wok
          have hm := mk_kids t ok
          have hsz := szT_kids ok
          have := marks_mk (h := 4 - ((kidsT t).length : Int)) (show (kidsT t).length ≤ 5 by omega) (ok_kid t ok)
          rw [hm] at this
          show marksT t (4 - ((kidsT t).length : Int)) k' ≤ _
          rw [this]
          have hw := wB_mrk (w := wOf) 5 (kidsT t) _ 4 (by omega) (ok_kid t ok) (fun v hv => (ok3_marks _ v (Nat.le_refl _) (ok_kid t ok v hv) (ok3_iff.mp h3 v hv).2 (ok3_iff.mp h3 v hv).1).1) (wB_hyd (h := 4 - ((kidsT t).length : Int)) (by omega))
          exact wB_lim hw (by omega) k' hk'
        refine ⟨_, _, _, w2, rfl, ?_⟩
        refine hC _ _ _ (use (wpd.up (by omega) (oneMarked_spec (d := 0) hP hw0 wok)) ?_)
        rintro _ H2 ⟨a, rfl, g1, g2, g3, X, y1, y2, y3⟩
        refine ⟨_, _, _, y1, rfl, by omega, gt_at k' (by omega) (by omega), ?_⟩
        rw [y3 k' hk']
        conv => whnf
        rw [l2i_eq (by omega)]
        exact (hb2.then f z1 z2 z3 g2).wide (by omega) (by omega) (fun _ e => e)
      | some u =>
        have hw0 := hw
        obtain ⟨r, r', w1, w2, w3, w4⟩ := hw
        have hsm : marksW (t, some u) k' ≤ 1000000 := by
          obtain ⟨⟨o1, o2⟩, h16, ⟨h3, h4⟩, ⟨g1, g2⟩, -⟩ := wok
          have p1 := sz_pos t
          have p2 := sz_pos u
          obtain ⟨m1, m2⟩ := ok3_marks _ t (Nat.le_refl _) o1 g1 h3
          obtain ⟨m1', m2'⟩ := ok3_marks _ u (Nat.le_refl _) o2 g2 h4
          unfold marksW
          dsimp only
          split
          · exact sev_le (wB_wK m1 m2 (by omega)) hk'
          · exact wB_lim (wB_times m1 m1') (by omega) k' hk'
        refine ⟨_, _, _, w2, rfl, ?_⟩
        refine hC _ _ _ (use (wpd.up (by omega) (twoMarked_spec (d := 0) hP hw0 wok)) ?_)
        rintro _ H2 ⟨a, rfl, g1, g2, g3, X, y1, y2, y3⟩
        refine ⟨_, _, _, y1, rfl, by omega, gt_at k' (by omega) (by omega), ?_⟩
        rw [y3 k' hk']
        conv => whnf
        rw [l2i_eq (by omega)]
        exact (hb2.then f z1 z2 z3 g2).wide (by omega) (by omega) (fun _ e => e)
  · rw [decide_eq_false q, if_neg q]
    refine ⟨fun _ => ?_, fun w => absurd rfl w⟩
    exact hb.same.wide (by omega) (by omega) (fun _ e => e)
end ASKS
