section FEED
variable {d : Nat} {h : AH} {x : Nat} {ld : Int} {nw : Nat} {wh nm : Option Nat} {tp ep : Nat} {S : AS}
/-- only the tape has changed -/
def tpO (x : Nat) (h h' : AH) : Prop := h'.sz = h.sz ∧ h'.sl = h.sl ∧ h'.S = h.S ∧ h'.R = h.R ∧ (∀ a, a ≠ x + 27 → h'.I a = h.I a) ∧ ∀ a, a ≠ x → h'.F a = h.F a
theorem tpO.trans {h1 h2 : AH} (a : tpO x h h1) (b : tpO x h1 h2) : tpO x h h2 := by
  obtain ⟨a1, a2, a3, a4, a5, a6⟩ := a
  obtain ⟨b1, b2, b3, b4, b5, b6⟩ := b
  exact ⟨b1.trans a1, b2.trans a2, b3.trans a3, b4.trans a4, fun v w => (b5 v w).trans (a5 v w), fun v w => (b6 v w).trans (a6 v w)⟩
def tapeIs (H : AH) (x : Nat) (ld : Int) (nw : Nat) (wh nm : Option Nat) (t : List Int) : Prop := H.F x = (1, flC x ld nw wh nm t.length) ∧ ∃ T, H.I (x + 27) = (3, T) ∧ T.length = 120 ∧ ∀ i, i < t.length → gt T i = gt t i
theorem four_step {H : AH} {t : List Int} (ht : tapeIs H x ld nw wh nm t) (hl : t.length < 120) {v : Int} {kk : Int} (h0 : 0 ≤ kk) (h24 : kk ≤ 24) {Q : Rs → AH → Prop} (hQ : ∀ H2, tapeIs H2 x ld nw wh nm (t ++ [i2b (ishr v kk)]) → tpO x H H2 → wp (d + 1) 183 (3, [some (vR (some x)), some (vI v), some (vI (kk - 8))], [], H2) Q) : wp (d + 1) 183 (3, [some (vR (some x)), some (vI v), some (vI kk)], [], H) Q := by
  obtain ⟨hF, T, hI, hT, hg⟩ := ht
  refine wp.go [3] 40 fun W C hW hC => ?_
  refine ⟨fun w => absurd w (by omega), fun _ => ?_⟩
  refine ⟨_, _, _, _, hF, rfl, rfl, ?_⟩
  refine ⟨_, _, _, _, hF, rfl, rfl, ?_⟩
  refine ⟨_, _, hI, by omega, by omega, Or.inl ⟨rfl, ?_⟩⟩
  rw [Int.toNat_natCast, i2b_i2b]
  refine ⟨_, _, _, _, hF, rfl, rfl, ?_⟩
  refine ⟨_, _, _, hF, rfl, (Nat.le_of_ble_eq_true rfl), ?_⟩
  rw [iadd_eq (x := ((t.length : Nat) : Int)) (y := 1) (by omega)]
  conv => whnf
  rw [iadd_eq (x := kk) (by omega)]
  refine hW _ (hQ _ ⟨?_, T.set t.length (i2b (ishr v kk)), setI_at hI, by rw [List.length_set]; exact hT, fun i hi => ?_⟩ ⟨rfl, rfl, rfl, rfl, fun a w => setI_ne w, fun a w => setF_ne w⟩)
  · refine (setF_at (h := H.setI (x + 27) (T.set t.length (i2b (ishr v kk)))) hF).trans ?_
    rw [List.length_append, List.length_singleton]
    rfl
  · rw [List.length_append, List.length_singleton] at hi
    rw [gt_set (by omega)]
    by_cases w : i = t.length
    · subst w
      rw [if_pos rfl]
      unfold gt
      rw [List.getElem?_append_right (Nat.le_refl _), Nat.sub_self]
      rfl
    · rw [if_neg w, hg i (by omega)]
      unfold gt
      rw [List.getElem?_append_left (by omega)]
theorem cfour_spec {H : AH} {t : List Int} (ht : tapeIs H x ld nw wh nm t) (hl : t.length + 4 ≤ 120) {v : Int} : wp (d + 1) 183 (0, ent 3 [vR (some x), vI v], [], H) (fun r h' => r = .inl none ∧ tapeIs h' x ld nw wh nm (t ++ bytesOf v) ∧ tpO x H h') := by
  have fin : ∀ (H4 : AH) (kk : Int), kk < 0 → tapeIs H4 x ld nw wh nm (t ++ bytesOf v) → tpO x H H4 → wp (d + 1) 183 (3, [some (vR (some x)), some (vI v), some (vI kk)], [], H4) (fun r h' => r = .inl none ∧ tapeIs h' x ld nw wh nm (t ++ bytesOf v) ∧ tpO x H h') := by
    intro H4 kk hk h1 h2
    refine wp.go [] 10 fun W C hW hC => ?_
    exact ⟨fun _ => ⟨rfl, h1, h2⟩, fun w => absurd w (by omega)⟩
  refine wp.go [3] 10 fun W C hW hC => ?_
  refine hW _ (four_step ht (by omega) (by decide) (by decide) fun H1 t1 o1 => ?_)
  refine four_step t1 (by simp; omega) (by decide) (by decide) fun H2 t2 o2 => ?_
  refine four_step t2 (by simp; omega) (by decide) (by decide) fun H3 t3 o3 => ?_
  refine four_step t3 (by simp; omega) (by decide) (by decide) fun H4 t4 o4 => ?_
  refine fin H4 _ (by decide) ?_ (((o1.trans o2).trans o3).trans o4)
  have e : t ++ bytesOf v = t ++ [i2b (ishr v 24)] ++ [i2b (ishr v (24 - 8))] ++ [i2b (ishr v (24 - 8 - 8))] ++ [i2b (ishr v (24 - 8 - 8 - 8))] := by
    unfold bytesOf
    simp
  rw [e]
  exact t4
theorem cfeed_spec (b : Base h x ld nw wh nm tp ep S) (ho : S.ok) {a1 a2 a3 a4 a5 : Int} : wp (d + 2) 182 (0, ent 6 [vR (some x), vI a1, vI a2, vI a3, vI a4, vI a5], [], h) (cEnd h x ld ep (vI (aFeed S a1 a2 a3 a4 a5).1) (aFeed S a1 a2 a3 a4 a5).2 0 0 (fun n => n = nm)) := by
  have hb := b
  have h6 := b.six
  have htl := ho.2.2.2.1
  obtain ⟨b1, b2, ⟨b3, b4⟩, ⟨⟨p1, p2⟩, m, pl, pk, p3, p4, p5⟩, ⟨sl, s1, s2, s3⟩, ⟨T, t1, t2, t3, t4⟩, b7, b8⟩ := b
  subst t3
  have ht : tapeIs h x ld nw wh nm S.2.2.2 := ⟨b2, T, t1, t2, t4⟩
  unfold aFeed
  refine wp.go [] 60 fun W C hW hC => ?_
  refine ⟨_, _, _, _, b2, rfl, rfl, ?_⟩
  conv => whnf
  rw [iadd_eq (by omega)]
  refine ⟨fun q => ?_, fun q => ?_⟩
  · have q : S.2.2.2.length ≤ 100 := by have q : ((S.2.2.2.length : Nat) : Int) + 20 ≤ 120 := q; omega
    rw [if_neg (by omega)]
    have bl : ∀ v, (bytesOf v).length = 4 := fun v => rfl
    refine ⟨_, _, _, b2, rfl, ?_⟩
    refine hC _ _ _ (use (wpd.up (by omega) (cfour_spec (d := 0) ht (by omega))) ?_)
    rintro _ h1 ⟨rfl, i1, o1⟩
    refine ⟨_, _, _, i1.1, rfl, ?_⟩
    refine hC _ _ _ (use (wpd.up (by omega) (cfour_spec (d := 0) i1 (by rw [List.length_append, bl]; omega))) ?_)
    rintro _ h2 ⟨rfl, i2, o2⟩
    refine ⟨_, _, _, i2.1, rfl, ?_⟩
    refine hC _ _ _ (use (wpd.up (by omega) (cfour_spec (d := 0) i2 (by rw [List.length_append, List.length_append, bl, bl]; omega))) ?_)
    rintro _ h3 ⟨rfl, i3, o3⟩
    refine ⟨_, _, _, i3.1, rfl, ?_⟩
    refine hC _ _ _ (use (wpd.up (by omega) (cfour_spec (d := 0) i3 (by rw [List.length_append, List.length_append, List.length_append, bl, bl, bl]; omega))) ?_)
    rintro _ h4 ⟨rfl, i4, o4⟩
    refine ⟨_, _, _, i4.1, rfl, ?_⟩
    refine hC _ _ _ (use (wpd.up (by omega) (cfour_spec (d := 0) i4 (by rw [List.length_append, List.length_append, List.length_append, List.length_append, bl, bl, bl, bl]; omega))) ?_)
    rintro _ h5 ⟨rfl, i5, o5⟩
    refine ⟨_, _, _, _, i5.1, rfl, rfl, ?_⟩
    have oo := (((o1.trans o2).trans o3).trans o4).trans o5
    rw [List.append_assoc, List.append_assoc, List.append_assoc, List.append_assoc] at i5 ⊢
    obtain ⟨j1, T', j2, j3, j4⟩ := i5
    obtain ⟨c1, c2, c3, c4, c5, c6⟩ := oo
    have f : frB x ep h h5 := ⟨by omega, c3, fun v hv => ⟨fun w => c5 v w, fun _ _ => by rw [c4], fun w _ => c6 v w⟩⟩
    have hlen : (S.2.2.2 ++ (bytesOf a1 ++ (bytesOf a2 ++ (bytesOf a3 ++ (bytesOf a4 ++ bytesOf a5))))).length = S.2.2.2.length + 20 := by
      simp only [List.length_append, bl]
    refine ⟨by rw [hlen], nw, wh, nm, _, ep, ⟨by omega, j1, ⟨b3, b4.fr f b3 h6⟩, ⟨⟨by omega, p2⟩, m, pl, pk, ⟨(c6 _ (by omega)).trans p3.1, by rw [c4, c3]; exact p3.2⟩, p4, fun i s G w1 w2 => ⟨(p5 i s G w1 w2).1, (p5 i s G w1 w2).2.fr f (p5 i s G w1 w2).1 h6⟩⟩, ⟨sl, by rw [c4]; exact s1, s2, fun j hj => ?_⟩, ⟨T', j2, j3, rfl, j4⟩, fun w e => (b7 w e).fr f h6, fun s e => (b8 s e).fr f⟩, f, Or.inl rfl, by omega, by omega, by omega, rfl⟩
    have := s3 j hj
    show match S.2.2.1 j with | none => sl[j]? = some none | some G => ∃ s, sl[j]? = some (some s) ∧ skOk x s ∧ SkAt _ s G
    revert this
    cases S.2.2.1 j with
    | none => exact id
    | some G =>
      rintro ⟨s, g1, g2, g3⟩
      exact ⟨s, g1, g2, g3.fr f g2 h6⟩
  · have q : 100 < S.2.2.2.length := by have q : (120 : Int) < ((S.2.2.2.length : Nat) : Int) + 20 := q; omega
    rw [if_pos q]
    exact hb.same
end FEED
