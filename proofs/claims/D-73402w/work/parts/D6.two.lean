theorem sorted_at2 : ∀ {l : List Tr} {a b : Nat} {x y : Tr}, sortedT l → a < b → l[a]? = some x → l[b]? = some y → 0 ≤ cmpT x y
  | [], a, b, x, y, _, _, h, _ => by simp at h
  | u :: l, a, b, x, y, h, hab, h1, h2 => by
    cases b with
    | zero => omega
    | succ b =>
      rw [List.getElem?_cons_succ] at h2
      cases a with
      | zero =>
        cases h1
        exact h.1 y (List.mem_of_getElem? h2)
      | succ a =>
        rw [List.getElem?_cons_succ] at h1
        exact sorted_at2 h.2 (by omega) h1 h2
theorem mid_eq {l : List Tr} (ho : ∀ t, t ∈ l → okT0 t) (hst : sortedT l) {a b c : Nat} (hab : a ≤ b) (hbc : b ≤ c) (h : l[a]? = l[c]?) : l[a]? = l[b]? := by
  rcases Nat.eq_or_lt_of_le hab with rfl | hab
  · rfl
  rcases Nat.eq_or_lt_of_le hbc with rfl | hbc
  · exact h
  cases ea : l[a]? with
  | none =>
    have := List.getElem?_eq_none_iff.mp ea
    exact (List.getElem?_eq_none (by omega)).symm
  | some x =>
    rw [ea] at h
    have hc := (List.getElem?_eq_some_iff.mp h.symm).1
    have hb := List.getElem?_eq_getElem (show b < l.length by omega)
    rw [hb]
    have c1 := sorted_at2 hst hab ea hb
    have c2 := sorted_at2 hst hbc hb h.symm
    have n := cmpT_neg x l[b]
    have := (cmpT_eq (ho x (List.mem_of_getElem? ea)) (ho _ (List.getElem_mem _))).mp (show cmpT x l[b] = 0 by omega)
    rw [this]
theorem EL_iff {l : List Tr} (ho : ∀ t, t ∈ l → okT0 t) {a b : Nat} : EL l a b = true ↔ l[a]? = l[b]? := eqO_iff (okO_at ho a) (okO_at ho b)
theorem EL_law {l : List Tr} (ho : ∀ t, t ∈ l → okT0 t) (hst : sortedT l) : q9 l = ordN (EL l) 4 * prdN (FL l) 4 ∧ q10 l = twoC (FL l) (EL l) ∧ q11 l = thrC (FL l) (EL l) ∧ q12 l = mirO (FL l) (OL l) (EL l) 4 0 := by
  have tr : ∀ a b c, a ≤ b → b ≤ c → EL l a c = (EL l a b && EL l b c) := by
    intro a b c h1 h2
    rw [Bool.eq_iff_iff, Bool.and_eq_true, EL_iff ho, EL_iff ho, EL_iff ho]
    constructor
    · intro h
      have := mid_eq ho hst h1 h2 h
      exact ⟨this, this.symm.trans h⟩
    · rintro ⟨h3, h4⟩
      exact h3.trans h4
  refine law4 (FL l) (OL l) (EL l) (fun a b => ?_) (tr 0 1 2 (by decide) (by decide)) (tr 1 2 3 (by decide) (by decide)) ?_ (fun a b h => ?_)
  · rw [Bool.eq_iff_iff, EL_iff ho, EL_iff ho]
    exact eq_comm
  · rw [tr 0 2 3 (by decide) (by decide), tr 0 1 2 (by decide) (by decide)]
  · have := (EL_iff ho).mp h
    unfold FL OL
    rw [this]
    exact ⟨rfl, rfl⟩
/-! what a whole comes to -/
def formsW : Wh → Nat
  | (t, none) => forC (FL (kidsT t)) (EL (kidsT t))
  | (t, some u) => if eqT t u = true then (formsT t * formsT t + formsT t) / 2 else formsT t * formsT u
def ownW : Wh → Nat
  | (t, none) => ownC (FL (kidsT t)) (OL (kidsT t)) (EL (kidsT t))
  | (t, some u) => if eqT t u = true then (ownT t * ownT t + formsT t) / 2 else ownT t * ownT u
def symW : Wh → Nat
  | (t, none) => waysT t
  | (t, some u) => waysT t * waysT u * (if eqT t u = true then 2 else 1)
def marksW : Wh → Wm
  | (t, none) => marksT t (4 - ((kidsT t).length : Int))
  | (t, some u) => if eqT t u = true then sevM (wOf t) 2 else timesM (wOf t) (wOf u)
section WHG
variable {G : Gr} {D : Nat → Nat → Nat}
theorem wh_ok (hG : G.wf) (hd : ∀ a, deg G a ≤ 4) (hD : Far G D) : WhOk (whG G D) ∧ rootW (whG G D) = TT G 16 (fstC G D) := by
  have hn := hG.2.1
  rcases cens_cases hG hD with ⟨c, e, k1, k2⟩ | ⟨a, b, e, k1, k2, k3, k4, k5⟩
  · have h1 : whG G D = (TT G 16 c, none) := by unfold whG; rw [e]
    have h2 : fstC G D = c := by unfold fstC; rw [e]
    rw [h1, h2]
    exact ⟨⟨TT_ok G 16 c, by rw [TT_root hG hD k1]; exact hn, TT_ok3r hG hd hD c⟩, rfl⟩
  · have h1 : whG G D = if 0 ≤ cmpT (TT G b a) (TT G a b) then (TT G b a, some (TT G a b)) else (TT G a b, some (TT G b a)) := by unfold whG; rw [e]
    have h2 : fstC G D = if 0 ≤ cmpT (TT G b a) (TT G a b) then a else b := by unfold fstC; rw [e]
    have k3' := (hG.2.2 _ _ k3).2.2.1
    have hb := bsz_both hG hD k3
    have t1 := TT_ok3 hG hd hD _ _ k3
    have t2 := TT_ok3 hG hd hD _ _ k3'
    have s1 := TT_sz hG hD _ _ k3
    have s2 := TT_sz hG hD _ _ k3'
    rw [h1, h2]
    by_cases q : 0 ≤ cmpT (TT G b a) (TT G a b)
    · rw [if_pos q, if_pos q]
      refine ⟨⟨⟨TT_ok _ _ _, TT_ok _ _ _⟩, by omega, ⟨t2.1, t1.1⟩, ⟨t2.2, t1.2⟩, ?_⟩, ?_⟩
      · rw [TT_kids hG hD (Or.inl k3')]; exact srt_sorted _
      · rw [TT_two hG hD k3]; rfl
    · rw [if_neg q, if_neg q]
      refine ⟨⟨⟨TT_ok _ _ _, TT_ok _ _ _⟩, by omega, ⟨t1.1, t2.1⟩, ⟨t1.2, t2.2⟩, ?_⟩, ?_⟩
      · rw [TT_kids hG hD (Or.inl k3)]; exact srt_sorted _
      · rw [TT_two hG hD k3']; rfl
theorem wh_vals (hG : G.wf) (hd : ∀ a, deg G a ≤ 4) (hD : Far G D) : formsW (whG G D) = afG G D ∧ ownW (whG G D) = aoG G D ∧ symW (whG G D) = symG G D ∧ ∀ k, k < 4 → marksW (whG G D) k = mrkG G D k := by
  rcases cens_cases hG hD with ⟨c, e, k1, k2⟩ | ⟨a, b, e, k1, k2, k3, k4, k5⟩
  · have h1 : whG G D = (TT G 16 c, none) := by unfold whG; rw [e]
    unfold afG aoG symG mrkG
    rw [h1, e]
    obtain ⟨l1, l2, l3, l4⟩ := EL_law (l := kidsT (TT G 16 c)) (ok_kid _ (TT_ok G 16 c)) (by rw [TT_kids hG hD (Or.inr rfl)]; exact srt_sorted _)
    refine ⟨?_, ?_, rfl, fun k hk => rfl⟩
    · show forC _ _ = (q9 _ + 3 * q10 _ + 8 * q11 _) / 12
      rw [l1, l2, l3]
      rfl
    · show ownC _ _ _ = (q12 _ + _) / 2
      rw [l4]
      unfold ownC
      cases EL (kidsT (TT G 16 c)) 0 3 <;> rfl
  · have h1 : whG G D = if 0 ≤ cmpT (TT G b a) (TT G a b) then (TT G b a, some (TT G a b)) else (TT G a b, some (TT G b a)) := by unfold whG; rw [e]
    unfold afG aoG symG mrkG
    rw [h1, e]
    dsimp only
    by_cases q : 0 ≤ cmpT (TT G b a) (TT G a b)
    · rw [if_pos q]
      refine ⟨?_, rfl, rfl, fun k hk => ?_⟩
      · show (if _ then _ else _) = _
        rw [Nat.mul_add, Nat.mul_one]
      · show (if _ then _ else _ : Wm) k = _
        split <;> rfl
    · rw [if_neg q]
      have e1 : eqT (TT G b a) (TT G a b) = false := by
        unfold eqT
        exact decide_eq_false (by omega)
      have e2 : eqT (TT G a b) (TT G b a) = false := by rw [eqT_comm]; exact e1
      unfold formsW ownW symW marksW
      dsimp only
      rw [e1, e2]
      refine ⟨?_, ?_, ?_, fun k hk => ?_⟩
      · exact Nat.mul_comm _ _
      · exact Nat.mul_comm _ _
      · show _ * _ * 1 = _ * _ * 1
        rw [Nat.mul_comm (waysT (TT G a b))]
      · obtain ⟨t0, t1, t2, t3⟩ := times4 (wOf (TT G b a)) (wOf (TT G a b))
        obtain ⟨u0, u1, u2, u3⟩ := times4 (wOf (TT G a b)) (wOf (TT G b a))
        show timesM (wOf (TT G a b)) (wOf (TT G b a)) k = timesM (wOf (TT G b a)) (wOf (TT G a b)) k
        rcases (show k = 0 ∨ k = 1 ∨ k = 2 ∨ k = 3 by omega) with rfl | rfl | rfl | rfl
        · rw [t0, u0, Nat.mul_comm]
        · rw [t1, u1]; grind
        · rw [t2, u2]; grind
        · rw [t3, u3]; grind
end WHG
section TWO
variable {d : Nat} {h : AH} {w : Nat} {t u : Tr}
def TwoV (h : AH) (w : Nat) (t u : Tr) : Prop := ∃ r q, h.F w = (9, [vR (some r), vR (some q)]) ∧ OAt h (some r) (some t) ∧ OAt h (some q) (some u)
theorem TwoV_of {P : Nat → Prop} (hP : ∀ v, P v → v < h.sz) (k : WhAt P h w (t, some u)) (ok : WhOk (t, some u)) : TwoV h w t u := by
  obtain ⟨r, q, k1, k2, k3, k4⟩ := k
  obtain ⟨⟨o1, o2⟩, h16, -⟩ := ok
  exact ⟨r, q, k2, ⟨k3.at hP, o1, by omega⟩, ⟨k4.at hP, o2, by omega⟩⟩
theorem twoLike_spec (hV : TwoV h w t u) : wp (d + 19) 251 (0, ent 1 [vR (some w)], [], h) (gives h (z01 (eqT t u))) := by
  obtain ⟨r, q, k1, k2, k3⟩ := hV
  refine wp.go [] 10 fun W C hW hC => ?_
  refine ⟨_, _, _, _, k1, rfl, rfl, ?_⟩
  refine ⟨_, _, _, _, k1, rfl, rfl, ?_⟩
  refine hC _ _ _ (use (like_spec (d := d) k2 k3) ?_); rintro _ _ ⟨rfl, rfl⟩
  rw [show eqO (some t) (some u) = eqT t u from rfl]
  cases eqT t u with
  | true => exact ⟨Or.inr rfl, rfl, rfl⟩
  | false => exact ⟨Or.inl rfl, rfl, rfl⟩
theorem twoForms_spec (hV : TwoV h w t u) : wp (d + 20) 250 (0, ent 1 [vR (some w)], [], h) (givesL h ((formsW (t, some u) : Nat) : Int)) := by
  obtain ⟨r, q, k1, k2, k3⟩ := id hV
  have f1 := k2.1.choose_spec.choose_spec.2.1
  have f2 := k3.1.choose_spec.choose_spec.2.1
  have c1 := (fO_cap k2).1
  have c2 := (fO_cap k3).1
  have c1 : formsT t ≤ 65536 := c1
  have c2 : formsT u ≤ 65536 := c2
  have m1 : formsT t * formsT t ≤ 65536 * 65536 := Nat.mul_le_mul c1 c1
  have m2 : formsT t * formsT u ≤ 65536 * 65536 := Nat.mul_le_mul c1 c2
  unfold formsW
  dsimp only
  refine wp.go [] 40 fun W C hW hC => ?_
  refine ⟨_, _, _, k1, rfl, ?_⟩
  refine hC _ _ _ (useE (wpd.up (by omega) (twoLike_spec (d := 0) hV)) ?_)
  cases eqT t u with
  | true =>
    refine ⟨fun w => absurd w (by decide), fun _ => ?_⟩
    refine ⟨_, _, _, _, k1, rfl, rfl, ?_⟩
    refine ⟨_, _, _, _, f1, rfl, rfl, ?_⟩
    refine ⟨_, _, _, _, k1, rfl, rfl, ?_⟩
    refine ⟨_, _, _, _, f1, rfl, rfl, ?_⟩
    refine ⟨_, _, _, _, k1, rfl, rfl, ?_⟩
    refine ⟨_, _, _, _, f1, rfl, rfl, ?_⟩
    refine ⟨by decide, ?_⟩
    rw [if_pos rfl, lmulN (by omega), laddN (by omega), show ldiv ((formsT t * formsT t + formsT t : Nat) : Int) 2 = (((formsT t * formsT t + formsT t) / 2 : Nat) : Int) from ldivN (b := 2) (by omega) (by decide) (by decide)]
    exact ⟨rfl, rfl⟩
  | false =>
    refine ⟨fun _ => ?_, fun w => absurd rfl w⟩
    refine ⟨_, _, _, _, k1, rfl, rfl, ?_⟩
    refine ⟨_, _, _, _, f1, rfl, rfl, ?_⟩
    refine ⟨_, _, _, _, k1, rfl, rfl, ?_⟩
    refine ⟨_, _, _, _, f2, rfl, rfl, ?_⟩
    conv => whnf
    rw [if_neg (by decide), lmulN (by omega)]
    exact ⟨rfl, rfl⟩
theorem twoOwn_spec (hV : TwoV h w t u) : wp (d + 20) 252 (0, ent 1 [vR (some w)], [], h) (givesL h ((ownW (t, some u) : Nat) : Int)) := by
  obtain ⟨r, q, k1, k2, k3⟩ := id hV
  have f1 := k2.1.choose_spec.choose_spec.2.1
  have f2 := k3.1.choose_spec.choose_spec.2.1
  have c1 := fO_cap k2
  have c2 := (fO_cap k3).2
  have c0 : formsT t ≤ 65536 := c1.1
  have c1 : ownT t ≤ 65536 := c1.2
  have c2 : ownT u ≤ 65536 := c2
  have m1 : ownT t * ownT t ≤ 65536 * 65536 := Nat.mul_le_mul c1 c1
  have m2 : ownT t * ownT u ≤ 65536 * 65536 := Nat.mul_le_mul c1 c2
  unfold ownW
  dsimp only
  refine wp.go [] 40 fun W C hW hC => ?_
  refine ⟨_, _, _, k1, rfl, ?_⟩
  refine hC _ _ _ (useE (wpd.up (by omega) (twoLike_spec (d := 0) hV)) ?_)
  cases eqT t u with
  | true =>
    refine ⟨fun w => absurd w (by decide), fun _ => ?_⟩
    refine ⟨_, _, _, _, k1, rfl, rfl, ?_⟩
    refine ⟨_, _, _, _, f1, rfl, rfl, ?_⟩
    refine ⟨_, _, _, _, k1, rfl, rfl, ?_⟩
    refine ⟨_, _, _, _, f1, rfl, rfl, ?_⟩
    refine ⟨_, _, _, _, k1, rfl, rfl, ?_⟩
    refine ⟨_, _, _, _, f1, rfl, rfl, ?_⟩
    refine ⟨by decide, ?_⟩
    rw [if_pos rfl, lmulN (by omega), laddN (by omega), show ldiv ((ownT t * ownT t + formsT t : Nat) : Int) 2 = (((ownT t * ownT t + formsT t) / 2 : Nat) : Int) from ldivN (b := 2) (by omega) (by decide) (by decide)]
    exact ⟨rfl, rfl⟩
  | false =>
    refine ⟨fun _ => ?_, fun w => absurd rfl w⟩
    refine ⟨_, _, _, _, k1, rfl, rfl, ?_⟩
    refine ⟨_, _, _, _, f1, rfl, rfl, ?_⟩
    refine ⟨_, _, _, _, k1, rfl, rfl, ?_⟩
    refine ⟨_, _, _, _, f2, rfl, rfl, ?_⟩
    conv => whnf
    rw [if_neg (by decide), lmulN (by omega)]
    exact ⟨rfl, rfl⟩
theorem twoSym_spec (hV : TwoV h w t u) (hok : WhOk (t, some u)) : wp (d + 20) 253 (0, ent 1 [vR (some w)], [], h) (givesL h ((symW (t, some u) : Nat) : Int)) := by
  obtain ⟨r, q, k1, k2, k3⟩ := id hV
  obtain ⟨⟨o1, o2⟩, h16, ⟨h3, h4⟩, ⟨g1, g2⟩, -⟩ := hok
  have f1 := k2.1.choose_spec.choose_spec.2.1
  have f2 := k3.1.choose_spec.choose_spec.2.1
  have w1 := ok3_ways _ t (Nat.le_refl _) o1 g1 h3
  have w2 := ok3_ways _ u (Nat.le_refl _) o2 g2 h4
  have m : waysT t * waysT u ≤ 6 ^ 16 := by
    refine Nat.le_trans (Nat.mul_le_mul w1 w2) ?_
    rw [← Nat.pow_add]
    exact Nat.pow_le_pow_right (by decide) h16
  have m : waysT t * waysT u ≤ 2821109907456 := m
  unfold symW
  dsimp only
  refine wp.go [] 40 fun W C hW hC => ?_
  refine ⟨_, _, _, _, k1, rfl, rfl, ?_⟩
  refine ⟨_, _, _, _, f1, rfl, rfl, ?_⟩
  refine ⟨_, _, _, _, k1, rfl, rfl, ?_⟩
  refine ⟨_, _, _, _, f2, rfl, rfl, ?_⟩
  refine ⟨_, _, _, k1, rfl, ?_⟩
  refine hC _ _ _ (useE (wpd.up (by omega) (twoLike_spec (d := 0) hV)) ?_)
  rw [lmulN (by omega)]
  cases eqT t u with
  | true =>
    refine ⟨fun w => absurd w (by decide), fun _ => ?_⟩
    rw [if_pos rfl]
    exact ⟨by rw [show lmul ((waysT t * waysT u : Nat) : Int) 2 = ((waysT t * waysT u * 2 : Nat) : Int) from lmulN (b := 2) (by omega)], rfl⟩
  | false =>
    refine ⟨fun _ => ?_, fun w => absurd rfl w⟩
    rw [if_neg (by decide)]
    exact ⟨by rw [show lmul ((waysT t * waysT u : Nat) : Int) 1 = ((waysT t * waysT u * 1 : Nat) : Int) from lmulN (b := 1) (by omega)], rfl⟩
theorem oneSym_spec {P : Nat → Prop} (k : WhAt P h w (t, none)) : wp (d + 1) 438 (0, ent 1 [vR (some w)], [], h) (givesL h ((waysT t : Nat) : Int)) := by
  obtain ⟨r, k1, k2, p, qs, c1, c2, -⟩ := k
  refine wp.go [] 10 fun W C hW hC => ?_
  refine ⟨_, _, _, _, k2, rfl, rfl, ?_⟩
  refine ⟨_, _, _, _, c2, rfl, rfl, ?_⟩
  exact ⟨rfl, rfl⟩
theorem oneMarked_spec {P : Nat → Prop} (hP : ∀ v, P v → v < h.sz) (k : WhAt P h w (t, none)) (hok : WhOk (t, none)) : wp (d + 37) 439 (0, ent 1 [vR (some w)], [], h) (mkNew h 50 200 (marksW (t, none))) := by
  obtain ⟨r, k1, k2, k3⟩ := k
  obtain ⟨ok, h16, h4, h3⟩ := hok
  have hB : BrAt h r t := k3.at hP
  obtain ⟨p, qs, c1, c2, c3, c4, c5⟩ := id hB
  have hl := BrL_len c5
  have hsz := szT_kids ok
  refine wp.go [] 20 fun W C hW hC => ?_
  refine ⟨_, _, _, _, k2, rfl, rfl, ?_⟩
  refine ⟨_, _, _, _, k2, rfl, rfl, ?_⟩
  refine ⟨_, _, _, _, c2, rfl, rfl, ?_⟩
  refine ⟨_, Or.inr ⟨_, _, c4, by decide, rfl⟩, ?_⟩
  refine ⟨_, _, _, c2, rfl, ?_⟩
  rw [hl, isub_eq (by omega)]
  refine hC _ _ _ (use (wpd.up (by omega) (cmarked_spec (d := 0) 16 t r h (4 - (((kidsT t).length : Nat) : Int)) h16 hB ok h3 h4 h16 (by omega) (by omega))) ?_)
  rintro _ h' ⟨a, rfl, g1, g2, g3⟩
  exact ⟨a, rfl, g1, g2.more (by omega) (by omega), g3⟩
theorem twoMarked_spec {P : Nat → Prop} (hP : ∀ v, P v → v < h.sz) (k : WhAt P h w (t, some u)) (hok : WhOk (t, some u)) : wp (d + 37) 254 (0, ent 2 [vR (some w)], [], h) (mkNew h 100 400 (marksW (t, some u))) := by
  have hV := TwoV_of hP k hok
  obtain ⟨r, q, k1, k2, k3, k4⟩ := k
  obtain ⟨⟨o1, o2⟩, h16, ⟨h3, h4⟩, ⟨g1, g2⟩, -⟩ := hok
  have p1 := sz_pos t
  have p2 := sz_pos u
  have hB1 : BrAt h r t := k3.at hP
  have hB2 : BrAt h q u := k4.at hP
  obtain ⟨p, qs, c1, c2, c3, c4, c5⟩ := id hB1
  obtain ⟨p', qs', c1', c2', c3', c4', c5'⟩ := id hB2
  have hl := BrL_len c5
  have hl' := BrL_len c5'
  have hsz := szT_kids o1
  have hsz' := szT_kids o2
  obtain ⟨m1, m2⟩ := ok3_marks _ t (Nat.le_refl _) o1 g1 h3
  obtain ⟨m1', m2'⟩ := ok3_marks _ u (Nat.le_refl _) o2 g2 h4
  have hw := (hP w k1)
  unfold marksW
  dsimp only
  refine wp.go [] 60 fun W C hW hC => ?_
  refine ⟨_, _, _, _, k2, rfl, rfl, ?_⟩
  refine ⟨_, _, _, _, k2, rfl, rfl, ?_⟩
  refine ⟨_, _, _, _, c2, rfl, rfl, ?_⟩
  refine ⟨_, Or.inr ⟨_, _, c4, by decide, rfl⟩, ?_⟩
  refine ⟨_, _, _, c2, rfl, ?_⟩
  rw [hl, isub_eq (by omega)]
  refine hC _ _ _ (use (wpd.up (by omega) (cmarked_spec (d := 0) 16 t r h (3 - (((kidsT t).length : Nat) : Int)) (by omega) hB1 o1 g1 (by omega) (by omega) (by omega) (by omega))) ?_)
  rintro _ H ⟨a, rfl, y1, y2, y3⟩
  have hV' : TwoV H w t u := by
    obtain ⟨r, q, z1, z2, z3⟩ := hV
    exact ⟨r, q, (y2.2.2.2.2.1 w hw).2.2.trans z1, ⟨z2.1.mono y2, z2.2⟩, ⟨z3.1.mono y2, z3.2⟩⟩
  have k2' := (y2.2.2.2.2.1 w hw).2.2.trans k2
  refine ⟨_, _, _, k2', rfl, ?_⟩
  refine hC _ _ _ (useE (wpd.up (by omega) (twoLike_spec (d := 0) hV')) ?_)
  cases eqT t u with
  | true =>
    refine ⟨fun w => absurd w (by decide), fun _ => ?_⟩
    rw [if_pos rfl]
    refine hC _ _ _ (use (wpd.up (by omega) (several_spec (d := 0) (n := 2) y3 (wB_wK m1 m2 (by omega)) (by decide) (by decide))) ?_)
    rintro _ H2 ⟨a2, rfl, z1, z2, z3⟩
    have := y2.1
    exact ⟨a2, rfl, by omega, (y2.trans z2).more (by omega) (by omega), z3⟩
  | false =>
    refine ⟨fun _ => ?_, fun w => absurd rfl w⟩
    rw [if_neg (by decide)]
    refine ⟨_, _, _, _, k2', rfl, rfl, ?_⟩
    refine ⟨_, _, _, _, k2', rfl, rfl, ?_⟩
    refine ⟨_, _, _, _, (y2.2.2.2.2.1 q c1').2.2.trans c2', rfl, rfl, ?_⟩
    refine ⟨_, Or.inr ⟨_, _, (y2.2.2.2.2.1 p' c3').2.1.trans c4', by decide, rfl⟩, ?_⟩
    refine ⟨_, _, _, (y2.2.2.2.2.1 q c1').2.2.trans c2', rfl, ?_⟩
    rw [hl', isub_eq (by omega)]
    refine hC _ _ _ (use (wpd.up (by omega) (cmarked_spec (d := 0) 16 u q H (3 - (((kidsT u).length : Nat) : Int)) (by omega) (hB2.mono y2) o2 g2 (by omega) (by omega) (by omega) (by omega))) ?_)
    rintro _ H2 ⟨a2, rfl, z1, z2, z3⟩
    have hb := wB_lim (wB_times m1 m1') (by omega)
    refine hC _ _ _ (use (wpd.up (by omega) (ctimes_spec (d := 0) (y3.mono z2) z3 (fun k hk => Nat.le_trans (hb k hk) (by decide)))) ?_)
    rintro _ H3 ⟨a3, rfl, v1, v2, v3⟩
    have := y2.1
    have := z2.1
    exact ⟨a3, rfl, by omega, ((y2.trans z2).trans v2).more (by omega) (by omega), v3⟩
end TWO
