/-! branchName: the text of a branch -/
theorem nlN_len (v : Nat) : (numT v).length = nlN v := by
  unfold numT nlN
  split <;> rfl
theorem numT_dash {v : Nat} : (45 : Int) ∉ numT v := by
  unfold numT
  split
  · intro h
    rcases List.mem_cons.mp h with h | h
    · omega
    · have := List.mem_singleton.mp h; omega
  · intro h
    have := List.mem_singleton.mp h; omega
theorem chF_dash {G : Gr} {tx : Nat → Nat → Tx} {P : List Nat} {fr : Int} : ∀ m, (45 : Int) ∈ chF G tx P fr m ↔ ∃ i, i < m ∧ hn G P fr i ≠ []
  | 0 => ⟨fun h => absurd h numT_dash, fun ⟨i, hi, _⟩ => absurd hi (Nat.not_lt_zero i)⟩
  | m + 1 => by
    have ih := chF_dash (G := G) (tx := tx) (P := P) (fr := fr) m
    show (45 : Int) ∈ chF G tx P fr m ++ (hangT (tx (ptN P m)) (hn G P fr m)).flatMap (oneT m) ↔ _
    rw [List.mem_append, ih]
    constructor
    · rintro (⟨i, i1, i2⟩ | h)
      · exact ⟨i, by omega, i2⟩
      · obtain ⟨t, t1, -⟩ := List.mem_flatMap.mp h
        refine ⟨m, Nat.lt_succ_self m, fun q => ?_⟩
        have := hangT_len (tx (ptN P m)) (hn G P fr m)
        rw [q] at this
        have := List.eq_nil_of_length_eq_zero this
        rw [q, this] at t1
        cases t1
    · rintro ⟨i, i1, i2⟩
      by_cases e : i = m
      · subst e
        right
        have hl := hangT_len (tx (ptN P i)) (hn G P fr i)
        cases q : hangT (tx (ptN P i)) (hn G P fr i) with
        | nil =>
          rw [q] at hl
          exact absurd (List.eq_nil_of_length_eq_zero hl.symm) i2
        | cons t r => exact List.mem_flatMap.mpr ⟨t, List.mem_cons_self, List.mem_cons_self⟩
      · left
        exact ⟨i, by omega, i2⟩
section BRN
variable {h : AH} {s N : Nat} {G : Gr} {D : Nat → Nat → Nat}
theorem wayB_tx (hG : G.wf) (hD : Far G D) {a c e : Nat} (h : G.2 a c = true) (he : e ∈ endsB G D a c) : okX (wayT G D c e ((a : Nat) : Int)) ∧ 1 ≤ (wayT G D c e ((a : Nat) : Int)).length ∧ (wayT G D c e ((a : Nat) : Int)).length ≤ txN (bsz G D a c) (tallT (TT G a c)) ∧ ((45 : Int) ∈ wayT G D c e ((a : Nat) : Int) ↔ bsz G D a c ≠ tallT (TT G a c)) := by
  have hc := (hG.2.2 _ _ h).2.1
  have hn16 := hG.2.1
  have hlt := bsz_lt hG hD h
  obtain ⟨e1, e2, e3⟩ := ends_mem.mp he
  have hl := pth_len (G := G) (D := D) (D c e) c e
  have hs : seenF G D a c e ((a : Nat) : Int) := Or.inl ⟨h, e2, rfl⟩
  have hall := hang_all hG hD hs hc e1 rfl
  rw [← bsz_eq hG hD h] at hall
  have hch := chF_len (G := G) (tx := brT G D) (P := pthL G D (D c e) c e) (fr := ((a : Nat) : Int)) (bsz G D) (D c e + 1) (by omega) fun i hi x hx => by
    obtain ⟨o1, o2, o3⟩ := brT_len hG hD _ x (hn_mem hG hx)
    exact ⟨o1, by omega⟩
  rw [hl] at hch
  have hd := chF_dash (G := G) (tx := brT G D) (P := pthL G D (D c e) c e) (fr := ((a : Nat) : Int)) (D c e + 1)
  unfold wayT chT
  rw [hl]
  refine ⟨hch.1 (by omega), chF_pos _, ?_, ?_⟩
  · have := hch.2
    rw [nlN_len] at this
    unfold txN
    rw [← e3]
    omega
  · rw [hd]
    constructor
    · rintro ⟨i, i1, i2⟩
      have hm := sumR_mem (n := D c e + 1) (i := i) (g := fun k => ((hn G (pthL G D (D c e) c e) ((a : Nat) : Int) k).map (bsz G D (ptN (pthL G D (D c e) c e) k))).sum) i1
      obtain ⟨o, ho⟩ : ∃ o, o ∈ hn G (pthL G D (D c e) c e) ((a : Nat) : Int) i := by
        cases q : hn G (pthL G D (D c e) c e) ((a : Nat) : Int) i with
        | nil => exact absurd q i2
        | cons o r => exact ⟨o, List.mem_cons_self⟩
      have h1 := sum_mem (g := bsz G D (ptN (pthL G D (D c e) c e) i)) ho
      have h2 := bsz_pos hG hD (hn_mem hG ho)
      omega
    · intro hne
      apply Classical.byContradiction
      intro hno
      have hz : (sumR (D c e + 1) fun k => ((hn G (pthL G D (D c e) c e) ((a : Nat) : Int) k).map (bsz G D (ptN (pthL G D (D c e) c e) k))).sum) = 0 := sumR_none fun i hi => by
        have : hn G (pthL G D (D c e) c e) ((a : Nat) : Int) i = [] := Classical.byContradiction fun q => hno ⟨i, hi, q⟩
        rw [this]
        rfl
      omega
theorem fill_spec {d f : Nat} {X : List Int} (hI : h.I f = (1, X)) (hl : X.length ≤ 100) : wp (d + 1) 8 (0, ent 4 [vR (some f), vI (-1)], [], h) (fun r h' => r = .inl none ∧ h' = h.setI f (List.replicate X.length (-1))) := by
  have loop : ∀ (j k : Nat) (Z : List Int), j + k = X.length → Z.length = X.length → (∀ i, i < k → Z[i]? = some (-1)) → wp (d + 1) 8 (5, [some (vR (some f)), some (vI (-1)), some (vI ((k : Nat) : Int)), some (vI ((X.length : Nat) : Int))], [], h.setI f Z) (fun r h' => r = .inl none ∧ h' = h.setI f (List.replicate X.length (-1))) := by
    intro j
    induction j with
    | zero =>
      intro k Z hj hZ hi
      have e : Z = List.replicate X.length (-1) := by
        refine List.ext_getElem? fun i => ?_
        by_cases q : i < X.length
        · rw [hi i (by omega), List.getElem?_replicate, if_pos q]
        · rw [List.getElem?_eq_none (by omega), List.getElem?_eq_none (by rw [List.length_replicate]; omega)]
      refine wp.go [5] 20 fun W C0 hW hC => ?_
      refine ⟨fun _ => ?_, fun w => absurd w (by omega)⟩
      exact ⟨rfl, by rw [e]⟩
    | succ j ih =>
      intro k Z hj hZ hi
      refine wp.go [5] 30 fun W C0 hW hC => ?_
      refine ⟨fun w => absurd w (by omega), fun _ => ?_⟩
      refine ⟨_, setI_at hI, by omega, by omega, ?_⟩
      rw [Int.toNat_natCast, setI_setI]
      conv => whnf
      rw [iadd_eq (by omega)]
      refine hW _ (ih (k + 1) (Z.set k (-1)) (by omega) (by rw [List.length_set]; exact hZ) fun i hik => ?_)
      by_cases e : i = k
      · subst e; rw [List.getElem?_set_self (by omega)]
      · rw [List.getElem?_set_ne (fun q => e q.symm)]
        exact hi i (by omega)
  refine wp.go [5] 20 fun W C0 hW hC => ?_
  refine ⟨_, Or.inl ⟨_, _, hI, by decide, rfl⟩, ?_⟩
  have key := loop X.length 0 X rfl rfl (fun i hi => absurd hi (Nat.not_lt_zero i))
  rw [setI_self hI] at key
  exact hW _ key
/-- the best so far: nothing, or a text -/
def bestA (lo : Nat) (h : AH) (o : Option Nat) (t : Tx) : Prop := (o = none ∧ t = []) ∨ ∃ p, o = some p ∧ t ≠ [] ∧ okX t ∧ t.length ≤ 96 ∧ tAt lo h p t
theorem bestA.ext {lo c σ : Nat} {h' : AH} {o : Option Nat} {t : Tx} (k : bestA lo h o t) (e : ext c σ h h') : bestA lo h' o t := by
  rcases k with q | ⟨p, q1, q2, q3, q4, q5⟩
  · exact Or.inl q
  · exact Or.inr ⟨p, q1, q2, q3, q4, q5.ext e⟩
theorem least_spec {d lo q : Nat} {o : Option Nat} {acc t : Tx} (hN : nmC h N) (hb : bestA lo h o acc) (hq : tAt lo h q t) (ht : okX t) (ht1 : 1 ≤ t.length) (htl : t.length ≤ 96) : wp (d + 9) 247 (0, ent 2 [vR o, vR (some q)], [], h) (fun r h' => ∃ o', r = .inl (some (vR o')) ∧ h' = h ∧ bestA lo h o' (minT acc t)) := by
  have tne : t ≠ [] := fun w => by rw [w] at ht1; cases ht1
  obtain ⟨-, -, -, ⟨u, u1, u2, u3⟩, -⟩ := id hN
  rcases hb with ⟨rfl, rfl⟩ | ⟨p, rfl, p1, p2, p3, p4⟩
  · refine wp.go [] 20 fun W C0 hW hC => ?_
    exact ⟨some q, rfl, rfl, Or.inr ⟨q, rfl, by unfold minT; rw [if_pos rfl]; exact tne, by unfold minT; rw [if_pos rfl]; exact ht, by unfold minT; rw [if_pos rfl]; exact htl, by unfold minT; rw [if_pos rfl]; exact hq⟩⟩
  · obtain ⟨v, w1, w2, -, -, Fq, -⟩ := id hq
    have hm : minT acc t = if difT t acc < 0 then t else acc := if_neg p1
    rw [hm]
    refine wp.go [] 30 fun W C0 hW hC => ?_
    refine ⟨_, _, _, Fq, rfl, ?_⟩
    refine hC _ _ _ (useE (wpd.up (by omega) (strCmp2_spec (d := 0) u1 u3 hq.V p4.V ht p2 (by omega) (by omega))) ?_)
    refine ⟨fun c => ?_, fun c => ?_⟩
    · rw [if_neg (by omega)]
      exact ⟨some p, rfl, rfl, Or.inr ⟨p, rfl, p1, p2, p3, p4⟩⟩
    · rw [if_pos c]
      exact ⟨some q, rfl, rfl, Or.inr ⟨q, rfl, tne, ht, htl, hq⟩⟩
/-- brackets around -/
theorem wrap_spec {d p τ : Nat} {g0 : AH} {l1 l2 l3 l4 l6 l7 l8 : Option AV} {t : Tx} (hN : nmC h N) (hNg : N ≤ g0.sz) (hE : g0.sz ≤ h.sz) (hp : tAt g0.sz h p t) (ht1 : 1 ≤ t.length) (hlen : t.length + 2 ≤ τ) (hτ : τ ≤ 96) : wp (d + 10) 246 (123, [some (vR (some s)), l1, l2, l3, l4, some (vR (some p)), l6, l7, l8], [], h) (fun r h' => ∃ q, r = .inl (some (vR (some q))) ∧ ext (4 + growN τ) (24 + 194 * growN τ + τ) h h' ∧ tAt g0.sz h' q (40 :: (t ++ [41]))) := by
  obtain ⟨hN0, -, -, -, ⟨a1, v1, w1, w1', s1, a1N, v1N, F1, I1⟩, a2, v2, w2, w2', s2, a2N, v2N, F2, I2⟩ := id hN
  obtain ⟨pv, pw1, pw2, ⟨p1, p1'⟩, ⟨p2, p2'⟩, p3, p4⟩ := id hp
  obtain ⟨X2, E2⟩ := sbX_new (h0 := h)
  refine wp.go [] 60 fun W C0 hW hC => ?_
  refine hC _ _ _ (use (wpd.up (by omega) (sbInit_spec (d := 0) (h := h.newF 13 [vR none, vI 0, vI 0, vI 0]) (s := h.sz) newF_at)) ?_)
  rintro _ h2' ⟨rfl, eh2⟩
  have eh2' : h2' = ((h.newF 13 [vR none, vI 0, vI 0, vI 0]).newI 3 (List.replicate 16 0)).setF h.sz [vR (some (h.sz + 1)), vI 0, vI 0, vI 0] := eh2
  rw [eh2']
  obtain ⟨h2, hh2⟩ : ∃ G, G = ((h.newF 13 [vR none, vI 0, vI 0, vI 0]).newI 3 (List.replicate 16 0)).setF h.sz [vR (some (h.sz + 1)), vI 0, vI 0, vI 0] := ⟨_, rfl⟩
  rw [← hh2] at X2 E2 ⊢
  have z2 : h2.sz = h.sz + 2 := by rw [hh2]; rfl
  have e5 := E2.2.2.2.2.1
  have S0 := sbS.start X2 (show h.sz + 1 < h2.sz by omega)
  obtain ⟨f0, F0⟩ := S0.F
  have old : ∀ {g : AH} {t : Tx} {v G : Nat}, sbS h2 g h.sz (h.sz + 1) 0 t v G → g.S = h.S ∧ h2.sz ≤ g.sz ∧ (∀ a, a < h.sz → g.I a = h.I a ∧ g.F a = h.F a) ∧ (v = h.sz + 1 ∨ h2.sz ≤ v) := fun q => ⟨q.2.2.2.1.2.2.2.2.1.trans E2.2.2.2.2.2, q.2.2.2.1.1, fun a ha => by
    have w := q.2.2.2.1.2.2.2.2.2 a (by omega)
    exact ⟨(w.1 (by omega)).trans (e5 a ha).1, (w.2.2 (by omega)).trans (e5 a ha).2.2⟩, q.2.1⟩
  obtain ⟨o1, o2, o3, o4⟩ := old S0
  conv => whnf
  rw [o1, s1]
  refine ⟨_, _, _, F0, rfl, ?_⟩
  have Fa1 := ((o3 a1 (by omega)).2).trans F1
  refine hC _ _ _ (use (wpd.up (by omega) (appS_spec (d := 0) (b := a1) (p := [40]) S0.1 S0.2.2.2.2 ⟨214, v1, w1, w1', 203, Fa1, rfl, (o3 v1 (by omega)).1.trans I1, rfl⟩ (by omega) (fun u v' x1 x2 q => by rw [Fa1] at q; cases q; exact ⟨by omega, by omega⟩) (by omega) (by decide) (by decide))) ?_)
  rintro r3 g3 e3
  obtain ⟨rfl, v3, G3, S3⟩ := S0.step e3
  obtain ⟨f3, F3⟩ := S3.F
  obtain ⟨c1, c2, c3, c4⟩ := old S3
  refine ⟨_, _, _, F3, rfl, ?_⟩
  have Fp := ((c3 p p1').2).trans p3
  refine hC _ _ _ (use (wpd.up (by omega) (appS_spec (d := 0) (b := p) (p := t) S3.1 S3.2.2.2.2 (StrV.g ⟨pv, pw1, pw2, Fp, (c3 pv p2').1.trans p4⟩) (by omega) (fun u v' x1 x2 q => by rw [Fp] at q; cases q; exact ⟨by omega, by omega⟩) (by omega) ht1 (by show 1 + t.length ≤ 96; omega))) ?_)
  rintro r4 g4 e4
  obtain ⟨rfl, v4, G4, S4⟩ := S3.step e4
  obtain ⟨f4, F4⟩ := S4.F
  obtain ⟨d1, d2, d3, d4⟩ := old S4
  conv => whnf
  rw [d1, s2]
  refine ⟨_, _, _, F4, rfl, ?_⟩
  have Fa2 := ((d3 a2 (by omega)).2).trans F2
  have hl4 : (([] ++ [40] : Tx) ++ t).length = 1 + t.length := by simp; omega
  refine hC _ _ _ (use (wpd.up (by omega) (appS_spec (d := 0) (b := a2) (p := [41]) S4.1 S4.2.2.2.2 ⟨214, v2, w2, w2', 203, Fa2, rfl, (d3 v2 (by omega)).1.trans I2, rfl⟩ (by omega) (fun u v' x1 x2 q => by rw [Fa2] at q; cases q; exact ⟨by omega, by omega⟩) (by omega) (by decide) (by rw [hl4]; show 1 + t.length + 1 ≤ 96; omega))) ?_)
  rintro r5 g5 e5'
  obtain ⟨rfl, v5, G5, S5⟩ := S4.step e5'
  obtain ⟨f5, F5⟩ := S5.F
  have et : (([] ++ [40] : Tx) ++ t) ++ [41] = 40 :: (t ++ [41]) := by simp
  rw [et] at S5
  have hl5 : (40 :: (t ++ [41]) : Tx).length = t.length + 2 := by simp
  obtain ⟨Y5, -, -, -, -, hG5, -⟩ := id S5.1
  have hgl := grow_le (τ := τ) (by rw [hl5]; exact hlen) hτ hG5
  obtain ⟨-, b2, b3, b4⟩ := old S5
  refine ⟨_, _, _, F5, rfl, ?_⟩
  refine hC _ _ _ (use (wpd.up (by omega) (toS_spec (d := 0) S5.1 S5.2.2.2.2 (by omega) (by rw [hl5]; omega))) ?_)
  rintro _ g6 ⟨rfl, E6, z6, F6, I6⟩
  have E5 := (E2.sbF S5.2.2.2.1 (Nat.le_refl _) (by omega)).trans E6
  have m1 := Nat.mul_le_mul_left 194 hgl
  refine ⟨g5.sz, rfl, E5.more (by omega) (by rw [hl5]; omega), g5.sz + 1, vI 0, vI 0, ⟨by omega, by omega⟩, ⟨by omega, by omega⟩, F6, I6⟩
end BRN
