/-! such: what the skeletons of a size come to, by a kind -/
theorem sumR_mul {f : Nat → Nat} {c : Nat} : ∀ {n : Nat}, sumR n (fun i => f i * c) = sumR n f * c
  | 0 => (Nat.zero_mul c).symm
  | n + 1 => by
    show sumR n (fun i => f i * c) + f n * c = (sumR n f + f n) * c
    rw [sumR_mul, Nat.add_mul]
/-- what one skeleton costs, by its size and the kind that is asked for -/
def asG (G : Gr) : Nat := sumR G.1 fun c => asC (deg G c)
def suC (G : Gr) (w : Nat) : Nat := if w = 0 then G.1 else if w = 1 then 0 else if w = 2 then asG G * (2 * (G.1 - 1)) else 2 + G.1 * (2 * G.1)
def suS (G : Gr) (w : Nat) : Nat := if w = 0 then 16 * G.1 else if w = 1 then 0 else if w = 2 then asG G * (10 * (G.1 - 1)) else 2 * G.1 + G.1 * (10 * G.1)
/-- of the first skeletons of a size, one by one -/
def suCs (n w k : Nat) : Nat := (((codesL n).take k).map fun L => 21 + suC (gC L (n - 1)) w).sum
def suSs (n w k : Nat) : Nat := (((codesL n).take k).map fun L => 119 + suS (gC L (n - 1)) w).sum
theorem suCs_succ {n w k : Nat} {L : List Nat} (h : (codesL n)[k]? = some L) : suCs n w (k + 1) = suCs n w k + (21 + suC (gC L (n - 1)) w) := by
  unfold suCs
  rw [List.take_succ, h]
  simp
theorem suSs_succ {n w k : Nat} {L : List Nat} (h : (codesL n)[k]? = some L) : suSs n w (k + 1) = suSs n w k + (119 + suS (gC L (n - 1)) w) := by
  unfold suSs
  rw [List.take_succ, h]
  simp
abbrev suH (hs : AH) : Prop := ∃ a ls, hs.S 13 = some a ∧ hs.R a = (208, ls) ∧ ls.length = 4 ∧ ∀ w, w < 4 → ∃ l, ls[w]? = some (some l) ∧ hs.F l = (224 + w, [])
abbrev suA (h : AH) (a : Nat) (ls : List (Option Nat)) (N : Nat) : Prop := h.S 13 = some a ∧ a < N ∧ h.R a = (208, ls) ∧ ls.length = 4 ∧ ∀ w, w < 4 → ∃ l, ls[w]? = some (some l) ∧ l < N ∧ h.F l = (224 + w, [])
theorem suH.at {hs h : AH} {x : Nat} (k : suH hs) (w : WF hs) (o : Old hs h x) : ∃ a ls, suA h a ls x := by
  obtain ⟨a, ls, k1, k2, k3, k4⟩ := k
  obtain ⟨o1, o2, o3⟩ := o
  have ha : a < hs.sz := w.R (by rw [k2]; simp)
  refine ⟨a, ls, by rw [o2]; exact k1, by omega, (o3 a ha).2.1.trans k2, k3, fun i hi => ?_⟩
  obtain ⟨l, l1, l2⟩ := k4 i hi
  have hl : l < hs.sz := w.F (by rw [l2]; simp)
  exact ⟨l, l1, by omega, (o3 l hl).2.2.trans l2⟩
theorem suA.to {h h' : AH} {a N : Nat} {ls : List (Option Nat)} (k : suA h a ls N) (hS : h'.S = h.S) (hR : ∀ v, v < N → h'.R v = h.R v) (hF : ∀ v, v < N → h'.F v = h.F v) : suA h' a ls N := by
  obtain ⟨k1, k2, k3, k4, k5⟩ := k
  refine ⟨by rw [hS]; exact k1, k2, (hR a k2).trans k3, k4, fun w hw => ?_⟩
  obtain ⟨l, l1, l2, l3⟩ := k5 w hw
  exact ⟨l, l1, l2, (hF l l2).trans l3⟩
section SUCHOF
variable {d : Nat} {h : AH} {s : Nat} {G : Gr} {D : Nat → Nat → Nat} {l : Nat}
theorem su0_spec (hS : SkAt h s G) (hG : G.ok) (hD : Far G D) : wp (d + 43) 262 (0, ent 2 [vR (some l), vR (some s)], [], h) (fun r h' => r = .inl (some (vI ((hasG G D 0 : Nat) : Int))) ∧ ext (suC G 0) (suS G 0) h h') := by
  have hn := hG.1.2.1
  refine wp.go [] 10 fun W C hW hC => ?_
  refine ⟨_, _, _, hS.2.1, rfl, ?_⟩
  refine hC _ _ _ (use (wpd.up (by omega) (clongest_spec (d := 0) hS hG.1 hG.2.1 hD (fun a b ha hb => by have := Far.lt hG.1 hD ha hb; omega))) ?_)
  rintro _ h1 ⟨rfl, e⟩
  exact ⟨rfl, e⟩
theorem su1_spec (hS : SkAt h s G) (hG : G.ok) : wp (d + 43) 263 (0, ent 2 [vR (some l), vR (some s)], [], h) (fun r h' => r = .inl (some (vI ((hasG G D 1 : Nat) : Int))) ∧ ext (suC G 1) (suS G 1) h h') := by
  refine wp.go [] 10 fun W C hW hC => ?_
  refine ⟨_, _, _, hS.2.1, rfl, ?_⟩
  refine hC _ _ _ (useE (wpd.up (by omega) (cwith_spec (d := 0) (m := 1) hS hG.1.2.1)) ?_)
  exact ⟨rfl, ext.refl⟩
theorem su2_spec (hS : SkAt h s G) (hG : G.ok) (hD : Far G D) : wp (d + 43) 264 (0, ent 2 [vR (some l), vR (some s)], [], h) (fun r h' => r = .inl (some (vI ((hasG G D 2 : Nat) : Int))) ∧ ext (suC G 2) (suS G 2) h h') := by
  refine wp.go [] 10 fun W C hW hC => ?_
  refine ⟨_, _, _, hS.2.1, rfl, ?_⟩
  refine hC _ _ _ (use (wpd.up (by omega) (casym_spec (d := 0) hS hG.1 hG.2.1 hD)) ?_)
  rintro _ h1 ⟨rfl, e⟩
  rw [sumR_mul, sumR_mul] at e
  exact ⟨rfl, e⟩
theorem su3_spec (hS : SkAt h s G) (hG : G.ok) (hD : Far G D) : wp (d + 43) 265 (0, ent 2 [vR (some l), vR (some s)], [], h) (fun r h' => r = .inl (some (vI ((hasG G D 3 : Nat) : Int))) ∧ ext (suC G 3) (suS G 3) h h') := by
  refine wp.go [] 10 fun W C hW hC => ?_
  refine ⟨_, _, _, hS.2.1, rfl, ?_⟩
  refine hC _ _ _ (use (wpd.up (by omega) (cunlike_spec (d := 0) hS hG.1 hG.2.1 hD)) ?_)
  rintro _ h1 ⟨rfl, e⟩
  exact ⟨rfl, e⟩
theorem values_spec {a N : Nat} {ls : List (Option Nat)} (k : suA h a ls N) : wp (d + 1) 267 (0, ent 0 [], [], h) (fun r h' => r = .inl (some (vR (some h.sz))) ∧ h' = h.newR 8 ls) := by
  obtain ⟨k1, k2, k3, k4, k5⟩ := k
  refine wp.go [] 20 fun W C hW hC => ?_
  conv => whnf
  rw [k1]
  refine ⟨rfl, Or.inr ⟨_, _, by decide, k3, rfl, ?_⟩⟩
  refine ⟨fun b hb => ?_, ?_⟩
  · cases hb
    exact ⟨(2, 8), rfl, by decide, by show ((h.newR 8 ls).R h.sz).1 % 200 = 8; rw [newR_at]; rfl⟩
  · exact ⟨rfl, rfl⟩
end SUCHOF
section SUCHC
variable {d x z u : Nat} {hs h : AH} {ld : Int} {nw : Nat} {wh nm : Option Nat} {tp ep : Nat} {S ST : AS} {fd : Nat → Nat → Bool}
theorem suchL_len {n w : Nat} : (suchL n w).length = (codesL n).length := by unfold suchL; rw [List.length_map]
theorem suchL_at {n w k : Nat} {L : List Nat} (h : (codesL n)[k]? = some L) : (suchL n w)[k]? = some ((hasG (gC L (n - 1)) (dst (gC L (n - 1))) w : Nat) : Int) := by
  unfold suchL
  rw [List.getElem?_map, h]
  rfl
/-- the row is filled -/
theorem such_fill {n w rr ν a : Nat} {v : Int} {ls : List (Option Nat)} {h3 : AH} {fs ws rows : List (Option Nat)} (h1 : 1 ≤ n) (h2 : n ≤ 11) (hw : w < 4) (hF : h3.F x = (1, flC x ld nw wh nm tp)) (hfs : h3.R (x + 29) = (3, fs)) (hfn : fs[n]? = some (some (x + 30 + n))) (hws : h3.R (x + 30 + n) = (2, ws)) (hwn : ws[w]? = some (some ν)) (hν : ν < h3.sz) (hνx : x + 87 < ν) (hrr : rr < ν) (r1 : h3.R rr = (2, rows)) (r2 : rows.length = (codesL n).length) (r3 : ∀ (k : Nat) (L : List Nat), (codesL n)[k]? = some L → ∃ a, rows[k]? = some (some a) ∧ a < ν ∧ h3.I a = (1, codR L)) (hsu : suA h3 a ls x) {Q : Rs → AH → Prop}
    (hQ : ∀ g, chg (fun u => u = ν) (suCs n w (codesL n).length) (suSs n w (codesL n).length) h3 g → g.I ν = (1, suchL n w) → wp (d + 44) 210 (109, [some (vR (some x)), some (vI ((n : Nat) : Int)), some (vI ((w : Nat) : Int)), some (vI v), some (vR (some rr)), some (vI (((codesL n).length : Nat) : Int)), none, none, none, none], [], g) Q) :
    ∀ (j k : Nat) (g : AH) (X : List Int), j + k = (codesL n).length → chg (fun u => u = ν) (suCs n w k) (suSs n w k) h3 g → g.I ν = (1, X) → X.length = (codesL n).length → (∀ i, i < k → X[i]? = (suchL n w)[i]?) →
      wp (d + 44) 210 (68, [some (vR (some x)), some (vI ((n : Nat) : Int)), some (vI ((w : Nat) : Int)), some (vI v), some (vR (some rr)), some (vI ((k : Nat) : Int)), none, none, none, none], [], g) Q := by
  have hl200 := codesL_len n h2
  intro j
  induction j with
  | zero =>
    intro k g X hj hcg hI hXl hX
    obtain rfl : k = (codesL n).length := by omega
    obtain ⟨c1, c2, c3, c4, c5, c6⟩ := id hcg
    have gR : g.R rr = (2, rows) := (c6 rr (by omega) (by omega)).2.1.trans r1
    refine wp.go [68, 109] 30 fun W C0 hW hC => ?_
    refine ⟨_, Or.inr ⟨_, _, gR, by decide, rfl⟩, ?_⟩
    refine ⟨fun _ => ?_, fun c => absurd c (by omega)⟩
    have hXe : X = suchL n w := by
      refine List.ext_getElem? fun i => ?_
      by_cases q : i < (codesL n).length
      · exact hX i q
      · rw [List.getElem?_eq_none (by omega), List.getElem?_eq_none (by rw [suchL_len]; omega)]
    rw [hXe] at hI
    exact hW _ (hQ g hcg hI)
  | succ j ih =>
    intro k g X hj hcg hI hXl hX
    have hkl : k < (codesL n).length := by omega
    have hkL := List.getElem?_eq_getElem hkl
    have hmem := List.getElem_mem hkl
    generalize (codesL n)[k] = L at hkL hmem
    have hsL := suchL_at (w := w) hkL
    obtain ⟨q1, q2, q3, q4⟩ := cod_at h1 h2 hmem
    have hG := q4 (n - 1) (by omega)
    have hD := dst_far hG
    have hn1 : (gC L (n - 1)).1 = n := by rw [gC_n]; omega
    have q5 := ((cd_all h1 h2).2.2 L (((cd_all h1 h2).2.1 L).mpr hmem)).2
    obtain ⟨c1, c2, c3, c4, c5, c6⟩ := id hcg
    have old : ∀ v, v < ν → g.I v = h3.I v ∧ g.R v = h3.R v ∧ g.F v = h3.F v := fun v hv => c6 v (by omega) (by omega)
    obtain ⟨p, p1, p2, p3⟩ := r3 k L hkL
    have gF := (old x (by omega)).2.2.trans hF
    have gfs := (old (x + 29) (by omega)).2.1.trans hfs
    have gws := (old (x + 30 + n) (by omega)).2.1.trans hws
    have gR := (old rr hrr).2.1.trans r1
    have gI := (old p p2).1.trans p3
    have gsu : suA g a ls x := hsu.to c5 (fun v hv => (old v (by omega)).2.1) (fun v hv => (old v (by omega)).2.2)
    obtain ⟨l, l1, l2, l3⟩ := gsu.2.2.2.2 w hw
    obtain ⟨g1, e1⟩ : ∃ G, G = g.newR 8 ls := ⟨_, rfl⟩
    have E1 : ext 1 4 g g1 := by rw [e1, ← gsu.2.2.2.1]; exact ext_newR
    have old1 := E1.2.2.2.2.1
    have step : ∀ (g2 g3 : AH), ext 20 115 g1 g2 → ext (suC (gC L (n - 1)) w) (suS (gC L (n - 1)) w) g2 g3 → g3.I ν = (1, X) ∧ chg (fun u => u = ν) (suCs n w (k + 1)) (suSs n w (k + 1)) h3 (g3.setI ν (X.set k ((hasG (gC L (n - 1)) (dst (gC L (n - 1))) w : Nat) : Int))) := by
      intro g2 g3 E2 E3
      have E := (E1.trans E2).trans E3
      refine ⟨(E.2.2.2.2.1 ν (by omega)).1.trans hI, ?_⟩
      refine ((hcg.trans E.chg (fun v _ q => q)).setI (Or.inl rfl)).more (fun _ q => q) ?_ ?_
      · rw [suCs_succ hkL]; omega
      · rw [suSs_succ hkL]; omega
    refine wp.go [68, 109] 120 fun W C0 hW hC => ?_
    refine ⟨_, Or.inr ⟨_, _, gR, by decide, rfl⟩, ?_⟩
    refine ⟨fun c => absurd c (by omega), fun _ => ?_⟩
    refine ⟨_, _, _, _, gF, rfl, rfl, ?_⟩
    refine ⟨_, _, _, gfs, by decide, by omega, by rw [Int.toNat_natCast]; exact hfn, ?_⟩
    refine ⟨_, _, _, gws, by decide, by omega, by rw [Int.toNat_natCast]; exact hwn, ?_⟩
    refine hC _ _ _ (use (wpd.up (by omega) (values_spec (d := 0) gsu)) ?_)
    rintro _ g1' ⟨rfl, he⟩
    rw [he, ← e1]
    refine ⟨_, _, _, (by rw [e1]; exact newR_at : g1.R g.sz = (8, ls)), by decide, by omega, by rw [Int.toNat_natCast]; exact l1, ?_⟩
    refine ⟨_, _, _, (old1 rr (by omega)).2.1.trans gR, by decide, by omega, by rw [Int.toNat_natCast]; exact p1, ?_⟩
    have hby := by_spec (d := 0) (h := g1) (p := p) (L := L) ((old1 p (by omega)).1.trans gI) (by have := E1.1; omega) q3 (by omega) (by omega) q5 (by rw [q1]; exact hG.2.1)
    rw [q1] at hby
    refine hC _ _ _ (use (wpd.up (by omega) hby) ?_)
    rintro _ g2 ⟨rfl, E2, -, sk2⟩
    have E12 := E1.trans E2
    have F2 : g2.F l = (224 + w, []) := (E12.2.2.2.2.1 l (by omega)).2.2.trans l3
    have tail : ∀ g3, ext (suC (gC L (n - 1)) w) (suS (gC L (n - 1)) w) g2 g3 → W (68, [some (vR (some x)), some (vI ((n : Nat) : Int)), some (vI ((w : Nat) : Int)), some (vI v), some (vR (some rr)), some (vI (((k + 1 : Nat)) : Int)), none, none, none, none], [], g3.setI ν (X.set k ((hasG (gC L (n - 1)) (dst (gC L (n - 1))) w : Nat) : Int))) := by
      intro g3 E3
      obtain ⟨s1, s2⟩ := step g2 g3 E2 E3
      refine hW _ (ih (k + 1) _ _ (by omega) s2 (setI_at s1) (by rw [List.length_set]; exact hXl) fun i hi => ?_)
      by_cases e : i = k
      · subst e
        rw [List.getElem?_set_self (by omega), hsL]
      · rw [List.getElem?_set_ne (fun q => e q.symm)]
        exact hX i (by omega)
    obtain rfl | rfl | rfl | rfl : w = 0 ∨ w = 1 ∨ w = 2 ∨ w = 3 := by omega
    · refine ⟨_, _, _, F2, rfl, ?_⟩
      have call := su0_spec (d := 0) (l := l) sk2 hG hD
      refine hC _ _ _ (use (wpd.up (by omega) (call)) ?_)
      rintro _ g3 ⟨rfl, E3⟩
      refine ⟨_, (step g2 g3 E2 E3).1, by omega, by omega, ?_⟩
      rw [Int.toNat_natCast]
      (conv => whnf); simp (disch := omega) only [iadd_eq, isub_eq, imul_eq]
      exact tail g3 E3
    · refine ⟨_, _, _, F2, rfl, ?_⟩
      have call := su1_spec (d := 0) (l := l) (D := dst (gC L (n - 1))) sk2 hG
      refine hC _ _ _ (use (wpd.up (by omega) (call)) ?_)
      rintro _ g3 ⟨rfl, E3⟩
      refine ⟨_, (step g2 g3 E2 E3).1, by omega, by omega, ?_⟩
      rw [Int.toNat_natCast]
      (conv => whnf); simp (disch := omega) only [iadd_eq, isub_eq, imul_eq]
      exact tail g3 E3
    · refine ⟨_, _, _, F2, rfl, ?_⟩
      have call := su2_spec (d := 0) (l := l) sk2 hG hD
      refine hC _ _ _ (use (wpd.up (by omega) (call)) ?_)
      rintro _ g3 ⟨rfl, E3⟩
      refine ⟨_, (step g2 g3 E2 E3).1, by omega, by omega, ?_⟩
      rw [Int.toNat_natCast]
      (conv => whnf); simp (disch := omega) only [iadd_eq, isub_eq, imul_eq]
      exact tail g3 E3
    · refine ⟨_, _, _, F2, rfl, ?_⟩
      have call := su3_spec (d := 0) (l := l) sk2 hG hD
      refine hC _ _ _ (use (wpd.up (by omega) (call)) ?_)
      rintro _ g3 ⟨rfl, E3⟩
      refine ⟨_, (step g2 g3 E2 E3).1, by omega, by omega, ?_⟩
      rw [Int.toNat_natCast]
      (conv => whnf); simp (disch := omega) only [iadd_eq, isub_eq, imul_eq]
      exact tail g3 E3
/-- they are counted -/
theorem such_cnt {n w rr ν : Nat} {v : Int} {g : AH} (h2 : n ≤ 11) (hI : g.I ν = (1, suchL n w)) {Q : Rs → AH → Prop} (hQ : Q (.inl (some (vI ((((codesL n).filter (suchP n w v)).length : Nat) : Int)))) g) :
    ∀ (j k : Nat) (l9 : Option AV), j + k = (codesL n).length → wp (d + 44) 210 (130, [some (vR (some x)), some (vI ((n : Nat) : Int)), some (vI ((w : Nat) : Int)), some (vI v), some (vR (some rr)), some (vI (((((codesL n).take k).filter (suchP n w v)).length : Nat) : Int)), some (vR (some ν)), some (vI (((codesL n).length : Nat) : Int)), some (vI ((k : Nat) : Int)), l9], [], g) Q := by
  have hl200 := codesL_len n h2
  intro j
  induction j with
  | zero =>
    intro k l9 hj
    obtain rfl : k = (codesL n).length := by omega
    rw [List.take_length]
    refine wp.go [130] 20 fun W C0 hW hC => ?_
    refine ⟨fun _ => ?_, fun c => absurd c (by omega)⟩
    exact hQ
  | succ j ih =>
    intro k l9 hj
    have hkl : k < (codesL n).length := by omega
    have hfl : (((codesL n).take k).filter (suchP n w v)).length ≤ 200 := by
      have h1 := List.length_filter_le (suchP n w v) ((codesL n).take k)
      have h2 := List.length_take_le k (codesL n)
      omega
    have hsuc := filter_take_succ (suchP n w v) (codesL n) hkl
    have hkL := List.getElem?_eq_getElem hkl
    generalize (codesL n)[k] = L at hkL hsuc
    have hsL := suchL_at (w := w) hkL
    refine wp.go [130] 60 fun W C0 hW hC => ?_
    refine ⟨fun c => absurd c (by omega), fun _ => ?_⟩
    refine ⟨_, _, _, hI, rfl, by omega, by rw [Int.toNat_natCast]; exact hsL, ?_⟩
    have fin : ∀ y : Nat, (((codesL n).take (k + 1)).filter (suchP n w v)).length = (((codesL n).take k).filter (suchP n w v)).length + y → W (130, [some (vR (some x)), some (vI ((n : Nat) : Int)), some (vI ((w : Nat) : Int)), some (vI v), some (vR (some rr)), some (vI (((((codesL n).take k).filter (suchP n w v)).length : Int) + (y : Int))), some (vR (some ν)), some (vI (((codesL n).length : Nat) : Int)), some (vI ((k : Int) + 1)), some (vI ((hasG (gC L (n - 1)) (dst (gC L (n - 1))) w : Nat) : Int))], [], g) := by
      intro y hy
      have := ih (k + 1) (some (vI ((hasG (gC L (n - 1)) (dst (gC L (n - 1))) w : Nat) : Int))) (by omega)
      rw [hy] at this
      rw [Int.natCast_add] at this
      exact hW _ this
    refine ⟨fun c => ?_, fun c => ?_⟩
    · refine hC _ _ _ (useE (wpd.up (by omega) (bit_spec (d := 0) (b := false))) ?_)
      conv => whnf
      rw [show z01 false = (0 : Int) from rfl]
      (conv => whnf); simp (disch := omega) only [iadd_eq, isub_eq, imul_eq]
      refine fin 0 ?_
      rw [hsuc]
      have : suchP n w v L = false := decide_eq_false c
      rw [this]; rfl
    · refine hC _ _ _ (useE (wpd.up (by omega) (bit_spec (d := 0) (b := true))) ?_)
      conv => whnf
      rw [show z01 true = (1 : Int) from rfl]
      (conv => whnf); simp (disch := omega) only [iadd_eq, isub_eq, imul_eq]
      refine fin 1 ?_
      rw [hsuc]
      have : suchP n w v L = true := decide_eq_true c
      rw [this]; rfl
/-- what is kept stays, one row of what was found is there -/
theorem such_asm {H G : AH} {n w ν : Nat} {fs ws : List (Option Nat)} (b : Base H x ld nw wh nm tp ep S) (k : Cache hs H x ld ep fd) (T : Twn H x ST) (hn : n ≤ 11) (hfs : H.R (x + 29) = (3, fs)) (hz : H.sz ≤ G.sz) (hS : G.S = H.S) (hv : ∀ v, v < H.sz → G.I v = H.I v ∧ G.F v = H.F v ∧ (v ≠ x + 30 + n → G.R v = H.R v)) (hws : H.R (x + 30 + n) = (2, ws)) (hwl : ws.length = 4) (hw : w < 4) (hG : G.R (x + 30 + n) = (2, ws.set w (some ν))) (hνx : x + 87 < ν) (hν : ν < G.sz) (hI : G.I ν = (1, suchL n w)) :
    Base G x ld nw wh nm tp ep S ∧ Cache hs G x ld ep (fun a c => if a = n ∧ c = w then true else fd a c) ∧ Twn G x ST := by
  have hx := b.1
  refine ⟨b.fw ⟨hz, hS, fun v hv' hg => ⟨(hv v hv').1, fun _ => (hv v hv').2.2 (by omega), fun _ => (hv v hv').2.1⟩⟩ ((hv x (by omega)).2.1.trans b.2.1), ?_, T.to (hv _ (by omega)).2.1 (fun v v1 v2 => (hv v (by omega)).1)⟩
  obtain ⟨c1, c2, c3, ⟨N, c4⟩, c5, fs', d1, d2, d3⟩ := k
  cases hfs.symm.trans d1
  refine ⟨c1.to hS fun v h' => ⟨(hv v (by omega)).1, (hv v (by omega)).2.2 (by omega), (hv v (by omega)).2.1⟩, ?_, c3.to (hv _ (by omega)).1 (hv _ (by omega)).1 (hv _ (by omega)).1, ⟨N, c4.to hz hS (hv _ (by omega)).2.1 (fun v v1 v2 => (hv v v2).2.1) (fun v v1 v2 => (hv v v1).2.2 (fun q => ?_)) (Or.inl rfl)⟩, c5.to hz ((hv _ (by omega)).2.2 (by omega)) (fun v v1 v2 _ => (hv v v2).2.2 (by omega)) (fun v v1 v2 => (hv v v2).1), fs, ((hv _ (by omega)).2.2 (by omega)).trans hfs, d2, fun m hm => ?_⟩
  · rcases c2 with q | q
    · exact Or.inl q
    · by_cases g : ep < H.sz
      · right
        rw [(hv ep g).2.2 (fun e => by rw [e, hws] at q; cases q)]
        exact q
      · left; omega
  · rcases v2 with q2 | q2
    · omega
    · rw [q, hws] at q2; cases q2
  · obtain ⟨q1, ws', q2, q3, q4⟩ := d3 m hm
    refine ⟨q1, ?_⟩
    by_cases e : m = n
    · subst e
      cases hws.symm.trans q2
      refine ⟨_, hG, by rw [List.length_set]; exact q3, fun c hc => ?_⟩
      by_cases e2 : c = w
      · subst e2
        right
        exact ⟨if_pos ⟨rfl, rfl⟩, ν, List.getElem?_set_self (by omega), ⟨hνx, hν⟩, hI⟩
      · dsimp only
        rw [List.getElem?_set_ne (fun q => e2 q.symm), if_neg (fun q => e2 q.2)]
        rcases q4 c hc with q | ⟨g1, a, g2, g3, g4⟩
        · exact Or.inl q
        · exact Or.inr ⟨g1, a, g2, gdA.up g3 hz, (hv a g3.2).1.trans g4⟩
    · refine ⟨ws', ((hv _ (by omega)).2.2 (by omega)).trans q2, q3, fun c hc => ?_⟩
      dsimp only
      rw [if_neg (fun q => e q.1)]
      rcases q4 c hc with q | ⟨g1, a, g2, g3, g4⟩
      · exact Or.inl q
      · exact Or.inr ⟨g1, a, g2, gdA.up g3 hz, (hv a g3.2).1.trans g4⟩
/-- behind the row -/
theorem such_109 {n w rr ν : Nat} {v : Int} {g : AH} {fs ws : List (Option Nat)} (h2 : n ≤ 11) (hw : w < 4) (hF : g.F x = (1, flC x ld nw wh nm tp)) (hfs : g.R (x + 29) = (3, fs)) (hfn : fs[n]? = some (some (x + 30 + n))) (hws : g.R (x + 30 + n) = (2, ws)) (hwn : ws[w]? = some (some ν)) (hI : g.I ν = (1, suchL n w)) {Q : Rs → AH → Prop} (hQ : Q (.inl (some (vI ((((codesL n).filter (suchP n w v)).length : Nat) : Int)))) g) (l5 : Option AV) :
    wp (d + 44) 210 (109, [some (vR (some x)), some (vI ((n : Nat) : Int)), some (vI ((w : Nat) : Int)), some (vI v), some (vR (some rr)), l5, none, none, none, none], [], g) Q := by
  have hl200 := codesL_len n h2
  refine wp.go [130] 60 fun W C0 hW hC => ?_
  refine ⟨_, _, _, _, hF, rfl, rfl, ?_⟩
  refine ⟨_, _, _, hfs, by decide, by omega, by rw [Int.toNat_natCast]; exact hfn, ?_⟩
  refine ⟨_, _, _, hws, by decide, by omega, by rw [Int.toNat_natCast]; exact hwn, ?_⟩
  refine ⟨_, Or.inl ⟨_, _, hI, by decide, rfl⟩, ?_⟩
  rw [suchL_len]
  exact hW _ (such_cnt h2 hI hQ (codesL n).length 0 none rfl)
/-- what a first asking costs -/
def sufC (n w : Nat) : Nat := 2 + suCs n w (codesL n).length
def sufS (n w : Nat) : Nat := 4 + (codesL n).length + suSs n w (codesL n).length
def fdS (fd : Nat → Nat → Bool) (n w v : Int) : Nat → Nat → Bool := if (1 ≤ n ∧ n ≤ 11) ∧ (0 ≤ w ∧ w ≤ 3) ∧ 0 ≤ v then fun a c => if a = n.toNat ∧ c = w.toNat then true else fd a c else fd
/-- what such comes to -/
def suEnd (hs h : AH) (x : Nat) (nm : Option Nat) (S ST : AS) (fd : Nat → Nat → Bool) (n w v : Int) : Rs → AH → Prop := fun r h' => ∃ c s, qEnd hs h x (vI (aSuch n w v)) S ST c s (fun n => n = nm) (fdS fd n w v) r h' ∧ (c ≤ 1 ∧ s ≤ 4 ∧ fdS fd n w v = fd ∨ (fd n.toNat w.toNat = false ∧ fdS fd n w v = (fun a c => if a = n.toNat ∧ c = w.toNat then true else fd a c) ∧ c ≤ sufC n.toNat w.toNat ∧ s ≤ sufS n.toNat w.toNat ∧ 1 ≤ n ∧ n ≤ 11 ∧ 0 ≤ w ∧ w ≤ 3))
theorem csuch_spec (hk : hsK hs z u) (hsu : suH hs) (b : Base h x ld nw wh nm tp ep S) (k : Cache hs h x ld ep fd) (T : Twn h x ST) {n w v : Int} :
    wp (d + 45) 210 (0, ent 10 [vR (some x), vI n, vI w, vI v], [], h) (suEnd hs h x nm S ST fd n w v) := by
  have bad : ¬ ((1 ≤ n ∧ n ≤ 11) ∧ (0 ≤ w ∧ w ≤ 3) ∧ 0 ≤ v) → fdS fd n w v = fd ∧ aSuch n w v = -1 := fun q => ⟨if_neg q, if_pos (by
    by_cases q1 : 1 ≤ n ∧ n ≤ 11
    · by_cases q2 : 0 ≤ w ∧ w ≤ 3
      · exact Or.inr (Or.inr (by have : ¬ 0 ≤ v := fun q3 => q ⟨q1, q2, q3⟩; omega))
      · exact Or.inr (Or.inl q2)
    · exact Or.inl q1)⟩
  have hx := b.1
  obtain ⟨a, ls, hA⟩ := hsu.at hk.1 k.1
  have hl4 := hA.2.2.2.1
  obtain ⟨g1, e1⟩ : ∃ G, G = h.newR 8 ls := ⟨_, rfl⟩
  have E1 : ext 1 4 h g1 := by rw [e1, ← hl4]; exact ext_newR
  have z1 : g1.sz = h.sz + 1 := by rw [e1]; rfl
  have fr1 : frB x ep h g1 := frB.of E1
  have bb := b.grown E1
  have kk := k.fr hx fr1 b.six b.h25 (Or.inl rfl)
  have tt := T.fr hx fr1
  have cd1 := fr1.cd hx k.2.1
  have E12 := E1.2.2.1
  have E13 := E1.2.2.2.1
  refine wp.go [109, 68] 120 fun W C0 hW hC => ?_
  refine hC _ _ _ (useE (wpd.up (by omega) (in_spec (d := 0))) ?_)
  refine ⟨fun c => ?_, fun c => ?_⟩
  · have c1 := b0.mp c
    obtain ⟨f1, f2⟩ := bad (fun q => c1 q.1)
    unfold suEnd
    rw [f1, f2]
    exact ⟨0, 0, ⟨rfl, ⟨nm, rfl, _, _, _, _, _, b, k, T⟩, by omega, by omega, by omega⟩, Or.inl ⟨by omega, by omega, rfl⟩⟩
  · have c1 := b1.mp c
    obtain ⟨m, rfl⟩ : ∃ m : Nat, n = ((m : Nat) : Int) := ⟨n.toNat, by omega⟩
    refine hC _ _ _ (use (wpd.up (by omega) (values_spec (d := 0) hA)) ?_)
    rintro _ g1' ⟨rfl, he⟩
    rw [he, ← e1]
    refine ⟨_, Or.inr ⟨_, _, (by rw [e1]; exact newR_at : g1.R h.sz = (8, ls)), by decide, rfl⟩, ?_⟩
    conv => whnf
    rw [hl4, isub_eq (by omega)]
    refine hC _ _ _ (useE (wpd.up (by omega) (in_spec (d := 0))) ?_)
    refine ⟨fun c => ?_, fun c => ?_⟩
    · have c2 := b0.mp c
      obtain ⟨f1, f2⟩ := bad (fun q => c2 (by omega))
      unfold suEnd
      rw [f1, f2]
      exact ⟨1, 4, ⟨rfl, ⟨nm, rfl, _, _, _, _, _, bb, kk, tt⟩, by omega, by omega, by omega⟩, Or.inl ⟨by omega, by omega, rfl⟩⟩
    · have c2 := b1.mp c
      obtain ⟨j, rfl⟩ : ∃ j : Nat, w = ((j : Nat) : Int) := ⟨w.toNat, by omega⟩
      refine ⟨fun c3 => ?_, fun c3 => ?_⟩
      · have hm1 : 1 ≤ m := by omega
        have hm2 : m ≤ 11 := by omega
        have hj4 : j < 4 := by omega
        have hl200 := codesL_len m hm2
        have hfd : fdS fd ((m : Nat) : Int) ((j : Nat) : Int) v = fun a c => if a = m ∧ c = j then true else fd a c := if_pos ⟨by omega, by omega, by omega⟩
        have hans : aSuch ((m : Nat) : Int) ((j : Nat) : Int) v = ((((codesL m).filter (suchP m j v)).length : Nat) : Int) := if_neg (by omega)
        refine ⟨_, _, _, bb.2.1, rfl, ?_⟩
        refine hC _ _ _ (use (wpd.up (by omega) (codesOf_spec (d := 0) (n := m) hk bb kk tt hm1 hm2)) ?_)
        rintro _ H ⟨rr, rfl, hc, bH, kH, tH, y1, y2, y3, y4, yI, cs', y5, y6⟩
        obtain ⟨⟨rr0, rr1⟩, rows, r1, r2, r3⟩ := id hc
        obtain ⟨fs, f1, f2, f3⟩ := kH.2.2.2.2.2
        obtain ⟨q1, ws, q2, q3, q4⟩ := f3 m hm2
        have hHx := bH.1
        rcases q4 j hj4 with ⟨g, q5⟩ | ⟨g, ν, q5, q6, q7⟩
        · obtain ⟨h2, e2⟩ : ∃ G, G = H.newI 1 (List.replicate (codesL m).length 0) := ⟨_, rfl⟩
          obtain ⟨h3, e3⟩ : ∃ G, G = h2.setR (x + 30 + m) (ws.set j (some H.sz)) := ⟨_, rfl⟩
          have z3 : h3.sz = H.sz + 1 := by rw [e3, e2]; rfl
          have l3 : h3.sl = H.sl + (codesL m).length := by rw [e3, e2]; show H.sl + (List.replicate (codesL m).length (0 : Int)).length = _; rw [List.length_replicate]
          have I2 : h2.I H.sz = (1, List.replicate (codesL m).length 0) := by rw [e2]; exact newI_at
          have R2 : h2.R (x + 30 + m) = (2, ws) := by rw [e2]; exact q2
          have S3 : h3.S = H.S := by rw [e3, e2]; rfl
          have F3 : ∀ v, h3.F v = H.F v := fun v => by rw [e3, e2]; rfl
          have R3 : ∀ v, v ≠ x + 30 + m → h3.R v = H.R v := fun v hv => by rw [e3, setR_ne hv, e2]; rfl
          have R3n : h3.R (x + 30 + m) = (2, ws.set j (some H.sz)) := by rw [e3]; exact setR_at R2
          have I3 : ∀ v, v ≠ H.sz → h3.I v = H.I v := fun v hv => by rw [e3, e2]; exact newI_ne hv
          have I3n : h3.I H.sz = (1, List.replicate (codesL m).length 0) := by rw [e3]; exact I2
          obtain ⟨a3, ls3, A30⟩ := hsu.at hk.1 kH.1
          have A3 : suA h3 a3 ls3 x := A30.to S3 (fun v hv => R3 v (by omega)) (fun v _ => F3 v)
          have key := such_fill (d := d + 1) (x := x) (v := v) (n := m) (w := j) (rr := rr) (ν := H.sz) (h3 := h3) (fs := fs) (ws := ws.set j (some H.sz)) (rows := rows) hm1 hm2 hj4 ((F3 x).trans bH.2.1) ((R3 _ (by omega)).trans f1) q1 R3n (List.getElem?_set_self (by omega)) (by omega) (by omega) rr1 ((R3 rr (by omega)).trans r1) r2 (fun k L hkL => by
            obtain ⟨p, p1, p2, p3⟩ := r3 k L hkL
            exact ⟨p, p1, p2.2, (I3 p (by have := p2.2; omega)).trans p3⟩) A3 (Q := suEnd hs h x nm S ST fd ((m : Nat) : Int) ((j : Nat) : Int) v) (fun G hch hI => by
              obtain ⟨p1, p2, p3, p4, p5, p6⟩ := hch
              have old : ∀ v, v < H.sz → G.I v = H.I v ∧ G.F v = H.F v ∧ (v ≠ x + 30 + m → G.R v = H.R v) := fun v hv => by
                obtain ⟨o1, o2, o3⟩ := p6 v (by omega) (by omega)
                exact ⟨o1.trans (I3 v (by omega)), o3.trans (F3 v), fun w => o2.trans (R3 v w)⟩
              have GR := (p6 (x + 30 + m) (by omega) (by omega)).2.1.trans R3n
              obtain ⟨s1, s2, s3⟩ := such_asm (ν := H.sz) bH kH tH hm2 f1 (by omega) (p5.trans S3) old q2 q3 hj4 GR (by omega) (by omega) hI
              have cdG : cdN G x = cdN H x := congrArg (fun r => nnL r.2) ((old (x + 2) (by omega)).2.2 (by omega))
              refine such_109 (d := d + 1) hm2 hj4 s1.2.1 (((old (x + 29) (by omega)).2.2 (by omega)).trans f1) q1 GR (List.getElem?_set_self (by omega)) hI ?_ _
              unfold suEnd
              rw [hfd, hans, Int.toNat_natCast, Int.toNat_natCast]
              refine ⟨sufC m j, sufS m j, ⟨rfl, ⟨nm, rfl, _, _, _, _, _, s1, s2, s3⟩, ?_, by omega, ?_⟩, Or.inr ⟨g, rfl, Nat.le_refl _, Nat.le_refl _, by omega, by omega, by omega, by omega⟩⟩
              · unfold sufC; omega
              · unfold sufS; omega) (codesL m).length 0 h3 (List.replicate (codesL m).length 0) rfl (chg.refl.more (fun _ q => q) (Nat.zero_le _) (Nat.zero_le _)) I3n (List.length_replicate) (fun i hi => absurd hi (by omega))
          refine ⟨_, _, _, _, bH.2.1, rfl, rfl, ?_⟩
          refine ⟨_, _, _, f1, by decide, by omega, by rw [Int.toNat_natCast]; exact q1, ?_⟩
          refine ⟨_, _, _, q2, by decide, by omega, by rw [Int.toNat_natCast]; exact q5, ?_⟩
          refine ⟨_, _, _, _, bH.2.1, rfl, rfl, ?_⟩
          refine ⟨_, _, _, f1, by decide, by omega, by rw [Int.toNat_natCast]; exact q1, ?_⟩
          refine ⟨_, Or.inr ⟨_, _, r1, by decide, rfl⟩, ?_⟩
          rw [r2]
          refine ⟨by omega, by omega, ?_⟩
          rw [Int.toNat_natCast, ← e2]
          refine ⟨_, _, R2, by decide, by decide, by omega, by omega, fun b hb => (by cases hb; exact ⟨(1, 1), rfl, by decide, by show (h2.I H.sz).1 = 1; rw [I2]⟩), fun q => (by cases q), ?_⟩
          rw [Int.toNat_natCast, ← e3]
          exact hW _ key
        · have hfe : (fun a c => if a = m ∧ c = j then true else fd a c) = fd := by
            funext a c
            by_cases e : a = m ∧ c = j
            · rw [if_pos e, e.1, e.2, g]
            · rw [if_neg e]
          refine ⟨_, _, _, _, bH.2.1, rfl, rfl, ?_⟩
          refine ⟨_, _, _, f1, by decide, by omega, by rw [Int.toNat_natCast]; exact q1, ?_⟩
          refine ⟨_, _, _, q2, by decide, by omega, by rw [Int.toNat_natCast]; exact q5, ?_⟩
          refine hW _ (such_109 (d := d + 1) hm2 hj4 bH.2.1 f1 q1 q2 q5 q7 ?_ none)
          unfold suEnd
          rw [hfd, hans, hfe]
          exact ⟨1, 4, ⟨rfl, ⟨nm, rfl, _, _, _, _, _, bH, kH, tH⟩, by omega, by omega, by omega⟩, Or.inl ⟨by omega, by omega, rfl⟩⟩
      · obtain ⟨f1, f2⟩ := bad (fun q => by omega)
        unfold suEnd
        rw [f1, f2]
        exact ⟨1, 4, ⟨rfl, ⟨nm, rfl, _, _, _, _, _, bb, kk, tt⟩, by omega, by omega, by omega⟩, Or.inl ⟨by omega, by omega, rfl⟩⟩
end SUCHC
