/-! the code of a whole: depths, first to last -/
theorem gt_app1 {X : List Int} {i : Nat} {v : Int} (h : X[i]? = some v) : gt X i = v := by unfold gt; rw [h]; rfl
theorem kids_lt : ∀ t : Tr, (kidsT t).length < szT t
  | .var _ => sz_pos _
  | .op a b => by
    have h1 := kids_lt b
    have h2 := sz_pos a
    show (kidsT b).length + 1 < szT a + szT b
    omega
section TELLS
variable {d : Nat}
theorem tells_spec : ∀ (n : Nat) (t : Tr) (x f o k : Nat) (H : AH) (X : List Int), szT t ≤ n → BrAt H x t → (H.I f).1 = 1 → o + szT t ≤ X.length → o + szT t ≤ 1000 → k + szT t ≤ 1000 →
    wp (d + n) 422 (0, ent 9 [vR (some x), vR (some f), vI ((o : Nat) : Int), vI ((k : Nat) : Int)], [], H.setI f X) (fun r h' => r = .inl (some (vI ((o + szT t : Nat) : Int))) ∧ ∃ Y, h' = H.setI f Y ∧ Y.length = X.length ∧ (∀ i, i < o → gt Y i = gt X i) ∧ ∀ i v, (preT t k)[i]? = some v → gt Y (o + i) = ((v : Nat) : Int)) := by
  intro n
  induction n with
  | zero => intro t x f o k H X h1; have := sz_pos t; omega
  | succ n ih =>
    intro t x f o k H X hn hB hI hX ho hk
    obtain ⟨p, qs, b1, b2, b3, b4, b5⟩ := hB
    have hql := BrL_len b5
    have hIf : ∀ X, (H.setI f X).I f = (1, X) := fun X => by
      show (if f = f then ((H.I f).1, X) else H.I f) = _
      rw [if_pos rfl, hI]
    have hfull : preT t k = k :: (kidsT t).flatMap fun a => preT a (k + 1) := preT_eq t k
    have hlen := preT_len t k
    obtain ⟨P, hP⟩ : ∃ P : Nat → List Nat, ∀ j, P j = k :: ((kidsT t).take j).flatMap fun a => preT a (k + 1) := ⟨_, fun _ => rfl⟩
    have hPall : P (kidsT t).length = preT t k := by rw [hP, List.take_length, hfull]
    have loop : ∀ (j i : Nat) (Y : List Int) (x8 : Option AV), j + i = (kidsT t).length → Y.length = X.length → (∀ i, i < o → gt Y i = gt X i) → (∀ m v, (P i)[m]? = some v → gt Y (o + m) = ((v : Nat) : Int)) →
        wp (d + (n + 1)) 422 (23, [some (vR (some x)), some (vR (some f)), some (vI ((o : Nat) : Int)), some (vI ((k : Nat) : Int)), some (vI ((o + (P i).length : Nat) : Int)), some (vR (some p)), some (vI (((kidsT t).length : Nat) : Int)), some (vI ((i : Nat) : Int)), x8], [], H.setI f Y) (fun r h' => r = .inl (some (vI ((o + szT t : Nat) : Int))) ∧ ∃ Y, h' = H.setI f Y ∧ Y.length = X.length ∧ (∀ i, i < o → gt Y i = gt X i) ∧ ∀ i v, (preT t k)[i]? = some v → gt Y (o + i) = ((v : Nat) : Int)) := by
      intro j
      induction j with
      | zero =>
        intro i Y x8 hj y1 y2 y3
        obtain rfl : i = (kidsT t).length := by omega
        rw [hPall] at y3 ⊢
        refine wp.go [23] 20 fun W C hW hC => ?_
        refine ⟨fun _ => ?_, fun q => absurd q (by omega)⟩
        refine ⟨?_, Y, rfl, y1, y2, y3⟩
        rw [hlen]
      | succ j ihj =>
        intro i Y x8 hj y1 y2 y3
        have hil : i < (kidsT t).length := by omega
        have hkl := kids_lt t
        obtain ⟨y, g1, g2⟩ := BrL_at b5 i _ (List.getElem?_eq_getElem hil)
        have hum : (kidsT t)[i] ∈ kidsT t := List.getElem_mem hil
        have hPs : P (i + 1) = P i ++ preT (kidsT t)[i] (k + 1) := by
          rw [hP, hP, List.take_succ, List.getElem?_eq_getElem hil, List.flatMap_append]
          simp
        generalize (kidsT t)[i] = u at g2 hum hPs
        have hsu := sz_kid t u hum
        have hpre : (P (i + 1)).length ≤ szT t := by
          rw [← hlen, ← hPall, hP, hP, List.length_cons, List.length_cons]
          have : (kidsT t).flatMap (fun a => preT a (k + 1)) = ((kidsT t).take (i + 1)).flatMap (fun a => preT a (k + 1)) ++ ((kidsT t).drop (i + 1)).flatMap (fun a => preT a (k + 1)) := by
            rw [← List.flatMap_append, List.take_append_drop]
          rw [List.take_length, this, List.length_append]
          omega
        rw [hPs, List.length_append, preT_len] at hpre
        have hp1 : 1 ≤ (P i).length := by rw [hP, List.length_cons]; omega
        have hF2 := g2.choose_spec.choose_spec.2.1
        have call := ih u y f (o + (P i).length) (k + 1) H Y (by omega) g2 hI (by omega) (by omega) (by omega)
        refine wp.go [23] 40 fun W C hW hC => ?_
        refine ⟨fun q => absurd q (by omega), fun _ => ?_⟩
        refine ⟨_, _, _, b4, by decide, by omega, by rw [Int.toNat_natCast]; exact g1, ?_⟩
        refine ⟨_, _, _, hF2, rfl, ?_⟩
        conv => whnf
        rw [iadd_eq (by omega), show ((k : Nat) : Int) + 1 = ((k + 1 : Nat) : Int) by omega]
        refine hC _ _ _ (use call ?_)
        rintro _ _ ⟨rfl, Y', rfl, z1, z2, z3⟩
        (conv => whnf); simp (disch := omega) only [iadd_eq, isub_eq, imul_eq]
        have key := ihj (i + 1) Y' (some (vR (some y))) (by omega) (by omega) (fun m hm => (z2 m (by omega)).trans (y2 m hm)) (fun m v hm => ?_)
        · rw [hPs, List.length_append, preT_len, show o + ((P i).length + szT u) = o + (P i).length + szT u by omega] at key
          exact hW _ key
        · rw [hPs] at hm
          by_cases q : m < (P i).length
          · rw [List.getElem?_append_left q] at hm
            rw [z2 _ (by omega)]
            exact y3 m v hm
          · rw [List.getElem?_append_right (by omega)] at hm
            have := z3 _ _ hm
            rw [show o + (P i).length + (m - (P i).length) = o + m by omega] at this
            exact this
    have hs1 := sz_pos t
    refine wp.go [23] 40 fun W C hW hC => ?_
    refine ⟨_, hIf _, by omega, by omega, ?_⟩
    rw [setI_setI, Int.toNat_natCast]
    refine ⟨_, _, _, _, b2, rfl, rfl, ?_⟩
    refine ⟨_, Or.inr ⟨_, _, b4, by decide, rfl⟩, ?_⟩
    rw [hql]
    (conv => whnf); simp (disch := omega) only [iadd_eq, isub_eq, imul_eq]
    have h0 : P 0 = [k] := by rw [hP]; rfl
    have key := loop (kidsT t).length 0 (X.set o ((k : Nat) : Int)) none (by omega) (by rw [List.length_set]) (fun i hi => by rw [gt_set (by omega), if_neg (by omega)]) (fun m v hm => ?_)
    · rw [h0, List.length_singleton] at key
      exact hW _ key
    · rw [h0] at hm
      cases m with
      | zero => cases hm; rw [gt_set (by omega), if_pos (by omega)]
      | succ m => simp at hm
end TELLS
/-- what must hold of a whole -/
def WhOk : Wh → Prop
  | (t, none) => okT0 t ∧ szT t ≤ 16 ∧ (kidsT t).length ≤ 4 ∧ ok3 t
  | (t, some u) => (okT0 t ∧ okT0 u) ∧ szT t + szT u ≤ 16 ∧ ((kidsT t).length ≤ 3 ∧ (kidsT u).length ≤ 3) ∧ (ok3 t ∧ ok3 u) ∧ sortedT (kidsT t)
def rootW : Wh → Tr
  | (t, none) => t
  | (t, some u) => mkT (insT u (kidsT t))
theorem BrL_zs {P : Nat → Prop} {h : AH} : ∀ {t : Tr} {rs : List (Option Nat)}, BrI P h t rs → ∃ zs : Zs, refZ zs = rs ∧ treZ zs = kidsT t ∧ ∀ z, z ∈ zs → BrA P h z.1 z.2
  | .var _, rs, k => ⟨[], (show rs = [] from k).symm, rfl, fun z hz => (nomatch hz)⟩
  | .op a b, rs, ⟨x, p, r, qs, k1, k2, k7⟩ => by
    obtain ⟨zs, h1, h2, h3⟩ := BrL_zs k7
    refine ⟨(x, a) :: zs, ?_, ?_, fun z hz => ?_⟩
    · rw [k1, ← h1]; rfl
    · show a :: treZ zs = a :: kidsT b
      rw [h2]
    · rcases List.mem_cons.mp hz with rfl | hz
      · exact ⟨p, qs, k2⟩
      · exact h3 z hz
section CODE
variable {d : Nat} {h : AH}
theorem cpy_all {α : Type} (xs : List α) (y : α) : cpy xs (List.replicate (xs.length + 1) y) 0 0 xs.length = xs ++ [y] := by
  unfold cpy
  simp [List.replicate_succ']
theorem root2_spec {P : Nat → Prop} (hP : ∀ v, P v → v < h.sz) {w r q : Nat} {t u : Tr} (HF : h.F w = (9, [vR (some r), vR (some q)])) (b1 : BrA P h r t) (b2 : BrA P h q u) (hW : WhOk (t, some u)) :
    wp (d + 21) 248 (0, ent 2 [vR (some w)], [], h) (fun r h' => ∃ x, r = .inl (some (vR (some x))) ∧ ext 2 11 h h' ∧ BrA (fun v => v < h'.sz) h' x (rootW (t, some u))) := by
  obtain ⟨⟨o1, o2⟩, h16, ⟨h3, h4⟩, ⟨g1, g2⟩, hst⟩ := hW
  have hw1 : ∀ v, v ∈ kidsT t → waysT v ≤ 6 ^ szT v := fun v hv => ok3_ways _ v (Nat.le_refl _) (ok_kid t o1 v hv) (ok3_iff.mp g1 v hv).2 (ok3_iff.mp g1 v hv).1
  have hw3 : waysT u ≤ 6 ^ szT u := ok3_ways _ u (Nat.le_refl _) o2 g2 h4
  obtain ⟨p, qs, c1, c2, c3, c4, c5⟩ := id b1
  obtain ⟨zs, z1, z2, z3⟩ := BrL_zs c5
  have hzl : zs.length = (kidsT t).length := by rw [← z2, List.length_map]
  have hql : qs.length = (kidsT t).length := by rw [← z1, List.length_map]; exact hzl
  have hsz1 : szT t = 1 + sumS (kidsT t) := by have := sz_mk (kidsT t); rw [mk_kids t o1] at this; exact this
  have hsz2 := sz_pos u
  have hpz := hP p c3
  have hPq : P q := b2.choose_spec.choose_spec.1
  obtain ⟨H1, hH1⟩ : ∃ H1, H1 = h.newR 1 (List.replicate (qs.length + 1) none) := ⟨_, rfl⟩
  have R1 : H1.R h.sz = (1, List.replicate (qs.length + 1) none) := by rw [hH1]; exact newR_at
  have R2 : H1.R p = (1, qs) := by rw [hH1, newR_ne (by omega)]; exact c4
  have F1 : H1.F = h.F := by rw [hH1]; rfl
  have S1 : H1.sz = h.sz + 1 := by rw [hH1]; rfl
  have ext1 : ext 1 (qs.length + 1) h H1 := by
    have := ext_newR (h := h) (t := 1) (x := List.replicate (qs.length + 1) none)
    rw [List.length_replicate] at this
    rw [hH1]
    exact this
  have hisk : ∀ (H : AH) (y : Nat) (v : Tr), H.F = h.F → BrA P h y v → isk H (eok 1) (some y) := by
    intro H y v hF hb b hb2
    cases hb2
    refine ⟨(0, 7), rfl, by decide, ?_⟩
    show (H.F y).1 % 200 = 7
    rw [hF, hb.choose_spec.choose_spec.2.1]
    rfl
  have R3 : (H1.setR h.sz (qs ++ [none])).R h.sz = (1, qs ++ [none]) := setR_at R1
  obtain ⟨H2, hH2⟩ : ∃ H2, H2 = H1.setR h.sz (qs ++ [some q]) := ⟨_, rfl⟩
  have hrow : refZ (zs ++ [(q, u)]) = qs ++ [some q] := by
    show (zs ++ [(q, u)]).map _ = _
    rw [List.map_append]
    show refZ zs ++ [some q] = _
    rw [z1]
  have hHR : (H2.newF 7 [vR none, vI 0, vI 0, vL 0, vL 0, vL 0]).R h.sz = (1, refZ (zs ++ [(q, u)])) := by
    show H2.R h.sz = _
    rw [hrow, hH2]
    exact setR_at R1
  have hS2 : H2.sz = h.sz + 1 := by rw [hH2]; exact S1
  have old : ∀ v, P v → (H2.newF 7 [vR none, vI 0, vI 0, vL 0, vL 0, vL 0]).R v = h.R v ∧ (H2.newF 7 [vR none, vI 0, vI 0, vL 0, vL 0, vL 0]).F v = h.F v := by
    intro v hv
    have := hP v hv
    refine ⟨?_, ?_⟩
    · show H2.R v = _
      rw [hH2, setR_ne (by omega), hH1]
      exact newR_ne (by omega)
    · rw [newF_ne (by omega), hH2]
      show H1.F v = _
      rw [F1]
  have zall : ∀ z, z ∈ zs ++ [(q, u)] → BrA P h z.1 z.2 ∧ okT0 z.2 ∧ szT z.2 ≤ 16 ∧ waysT z.2 ≤ 6 ^ szT z.2 := by
    intro z hz
    rcases List.mem_append.mp hz with hz | hz
    · have hm : z.2 ∈ kidsT t := by rw [← z2]; exact List.mem_map.mpr ⟨z, hz, rfl⟩
      have := sz_kid t _ hm
      exact ⟨z3 z hz, ok_kid t o1 _ hm, by omega, hw1 _ hm⟩
    · rw [List.mem_singleton.mp hz]
      have := sz_pos t
      exact ⟨b2, o2, by show szT u ≤ 16; omega, hw3⟩
  have htre : treZ (zs ++ [(q, u)]) = kidsT t ++ [u] := by
    show (zs ++ [(q, u)]).map _ = _
    rw [List.map_append]
    show treZ zs ++ [u] = _
    rw [z2]
  have call := brInit_spec (d := 0) (h := H2.newF 7 [vR none, vI 0, vI 0, vL 0, vL 0, vL 0]) (x := H2.sz) (p := h.sz) (zs := zs ++ [(q, u)])
    (fun z hz ar fs => ((zall z hz).1.to (P' := fun v => v < h.sz) fun v hv => ⟨hP v hv, by
        show ((H2.newF 7 [vR none, vI 0, vI 0, vL 0, vL 0, vL 0]).setR h.sz ar).R v = _
        have := hP v hv
        rw [setR_ne (by omega)]; exact (old v hv).1, by
        have := hP v hv
        rw [setF_ne (by omega)]; exact (old v hv).2⟩).at fun v hv => by show v < H2.sz + 1; omega)
    (by show h.sz < H2.sz + 1; omega) (by show H2.sz < H2.sz + 1; omega) newF_at hHR (fun z hz => ⟨(zall z hz).2.1, (zall z hz).2.2.1⟩) (by rw [List.length_append, List.length_singleton]; omega)
    (by rw [htre, sumS_app]; show sumS (kidsT t) + (szT u + 0) ≤ 15; omega) (fun z hz => (zall z hz).2.2.2)
  refine wp.go [] 80 fun W C hW hC => ?_
  refine ⟨_, _, _, _, HF, rfl, rfl, ?_⟩
  refine ⟨_, _, _, _, c2, rfl, rfl, ?_⟩
  refine ⟨_, Or.inr ⟨_, _, c4, by decide, rfl⟩, ?_⟩
  conv => whnf
  rw [iadd_eq (by omega), show ((qs.length : Nat) : Int) + 1 = ((qs.length + 1 : Nat) : Int) by omega]
  refine ⟨by omega, by omega, ?_⟩
  rw [Int.toNat_natCast, ← hH1]
  refine ⟨_, _, _, _, (congrFun F1 w).trans HF, rfl, rfl, ?_⟩
  refine ⟨_, _, _, _, (congrFun F1 r).trans c2, rfl, rfl, ?_⟩
  refine ⟨_, _, _, _, (congrFun F1 w).trans HF, rfl, rfl, ?_⟩
  refine ⟨_, _, _, _, (congrFun F1 r).trans c2, rfl, rfl, ?_⟩
  refine ⟨_, Or.inr ⟨_, _, R2, by decide, rfl⟩, ?_⟩
  refine ⟨rfl, by omega, by decide, by decide, Or.inr ⟨_, _, _, _, R2, R1, by decide, rfl, by omega, by rw [List.length_replicate]; omega, ?_, ?_⟩⟩
  · intro z hz
    have hz : z ∈ qs := List.mem_of_mem_drop (List.mem_of_mem_take hz)
    rw [← z1, List.mem_map] at hz
    obtain ⟨y, hy, rfl⟩ := hz
    exact hisk H1 _ _ F1 (z3 y hy)
  rw [Int.toNat_natCast, show ((0 : Int).toNat) = 0 from rfl, cpy_all]
  refine ⟨_, _, _, _, (congrFun F1 w).trans HF, rfl, rfl, ?_⟩
  refine ⟨_, _, _, _, (congrFun F1 r).trans c2, rfl, rfl, ?_⟩
  refine ⟨_, Or.inr ⟨_, _, (setR_ne (by omega)).trans R2, by decide, rfl⟩, ?_⟩
  refine ⟨_, _, _, _, (congrFun F1 w).trans HF, rfl, rfl, ?_⟩
  refine ⟨_, _, R3, by decide, by decide, by omega, by rw [List.length_append, List.length_singleton]; omega, hisk (H1.setR h.sz (qs ++ [none])) _ _ F1 b2, fun k => (by cases k), ?_⟩
  rw [Int.toNat_natCast, setR_setR, show List.set (qs ++ [(none : Option Nat)]) qs.length (some q) = qs ++ [some q] from set_mid (L1 := qs) (L2 := []), ← hH2]
  refine hC _ _ _ (use (wpd.up (by omega) (call)) ?_)
  rintro _ _ ⟨rfl, Z, y1, y2, rfl, y3⟩
  have hTT : mkT (treZ Z) = rootW (t, some u) := by
    rw [y1, htre, srt_snoc, srt_id (kidsT t) hst (ok_kid t o1)]
    rfl
  refine ⟨H2.sz, rfl, ?_, ?_⟩
  · refine ext.setF (ext.setR ?_ (Nat.le_refl _)) (by omega)
    have e2 : ext 1 (qs.length + 1) h H2 := by rw [hH2]; exact ext.setR ext1 (Nat.le_refl _)
    exact (e2.trans (ext_newF (t := 7) (x := [vR none, vI 0, vI 0, vL 0, vL 0, vL 0]))).more (by omega) (by show qs.length + 1 + 6 ≤ 11; omega)
  · have := brMade (P := P) (Q := fun v => v < H2.sz + 1) (h := H2.newF 7 [vR none, vI 0, vI 0, vL 0, vL 0, vL 0]) (x := H2.sz) (p := h.sz) (Z := Z) (by omega) (by omega) newF_at hHR (fun z hz => (zall z (y2 z hz)).1.to fun v hv => ⟨hv, (old v hv).1, (old v hv).2⟩) (fun v hv => by have := hP v hv; omega)
    rw [hTT] at this ⊢
    exact this
theorem root1_spec {w r : Nat} (HF : h.F w = (8, [vR (some r)])) : wp (d + 1) 428 (0, ent 1 [vR (some w)], [], h) (fun r' h' => r' = .inl (some (vR (some r))) ∧ h' = h) := by
  refine wp.go [] 10 fun W C hW hC => ?_
  refine ⟨_, _, _, _, HF, rfl, rfl, ?_⟩
  exact ⟨rfl, rfl⟩
abbrev codeI (t : Tr) : List Int := (preT t 0).map fun v => ((v : Nat) : Int)
theorem code_tail {x : Nat} {t : Tr} {H : AH} (hb : BrA (fun v => v < H.sz) H x t) (h16 : szT t ≤ 16) {w : Nat} : wp (d + 22) 266 (6, [some (vR (some w)), none, none], [vR (some x)], H) (fun r h' => r = .inl (some (vR (some H.sz))) ∧ ext 1 16 H h' ∧ h'.sz = H.sz + 1 ∧ h'.I H.sz = (1, codeI t)) := by
  have hB : BrAt H x t := hb.at fun v hv => hv
  obtain ⟨p, qs, b1, b2, b3, b4, b5⟩ := id hB
  have hI := newI_at (h := H) (t := 1) (x := List.replicate (szT t) 0)
  have e1 : ext 1 (szT t) H (H.newI 1 (List.replicate (szT t) 0)) := by
    have := ext_newI (h := H) (t := 1) (x := List.replicate (szT t) 0)
    rw [List.length_replicate] at this
    exact this
  have call := tells_spec (d := 0) 16 t x H.sz 0 0 (H.newI 1 (List.replicate (szT t) 0)) (List.replicate (szT t) 0) h16 (hB.mono e1) (by rw [hI]) (by rw [List.length_replicate]; omega) (by omega) (by omega)
  rw [setI_self hI] at call
  refine wp.go [] 30 fun W C hW hC => ?_
  refine ⟨_, _, _, _, b2, rfl, rfl, ?_⟩
  refine ⟨by omega, by omega, ?_⟩
  rw [Int.toNat_natCast]
  refine ⟨_, _, _, b2, rfl, ?_⟩
  refine hC _ _ _ (use (wpd.up (by omega) (call)) ?_)
  rintro _ _ ⟨rfl, Y, rfl, y1, y2, y3⟩
  rw [List.length_replicate] at y1
  have hY : Y = codeI t := by
    apply List.ext_getElem?
    intro i
    rw [List.getElem?_map]
    by_cases q : i < szT t
    · have hq : i < (preT t 0).length := by rw [preT_len]; exact q
      have := y3 i _ (List.getElem?_eq_getElem hq)
      rw [Nat.zero_add] at this
      rw [List.getElem?_eq_getElem hq, gt_some (by omega), this]
      rfl
    · rw [List.getElem?_eq_none (by omega), List.getElem?_eq_none (by rw [preT_len]; omega)]
      rfl
  refine ⟨rfl, (ext.setI e1 (Nat.le_refl _)).more (Nat.le_refl _) h16, rfl, ?_⟩
  rw [← hY]
  exact setI_at hI
theorem rootW_sz {W : Wh} (hW : WhOk W) : szT (rootW W) ≤ 16 := by
  obtain ⟨t, o⟩ := W
  cases o with
  | none => exact hW.2.1
  | some u =>
    obtain ⟨⟨o1, o2⟩, h16, -⟩ := hW
    have hsz1 : szT t = 1 + sumS (kidsT t) := by have := sz_mk (kidsT t); rw [mk_kids t o1] at this; exact this
    have := sz_mk (insT u (kidsT t))
    rw [ins_sum] at this
    show szT (mkT (insT u (kidsT t))) ≤ 16
    unfold sumS at hsz1
    omega
theorem ccode_spec {P : Nat → Prop} (hP : ∀ v, P v → v < h.sz) {w : Nat} {W : Wh} (hw : WhAt P h w W) (hW : WhOk W) : wp (d + 22) 266 (0, ent 3 [vR (some w)], [], h) (fun r h' => ∃ f, r = .inl (some (vR (some f))) ∧ ext 3 27 h h' ∧ h.sz ≤ f ∧ f < h'.sz ∧ h'.I f = (1, codeI (rootW W))) := by
  have h16 := rootW_sz hW
  obtain ⟨t, o⟩ := W
  cases o with
  | none =>
    obtain ⟨r, k1, k2, k3⟩ := hw
    refine wp.go [6] 10 fun W C hW hC => ?_
    refine ⟨_, _, _, k2, rfl, ?_⟩
    refine hC _ _ _ (useE (wpd.up (by omega) (root1_spec (d := 0) k2)) ?_)
    refine hW _ (use (code_tail (d := d) (k3.to fun v hv => ⟨hP v hv, rfl, rfl⟩) h16) ?_)
    rintro _ h' ⟨rfl, e1, e2, e3⟩
    exact ⟨_, rfl, e1.more (by omega) (by omega), Nat.le_refl _, by omega, e3⟩
  | some u =>
    obtain ⟨r, q, k1, k2, k3, k4⟩ := hw
    have hW' := hW
    refine wp.go [6] 10 fun W C hW hC => ?_
    refine ⟨_, _, _, k2, rfl, ?_⟩
    refine hC _ _ _ (use (wpd.up (by omega) (root2_spec (d := 0) hP k2 k3 k4 hW')) ?_)
    rintro _ H ⟨x, rfl, e1, bx⟩
    refine hW _ (use (code_tail (d := d) bx h16) ?_)
    rintro _ h' ⟨rfl, e2, e3, e4⟩
    have := e1.1
    exact ⟨_, rfl, (e1.trans e2).more (by omega) (by omega), by omega, by omega, e4⟩
end CODE
