/-! A SKELETON TAKES ANOTHER ONE'S CARBONS behind its own -/
def gJoin (K H : Gr) : Gr := (K.1 + H.1, fun a b => K.2 a b || (decide (K.1 ≤ a) && decide (K.1 ≤ b) && H.2 (a - K.1) (b - K.1)))
theorem join_iff {K H : Gr} {a b : Nat} : (gJoin K H).2 a b = true ↔ K.2 a b = true ∨ ∃ x y, H.2 x y = true ∧ a = K.1 + x ∧ b = K.1 + y := by
  show (K.2 a b || (decide (K.1 ≤ a) && decide (K.1 ≤ b) && H.2 (a - K.1) (b - K.1))) = true ↔ _
  simp only [Bool.or_eq_true, Bool.and_eq_true, decide_eq_true_eq]
  constructor
  · rintro (h | ⟨⟨h1, h2⟩, h3⟩)
    · exact Or.inl h
    · exact Or.inr ⟨_, _, h3, by omega, by omega⟩
  · rintro (h | ⟨x, y, h1, rfl, rfl⟩)
    · exact Or.inl h
    · refine Or.inr ⟨⟨by omega, by omega⟩, ?_⟩
      rw [Nat.add_sub_cancel_left, Nat.add_sub_cancel_left]
      exact h1
theorem join_nil (H : Gr) : gJoin gNil H = H := by
  obtain ⟨n, f⟩ := H
  show (0 + n, _) = (n, f)
  rw [Nat.zero_add]
  congr 1
theorem deg_mono {G G' : Gr} (hn : G.1 = G'.1) {a : Nat} (h : ∀ b, G.2 a b = true → G'.2 a b = true) : deg G a ≤ deg G' a := by
  rw [deg_cnt, deg_cnt, ← hn]
  unfold cnt
  refine sumR_le fun i _ => ?_
  have := h i
  cases q : G.2 a i with
  | false => exact Nat.zero_le _
  | true => rw [this q]; exact Nat.le_refl _
theorem deg_less {G G' : Gr} (hn : G.1 = G'.1) {a b : Nat} (h : ∀ b, G.2 a b = true → G'.2 a b = true) (hb : b < G.1) (h1 : G.2 a b = false) (h2 : G'.2 a b = true) : deg G a < deg G' a := by
  rw [deg_cnt, deg_cnt, ← hn]
  exact cnt_lt (fun i _ => h i) hb h1 h2
section TAKES
variable {d : Nat} {h : AH} {s o : Nat} {K H : Gr}
/-- bonds that were bound so far -/
def tkE (K H : Gr) (c k a b : Nat) : Prop := K.2 a b = true ∨ ∃ x y, H.2 x y = true ∧ x < y ∧ ((a = K.1 + x ∧ b = K.1 + y) ∨ (a = K.1 + y ∧ b = K.1 + x)) ∧ (x < c ∨ (x = c ∧ ∃ i, i < k ∧ (nb H c)[i]? = some y))
theorem tkE_join (hH : H.wf) {c k a b : Nat} (h : tkE K H c k a b) : (gJoin K H).2 a b = true := by
  rw [join_iff]
  rcases h with h | ⟨x, y, h1, h2, ⟨rfl, rfl⟩ | ⟨rfl, rfl⟩, h4⟩
  · exact Or.inl h
  · exact Or.inr ⟨x, y, h1, rfl, rfl⟩
  · exact Or.inr ⟨y, x, (hH.2.2 _ _ h1).2.2.1, rfl, rfl⟩
theorem ctakes_spec (hS : SkAt h s K) (hK : wf0 K) (hO : SkAt h o H) (hH : H.wf) (hso : o + 18 < s ∨ s + 18 < o) (hn : K.1 + H.1 ≤ 16) (hJ : ∀ a, deg (gJoin K H) a ≤ 4) : wp (d + 3) 227 (0, ent 5 [vR (some s), vR (some o), vI ((K.1 : Nat) : Int)], [], h) (fun r h' => r = .inl none ∧ skU s h h' ∧ SkAt h' s (gJoin K H)) := by
  have two : ∀ (j c : Nat) (H' : AH) (E : Nat → Nat → Bool) (x4 : Option AV), j + c = H.1 → skU s h H' → SkAt H' s (K.1 + H.1, E) → (∀ a b, E a b = true ↔ tkE K H c 0 a b) → wp (d + 3) 227 (23, [some (vR (some s)), some (vR (some o)), some (vI ((K.1 : Nat) : Int)), some (vI ((c : Nat) : Int)), x4], [], H') (fun r h' => r = .inl none ∧ skU s h h' ∧ SkAt h' s (gJoin K H)) := by
    intro j
    induction j with
    | zero =>
      intro c H' E x4 hj hu hE hP
      obtain rfl : c = H.1 := by omega
      have hO' := hO.skU hu hso
      refine wp.go [23, 34] 20 fun W C hW hC => ?_
      refine ⟨_, _, _, _, hO'.2.1, rfl, rfl, ?_⟩
      refine ⟨fun _ => ?_, fun q => absurd q (by omega)⟩
      refine ⟨rfl, hu, ?_⟩
      have : E = (gJoin K H).2 := by
        funext a b
        rw [Bool.eq_iff_iff, hP, join_iff]
        constructor
        · rintro (q | ⟨x, y, h1, h2, ⟨rfl, rfl⟩ | ⟨rfl, rfl⟩, -⟩)
          · exact Or.inl q
          · exact Or.inr ⟨x, y, h1, rfl, rfl⟩
          · exact Or.inr ⟨y, x, (hH.2.2 _ _ h1).2.2.1, rfl, rfl⟩
        · rintro (q | ⟨x, y, h1, h2, h3⟩)
          · exact Or.inl q
          · obtain ⟨q1, q2, q3, q4⟩ := hH.2.2 _ _ h1
            rcases Nat.lt_or_gt_of_ne q4 with w | w
            · exact Or.inr ⟨x, y, h1, w, Or.inl ⟨h2, h3⟩, Or.inl q1⟩
            · exact Or.inr ⟨y, x, q3, w, Or.inr ⟨h2, h3⟩, Or.inl q2⟩
      rw [this] at hE
      exact hE
    | succ j ih =>
      intro c H' E x4 hj hu hE hP
      have hc : c < H.1 := by omega
      have inner : ∀ (i k : Nat) (H' : AH) (E : Nat → Nat → Bool), i + k = deg H c → skU s h H' → SkAt H' s (K.1 + H.1, E) → (∀ a b, E a b = true ↔ tkE K H c k a b) → wp (d + 3) 227 (34, [some (vR (some s)), some (vR (some o)), some (vI ((K.1 : Nat) : Int)), some (vI ((c : Nat) : Int)), some (vI ((k : Nat) : Int))], [], H') (fun r h' => r = .inl none ∧ skU s h h' ∧ SkAt h' s (gJoin K H)) := by
        intro i
        induction i with
        | zero =>
          intro k H' E hi hu hE hP
          obtain ⟨k1, k2, k3, ⟨W, k4, k5, k6⟩, k7⟩ := hO.skU hu hso
          refine wp.go [23, 34] 30 fun W C hW hC => ?_
          refine ⟨_, _, _, _, k2, rfl, rfl, ?_⟩
          refine ⟨_, _, _, k4, rfl, by omega, gt_at c (by omega) (by omega), ?_⟩
          rw [k6 c hc]
          refine ⟨fun _ => ?_, fun q => absurd q (by omega)⟩
          (conv => whnf); simp (disch := omega) only [iadd_eq, isub_eq, imul_eq]
          refine hW _ (ih (c + 1) H' E _ (by omega) hu hE fun a b => ?_)
          rw [hP]
          constructor
          · rintro (q | ⟨x, y, h1, h2, h3, h4⟩)
            · exact Or.inl q
            · refine Or.inr ⟨x, y, h1, h2, h3, Or.inl ?_⟩
              rcases h4 with h4 | ⟨h4, -⟩ <;> omega
          · rintro (q | ⟨x, y, h1, h2, h3, h4⟩)
            · exact Or.inl q
            · refine Or.inr ⟨x, y, h1, h2, h3, ?_⟩
              rcases h4 with h4 | ⟨-, i, h4, -⟩
              · by_cases w : x = c
                · refine Or.inr ⟨w, ?_⟩
                  subst w
                  obtain ⟨i, hi2⟩ := List.getElem?_of_mem ((nb_mem hH).mpr h1)
                  have hil := (List.getElem?_eq_some_iff.mp hi2).1
                  have hil : i < deg H x := hil
                  exact ⟨i, by omega, hi2⟩
                · exact Or.inl (by omega)
              · omega
        | succ i ihi =>
          intro k H' E hi hu hE hP
          obtain ⟨k1, k2, k3, ⟨W, k4, k5, k6⟩, k7⟩ := hO.skU hu hso
          obtain ⟨X, x1, x2, x3⟩ := k7 c (by omega)
          have x3 := x3 hc
          have hkl : k < (nb H c).length := by show k < deg H c; omega
          have hget := List.getElem?_eq_getElem hkl
          have hx := x3 k _ hget
          have hce : H.2 c (nb H c)[k] = true := (nb_mem hH).mp (List.getElem_mem hkl)
          have huniq : ∀ i, (nb H c)[i]? = some (nb H c)[k] → i = k := fun i hi => nodup_at (nb_nodup H c) hi hget
          generalize (nb H c)[k] = e at hget hx hce huniq
          obtain ⟨-, he, hec, hne⟩ := hH.2.2 _ _ hce
          have hdj := hJ (K.1 + c)
          have hdj2 := hJ (K.1 + e)
          have hdc : deg H c ≤ 4 := by
            refine Nat.le_trans ?_ hdj
            rw [deg_cnt, deg_cnt]
            show cnt H.1 (H.2 c) ≤ cnt (K.1 + H.1) _
            rw [cnt_split]
            refine Nat.le_trans ?_ (Nat.le_add_left _ _)
            unfold cnt
            refine sumR_le fun i _ => ?_
            cases q : H.2 c i with
            | false => exact Nat.zero_le _
            | true => show b01 true ≤ b01 ((gJoin K H).2 (K.1 + c) (K.1 + i)); rw [show (gJoin K H).2 (K.1 + c) (K.1 + i) = true from join_iff.mpr (Or.inr ⟨c, i, q, rfl, rfl⟩)]; exact Nat.le_refl _
          refine wp.go [23, 34] 60 fun W C hW hC => ?_
          refine ⟨_, _, _, _, k2, rfl, rfl, ?_⟩
          refine ⟨_, _, _, k4, rfl, by omega, gt_at c (by omega) (by omega), ?_⟩
          rw [k6 c hc]
          refine ⟨fun q => absurd q (by omega), fun _ => ?_⟩
          refine ⟨_, _, _, _, k2, rfl, rfl, ?_⟩
          refine ⟨_, _, _, k3, by decide, by omega, by rw [Int.toNat_natCast]; exact row_ref (by omega), ?_⟩
          refine ⟨_, _, _, x1, rfl, by omega, gt_at k (by omega) (by omega), ?_⟩
          rw [hx]
          refine ⟨fun q => ?_, fun q => ?_⟩
          · (conv => whnf); simp (disch := omega) only [iadd_eq, isub_eq, imul_eq]
            refine hW _ (ihi (k + 1) H' E (by omega) hu hE fun a b => ?_)
            rw [hP]
            constructor
            · rintro (w | ⟨x, y, h1, h2, h3, h4⟩)
              · exact Or.inl w
              · refine Or.inr ⟨x, y, h1, h2, h3, ?_⟩
                rcases h4 with h4 | ⟨h4, i, h5, h6⟩
                · exact Or.inl h4
                · exact Or.inr ⟨h4, i, by omega, h6⟩
            · rintro (w | ⟨x, y, h1, h2, h3, h4⟩)
              · exact Or.inl w
              · refine Or.inr ⟨x, y, h1, h2, h3, ?_⟩
                rcases h4 with h4 | ⟨h4, i, h5, h6⟩
                · exact Or.inl h4
                · refine Or.inr ⟨h4, i, ?_, h6⟩
                  by_cases w : i = k
                  · rw [w, hget] at h6
                    cases h6
                    omega
                  · omega
          · refine ⟨_, _, _, _, k2, rfl, rfl, ?_⟩
            refine ⟨_, _, _, k3, by decide, by omega, by rw [Int.toNat_natCast]; exact row_ref (by omega), ?_⟩
            refine ⟨_, _, _, x1, rfl, by omega, gt_at k (by omega) (by omega), ?_⟩
            rw [hx]
            refine ⟨_, _, _, hE.2.1, rfl, ?_⟩
            conv => whnf
            rw [iaddN (by omega), iaddN (by omega)]
            have hsub : ∀ a b, E a b = true → (gJoin K H).2 a b = true := fun a b w => tkE_join hH ((hP a b).mp w)
            have hwE : wf0 (K.1 + H.1, E) := by
              refine ⟨hn, fun a b w => ?_⟩
              show a < K.1 + H.1 ∧ b < K.1 + H.1 ∧ E b a = true ∧ a ≠ b
              rw [hP] at w ⊢
              rcases w with w | ⟨x, y, h1, h2, h3, h4⟩
              · obtain ⟨w1, w2, w3, w4⟩ := hK.2 _ _ w
                exact ⟨by omega, by omega, Or.inl w3, w4⟩
              · obtain ⟨w1, w2, w3, w4⟩ := hH.2.2 _ _ h1
                refine ⟨by omega, by omega, Or.inr ⟨x, y, h1, h2, ?_, h4⟩, by omega⟩
                rcases h3 with ⟨rfl, rfl⟩ | ⟨rfl, rfl⟩
                · exact Or.inr ⟨rfl, rfl⟩
                · exact Or.inl ⟨rfl, rfl⟩
            have hno : E (K.1 + c) (K.1 + e) = false := by
              cases w : E (K.1 + c) (K.1 + e) with
              | false => rfl
              | true =>
                exfalso
                rcases (hP _ _).mp w with w | ⟨x, y, h1, h2, h3, h4⟩
                · have := (hK.2 _ _ w).1; omega
                · rcases h3 with ⟨g1, g2⟩ | ⟨g1, g2⟩
                  · have g1 := Nat.add_left_cancel g1
                    have g2 := Nat.add_left_cancel g2
                    rw [← g1, ← g2] at h4
                    rcases h4 with h4 | ⟨-, i, h5, h6⟩
                    · exact Nat.lt_irrefl _ h4
                    · have := huniq i h6
                      omega
                  · have g1 := Nat.add_left_cancel g1
                    have g2 := Nat.add_left_cancel g2
                    rw [← g1, ← g2] at h2
                    have q2 : c < e := Int.ofNat_lt.mp q
                    exact absurd h2 (Nat.lt_asymm q2)
            have hno2 : E (K.1 + e) (K.1 + c) = false := by
              cases w : E (K.1 + e) (K.1 + c) with
              | false => rfl
              | true => have := (hwE.2 _ _ w).2.2.1; have this : E (K.1 + c) (K.1 + e) = true := this; rw [hno] at this; cases this
            have d1 := deg_less (G := (K.1 + H.1, E)) (G' := gJoin K H) rfl (a := K.1 + c) (b := K.1 + e) (hsub _) (by show K.1 + e < K.1 + H.1; omega) hno (join_iff.mpr (Or.inr ⟨c, e, hce, rfl, rfl⟩))
            have d2 := deg_less (G := (K.1 + H.1, E)) (G' := gJoin K H) rfl (a := K.1 + e) (b := K.1 + c) (hsub _) (by show K.1 + c < K.1 + H.1; omega) hno2 (join_iff.mpr (Or.inr ⟨e, c, hec, rfl, rfl⟩))
            refine hC _ _ _ (use (wpd.up (by omega) (cbinds_spec (d := 0) hE hwE (a := K.1 + c) (b := K.1 + e) (by show K.1 + c < K.1 + H.1; omega) (by show K.1 + e < K.1 + H.1; omega) (by omega) hno (by omega) (by omega))) ?_)
            rintro _ H2 ⟨rfl, u2, S2⟩
            (conv => whnf); simp (disch := omega) only [iadd_eq, isub_eq, imul_eq]
            refine hW _ (ihi (k + 1) H2 (gAdd (K.1 + H.1, E) (K.1 + c) (K.1 + e)).2 (by omega) (hu.trans u2) S2 fun a b => ?_)
            rw [gAdd_iff]
            show (E a b = true ∨ _) ↔ _
            rw [hP]
            constructor
            · rintro ((w | ⟨x, y, h1, h2, h3, h4⟩) | w | w)
              · exact Or.inl w
              · refine Or.inr ⟨x, y, h1, h2, h3, ?_⟩
                rcases h4 with h4 | ⟨h4, i, h5, h6⟩
                · exact Or.inl h4
                · exact Or.inr ⟨h4, i, by omega, h6⟩
              · exact Or.inr ⟨c, e, hce, by omega, Or.inl w, Or.inr ⟨rfl, k, by omega, hget⟩⟩
              · exact Or.inr ⟨c, e, hce, by omega, Or.inr w, Or.inr ⟨rfl, k, by omega, hget⟩⟩
            · rintro (w | ⟨x, y, h1, h2, h3, h4⟩)
              · exact Or.inl (Or.inl w)
              · rcases h4 with h4 | ⟨h4, i, h5, h6⟩
                · exact Or.inl (Or.inr ⟨x, y, h1, h2, h3, Or.inl h4⟩)
                · by_cases w : i = k
                  · rw [w, hget] at h6
                    cases h6
                    subst h4
                    rcases h3 with h3 | h3
                    · exact Or.inr (Or.inl h3)
                    · exact Or.inr (Or.inr h3)
                  · exact Or.inl (Or.inr ⟨x, y, h1, h2, h3, Or.inr ⟨h4, i, by omega, h6⟩⟩)
      have hO' := hO.skU hu hso
      refine wp.go [23, 34] 20 fun W C hW hC => ?_
      refine ⟨_, _, _, _, hO'.2.1, rfl, rfl, ?_⟩
      refine ⟨fun q => absurd q (by omega), fun _ => ?_⟩
      exact hW _ (inner (deg H c) 0 H' E (by omega) hu hE hP)
  have one : ∀ (j c : Nat) (H' : AH), j + c = H.1 → skU s h H' → SkAt H' s (K.1 + c, K.2) → wp (d + 3) 227 (2, [some (vR (some s)), some (vR (some o)), some (vI ((K.1 : Nat) : Int)), some (vI ((c : Nat) : Int)), none], [], H') (fun r h' => r = .inl none ∧ skU s h h' ∧ SkAt h' s (gJoin K H)) := by
    intro j
    induction j with
    | zero =>
      intro c H' hj hu hE
      obtain rfl : c = H.1 := by omega
      have hO' := hO.skU hu hso
      refine wp.go [2, 23] 20 fun W C hW hC => ?_
      refine ⟨_, _, _, _, hO'.2.1, rfl, rfl, ?_⟩
      refine ⟨fun _ => ?_, fun q => absurd q (by omega)⟩
      refine hW _ (two H.1 0 H' K.2 none (by omega) hu hE fun a b => ⟨Or.inl, ?_⟩)
      rintro (w | ⟨x, y, h1, h2, h3, h4 | ⟨-, i, h5, -⟩⟩)
      · exact w
      · omega
      · omega
    | succ j ih =>
      intro c H' hj hu hE
      have hO' := hO.skU hu hso
      refine wp.go [2, 23] 20 fun W C hW hC => ?_
      refine ⟨_, _, _, _, hO'.2.1, rfl, rfl, ?_⟩
      refine ⟨fun q => absurd q (by omega), fun _ => ?_⟩
      refine ⟨_, _, _, hE.2.1, rfl, ?_⟩
      refine hC _ _ _ (use (wpd.up (by omega) (cadds_spec (d := 0) hE ⟨by show K.1 + c ≤ 16; omega, fun a b w => by have := hK.2 a b w; exact ⟨by show a < K.1 + c; omega, by show b < K.1 + c; omega, this.2.2⟩⟩ (by show K.1 + c < 16; omega))) ?_)
      rintro _ H2 ⟨rfl, u2, S2⟩
      (conv => whnf); simp (disch := omega) only [iadd_eq, isub_eq, imul_eq]
      exact hW _ (ih (c + 1) H2 (by omega) (hu.trans u2) S2)
  refine wp.go [2] 10 fun W C hW hC => ?_
  exact hW _ (one H.1 0 h (by omega) skU.refl hS)
theorem copy_spec (hO : SkAt h o H) (hH : H.wf) (hd : ∀ a, deg H a ≤ 4) : wp (d + 4) 226 (0, ent 2 [vR (some o)], [], h) (fun r h' => r = .inl (some (vR (some h.sz))) ∧ ext 19 99 h h' ∧ h'.sz = h.sz + 19 ∧ SkAt h' h.sz H) := by
  have hn := hH.2.1
  refine wp.go [] 20 fun W C hW hC => ?_
  refine hC _ _ _ (use (wpd.up (by omega) (skInit_spec (d := 0) (h := h.newF 2 [vR none, vR none, vI 0]) (s := h.sz) rfl newF_at)) ?_)
  rintro _ h1 ⟨rfl, a1, a2, a3, a4, a5⟩
  obtain ⟨e1, e2⟩ := sk_new (s := h.sz) ⟨a1, a2, a3, a4⟩
  refine ⟨_, _, _, a5.2.1, rfl, ?_⟩
  have ho := hO.1
  refine hC _ _ _ (use (wpd.up (by omega) (ctakes_spec (d := 0) (K := gNil) a5 ⟨by decide, fun a b w => by cases w⟩ (hO.mono e1) hH (Or.inl (by omega)) (by show 0 + H.1 ≤ 16; omega) (by rw [join_nil]; exact hd))) ?_)
  rintro _ h2 ⟨rfl, u, S2⟩
  rw [join_nil] at S2
  exact ⟨rfl, e1.skU (Nat.le_refl _) u, by rw [u.1]; exact e2, S2⟩
end TAKES
