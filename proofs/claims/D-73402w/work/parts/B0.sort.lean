/-! A BRANCH IS MADE: its parts come to stand by their greatness -/
theorem BrL.to {h0 H : AH} (hs : h0.sz ≤ H.sz) (hk : ∀ a, a < h0.sz → H.R a = h0.R a ∧ H.F a = h0.F a) : ∀ {t : Tr} {rs : List (Option Nat)}, BrL h0 t rs → BrL H t rs
  | .var _, _, k => k
  | .op a b, rs, ⟨x, p, r, qs, k1, ⟨k2, k3, k4, k5, k6⟩, k7⟩ => ⟨x, p, r, qs, k1, ⟨Nat.lt_of_lt_of_le k2 hs, (hk x k2).2.trans k3, Nat.lt_of_lt_of_le k4 hs, (hk p k4).1.trans k5, BrL.to hs hk k6⟩, BrL.to hs hk k7⟩
theorem BrAt.to {h0 H : AH} {x : Nat} {t : Tr} (k : BrAt h0 x t) (hs : h0.sz ≤ H.sz) (hk : ∀ a, a < h0.sz → H.R a = h0.R a ∧ H.F a = h0.F a) : BrAt H x t := by
  obtain ⟨p, qs, k2, k3, k4, k5, k6⟩ := k
  exact ⟨p, qs, by omega, (hk x k2).2.trans k3, by omega, (hk p k4).1.trans k5, BrL.to hs hk k6⟩
theorem setR_setR {h : AH} {p : Nat} {a b : List (Option Nat)} : (h.setR p a).setR p b = h.setR p b := by
  have e : va_up (h.setR p a).R p (((h.setR p a).R p).1, b) = (h.setR p b).R := by
    funext q
    show (if q = p then (((if p = p then ((h.R p).1, a) else h.R p)).1, b) else if q = p then ((h.R p).1, a) else h.R q) = if q = p then ((h.R p).1, b) else h.R q
    by_cases c : q = p
    · rw [if_pos c, if_pos c, if_pos rfl]
    · rw [if_neg c, if_neg c, if_neg c]
  show ((h.setR p a).1, (h.setR p a).2.1, (h.setR p a).I, va_up (h.setR p a).R p (((h.setR p a).R p).1, b), (h.setR p a).F, (h.setR p a).S) = _
  rw [e]
  rfl
theorem setR_self {h : AH} {p t : Nat} {a : List (Option Nat)} (e : h.R p = (t, a)) : h.setR p a = h := by
  have e2 : va_up h.R p ((h.R p).1, a) = h.R := by
    funext q
    show (if q = p then ((h.R p).1, a) else h.R q) = h.R q
    by_cases c : q = p
    · rw [if_pos c, c, e]
    · rw [if_neg c]
  show (h.1, h.2.1, h.I, va_up h.R p ((h.R p).1, a), h.F, h.S) = h
  rw [e2]
theorem set_mid {α : Type} {L1 L2 : List α} {w v : α} : (L1 ++ w :: L2).set L1.length v = L1 ++ v :: L2 := by
  induction L1 with
  | nil => rfl
  | cons a r ih => simp only [List.cons_append, List.length_cons, List.set_cons_succ, ih]
theorem get_mid {α : Type} {L1 L2 : List α} {w : α} : (L1 ++ w :: L2)[L1.length]? = some w := by
  rw [List.getElem?_append_right (Nat.le_refl _), Nat.sub_self]; rfl
theorem insT_at {b : Tr} : ∀ {P1 P2 : List Tr}, (∀ x, x ∈ P1 → ¬ cmpT x b < 0) → (∀ x, P2[0]? = some x → cmpT x b < 0) → insT b (P1 ++ P2) = P1 ++ b :: P2
  | [], [], _, _ => rfl
  | [], x :: r, _, h => by rw [List.nil_append, List.nil_append]; unfold insT; rw [if_pos (h x rfl)]
  | y :: s, P2, h1, h2 => by
    rw [List.cons_append]
    unfold insT
    rw [if_neg (h1 y List.mem_cons_self), insT_at (fun x hx => h1 x (List.mem_cons_of_mem _ hx)) h2]
    rfl
abbrev Zs : Type := List (Nat × Tr)
abbrev refZ (z : Zs) : List (Option Nat) := z.map fun y => some y.1
abbrev treZ (z : Zs) : List Tr := z.map fun y => y.2
theorem sorted_app : ∀ {P1 : List Tr} {P2 : List Tr}, sortedT (P1 ++ P2) → ∀ x y, x ∈ P1 → y ∈ P2 → 0 ≤ cmpT x y
  | [], _, _, x, _, hx, _ => nomatch hx
  | a :: r, P2, h, x, y, hx, hy => by
    rcases List.mem_cons.mp hx with rfl | hx
    · exact h.1 y (List.mem_append.mpr (Or.inr hy))
    · exact sorted_app h.2 x y hx hy
section SORT
variable {d : Nat} {hB : AH} {x p : Nat} {V : Nat × Tr → Prop}
theorem ins_parts {Z rest : Zs} {y : Nat × Tr} (hV : ∀ z, V z → ∀ ar, BrAt (hB.setR p ar) z.1 z.2) (hR : (hB.R p).1 = 1)
    (hZ : ∀ z, z ∈ Z → V z ∧ okT0 z.2 ∧ szT z.2 ≤ 16) (hy : V y ∧ okT0 y.2 ∧ szT y.2 ≤ 16) (hst : sortedT (treZ Z)) (hl : Z.length ≤ 100) {x5 x6 : Option AV} {Q : Rs → AH → Prop}
    (hQ : ∀ Z' x4, treZ Z' = insT y.2 (treZ Z) → Z'.length = Z.length + 1 → (∀ z, z ∈ Z' → z = y ∨ z ∈ Z) → wp (d + 18) 413 (63, [some (vR (some x)), some (vR (some p)), some (vI ((Z.length : Nat) : Int)), some (vR (some y.1)), x4, x5, x6], [], hB.setR p (refZ Z' ++ refZ rest)) Q) :
    ∀ (n : Nat) (Z1 Z2 : Zs) (w : Option Nat), Z1.length = n → Z = Z1 ++ Z2 → (∀ z, z ∈ Z2 → cmpT z.2 y.2 < 0) → wp (d + 18) 413 (24, [some (vR (some x)), some (vR (some p)), some (vI ((Z.length : Nat) : Int)), some (vR (some y.1)), some (vI ((Z1.length : Nat) : Int)), x5, x6], [], hB.setR p (refZ Z1 ++ w :: (refZ Z2 ++ refZ rest))) Q := by
  have hRp : ∀ ar, (hB.setR p ar).R p = (1, ar) := fun ar => by
    show (if p = p then ((hB.R p).1, ar) else hB.R p) = _
    rw [if_pos rfl, hR]
  have oat : ∀ ar (z : Nat × Tr), V z ∧ okT0 z.2 ∧ szT z.2 ≤ 16 → OAt (hB.setR p ar) (some z.1) (some z.2) := fun ar z hz => ⟨hV z hz.1 ar, hz.2⟩
  have ik : ∀ ar (z : Nat × Tr), V z ∧ okT0 z.2 ∧ szT z.2 ≤ 16 → isk (hB.setR p ar) (eok 1) (some z.1) := by
    intro ar z hz b hb
    cases hb
    refine ⟨(0, 7), rfl, by decide, ?_⟩
    show ((hB.setR p ar).F z.1).1 % 200 = 7
    rw [(oat ar z hz).1.choose_spec.choose_spec.2.1]
    rfl
  have fin : ∀ (Z1 Z2 : Zs) (w : Option Nat), Z = Z1 ++ Z2 → (∀ z, z ∈ Z2 → cmpT z.2 y.2 < 0) → (∀ z, z ∈ Z1 → ¬ cmpT z.2 y.2 < 0) → wp (d + 18) 413 (58, [some (vR (some x)), some (vR (some p)), some (vI ((Z.length : Nat) : Int)), some (vR (some y.1)), some (vI ((Z1.length : Nat) : Int)), x5, x6], [], hB.setR p (refZ Z1 ++ w :: (refZ Z2 ++ refZ rest))) Q := by
    intro Z1 Z2 w h12 h2 h1
    have hlen : Z.length = Z1.length + Z2.length := by rw [h12, List.length_append]
    refine wp.go [63] 30 fun W C hW hC => ?_
    refine ⟨_, _, hRp _, by decide, by decide, by omega, by simp only [List.length_append, List.length_map, List.length_cons]; omega, ik _ y hy, fun q => (by cases q), ?_⟩
    rw [setR_setR, Int.toNat_natCast, show (refZ Z1 ++ w :: (refZ Z2 ++ refZ rest)).set Z1.length (some y.1) = refZ Z1 ++ some y.1 :: (refZ Z2 ++ refZ rest) by
      have := set_mid (L1 := refZ Z1) (L2 := refZ Z2 ++ refZ rest) (w := w) (v := some y.1)
      rw [List.length_map] at this
      exact this]
    have key := hQ (Z1 ++ y :: Z2) (some (vI ((Z1.length : Nat) : Int))) ?_ ?_ ?_
    · have e : refZ (Z1 ++ y :: Z2) ++ refZ rest = refZ Z1 ++ some y.1 :: (refZ Z2 ++ refZ rest) := by simp
      rw [e] at key
      exact hW _ key
    · rw [h12]
      show (Z1 ++ y :: Z2).map _ = _
      rw [List.map_append, List.map_cons]
      unfold treZ
      rw [List.map_append]
      refine (insT_at (fun v hv => ?_) (fun v hv => ?_)).symm
      · obtain ⟨z, hz, rfl⟩ := List.mem_map.mp hv
        exact h1 z hz
      · cases Z2 with
        | nil => simp at hv
        | cons z r =>
          have hv : some z.2 = some v := hv
          cases hv
          exact h2 z List.mem_cons_self
    · rw [hlen, List.length_append, List.length_cons]; omega
    · intro z hz
      rw [h12]
      rcases List.mem_append.mp hz with hz | hz
      · exact Or.inr (List.mem_append.mpr (Or.inl hz))
      · rcases List.mem_cons.mp hz with rfl | hz
        · exact Or.inl rfl
        · exact Or.inr (List.mem_append.mpr (Or.inr hz))
  intro n
  induction n with
  | zero =>
    intro Z1 Z2 w hn h12 h2
    obtain rfl : Z1 = [] := List.length_eq_zero_iff.mp hn
    refine wp.go [24, 58] 30 fun W C hW hC => ?_
    refine ⟨fun _ => ?_, fun c => absurd c (by simp)⟩
    exact hW _ (fin [] Z2 w h12 h2 (fun z hz => (nomatch hz)))
  | succ n ih =>
    intro Z1 Z2 w hn h12 h2
    obtain ⟨Y, z, rfl⟩ : ∃ Y z, Z1 = Y ++ [z] := snoc_ex Z1 (fun e => by rw [e] at hn; simp at hn)
    have hYn : Y.length = n := by rw [List.length_append, List.length_singleton] at hn; omega
    have hlen : Z.length = Y.length + 1 + Z2.length := by rw [h12, List.length_append, List.length_append, List.length_singleton]
    have hzZ : z ∈ Z := by rw [h12]; simp
    have hget : (refZ (Y ++ [z]) ++ w :: (refZ Z2 ++ refZ rest))[Y.length]? = some (some z.1) := by
      have := get_mid (L1 := refZ Y) (w := some z.1) (L2 := w :: (refZ Z2 ++ refZ rest))
      rw [List.length_map] at this
      rw [← this]
      simp
    refine wp.go [24, 58] 60 fun W C hW hC => ?_
    refine ⟨fun c => absurd c (by rw [List.length_append, List.length_singleton]; omega), fun _ => ?_⟩
    rw [List.length_append, List.length_singleton]
    (conv => whnf); simp (disch := omega) only [iadd_eq, isub_eq, imul_eq]
    refine ⟨_, _, _, hRp _, by decide, by omega, by rw [show (((Y.length + 1 : Nat) : Int) - 1).toNat = Y.length by omega]; exact hget, ?_⟩
    refine ⟨_, _, _, (oat _ z (hZ z hzZ)).1.choose_spec.choose_spec.2.1, rfl, ?_⟩
    refine hC _ _ _ (use (cmp16 (oat _ z (hZ z hzZ)) (oat _ y hy)) ?_); rintro _ _ ⟨rfl, rfl⟩
    refine ⟨fun q => ?_, fun q => ?_⟩
    · have key := fin (Y ++ [z]) Z2 w h12 h2 (fun v hv => ?_)
      · rw [List.length_append, List.length_singleton] at key
        exact hW _ key
      · rcases List.mem_append.mp hv with hv | hv
        · have h1 : 0 ≤ cmpT v.2 z.2 := by
            rw [h12] at hst
            have e : treZ (Y ++ [z] ++ Z2) = treZ Y ++ (z.2 :: treZ Z2) := by simp
            rw [e] at hst
            exact sorted_app hst v.2 z.2 (List.mem_map.mpr ⟨v, hv, rfl⟩) List.mem_cons_self
          have := cmpT_trans h1 (show 0 ≤ cmpT z.2 y.2 by omega)
          omega
        · rw [List.mem_singleton.mp hv]; omega
    · (conv => whnf); simp (disch := omega) only [iadd_eq, isub_eq, imul_eq]
      refine ⟨_, _, _, hRp _, by decide, by omega, by rw [show (((Y.length + 1 : Nat) : Int) - 1).toNat = Y.length by omega]; exact hget, ?_⟩
      refine ⟨_, _, hRp _, by decide, by decide, by omega, by simp only [List.length_append, List.length_map, List.length_cons, List.length_nil]; omega, ik _ z (hZ z hzZ), fun q => (by cases q), ?_⟩
      rw [setR_setR, Int.toNat_natCast, show (refZ (Y ++ [z]) ++ w :: (refZ Z2 ++ refZ rest)).set (Y.length + 1) (some z.1) = refZ Y ++ some z.1 :: (refZ (z :: Z2) ++ refZ rest) by
        have := set_mid (L1 := refZ (Y ++ [z])) (L2 := refZ Z2 ++ refZ rest) (w := w) (v := some z.1)
        rw [List.length_map, List.length_append, List.length_singleton] at this
        rw [this]
        simp]
      (conv => whnf); simp (disch := omega) only [iadd_eq, isub_eq, imul_eq]
      rw [show ((Y.length + 1 : Nat) : Int) + -1 = ((Y.length : Nat) : Int) by omega]
      refine hW _ (ih Y (z :: Z2) (some z.1) hYn (by rw [h12]; simp) (fun v hv => ?_))
      rcases List.mem_cons.mp hv with rfl | hv
      · exact q
      · exact h2 v hv
end SORT
