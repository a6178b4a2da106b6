/-! BRANCHES, all that they lie on in a set of places -/
def BrI (P : Nat → Prop) (h : AH) : Tr → List (Option Nat) → Prop
  | .var _, rs => rs = []
  | .op a b, rs => ∃ x p r qs, rs = some x :: r ∧ (P x ∧ h.F x = (7, brF p a) ∧ P p ∧ h.R p = (1, qs) ∧ BrI P h a qs) ∧ BrI P h b r
def BrA (P : Nat → Prop) (h : AH) (x : Nat) (t : Tr) : Prop := ∃ p qs, P x ∧ h.F x = (7, brF p t) ∧ P p ∧ h.R p = (1, qs) ∧ BrI P h t qs
theorem BrI.to {P P' : Nat → Prop} {h H : AH} (hk : ∀ a, P a → P' a ∧ H.R a = h.R a ∧ H.F a = h.F a) : ∀ {t : Tr} {rs : List (Option Nat)}, BrI P h t rs → BrI P' H t rs
  | .var _, _, k => k
  | .op a b, rs, ⟨x, p, r, qs, k1, ⟨k2, k3, k4, k5, k6⟩, k7⟩ => ⟨x, p, r, qs, k1, ⟨(hk x k2).1, (hk x k2).2.2.trans k3, (hk p k4).1, (hk p k4).2.1.trans k5, BrI.to hk k6⟩, BrI.to hk k7⟩
theorem BrA.to {P P' : Nat → Prop} {h H : AH} {x : Nat} {t : Tr} (k : BrA P h x t) (hk : ∀ a, P a → P' a ∧ H.R a = h.R a ∧ H.F a = h.F a) : BrA P' H x t := by
  obtain ⟨p, qs, k2, k3, k4, k5, k6⟩ := k
  exact ⟨p, qs, (hk x k2).1, (hk x k2).2.2.trans k3, (hk p k4).1, (hk p k4).2.1.trans k5, BrI.to hk k6⟩
theorem BrI.at {P : Nat → Prop} {h : AH} (hk : ∀ a, P a → a < h.sz) : ∀ {t : Tr} {rs : List (Option Nat)}, BrI P h t rs → BrL h t rs
  | .var _, _, k => k
  | .op a b, rs, ⟨x, p, r, qs, k1, ⟨k2, k3, k4, k5, k6⟩, k7⟩ => ⟨x, p, r, qs, k1, ⟨hk x k2, k3, hk p k4, k5, BrI.at hk k6⟩, BrI.at hk k7⟩
theorem BrA.at {P : Nat → Prop} {h : AH} {x : Nat} {t : Tr} (k : BrA P h x t) (hk : ∀ a, P a → a < h.sz) : BrAt h x t := by
  obtain ⟨p, qs, k2, k3, k4, k5, k6⟩ := k
  exact ⟨p, qs, hk x k2, k3, hk p k4, k5, BrI.at hk k6⟩
theorem BrL.in {h : AH} : ∀ {t : Tr} {rs : List (Option Nat)}, BrL h t rs → BrI (fun a => a < h.sz) h t rs
  | .var _, _, k => k
  | .op a b, rs, ⟨x, p, r, qs, k1, ⟨k2, k3, k4, k5, k6⟩, k7⟩ => ⟨x, p, r, qs, k1, ⟨k2, k3, k4, k5, BrL.in k6⟩, BrL.in k7⟩
theorem BrAt.in {h : AH} {x : Nat} {t : Tr} (k : BrAt h x t) : BrA (fun a => a < h.sz) h x t := by
  obtain ⟨p, qs, k2, k3, k4, k5, k6⟩ := k
  exact ⟨p, qs, k2, k3, k4, k5, BrL.in k6⟩
theorem BrI_of {P : Nat → Prop} {h : AH} : ∀ {l : List Tr} {rs : List (Option Nat)}, rs.length = l.length → (∀ (k : Nat) (u : Tr), l[k]? = some u → ∃ x, rs[k]? = some (some x) ∧ BrA P h x u) → BrI P h (mkT l) rs
  | [], rs, h1, _ => List.length_eq_zero_iff.mp h1
  | a :: l, rs, h1, h2 => by
    obtain ⟨x, hx, p, qs, k2⟩ := h2 0 a rfl
    cases rs with
    | nil => simp at h1
    | cons y r =>
      have hx : some y = some (some x) := hx
      cases hx
      refine ⟨x, p, r, qs, rfl, k2, BrI_of (by simpa using h1) fun k u hk => ?_⟩
      have := h2 (k + 1) u (by rw [List.getElem?_cons_succ]; exact hk)
      rw [List.getElem?_cons_succ] at this
      exact this
/-- what Branch's constructor leaves -/
theorem brMade {P Q : Nat → Prop} {h : AH} {x p : Nat} {f0 : List AV} {r0 : List (Option Nat)} {Z : Zs} (hx : Q x) (hp : Q p) (HF : h.F x = (7, f0)) (HR : h.R p = (1, r0)) (hZ : ∀ z, z ∈ Z → BrA P h z.1 z.2) (hPQ : ∀ a, P a → Q a ∧ a ≠ x ∧ a ≠ p) : BrA Q ((h.setR p (refZ Z)).setF x (brF p (mkT (treZ Z)))) x (mkT (treZ Z)) := by
  refine ⟨p, refZ Z, hx, setF_at (x := f0) HF, hp, setR_at (h := h) HR, BrI_of (by rw [List.length_map, List.length_map]) fun k u hk => ?_⟩
  rw [List.getElem?_map] at hk
  cases e : Z[k]? with
  | none => rw [e] at hk; cases hk
  | some z =>
    rw [e] at hk
    cases hk
    refine ⟨z.1, by rw [List.getElem?_map, e]; rfl, (hZ z (List.mem_of_getElem? e)).to fun a ha => ⟨(hPQ a ha).1, ?_, ?_⟩⟩
    · exact setR_ne (hPQ a ha).2.2
    · exact setF_ne (hPQ a ha).2.1
/-! what was made since may change -/
theorem ext.setR {c s p : Nat} {h H : AH} {x : List (Option Nat)} (e : ext c s h H) (hp : h.sz ≤ p) : ext c s h (H.setR p x) := by
  obtain ⟨a1, a2, a3, a4, a5, a6⟩ := e
  exact ⟨a1, a2, a3, a4, fun a ha => ⟨(a5 a ha).1, by rw [setR_ne (by omega)]; exact (a5 a ha).2.1, (a5 a ha).2.2⟩, a6⟩
theorem ext.setI {c s p : Nat} {h H : AH} {x : List Int} (e : ext c s h H) (hp : h.sz ≤ p) : ext c s h (H.setI p x) := by
  obtain ⟨a1, a2, a3, a4, a5, a6⟩ := e
  exact ⟨a1, a2, a3, a4, fun a ha => ⟨by rw [setI_ne (by omega)]; exact (a5 a ha).1, (a5 a ha).2.1, (a5 a ha).2.2⟩, a6⟩
theorem ext.setF {c s p : Nat} {h H : AH} {x : List AV} (e : ext c s h H) (hp : h.sz ≤ p) : ext c s h (H.setF p x) := by
  obtain ⟨a1, a2, a3, a4, a5, a6⟩ := e
  exact ⟨a1, a2, a3, a4, fun a ha => ⟨(a5 a ha).1, (a5 a ha).2.1, by rw [setF_ne (by omega)]; exact (a5 a ha).2.2⟩, a6⟩
theorem newF_R {h : AH} {t a : Nat} {x : List AV} : (h.newF t x).R a = h.R a := rfl
theorem newF_ne {h : AH} {t a : Nat} {x : List AV} (e : a ≠ h.sz) : (h.newF t x).F a = h.F a := if_neg e
theorem newR_ne {h : AH} {t a : Nat} {x : List (Option Nat)} (e : a ≠ h.sz) : (h.newR t x).R a = h.R a := if_neg e
theorem newI_ne {h : AH} {t a : Nat} {x : List Int} (e : a ≠ h.sz) : (h.newI t x).I a = h.I a := if_neg e
/-! trees of a skeleton: bounds -/
section BRB
variable {G : Gr} {D : Nat → Nat → Nat}
theorem bszF_le (hG : G.wf) (hD : Far G D) {a c : Nat} (h : G.2 a c = true ∨ a = 16) (hc : c < G.1) : bszF G D a c ≤ G.1 := by
  rcases h with h | h
  · have := bsz_lt hG hD h
    rw [bsz_eq hG hD h] at this
    unfold bszF
    omega
  · subst h
    unfold bszF
    rw [← root_eq hG hD hc]
    omega
theorem TT_ways (hG : G.wf) (hd : ∀ a, deg G a ≤ 4) (hD : Far G D) : ∀ a c, G.2 a c = true → waysT (TT G a c) ≤ 6 ^ szT (TT G a c) := by
  refine br_ind hG hD _ fun a c hac ih => ?_
  rw [TT_eq hG hD (Or.inl hac)]
  have hl : (srtT ((ch G a c).map (TT G c))).length + 1 = deg G c := by rw [srt_len, List.length_map, ch_len hG hac]
  have hdc := hd c
  have hall : ∀ v, v ∈ srtT ((ch G a c).map (TT G c)) → okT0 v ∧ waysT v ≤ 6 ^ szT v := by
    intro v hv
    rw [srt_mem, List.mem_map] at hv
    obtain ⟨e, he, rfl⟩ := hv
    obtain ⟨h1, h2⟩ := (ch_mem hG).mp he
    exact ⟨TT_ok G c e, ih e h1 h2⟩
  rw [ways_mk (by omega) fun v hv => (hall v hv).1, sz_mk, Nat.pow_add, Nat.mul_comm]
  exact Nat.mul_le_mul ((symD_le _ (by omega)).2 (by omega)) (prodW_le _ fun v hv => (hall v hv).2)
end BRB
/-- all below have three branches at most -/
def ok3 : Tr → Prop
  | .var _ => True
  | .op a b => ((kidsT a).length ≤ 3 ∧ ok3 a) ∧ ok3 b
theorem ok3_iff : ∀ {t : Tr}, ok3 t ↔ ∀ v, v ∈ kidsT t → (kidsT v).length ≤ 3 ∧ ok3 v
  | .var _ => ⟨fun _ v hv => (nomatch hv), fun _ => trivial⟩
  | .op a b => by
    constructor
    · rintro ⟨h1, h2⟩ v hv
      rcases List.mem_cons.mp hv with rfl | hv
      · exact h1
      · exact ok3_iff.mp h2 v hv
    · intro h
      exact ⟨h a List.mem_cons_self, ok3_iff.mpr fun v hv => h v (List.mem_cons_of_mem _ hv)⟩
theorem ok3_ways : ∀ (n : Nat) (t : Tr), szT t ≤ n → okT0 t → ok3 t → (kidsT t).length ≤ 3 → waysT t ≤ 6 ^ szT t := by
  intro n
  induction n with
  | zero => intro t h; have := sz_pos t; omega
  | succ n ih =>
    intro t hn h1 h2 h3
    have hm := mk_kids t h1
    have hsz : szT t = 1 + sumS (kidsT t) := by
      have := sz_mk (kidsT t)
      rw [hm] at this
      exact this
    have ho : ∀ v, v ∈ kidsT t → okT0 v := ok_kid t h1
    have hw : waysT t = prodW (kidsT t) * symD 5 (kidsT t) := by
      have := ways_mk (show (kidsT t).length ≤ 4 by omega) ho
      rw [hm] at this
      exact this
    have hp := prodW_le (kidsT t) fun v hv => ih v (by have := sz_kid t v hv; omega) (ho v hv) (ok3_iff.mp h2 v hv).2 (ok3_iff.mp h2 v hv).1
    have hq := (symD_le (kidsT t) (by omega)).2 h3
    rw [hw, hsz, Nat.pow_add, Nat.mul_comm]
    exact Nat.mul_le_mul hq hp
theorem ok3_marks : ∀ (n : Nat) (t : Tr), szT t ≤ n → okT0 t → ok3 t → (kidsT t).length ≤ 3 → wB (3 * szT t) (wOf t) ∧ wOf t 0 = 1 := by
  intro n
  induction n with
  | zero => intro t h; have := sz_pos t; omega
  | succ n ih =>
    intro t hn h1 h2 h3
    have hm := mk_kids t h1
    have hsz : szT t = 1 + sumS (kidsT t) := by
      have := sz_mk (kidsT t)
      rw [hm] at this
      exact this
    have ho : ∀ v, v ∈ kidsT t → okT0 v := ok_kid t h1
    have ihk : ∀ v, v ∈ kidsT t → wB (3 * szT v) (wOf v) ∧ wOf v 0 = 1 := fun v hv => ih v (by have := sz_kid t v hv; omega) (ho v hv) (ok3_iff.mp h2 v hv).2 (ok3_iff.mp h2 v hv).1
    have hw : wOf t = mrkD wOf 5 (kidsT t) (hyd (3 - ((kidsT t).length : Int))) := by
      have := marks_mk (h := 3 - ((kidsT t).length : Int)) (show (kidsT t).length ≤ 5 by omega) ho
      rw [hm] at this
      exact this
    rw [hw]
    refine ⟨?_, mrk0 5 _ _ (fun v hv => (ihk v hv).2) (if_pos (by show ((0 : Nat) : Int) ≤ _; omega))⟩
    have := wB_mrk (w := wOf) 5 (kidsT t) _ 3 (by omega) ho (fun v hv => (ihk v hv).1) (wB_hyd (h := 3 - ((kidsT t).length : Int)) (by omega))
    rw [show 3 * szT t = 3 + 3 * sumS (kidsT t) by omega]
    exact this
section OK3
variable {G : Gr} {D : Nat → Nat → Nat}
theorem TT_ok3 (hG : G.wf) (hd : ∀ a, deg G a ≤ 4) (hD : Far G D) : ∀ a c, G.2 a c = true → (kidsT (TT G a c)).length ≤ 3 ∧ ok3 (TT G a c) := by
  refine br_ind hG hD _ fun a c hac ih => ?_
  have hdc := hd c
  refine ⟨by rw [kids_len hG hD (Or.inl hac)]; have := ch_len hG hac; omega, ok3_iff.mpr fun v hv => ?_⟩
  rw [TT_kids hG hD (Or.inl hac), srt_mem, List.mem_map] at hv
  obtain ⟨e, he, rfl⟩ := hv
  obtain ⟨h1, h2⟩ := (ch_mem hG).mp he
  exact ih e h1 h2
theorem TT_ok3r (hG : G.wf) (hd : ∀ a, deg G a ≤ 4) (hD : Far G D) (c : Nat) : (kidsT (TT G 16 c)).length ≤ 4 ∧ ok3 (TT G 16 c) := by
  have hdc := hd c
  refine ⟨by rw [kids_len hG hD (Or.inr rfl), ch_root hG]; exact hdc, ok3_iff.mpr fun v hv => ?_⟩
  rw [TT_kids hG hD (Or.inr rfl), srt_mem, List.mem_map] at hv
  obtain ⟨e, he, rfl⟩ := hv
  obtain ⟨h1, h2⟩ := (ch_mem hG).mp he
  exact TT_ok3 hG hd hD c e h1
end OK3
