/-! READING NAMES in the component (printed by tools/mkHS.py) -/
abbrev nR (t : List Int) (k : Nat) (G : Gr) (st : List Op) : Nat ⊕ Gr := nRun t 122 k G st
section NAMESC
variable {d x : Nat} {h0 h : AH} {t : List Int} {k : Nat} {G : Gr}
theorem nR_step {st : List Op} (h : nOk t k G st) (h120 : t.length ≤ 120) : nR t k G st = if st.length ≤ 1 ∧ chr t k = -1 then .inr G else (match nStep t k G st with
    | .inl e => .inl e
    | .inr z => nR t z.1 z.2.1 z.2.2) := by
  have hk := h.1
  show nRun t (121 + 1) k G st = _
  conv => lhs; unfold nRun
  split
  · rfl
  · cases e2 : nStep t k G st with
    | inl y => rfl
    | inr z =>
      obtain ⟨q1, q2⟩ := nstep_ok h e2
      exact nRun_fuel 121 122 _ _ _ q2 (by omega) (by omega)
theorem nR_to {st : List Op} {z : Nat × Gr × List Op} (h : nOk t k G st) (h120 : t.length ≤ 120) (hc : chr t k ≠ -1) (e : nStep t k G st = .inr z) : nR t k G st = nR t z.1 z.2.1 z.2.2 ∧ k < z.1 ∧ nOk t z.1 z.2.1 z.2.2 := by
  refine ⟨?_, nstep_ok h e⟩
  rw [nR_step h h120, if_neg (fun q => hc q.2), e]
theorem nR_bad {st : List Op} {e : Nat} (h : nOk t k G st) (h120 : t.length ≤ 120) (hc : ¬ (st.length ≤ 1 ∧ chr t k = -1)) (q : nStep t k G st = .inl e) : nR t k G st = .inl e := by
  rw [nR_step h h120, if_neg hc, q]
def chE (h0 : AH) (x : Nat) (t : List Int) (z : Nat ⊕ Gr) (k : Nat) (r0 : List Op) : Rs → AH → Prop := fun r h' => (∃ e, z = .inl e ∧ RdX h0 e r h') ∨ (∃ k' G' op, r = .inl none ∧ RdS h0 5 x k' G' h' ∧ k ≤ k' ∧ nOk t k' G' (op :: r0) ∧ z = nR t k' G' (op :: r0) ∧ chr t k' ≠ 45)
theorem chE.low {z : Nat ⊕ Gr} {k k1 : Nat} {r0 : List Op} {r : Rs} {h' : AH} (q : chE h0 x t z k1 r0 r h') (hk : k ≤ k1) : chE h0 x t z k r0 r h' := by
  rcases q with q | ⟨k', G', op, q1, q2, q3, q4⟩
  · exact Or.inl q
  · exact Or.inr ⟨k', G', op, q1, q2, by omega, q4⟩
def NLoop (h0 : AH) (x : Nat) (t : List Int) (D k : Nat) (r0 : List Op) : Prop := ∀ (G : Gr) (g : AH) (op : Op) (l1 l2 l5 : Int), RdS h0 5 x k G g → nOk t k G (op :: r0) →
  wp (D) 410 (76, [some (vR (some h0.sz)), some (vI l1), some (vI l2), some (vI ((op.2.1 : Nat) : Int)), some (vI ((op.1 : Nat) : Int)), some (vI l5), some (vI ((op.2.2 : Nat) : Int))], [], g) (chE h0 x t (nR t k G (op :: r0)) k r0)
/-- where a chain that begins comes to -/
def chZ (t : List Int) (k : Nat) (G : Gr) (to : Int) (r0 : List Op) : Nat ⊕ Gr := match lenR t k G to false with
  | .inl e => .inl e
  | .inr y => nR t y.1 y.2 ((G.1, y.2.1 - G.1, 1) :: r0)
theorem chain_of (hE : RdE h0 x t) {to : Int} {r0 : List Op} (hd : 6 ≤ d) (hk : k ≤ t.length) (hS : RdS h0 5 x k G h) (hto : rdTo G to) (hr : ∀ w, w ∈ r0 → w.1 + w.2.1 ≤ G.1 ∧ 1 ≤ w.2.2) (hrl : r0.length ≤ G.1) (loop : ∀ k1, k < k1 → NLoop h0 x t (d + 1) k1 r0) :
    wp (d + 1) 410 (0, ent 7 [vR (some h0.sz), vI to], [], h) (chE h0 x t (chZ t k G to r0) k r0) := by
  have h120 := hE.2.2.2.1
  have adds : isDig t k → ∀ (n : Nat), (digs t k 0).2 = n → 1 ≤ n → n ≤ 16 → G.1 + n ≤ 16 → ∀ (j i : Nat) (g : AH), j + i = n → RdS h0 5 x (digs t k 0).1 (gAdds G to i) g →
      wp (d + 1) 410 (53, [some (vR (some h0.sz)), some (vI to), some (vI ((k : Nat) : Int)), some (vI ((n : Nat) : Int)), some (vI ((G.1 : Nat) : Int)), some (vI (lasT G to i)), some (vI ((i : Nat) : Int))], [], g) (chE h0 x t (chZ t k G to r0) k r0) := by
    intro hdg n hn h1 h2 h3 j
    induction j with
    | zero =>
      intro i g hj hg
      obtain rfl : i = n := by omega
      have ha := adds_n G to i
      have hl : lenR t k G to false = .inr ((digs t k 0).1, gAdds G to i) := by
        unfold lenR
        rw [hn, if_neg (Classical.not_not.mpr hdg), if_neg (Classical.not_not.mpr ⟨h1, h2⟩), if_neg (fun q => by cases q.1), if_neg (by omega)]
      have hz : chZ t k G to r0 = nR t (digs t k 0).1 (gAdds G to i) ((G.1, (gAdds G to i).1 - G.1, 1) :: r0) := by
        unfold chZ
        rw [hl]
      obtain ⟨o1, o2, o3, o4⟩ := len_ok (isB := false) hk (by
        rcases hto with q | ⟨q1, q2, q3, q4⟩
        · exact Or.inl q
        · exact Or.inr ⟨q1, q2, q3, fun _ => q4⟩) hl
      have hok : nOk t (digs t k 0).1 (gAdds G to i) ((G.1, (gAdds G to i).1 - G.1, 1) :: r0) := by
        refine ⟨o2, by simp, o3, fun w hw => ?_, by rw [List.length_cons]; omega⟩
        rcases List.mem_cons.mp hw with rfl | hw
        · exact ⟨by show G.1 + ((gAdds G to i).1 - G.1) ≤ (gAdds G to i).1; omega, Nat.le_refl _⟩
        · have := hr w hw; omega
      have key := loop (digs t k 0).1 o1 (gAdds G to i) g (G.1, (gAdds G to i).1 - G.1, 1) to ((k : Nat) : Int) (lasT G to i) hg hok
      rw [hz]
      have e : (((gAdds G to i).1 - G.1 : Nat) : Int) = ((i : Nat) : Int) := by omega
      have key : wp (d + 1) 410 (76, [some (vR (some h0.sz)), some (vI to), some (vI ((k : Nat) : Int)), some (vI (((gAdds G to i).1 - G.1 : Nat) : Int)), some (vI ((G.1 : Nat) : Int)), some (vI (lasT G to i)), some (vI ((1 : Nat) : Int))], [], g) _ := key
      rw [e] at key
      refine wp.go [53, 76] 20 fun W C0 hW hC => ?_
      refine ⟨fun _ => ?_, fun c => absurd c (by omega)⟩
      exact hW _ (wpd.mono (fun r h' w => w.low (by omega)) _ _ _ key)
    | succ j ih =>
      intro i g hj hg
      have ha := adds_n G to i
      refine wp.go [53, 76] 40 fun W C0 hW hC => ?_
      refine ⟨fun c => absurd c (by omega), fun _ => ?_⟩
      refine ⟨_, _, _, hg.2.1, rfl, ?_⟩
      refine hC _ _ _ (use (wpd.up (by omega) (radds_spec (d := 0) hg (Or.inr rfl) (adds_to hto i (by omega)) (by omega))) ?_)
      rintro _ g2 ⟨rfl, hg2⟩
      conv => whnf
      rw [iadd_eq (by omega)]
      have key := ih (i + 1) g2 (by omega) hg2
      rw [show lasT G to (i + 1) = (((gAdds G to i).1 : Nat) : Int) by unfold lasT; rw [if_neg (by omega)]; omega] at key
      exact hW _ key
  refine wp.go [53] 60 fun W C0 hW hC => ?_
  refine ⟨_, _, _, _, hS.2.1, rfl, rfl, ?_⟩
  refine ⟨_, _, _, hS.2.1, rfl, ?_⟩
  refine hC _ _ _ (use (wpd.up (by omega) (number_spec (d := 0) (lo := 1) (hi := 16) hE hS (Or.inr rfl) (by omega) hk)) ?_)
  rintro r h1 (⟨q, w, rfl, w2, w3⟩ | ⟨hdg, q, w, rfl, w2, w3⟩ | ⟨hdg, q, rfl, hg⟩)
  · refine Or.inl ⟨8 * k + 1, ?_, w, rfl, w2, w3⟩
    unfold chZ lenR
    rw [if_pos q]
  · refine Or.inl ⟨8 * k + 2, ?_, w, rfl, w2, w3⟩
    unfold chZ lenR
    rw [if_neg (Classical.not_not.mpr hdg), if_pos q]
  · refine ⟨_, _, _, _, hg.2.1, rfl, rfl, ?_⟩
    refine ⟨_, _, _, _, hg.2.2.2.1, rfl, rfl, ?_⟩
    have hn16 : G.1 ≤ 16 := by
      rcases hto with ⟨rfl, -⟩ | ⟨q, -⟩
      · exact Nat.zero_le _
      · exact q.1.2.1
    conv => whnf
    rw [iadd_eq (by omega)]
    refine ⟨fun c => ?_, fun c => ?_⟩
    · refine ⟨_, _, _, hg.2.1, rfl, ?_⟩
      refine hC _ _ _ (use (wpd.up (by omega) (check_fail (d := 0) (h := h1) (ρ := h0.sz) (p := k) (e := 4) (by omega) (by omega))) ?_)
      rintro _ h' ⟨rfl, w⟩
      refine Or.inl ⟨8 * k + 4, ?_, hg.bad ⟨rfl, w⟩⟩
      unfold chZ lenR
      rw [if_neg (Classical.not_not.mpr hdg), if_neg (Classical.not_not.mpr q), if_neg (fun q => by cases q.1), if_pos (by omega)]
    · refine ⟨_, _, _, hg.2.1, rfl, ?_⟩
      refine hC _ _ _ (useE (wpd.up (by omega) (check_pass (d := 0))) ?_)
      refine ⟨_, _, _, _, hg.2.1, rfl, rfl, ?_⟩
      refine ⟨_, _, _, _, hg.2.2.2.1, rfl, rfl, ?_⟩
      exact hW _ (adds hdg (digs t k 0).2 rfl q.1 q.2 (by omega) (digs t k 0).2 0 h1 (by omega) hg)
/-- what a branch comes to, behind the colon -/
def brZ (t : List Int) (k : Nat) (G : Gr) (c : Nat) (op : Op) (r0 : List Op) : Nat ⊕ Gr :=
  if chr t k ≠ 40 then (match lenR t k G ((c : Nat) : Int) true with
    | .inl e => .inl e
    | .inr y => nR t y.1 y.2 (op :: r0))
  else if deg G c = 4 then .inl (8 * k + 3)
  else chZ t (k + 1) G ((c : Nat) : Int) (op :: r0)
def brE (h0 : AH) (x : Nat) (t : List Int) (z : Nat ⊕ Gr) (k : Nat) (op : Op) (r0 : List Op) : Rs → AH → Prop := fun r h' => (∃ e, z = .inl e ∧ RdX h0 e r h') ∨ (∃ k' G', r = .inl none ∧ RdS h0 5 x k' G' h' ∧ k ≤ k' ∧ nOk t k' G' (op :: r0) ∧ z = nR t k' G' (op :: r0))
theorem branchN_spec (hE : RdE h0 x t) {c : Nat} {op : Op} {r0 : List Op} (hd : 6 ≤ d) (hk : k ≤ t.length) (hS : RdS h0 5 x k G h) (hG : G.ok) (hc : c < G.1) (hr : ∀ w, w ∈ op :: r0 → w.1 + w.2.1 ≤ G.1 ∧ 1 ≤ w.2.2) (hrl : (op :: r0).length ≤ G.1) (loop : ∀ k1, k + 1 < k1 → NLoop h0 x t (d + 1) k1 (op :: r0)) :
    wp (d + 2) 411 (0, ent 6 [vR (some h0.sz), vI ((c : Nat) : Int)], [], h) (brE h0 x t (brZ t k G c op r0) k op r0) := by
  have h120 := hE.2.2.2.1
  have hn16 := hG.1.2.1
  have adds : chr t k ≠ 40 → isDig t k → deg G c ≠ 4 → ∀ (n : Nat), (digs t k 0).2 = n → 1 ≤ n → n ≤ 16 → G.1 + n ≤ 16 → ∀ (j i : Nat) (g : AH), j + i = n → RdS h0 5 x (digs t k 0).1 (gAdds G ((c : Nat) : Int) i) g →
      wp (d + 2) 411 (162, [some (vR (some h0.sz)), some (vI ((c : Nat) : Int)), some (vI ((k : Nat) : Int)), some (vI ((n : Nat) : Int)), some (vI (lasT G ((c : Nat) : Int) i)), some (vI ((i : Nat) : Int))], [], g) (brE h0 x t (brZ t k G c op r0) k op r0) := by
    intro hc40 hdg hd4 n hn h1 h2 h3 j
    have hto : rdTo G ((c : Nat) : Int) := Or.inr ⟨hG, by omega, by omega, by rw [Int.toNat_natCast]; exact hd4⟩
    induction j with
    | zero =>
      intro i g hj hg
      obtain rfl : i = n := by omega
      have ha := adds_n G ((c : Nat) : Int) i
      have hl : lenR t k G ((c : Nat) : Int) true = .inr ((digs t k 0).1, gAdds G ((c : Nat) : Int) i) := by
        unfold lenR
        rw [hn, if_neg (Classical.not_not.mpr hdg), if_neg (Classical.not_not.mpr ⟨h1, h2⟩), if_neg (fun q => by rw [Int.toNat_natCast] at q; exact hd4 q.2), if_neg (by omega)]
      obtain ⟨o1, o2, o3, o4⟩ := len_ok (isB := true) hk (Or.inr ⟨hG, by omega, by omega, fun q => by cases q⟩) hl
      refine wp.go [162] 20 fun W C0 hW hC => ?_
      refine ⟨fun _ => ?_, fun c => absurd c (by omega)⟩
      refine Or.inr ⟨_, _, rfl, hg, by omega, ⟨o2, by simp, o3, fun w hw => ?_, by omega⟩, ?_⟩
      · have := hr w hw; omega
      · unfold brZ
        rw [if_pos hc40, hl]
    | succ j ih =>
      intro i g hj hg
      have ha := adds_n G ((c : Nat) : Int) i
      refine wp.go [162] 40 fun W C0 hW hC => ?_
      refine ⟨fun c => absurd c (by omega), fun _ => ?_⟩
      refine ⟨_, _, _, hg.2.1, rfl, ?_⟩
      refine hC _ _ _ (use (wpd.up (by omega) (radds_spec (d := 0) hg (Or.inr rfl) (adds_to hto i (by omega)) (by omega))) ?_)
      rintro _ g2 ⟨rfl, hg2⟩
      conv => whnf
      rw [iadd_eq (by omega)]
      have key := ih (i + 1) g2 (by omega) hg2
      rw [show lasT G ((c : Nat) : Int) (i + 1) = (((gAdds G ((c : Nat) : Int) i).1 : Nat) : Int) by unfold lasT; rw [if_neg (by omega)]; omega] at key
      exact hW _ key
  -- without brackets
  have plain : chr t k ≠ 40 → isDig t k → wp (d + 2) 411 (96, [some (vR (some h0.sz)), some (vI ((c : Nat) : Int)), none, none, none, none], [], h) (brE h0 x t (brZ t k G c op r0) k op r0) := by
    intro hc40 hdg
    have hz : brZ t k G c op r0 = match lenR t k G ((c : Nat) : Int) true with
      | .inl e => .inl e
      | .inr y => nR t y.1 y.2 (op :: r0) := if_pos hc40
    refine wp.go [162] 90 fun W C0 hW hC => ?_
    refine ⟨_, _, _, _, hS.2.1, rfl, rfl, ?_⟩
    refine ⟨_, _, _, hS.2.1, rfl, ?_⟩
    refine hC _ _ _ (use (wpd.up (by omega) (number_spec (d := 0) (lo := 1) (hi := 16) hE hS (Or.inr rfl) (by omega) hk)) ?_)
    rintro r h1 (⟨q, -⟩ | ⟨-, q, w, rfl, w2, w3⟩ | ⟨-, q, rfl, hg⟩)
    · exact absurd hdg q
    · refine Or.inl ⟨8 * k + 2, ?_, w, rfl, w2, w3⟩
      rw [hz]
      unfold lenR
      rw [if_neg (Classical.not_not.mpr hdg), if_pos q]
    · refine ⟨_, _, _, _, hg.2.1, rfl, rfl, ?_⟩
      refine ⟨_, _, _, hg.2.2.2.1, rfl, ?_⟩
      refine hC _ _ _ (useE (wpd.up (by omega) (isFull_spec (d := 0) (c := c) hg.2.2 hn16 hc)) ?_)
      by_cases q4 : deg G c = 4
      · rw [if_pos q4]
        refine ⟨fun _ => ?_, fun w => absurd w (by decide)⟩
        refine ⟨_, _, _, hg.2.1, rfl, ?_⟩
        refine hC _ _ _ (use (wpd.up (by omega) (check_fail (d := 0) (h := h1) (ρ := h0.sz) (p := k) (e := 3) (by omega) (by omega))) ?_)
        rintro _ h' ⟨rfl, w⟩
        refine Or.inl ⟨8 * k + 3, ?_, hg.bad ⟨rfl, w⟩⟩
        rw [hz]
        unfold lenR
        rw [if_neg (Classical.not_not.mpr hdg), if_neg (Classical.not_not.mpr q), if_pos ⟨rfl, by rw [Int.toNat_natCast]; exact q4⟩]
      · rw [if_neg q4]
        refine ⟨fun w => absurd rfl w, fun _ => ?_⟩
        refine ⟨_, _, _, hg.2.1, rfl, ?_⟩
        refine hC _ _ _ (useE (wpd.up (by omega) (check_pass (d := 0))) ?_)
        refine ⟨_, _, _, _, hg.2.1, rfl, rfl, ?_⟩
        refine ⟨_, _, _, _, hg.2.2.2.1, rfl, rfl, ?_⟩
        conv => whnf
        rw [iadd_eq (by omega)]
        refine ⟨fun c2 => ?_, fun c2 => ?_⟩
        · refine ⟨_, _, _, hg.2.1, rfl, ?_⟩
          refine hC _ _ _ (use (wpd.up (by omega) (check_fail (d := 0) (h := h1) (ρ := h0.sz) (p := k) (e := 4) (by omega) (by omega))) ?_)
          rintro _ h' ⟨rfl, w⟩
          refine Or.inl ⟨8 * k + 4, ?_, hg.bad ⟨rfl, w⟩⟩
          rw [hz]
          unfold lenR
          rw [if_neg (Classical.not_not.mpr hdg), if_neg (Classical.not_not.mpr q), if_neg (fun w => by rw [Int.toNat_natCast] at w; exact q4 w.2), if_pos (by omega)]
        · refine ⟨_, _, _, hg.2.1, rfl, ?_⟩
          refine hC _ _ _ (useE (wpd.up (by omega) (check_pass (d := 0))) ?_)
          exact hW _ (adds hc40 hdg q4 (digs t k 0).2 rfl q.1 q.2 (by omega) (digs t k 0).2 0 h1 (by omega) hg)
  -- in brackets
  have open_ : chr t k = 40 → wp (d + 2) 411 (49, [some (vR (some h0.sz)), some (vI ((c : Nat) : Int)), none, none, none, none], [], h) (brE h0 x t (brZ t k G c op r0) k op r0) := by
    intro hc40
    have hkl := chr_in (t := t) (k := k) (by rw [hc40]; decide)
    have hz : brZ t k G c op r0 = if deg G c = 4 then .inl (8 * k + 3) else chZ t (k + 1) G ((c : Nat) : Int) (op :: r0) := if_neg (Classical.not_not.mpr hc40)
    refine wp.go [] 90 fun W C0 hW hC => ?_
    refine ⟨_, _, _, _, hS.2.1, rfl, rfl, ?_⟩
    refine ⟨_, _, _, hS.2.2.2.1, rfl, ?_⟩
    refine hC _ _ _ (useE (wpd.up (by omega) (isFull_spec (d := 0) (c := c) hS.2.2 hn16 hc)) ?_)
    by_cases q4 : deg G c = 4
    · rw [if_pos q4]
      refine ⟨fun _ => ?_, fun w => absurd w (by decide)⟩
      refine ⟨_, _, _, _, hS.2.1, rfl, rfl, ?_⟩
      refine ⟨_, _, _, hS.2.1, rfl, ?_⟩
      refine hC _ _ _ (use (wpd.up (by omega) (check_fail (d := 0) (h := h) (ρ := h0.sz) (p := k) (e := 3) (by omega) (by omega))) ?_)
      rintro _ h' ⟨rfl, w⟩
      refine Or.inl ⟨8 * k + 3, ?_, hS.bad ⟨rfl, w⟩⟩
      rw [hz, if_pos q4]
    · rw [if_neg q4]
      refine ⟨fun w => absurd rfl w, fun _ => ?_⟩
      refine ⟨_, _, _, _, hS.2.1, rfl, rfl, ?_⟩
      refine ⟨_, _, _, hS.2.1, rfl, ?_⟩
      refine hC _ _ _ (useE (wpd.up (by omega) (check_pass (d := 0))) ?_)
      refine ⟨_, _, _, _, hS.2.1, rfl, rfl, ?_⟩
      conv => whnf
      rw [iadd_eq (by omega)]
      refine ⟨_, _, _, hS.2.1, rfl, (Nat.le_of_ble_eq_true rfl), ?_⟩
      have hS1 := hS.at (k + 1)
      have call := chain_of (d := d) (r0 := op :: r0) hE hd hkl hS1 (Or.inr ⟨hG, by omega, by omega, by rw [Int.toNat_natCast]; exact q4⟩ : rdTo G ((c : Nat) : Int)) hr hrl (fun k1 w => loop k1 w)
      refine ⟨_, _, _, hS1.2.1, rfl, ?_⟩
      refine hC _ _ _ (use call ?_)
      rintro r g2 (⟨e, e1, w, rfl, e2, e3⟩ | ⟨k2, G2, op2, rfl, hg2, a1, a2, a3, a4⟩)
      · refine Or.inl ⟨e, ?_, w, rfl, e2, e3⟩
        rw [hz, if_neg q4]
        exact e1
      · refine ⟨_, _, _, hg2.2.1, rfl, ?_⟩
        refine hC _ _ _ (use (wpd.up (by omega) (must_spec (d := 0) (c := 41) hE hg2 (Or.inr rfl) a2.1)) ?_)
        rintro r g4 (⟨q, rfl, hg4⟩ | ⟨q, w, rfl, e2, e3⟩)
        · have hst : nStep t k2 G2 (op2 :: op :: r0) = .inr (k2 + 1, G2, op :: r0) := by
            unfold nStep
            rw [if_neg a4, if_pos ⟨q, by simp⟩]
            rfl
          obtain ⟨s1, s2, s3⟩ := nR_to a2 h120 (by rw [q]; decide) hst
          refine Or.inr ⟨k2 + 1, G2, rfl, hg4, by omega, s3, ?_⟩
          rw [hz, if_neg q4, a3, s1]
        · refine Or.inl ⟨8 * k2 + 1, ?_, w, rfl, e2, e3⟩
          rw [hz, if_neg q4, a3]
          refine nR_bad a2 h120 (by rw [List.length_cons, List.length_cons]; omega) ?_
          unfold nStep
          rw [if_neg a4, if_neg (fun w => q w.1)]
  refine wp.go [96, 49] 60 fun W C0 hW hC => ?_
  refine ⟨_, _, _, hS.2.1, rfl, ?_⟩
  refine hC _ _ _ (useE (wpd.up (by omega) (sign_spec (d := 0) hE hS (Or.inr rfl))) ?_)
  refine ⟨fun q => ?_, fun q => ?_⟩
  · refine ⟨_, _, _, _, hS.2.1, rfl, rfl, ?_⟩
    refine ⟨_, _, _, hS.2.1, rfl, ?_⟩
    refine hC _ _ _ (useE (wpd.up (by omega) (check_pass (d := 0))) ?_)
    refine ⟨_, _, _, hS.2.1, rfl, ?_⟩
    refine hC _ _ _ (useE (wpd.up (by omega) (sign_spec (d := 0) hE hS (Or.inr rfl))) ?_)
    refine ⟨fun w => absurd q w, fun _ => ?_⟩
    exact hW _ (open_ q)
  · refine ⟨_, _, _, hS.2.1, rfl, ?_⟩
    refine hC _ _ _ (useE (wpd.up (by omega) (sign_spec (d := 0) hE hS (Or.inr rfl))) ?_)
    refine hC _ _ _ (useE (wpd.up (by omega) (in_spec (d := 0))) ?_)
    by_cases hdg : isDig t k
    · rw [if_pos hdg]
      refine ⟨fun w => absurd w (by decide), fun _ => ?_⟩
      refine ⟨_, _, _, _, hS.2.1, rfl, rfl, ?_⟩
      refine ⟨_, _, _, hS.2.1, rfl, ?_⟩
      refine hC _ _ _ (useE (wpd.up (by omega) (check_pass (d := 0))) ?_)
      refine ⟨_, _, _, hS.2.1, rfl, ?_⟩
      refine hC _ _ _ (useE (wpd.up (by omega) (sign_spec (d := 0) hE hS (Or.inr rfl))) ?_)
      refine ⟨fun _ => ?_, fun w => absurd w q⟩
      exact hW _ (plain q hdg)
    · rw [if_neg hdg]
      refine ⟨fun _ => ?_, fun w => absurd rfl w⟩
      refine ⟨_, _, _, _, hS.2.1, rfl, rfl, ?_⟩
      refine ⟨_, _, _, hS.2.1, rfl, ?_⟩
      refine hC _ _ _ (use (wpd.up (by omega) (check_fail (d := 0) (h := h) (ρ := h0.sz) (p := k) (e := 1) (by omega) (by omega))) ?_)
      rintro _ h' ⟨rfl, w⟩
      refine Or.inl ⟨8 * k + 1, ?_, hS.bad ⟨rfl, w⟩⟩
      unfold brZ lenR
      rw [if_pos q, if_pos hdg]
/-- one branch more: what a step comes to -/
theorem nStep_br {first len least : Nat} {r0 : List Op} (hb : nOk t k G ((first, len, least) :: r0)) (h120 : t.length ≤ 120) (hc : chr t k = 45) (hdg : isDig t (k + 1)) (hv : least ≤ (digs t (k + 1) 0).2 ∧ (digs t (k + 1) 0).2 ≤ len) (h58 : chr t (digs t (k + 1) 0).1 = 58) :
    nR t k G ((first, len, least) :: r0) = brZ t ((digs t (k + 1) 0).1 + 1) G (first + (digs t (k + 1) 0).2 - 1) (first, len, (digs t (k + 1) 0).2) r0 := by
  rw [nR_step hb h120, if_neg (by rw [hc]; omega)]
  unfold nStep brZ chZ
  rw [if_pos hc, if_neg (Classical.not_not.mpr hdg)]
  dsimp only
  rw [if_neg (Classical.not_not.mpr hv), if_neg (Classical.not_not.mpr h58)]
  by_cases c1 : chr t ((digs t (k + 1) 0).1 + 1) ≠ 40
  · rw [if_pos c1, if_pos c1]
    cases lenR t ((digs t (k + 1) 0).1 + 1) G ((first + (digs t (k + 1) 0).2 - 1 : Nat) : Int) true <;> rfl
  · rw [if_neg c1, if_neg c1]
    by_cases c2 : deg G (first + (digs t (k + 1) 0).2 - 1) = 4
    · rw [if_pos c2, if_pos c2]
    · rw [if_neg c2, if_neg c2]
      cases lenR t ((digs t (k + 1) 0).1 + 2) G ((first + (digs t (k + 1) 0).2 - 1 : Nat) : Int) false <;> rfl
theorem chain_loop (hE : RdE h0 x t) : ∀ (f k : Nat) (r0 : List Op) (m : Nat), t.length < k + f → r0.length + 1 + m = 20 → NLoop h0 x t (d + 7 + 2 * m) k r0 := by
  have h120 := hE.2.2.2.1
  intro f
  induction f with
  | zero =>
    intro k r0 m hf hm G g op l1 l2 l5 hS hb
    have := hb.1
    omega
  | succ f ih =>
    rintro k r0 m hf hm G g ⟨first, len, least⟩ l1 l2 l5 hS hb
    obtain ⟨b1', b2', b3', b4', b5'⟩ := id hb
    have hn16 := b3'.1.2.1
    have hx := b4' _ List.mem_cons_self
    have hx : first + len ≤ G.1 ∧ 1 ≤ least := hx
    rw [List.length_cons] at b5'
    obtain ⟨n, rfl⟩ : ∃ n, m = n + 1 := ⟨m - 1, by omega⟩
    rw [show d + 7 + 2 * (n + 1) = d + 7 + 2 * n + 1 + 1 by omega]
    show wp (d + 7 + 2 * n + 1 + 1) 410 (76, [some (vR (some h0.sz)), some (vI l1), some (vI l2), some (vI ((len : Nat) : Int)), some (vI ((first : Nat) : Int)), some (vI l5), some (vI ((least : Nat) : Int))], [], g) (chE h0 x t (nR t k G ((first, len, least) :: r0)) k r0)
    -- behind the minus
    have tail : ∀ g1, chr t k = 45 → RdS h0 5 x (k + 1) G g1 → wp (d + 7 + 2 * n + 1 + 1) 410 (95, [some (vR (some h0.sz)), some (vI l1), some (vI l2), some (vI ((len : Nat) : Int)), some (vI ((first : Nat) : Int)), some (vI l5), some (vI ((least : Nat) : Int))], [], g1) (chE h0 x t (nR t k G ((first, len, least) :: r0)) k r0) := by
      intro g1 hc hg1
      have hkl := chr_in (t := t) (k := k) (by rw [hc]; decide)
      have hbad : ∀ e, nStep t k G ((first, len, least) :: r0) = .inl e → nR t k G ((first, len, least) :: r0) = .inl e := fun e q => nR_bad hb h120 (by rw [hc]; omega) q
      refine wp.go [76] 60 fun W C0 hW hC => ?_
      refine ⟨_, _, _, hg1.2.1, rfl, ?_⟩
      refine hC _ _ _ (use (wpd.up (by omega) (number_spec (d := 0) (lo := least) (hi := len) hE hg1 (Or.inr rfl) (by omega) (by omega))) ?_)
      rintro r g2 (⟨q, w, rfl, w2, w3⟩ | ⟨hdg, q, w, rfl, w2, w3⟩ | ⟨hdg, q, rfl, hg2⟩)
      · refine Or.inl ⟨8 * (k + 1) + 1, hbad _ ?_, w, rfl, w2, w3⟩
        unfold nStep
        rw [if_pos hc, if_pos q]
      · refine Or.inl ⟨8 * (k + 1) + 2, hbad _ ?_, w, rfl, w2, w3⟩
        unfold nStep
        rw [if_pos hc, if_neg (Classical.not_not.mpr hdg)]
        dsimp only
        rw [if_pos q]
      · have hkd := digs_le (t := t) (t.length - (k + 1)) (k + 1) 0 (by omega)
        refine ⟨_, _, _, hg2.2.1, rfl, ?_⟩
        refine hC _ _ _ (use (wpd.up (by omega) (must_spec (d := 0) (c := 58) hE hg2 (Or.inr rfl) hkd.2)) ?_)
        rintro r g3 (⟨q58, rfl, hg3⟩ | ⟨q58, w, rfl, e2, e3⟩)
        · have hkl2 := chr_in (t := t) (k := (digs t (k + 1) 0).1) (by rw [q58]; decide)
          have hz := nStep_br hb h120 hc hdg q q58
          rw [hz]
          conv => whnf
          rw [iadd_eq (by omega), isub_eq (by omega), show ((first : Nat) : Int) + (((digs t (k + 1) 0).2 : Nat) : Int) - 1 = ((first + (digs t (k + 1) 0).2 - 1 : Nat) : Int) by omega]
          have hv1 : 1 ≤ (digs t (k + 1) 0).2 := by omega
          have call := branchN_spec (d := d + 6 + 2 * n) (c := first + (digs t (k + 1) 0).2 - 1) (op := (first, len, (digs t (k + 1) 0).2)) (r0 := r0) hE (by omega) hkl2 hg3 b3' (by omega) (fun w hw => by
            rcases List.mem_cons.mp hw with rfl | hw
            · exact ⟨hx.1, hv1⟩
            · exact b4' w (List.mem_cons_of_mem _ hw)) (by rw [List.length_cons]; omega) (fun k1 w => by
              have := ih k1 ((first, len, (digs t (k + 1) 0).2) :: r0) n (by omega) (by rw [List.length_cons]; omega)
              rw [show d + 6 + 2 * n + 1 = d + 7 + 2 * n by omega]
              exact this)
          rw [show d + 6 + 2 * n + 2 = d + 7 + 2 * n + 1 by omega] at call
          refine ⟨_, _, _, hg3.2.1, rfl, ?_⟩
          refine hC _ _ _ (use call ?_)
          rintro r g4 (⟨e, e1, w, rfl, e2, e3⟩ | ⟨k4, G4, rfl, hg4, a1, a2, a3⟩)
          · exact Or.inl ⟨e, e1, w, rfl, e2, e3⟩
          · have key := ih k4 r0 (n + 1) (by omega) hm G4 g4 (first, len, (digs t (k + 1) 0).2) l1 l2 l5 hg4 a2
            rw [← a3, ← hz] at key
            rw [show d + 7 + 2 * (n + 1) = d + 7 + 2 * n + 1 + 1 by omega] at key
            exact hW _ (wpd.mono (fun r h' w => w.low (by omega)) _ _ _ key)
        · refine Or.inl ⟨8 * (digs t (k + 1) 0).1 + 1, hbad _ ?_, w, rfl, e2, e3⟩
          unfold nStep
          rw [if_pos hc, if_neg (Classical.not_not.mpr hdg)]
          dsimp only
          rw [if_neg (Classical.not_not.mpr q), if_pos q58]
    refine wp.go [76, 95] 40 fun W C0 hW hC => ?_
    refine ⟨_, _, _, hS.2.1, rfl, ?_⟩
    refine hC _ _ _ (useE (wpd.up (by omega) (sign_spec (d := 0) hE hS (Or.inr rfl))) ?_)
    refine ⟨fun q => ?_, fun q => ?_⟩
    · exact Or.inr ⟨k, G, (first, len, least), rfl, hS, Nat.le_refl _, hb, rfl, q⟩
    · have hkl := chr_in (t := t) (k := k) (by rw [q]; decide)
      refine ⟨_, _, _, _, hS.2.1, rfl, rfl, ?_⟩
      conv => whnf
      rw [iadd_eq (by omega)]
      refine ⟨_, _, _, hS.2.1, rfl, (Nat.le_of_ble_eq_true rfl), ?_⟩
      exact hW _ (tail _ q (hS.at (k + 1)))
/-- a whole name -/
theorem readsN_spec (hE : RdE h0 x t) (hS : RdS h0 5 x 0 gNil h) : wp (d + 47) 409 (0, ent 1 [vR (some h0.sz)], [], h) (fun r h' => (∃ e, nBegin t = .inl e ∧ RdX h0 e r h') ∨ (∃ H k', nBegin t = .inr H ∧ r = .inl none ∧ RdS h0 5 x k' H h')) := by
  have h120 := hE.2.2.2.1
  have hz : chZ t 0 gNil (-1) [] = nBegin t := rfl
  have call := chain_of (d := d + 44) (to := -1) (r0 := []) hE (by omega) (Nat.zero_le _) hS (Or.inl ⟨rfl, rfl⟩) (fun w hw => nomatch hw) (Nat.zero_le _) (fun k1 w => chain_loop (d := d) hE (t.length + 1) k1 [] 19 (by omega) rfl)
  rw [hz] at call
  refine wp.go [] 60 fun W C0 hW hC => ?_
  refine ⟨_, _, _, hS.2.1, rfl, ?_⟩
  refine hC _ _ _ (use (wpd.up (by omega) call) ?_)
  rintro r g (⟨e, e1, w, rfl, e2, e3⟩ | ⟨k2, G2, op2, rfl, hg2, a1, a2, a3, a4⟩)
  · exact Or.inl ⟨e, e1, w, rfl, e2, e3⟩
  · refine ⟨_, _, _, hg2.2.1, rfl, ?_⟩
    refine hC _ _ _ (useE (wpd.up (by omega) (sign_spec (d := 0) hE hg2 (Or.inr rfl))) ?_)
    have hk2 := a2.1
    refine ⟨fun c => ?_, fun c => ?_⟩
    · refine ⟨_, _, _, _, hg2.2.1, rfl, rfl, ?_⟩
      refine ⟨_, _, _, hg2.2.1, rfl, ?_⟩
      refine hC _ _ _ (use (wpd.up (by omega) (check_fail (d := 0) (h := g) (ρ := h0.sz) (p := k2) (e := 1) (by omega) (by omega))) ?_)
      rintro _ h' ⟨rfl, q⟩
      refine Or.inl ⟨8 * k2 + 1, ?_, hg2.bad ⟨rfl, q⟩⟩
      rw [a3]
      refine nR_bad a2 h120 (fun w => c w.2) ?_
      unfold nStep
      rw [if_neg a4, if_neg (fun w => by have := w.2; simp at this)]
    · refine ⟨_, _, _, _, hg2.2.1, rfl, rfl, ?_⟩
      refine ⟨_, _, _, hg2.2.1, rfl, ?_⟩
      refine hC _ _ _ (useE (wpd.up (by omega) (check_pass (d := 0))) ?_)
      refine Or.inr ⟨G2, k2, ?_, rfl, hg2⟩
      rw [a3, nR_step a2 h120, if_pos ⟨by simp, c⟩]
end NAMESC
