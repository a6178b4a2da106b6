/-! READING BONDS in the component (printed by tools/mkHR.py) -/
section BONDSC
variable {d x : Nat} {h0 h : AH} {t : List Int} {k : Nat} {G : Gr}
theorem bnext_spec (hE : RdE h0 x t) : ∀ (j k : Nat) (h : AH), j + k = t.length → RdS h0 4 x k G h → wp (d + 2) 405 (0, ent 1 [vR (some h0.sz)], [], h) (fun r h' => r = .inl (some (vI (chr t (skp t k)))) ∧ RdS h0 4 x (skp t k) G h') := by
  have h120 := hE.2.2.2.1
  have go : ∀ (j k : Nat) (h : AH), j + k = t.length → RdS h0 4 x k G h → wp (d + 2) 405 (0, [some (vR (some h0.sz))], [], h) (fun r h' => r = .inl (some (vI (chr t (skp t k)))) ∧ RdS h0 4 x (skp t k) G h') := by
    intro j
    induction j with
    | zero =>
      intro k h hj hS
      have hc : chr t k ≠ 32 := by unfold chr; rw [if_neg (by omega)]; decide
      rw [skp_else hc]
      refine wp.go [0] 40 fun W C0 hW hC => ?_
      refine ⟨_, _, _, hS.2.1, rfl, ?_⟩
      refine hC _ _ _ (useE (wpd.up (by omega) (sign_spec (d := 0) hE hS (Or.inl rfl))) ?_)
      refine ⟨fun _ => ?_, fun c => absurd c hc⟩
      refine ⟨_, _, _, hS.2.1, rfl, ?_⟩
      refine hC _ _ _ (useE (wpd.up (by omega) (sign_spec (d := 0) hE hS (Or.inl rfl))) ?_)
      exact ⟨rfl, hS⟩
    | succ j ih =>
      intro k h hj hS
      refine wp.go [0] 40 fun W C0 hW hC => ?_
      refine ⟨_, _, _, hS.2.1, rfl, ?_⟩
      refine hC _ _ _ (useE (wpd.up (by omega) (sign_spec (d := 0) hE hS (Or.inl rfl))) ?_)
      refine ⟨fun c => ?_, fun c => ?_⟩
      · rw [skp_else c]
        refine ⟨_, _, _, hS.2.1, rfl, ?_⟩
        refine hC _ _ _ (useE (wpd.up (by omega) (sign_spec (d := 0) hE hS (Or.inl rfl))) ?_)
        exact ⟨rfl, hS⟩
      · rw [skp_blank c] at hW ⊢
        refine ⟨_, _, _, _, hS.2.1, rfl, rfl, ?_⟩
        conv => whnf
        rw [iadd_eq (by omega)]
        refine ⟨_, _, _, hS.2.1, rfl, (Nat.le_of_ble_eq_true rfl), ?_⟩
        exact hW _ (ih (k + 1) _ (by omega) (hS.at (k + 1)))
  intro j k h hj hS
  exact go j k h hj hS
theorem dig_spec (hE : RdE h0 x t) (hS : RdS h0 4 x k G h) {m : Nat} (hm : m ≤ 1000) : wp (d + 2) 407 (0, ent 2 [vR (some h0.sz), vI ((m : Nat) : Int)], [], h) (gives h (z01 (decide (isDig t m)))) := by
  obtain ⟨⟨ld, nw, wh, nm, Fx⟩, T, T1, T2, T3⟩ := hS.xF hE
  have F := hS.2.1
  have h120 := hE.2.2.2.1
  refine wp.go [] 40 fun W C0 hW hC => ?_
  refine ⟨_, _, _, _, F, rfl, rfl, ?_⟩
  refine ⟨_, _, _, _, Fx, rfl, rfl, ?_⟩
  refine ⟨fun c => ?_, fun c => ?_⟩
  · have hn : ¬ isDig t m := fun q => by
      have := chr_in (t := t) (k := m) (by have := q.1; omega)
      omega
    rw [decide_eq_false hn]
    exact ⟨Or.inl rfl, rfl, rfl⟩
  · refine ⟨_, _, _, _, F, rfl, rfl, ?_⟩
    refine ⟨_, _, _, _, Fx, rfl, rfl, ?_⟩
    refine ⟨_, _, _, T1, rfl, by omega, gt_at m (by omega) (by omega), ?_⟩
    rw [T3 m (by omega)]
    have hr := (raw_dig hE.2.2.2.2 (k := m) (by omega)).1
    refine hC _ _ _ (useE (wpd.up (by omega) (in_spec (d := 0))) ?_)
    by_cases q : isDig t m
    · rw [decide_eq_true q, if_pos (hr.mpr q)]
      refine ⟨fun c => absurd c (by decide), fun _ => ?_⟩
      exact ⟨Or.inr rfl, rfl, rfl⟩
    · rw [decide_eq_false q, if_neg (fun w => q (hr.mp w))]
      refine ⟨fun _ => ?_, fun c => absurd rfl c⟩
      exact ⟨Or.inl rfl, rfl, rfl⟩
abbrev manyR (t : List Int) (k : Nat) : Nat := if 1 ≤ (atZ t k).2 ∧ (atZ t k).2 ≤ 16 then (atZ t k).2 else 1
theorem many_spec (hE : RdE h0 x t) (hS : RdS h0 4 x k G h) {m : Nat} (hm : m < t.length) : wp (d + 3) 406 (0, ent 4 [vR (some h0.sz), vI ((m + 1 : Nat) : Int)], [], h) (gives h ((manyR t m : Nat) : Int)) := by
  obtain ⟨⟨ld, nw, wh, nm, Fx⟩, T, T1, T2, T3⟩ := hS.xF hE
  have F := hS.2.1
  have h120 := hE.2.2.2.1
  have stop : ∀ (v : Nat) (l3 : Option AV), v = (atZ t m).2 → wp (d + 3) 406 (53, [some (vR (some h0.sz)), some (vI ((m + 1 : Nat) : Int)), some (vI ((min 100 v : Nat) : Int)), l3], [], h) (gives h ((manyR t m : Nat) : Int)) := by
    intro v l3 hv
    unfold manyR
    rw [← hv]
    refine wp.go [] 40 fun W C0 hW hC => ?_
    refine hC _ _ _ (useE (wpd.up (by omega) (in_spec (d := 0))) ?_)
    by_cases c : 1 ≤ v ∧ v ≤ 16
    · rw [if_pos c, if_pos (show (1 : Int) ≤ ((min 100 v : Nat) : Int) ∧ ((min 100 v : Nat) : Int) ≤ 16 by omega)]
      refine ⟨fun c => absurd c (by decide), fun _ => ?_⟩
      refine ⟨?_, rfl⟩
      rw [show min 100 v = v by omega]
    · rw [if_neg c, if_neg (show ¬ ((1 : Int) ≤ ((min 100 v : Nat) : Int) ∧ ((min 100 v : Nat) : Int) ≤ 16) by omega)]
      refine ⟨fun _ => ?_, fun c => absurd rfl c⟩
      exact ⟨rfl, rfl⟩
  have loop : isDig t (m + 1) → ∀ (j i v : Nat), j + i = t.length → digs t i v = digs t (m + 1) 0 → wp (d + 3) 406 (16, [some (vR (some h0.sz)), some (vI ((m + 1 : Nat) : Int)), some (vI ((min 100 v : Nat) : Int)), some (vI ((i : Nat) : Int))], [], h) (gives h ((manyR t m : Nat) : Int)) := by
    intro hd0 j
    have hz : (atZ t m).2 = (digs t (m + 1) 0).2 := by unfold atZ; rw [if_pos hd0]
    induction j with
    | zero =>
      intro i v hj hv
      have hn : ¬ isDig t i := fun q => by
        have := chr_in (t := t) (k := i) (by have := q.1; omega)
        omega
      rw [digs_else hn] at hv
      refine wp.go [53] 40 fun W C0 hW hC => ?_
      refine ⟨_, _, _, F, rfl, ?_⟩
      refine hC _ _ _ (useE (wpd.up (by omega) (dig_spec (d := 0) (m := i) hE hS (by omega))) ?_)
      rw [decide_eq_false hn]
      refine ⟨fun _ => ?_, fun c => absurd rfl c⟩
      exact hW _ (stop v _ (by rw [hz, ← hv]))
    | succ j ih =>
      intro i v hj hv
      refine wp.go [53, 16] 80 fun W C0 hW hC => ?_
      refine ⟨_, _, _, F, rfl, ?_⟩
      refine hC _ _ _ (useE (wpd.up (by omega) (dig_spec (d := 0) (m := i) hE hS (by omega))) ?_)
      by_cases hn : isDig t i
      · rw [decide_eq_true hn]
        refine ⟨fun c => absurd c (by decide), fun _ => ?_⟩
        have hraw := (raw_dig hE.2.2.2.2 (k := i) (by omega)).2 hn
        obtain ⟨n1, n2⟩ := id hn
        refine ⟨_, _, _, _, F, rfl, rfl, ?_⟩
        refine ⟨_, _, _, _, Fx, rfl, rfl, ?_⟩
        refine ⟨_, _, _, T1, rfl, by omega, gt_at i (by omega) (by omega), ?_⟩
        rw [T3 i (by omega), ← hraw]
        conv => whnf
        rw [imul_eq (by omega), iadd_eq (by omega), isub_eq (by omega)]
        refine hC _ _ _ (useE (wpd.up (by omega) (min_spec (d := 0))) ?_)
        conv => whnf
        rw [iadd_eq (by omega)]
        rw [digs_dig hn] at hv
        have key := ih (i + 1) _ (by omega) hv
        rw [← min_dig, show (((chr t i - 48).toNat : Nat) : Int) = chr t i - 48 by omega, show 10 * ((min 100 v : Nat) : Int) + (chr t i - 48) = 10 * ((min 100 v : Nat) : Int) + chr t i - 48 by omega] at key
        exact hW _ key
      · rw [decide_eq_false hn]
        rw [digs_else hn] at hv
        refine ⟨fun _ => ?_, fun c => absurd rfl c⟩
        exact hW _ (stop v _ (by rw [hz, ← hv]))
  refine wp.go [16] 40 fun W C0 hW hC => ?_
  refine ⟨_, _, _, F, rfl, ?_⟩
  refine hC _ _ _ (useE (wpd.up (by omega) (dig_spec (d := 0) (m := m + 1) hE hS (by omega))) ?_)
  by_cases hn : isDig t (m + 1)
  · rw [decide_eq_true hn]
    refine ⟨fun c => absurd c (by decide), fun _ => ?_⟩
    exact hW _ (loop hn (t.length - (m + 1)) (m + 1) 0 (by omega) rfl)
  · rw [decide_eq_false hn]
    refine ⟨fun _ => ?_, fun c => absurd rfl c⟩
    have hz : 1 = (atZ t m).2 := by unfold atZ; rw [if_neg hn]
    refine hW _ ?_
    refine wp.go [53] 40 fun W C0 hW hC => ?_
    refine ⟨_, _, _, F, rfl, ?_⟩
    refine hC _ _ _ (useE (wpd.up (by omega) (dig_spec (d := 0) (m := m + 1) hE hS (by omega))) ?_)
    rw [decide_eq_false hn]
    refine ⟨fun _ => ?_, fun c => absurd rfl c⟩
    exact hW _ (stop 1 _ hz)
theorem adds_to {to : Int} (h : rdTo G to) : ∀ i, G.1 + i ≤ 16 → rdTo (gAdds G to i) (lasT G to i)
  | 0, _ => h
  | i + 1, hn => by
    obtain ⟨o1, o2⟩ := adds_ok h (i + 1) (by omega) hn
    have hl : lasT G to (i + 1) = ((G.1 + i : Nat) : Int) := if_neg (by omega)
    have ha := adds_n G to (i + 1)
    refine Or.inr ⟨o1, by omega, by omega, ?_⟩
    rw [hl, Int.toNat_natCast]
    have : G.1 + (i + 1) - 1 = G.1 + i := by omega
    rw [this] at o2
    omega
/-- what an atom comes to -/
def atE (h0 : AH) (x : Nat) (t : List Int) (k0 : Nat) (G : Gr) (to : Int) : Rs → AH → Prop := fun r h' => (∃ e, (if chr t k0 = 99 then atomR t k0 G to else .inl (8 * k0 + 1)) = .inl e ∧ RdX h0 e r h') ∨ (∃ z, chr t k0 = 99 ∧ atomR t k0 G to = .inr z ∧ r = .inl (some (vI (((z.2.1 : Nat) : Int) - 1))) ∧ RdS h0 4 x z.1 z.2 h')
theorem atom_spec (hE : RdE h0 x t) (hS : RdS h0 4 x k G h) (hk : k ≤ t.length) {to : Int} (hto : (G = gNil ∧ to = -1) ∨ (G.ok ∧ 0 ≤ to ∧ to < ((G.1 : Nat) : Int))) : wp (d + 7) 404 (0, ent 5 [vR (some h0.sz), vI to], [], h) (atE h0 x t (skp t k) G to) := by
  have h120 := hE.2.2.2.1
  have hsk := skp_le (t := t) (t.length - k) k (by omega)
  obtain ⟨k0, hk0⟩ : ∃ n, n = skp t k := ⟨_, rfl⟩
  rw [← hk0] at hsk ⊢
  have hn16 : G.1 ≤ 16 := by
    rcases hto with ⟨rfl, -⟩ | ⟨q, -⟩
    · exact Nat.zero_le _
    · exact q.1.2.1
  -- the carbons come
  have loop : chr t k0 = 99 → rdTo G to → ∀ (n : Nat), (atZ t k0).2 = n → 1 ≤ n → G.1 + n ≤ 16 → atomR t k0 G to = .inr ((atZ t k0).1, gAdds G to n) → ∀ (j i : Nat) (g : AH), j + i = n → RdS h0 4 x (atZ t k0).1 (gAdds G to i) g →
      wp (d + 7) 404 (128, [some (vR (some h0.sz)), some (vI to), some (vI ((n : Nat) : Int)), some (vI (lasT G to i)), some (vI ((i : Nat) : Int))], [], g) (atE h0 x t k0 G to) := by
    intro hc hto2 n hnz h1 h2 hat j
    induction j with
    | zero =>
      intro i g hj hg
      obtain rfl : i = n := by omega
      refine wp.go [128] 20 fun W C0 hW hC => ?_
      refine ⟨fun _ => ?_, fun c => absurd c (by omega)⟩
      refine Or.inr ⟨_, hc, hat, ?_, hg⟩
      have ha := adds_n G to i
      show Sum.inl (some (vI (lasT G to i))) = Sum.inl (some (vI ((((gAdds G to i).1 : Nat) : Int) - 1)))
      rw [show lasT G to i = (((gAdds G to i).1 : Nat) : Int) - 1 by unfold lasT; rw [if_neg (by omega)]; omega]
    | succ j ih =>
      intro i g hj hg
      have ha := adds_n G to i
      refine wp.go [128] 40 fun W C0 hW hC => ?_
      refine ⟨fun c => absurd c (by omega), fun _ => ?_⟩
      refine ⟨_, _, _, hg.2.1, rfl, ?_⟩
      refine hC _ _ _ (use (wpd.up (by omega) (radds_spec (d := 0) hg (Or.inl rfl) (adds_to hto2 i (by omega)) (by omega))) ?_)
      rintro _ g2 ⟨rfl, hg2⟩
      conv => whnf
      rw [iadd_eq (by omega)]
      have key := ih (i + 1) g2 (by omega) hg2
      rw [show lasT G to (i + 1) = (((gAdds G to i).1 : Nat) : Int) by unfold lasT; rw [if_neg (by omega)]; omega] at key
      exact hW _ key
  have at100 : ∀ g, chr t k0 = 99 → rdTo G to → G.1 + manyR t k0 ≤ 16 → RdS h0 4 x (k0 + 1) G g → wp (d + 7) 404 (100, [some (vR (some h0.sz)), some (vI to), none, none, none], [], g) (atE h0 x t k0 G to) := by
    intro g hc hto2 h16 hg
    have hkl := chr_in (t := t) (k := k0) (by rw [hc]; decide)
    have h16' := h16
    unfold manyR at h16'
    have hnf : ¬ (to ≠ -1 ∧ deg G to.toNat = 4) := by
      rcases hto2 with ⟨-, q⟩ | ⟨-, -, -, q⟩
      · exact fun w => w.1 q
      · exact fun w => q w.2
    refine wp.go [128] 60 fun W C0 hW hC => ?_
    refine ⟨_, _, _, _, hg.2.1, rfl, rfl, ?_⟩
    refine ⟨_, _, _, hg.2.1, rfl, ?_⟩
    refine hC _ _ _ (useE (wpd.up (by omega) (dig_spec (d := 0) (m := k0 + 1) hE hg (by omega))) ?_)
    by_cases hn : isDig t (k0 + 1)
    · have hz : atZ t k0 = digs t (k0 + 1) 0 := by unfold atZ; rw [if_pos hn]
      rw [decide_eq_true hn]
      refine ⟨fun c => absurd c (by decide), fun _ => ?_⟩
      refine ⟨_, _, _, hg.2.1, rfl, ?_⟩
      refine hC _ _ _ (use (wpd.up (by omega) (number_spec (d := 0) (lo := 1) (hi := 16) hE hg (Or.inl rfl) (by omega) (by omega))) ?_)
      rintro r h' (⟨q, -⟩ | ⟨-, q, w, rfl, w2, w3⟩ | ⟨-, q, rfl, hg2⟩)
      · exact absurd hn q
      · rw [← hz] at q
        refine Or.inl ⟨8 * (k0 + 1) + 2, ?_, w, rfl, w2, w3⟩
        rw [if_pos hc]
        unfold atomR
        rw [if_neg hnf, if_neg (by omega), if_pos q]
      · rw [← hz] at q hg2
        have h17 : G.1 + (atZ t k0).2 ≤ 16 := by rw [if_pos q] at h16'; exact h16'
        have key := loop hc hto2 (digs t (k0 + 1) 0).2 (by rw [hz]) (by rw [← hz]; exact q.1) (by rw [← hz]; exact h17) (by
          unfold atomR
          rw [if_neg hnf, if_neg (by omega), if_neg (Classical.not_not.mpr q), hz]) (digs t (k0 + 1) 0).2 0 h' (by omega) hg2
        exact hW _ key
    · have hz : atZ t k0 = (k0 + 1, 1) := by unfold atZ; rw [if_neg hn]
      rw [decide_eq_false hn]
      refine ⟨fun _ => ?_, fun c => absurd rfl c⟩
      have q : 1 ≤ (atZ t k0).2 ∧ (atZ t k0).2 ≤ 16 := by rw [hz]; exact (⟨Nat.le_refl 1, by decide⟩ : 1 ≤ 1 ∧ 1 ≤ 16)
      have h17 : G.1 + (atZ t k0).2 ≤ 16 := by rw [if_pos q] at h16'; exact h16'
      have h18 : G.1 + 1 ≤ 16 := by rw [hz] at h17; exact h17
      have key := loop hc hto2 1 (by rw [hz]) (by decide) h18 (by
        unfold atomR
        rw [if_neg hnf, if_neg (by omega), if_neg (Classical.not_not.mpr q), hz]) 1 0 g rfl (by rw [hz]; exact hg)
      exact hW _ key
  have at53 : ∀ g, chr t k0 = 99 → rdTo G to → RdS h0 4 x k0 G g → wp (d + 7) 404 (53, [some (vR (some h0.sz)), some (vI to), none, none, none], [], g) (atE h0 x t k0 G to) := by
    intro g hc hto2 hg
    have hkl := chr_in (t := t) (k := k0) (by rw [hc]; decide)
    have hm16 : manyR t k0 ≤ 16 := by unfold manyR; split <;> omega
    have hnf : ¬ (to ≠ -1 ∧ deg G to.toNat = 4) := by
      rcases hto2 with ⟨-, q⟩ | ⟨-, -, -, q⟩
      · exact fun w => w.1 q
      · exact fun w => q w.2
    refine wp.go [100] 60 fun W C0 hW hC => ?_
    refine ⟨_, _, _, _, hg.2.1, rfl, rfl, ?_⟩
    refine ⟨_, _, _, _, hg.2.2.2.1, rfl, rfl, ?_⟩
    refine ⟨_, _, _, _, hg.2.1, rfl, rfl, ?_⟩
    conv => whnf
    rw [iadd_eq (by omega)]
    refine ⟨_, _, _, hg.2.1, rfl, ?_⟩
    refine hC _ _ _ (useE (wpd.up (by omega) (many_spec (d := 0) (m := k0) hE hg hkl)) ?_)
    conv => whnf
    rw [iadd_eq (by omega)]
    refine ⟨fun c => ?_, fun c => ?_⟩
    · refine ⟨_, _, _, _, hg.2.1, rfl, rfl, ?_⟩
      refine ⟨_, _, _, hg.2.1, rfl, ?_⟩
      refine hC _ _ _ (use (wpd.up (by omega) (check_fail (d := 0) (h := g) (ρ := h0.sz) (p := k0) (e := 4) (by omega) (by omega))) ?_)
      rintro _ h' ⟨rfl, q⟩
      refine Or.inl ⟨8 * k0 + 4, ?_, hg.bad ⟨rfl, q⟩⟩
      rw [if_pos hc]
      unfold atomR
      have c2 : 16 < G.1 + manyR t k0 := by omega
      unfold manyR at c2
      rw [if_neg hnf, if_pos c2]
    · refine ⟨_, _, _, _, hg.2.1, rfl, rfl, ?_⟩
      refine ⟨_, _, _, hg.2.1, rfl, ?_⟩
      refine hC _ _ _ (useE (wpd.up (by omega) (check_pass (d := 0))) ?_)
      refine ⟨_, _, _, _, hg.2.1, rfl, rfl, ?_⟩
      conv => whnf
      rw [iadd_eq (by omega)]
      refine ⟨_, _, _, hg.2.1, rfl, (Nat.le_of_ble_eq_true rfl), ?_⟩
      exact hW _ (at100 _ hc hto2 (by omega) (hg.at (k0 + 1)))
  refine wp.go [53] 60 fun W C0 hW hC => ?_
  refine ⟨_, _, _, hS.2.1, rfl, ?_⟩
  refine hC _ _ _ (use (wpd.up (by omega) (bnext_spec (d := 0) hE (t.length - k) k h (by omega) hS)) ?_)
  rintro _ g ⟨rfl, hg⟩
  rw [← hk0] at hg ⊢
  refine ⟨fun c => ?_, fun c => ?_⟩
  · refine ⟨_, _, _, _, hg.2.1, rfl, rfl, ?_⟩
    refine ⟨_, _, _, hg.2.1, rfl, ?_⟩
    refine hC _ _ _ (use (wpd.up (by omega) (check_fail (d := 0) (h := g) (ρ := h0.sz) (p := k0) (e := 1) (by omega) (by omega))) ?_)
    rintro _ h' ⟨rfl, q⟩
    exact Or.inl ⟨8 * k0 + 1, if_neg c, hg.bad ⟨rfl, q⟩⟩
  · refine ⟨_, _, _, _, hg.2.1, rfl, rfl, ?_⟩
    refine ⟨_, _, _, hg.2.1, rfl, ?_⟩
    refine hC _ _ _ (useE (wpd.up (by omega) (check_pass (d := 0))) ?_)
    refine ⟨fun e => ?_, fun e => ?_⟩
    · refine ⟨_, _, _, _, hg.2.1, rfl, rfl, ?_⟩
      refine ⟨_, _, _, hg.2.1, rfl, ?_⟩
      refine hC _ _ _ (useE (wpd.up (by omega) (check_pass (d := 0))) ?_)
      have hto2 : rdTo G to := by
        rcases hto with q | ⟨-, q, -⟩
        · exact Or.inl q
        · omega
      exact hW _ (at53 g c hto2 hg)
    · rcases hto with ⟨-, q⟩ | ⟨q1, q2, q3⟩
      · exact absurd q e
      · obtain ⟨c', rfl⟩ : ∃ n : Nat, to = ((n : Nat) : Int) := ⟨to.toNat, by omega⟩
        refine ⟨_, _, _, _, hg.2.1, rfl, rfl, ?_⟩
        refine ⟨_, _, _, hg.2.2.2.1, rfl, ?_⟩
        refine hC _ _ _ (useE (wpd.up (by omega) (isFull_spec (d := 0) (c := c') hg.2.2 hn16 (by omega))) ?_)
        by_cases q4 : deg G c' = 4
        · rw [if_pos q4]
          refine ⟨fun _ => ?_, fun w => absurd w (by decide)⟩
          refine ⟨_, _, _, _, hg.2.1, rfl, rfl, ?_⟩
          refine ⟨_, _, _, hg.2.1, rfl, ?_⟩
          refine hC _ _ _ (use (wpd.up (by omega) (check_fail (d := 0) (h := g) (ρ := h0.sz) (p := k0) (e := 3) (by omega) (by omega))) ?_)
          rintro _ h' ⟨rfl, q⟩
          refine Or.inl ⟨8 * k0 + 3, ?_, hg.bad ⟨rfl, q⟩⟩
          rw [if_pos c]
          unfold atomR
          rw [if_pos ⟨e, by rw [Int.toNat_natCast]; exact q4⟩]
        · rw [if_neg q4]
          refine ⟨fun w => absurd rfl w, fun _ => ?_⟩
          refine ⟨_, _, _, _, hg.2.1, rfl, rfl, ?_⟩
          refine ⟨_, _, _, hg.2.1, rfl, ?_⟩
          refine hC _ _ _ (useE (wpd.up (by omega) (check_pass (d := 0))) ?_)
          exact hW _ (at53 g c (Or.inr ⟨q1, q2, q3, by rw [Int.toNat_natCast]; exact q4⟩) hg)
/-! the run of the stack, step by step -/
abbrev bR (t : List Int) (k : Nat) (G : Gr) (st : List Int) (beg : Bool) : Nat ⊕ Gr := bRun t 122 k G st beg
theorem skp_skp (hk : k ≤ t.length) : skp t (skp t k) = skp t k := skp_else (skp_le (t := t) (t.length - k) k (by omega)).2.2
theorem bR_step {st : List Int} {beg : Bool} (h : bOk t k G st beg) (h120 : t.length ≤ 120) : bR t k G st beg = if beg = true ∧ st.length ≤ 1 ∧ chr t (skp t k) = -1 then .inr G else (match bStep t (skp t k) G st beg with
    | .inl e => .inl e
    | .inr z => bR t z.1 z.2.1 z.2.2.1 z.2.2.2) := by
  have hs := skp_le (t := t) (t.length - k) k (by have := h.1; omega)
  show bRun t (121 + 1) k G st beg = _
  conv => lhs; unfold bRun
  split
  · rfl
  · cases e2 : bStep t (skp t k) G st beg with
    | inl y => rfl
    | inr z =>
      obtain ⟨q1, q2⟩ := step_ok (bOk_skp h) e2
      exact bRun_fuel 121 122 _ _ _ _ q2 (by omega) (by omega)
theorem bR_skp {st : List Int} {beg : Bool} (h : bOk t k G st beg) (h120 : t.length ≤ 120) : bR t (skp t k) G st beg = bR t k G st beg := by
  rw [bR_step (bOk_skp h) h120, bR_step h h120, skp_skp h.1]
theorem bR_atom {st : List Int} {beg : Bool} (h : bOk t k G st beg) (h120 : t.length ≤ 120) (hc : chr t (skp t k) = 99) : bR t k G st beg = match atomR t (skp t k) G (hdI st) with
    | .inl e => .inl e
    | .inr z => bR t z.1 z.2 ((((z.2.1 : Nat) : Int) - 1) :: st.tail) true := by
  rw [bR_step h h120, if_neg (by rw [hc]; omega)]
  unfold bStep
  rw [if_pos hc]
  cases atomR t (skp t k) G (hdI st) <;> rfl
theorem bR_open {st : List Int} (h : bOk t k G st true) (h120 : t.length ≤ 120) (hc : chr t (skp t k) = 40) : bR t k G st true = bR t (skp t k + 1) G (hdI st :: st) false := by
  rw [bR_step h h120, if_neg (by rw [hc]; omega)]
  unfold bStep
  rw [if_neg (by rw [hc]; decide), if_pos ⟨rfl, hc⟩]
theorem bR_close {st : List Int} (h : bOk t k G st true) (h120 : t.length ≤ 120) (hc : chr t (skp t k) = 41) (hs : 1 < st.length) : bR t k G st true = bR t (skp t k + 1) G st.tail true := by
  rw [bR_step h h120, if_neg (by rw [hc]; omega)]
  unfold bStep
  rw [if_neg (by rw [hc]; decide), if_neg (by rw [hc]; decide), if_pos ⟨rfl, hc, hs⟩]
theorem bR_bad {st : List Int} {beg : Bool} (h : bOk t k G st beg) (h120 : t.length ≤ 120) (h99 : chr t (skp t k) ≠ 99) (h40 : beg = true → chr t (skp t k) ≠ 40) (h41 : beg = true → 1 < st.length → chr t (skp t k) ≠ 41) (he : ¬ (beg = true ∧ st.length ≤ 1 ∧ chr t (skp t k) = -1)) : bR t k G st beg = .inl (8 * skp t k + 1) := by
  rw [bR_step h h120, if_neg he]
  unfold bStep
  rw [if_neg h99, if_neg (fun q => h40 q.1 q.2), if_neg (fun q => h41 q.1 q.2.2 q.2.1)]
/-- what a row comes to: z is what the run of the stack comes to -/
def rowE (h0 : AH) (x : Nat) (t : List Int) (z : Nat ⊕ Gr) (k : Nat) (r0 : List Int) : Rs → AH → Prop := fun r h' => (∃ e, z = .inl e ∧ RdX h0 e r h') ∨ (∃ k' G' last, r = .inl none ∧ RdS h0 4 x k' G' h' ∧ k ≤ k' ∧ bOk t k' G' (last :: r0) true ∧ z = bR t k' G' (last :: r0) true ∧ skp t k' = k' ∧ chr t k' ≠ 99 ∧ chr t k' ≠ 40)
theorem rowE.low {z : Nat ⊕ Gr} {k k1 : Nat} {r0 : List Int} {r : Rs} {h' : AH} (q : rowE h0 x t z k1 r0 r h') (hk : k ≤ k1) : rowE h0 x t z k r0 r h' := by
  rcases q with q | ⟨k', G', last, q1, q2, q3, q4⟩
  · exact Or.inl q
  · exact Or.inr ⟨k', G', last, q1, q2, by omega, q4⟩
theorem bOk_to {to : Int} {r0 : List Int} {beg : Bool} (h : bOk t k G (to :: r0) beg) : (G = gNil ∧ to = -1) ∨ (G.ok ∧ 0 ≤ to ∧ to < ((G.1 : Nat) : Int)) := by
  rcases h.2.2 with ⟨g1, g2, -⟩ | ⟨g1, g2, -⟩
  · cases g2
    exact Or.inl ⟨g1, rfl⟩
  · exact Or.inr ⟨g1, g2 to List.mem_cons_self⟩
/-- a row by what its loop comes to from any place behind -/
theorem row_of (hE : RdE h0 x t) {to : Int} {r0 : List Int} {m : Nat} (hm : 7 ≤ d + m) (hS : RdS h0 4 x k G h) (hb : bOk t k G (to :: r0) false)
    (loop : ∀ (k1 : Nat) (G1 : Gr) (g : AH) (last : Int), k < k1 → RdS h0 4 x k1 G1 g → bOk t k1 G1 (last :: r0) true → wp (d + 1 + m) 403 (6, [some (vR (some h0.sz)), some (vI to), some (vI last)], [], g) (rowE h0 x t (bR t k1 G1 (last :: r0) true) k1 r0)) :
    wp (d + 1 + m) 403 (0, ent 3 [vR (some h0.sz), vI to], [], h) (rowE h0 x t (bR t k G (to :: r0) false) k r0) := by
  have h120 := hE.2.2.2.1
  have hsk := skp_le (t := t) (t.length - k) k (by have := hb.1; omega)
  rw [show d + 1 + m = d + m + 1 by omega] at loop ⊢
  refine wp.go [6] 20 fun W C0 hW hC => ?_
  refine ⟨_, _, _, hS.2.1, rfl, ?_⟩
  refine hC _ _ _ (use (wpd.up (by omega) (atom_spec (d := 0) hE hS hb.1 (bOk_to hb))) ?_)
  rintro r g (⟨e, e1, w, rfl, e2, e3⟩ | ⟨z, c, e1, rfl, hg⟩)
  · refine Or.inl ⟨e, ?_, w, rfl, e2, e3⟩
    by_cases c : chr t (skp t k) = 99
    · rw [if_pos c] at e1
      rw [bR_atom hb h120 c]
      show (match atomR t (skp t k) G to with
        | .inl e => _
        | .inr z => _) = _
      rw [e1]
    · rw [if_neg c] at e1
      rw [bR_bad hb h120 c (fun q => by cases q) (fun q => by cases q) (fun q => by cases q.1)]
      cases e1
      rfl
  · have hz := bR_atom hb h120 c
    have hst : bStep t (skp t k) G (to :: r0) false = .inr (z.1, z.2, (((z.2.1 : Nat) : Int) - 1) :: r0, true) := by
      unfold bStep
      rw [if_pos c]
      show (match atomR t (skp t k) G to with
        | .inl e => _
        | .inr z => _) = _
      rw [e1]
      rfl
    obtain ⟨q1, q2⟩ := step_ok (bOk_skp hb) hst
    have hz2 : bR t k G (to :: r0) false = bR t z.1 z.2 ((((z.2.1 : Nat) : Int) - 1) :: r0) true := by
      rw [hz]
      show (match atomR t (skp t k) G to with
        | .inl e => _
        | .inr z => _) = _
      rw [e1]
      rfl
    have q1 : skp t k < z.1 := q1
    have key := loop z.1 z.2 g _ (by omega) hg q2
    rw [← hz2] at key
    exact hW _ (wpd.mono (fun r h' w => w.low (by omega)) _ _ _ key)
theorem row_loop (hE : RdE h0 x t) : ∀ (f k : Nat) (G : Gr) (h : AH) (l1 last : Int) (r0 : List Int) (m : Nat), t.length < k + f → r0.length + 1 + m = 20 → RdS h0 4 x k G h → bOk t k G (last :: r0) true →
    wp (d + 11 + m) 403 (6, [some (vR (some h0.sz)), some (vI l1), some (vI last)], [], h) (rowE h0 x t (bR t k G (last :: r0) true) k r0) := by
  have h120 := hE.2.2.2.1
  intro f
  induction f with
  | zero =>
    intro k G h l1 last r0 m hf hm hS hb
    have := hb.1
    omega
  | succ f ih =>
    intro k G h l1 last r0 m hf hm hS hb
    have hk := hb.1
    have hsk := skp_le (t := t) (t.length - k) k (by omega)
    have hss := skp_skp hk
    have hsc := bR_skp hb h120
    have hb0 := bOk_skp hb
    obtain ⟨k0, hk0⟩ : ∃ n, n = skp t k := ⟨_, rfl⟩
    rw [← hk0] at hsk hss hsc hb0
    rw [← hsc]
    have hm16 : 4 ≤ m := by
      rcases hb.2.2 with ⟨-, -, q⟩ | ⟨q1, -, q3, -⟩
      · cases q
      · have q3 : (last :: r0).length - 1 + 1 ≤ G.1 := q3
        rw [List.length_cons] at q3
        have := q1.1.2.1
        omega
    obtain ⟨n, rfl⟩ : ∃ n, m = n + 1 := ⟨m - 1, by omega⟩
    -- one more row in brackets
    have inner : ∀ g, chr t k0 = 40 → RdS h0 4 x (k0 + 1) G g → wp (d + 11 + (n + 1)) 403 (52, [some (vR (some h0.sz)), some (vI l1), some (vI last)], [], g) (rowE h0 x t (bR t k0 G (last :: r0) true) k r0) := by
      intro g hc hg
      have hkl := chr_in (t := t) (k := k0) (by rw [hc]; decide)
      have hbo := bOk_open hb0 hkl
      have hopen := bR_open hb0 h120 (by rw [hss]; exact hc)
      rw [hss] at hopen
      rw [hopen]
      have call := row_of (d := d + 10) (m := n) (r0 := last :: r0) hE (by omega) hg hbo (fun k1 G1 g1 l2 a1 a2 a3 => ih k1 G1 g1 _ l2 (last :: r0) n (by omega) (by rw [List.length_cons]; omega) a2 a3)
      rw [show d + 11 + (n + 1) = d + 10 + 1 + n + 1 by omega]
      refine wp.go [6] 60 fun W C0 hW hC => ?_
      refine ⟨_, _, _, hg.2.1, rfl, ?_⟩
      refine hC _ _ _ (use call ?_)
      rintro r g2 (⟨e, e1, w, rfl, e2, e3⟩ | ⟨k2, G2, l2, rfl, hg2, a1, a2, a3, a4, a5, a6⟩)
      · exact Or.inl ⟨e, e1, w, rfl, e2, e3⟩
      · have a3 : bR t (k0 + 1) G (hdI (last :: r0) :: last :: r0) false = _ := a3
        refine ⟨_, _, _, hg2.2.1, rfl, ?_⟩
        refine hC _ _ _ (use (wpd.up (by omega) (bnext_spec (d := 0) hE (t.length - k2) k2 g2 (by have := a2.1; omega) hg2)) ?_)
        rintro _ g3 ⟨rfl, hg3⟩
        rw [a4] at hg3
        refine ⟨_, _, _, hg3.2.1, rfl, ?_⟩
        refine hC _ _ _ (use (wpd.up (by omega) (must_spec (d := 0) (c := 41) hE hg3 (Or.inl rfl) a2.1)) ?_)
        rintro r g4 (⟨q, rfl, hg4⟩ | ⟨q, w, rfl, e2, e3⟩)
        · have hkl2 := chr_in (t := t) (k := k2) (by rw [q]; decide)
          have hcl := bR_close a2 h120 (by rw [a4]; exact q) (by simp)
          rw [a4] at hcl
          have hb4 := bOk_close a2 hkl2 (by simp)
          have key := ih (k2 + 1) G2 g4 l1 last r0 (n + 1) (by omega) hm hg4 hb4
          have hcl : bR t k2 G2 (l2 :: last :: r0) true = bR t (k2 + 1) G2 (last :: r0) true := hcl
          rw [← hcl, ← a3] at key
          rw [show d + 11 + (n + 1) = d + 10 + 1 + n + 1 by omega] at key
          exact hW _ (wpd.mono (fun r h' w => w.low (by omega)) _ _ _ key)
        · refine Or.inl ⟨8 * k2 + 1, ?_, w, rfl, e2, e3⟩
          have := bR_bad a2 h120 (by rw [a4]; exact a5) (fun _ => by rw [a4]; exact a6) (fun _ _ => by rw [a4]; exact q) (by rw [List.length_cons, List.length_cons]; omega)
          rw [a4] at this
          exact a3.trans this
    rw [show d + 11 + (n + 1) = d + 10 + 1 + n + 1 by omega] at inner ⊢
    refine wp.go [6, 52] 60 fun W C0 hW hC => ?_
    refine ⟨_, _, _, hS.2.1, rfl, ?_⟩
    refine hC _ _ _ (use (wpd.up (by omega) (bnext_spec (d := 0) hE (t.length - k) k h (by omega) hS)) ?_)
    rintro _ g ⟨rfl, hg⟩
    rw [← hk0] at hg ⊢
    refine ⟨fun c => ?_, fun c => ?_⟩
    · refine ⟨_, _, _, hg.2.1, rfl, ?_⟩
      refine hC _ _ _ (useE (wpd.up (by omega) (sign_spec (d := 0) hE hg (Or.inl rfl))) ?_)
      refine ⟨fun _ => ?_, fun q => by rw [c] at q; exact absurd q (by decide)⟩
      refine ⟨_, _, _, _, hg.2.1, rfl, rfl, ?_⟩
      conv => whnf
      rw [iadd_eq (by omega)]
      refine ⟨_, _, _, hg.2.1, rfl, (Nat.le_of_ble_eq_true rfl), ?_⟩
      exact hW _ (inner _ c (hg.at (k0 + 1)))
    · refine ⟨_, _, _, hg.2.1, rfl, ?_⟩
      refine hC _ _ _ (useE (wpd.up (by omega) (sign_spec (d := 0) hE hg (Or.inl rfl))) ?_)
      refine ⟨fun q => ?_, fun q => ?_⟩
      · exact Or.inr ⟨k0, G, last, rfl, hg, by omega, hb0, rfl, hss, q, c⟩
      · refine ⟨_, _, _, hg.2.1, rfl, ?_⟩
        refine hC _ _ _ (useE (wpd.up (by omega) (sign_spec (d := 0) hE hg (Or.inl rfl))) ?_)
        refine ⟨fun w => absurd q w, fun _ => ?_⟩
        refine ⟨_, _, _, hg.2.1, rfl, ?_⟩
        refine hC _ _ _ (use (wpd.up (by omega) (atom_spec (d := 0) hE hg hb0.1 (bOk_to hb0))) ?_)
        have hat := bR_atom hb0 h120 (by rw [hss]; exact q)
        rw [hss] at hat ⊢
        rintro r g2 (⟨e, e1, w, rfl, e2, e3⟩ | ⟨z, -, e1, rfl, hg2⟩)
        · rw [if_pos q] at e1
          refine Or.inl ⟨e, ?_, w, rfl, e2, e3⟩
          rw [hat]
          show (match atomR t k0 G last with
            | .inl e => _
            | .inr z => _) = _
          rw [e1]
        · have hst : bStep t k0 G (last :: r0) true = .inr (z.1, z.2, (((z.2.1 : Nat) : Int) - 1) :: r0, true) := by
            unfold bStep
            rw [if_pos q]
            show (match atomR t k0 G last with
              | .inl e => _
              | .inr z => _) = _
            rw [e1]
            rfl
          obtain ⟨q1, q2⟩ := step_ok hb0 hst
          have q1 : k0 < z.1 := q1
          have hz2 : bR t k0 G (last :: r0) true = bR t z.1 z.2 ((((z.2.1 : Nat) : Int) - 1) :: r0) true := by
            rw [hat]
            show (match atomR t k0 G last with
              | .inl e => _
              | .inr z => _) = _
            rw [e1]
            rfl
          have key := ih z.1 z.2 g2 l1 _ r0 (n + 1) (by omega) hm hg2 q2
          rw [← hz2] at key
          rw [show d + 11 + (n + 1) = d + 10 + 1 + n + 1 by omega] at key
          exact hW _ (wpd.mono (fun r h' w => w.low (by omega)) _ _ _ key)
/-- a whole text of bonds -/
theorem readsB_spec (hE : RdE h0 x t) (hS : RdS h0 4 x 0 gNil h) : wp (d + 32) 402 (0, ent 1 [vR (some h0.sz)], [], h) (fun r h' => (∃ e, bR t 0 gNil [-1] false = .inl e ∧ RdX h0 e r h') ∨ (∃ H k', bR t 0 gNil [-1] false = .inr H ∧ r = .inl none ∧ RdS h0 4 x k' H h')) := by
  have h120 := hE.2.2.2.1
  have hb : bOk t 0 gNil [-1] false := ⟨Nat.zero_le _, by decide, Or.inl ⟨rfl, rfl, rfl⟩⟩
  have call := row_of (d := d + 10) (m := 19) (r0 := []) hE (by omega) hS hb (fun k1 G1 g1 l2 a1 a2 a3 => row_loop (d := d) hE (t.length + 1) k1 G1 g1 _ l2 [] 19 (by omega) rfl a2 a3)
  refine wp.go [] 60 fun W C0 hW hC => ?_
  refine ⟨_, _, _, hS.2.1, rfl, ?_⟩
  refine hC _ _ _ (use (wpd.up (by omega) call) ?_)
  rintro r g (⟨e, e1, w, rfl, e2, e3⟩ | ⟨k2, G2, l2, rfl, hg2, a1, a2, a3, a4, a5, a6⟩)
  · exact Or.inl ⟨e, e1, w, rfl, e2, e3⟩
  · refine ⟨_, _, _, hg2.2.1, rfl, ?_⟩
    refine hC _ _ _ (use (wpd.up (by omega) (bnext_spec (d := 0) hE (t.length - k2) k2 g (by have := a2.1; omega) hg2)) ?_)
    rintro _ g3 ⟨rfl, hg3⟩
    rw [a4] at hg3 ⊢
    refine ⟨fun c => ?_, fun c => ?_⟩
    · refine ⟨_, _, _, _, hg3.2.1, rfl, rfl, ?_⟩
      refine ⟨_, _, _, hg3.2.1, rfl, ?_⟩
      refine hC _ _ _ (use (wpd.up (by omega) (check_fail (d := 0) (h := g3) (ρ := h0.sz) (p := k2) (e := 1) (by have := a2.1; omega) (by omega))) ?_)
      rintro _ h' ⟨rfl, q⟩
      refine Or.inl ⟨8 * k2 + 1, ?_, hg3.bad ⟨rfl, q⟩⟩
      rw [a3]
      have := bR_bad a2 h120 (by rw [a4]; exact a5) (fun _ => by rw [a4]; exact a6) (fun _ w => by simp at w) (fun w => c (by rw [← a4]; exact w.2.2))
      rw [a4] at this
      exact this
    · refine ⟨_, _, _, _, hg3.2.1, rfl, rfl, ?_⟩
      refine ⟨_, _, _, hg3.2.1, rfl, ?_⟩
      refine hC _ _ _ (useE (wpd.up (by omega) (check_pass (d := 0))) ?_)
      refine Or.inr ⟨G2, k2, ?_, rfl, hg3⟩
      rw [a3, bR_step a2 h120, if_pos ⟨rfl, by simp, by rw [a4]; exact c⟩]
end BONDSC
