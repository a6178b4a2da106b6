section LOOKS3
variable {d : Nat} {h0 : AH} {M : Nat} {A : Nat → List Int} {sc : Nat → Int} {tab : List Tr} {G : Gr} {D : Nat → Nat → Nat}
abbrev JL : List Nat := [10, 11, 12, 13, 14, 15, 16, 17, 18, 19, 20, 21, 22, 23, 24]
theorem lk_root (hG : G.ok) (hD : Far G D) {A0 : Nat → List Int} {sc0 : Nat → Int} {x1 x5 x6 : Option AV} {w : Int} :
    ∀ (j c : Nat) (A : Nat → List Int) (sc : Nat → Int) (tab : List Tr), j + c = G.1 → Tbl A sc tab → isRow (A 18) 0 G → (∀ a c, G.2 a c = true → gt (A 20) (16 * a + c) = ((bB G D a c : Nat) : Int)) → (∀ a' c', G.2 a' c' = true → atI (A 19) tab (16 * a' + c') (some (TT G a' c'))) → (∀ c', c' < c → atI (A 19) tab (256 + c') (some (TT G 16 c'))) → tab.length ≤ 30 + c → Fr JL [5, 6] A0 A sc0 sc →
      wp (d + 10) 308 (190, [some (vR (some M)), x1, some (vI w), some (vI ((G.1 : Nat) : Int)), some (vI c), x5, x6], [], tw h0 M A sc) (fun r h' => r = .inl none ∧ ∃ A' sc' tab, h' = tw h0 M A' sc' ∧ Seen A' sc' tab G D ∧ Fr JL [5, 6] A0 A' sc0 sc') := by
  have hn := hG.1.2.1
  intro j
  induction j with
  | zero =>
    intro c A sc tab hj hB hr hb hat hrt hcnt hFr
    obtain rfl : c = G.1 := by omega
    refine wp.go [190] 20 fun W C hW hC => ?_
    refine ⟨fun _ => ⟨rfl, A, sc, tab, rfl, ⟨hB, hr, hb, hat, hrt⟩, hFr⟩, fun c => absurd c (by omega)⟩
  | succ j ih =>
    intro c A sc tab hj hB hr hb hat hrt hcnt hFr
    refine wp.go [190] 40 fun W C hW hC => ?_
    refine ⟨fun c => absurd c (by omega), fun _ => ?_⟩
    refine ⟨_, _, _, twF, rfl, ?_⟩
    refine hC _ _ _ (use (shapes_spec (a := 16) hG hD (show c < G.1 by omega) (Or.inr rfl) hr hB (by omega) (fun e h1 _ => hat c e h1)) ?_)
    rintro _ _ ⟨rfl, A', sc', tab', rfl, hB', he, hi, ho, hF'⟩
    (conv => whnf); simp (disch := omega) only [iadd_eq, isub_eq, imul_eq]
    refine hW _ (ih (c + 1) A' sc' tab' (by omega) hB' (by rw [hF'.1 18 rfl]; exact hr) (fun a c h => by rw [hF'.1 20 rfl]; exact hb a c h) (fun a' c' h => ?_) (fun c' hc' => ?_) ?_ (hFr.trans (hF'.wide rfl rfl)))
    · have h3 := hG.1.2.2 _ _ h
      obtain ⟨i, i1, i2, i3⟩ := (hat a' c' h).app he
      exact ⟨i, i1, by rw [ho _ (by omega)]; exact i2, i3⟩
    · by_cases e : c' = c
      · subst e; exact hi
      · obtain ⟨i, i1, i2, i3⟩ := (hrt c' (by omega)).app he
        exact ⟨i, i1, by rw [ho _ (by omega)]; exact i2, i3⟩
    · rcases he with rfl | rfl
      · omega
      · simp; omega
/-- Model.looksAt -/
theorem looksAt_spec (hG : G.ok) (hD : Far G D) (hA : lens A) {jr w : Nat} (hj1 : Nat.ble 1 jr = true) (hj2 : Nat.ble jr 45 = true) (htg : tg jr = 1) (hne : jr ≠ 18) (hlen : w + 17 ≤ (A jr).length) (hw : w ≤ 1000) (hr : isRow (A jr) w G) :
    wp (d + 10) 308 (0, ent 7 [vR (some M), vR (some (M + jr)), vI w], [], tw h0 M A sc) (fun r h' => r = .inl none ∧ ∃ A' sc' tab, h' = tw h0 M A' sc' ∧ Seen A' sc' tab G D ∧ Fr JL [5, 6] A A' sc sc') := by
  have hn := hG.1.2.1
  have hl : (A 18).length = 17 := by rw [hA.eq 18]; rfl
  have key := look_copy (d := d) (h0 := h0) (M := M) (sc := sc) hA hj1 hj2 htg hne hlen hw (x4 := none) (x5 := none) (x6 := none) (Q := fun r h' => r = .inl none ∧ ∃ A' sc' tab, h' = tw h0 M A' sc' ∧ Seen A' sc' tab G D ∧ Fr JL [5, 6] A A' sc sc') (fun X hX hXe => ?_) 17 0 (A 18) rfl hl (fun i hi => absurd hi (by omega))
  · rw [upn_self] at key
    refine wp.go [2] 20 fun W C hW hC => ?_
    exact hW _ key
  · have hA1 : lens (up A 18 X) := hA.up (by rw [hX]; rfl)
    refine wp.go [39] 40 fun W C hW hC => ?_
    refine ⟨_, _, _, twF, rfl, ?_⟩
    refine hC _ _ _ (use (laysHydrogen_spec hA1) ?_)
    rintro _ _ ⟨rfl, A2, sc2, rfl, hB2, hF2⟩
    have hA2 := hB2.1
    have hr2 : isRow (A2 18) 0 G := by
      rw [hF2.1 18 rfl, up_eq]
      exact hr.congr hn (fun i hi => by rw [Nat.zero_add]; exact hXe i hi)
    have hFr2 : Fr JL [5, 6] A A2 sc sc2 := (Fr.upA rfl).trans (hF2.wide rfl rfl)
    have hl20 : (A2 20).length = 272 := by rw [hA2.eq 20]; rfl
    refine ⟨_, _, _, _, twF, rfl, rfl, ?_⟩
    refine ⟨_, _, _, twI rfl rfl, rfl, (by omega), gt_at (0) (by omega) (lenlt (j := 18) (hA2) (show (0) < 17 by omega)), ?_⟩
    rw [hr2.1]
    have k2 := beh_out (d := d) (h0 := h0) (M := M) (sc := sc2) hG.1 hD hA2 hr2 (x1 := some (vR (some (M + jr)))) (w := (w : Int)) (Q := fun r h' => r = .inl none ∧ ∃ A' sc' tab, h' = tw h0 M A' sc' ∧ Seen A' sc' tab G D ∧ Fr JL [5, 6] A A' sc sc') (fun Y x5 x6 hY hb => ?_) G.1 0 (A2 20) none none rfl hl20 (fun a' c' _ h => absurd h (by omega))
    · rw [upn_self] at k2
      exact hW _ k2
    · have hB3 : Tbl (up A2 20 Y) sc2 [] := ⟨hA2.up (by rw [hY]; rfl), hB2.2⟩
      have hF3 : Fr JL [5, 6] A (up A2 20 Y) sc sc2 := hFr2.trans (Fr.upA rfl)
      refine wp.go [107] 20 fun W C hW hC => ?_
      refine hW _ (lk_s (A0 := up A2 20 Y) (sc0 := sc2) hG hD (fun A4 sc4 tab4 s x5 x6 h4 => ?_) (G.1 - 1) 1 (up A2 20 Y) sc2 [] x5 x6 (by have := hG.1.1; omega) (by omega) ⟨hB3, by rw [upn_ne _ _ (by decide)]; exact hr2, fun a c h => by rw [up_eq]; exact hb a c h, fun a' c' h => ?_, Nat.zero_le _, Fr.refl⟩)
      · obtain ⟨h1, h2, h3, h4', h5, h6⟩ := h4
        refine wp.go [190] 20 fun W C hW hC => ?_
        refine hW _ (lk_root (A0 := A) (sc0 := sc) hG hD G.1 0 A4 sc4 tab4 rfl h1 h2 h3 (fun a' c' h => h4' a' c' (dn_iff.mpr ⟨h, Or.inl (bsz_lt hG.1 hD h)⟩)) (fun c' h => absurd h (by omega)) ?_ (hF3.trans (h6.wide rfl rfl)))
        have := Nat.le_trans h5 (cnt2_le fun a' c' h => (dn_iff.mp h).1)
        have h7 := cnt2_bonds hG.1 hD
        have : cnt2 G.1 (fun a' c' => G.2 a' c') = cnt2 G.1 G.2 := rfl
        omega
      · have h8 := (dn_iff.mp h).2
        have := bsz_pos hG.1 hD (dn_iff.mp h).1
        omega
end LOOKS3
