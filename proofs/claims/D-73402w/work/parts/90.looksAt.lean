/-! THE TWIN LOOKS AT A SKELETON -/
def cnt2 (n : Nat) (p : Nat → Nat → Bool) : Nat := sumR n fun a => sumR n fun c => b01 (p a c)
theorem b01_le {x y : Bool} (h : x = true → y = true) : b01 x ≤ b01 y := by
  cases x with
  | false => exact Nat.zero_le _
  | true => rw [h rfl]; exact Nat.le_refl _
theorem cnt2_le {n : Nat} {p q : Nat → Nat → Bool} (h : ∀ a c, p a c = true → q a c = true) : cnt2 n p ≤ cnt2 n q := sumR_le fun a _ => sumR_le fun c _ => b01_le (h a c)
theorem cnt2_lt {n : Nat} {p q : Nat → Nat → Bool} (h : ∀ a c, p a c = true → q a c = true) {a c : Nat} (ha : a < n) (hc : c < n) (h1 : p a c = false) (h2 : q a c = true) : cnt2 n p < cnt2 n q :=
  sumR_lt (fun a _ => sumR_le fun c _ => b01_le (h a c)) ⟨a, ha, sumR_lt (fun c _ => b01_le (h a c)) ⟨c, hc, by rw [h1, h2]; decide⟩⟩
theorem cnt2_bonds {G : Gr} {D : Nat → Nat → Nat} (hG : G.wf) (hD : Far G D) : cnt2 G.1 G.2 ≤ 30 := by
  have h := bonds hG hD
  have e : cnt2 G.1 G.2 = sumR G.1 fun a => deg G a := sumR_congr fun a _ => (deg_cnt G a).symm
  have := hG.2.1
  omega
def Seen (A : Nat → List Int) (sc : Nat → Int) (tab : List Tr) (G : Gr) (D : Nat → Nat → Nat) : Prop := Tbl A sc tab ∧ isRow (A 18) 0 G ∧ (∀ a c, G.2 a c = true → gt (A 20) (16 * a + c) = ((bB G D a c : Nat) : Int)) ∧ (∀ a c, G.2 a c = true → atI (A 19) tab (16 * a + c) (some (TT G a c))) ∧ ∀ c, c < G.1 → atI (A 19) tab (256 + c) (some (TT G 16 c))
section LOOKS
variable {d : Nat} {h0 : AH} {M : Nat} {A : Nat → List Int} {sc : Nat → Int} {tab : List Tr} {G : Gr} {D : Nat → Nat → Nat}
theorem look_copy (hA : lens A) {jr w : Nat} (hj1 : Nat.ble 1 jr = true) (hj2 : Nat.ble jr 45 = true) (htg : tg jr = 1) (hne : jr ≠ 18) (hlen : w + 17 ≤ (A jr).length) (hw : w ≤ 1000) {x4 x5 x6 : Option AV} {Q : Rs → AH → Prop}
    (hQ : ∀ X, X.length = 17 → (∀ i, i < 17 → gt X i = gt (A jr) (w + i)) → wp (d + 10) 308 (25, [some (vR (some M)), some (vR (some (M + jr))), some (vI w), some (vI 17), x4, x5, x6], [], tw h0 M (up A 18 X) sc) Q) :
    ∀ (j k : Nat) (X : List Int), j + k = 17 → X.length = 17 → (∀ i, i < k → gt X i = gt (A jr) (w + i)) → wp (d + 10) 308 (2, [some (vR (some M)), some (vR (some (M + jr))), some (vI w), some (vI k), x4, x5, x6], [], tw h0 M (up A 18 X) sc) Q := by
  intro j
  induction j with
  | zero =>
    intro k X hj hX h
    obtain rfl : k = 17 := by omega
    refine wp.go [2, 25] 20 fun W C hW hC => ?_
    refine ⟨fun _ => hW _ (hQ X hX h), fun c => absurd c (by decide)⟩
  | succ j ih =>
    intro k X hj hX h
    have hA' : lens (up A 18 X) := hA.up (by rw [hX]; rfl)
    have hlt : w + k < (up A 18 X jr).length := by rw [upn_ne _ _ hne]; omega
    refine wp.go [2, 25] 40 fun W C hW hC => ?_
    refine ⟨fun c => absurd c (by omega), fun _ => ?_⟩
    refine ⟨_, _, _, _, twF, rfl, rfl, ?_⟩
    (conv => whnf); simp (disch := omega) only [iadd_eq, isub_eq, imul_eq]
    refine ⟨_, _, _, twI hj1 hj2, by rw [htg]; rfl, (by omega), gt_at (w + k) (by omega) hlt, ?_⟩
    rw [upn_ne _ _ hne]
    (refine ⟨_, twI rfl rfl, (by omega), (ilt (k) (by omega) (lenlt (j := 18) (hA') (show (k) < 17 by omega))), ?_⟩; rw [twSetI rfl rfl]; try rw [Int.toNat_natCast])
    rw [up_up, up_eq]
    (conv => whnf); simp (disch := omega) only [iadd_eq, isub_eq, imul_eq]
    refine hW _ (ih (k + 1) _ (by omega) (by rw [List.length_set, hX]) (fun m hm => ?_))
    rw [gt_set (by omega)]
    by_cases e : m = k
    · rw [if_pos e, e]
    · rw [if_neg e]; exact h m (by omega)
/-- Model.laysHydrogen -/
theorem hyd_loop (hA0 : lens A) : ∀ (j k : Nat) (A : Nat → List Int), j + k = 4 → lens A → (∀ m, m < k → gt (A 11) m = 0) → gt (A 10) 0 = 0 → gt (A 12) 0 = 0 → gt (A 13) 0 = 0 → gt (A 14) 0 = 1 → gt (A 15) 0 = 1 → gt (A 16) 0 = 1 → wp (d + 1) 309 (49, [some (vR (some M)), some (vI k)], [], tw h0 M A sc) (fun r h' => r = .inl none ∧ ∃ A', h' = tw h0 M A' sc ∧ lens A' ∧ TbH A' ∧ Fr [11, 17] [] A A' sc sc) := by
  intro j
  induction j with
  | zero =>
    intro k A hj hA h h1 h2 h3 h4 h5 h6
    obtain rfl : k = 4 := by omega
    refine wp.go [49] 20 fun W C hW hC => ?_
    refine ⟨fun _ => ⟨rfl, A, rfl, hA, ⟨h1, h2, h3, h4, h5, h6, h⟩, Fr.refl⟩, fun c => absurd c (by decide)⟩
  | succ j ih =>
    intro k A hj hA h h1 h2 h3 h4 h5 h6
    have hA1 : lens (up A 11 ((A 11).set k 0)) := hA.up (by rw [List.length_set]; exact hA.eq 11)
    have hlt := lenlt (j := 11) hA (show k < 256 by omega)
    refine wp.go [49] 40 fun W C hW hC => ?_
    refine ⟨fun c => absurd c (by omega), fun _ => ?_⟩
    refine ⟨_, _, _, _, twF, rfl, rfl, ?_⟩
    (refine ⟨_, twI rfl rfl, (by omega), (ilt (k) (by omega) (lenlt (j := 11) (hA) (show (k) < 256 by omega))), ?_⟩; rw [twSetI rfl rfl]; try rw [Int.toNat_natCast])
    refine ⟨_, _, _, _, twF, rfl, rfl, ?_⟩
    (refine ⟨_, twI rfl rfl, (by omega), (ilt (k) (by omega) (lenlt (j := 17) (hA1) (show (k) < 256 by omega))), ?_⟩; rw [twSetI rfl rfl]; try rw [Int.toNat_natCast])
    (conv => whnf); simp (disch := omega) only [iadd_eq, isub_eq, imul_eq]
    refine hW _ (wpd.mono ?_ _ _ _ (ih (k + 1) _ (by omega) (hA1.up (by rw [List.length_set]; exact hA.eq 17)) (fun m hm => ?_) h1 h2 h3 h4 h5 h6))
    · rintro r h' ⟨q1, A', q2, q3, q4, q5⟩
      exact ⟨q1, A', q2, q3, q4, (Fr.upA rfl).trans ((Fr.upA rfl).trans q5)⟩
    · show gt ((A 11).set k 0) m = 0
      rw [gt_set hlt]
      by_cases e : m = k
      · rw [if_pos e]
      · rw [if_neg e]; exact h m (by omega)
theorem laysHydrogen_spec (hA : lens A) : wp (d + 1) 309 (0, ent 2 [vR (some M)], [], tw h0 M A sc) (fun r h' => r = .inl none ∧ ∃ A' sc', h' = tw h0 M A' sc' ∧ Tbl A' sc' [] ∧ Fr [10, 11, 12, 13, 14, 15, 16, 17] [5] A A' sc sc') := by
  have l10 := lenlt (j := 10) hA (show 0 < 64 by decide)
  have l12 := lenlt (j := 12) hA (show 0 < 64 by decide)
  have l13 := lenlt (j := 13) hA (show 0 < 64 by decide)
  have l14 := lenlt (j := 14) hA (show 0 < 64 by decide)
  have l15 := lenlt (j := 15) hA (show 0 < 64 by decide)
  have l16 := lenlt (j := 16) hA (show 0 < 64 by decide)
  have hA1 : lens (up A 10 ((A 10).set 0 0)) := hA.up (by rw [List.length_set]; exact hA.eq 10)
  have hA2 : lens (up (up A 10 ((A 10).set 0 0)) 12 ((A 12).set 0 0)) := hA1.up (by rw [List.length_set]; exact hA.eq 12)
  have hA3 : lens (up (up (up A 10 ((A 10).set 0 0)) 12 ((A 12).set 0 0)) 13 ((A 13).set 0 0)) := hA2.up (by rw [List.length_set]; exact hA.eq 13)
  have hA4 : lens (up (up (up (up A 10 ((A 10).set 0 0)) 12 ((A 12).set 0 0)) 13 ((A 13).set 0 0)) 14 ((A 14).set 0 1)) := hA3.up (by rw [List.length_set]; exact hA.eq 14)
  have hA5 : lens (up (up (up (up (up A 10 ((A 10).set 0 0)) 12 ((A 12).set 0 0)) 13 ((A 13).set 0 0)) 14 ((A 14).set 0 1)) 15 ((A 15).set 0 1)) := hA4.up (by rw [List.length_set]; exact hA.eq 15)
  have hA6 : lens (up (up (up (up (up (up A 10 ((A 10).set 0 0)) 12 ((A 12).set 0 0)) 13 ((A 13).set 0 0)) 14 ((A 14).set 0 1)) 15 ((A 15).set 0 1)) 16 ((A 16).set 0 1)) := hA5.up (by rw [List.length_set]; exact hA.eq 16)
  refine wp.go [49] 60 fun W C hW hC => ?_
  (refine ⟨_, _, _, twF, rfl, (Nat.le_of_ble_eq_true rfl), ?_⟩; rw [twP5])
  refine ⟨_, _, _, _, twF, rfl, rfl, ?_⟩
  (refine ⟨_, twI rfl rfl, (by omega), (ilt (0) (by omega) (lenlt (j := 10) (hA) (show (0) < 64 by omega))), ?_⟩; rw [twSetI rfl rfl]; try rw [Int.toNat_natCast])
  refine ⟨_, _, _, _, twF, rfl, rfl, ?_⟩
  (refine ⟨_, twI rfl rfl, (by omega), (ilt (0) (by omega) (lenlt (j := 12) (hA1) (show (0) < 64 by omega))), ?_⟩; rw [twSetI rfl rfl]; try rw [Int.toNat_natCast])
  refine ⟨_, _, _, _, twF, rfl, rfl, ?_⟩
  (refine ⟨_, twI rfl rfl, (by omega), (ilt (0) (by omega) (lenlt (j := 13) (hA2) (show (0) < 64 by omega))), ?_⟩; rw [twSetI rfl rfl]; try rw [Int.toNat_natCast])
  refine ⟨_, _, _, _, twF, rfl, rfl, ?_⟩
  (refine ⟨_, twI rfl rfl, (by omega), (ilt (0) (by omega) (lenlt (j := 14) (hA3) (show (0) < 64 by omega))), ?_⟩; rw [twSetI rfl rfl]; try rw [Int.toNat_natCast])
  refine ⟨_, _, _, _, twF, rfl, rfl, ?_⟩
  (refine ⟨_, twI rfl rfl, (by omega), (ilt (0) (by omega) (lenlt (j := 15) (hA4) (show (0) < 64 by omega))), ?_⟩; rw [twSetI rfl rfl]; try rw [Int.toNat_natCast])
  refine ⟨_, _, _, _, twF, rfl, rfl, ?_⟩
  (refine ⟨_, twI rfl rfl, (by omega), (ilt (0) (by omega) (lenlt (j := 16) (hA5) (show (0) < 64 by omega))), ?_⟩; rw [twSetI rfl rfl]; try rw [Int.toNat_natCast])
  refine hW _ (wpd.mono ?_ _ _ _ (hyd_loop hA 4 0 _ rfl hA6 (fun m hm => absurd hm (by omega)) ?_ ?_ ?_ ?_ ?_ ?_))
  · rintro r h' ⟨q1, A', q2, q3, q4, q5⟩
    refine ⟨q1, A', _, q2, ⟨q3, ⟨List.nodup_nil, fun t ht => (nomatch ht), by decide⟩, fun s t h => ?_, fun s t h => ?_, q4, rfl⟩, ?_⟩
    · exact absurd (gtT_le h).2.2 (by simp)
    · exact absurd (gtT_le h).2.2 (by simp)
    · exact (Fr.upS (J := [10, 11, 12, 13, 14, 15, 16, 17]) (K := [5]) rfl).trans ((Fr.upA rfl).trans ((Fr.upA rfl).trans ((Fr.upA rfl).trans ((Fr.upA rfl).trans ((Fr.upA rfl).trans ((Fr.upA rfl).trans (q5.wide rfl rfl)))))))
  · show gt ((A 10).set 0 0) 0 = 0
    rw [gt_set l10, if_pos rfl]
  · show gt ((A 12).set 0 0) 0 = 0
    rw [gt_set l12, if_pos rfl]
  · show gt ((A 13).set 0 0) 0 = 0
    rw [gt_set l13, if_pos rfl]
  · show gt ((A 14).set 0 1) 0 = 1
    rw [gt_set l14, if_pos rfl]
  · show gt ((A 15).set 0 1) 0 = 1
    rw [gt_set l15, if_pos rfl]
  · show gt ((A 16).set 0 1) 0 = 1
    rw [gt_set l16, if_pos rfl]
end LOOKS
