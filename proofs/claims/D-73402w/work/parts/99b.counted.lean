/-! THE TWIN's counted -/
abbrev cR (i : Nat) : Int := gt cntR i
abbrev cF (i : Nat) : Int := gt cntF i
abbrev cO (i : Nat) : Int := gt cntO i
def nextR (m : Nat) : Int := ldiv (w64 (thS cR m + 3 * toS cR cR m + 2 * alS cR 3 m)) 6
def nextF (m : Nat) : Int := ldiv (w64 (thS cF m + 2 * alS cF 3 m)) 3
def nextO (m : Nat) : Int := w64 (toS cF cO m)
theorem next_ok : (List.range 40).all (fun m => decide (nextR m = cR (m + 1)) && (decide (nextF m = cF (m + 1)) && decide (nextO m = cO (m + 1)))) = true := by decide +kernel
theorem next_at {m : Nat} (h : m < 40) : nextR m = cR (m + 1) ∧ nextF m = cF (m + 1) ∧ nextO m = cO (m + 1) := by
  have := List.all_eq_true.mp next_ok m (List.mem_range.mpr h)
  rw [Bool.and_eq_true, Bool.and_eq_true] at this
  exact ⟨of_decide_eq_true this.1, of_decide_eq_true this.2.1, of_decide_eq_true this.2.2⟩
theorem prS_congr {x y : Nat → Int} {t : Nat} (h : ∀ i, i ≤ t → x i = y i) : prS x t = prS y t := sI_congr fun i hi => by rw [h i (by omega), h (t - i) (by omega)]
theorem thS_congr {x y : Nat → Int} {m : Nat} (h : ∀ i, i ≤ m → x i = y i) : thS x m = thS y m := sI_congr fun i hi => sI_congr fun j hj => by rw [h i (by omega), h j (by omega), h (m - i - j) (by omega)]
theorem toS_congr {x y x' y' : Nat → Int} {m : Nat} (h : ∀ i, i ≤ m → x i = x' i) (h2 : ∀ i, i ≤ m → y i = y' i) : toS x y m = toS x' y' m := sI_congr fun i hi => by rw [h i (by omega), h2 (m - 2 * i) (by omega)]
theorem alS_congr {x y : Nat → Int} {b m : Nat} (h : ∀ i, i ≤ m → x i = y i) : alS x b m = alS y b m := by
  unfold alS
  split
  · rw [h (m / b) (Nat.div_le_self m b)]
  · rfl
theorem foS_congr {x y : Nat → Int} {m : Nat} (h : ∀ i, i ≤ m → x i = y i) : foS x m = foS y m := sI_congr fun i hi => by rw [prS_congr (t := i) fun k hk => h k (by omega), prS_congr (t := m - i) fun k hk => h k (by omega)]
theorem twS_congr {x y : Nat → Int} {m : Nat} (h : ∀ i, i ≤ m → x i = y i) : twS x m = twS y m := by
  unfold twS
  split
  · exact prS_congr fun k hk => h k (by omega)
  · rfl
theorem toneS_congr {x y : Nat → Int} {m : Nat} (h : ∀ i, i ≤ m → x i = y i) : toneS x m = toneS y m := sI_congr fun i hi => by rw [h i (by omega), h (m - 3 * i) (by omega)]
theorem ttS_congr {x y x' y' : Nat → Int} {m : Nat} (h : ∀ i, i ≤ m → x i = x' i) (h2 : ∀ i, i ≤ m → y i = y' i) : ttS x y m = ttS x' y' m := sI_congr fun i hi => by rw [h i (by omega), prS_congr (t := m - 2 * i) fun k hk => h2 k (by omega)]
theorem list_gt_ext {X Y : List Int} (h : X.length = Y.length) (he : ∀ i, i < X.length → gt X i = gt Y i) : X = Y := by
  apply List.ext_getElem h
  intro i h1 h2
  have := he i h1
  unfold gt at this
  rw [List.getElem?_eq_getElem h1, List.getElem?_eq_getElem h2] at this
  exact this
section COUNTED
variable {d : Nat} {h0 : AH} {M : Nat} {A : Nat → List Int} {sc : Nat → Int} {S : AS}
/-- the first n of each row are laid -/
def cntTo (A : Nat → List Int) (n : Nat) : Prop := ∀ i, i < n → gt (A 34) i = cR i ∧ gt (A 35) i = cF i ∧ gt (A 36) i = cO i
theorem counts_loop {A0 : Nat → List Int} {sc0 : Nat → Int} : ∀ (j n : Nat) (A : Nat → List Int) (sc : Nat → Int) (x2 : Option AV), j + n = 40 → lens A → Fr [34, 35, 36] [8] A0 A sc0 sc → sc 8 = 1 → cntTo A (n + 1) →
    wp (d + 2) 343 (36, [some (vR (some M)), some (vI ((n + 1 : Nat) : Int)), x2], [], tw h0 M A sc) (fun r h' => r = .inl none ∧ ∃ A' sc', h' = tw h0 M A' sc' ∧ lens A' ∧ Fr [34, 35, 36] [8] A0 A' sc0 sc' ∧ sc' 8 = 1 ∧ cntTo A' 41) := by
  intro j
  induction j with
  | zero =>
    intro n A sc x2 hj hA hF hs hc
    obtain rfl : n = 40 := by omega
    refine wp.go [36] 20 fun W C hW hC => ?_
    refine ⟨fun _ => ?_, fun c => absurd c (by omega)⟩
    exact ⟨rfl, A, sc, rfl, hA, hF, hs, hc⟩
  | succ j ih =>
    intro n A sc x2 hj hA hF hs hc
    have e1 : isub ((n + 1 : Nat) : Int) 1 = ((n : Nat) : Int) := by rw [isub_eq (by omega)]; omega
    have l34 : (A 34).length = 41 := by rw [hA.eq 34]; rfl
    have l35 : (A 35).length = 41 := by rw [hA.eq 35]; rfl
    have l36 : (A 36).length = 41 := by rw [hA.eq 36]; rfl
    obtain ⟨n1, n2, n3⟩ := next_at (m := n) (by omega)
    have q1 : ∀ i, i ≤ n → gt (A 34) i = cR i := fun i hi => (hc i (by omega)).1
    have q2 : ∀ i, i ≤ n → gt (A 35) i = cF i := fun i hi => (hc i (by omega)).2.1
    have q3 : ∀ i, i ≤ n → gt (A 36) i = cO i := fun i hi => (hc i (by omega)).2.2
    refine wp.go [36] 120 fun W C hW hC => ?_
    refine ⟨fun c => absurd c (by omega), fun _ => ?_⟩
    conv => whnf
    rw [e1]
    refine ⟨_, _, _, _, twF, rfl, rfl, ?_⟩
    refine ⟨_, _, _, _, twF, rfl, rfl, ?_⟩
    refine hC _ _ _ (use (three_spec (m := n) (twI (j := 34) rfl rfl) l34 (by omega)) ?_); rintro _ _ ⟨rfl, rfl⟩
    refine ⟨_, _, _, _, twF, rfl, rfl, ?_⟩
    refine ⟨_, _, _, _, twF, rfl, rfl, ?_⟩
    refine hC _ _ _ (use (twoAndOne_spec (m := n) (twI (j := 34) rfl rfl) (twI (j := 34) rfl rfl) l34 l34 (by omega)) ?_); rintro _ _ ⟨rfl, rfl⟩
    refine ⟨_, _, _, _, twF, rfl, rfl, ?_⟩
    refine hC _ _ _ (use (allAlike_spec (k := 3) (m := n) (twI (j := 34) rfl rfl) l34 (by decide) (by decide) (by omega)) ?_); rintro _ _ ⟨rfl, rfl⟩
    refine ⟨by decide, ?_⟩
    conv => whnf
    simp only [lmul_w, ladd_w, w_mul_l, w_mul_r, w_add_l, w_add_r]
    rw [thS_congr q1, toS_congr q1 q1, alS_congr q1]
    rw [show ldiv (w64 (thS cR n + 3 * toS cR cR n + 2 * alS cR 3 n)) 6 = cR (n + 1) from n1]
    (refine ⟨_, twI rfl rfl, (by omega), (ilt (n + 1) (by omega) (lenlt (j := 34) (hA) (show (n + 1) < 41 by omega))), ?_⟩; rw [twSetI rfl rfl]; try rw [Int.toNat_natCast])
    have hA2 : lens (up A 34 ((A 34).set (n + 1) (cR (n + 1)))) := hA.up (by rw [List.length_set, l34]; rfl)
    have f35 : up A 34 ((A 34).set (n + 1) (cR (n + 1))) 35 = A 35 := upn_ne _ _ (by decide)
    have f36 : up A 34 ((A 34).set (n + 1) (cR (n + 1))) 36 = A 36 := upn_ne _ _ (by decide)
    refine ⟨_, _, _, _, twF, rfl, rfl, ?_⟩
    refine ⟨_, _, _, _, twF, rfl, rfl, ?_⟩
    refine hC _ _ _ (use (three_spec (m := n) (twI (j := 35) rfl rfl) (by rw [f35]; exact l35) (by omega)) ?_); rintro _ _ ⟨rfl, rfl⟩
    refine ⟨_, _, _, _, twF, rfl, rfl, ?_⟩
    refine hC _ _ _ (use (allAlike_spec (k := 3) (m := n) (twI (j := 35) rfl rfl) (by rw [f35]; exact l35) (by decide) (by decide) (by omega)) ?_); rintro _ _ ⟨rfl, rfl⟩
    refine ⟨by decide, ?_⟩
    rw [f35]
    conv => whnf
    simp only [lmul_w, ladd_w, w_mul_l, w_mul_r, w_add_l, w_add_r]
    rw [thS_congr q2, alS_congr q2]
    rw [show ldiv (w64 (thS cF n + 2 * alS cF 3 n)) 3 = cF (n + 1) from n2]
    (refine ⟨_, twI rfl rfl, (by omega), (ilt (n + 1) (by omega) (lenlt (j := 35) (hA2) (show (n + 1) < 41 by omega))), ?_⟩; rw [twSetI rfl rfl]; try rw [Int.toNat_natCast])
    rw [f35]
    have hA3 : lens (up (up A 34 ((A 34).set (n + 1) (cR (n + 1)))) 35 ((A 35).set (n + 1) (cF (n + 1)))) := hA2.up (by rw [List.length_set, l35]; rfl)
    have g35 : up (up A 34 ((A 34).set (n + 1) (cR (n + 1)))) 35 ((A 35).set (n + 1) (cF (n + 1))) 35 = (A 35).set (n + 1) (cF (n + 1)) := up_eq _ _ _
    have g36 : up (up A 34 ((A 34).set (n + 1) (cR (n + 1)))) 35 ((A 35).set (n + 1) (cF (n + 1))) 36 = A 36 := by rw [upn_ne _ _ (by decide)]; exact f36
    refine ⟨_, _, _, _, twF, rfl, rfl, ?_⟩
    refine ⟨_, _, _, _, twF, rfl, rfl, ?_⟩
    refine ⟨_, _, _, _, twF, rfl, rfl, ?_⟩
    refine hC _ _ _ (use (twoAndOne_spec (m := n) (twI (j := 35) rfl rfl) (twI (j := 36) rfl rfl) (by rw [g35, List.length_set]; exact l35) (by rw [g36]; exact l36) (by omega)) ?_); rintro _ _ ⟨rfl, rfl⟩
    rw [g35, g36, toS_congr (x' := cF) (y' := cO) (fun i hi => by rw [gt_set (by omega), if_neg (by omega)]; exact q2 i hi) q3]
    rw [show w64 (toS cF cO n) = cO (n + 1) from n3]
    (refine ⟨_, twI rfl rfl, (by omega), (ilt (n + 1) (by omega) (lenlt (j := 36) (hA3) (show (n + 1) < 41 by omega))), ?_⟩; rw [twSetI rfl rfl]; try rw [Int.toNat_natCast])
    rw [g36]
    (conv => whnf); simp (disch := omega) only [iadd_eq, isub_eq, imul_eq]
    have hA4 : lens (up (up (up A 34 ((A 34).set (n + 1) (cR (n + 1)))) 35 ((A 35).set (n + 1) (cF (n + 1)))) 36 ((A 36).set (n + 1) (cO (n + 1)))) := hA3.up (by rw [List.length_set, l36]; rfl)
    refine hW _ (ih (n + 1) _ sc _ (by omega) hA4 (hF.trans (((Fr.upA rfl).trans (Fr.upA rfl)).trans (Fr.upA rfl))) hs fun i hi => ?_)
    rw [upn_ne _ _ (by decide), upn_ne _ _ (by decide), up_eq, upn_ne _ _ (by decide), up_eq, up_eq, gt_set (by omega), gt_set (by omega), gt_set (by omega)]
    by_cases e : i = n + 1
    · rw [if_pos e, if_pos e, if_pos e, e]
      exact ⟨rfl, rfl, rfl⟩
    · rw [if_neg e, if_neg e, if_neg e]
      exact hc i (by omega)
theorem cntTo_eq (hA : lens A) (h : cntTo A 41) : A 34 = cntR ∧ A 35 = cntF ∧ A 36 = cntO := by
  have l34 : (A 34).length = 41 := by rw [hA.eq 34]; rfl
  have l35 : (A 35).length = 41 := by rw [hA.eq 35]; rfl
  have l36 : (A 36).length = 41 := by rw [hA.eq 36]; rfl
  exact ⟨list_gt_ext (by rw [l34]; rfl) fun i hi => (h i (by omega)).1, list_gt_ext (by rw [l35]; rfl) fun i hi => (h i (by omega)).2.1, list_gt_ext (by rw [l36]; rfl) fun i hi => (h i (by omega)).2.2⟩
theorem TW.keepC {A A' : Nat → List Int} {sc sc' : Nat → Int} {S : AS} {J K : List Nat} (h : TW A sc S) (hA : lens A') (hF : Fr J K A A' sc sc') (hJ : ([1, 2, 3, 4, 5, 29, 30, 31].all fun j => !J.elem j) = true) (hK : ([0, 1, 7].all fun k => !K.elem k) = true) (hL : countOk (A' 34) (A' 35) (A' 36) (sc' 8)) : TW A' sc' S := by
  have hj : ∀ j, j ∈ [1, 2, 3, 4, 5, 29, 30, 31] → A' j = A j := fun j hj => hF.1 j (by simpa using List.all_eq_true.mp hJ j hj)
  have hk : ∀ k, k ∈ [0, 1, 7] → sc' k = sc k := fun k hk => hF.2 k (by simpa using List.all_eq_true.mp hK k hk)
  obtain ⟨h1, h2, h3, h4, h5, h6, h7⟩ := h
  refine ⟨hA, ?_, ?_, ?_, ?_, ?_, hL⟩
  · rw [hj 1 (by decide)]; exact h2
  · rw [hj 2 (by decide), hk 0 (by decide)]; exact h3
  · rw [hj 3 (by decide), hj 4 (by decide)]; exact h4
  · rw [hj 5 (by decide), hk 1 (by decide)]; exact h5
  · rw [hj 29 (by decide), hj 30 (by decide), hj 31 (by decide), hk 7 (by decide)]; exact h6
abbrev CntAll (A : Nat → List Int) : Prop := A 34 = cntR ∧ A 35 = cntF ∧ A 36 = cntO
theorem countsAll_tw (h : TW A sc S) : wp (d + 2) 343 (0, ent 3 [vR (some M)], [], tw h0 M A sc) (fun r h' => r = .inl none ∧ ∃ A' sc', h' = tw h0 M A' sc' ∧ TW A' sc' S ∧ CntAll A') := by
  have hA := h.1
  have l34 : (A 34).length = 41 := by rw [hA.eq 34]; rfl
  have l35 : (A 35).length = 41 := by rw [hA.eq 35]; rfl
  have l36 : (A 36).length = 41 := by rw [hA.eq 36]; rfl
  refine wp.go [36] 60 fun W C hW hC => ?_
  refine ⟨_, _, _, _, twF, rfl, rfl, ?_⟩
  refine ⟨fun c => ?_, fun c => ?_⟩
  · refine ⟨_, _, _, twF, rfl, (Nat.le_of_ble_eq_true rfl), Or.inr rfl, ?_⟩
    rw [twP8]
    refine ⟨_, _, _, _, twF, rfl, rfl, ?_⟩
    (refine ⟨_, twI rfl rfl, (by omega), (ilt (0) (by omega) (lenlt (j := 34) (hA) (show (0) < 41 by omega))), ?_⟩; rw [twSetI rfl rfl]; try rw [Int.toNat_natCast])
    rw [show Int.toNat 0 = 0 from rfl]
    have hA2 : lens (up A 34 ((A 34).set 0 1)) := hA.up (by rw [List.length_set, l34]; rfl)
    refine ⟨_, _, _, _, twF, rfl, rfl, ?_⟩
    (refine ⟨_, twI rfl rfl, (by omega), (ilt (0) (by omega) (lenlt (j := 35) (hA2) (show (0) < 41 by omega))), ?_⟩; rw [twSetI rfl rfl]; try rw [Int.toNat_natCast])
    rw [show Int.toNat 0 = 0 from rfl]
    rw [show up A 34 ((A 34).set 0 1) 35 = A 35 from upn_ne _ _ (by decide)]
    have hA3 : lens (up (up A 34 ((A 34).set 0 1)) 35 ((A 35).set 0 1)) := hA2.up (by rw [List.length_set, l35]; rfl)
    refine ⟨_, _, _, _, twF, rfl, rfl, ?_⟩
    (refine ⟨_, twI rfl rfl, (by omega), (ilt (0) (by omega) (lenlt (j := 36) (hA3) (show (0) < 41 by omega))), ?_⟩; rw [twSetI rfl rfl]; try rw [Int.toNat_natCast])
    rw [show Int.toNat 0 = 0 from rfl]
    rw [show up (up A 34 ((A 34).set 0 1)) 35 ((A 35).set 0 1) 36 = A 36 by rw [upn_ne _ _ (by decide), upn_ne _ _ (by decide)]]
    refine hW _ (use (counts_loop (A0 := A) (sc0 := sc) 40 0 _ _ none rfl (hA3.up (by rw [List.length_set, l36]; rfl)) (((Fr.upA rfl).trans (Fr.upA rfl)).trans ((Fr.upA rfl).trans (Fr.upS rfl))) (up_eq _ _ _) fun i hi => ?_) ?_)
    · obtain rfl : i = 0 := by omega
      rw [upn_ne _ _ (by decide), upn_ne _ _ (by decide), up_eq, upn_ne _ _ (by decide), up_eq, up_eq, gt_set (by omega), gt_set (by omega), gt_set (by omega)]
      exact ⟨rfl, rfl, rfl⟩
    · rintro _ _ ⟨rfl, A', sc', rfl, k1, k2, k3, k4⟩
      have k5 := cntTo_eq k1 k4
      exact ⟨rfl, A', sc', rfl, h.keepC k1 k2 rfl rfl (Or.inr ⟨k3, k5⟩), k5⟩
  · refine ⟨rfl, A, sc, rfl, h, ?_⟩
    rcases h.2.2.2.2.2.2 with k | k
    · exact absurd k c
    · exact k.2
def cut (x : Nat → Int) (m i : Nat) : Int := if i ≤ m / 2 then x i else 0
theorem takes_spec {j1 j2 m : Nat} (hA : lens A) (h1 : Nat.ble 1 j1 = true) (h2 : Nat.ble j1 45 = true) (h3 : Nat.ble 1 j2 = true) (h4 : Nat.ble j2 45 = true) (t1 : tg j1 = 2) (t2 : tg j2 = 2) (n1 : ln j1 = 41) (n2 : ln j2 = 41) (hne : j1 ≠ j2) : wp (d + 1) 348 (0, ent 4 [vR (some (M + j1)), vR (some (M + j2)), vI ((m / 2 : Nat) : Int)], [], tw h0 M A sc) (fun r h' => r = .inl none ∧ ∃ Y, h' = tw h0 M (up A j2 Y) sc ∧ Y.length = 41 ∧ ∀ i, i ≤ 40 → gt Y i = cut (gt (A j1)) m i) := by
  have l1 : (A j1).length = 41 := by rw [hA.eq j1, n1]
  have l2 : (A j2).length = 41 := by rw [hA.eq j2, n2]
  have loop : ∀ (j i : Nat) (Y : List Int), j + i = 41 → Y.length = 41 → (∀ k, k < i → gt Y k = cut (gt (A j1)) m k) → wp (d + 1) 348 (2, [some (vR (some (M + j1))), some (vR (some (M + j2))), some (vI ((m / 2 : Nat) : Int)), some (vI ((i : Nat) : Int))], [], tw h0 M (up A j2 Y) sc) (fun r h' => r = .inl none ∧ ∃ Y, h' = tw h0 M (up A j2 Y) sc ∧ Y.length = 41 ∧ ∀ i, i ≤ 40 → gt Y i = cut (gt (A j1)) m i) := by
    intro j
    induction j with
    | zero =>
      intro i Y hj hY he
      obtain rfl : i = 41 := by omega
      refine wp.go [2] 20 fun W C hW hC => ?_
      exact ⟨fun _ => ⟨rfl, Y, rfl, hY, fun i hi => he i (by omega)⟩, fun c => absurd c (by omega)⟩
    | succ j ih =>
      intro i Y hj hY he
      have st : ∀ x, x = cut (gt (A j1)) m i → wp (d + 1) 348 (22, [some (vR (some (M + j1))), some (vR (some (M + j2))), some (vI ((m / 2 : Nat) : Int)), some (vI ((i : Nat) : Int))], [vL x, vI ((i : Nat) : Int), vR (some (M + j2))], tw h0 M (up A j2 Y) sc) (fun r h' => r = .inl none ∧ ∃ Y, h' = tw h0 M (up A j2 Y) sc ∧ Y.length = 41 ∧ ∀ i, i ≤ 40 → gt Y i = cut (gt (A j1)) m i) := by
        intro x hx
        refine wp.go [2] 10 fun W C hW hC => ?_
        refine ⟨_, (twI h3 h4).trans (by rw [t2, up_eq]), (by omega), (by rw [hY]; omega), ?_⟩
        rw [twSetI h3 h4, up_up, Int.toNat_natCast]
        (conv => whnf); simp (disch := omega) only [iadd_eq, isub_eq, imul_eq]
        refine hW _ (ih (i + 1) _ (by omega) (by rw [List.length_set]; exact hY) fun k hk => ?_)
        rw [gt_set (by omega)]
        by_cases e : k = i
        · rw [if_pos e, hx, e]
        · rw [if_neg e]; exact he k (by omega)
      refine wp.go [2, 22] 20 fun W C hW hC => ?_
      refine ⟨fun c => absurd c (by omega), fun _ => ?_⟩
      refine ⟨fun c => ?_, fun c => ?_⟩
      · refine hW _ (st 0 ?_)
        unfold cut
        rw [if_neg (by omega)]
      · refine ⟨_, _, _, twI h1 h2, by rw [t1], (by omega), gt_at i (by omega) (by rw [upn_ne _ _ hne, l1]; omega), ?_⟩
        rw [upn_ne _ _ hne]
        refine hW _ (st _ ?_)
        unfold cut
        rw [if_pos (by omega)]
  refine wp.go [2] 10 fun W C hW hC => ?_
  have key := loop 41 0 (A j2) rfl l2 (fun k hk => absurd hk (by omega))
  rw [upn_self] at key
  exact hW _ key
def skC (n : Nat) : Int := let m := n - 1; let x := cut cR m; let v := ldiv (w64 (foS x m + 6 * ttS x x m + 3 * twS x m + 8 * toneS x m + 6 * alS x 4 m)) 24; if n % 2 = 0 then w64 (v + ldiv (w64 (cR (n / 2) * (cR (n / 2) + 1))) 2) else v
def foC (n : Nat) : Int := let m := n - 1; let x := cut cF m; let v := ldiv (w64 (foS x m + 3 * twS x m + 8 * toneS x m)) 12; if n % 2 = 0 then w64 (v + ldiv (w64 (cF (n / 2) * (cF (n / 2) + 1))) 2) else v
def owC (n : Nat) : Int := let m := n - 1; let v := ldiv (w64 (ttS (cut cF m) (cut cO m) m + alS (cut cF m) 4 m)) 2; if n % 2 = 0 then w64 (v + ldiv (w64 (cO (n / 2) * cO (n / 2) + cF (n / 2))) 2) else v
theorem skel_spec {m : Nat} (hA : lens A) (hC3 : CntAll A) (hm : m < 40) : wp (d + 3) 347 (0, ent 7 [vR (some M), vI ((m + 1 : Nat) : Int)], [], tw h0 M A sc) (fun r h' => r = .inl (some (vL (skC (m + 1)))) ∧ ∃ Y, h' = tw h0 M (up A 37 Y) sc ∧ Y.length = 41) := by
  have e1 : isub ((m + 1 : Nat) : Int) 1 = ((m : Nat) : Int) := by rw [isub_eq (by omega)]; omega
  refine wp.go [] 120 fun W C hW hC => ?_
  refine ⟨_, _, _, _, twF, rfl, rfl, ?_⟩
  refine ⟨_, _, _, _, twF, rfl, rfl, ?_⟩
  conv => whnf
  try rw [e1]
  refine ⟨by decide, ?_⟩
  conv => whnf
  rw [idiv_eq ⟨by omega, by omega⟩ ⟨by omega, by omega⟩, show ((m : Nat) : Int) / 2 = ((m / 2 : Nat) : Int) by omega]
  refine hC _ _ _ (use (wpd.up (show d + 1 ≤ d + 2 by omega) (takes_spec (d := d) (j1 := 34) (j2 := 37) hA rfl rfl rfl rfl rfl rfl rfl rfl (by decide))) ?_)
  rintro _ _ ⟨rfl, Y, rfl, hY, hYe⟩
  have hA2 : lens (up A 37 Y) := hA.up (by rw [hY]; rfl)
  have hy : ∀ i, i ≤ m → gt Y i = cut cR m i := fun i hi => by rw [hYe i (by omega), hC3.1]
  have l37 : (up A 37 Y 37).length = 41 := by rw [up_eq]; exact hY
  have f34 : up A 37 Y 34 = cntR := by rw [upn_ne _ _ (by decide)]; exact hC3.1
  refine ⟨_, _, _, _, twF, rfl, rfl, ?_⟩
  conv => whnf
  try rw [e1]
  refine hC _ _ _ (use (four_spec (m := m) (twI (j := 37) rfl rfl) l37 (by omega)) ?_); rintro _ _ ⟨rfl, rfl⟩
  refine ⟨_, _, _, _, twF, rfl, rfl, ?_⟩
  refine ⟨_, _, _, _, twF, rfl, rfl, ?_⟩
  conv => whnf
  try rw [e1]
  refine hC _ _ _ (use (twoTwoMore_spec (m := m) (twI (j := 37) rfl rfl) (twI (j := 37) rfl rfl) l37 l37 (by omega)) ?_); rintro _ _ ⟨rfl, rfl⟩
  refine ⟨_, _, _, _, twF, rfl, rfl, ?_⟩
  conv => whnf
  try rw [e1]
  refine hC _ _ _ (use (twoTwos_spec (m := m) (twI (j := 37) rfl rfl) l37 (by omega)) ?_); rintro _ _ ⟨rfl, rfl⟩
  refine ⟨_, _, _, _, twF, rfl, rfl, ?_⟩
  conv => whnf
  try rw [e1]
  refine hC _ _ _ (use (wpd.up (show d + 1 ≤ d + 2 by omega) (threeAndOne_spec (d := d) (m := m) (twI (j := 37) rfl rfl) l37 (by omega))) ?_); rintro _ _ ⟨rfl, rfl⟩
  refine ⟨_, _, _, _, twF, rfl, rfl, ?_⟩
  conv => whnf
  try rw [e1]
  refine hC _ _ _ (use (wpd.up (show d + 1 ≤ d + 2 by omega) (allAlike_spec (d := d) (k := 4) (m := m) (twI (j := 37) rfl rfl) l37 (by decide) (by decide) (by omega))) ?_); rintro _ _ ⟨rfl, rfl⟩
  refine ⟨by decide, ?_⟩
  refine ⟨_, _, _, _, twF, rfl, rfl, ?_⟩
  refine ⟨by decide, ?_⟩
  conv => whnf
  rw [idiv_eq ⟨by omega, by omega⟩ ⟨by omega, by omega⟩, show ((m + 1 : Nat) : Int) / 2 = (((m + 1) / 2 : Nat) : Int) by omega]
  refine ⟨_, _, _, twI rfl rfl, rfl, (by omega), gt_at ((m + 1) / 2) (by omega) (lenlt (j := 34) (hA2) (show ((m + 1) / 2) < 41 by omega)), ?_⟩
  refine ⟨by decide, ?_⟩
  rw [up_eq, f34]
  conv => whnf
  rw [irem_eq ⟨by omega, by omega⟩ ⟨by omega, by omega⟩]
  simp only [lmul_w, ladd_w, w_mul_l, w_mul_r, w_add_l, w_add_r]
  rw [foS_congr hy, ttS_congr hy hy, twS_congr hy, toneS_congr hy, alS_congr hy]
  refine ⟨fun c => ?_, fun c => ?_⟩
  · refine ⟨?_, Y, rfl, hY⟩
    unfold skC
    dsimp only
    rw [if_neg (by omega), show m + 1 - 1 = m from rfl]
  · refine ⟨by decide, ?_, Y, rfl, hY⟩
    unfold skC
    dsimp only
    rw [if_pos (by omega), show m + 1 - 1 = m from rfl, lmul_w, ladd_w, ladd_w, w_mul_r]
theorem formsAll_spec {m : Nat} (hA : lens A) (hC3 : CntAll A) (hm : m < 40) : wp (d + 3) 354 (0, ent 7 [vR (some M), vI ((m + 1 : Nat) : Int)], [], tw h0 M A sc) (fun r h' => r = .inl (some (vL (foC (m + 1)))) ∧ ∃ Y, h' = tw h0 M (up A 37 Y) sc ∧ Y.length = 41) := by
  have e1 : isub ((m + 1 : Nat) : Int) 1 = ((m : Nat) : Int) := by rw [isub_eq (by omega)]; omega
  refine wp.go [] 120 fun W C hW hC => ?_
  refine ⟨_, _, _, _, twF, rfl, rfl, ?_⟩
  refine ⟨_, _, _, _, twF, rfl, rfl, ?_⟩
  conv => whnf
  try rw [e1]
  refine ⟨by decide, ?_⟩
  conv => whnf
  rw [idiv_eq ⟨by omega, by omega⟩ ⟨by omega, by omega⟩, show ((m : Nat) : Int) / 2 = ((m / 2 : Nat) : Int) by omega]
  refine hC _ _ _ (use (wpd.up (show d + 1 ≤ d + 2 by omega) (takes_spec (d := d) (j1 := 35) (j2 := 37) hA rfl rfl rfl rfl rfl rfl rfl rfl (by decide))) ?_)
  rintro _ _ ⟨rfl, Y, rfl, hY, hYe⟩
  have hA2 : lens (up A 37 Y) := hA.up (by rw [hY]; rfl)
  have hy : ∀ i, i ≤ m → gt Y i = cut cF m i := fun i hi => by rw [hYe i (by omega), hC3.2.1]
  have l37 : (up A 37 Y 37).length = 41 := by rw [up_eq]; exact hY
  have f35 : up A 37 Y 35 = cntF := by rw [upn_ne _ _ (by decide)]; exact hC3.2.1
  refine ⟨_, _, _, _, twF, rfl, rfl, ?_⟩
  conv => whnf
  try rw [e1]
  refine hC _ _ _ (use (four_spec (m := m) (twI (j := 37) rfl rfl) l37 (by omega)) ?_); rintro _ _ ⟨rfl, rfl⟩
  refine ⟨_, _, _, _, twF, rfl, rfl, ?_⟩
  conv => whnf
  try rw [e1]
  refine hC _ _ _ (use (twoTwos_spec (m := m) (twI (j := 37) rfl rfl) l37 (by omega)) ?_); rintro _ _ ⟨rfl, rfl⟩
  refine ⟨_, _, _, _, twF, rfl, rfl, ?_⟩
  conv => whnf
  try rw [e1]
  refine hC _ _ _ (use (wpd.up (show d + 1 ≤ d + 2 by omega) (threeAndOne_spec (d := d) (m := m) (twI (j := 37) rfl rfl) l37 (by omega))) ?_); rintro _ _ ⟨rfl, rfl⟩
  refine ⟨by decide, ?_⟩
  refine ⟨_, _, _, _, twF, rfl, rfl, ?_⟩
  refine ⟨by decide, ?_⟩
  conv => whnf
  rw [idiv_eq ⟨by omega, by omega⟩ ⟨by omega, by omega⟩, show ((m + 1 : Nat) : Int) / 2 = (((m + 1) / 2 : Nat) : Int) by omega]
  refine ⟨_, _, _, twI rfl rfl, rfl, (by omega), gt_at ((m + 1) / 2) (by omega) (lenlt (j := 35) (hA2) (show ((m + 1) / 2) < 41 by omega)), ?_⟩
  refine ⟨by decide, ?_⟩
  rw [up_eq, f35]
  conv => whnf
  rw [irem_eq ⟨by omega, by omega⟩ ⟨by omega, by omega⟩]
  simp only [lmul_w, ladd_w, w_mul_l, w_mul_r, w_add_l, w_add_r]
  rw [foS_congr hy, twS_congr hy, toneS_congr hy]
  refine ⟨fun c => ?_, fun c => ?_⟩
  · refine ⟨?_, Y, rfl, hY⟩
    unfold foC
    dsimp only
    rw [if_neg (by omega), show m + 1 - 1 = m from rfl]
  · refine ⟨by decide, ?_, Y, rfl, hY⟩
    unfold foC
    dsimp only
    rw [if_pos (by omega), show m + 1 - 1 = m from rfl, lmul_w, ladd_w, ladd_w, w_mul_r]
theorem ownAll_spec {m : Nat} (hA : lens A) (hC3 : CntAll A) (hm : m < 40) : wp (d + 3) 355 (0, ent 7 [vR (some M), vI ((m + 1 : Nat) : Int)], [], tw h0 M A sc) (fun r h' => r = .inl (some (vL (owC (m + 1)))) ∧ ∃ Y Z, h' = tw h0 M (up (up A 37 Y) 38 Z) sc ∧ Y.length = 41 ∧ Z.length = 41) := by
  have e1 : isub ((m + 1 : Nat) : Int) 1 = ((m : Nat) : Int) := by rw [isub_eq (by omega)]; omega
  refine wp.go [] 120 fun W C hW hC => ?_
  refine ⟨_, _, _, _, twF, rfl, rfl, ?_⟩
  refine ⟨_, _, _, _, twF, rfl, rfl, ?_⟩
  conv => whnf
  try rw [e1]
  refine ⟨by decide, ?_⟩
  conv => whnf
  rw [idiv_eq ⟨by omega, by omega⟩ ⟨by omega, by omega⟩, show ((m : Nat) : Int) / 2 = ((m / 2 : Nat) : Int) by omega]
  refine hC _ _ _ (use (wpd.up (show d + 1 ≤ d + 2 by omega) (takes_spec (d := d) (j1 := 35) (j2 := 37) hA rfl rfl rfl rfl rfl rfl rfl rfl (by decide))) ?_)
  rintro _ _ ⟨rfl, Y, rfl, hY, hYe⟩
  have hA2 : lens (up A 37 Y) := hA.up (by rw [hY]; rfl)
  refine ⟨_, _, _, _, twF, rfl, rfl, ?_⟩
  refine ⟨_, _, _, _, twF, rfl, rfl, ?_⟩
  conv => whnf
  try rw [e1]
  refine ⟨by decide, ?_⟩
  conv => whnf
  rw [idiv_eq ⟨by omega, by omega⟩ ⟨by omega, by omega⟩, show ((m : Nat) : Int) / 2 = ((m / 2 : Nat) : Int) by omega]
  refine hC _ _ _ (use (wpd.up (show d + 1 ≤ d + 2 by omega) (takes_spec (d := d) (j1 := 36) (j2 := 38) hA2 rfl rfl rfl rfl rfl rfl rfl rfl (by decide))) ?_)
  rintro _ _ ⟨rfl, Z, rfl, hZ, hZe⟩
  have hA3 : lens (up (up A 37 Y) 38 Z) := hA2.up (by rw [hZ]; rfl)
  have g37 : up (up A 37 Y) 38 Z 37 = Y := by rw [upn_ne _ _ (by decide), up_eq]
  have g38 : up (up A 37 Y) 38 Z 38 = Z := up_eq _ _ _
  have g35 : up (up A 37 Y) 38 Z 35 = cntF := by rw [upn_ne _ _ (by decide), upn_ne _ _ (by decide)]; exact hC3.2.1
  have g36 : up (up A 37 Y) 38 Z 36 = cntO := by rw [upn_ne _ _ (by decide), upn_ne _ _ (by decide)]; exact hC3.2.2
  have hy : ∀ i, i ≤ m → gt Y i = cut cF m i := fun i hi => by rw [hYe i (by omega), hC3.2.1]
  have hz : ∀ i, i ≤ m → gt Z i = cut cO m i := fun i hi => by rw [hZe i (by omega), upn_ne _ _ (by decide), hC3.2.2]
  refine ⟨_, _, _, _, twF, rfl, rfl, ?_⟩
  refine ⟨_, _, _, _, twF, rfl, rfl, ?_⟩
  conv => whnf
  try rw [e1]
  refine hC _ _ _ (use (twoTwoMore_spec (m := m) (twI (j := 37) rfl rfl) (twI (j := 38) rfl rfl) (by rw [g37]; exact hY) (by rw [g38]; exact hZ) (by omega)) ?_); rintro _ _ ⟨rfl, rfl⟩
  refine ⟨_, _, _, _, twF, rfl, rfl, ?_⟩
  conv => whnf
  try rw [e1]
  refine hC _ _ _ (use (wpd.up (show d + 1 ≤ d + 2 by omega) (allAlike_spec (d := d) (k := 4) (m := m) (twI (j := 37) rfl rfl) (by rw [g37]; exact hY) (by decide) (by decide) (by omega))) ?_); rintro _ _ ⟨rfl, rfl⟩
  refine ⟨by decide, ?_⟩
  refine ⟨_, _, _, _, twF, rfl, rfl, ?_⟩
  refine ⟨by decide, ?_⟩
  conv => whnf
  rw [idiv_eq ⟨by omega, by omega⟩ ⟨by omega, by omega⟩, show ((m + 1 : Nat) : Int) / 2 = (((m + 1) / 2 : Nat) : Int) by omega]
  refine ⟨_, _, _, twI rfl rfl, rfl, (by omega), gt_at ((m + 1) / 2) (by omega) (lenlt (j := 36) (hA3) (show ((m + 1) / 2) < 41 by omega)), ?_⟩
  refine ⟨by decide, ?_⟩
  rw [g37, g38, g36]
  conv => whnf
  rw [irem_eq ⟨by omega, by omega⟩ ⟨by omega, by omega⟩]
  simp only [lmul_w, ladd_w, w_mul_l, w_mul_r, w_add_l, w_add_r]
  rw [ttS_congr hy hz, alS_congr hy]
  refine ⟨fun c => ?_, fun c => ?_⟩
  · refine ⟨?_, Y, Z, rfl, hY, hZ⟩
    unfold owC
    dsimp only
    rw [if_neg (by omega), show m + 1 - 1 = m from rfl]
  · refine ⟨_, _, _, _, twF, rfl, rfl, ?_⟩
    refine ⟨by decide, ?_⟩
    conv => whnf
    rw [idiv_eq ⟨by omega, by omega⟩ ⟨by omega, by omega⟩, show ((m + 1 : Nat) : Int) / 2 = (((m + 1) / 2 : Nat) : Int) by omega]
    refine ⟨_, _, _, twI rfl rfl, rfl, (by omega), gt_at ((m + 1) / 2) (by omega) (lenlt (j := 35) (hA3) (show ((m + 1) / 2) < 41 by omega)), ?_⟩
    refine ⟨by decide, ?_⟩
    rw [g35]
    conv => whnf
    simp only [lmul_w, ladd_w, w_mul_l, w_mul_r, w_add_l, w_add_r]
    refine ⟨?_, Y, Z, rfl, hY, hZ⟩
    unfold owC
    dsimp only
    rw [if_pos (by omega), show m + 1 - 1 = m from rfl]
def aCounted (n w : Int) : Int := if ¬ (1 ≤ n ∧ n ≤ 40) ∨ ¬ (0 ≤ w ∧ w ≤ 4) then -1 else if w = 0 then skC n.toNat else if w = 1 then cR n.toNat else if w = 2 then foC n.toNat else if w = 3 then owC n.toNat else ldiv (lsub (foC n.toNat) (owC n.toNat)) 2
theorem counted_tw (h : TW A sc S) {n w : Int} : wp (d + 4) 342 (0, ent 3 [vR (some M), vI n, vI w], [], tw h0 M A sc) (twEnd h0 M (vL (aCounted n w)) S) := by
  unfold aCounted
  refine wp.go [] 90 fun W C hW hC => ?_
  refine hC _ _ _ (use (wpd.up (show d + 1 ≤ d + 3 by omega) (isIn_s (d := d) _ _ _ _)) ?_); rintro _ _ ⟨rfl, rfl⟩
  refine ⟨fun c => ?_, fun c => ?_⟩
  · rw [if_pos (Or.inl (b0.mp c))]
    exact ⟨rfl, _, _, rfl, h⟩
  · have c1 := b1.mp c
    refine hC _ _ _ (use (wpd.up (show d + 1 ≤ d + 3 by omega) (isIn_s (d := d) _ _ _ _)) ?_); rintro _ _ ⟨rfl, rfl⟩
    refine ⟨fun c => ?_, fun c => ?_⟩
    · have c2 := b1.mp c
      rw [if_neg (by omega)]
      obtain ⟨m, rfl⟩ : ∃ m : Nat, n = ((m + 1 : Nat) : Int) := ⟨(n - 1).toNat, by omega⟩
      rw [Int.toNat_natCast]
      refine ⟨_, _, _, twF, rfl, ?_⟩
      refine hC _ _ _ (use (wpd.up (show d + 2 ≤ d + 3 by omega) (countsAll_tw (d := d) h)) ?_)
      rintro _ _ ⟨rfl, A1, sc1, rfl, hT, hK⟩
      have hA := hT.1
      have keep1 : ∀ Y : List Int, Y.length = 41 → TW (up A1 37 Y) sc1 S := fun Y hY => hT.keep (J := [37]) (K := []) (hA.up (by rw [hY]; rfl)) (Fr.upA rfl) rfl rfl
      have keep2 : ∀ Y Z : List Int, Y.length = 41 → Z.length = 41 → TW (up (up A1 37 Y) 38 Z) sc1 S := fun Y Z hY hZ => hT.keep (J := [37, 38]) (K := []) ((hA.up (by rw [hY]; rfl)).up (by rw [hZ]; rfl)) ((Fr.upA rfl).trans (Fr.upA rfl)) rfl rfl
      refine ⟨fun e => ?_, fun n0 => ⟨fun e => ?_, fun n1 => ⟨fun e => ?_, fun n2 => ⟨fun e => ?_, fun n3 => ?_⟩⟩⟩⟩
      · rw [if_pos e]
        refine ⟨_, _, _, twF, rfl, ?_⟩
        refine hC _ _ _ (use (skel_spec hA hK (by omega)) ?_)
        rintro _ _ ⟨rfl, Y, rfl, hY⟩
        exact ⟨rfl, _, _, rfl, keep1 Y hY⟩
      · rw [if_neg n0, if_pos e]
        refine ⟨_, _, _, _, twF, rfl, rfl, ?_⟩
        refine ⟨_, _, _, twI rfl rfl, rfl, (by omega), gt_at (m + 1) (by omega) (lenlt (j := 34) (hA) (show (m + 1) < 41 by omega)), ?_⟩
        rw [hK.1]
        exact ⟨rfl, _, _, rfl, hT⟩
      · rw [if_neg n0, if_neg n1, if_pos e]
        refine ⟨_, _, _, twF, rfl, ?_⟩
        refine hC _ _ _ (use (formsAll_spec hA hK (by omega)) ?_)
        rintro _ _ ⟨rfl, Y, rfl, hY⟩
        exact ⟨rfl, _, _, rfl, keep1 Y hY⟩
      · rw [if_neg n0, if_neg n1, if_neg n2, if_pos e]
        refine ⟨_, _, _, twF, rfl, ?_⟩
        refine hC _ _ _ (use (ownAll_spec hA hK (by omega)) ?_)
        rintro _ _ ⟨rfl, Y, Z, rfl, hY, hZ⟩
        exact ⟨rfl, _, _, rfl, keep2 Y Z hY hZ⟩
      · rw [if_neg n0, if_neg n1, if_neg n2, if_neg n3]
        refine ⟨_, _, _, twF, rfl, ?_⟩
        refine hC _ _ _ (use (formsAll_spec hA hK (by omega)) ?_)
        rintro _ _ ⟨rfl, Y, rfl, hY⟩
        have hT2 := keep1 Y hY
        have hK2 : CntAll (up A1 37 Y) := by
          refine ⟨?_, ?_, ?_⟩
          · rw [upn_ne _ _ (by decide)]; exact hK.1
          · rw [upn_ne _ _ (by decide)]; exact hK.2.1
          · rw [upn_ne _ _ (by decide)]; exact hK.2.2
        refine ⟨_, _, _, twF, rfl, ?_⟩
        refine hC _ _ _ (use (ownAll_spec hT2.1 hK2 (by omega)) ?_)
        rintro _ _ ⟨rfl, Y2, Z2, rfl, hY2, hZ2⟩
        refine ⟨by decide, ?_⟩
        refine ⟨rfl, _, _, rfl, ?_⟩
        rw [up_up]
        exact keep2 Y2 Z2 hY2 hZ2
    · rw [if_pos (Or.inr (b0.mp c))]
      exact ⟨rfl, _, _, rfl, h⟩
end COUNTED
