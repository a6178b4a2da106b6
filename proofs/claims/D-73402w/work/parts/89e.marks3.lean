/-! THE TWIN's MARKS: a shape's -/
theorem mrk0 {w : Tr → Wm} : ∀ (f : Nat) (l : List Tr) (acc : Wm), (∀ v, v ∈ l → w v 0 = 1) → acc 0 = 1 → mrkD w f l acc 0 = 1
  | 0, _, _, _, h => h
  | _ + 1, [], _, _, h => h
  | f + 1, a :: t, acc, hw, h => by
    simp only [mrkD]
    refine mrk0 f _ _ (fun v hv => hw v (List.mem_cons_of_mem _ (List.mem_of_mem_drop hv))) ?_
    have e : sevM (w a) (1 + twl a t) 0 = 1 := by simp [sevM, hw a List.mem_cons_self]
    rw [(times4 _ _).1, h, e]
theorem tab_marks {tab : List Tr} (hT : TbT tab) : ∀ (n : Nat) (t : Tr), szT t ≤ n → t ∈ tab → (kidsT t).length ≤ 3 → wB (3 * szT t) (wOf t) ∧ wOf t 0 = 1 := by
  intro n
  induction n with
  | zero => intro t h; have := sz_pos t; omega
  | succ n ih =>
    intro t hs ht hk
    obtain ⟨h1, h2, h3, h4⟩ := hT.2.1 t ht
    have hm := mk_kids t h1
    have hsz : szT t = 1 + sumS (kidsT t) := by
      have := sz_mk (kidsT t)
      rw [hm] at this
      exact this
    have ho : ∀ v, v ∈ kidsT t → okT0 v := ok_kid t h1
    have hw : wOf t = mrkD wOf 5 (kidsT t) (hyd (3 - ((kidsT t).length : Int))) := by
      have := marks_mk (h := 3 - ((kidsT t).length : Int)) (show (kidsT t).length ≤ 5 by omega) ho
      rw [hm] at this
      exact this
    have ihk := fun v (hv : v ∈ kidsT t) => ih v (by have := sz_kid t v hv; omega) (h4 v hv).1 (h4 v hv).2
    rw [hw]
    refine ⟨?_, mrk0 5 _ _ (fun v hv => (ihk v hv).2) ?_⟩
    · have := wB_mrk (w := wOf) 5 (kidsT t) _ 3 (by omega) ho (fun v hv => (ihk v hv).1) (wB_hyd (h := 3 - ((kidsT t).length : Int)) (by omega))
      exact this.up (by omega)
    · unfold hyd; rw [if_pos (by omega)]
theorem wB_wK {w : Wm} {x : Nat} (h : wB x w) (h0 : w 0 = 1) (hx : x ≤ 45) : wK w := by
  obtain ⟨-, h1, h2, h3⟩ := h
  have m1 := Nat.mul_le_mul hx hx
  have m2 := Nat.mul_le_mul m1 hx
  exact ⟨h0, by omega, by omega, by omega⟩
theorem wB_lim {w : Wm} {x : Nat} (h : wB x w) (hx : x ≤ 100) : ∀ k, k < 4 → w k ≤ 1000000 := by
  obtain ⟨h0, h1, h2, h3⟩ := h
  have m1 := Nat.mul_le_mul hx hx
  have m2 := Nat.mul_le_mul m1 hx
  intro k hk
  rcases (show k = 0 ∨ k = 1 ∨ k = 2 ∨ k = 3 by omega) with rfl | rfl | rfl | rfl <;> omega
theorem sumS_drop (l : List Tr) (k : Nat) : sumS (l.drop k) ≤ sumS l := by
  induction k generalizing l with
  | zero => simp
  | succ k ih =>
    cases l with
    | nil => simp
    | cons a t =>
      have := ih t
      have e : sumS (a :: t) = szT a + sumS t := by simp [sumS]
      rw [List.drop_succ_cons, e]; omega
section MARKS3
variable {d : Nat} {h0 : AH} {M : Nat} {A : Nat → List Int} {sc : Nat → Int} {tab : List Tr}
theorem on_fill (hA : lens A) {s : Int} {hh : Int} {Q : Rs → AH → Prop} (hQ : ∀ X, X.length = 4 → (∀ k, k < 4 → gt X k = ((hyd hh k : Nat) : Int)) → wp (d + 1) 322 (29, [some (vR (some M)), some (vI s), some (vI hh), some (vI 4)], [], tw h0 M (up A 22 X) sc) Q) :
    ∀ (j k : Nat) (X : List Int), j + k = 4 → X.length = 4 → (∀ i, i < k → gt X i = ((hyd hh i : Nat) : Int)) → wp (d + 1) 322 (2, [some (vR (some M)), some (vI s), some (vI hh), some (vI k)], [], tw h0 M (up A 22 X) sc) Q := by
  intro j
  induction j with
  | zero =>
    intro k X hj hX h
    obtain rfl : k = 4 := by omega
    refine wp.go [2, 29] 20 fun W C hW hC => ?_
    refine ⟨fun _ => hW _ (hQ X hX h), fun c => absurd c (by decide)⟩
  | succ j ih =>
    intro k X hj hX h
    have hA' : lens (up A 22 X) := hA.up (by rw [hX]; rfl)
    have fin : ∀ v : Int, v = ((hyd hh k : Nat) : Int) → wp (d + 1) 322 (22, [some (vR (some M)), some (vI s), some (vI hh), some (vI k)], [vI v, vI k, vR (some (M + 22))], tw h0 M (up A 22 X) sc) Q := by
      intro v hv
      refine wp.go [2] 40 fun W C hW hC => ?_
      (refine ⟨_, twI rfl rfl, (by omega), (ilt (k) (by omega) (lenlt (j := 22) (hA') (show (k) < 4 by omega))), ?_⟩; rw [twSetI rfl rfl]; try rw [Int.toNat_natCast])
      rw [up_up, up_eq]
      (conv => whnf); simp (disch := omega) only [iadd_eq, isub_eq, imul_eq]
      refine hW _ (ih (k + 1) _ (by omega) (by rw [List.length_set, hX]) (fun m hm => ?_))
      rw [gt_set (by omega)]
      by_cases e : m = k
      · rw [if_pos e, e, hv]
      · rw [if_neg e]; exact h m (by omega)
    refine wp.go [2, 22, 29] 40 fun W C hW hC => ?_
    refine ⟨fun c => absurd c (by omega), fun _ => ?_⟩
    refine ⟨_, _, _, _, twF, rfl, rfl, ?_⟩
    refine ⟨fun c => ?_, fun c => ?_⟩
    · exact hW _ (fin 0 (by unfold hyd; rw [if_neg (by omega)]; rfl))
    · exact hW _ (fin 1 (by unfold hyd; rw [if_pos c]; rfl))
theorem on_loop (hT : TbT tab) {s : Nat} {l : List Tr} (hl3 : ∀ v, v ∈ l → (kidsT v).length ≤ 3) {hh : Int} {R : Wm} {A0 : Nat → List Int} (hV : TbV A0 tab) (hK : KidsOf A0 tab s l) (hs15 : sumS l ≤ 15) :
    ∀ (f k : Nat) (A : Nat → List Int) (P : Wm) (x : Nat), lens A → Fr [22, 23, 24] [] A0 A sc sc → l.length ≤ k + f → (∀ i, i < 4 → gt (A 22) i = ((P i : Nat) : Int)) → mrkD wOf f (l.drop k) P = R → wB x P → x + 3 * sumS (l.drop k) ≤ 60 →
      wp (d + 4) 322 (31, [some (vR (some M)), some (vI s), some (vI hh), some (vI k)], [], tw h0 M A sc) (fun r h' => r = .inl none ∧ ∃ A', h' = tw h0 M A' sc ∧ lens A' ∧ Fr [22, 23, 24] [] A0 A' sc sc ∧ ∀ i, i < 4 → gt (A' 22) i = ((R i : Nat) : Int)) := by
  intro f
  induction f with
  | zero =>
    intro k A P x hA hF hk hP hR hB hx
    have hK' := hK.same (hF.1 11 rfl) (hF.1 12 rfl)
    have hR : P = R := hR
    subst hR
    obtain ⟨hs, hK1, hl4, hin, hK2⟩ := hK'
    refine wp.go [31] 40 fun W C hW hC => ?_
    refine ⟨_, _, _, _, twF, rfl, rfl, ?_⟩
    refine ⟨_, _, _, twI rfl rfl, rfl, (by omega), gt_at (s) (by omega) (lenlt (j := 12) (hA) (show (s) < 64 by omega)), ?_⟩
    rw [hK1]
    refine ⟨fun _ => ⟨rfl, A, rfl, hA, hF, hP⟩, fun c => absurd c (by omega)⟩
  | succ f ih =>
    intro k A P x hA hF hk hP hR hB hx
    have hK' := hK.same (hF.1 11 rfl) (hF.1 12 rfl)
    have hKs := hK'
    obtain ⟨hs, hK1, hl4, hin, hK2⟩ := hK'
    refine wp.go [31] 60 fun W C hW hC => ?_
    refine ⟨_, _, _, _, twF, rfl, rfl, ?_⟩
    refine ⟨_, _, _, twI rfl rfl, rfl, (by omega), gt_at (s) (by omega) (lenlt (j := 12) (hA) (show (s) < 64 by omega)), ?_⟩
    rw [hK1]
    refine ⟨fun c => ?_, fun c => ?_⟩
    · rw [List.drop_eq_nil_of_le (by omega)] at hR
      have hR : P = R := hR
      subst hR
      exact ⟨rfl, A, rfl, hA, hF, hP⟩
    · have hkl : k < l.length := by omega
      have hdr : l.drop k = l[k] :: l.drop (k + 1) := List.drop_eq_getElem_cons hkl
      have htl := twl_le l[k] (l.drop (k + 1))
      rw [List.length_drop] at htl
      obtain ⟨i, p1, p2, p3⟩ := hK2 k (by omega)
      rw [List.getElem?_eq_getElem hkl] at p3
      have hmem : l[k] ∈ l := List.getElem_mem hkl
      have htab := hin _ hmem
      have hsz : szT l[k] ≤ 15 := Nat.le_trans (sumS_mem hmem) hs15
      obtain ⟨m1, m2⟩ := tab_marks hT _ l[k] (Nat.le_refl _) htab (hl3 _ hmem)
      have hwK := wB_wK m1 m2 (by omega)
      have hi63 : i ≤ 63 := Nat.le_trans p1 hT.2.2
      have hmk : ∀ q, q < 4 → gt (A 17) (4 * i + q) = ((wOf l[k] q : Nat) : Int) := fun q hq => by
        rw [hF.1 17 rfl]
        exact (hV i _ p3).2.2.2 q hq
      rw [hdr] at hR hx
      simp only [mrkD] at hR
      have hsum : sumS (l[k] :: l.drop (k + 1)) = szT l[k] + sumS (l.drop (k + 1)) := by simp only [sumS, List.map_cons, List.sum_cons]
      have hrest : ∀ (t : List Tr), (∀ v, v ∈ t → okT0 v) → sumS t = twl l[k] t * szT l[k] + sumS (t.drop (twl l[k] t)) := by
        intro t
        induction t with
        | nil => intro _; simp [twl_nil, sumS]
        | cons b t ih2 =>
          intro ho2
          rw [twl_cons]
          by_cases c : eqT b l[k] = true
          · rw [if_pos c, List.drop_succ_cons]
            have := ih2 fun v hv => ho2 v (List.mem_cons_of_mem _ hv)
            have e := eqT_sz c
            simp only [sumS, List.map_cons, List.sum_cons] at this ⊢
            rw [this, e, Nat.add_mul]
            omega
          · rw [if_neg c]; simp
      have h5 := hrest (l.drop (k + 1)) (fun v hv => (hT.2.1 v (hin v (List.mem_of_mem_drop hv))).1)
      have e5 : (1 + twl l[k] (l.drop (k + 1))) * (3 * szT l[k]) = 3 * szT l[k] + 3 * (twl l[k] (l.drop (k + 1)) * szT l[k]) := by grind
      have hnew := wB_times hB (wB_sev (n := 1 + twl l[k] (l.drop (k + 1))) m1 (by omega))
      have hlim := wB_lim hnew (by rw [hsum] at hx; omega)
      refine ⟨_, _, _, _, twF, rfl, rfl, ?_⟩
      (conv => whnf); simp (disch := omega) only [iadd_eq, isub_eq, imul_eq]
      refine ⟨_, _, _, twI rfl rfl, rfl, (by omega), gt_at (4 * s + k) (by omega) (lenlt (j := 11) (hA) (show (4 * s + k) < 256 by omega)), ?_⟩
      rw [p2]
      refine ⟨_, _, _, twF, rfl, ?_⟩
      refine hC _ _ _ (use (alike_spec hA hT hKs hdr) ?_); rintro _ _ ⟨rfl, rfl⟩
      refine ⟨_, _, _, twF, rfl, ?_⟩
      refine hC _ _ _ (use (manyLike_spec hA hi63 hmk hwK (by omega) (by omega)) ?_)
      rintro _ _ ⟨rfl, X, rfl, hX, hX2⟩
      have hA1 : lens (up A 23 X) := hA.up (by rw [hX]; rfl)
      refine ⟨_, _, _, twF, rfl, ?_⟩
      refine hC _ _ _ (use (multiplies_spec (a := P) (b := sevM (wOf l[k]) (1 + twl l[k] (l.drop (k + 1)))) hA1 (fun q hq => by rw [upn_ne _ _ (by decide)]; exact hP q hq) (fun q hq => by rw [up_eq]; exact hX2 q hq) (fun q hq => by have := hlim q hq; omega)) ?_)
      rintro _ _ ⟨rfl, A2, rfl, hA2, hF2, hP2⟩
      have hF3 : Fr [22, 23, 24] [] A A2 sc sc := (Fr.upA (by decide)).trans (hF2.wide rfl rfl)
      have hF4 := hF.trans hF3
      refine ⟨_, _, _, twF, rfl, ?_⟩
      refine hC _ _ _ (use (alike_spec hA2 hT (hK.same (hF4.1 11 rfl) (hF4.1 12 rfl)) hdr) ?_); rintro _ _ ⟨rfl, rfl⟩
      conv => whnf
      rw [iaddN (by omega)]
      have e : l.drop (k + (1 + twl l[k] (l.drop (k + 1)))) = (l.drop (k + 1)).drop (twl l[k] (l.drop (k + 1))) := by rw [List.drop_drop]; congr 1; omega
      exact hW _ (ih _ A2 _ _ hA2 hF4 (by omega) hP2 (by rw [e]; exact hR) hnew (by rw [e, e5]; rw [hsum] at hx; omega))
/-- Model.marksOn -/
theorem marksOn_spec (hA : lens A) (hT : TbT tab) (hV : TbV A tab) {s : Nat} {l : List Tr} (hK : KidsOf A tab s l) (hl3 : ∀ v, v ∈ l → (kidsT v).length ≤ 3) (hs15 : sumS l ≤ 15) {hh : Int} (hh4 : hh ≤ 4) : wp (d + 4) 322 (0, ent 4 [vR (some M), vI s, vI hh], [], tw h0 M A sc) (fun r h' => r = .inl none ∧ ∃ A', h' = tw h0 M A' sc ∧ lens A' ∧ Fr [22, 23, 24] [] A A' sc sc ∧ ∀ i, i < 4 → gt (A' 22) i = ((marksT (mkT l) hh i : Nat) : Int)) := by
  have hl2 : (A 22).length = 4 := by rw [hA.eq 22]; rfl
  have ho : ∀ v, v ∈ l → okT0 v := fun v hv => (hT.2.1 v (hK.2.2.2.1 v hv)).1
  have hl4 := hK.2.2.1
  rw [marks_mk (by omega) ho]
  refine wp.go [2] 20 fun W C hW hC => ?_
  have key := on_fill (d := d + 3) (h0 := h0) (M := M) (sc := sc) hA (s := (s : Int)) (hh := hh) (Q := fun r h' => r = .inl none ∧ ∃ A', h' = tw h0 M A' sc ∧ lens A' ∧ Fr [22, 23, 24] [] A A' sc sc ∧ ∀ i, i < 4 → gt (A' 22) i = ((mrkD wOf 5 l (hyd hh) i : Nat) : Int)) (fun X hX h => ?_) 4 0 (A 22) rfl hl2 (fun i hi => absurd hi (by omega))
  · rw [upn_self] at key
    exact hW _ key
  · refine wp.go [31] 20 fun W C hW hC => ?_
    exact hW _ (on_loop hT hl3 hV hK hs15 5 0 (up A 22 X) (hyd hh) 4 (hA.up (by rw [hX]; rfl)) (Fr.upA (by decide)) (by omega) (fun i hi => by rw [up_eq]; exact h i hi) (by simp) (wB_hyd (by omega)) (by simp; omega))
/-- Model.laysMarks -/
theorem lm_copy {c : Wm} (hA : lens A) {s : Nat} (hs : s ≤ 63) {hh : Int} (hc : ∀ k, k < 4 → gt (A 22) k = ((c k : Nat) : Int)) :
    ∀ (j k : Nat) (X : List Int), j + k = 4 → X.length = 256 → (∀ m, m < 4 * s → gt X m = gt (A 17) m) → (∀ m, m < k → gt X (4 * s + m) = ((c m : Nat) : Int)) → wp (d + 1) 321 (8, [some (vR (some M)), some (vI s), some (vI hh), some (vI k)], [], tw h0 M (up A 17 X) sc) (fun r h' => r = .inl none ∧ ∃ X, h' = tw h0 M (up A 17 X) sc ∧ X.length = 256 ∧ (∀ m, m < 4 * s → gt X m = gt (A 17) m) ∧ ∀ m, m < 4 → gt X (4 * s + m) = ((c m : Nat) : Int)) := by
  intro j
  induction j with
  | zero =>
    intro k X hj hX h1 h
    obtain rfl : k = 4 := by omega
    refine wp.go [8] 20 fun W C hW hC => ?_
    refine ⟨fun _ => ⟨rfl, X, rfl, hX, h1, h⟩, fun c => absurd c (by decide)⟩
  | succ j ih =>
    intro k X hj hX h1 h
    have hA' : lens (up A 17 X) := hA.up (by rw [hX]; rfl)
    refine wp.go [8] 40 fun W C hW hC => ?_
    refine ⟨fun c => absurd c (by omega), fun _ => ?_⟩
    refine ⟨_, _, _, _, twF, rfl, rfl, ?_⟩
    refine ⟨_, _, _, _, twF, rfl, rfl, ?_⟩
    refine ⟨_, _, _, twI rfl rfl, rfl, (by omega), gt_at (k) (by omega) (lenlt (j := 22) (hA') (show (k) < 4 by omega)), ?_⟩
    rw [upn_ne _ _ (by decide), hc k (by omega)]
    (conv => whnf); simp (disch := omega) only [iadd_eq, isub_eq, imul_eq]
    (refine ⟨_, twI rfl rfl, (by omega), (ilt (4 * s + k) (by omega) (lenlt (j := 17) (hA') (show (4 * s + k) < 256 by omega))), ?_⟩; rw [twSetI rfl rfl]; try rw [Int.toNat_natCast])
    rw [up_up, up_eq]
    (conv => whnf); simp (disch := omega) only [iadd_eq, isub_eq, imul_eq]
    refine hW _ (ih (k + 1) _ (by omega) (by rw [List.length_set, hX]) (fun m hm => ?_) (fun m hm => ?_))
    · rw [gt_set (by omega), if_neg (by omega)]; exact h1 m hm
    · rw [gt_set (by omega)]
      by_cases e : m = k
      · rw [if_pos (by omega), e]
      · rw [if_neg (by omega)]; exact h m (by omega)
theorem laysMarks_spec (hA : lens A) (hT : TbT tab) (hV : TbV A tab) {s : Nat} {l : List Tr} (hK : KidsOf A tab s l) (hl3 : ∀ v, v ∈ l → (kidsT v).length ≤ 3) (hs15 : sumS l ≤ 15) {hh : Int} (hh4 : hh ≤ 4) : wp (d + 5) 321 (0, ent 4 [vR (some M), vI s, vI hh], [], tw h0 M A sc) (fun r h' => r = .inl none ∧ ∃ A', h' = tw h0 M A' sc ∧ lens A' ∧ Fr [17, 22, 23, 24] [] A A' sc sc ∧ (∀ m, m < 4 * s → gt (A' 17) m = gt (A 17) m) ∧ ∀ i, i < 4 → gt (A' 17) (4 * s + i) = ((marksT (mkT l) hh i : Nat) : Int)) := by
  have hs63 := hK.1
  refine wp.go [8] 20 fun W C hW hC => ?_
  refine ⟨_, _, _, twF, rfl, ?_⟩
  refine hC _ _ _ (use (marksOn_spec hA hT hV hK hl3 hs15 hh4) ?_)
  rintro _ _ ⟨rfl, A1, rfl, hA1, hF1, hP⟩
  have hl : (A1 17).length = 256 := by rw [hA1.eq 17]; rfl
  have key := lm_copy (d := d + 4) (h0 := h0) (M := M) (sc := sc) hA1 hs63 (hh := hh) hP 4 0 (A1 17) rfl hl (fun _ _ => rfl) (fun i hi => absurd hi (by omega))
  rw [upn_self] at key
  refine hW _ (wpd.mono ?_ _ _ _ key)
  rintro r h' ⟨rfl, X, rfl, hX, h1, h2⟩
  refine ⟨rfl, _, rfl, hA1.up (by rw [hX]; rfl), (hF1.wide rfl rfl).trans (Fr.upA (by decide)), fun m hm => ?_, fun i hi => by rw [up_eq]; exact h2 i hi⟩
  rw [up_eq, h1 m hm, hF1.1 17 rfl]
end MARKS3
