section ACTS2
variable {d : Nat} {h0 : AH} {M : Nat} {A : Nat → List Int} {sc : Nat → Int}
theorem pow_i {k : Nat} (h : k < 31) : ishl 1 (k : Int) = ((2 ^ k : Nat) : Int) := by
  have hp : 2 ^ k ≤ 2 ^ 30 := Nat.pow_le_pow_right (by decide) (by omega)
  have := ishl_eq (a := 1) (k := k) (by omega) (by omega)
  rw [Nat.one_mul] at this
  exact this
theorem pow16 {k : Nat} (h : k < 16) : 2 ^ k < 65536 := Nat.pow_lt_pow_right (a := 2) (by decide) h
theorem or16 {a b : Nat} (ha : a < 65536) (hb : b < 65536) : a ||| b < 65536 := Nat.or_lt_two_pow (n := 16) ha hb
/-- Model.binds -/
theorem binds_spec (hA : lens A) {a b x y : Nat} (ha : a < 16) (hb : b < 16) (hab : a ≠ b) (hx : gt (A 1) (1 + a) = (x : Int)) (hy : gt (A 1) (1 + b) = (y : Int)) (hx2 : x < 65536) (hy2 : y < 65536) :
    wp (d + 1) 277 (0, ent 3 [vR (some M), vI a, vI b], [], tw h0 M A sc) (fun r h' => r = .inl none ∧ h' = tw h0 M (up A 1 (((A 1).set (1 + a) ((x ||| 2 ^ b : Nat) : Int)).set (1 + b) ((y ||| 2 ^ a : Nat) : Int))) sc) := by
  have pa := pow16 ha
  have pb := pow16 hb
  have hl := hA.eq 1
  rw [ln1] at hl
  refine wp.go [] 40 fun W C hW hC => ?_
  refine ⟨_, _, _, _, twF, rfl, rfl, ?_⟩
  conv => whnf
  rw [iadd_eq (by omega)]
  refine ⟨_, _, _, twI rfl rfl, rfl, (by first | decide | omega), gt_some (by simp (disch := decide) only [up_eq, upn_ne, List.length_set, cp_length, ln1, ln2, ln3, ln4, ln5, ln6, ln7, ln8, ln9, ln10, ln11, ln12, ln13, ln14, ln15, ln16, ln17, ln18, ln19, ln20, ln21, ln22, ln23, ln24, ln25, ln26, ln27, ln28, ln29, ln30, ln31, ln32, ln33, ln34, ln35, ln36, ln37, ln38, ln39, ln40, ln41, ln42, ln43, ln44, ln45, lens.eq hA]; omega), ?_⟩
  conv => whnf
  rw [show ((1 + (a : Int)).toNat) = 1 + a by omega, hx, pow_i (by omega), ior_eq (by omega) (by omega)]
  (refine ⟨_, twI rfl rfl, (by first | decide | omega), (by simp (disch := decide) only [up_eq, upn_ne, List.length_set, cp_length, ln1, ln2, ln3, ln4, ln5, ln6, ln7, ln8, ln9, ln10, ln11, ln12, ln13, ln14, ln15, ln16, ln17, ln18, ln19, ln20, ln21, ln22, ln23, ln24, ln25, ln26, ln27, ln28, ln29, ln30, ln31, ln32, ln33, ln34, ln35, ln36, ln37, ln38, ln39, ln40, ln41, ln42, ln43, ln44, ln45, lens.eq hA]; omega), ?_⟩; rw [twSetI rfl rfl])
  refine ⟨_, _, _, _, twF, rfl, rfl, ?_⟩
  conv => whnf
  rw [iadd_eq (by omega)]
  refine ⟨_, _, _, twI rfl rfl, rfl, (by first | decide | omega), gt_some (by simp (disch := decide) only [up_eq, upn_ne, List.length_set, cp_length, ln1, ln2, ln3, ln4, ln5, ln6, ln7, ln8, ln9, ln10, ln11, ln12, ln13, ln14, ln15, ln16, ln17, ln18, ln19, ln20, ln21, ln22, ln23, ln24, ln25, ln26, ln27, ln28, ln29, ln30, ln31, ln32, ln33, ln34, ln35, ln36, ln37, ln38, ln39, ln40, ln41, ln42, ln43, ln44, ln45, lens.eq hA]; omega), ?_⟩
  conv => whnf
  rw [show ((1 + (b : Int)).toNat) = 1 + b by omega, up_eq, gt_set (by omega), if_neg (by omega), hy, pow_i (by omega), ior_eq (by omega) (by omega)]
  (refine ⟨_, twI rfl rfl, (by first | decide | omega), (by simp (disch := decide) only [up_eq, upn_ne, List.length_set, cp_length, ln1, ln2, ln3, ln4, ln5, ln6, ln7, ln8, ln9, ln10, ln11, ln12, ln13, ln14, ln15, ln16, ln17, ln18, ln19, ln20, ln21, ln22, ln23, ln24, ln25, ln26, ln27, ln28, ln29, ln30, ln31, ln32, ln33, ln34, ln35, ln36, ln37, ln38, ln39, ln40, ln41, ln42, ln43, ln44, ln45, lens.eq hA]; omega), ?_⟩; rw [twSetI rfl rfl])
  refine ⟨rfl, ?_⟩
  rw [up_up, up_eq]
/-- Model.undo -/
theorem undo_loop (hA : lens A) {u : Nat} (hu : sc 0 = (u : Int)) (hu2 : u ≤ 11) : ∀ (j k : Nat), j + k = 17 →
    wp (d + 1) 269 (21, [some (vR (some M)), some (vI k)], [], tw h0 M (up A 1 (cp (A 1) 0 (A 2) (17 * u) k)) sc)
      (fun r h' => r = .inl (some (vI u)) ∧ h' = tw h0 M (up A 1 (cp (A 1) 0 (A 2) (17 * u) 17)) sc) := by
  intro j
  induction j with
  | zero =>
    intro k hk
    obtain rfl : k = 17 := by omega
    refine wp.go [21] 20 fun W C hW hC => ?_
    refine ⟨fun _ => ?_, fun c => absurd c (by decide)⟩
    refine ⟨_, _, _, _, twF, rfl, rfl, ?_⟩
    rw [hu]
    exact ⟨rfl, rfl⟩
  | succ j ih =>
    intro k hk
    refine wp.go [21] 40 fun W C hW hC => ?_
    refine ⟨fun c => absurd c (by omega), fun _ => ?_⟩
    refine ⟨_, _, _, _, twF, rfl, rfl, ?_⟩
    refine ⟨_, _, _, _, twF, rfl, rfl, ?_⟩
    refine ⟨_, _, _, _, twF, rfl, rfl, ?_⟩
    conv => whnf
    rw [hu, imul_eq (by omega), iadd_eq (by omega)]
    refine ⟨_, _, _, twI rfl rfl, rfl, (by first | decide | omega), gt_some (by simp (disch := decide) only [up_eq, upn_ne, List.length_set, cp_length, ln1, ln2, ln3, ln4, ln5, ln6, ln7, ln8, ln9, ln10, ln11, ln12, ln13, ln14, ln15, ln16, ln17, ln18, ln19, ln20, ln21, ln22, ln23, ln24, ln25, ln26, ln27, ln28, ln29, ln30, ln31, ln32, ln33, ln34, ln35, ln36, ln37, ln38, ln39, ln40, ln41, ln42, ln43, ln44, ln45, lens.eq hA]; omega), ?_⟩
    (refine ⟨_, twI rfl rfl, (by first | decide | omega), (by simp (disch := decide) only [up_eq, upn_ne, List.length_set, cp_length, ln1, ln2, ln3, ln4, ln5, ln6, ln7, ln8, ln9, ln10, ln11, ln12, ln13, ln14, ln15, ln16, ln17, ln18, ln19, ln20, ln21, ln22, ln23, ln24, ln25, ln26, ln27, ln28, ln29, ln30, ln31, ln32, ln33, ln34, ln35, ln36, ln37, ln38, ln39, ln40, ln41, ln42, ln43, ln44, ln45, lens.eq hA]; omega), ?_⟩; rw [twSetI rfl rfl])
    conv => whnf
    rw [iadd_eq (by omega), up_eq, upn_ne _ _ (by decide), up_up, show (17 * (u : Int) + k).toNat = 17 * u + k by omega, show ((k : Int).toNat) = 0 + k by omega, ← cp_succ]
    exact hW _ (ih (k + 1) (by omega))
theorem undo_spec (hA : lens A) {ps : List Gr} (hh : hist (A 2) (sc 0) ps) : wp (d + 1) 269 (0, ent 2 [vR (some M)], [], tw h0 M A sc)
    (fun r h' => (ps = [] → r = .inl (some (vI (-1))) ∧ h' = tw h0 M A sc) ∧ ∀ qs G, ps = qs ++ [G] → r = .inl (some (vI ((qs.length : Nat) : Int))) ∧ ∃ N, h' = tw h0 M (up A 1 N) (up sc 0 ((qs.length : Nat) : Int)) ∧ N.length = 17 ∧ isRow N 0 G ∧ hist (A 2) ((qs.length : Nat) : Int) qs) := by
  obtain ⟨h1, h2, h3⟩ := hh
  have hl := hA.eq 1
  rw [ln1] at hl
  refine wp.go [21] 20 fun W C hW hC => ?_
  refine ⟨_, _, _, _, twF, rfl, rfl, ?_⟩
  conv => whnf
  rw [h1]
  refine ⟨fun c => ?_, fun c => ?_⟩
  · refine ⟨_, _, _, _, twF, rfl, rfl, ?_⟩
    refine ⟨_, _, _, twF, rfl, (Nat.le_of_ble_eq_true rfl), ?_⟩
    rw [twP0, h1, isub_eq (by omega)]
    have k := undo_loop (d := d) (h0 := h0) (M := M) (A := A) (sc := up sc 0 (((ps.length : Nat) : Int) - 1)) hA (u := ps.length - 1) (by rw [up_eq]; omega) (by omega) 17 0 rfl
    have e : up A 1 (cp (A 1) 0 (A 2) (17 * (ps.length - 1)) 0) = A := upn_self
    rw [e] at k
    refine hW _ (wpd.mono ?_ _ _ _ k)
    rintro r h ⟨rfl, rfl⟩
    refine ⟨fun e => by subst e; exact absurd rfl c, fun qs G e => ?_⟩
    subst e
    have hq : (qs ++ [G]).length - 1 = qs.length := by simp
    have hq2 : (((qs ++ [G]).length : Nat) : Int) - 1 = ((qs.length : Nat) : Int) := by simp
    rw [hq, hq2]
    have hG := h3 qs.length G (by rw [List.getElem?_append_right (Nat.le_refl _), Nat.sub_self]; rfl)
    refine ⟨rfl, _, rfl, by rw [cp_length, hl], hG.2.congr hG.1 fun i hi => ?_, rfl, by simp at h2; omega, fun i G' hi => h3 i G' ?_⟩
    · rw [cp_gt (by omega), if_pos ⟨by omega, by omega⟩, show 0 + i - 0 = i by omega]
    · rw [List.getElem?_append_left (List.getElem?_eq_some_iff.mp hi).1]
      exact hi
  · have e : ps = [] := List.length_eq_zero_iff.mp (by omega)
    subst e
    exact ⟨fun _ => ⟨rfl, rfl⟩, fun qs G e => absurd e (by simp)⟩
/-- Model.removes -/
def clo (a k : Nat) : Nat := (a % 2 ^ k) ||| (a / 2 ^ (k + 1) * 2 ^ k)
theorem clo_bit {a k i : Nat} : (clo a k).testBit i = a.testBit (sk k i) := by
  unfold clo sk
  rw [closedUp_bit]
  by_cases c : i < k
  · rw [if_pos c, if_pos c]
  · rw [if_neg c, if_neg c]
theorem clo_lt {a k : Nat} (h : a < 65536) : clo a k < 65536 := by
  have h1 : a / 2 ^ (k + 1) * 2 ^ k ≤ a := by
    have h2 : a / 2 ^ (k + 1) * 2 ^ (k + 1) ≤ a := Nat.div_mul_le_self _ _
    have h3 : a / 2 ^ (k + 1) * 2 ^ k ≤ a / 2 ^ (k + 1) * 2 ^ (k + 1) := Nat.mul_le_mul_left _ (Nat.pow_le_pow_right (by decide) (by omega))
    omega
  exact or16 (Nat.lt_of_le_of_lt (Nat.mod_le _ _) h) (by omega)
theorem row_rem {G : Gr} (hG : G.wf) {k i : Nat} (hk : k < G.1) (hi : i < G.1 - 1) : clo (row G (sk k i)) k = row (gRem G k) i := by
  refine bits_eq fun j => ?_
  rw [clo_bit, row_bit hG]
  show _ = (decide (j < G.1 - 1) && (decide (i < G.1 - 1) && (decide (j < G.1 - 1) && G.2 (sk k i) (sk k j))))
  rw [decide_eq_true hi]
  by_cases c : j < G.1 - 1
  · rw [decide_eq_true c]; rfl
  · rw [decide_eq_false c]
    cases e : G.2 (sk k i) (sk k j) with
    | false => rfl
    | true =>
      have := (hG.2.2 _ _ e).2.1
      unfold sk at this
      split at this <;> omega
theorem removes_l1 (hA : lens A) {G : Gr} (hG : G.wf) {o : Nat} (ho : o < G.1) {Q : Rs → AH → Prop}
    (hQ : ∀ N, N.length = 17 → gt N 0 = ((G.1 : Nat) : Int) → (∀ i, i < G.1 → gt N (1 + i) = ((clo (row G i) o : Nat) : Int)) → wp (d + 2) 279 (40, [some (vR (some M)), some (vI o), some (vI o)], [], tw h0 M (up A 1 N) sc) Q) :
    ∀ (j k : Nat) (N : List Int), j + k = G.1 → N.length = 17 → gt N 0 = ((G.1 : Nat) : Int) → (∀ i, i < G.1 → gt N (1 + i) = ((if i < k then clo (row G i) o else row G i : Nat) : Int)) →
      wp (d + 2) 279 (2, [some (vR (some M)), some (vI o), some (vI k)], [], tw h0 M (up A 1 N) sc) Q := by
  have hn := hG.2.1
  intro j
  induction j with
  | zero =>
    intro k N hk hl h1 h2
    refine wp.go [2, 40] 20 fun W C hW hC => ?_
    refine ⟨_, _, _, _, twF, rfl, rfl, ?_⟩
    refine ⟨_, _, _, twI rfl rfl, rfl, by decide, gt_some (by rw [up_eq, hl]; decide), ?_⟩
    conv => whnf
    rw [up_eq, show ((0 : Int).toNat) = 0 from rfl, h1]
    refine ⟨fun _ => ?_, fun c => absurd c (by omega)⟩
    refine hW _ (hQ N hl h1 fun i hi => ?_)
    rw [h2 i hi, if_pos (by omega)]
  | succ j ih =>
    intro k N hk hl h1 h2
    refine wp.go [2, 40] 40 fun W C hW hC => ?_
    refine ⟨_, _, _, _, twF, rfl, rfl, ?_⟩
    refine ⟨_, _, _, twI rfl rfl, rfl, by decide, gt_some (by rw [up_eq, hl]; decide), ?_⟩
    conv => whnf
    rw [up_eq, show ((0 : Int).toNat) = 0 from rfl, h1]
    refine ⟨fun c => absurd c (by omega), fun _ => ?_⟩
    refine ⟨_, _, _, _, twF, rfl, rfl, ?_⟩
    refine ⟨_, _, _, _, twF, rfl, rfl, ?_⟩
    conv => whnf
    rw [iadd_eq (by omega)]
    refine ⟨_, _, _, twI rfl rfl, rfl, by omega, gt_some (by rw [up_eq, hl]; omega), ?_⟩
    rw [up_eq, show ((1 + (k : Int)).toNat) = 1 + k by omega, h2 k (by omega), if_neg (by omega)]
    refine hC _ _ _ (use (closedUp_spec (row_lt hn) (by omega)) ?_)
    rintro r h ⟨rfl, rfl⟩
    refine ⟨_, twI rfl rfl, by omega, by rw [up_eq, hl]; omega, ?_⟩
    rw [twSetI rfl rfl, up_up, up_eq, show ((1 + (k : Int)).toNat) = 1 + k by omega]
    conv => whnf
    rw [iadd_eq (by omega)]
    refine hW _ (ih (k + 1) _ (by omega) (by rw [List.length_set, hl]) ?_ fun i hi => ?_)
    · rw [gt_set (by omega), if_neg (by omega)]; exact h1
    · rw [gt_set (by omega)]
      by_cases c : i = k
      · subst c; rw [if_pos rfl, if_pos (by omega)]; rfl
      · rw [if_neg (by omega), h2 i hi]
        by_cases c2 : i < k
        · rw [if_pos c2, if_pos (by omega)]
        · rw [if_neg c2, if_neg (by omega)]
theorem removes_l2 (hA : lens A) {G : Gr} (hG : G.wf) {o : Nat} (ho : o < G.1) :
    ∀ (j k : Nat) (N : List Int), j + k + 1 = G.1 → o ≤ k → N.length = 17 → gt N 0 = ((G.1 : Nat) : Int) → (∀ i, i < G.1 → gt N (1 + i) = ((if o ≤ i ∧ i < k then clo (row G (i + 1)) o else clo (row G i) o : Nat) : Int)) →
      wp (d + 2) 279 (40, [some (vR (some M)), some (vI o), some (vI k)], [], tw h0 M (up A 1 N) sc) (fun r h' => r = .inl none ∧ ∃ N, h' = tw h0 M (up A 1 N) sc ∧ N.length = 17 ∧ isRow N 0 (gRem G o)) := by
  have hn := hG.2.1
  intro j
  induction j with
  | zero =>
    intro k N hk hok hl h1 h2
    refine wp.go [40] 40 fun W C hW hC => ?_
    refine ⟨_, _, _, _, twF, rfl, rfl, ?_⟩
    refine ⟨_, _, _, twI rfl rfl, rfl, by decide, gt_some (by rw [up_eq, hl]; decide), ?_⟩
    conv => whnf
    rw [up_eq, show ((0 : Int).toNat) = 0 from rfl, h1, iadd_eq (by omega)]
    refine ⟨fun _ => ?_, fun c => absurd c (by omega)⟩
    refine ⟨_, _, _, _, twF, rfl, rfl, ?_⟩
    refine ⟨_, _, _, twI rfl rfl, rfl, by decide, gt_some (by rw [up_eq, hl]; decide), ?_⟩
    conv => whnf
    rw [up_eq, show ((0 : Int).toNat) = 0 from rfl, h1, isub_eq (by omega)]
    refine ⟨_, twI rfl rfl, by omega, by rw [up_eq, hl]; omega, ?_⟩
    rw [twSetI rfl rfl, up_up, up_eq]
    refine ⟨rfl, _, rfl, by rw [List.length_set, hl], ?_, fun i hi => ?_⟩
    · rw [gt_set (by omega), if_pos rfl]
      show _ = ((G.1 - 1 : Nat) : Int)
      omega
    · have hi : i < G.1 - 1 := hi
      rw [gt_set (by omega), if_neg (by omega), Nat.zero_add, h2 i (by omega), ← row_rem hG ho hi]
      unfold sk
      by_cases c : i < o
      · rw [if_neg (by omega), if_pos c]
      · rw [if_pos ⟨by omega, by omega⟩, if_neg c]
  | succ j ih =>
    intro k N hk hok hl h1 h2
    refine wp.go [40] 40 fun W C hW hC => ?_
    refine ⟨_, _, _, _, twF, rfl, rfl, ?_⟩
    refine ⟨_, _, _, twI rfl rfl, rfl, by decide, gt_some (by rw [up_eq, hl]; decide), ?_⟩
    conv => whnf
    rw [up_eq, show ((0 : Int).toNat) = 0 from rfl, h1, iadd_eq (by omega)]
    refine ⟨fun c => absurd c (by omega), fun _ => ?_⟩
    refine ⟨_, _, _, _, twF, rfl, rfl, ?_⟩
    refine ⟨_, _, _, _, twF, rfl, rfl, ?_⟩
    conv => whnf
    rw [iadd_eq (by omega), iadd_eq (by omega)]
    refine ⟨_, _, _, twI rfl rfl, rfl, by omega, gt_some (by rw [up_eq, hl]; omega), ?_⟩
    rw [up_eq, show ((2 + (k : Int)).toNat) = 1 + (k + 1) by omega, h2 (k + 1) (by omega), if_neg (by omega)]
    refine ⟨_, twI rfl rfl, by omega, by rw [up_eq, hl]; omega, ?_⟩
    rw [twSetI rfl rfl, up_up, up_eq, show ((1 + (k : Int)).toNat) = 1 + k by omega]
    conv => whnf
    rw [iadd_eq (by omega)]
    refine hW _ (ih (k + 1) _ (by omega) (by omega) (by rw [List.length_set, hl]) ?_ fun i hi => ?_)
    · rw [gt_set (by omega), if_neg (by omega)]; exact h1
    · rw [gt_set (by omega)]
      by_cases c : i = k
      · subst c; rw [if_pos rfl, if_pos ⟨by omega, by omega⟩]
      · rw [if_neg (by omega), h2 i hi]
        by_cases c2 : o ≤ i ∧ i < k
        · rw [if_pos c2, if_pos ⟨by omega, by omega⟩]
        · rw [if_neg c2, if_neg (by omega)]
/-- Model.removes -/
theorem removes_spec (hA : lens A) {G : Gr} (hG : G.wf) (hr : isRow (A 1) 0 G) {o : Nat} (ho : o < G.1) : wp (d + 2) 279 (0, ent 3 [vR (some M), vI o], [], tw h0 M A sc)
    (fun r h' => r = .inl none ∧ ∃ N, h' = tw h0 M (up A 1 N) sc ∧ N.length = 17 ∧ isRow N 0 (gRem G o)) := by
  refine wp.go [2, 40] 20 fun W C hW hC => ?_
  have e : up A 1 (A 1) = A := upn_self
  have k := removes_l1 (d := d) (h0 := h0) (M := M) (sc := sc) hA hG ho (fun N hl h1 h2 => removes_l2 (A := A) hA hG ho (G.1 - 1 - o) o N (by omega) (Nat.le_refl _) hl h1 (fun i hi => by rw [if_neg (by omega), h2 i hi])) G.1 0 (A 1) rfl (by rw [hA.eq]; rfl) hr.1 (fun i hi => by rw [if_neg (by omega)]; exact (by have := hr.2 i hi; rw [Nat.zero_add] at this; exact this))
  rw [e] at k
  exact hW _ k
end ACTS2
