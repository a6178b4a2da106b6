def FL (l : List Tr) (k : Nat) : Nat := fO l[k]?
def OL (l : List Tr) (k : Nat) : Nat := oO l[k]?
def EL (l : List Tr) (a b : Nat) : Bool := eqO l[a]? l[b]?
def smL (l : List Tr) : Nat := (smR (EL l) 3).1
def q9 (l : List Tr) : Nat := sumR 64 (g9 (FL l)) / smL l
def q10 (l : List Tr) : Nat := sumR 64 (g10 (FL l) (EL l)) / smL l
def q11 (l : List Tr) : Nat := sumR 64 (g11 (FL l) (EL l)) / smL l
def q12 (l : List Tr) : Nat := sumR 64 (g12 (FL l) (OL l) (EL l)) / smL l
section ROWS4
variable {d : Nat} {h0 : AH} {M : Nat} {A : Nat → List Int} {sc sc0 : Nat → Int} {tab : List Tr}
theorem four_of (hA : lens A) (hT : TbT tab) (hV : TbV A tab) (hH : TbH A) {l : List Tr} (hl : ∀ v, v ∈ l → v ∈ tab) (h : ∀ k, k < 4 → atI (A 39) tab k l[k]?) : FourOk A (fun k => (gt (A 39) k).toNat) (FL l) (OL l) (EL l) := by
  have h63 := hT.2.2
  have ok : ∀ k : Nat, okO l[k]? := by
    intro k
    cases e : l[k]? with
    | none => trivial
    | some v => exact (hT.2.1 v (hl v (List.mem_of_getElem? e))).1
  refine ⟨fun k hk => ?_, fun a b ha hb => ?_⟩
  · obtain ⟨i, i1, i2, i3⟩ := h k hk
    dsimp only
    rw [i2, Int.toNat_natCast]
    obtain ⟨f1, f2⟩ := hV.f hH i1
    rw [i3] at f1 f2
    exact ⟨by omega, rfl, f1, f2⟩
  · obtain ⟨i, i1, i2, i3⟩ := h a ha
    obtain ⟨j, j1, j2, j3⟩ := h b hb
    dsimp only
    rw [i2, j2, Int.toNat_natCast, Int.toNat_natCast]
    unfold EL
    rw [eqO_iff (ok a) (ok b)]
    constructor
    · intro e; exact gtT_inj hT.1 i1 j1 (by rw [i3, j3, e])
    · rintro rfl; rw [← i3, ← j3]
theorem four_bnd {l : List Tr} (hl : l.length ≤ 4) (hs : sumS l ≤ 15) : FourB (FL l) (OL l) (fun k => szO l[k]?) := by
  refine ⟨fun k hk => ?_, ?_⟩
  · unfold FL OL
    dsimp only
    cases l[k]? with
    | none => exact ⟨Nat.le_refl _, Nat.le_refl _⟩
    | some v => exact ⟨forms_le v, own_le v⟩
  · unfold sumS at hs
    match l, hl with
    | [], _ => exact Nat.zero_le _
    | [a], _ => simpa [szO] using hs
    | [a, b], _ => simp [szO] at hs ⊢; omega
    | [a, b, c], _ => simp [szO] at hs ⊢; omega
    | [a, b, c, e], _ => simp [szO] at hs ⊢; omega
    | _ :: _ :: _ :: _ :: _ :: _, h => simp at h
theorem sm_pos (l : List Tr) : 1 ≤ smL l ∧ smL l ≤ 64 := ⟨(smR_le (EL l) 3).1, (smR_le (EL l) 3).2.1⟩
theorem cr_copy (hA : lens A) {i : Nat} (hi : i ≤ 63) {Q : Rs → AH → Prop} (hQ : ∀ X x2 x3 x4, X.length = 4 → (∀ k, k < 4 → gt X k = gt (A 11) (4 * i + k)) → wp (d + 2) 375 (49, [some (vR (some M)), some (vI ((i : Nat) : Int)), some (vI x2), x3, x4], [], tw h0 M (up A 39 X) sc) Q) :
    ∀ (j k : Nat) (X : List Int) (x3 x4 : Option AV), j + k = 4 → X.length = 4 → (∀ m, m < k → gt X m = gt (A 11) (4 * i + m)) → wp (d + 2) 375 (22, [some (vR (some M)), some (vI ((i : Nat) : Int)), some (vI ((k : Nat) : Int)), x3, x4], [], tw h0 M (up A 39 X) sc) Q := by
  intro j
  induction j with
  | zero =>
    intro k X x3 x4 hj hX h
    obtain rfl : k = 4 := by omega
    refine wp.go [22, 49] 20 fun W C hW hC => ?_
    exact ⟨fun _ => hW _ (hQ X _ x3 x4 hX h), fun c => absurd c (by decide)⟩
  | succ j ih =>
    intro k X x3 x4 hj hX h
    have hA' : lens (up A 39 X) := hA.up (by rw [hX]; rfl)
    refine wp.go [22, 49] 40 fun W C hW hC => ?_
    refine ⟨fun c => absurd c (by omega), fun _ => ?_⟩
    refine ⟨_, _, _, _, twF, rfl, rfl, ?_⟩
    refine ⟨_, _, _, _, twF, rfl, rfl, ?_⟩
    conv => whnf
    simp (disch := omega) only [iadd_eq, imul_eq]
    refine ⟨_, _, _, twI rfl rfl, rfl, (by omega), gt_at (4 * i + k) (by omega) (lenlt (j := 11) (hA') (show (4 * i + k) < 256 by omega)), ?_⟩
    rw [upn_ne _ _ (by decide)]
    (refine ⟨_, twI rfl rfl, (by omega), (ilt (k) (by omega) (lenlt (j := 39) (hA') (show (k) < 4 by omega))), ?_⟩; rw [twSetI rfl rfl]; try rw [Int.toNat_natCast])
    rw [up_up, up_eq]
    (conv => whnf); simp (disch := omega) only [iadd_eq, isub_eq, imul_eq]
    refine hW _ (ih (k + 1) _ _ _ (by omega) (by rw [List.length_set, hX]) (fun m hm => ?_))
    rw [gt_set (by omega)]
    by_cases e : m = k
    · subst e; rw [if_pos rfl]
    · rw [if_neg e]; exact h m (by omega)
theorem countsRows_spec (hB : Tbl A sc tab) {i : Nat} {t : Tr} (hi : gtT tab i = some t) (hs : szT t ≤ 16) : wp (d + 2) 375 (0, ent 5 [vR (some M), vI ((i : Nat) : Int)], [], tw h0 M A sc) (fun r h' => r = .inl none ∧ ∃ X sc', h' = tw h0 M (up A 39 X) sc' ∧ X.length = 4 ∧ (∀ k, k < 4 → atI X tab k (kidsT t)[k]?) ∧ Fr [] [9, 10, 11, 12] A A sc sc' ∧ sc' 9 = ((q9 (kidsT t) : Nat) : Int) ∧ sc' 10 = ((q10 (kidsT t) : Nat) : Int) ∧ sc' 11 = ((q11 (kidsT t) : Nat) : Int) ∧ sc' 12 = ((q12 (kidsT t) : Nat) : Int)) := by
  obtain ⟨hA, hT, hK, hV, hH, -⟩ := hB
  have h63 := hT.2.2
  obtain ⟨t1, t2, t3⟩ := gtT_le hi
  have ht := hT.2.1 _ t3
  have hsz := sz_mk (kidsT t)
  rw [mk_kids _ ht.1] at hsz
  have hsum : sumS (kidsT t) ≤ 15 := by unfold sumS; omega
  have hl39 : (A 39).length = 4 := by rw [hA.eq 39]; rfl
  have key : ∀ sc1 : Nat → Int, RowsAt sc sc1 (FL (kidsT t)) (OL (kidsT t)) (EL (kidsT t)) 0 → wp (d + 2) 375 (22, [some (vR (some M)), some (vI ((i : Nat) : Int)), some (vI ((0 : Nat) : Int)), none, none], [], tw h0 M (up A 39 (A 39)) sc1) (fun r h' => r = .inl none ∧ ∃ X sc', h' = tw h0 M (up A 39 X) sc' ∧ X.length = 4 ∧ (∀ k, k < 4 → atI X tab k (kidsT t)[k]?) ∧ Fr [] [9, 10, 11, 12] A A sc sc' ∧ sc' 9 = ((q9 (kidsT t) : Nat) : Int) ∧ sc' 10 = ((q10 (kidsT t) : Nat) : Int) ∧ sc' 11 = ((q11 (kidsT t) : Nat) : Int) ∧ sc' 12 = ((q12 (kidsT t) : Nat) : Int)) := by
    intro sc1 hR
    refine cr_copy hA (by omega) (fun X x2 x3 x4 hX hXe => ?_) 4 0 (A 39) none none rfl hl39 (fun m hm => absurd hm (by omega))
    have hA' : lens (up A 39 X) := hA.up (by rw [hX]; rfl)
    have hat : ∀ k, k < 4 → atI X tab k (kidsT t)[k]? := fun k hk => by
      obtain ⟨y, y1, y2, y3⟩ := (hK i t hi).2.2.2 k hk
      exact ⟨y, y1, by rw [hXe k hk]; exact y2, y3⟩
    have hF := four_of (A := up A 39 X) hA' hT hV hH (l := kidsT t) (fun v hv => (ht.2.2.2 v hv).1) (by rw [up_eq]; exact hat)
    have hFB := four_bnd ht.2.2.1 hsum
    refine wp.go [51] 20 fun W C hW hC => ?_
    refine hW _ (rows_a (sc0 := sc) hA' hF hFB (fun sc2 y3 y4 hR2 => ?_) 4 0 sc1 x3 x4 rfl hR)
    obtain ⟨k9, k10, k11, k12, kk⟩ := hR2
    have s9 := sumg_bd (fun i hi => (g_bd (E := EL (kidsT t)) hFB hi).1) (Nat.le_refl 64)
    have s10 := sumg_bd (fun i hi => (g_bd (E := EL (kidsT t)) hFB hi).2.1) (Nat.le_refl 64)
    have s11 := sumg_bd (fun i hi => (g_bd (E := EL (kidsT t)) hFB hi).2.2.1) (Nat.le_refl 64)
    have s12 := sumg_bd (fun i hi => (g_bd (E := EL (kidsT t)) hFB hi).2.2.2) (Nat.le_refl 64)
    obtain ⟨p1, p2⟩ := sm_pos (kidsT t)
    have div : ∀ {x : Nat}, x ≤ 1000000000 → ldiv ((x : Nat) : Int) (((smR (EL (kidsT t)) 3).1 : Nat) : Int) = ((x / smL (kidsT t) : Nat) : Int) := fun hx => ldivN (by omega) (show 0 < smL (kidsT t) by omega) (show smL (kidsT t) ≤ _ by omega)
    have ne0 : (((smR (EL (kidsT t)) 3).1 : Nat) : Int) ≠ 0 := by have : smL (kidsT t) = (smR (EL (kidsT t)) 3).1 := rfl; omega
    refine wp.go [] 80 fun W C hW hC => ?_
    refine ⟨_, _, _, twF, rfl, ?_⟩
    refine hC _ _ _ (use (sameRows_spec (d := d) hA' hF) ?_)
    rintro _ _ ⟨rfl, rfl⟩
    refine ⟨_, _, _, _, twF, rfl, rfl, ?_⟩
    rw [k9]
    refine ⟨ne0, ?_⟩
    rw [div s9]
    (refine ⟨_, _, _, twF, rfl, (Nat.le_of_ble_eq_true rfl), ?_⟩; rw [twP9])
    refine ⟨_, _, _, _, twF, rfl, rfl, ?_⟩
    rw [upn_ne _ _ (by decide), k10]
    refine ⟨ne0, ?_⟩
    rw [div s10]
    (refine ⟨_, _, _, twF, rfl, (Nat.le_of_ble_eq_true rfl), ?_⟩; rw [twP10])
    refine ⟨_, _, _, _, twF, rfl, rfl, ?_⟩
    rw [upn_ne _ _ (by decide), upn_ne _ _ (by decide), k11]
    refine ⟨ne0, ?_⟩
    rw [div s11]
    (refine ⟨_, _, _, twF, rfl, (Nat.le_of_ble_eq_true rfl), ?_⟩; rw [twP11])
    refine ⟨_, _, _, _, twF, rfl, rfl, ?_⟩
    rw [upn_ne _ _ (by decide), upn_ne _ _ (by decide), upn_ne _ _ (by decide), k12]
    refine ⟨ne0, ?_⟩
    rw [div s12]
    (refine ⟨_, _, _, twF, rfl, (Nat.le_of_ble_eq_true rfl), ?_⟩; rw [twP12])
    refine ⟨rfl, X, _, rfl, hX, hat, ⟨fun _ _ => rfl, fun k hk => ?_⟩, ?_, ?_, ?_, ?_⟩
    · have hne : ∀ x, x ∈ [9, 10, 11, 12] → k ≠ x := by
        rintro x hx rfl
        rw [List.elem_eq_true_of_mem hx] at hk
        cases hk
      rw [upn_ne _ _ (hne 12 (by decide)), upn_ne _ _ (hne 11 (by decide)), upn_ne _ _ (hne 10 (by decide)), upn_ne _ _ (hne 9 (by decide))]
      exact kk k hk
    · rw [upn_ne _ _ (by decide), upn_ne _ _ (by decide), upn_ne _ _ (by decide), up_eq]; rfl
    · rw [upn_ne _ _ (by decide), upn_ne _ _ (by decide), up_eq]; rfl
    · rw [upn_ne _ _ (by decide), up_eq]; rfl
    · rw [up_eq]; rfl
  refine wp.go [22] 60 fun W C hW hC => ?_
  (refine ⟨_, _, _, twF, rfl, (Nat.le_of_ble_eq_true rfl), ?_⟩; rw [twP9])
  (refine ⟨_, _, _, twF, rfl, (Nat.le_of_ble_eq_true rfl), ?_⟩; rw [twP10])
  (refine ⟨_, _, _, twF, rfl, (Nat.le_of_ble_eq_true rfl), ?_⟩; rw [twP11])
  (refine ⟨_, _, _, twF, rfl, (Nat.le_of_ble_eq_true rfl), ?_⟩; rw [twP12])
  rw [upn_self] at key
  refine hW _ (key _ ⟨?_, ?_, ?_, ?_, fun k hk => ?_⟩)
  · rw [upn_ne _ _ (by decide), upn_ne _ _ (by decide), upn_ne _ _ (by decide), up_eq]; rfl
  · rw [upn_ne _ _ (by decide), upn_ne _ _ (by decide), up_eq]; rfl
  · rw [upn_ne _ _ (by decide), up_eq]; rfl
  · rw [up_eq]; rfl
  · have hne : ∀ x, x ∈ [9, 10, 11, 12] → k ≠ x := by
      rintro x hx rfl
      rw [List.elem_eq_true_of_mem hx] at hk
      cases hk
    rw [upn_ne _ _ (hne 12 (by decide)), upn_ne _ _ (hne 11 (by decide)), upn_ne _ _ (hne 10 (by decide)), upn_ne _ _ (hne 9 (by decide))]
end ROWS4
