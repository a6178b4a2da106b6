theorem srt_take_succ {l : List Tr} {k : Nat} (hk : k < l.length) : srtT (l.take (k + 1)) = insT l[k] (srtT (l.take k)) := by
  rw [List.take_succ, List.getElem?_eq_getElem hk]
  exact srt_snoc _ _
section SORT2
variable {d : Nat} {hB : AH} {x p : Nat} {V : Nat × Tr → Prop}
theorem sort_go {zs : Zs} (hV : ∀ z, V z → ∀ ar, BrAt (hB.setR p ar) z.1 z.2) (hR : (hB.R p).1 = 1) (hzs : ∀ z, z ∈ zs → V z ∧ okT0 z.2 ∧ szT z.2 ≤ 16) (hl : zs.length ≤ 100) {x5 x6 : Option AV} {Q : Rs → AH → Prop}
    (hQ : ∀ Z k x3 x4, treZ Z = srtT (treZ zs) → Z.length = zs.length → (∀ z, z ∈ Z → z ∈ zs) → wp (d + 18) 413 (69, [some (vR (some x)), some (vR (some p)), some (vI k), x3, x4, x5, x6], [], hB.setR p (refZ Z)) Q) :
    ∀ (j k : Nat) (Z : Zs) (x3 x4 : Option AV), j + k = zs.length → 1 ≤ k → Z.length = k → treZ Z = srtT ((treZ zs).take k) → (∀ z, z ∈ Z → z ∈ zs) → wp (d + 18) 413 (11, [some (vR (some x)), some (vR (some p)), some (vI ((k : Nat) : Int)), x3, x4, x5, x6], [], hB.setR p (refZ Z ++ refZ (zs.drop k))) Q := by
  have hRp : ∀ ar, (hB.setR p ar).R p = (1, ar) := fun ar => by
    show (if p = p then ((hB.R p).1, ar) else hB.R p) = _
    rw [if_pos rfl, hR]
  intro j
  induction j with
  | zero =>
    intro k Z x3 x4 hj hk1 hZl hZt hZs
    obtain rfl : k = zs.length := by omega
    have e : refZ Z ++ refZ (zs.drop zs.length) = refZ Z := by rw [List.drop_length]; simp
    rw [e]
    refine wp.go [11, 69] 30 fun W C hW hC => ?_
    refine ⟨_, Or.inr ⟨_, _, hRp _, by decide, rfl⟩, ?_⟩
    rw [List.length_map, hZl]
    refine ⟨fun _ => ?_, fun c => absurd c (by omega)⟩
    refine hW _ (hQ Z _ _ _ ?_ hZl hZs)
    rw [hZt]
    congr 1
    rw [← List.length_map (f := fun y : Nat × Tr => y.2), List.take_length]
  | succ j ih =>
    intro k Z x3 x4 hj hk1 hZl hZt hZs
    have hkl : k < zs.length := by omega
    have ed : zs.drop k = zs[k] :: zs.drop (k + 1) := List.drop_eq_getElem_cons hkl
    have e : refZ Z ++ refZ (zs.drop k) = refZ Z ++ some (zs[k]).1 :: (refZ [] ++ refZ (zs.drop (k + 1))) := by rw [ed]; rfl
    rw [e]
    have hy := hzs _ (List.getElem_mem hkl)
    have hst : sortedT (treZ Z) := by rw [hZt]; exact srt_sorted _
    have key := ins_parts (d := d) (x := x) (p := p) (Z := Z) (rest := zs.drop (k + 1)) (y := zs[k]) (x5 := x5) (x6 := x6) (Q := Q) hV hR (fun z hz => hzs z (hZs z hz)) hy hst (by omega) (fun Z' x4' h1 h2 h3 => ?_) Z.length Z [] (some (zs[k]).1) rfl (by simp) (fun z hz => (nomatch hz))
    · rw [hZl] at key
      refine wp.go [11, 24, 69] 40 fun W C hW hC => ?_
      refine ⟨_, Or.inr ⟨_, _, hRp _, by decide, rfl⟩, ?_⟩
      refine ⟨fun c => absurd c (by simp only [List.length_append, List.length_map, List.length_cons, List.length_drop, List.length_nil]; omega), fun _ => ?_⟩
      refine ⟨_, _, _, hRp _, by decide, by omega, by
        rw [Int.toNat_natCast]
        have := get_mid (L1 := refZ Z) (w := some (zs[k]).1) (L2 := refZ [] ++ refZ (zs.drop (k + 1)))
        rw [List.length_map, hZl] at this
        exact this, ?_⟩
      exact hW _ key
    · rw [hZl]
      refine wp.go [11] 10 fun W C hW hC => ?_
      (conv => whnf); simp (disch := omega) only [iadd_eq, isub_eq, imul_eq]
      refine hW _ (ih (k + 1) Z' _ _ (by omega) (by omega) (by omega) ?_ fun z hz => ?_)
      · rw [h1, hZt]
        have hkl2 : k < (treZ zs).length := by rw [List.length_map]; exact hkl
        rw [srt_take_succ hkl2, List.getElem_map]
      · rcases h3 z hz with rfl | q
        · exact List.getElem_mem hkl
        · exact hZs z q
end SORT2
/-! what a row of trees comes to -/
theorem tall_mk (l : List Tr) : tallT (mkT l) = l.foldl (fun m a => max m (tallT a)) 0 + 1 := by
  have : ∀ (l : List Tr) (m : Nat), max (m + 1) (tallT (mkT l)) = l.foldl (fun m a => max m (tallT a)) m + 1 := by
    intro l
    induction l with
    | nil => intro m; show max (m + 1) 1 = m + 1; omega
    | cons a r ih =>
      intro m
      rw [List.foldl_cons, ← ih]
      show max (m + 1) (max (tallT a + 1) (tallT (mkT r))) = _
      omega
  have h := this l 0
  have := tall_pos (mkT l)
  omega
def waysN (l : List Tr) : Nat → Nat
  | 0 => 1
  | k + 1 => waysN l k * ((match l[k]? with | some t => waysT t | none => 1) * runL l k)
theorem runL_pos (l : List Tr) : ∀ k, 1 ≤ runL l k
  | 0 => Nat.le_refl _
  | k + 1 => by unfold runL; cases eqO l[k]? l[k + 1]? <;> simp
theorem waysN_mono (l : List Tr) : ∀ (j k : Nat), waysN l k ≤ waysN l (k + j)
  | 0, _ => Nat.le_refl _
  | j + 1, k => by
    refine Nat.le_trans (waysN_mono l j k) ?_
    show waysN l (k + j) ≤ waysN l (k + j) * _
    refine Nat.le_mul_of_pos_right _ (Nat.mul_pos ?_ (runL_pos l _))
    split
    · exact ways_pos _ none 0
    · exact Nat.zero_lt_one
theorem waysN_all (l : List Tr) : waysN l l.length = waysT (mkT l) := by
  have key : ∀ (t : List Tr) (k : Nat), k ≤ l.length → l.drop k = t → ∀ (q : Option Tr) (r : Nat), (∀ a t', t = a :: t' → runT q r a = runL l k) → waysN l k * (prodW t * rprod t q r) = waysN l l.length := by
    intro t
    induction t with
    | nil =>
      intro k hk1 hk q r _
      have hle : l.length ≤ k := List.drop_eq_nil_iff.mp hk
      obtain rfl : k = l.length := by omega
      show waysN l l.length * (1 * 1) = _
      rw [Nat.mul_one]
    | cons a t' ih =>
      intro k hk1 hk q r hr
      have hkl : k < l.length := by
        apply Classical.byContradiction
        intro q
        rw [List.drop_eq_nil_of_le (by omega)] at hk
        cases hk
      rw [List.drop_eq_getElem_cons hkl] at hk
      have hk := List.cons.inj hk
      have hat : l[k]? = some a := by rw [List.getElem?_eq_getElem hkl, hk.1]
      have hR := hr a t' rfl
      have hi := ih (k + 1) hkl hk.2 (some a) (runL l k) (fun a' t'' e => ?_)
      · rw [← hi]
        show waysN l k * (waysT a * prodW t' * (runT q r a * rprod t' (some a) (runT q r a))) = waysN l k * ((match l[k]? with | some t => waysT t | none => 1) * runL l k) * (prodW t' * rprod t' (some a) (runL l k))
        rw [hR, hat]
        simp only [Nat.mul_assoc, Nat.mul_comm, Nat.mul_left_comm]
      · have hk2 : l[k + 1]? = some a' := by
          have h2 : (l.drop (k + 1))[0]? = some a' := by rw [hk.2, e]; rfl
          rw [List.getElem?_drop] at h2
          exact h2
        show cond (eqO (some a) (some a')) (runL l k + 1) 1 = cond (eqO l[k]? l[k + 1]?) (runL l k + 1) 1
        rw [hat, hk2]
  have h := key l 0 (Nat.zero_le _) rfl none 0 (fun a t' _ => rfl)
  rw [← h]
  show 1 * _ = waysA (mkT l) none 0
  rw [Nat.one_mul, ways_rp]
