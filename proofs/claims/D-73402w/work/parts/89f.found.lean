/-! THE TWIN FINDS TREES ON A CARBON -/
theorem ins_split {t : Tr} : ∀ (l : List Tr) (k : Nat), k ≤ l.length → (∀ m v, m < k → l[m]? = some v → 0 ≤ cmpT v t) → (∀ m v, k ≤ m → l[m]? = some v → cmpT v t < 0) → insT t l = l.take k ++ t :: l.drop k
  | [], k, hk, _, _ => by simp [insT]
  | a :: r, 0, _, _, h2 => by
    have := h2 0 a (Nat.le_refl _) rfl
    simp [insT, this]
  | a :: r, k + 1, hk, h1, h2 => by
    have h0 := h1 0 a (by omega) rfl
    have ih := ins_split (t := t) r k (by simpa using hk) (fun m v hm hv => h1 (m + 1) v (by omega) (by simpa using hv)) (fun m v hm hv => h2 (m + 1) v (by omega) (by simpa using hv))
    simp only [insT]
    rw [if_neg (by omega), ih]
    simp
theorem sorted_at {l : List Tr} (h : sortedT l) : ∀ {i j : Nat} {a b : Tr}, i < j → l[i]? = some a → l[j]? = some b → 0 ≤ cmpT a b := by
  induction l with
  | nil => intro i j a b _ h1; simp at h1
  | cons v r ih =>
    intro i j a b hij h1 h2
    cases j with
    | zero => omega
    | succ j =>
      have h2 : r[j]? = some b := by simpa using h2
      cases i with
      | zero =>
        have h1 : v = a := by simpa using h1
        subst h1
        exact h.1 b (List.mem_of_getElem? h2)
      | succ i =>
        have h1 : r[i]? = some a := by simpa using h1
        exact ih h.2 (i := i) (j := j) (by omega) h1 h2
def atI (X : List Int) (tab : List Tr) (m : Nat) (o : Option Tr) : Prop := ∃ i, i ≤ tab.length ∧ gt X m = ((i : Nat) : Int) ∧ gtT tab i = o
def FoundOk (X : List Int) (n : Int) (tab l : List Tr) : Prop := n = ((l.length : Nat) : Int) ∧ l.length ≤ 4 ∧ sortedT l ∧ (∀ v, v ∈ l → v ∈ tab ∧ (kidsT v).length ≤ 3) ∧ ∀ k, k < l.length → atI X tab k l[k]?
section FOUND
variable {d : Nat} {h0 : AH} {M : Nat} {A : Nat → List Int} {sc : Nat → Int} {tab : List Tr}
theorem finds_loop (hA : lens A) (hT : TbT tab) (hK : TbK A tab) (hH : TbH A) {l : List Tr} (hl : l.length ≤ 3) (hsrt : sortedT l) (hn : sc 6 = ((l.length : Nat) : Int)) (hin : ∀ v, v ∈ l → v ∈ tab ∧ (kidsT v).length ≤ 3) {i : Nat} {t : Tr} (hi : gtT tab i = some t) (ht3 : (kidsT t).length ≤ 3) :
    ∀ (k : Nat) (X : List Int), k ≤ l.length → X.length = 4 → (∀ m, m < k → atI X tab m l[m]?) → (∀ m, k ≤ m → m < l.length → atI X tab (m + 1) l[m]?) → (∀ m v, k ≤ m → l[m]? = some v → cmpT v t < 0) →
      wp (d + 2) 313 (5, [some (vR (some M)), some (vI i), some (vI k)], [], tw h0 M (up A 21 X) sc) (fun r h' => r = .inl none ∧ ∃ X, h' = tw h0 M (up A 21 X) (up sc 6 ((l.length + 1 : Nat) : Int)) ∧ X.length = 4 ∧ FoundOk X ((l.length + 1 : Nat) : Int) tab (insT t l)) := by
  have hile := gtT_le hi
  have hl63 := hT.2.2
  have fin : ∀ (k : Nat) (X : List Int), k ≤ l.length → X.length = 4 → (∀ m, m < k → atI X tab m l[m]?) → (∀ m, k ≤ m → m < l.length → atI X tab (m + 1) l[m]?) → (∀ m v, k ≤ m → l[m]? = some v → cmpT v t < 0) → (∀ m v, m < k → l[m]? = some v → 0 ≤ cmpT v t) → wp (d + 2) 313 (45, [some (vR (some M)), some (vI i), some (vI k)], [], tw h0 M (up A 21 X) sc) (fun r h' => r = .inl none ∧ ∃ X, h' = tw h0 M (up A 21 X) (up sc 6 ((l.length + 1 : Nat) : Int)) ∧ X.length = 4 ∧ FoundOk X ((l.length + 1 : Nat) : Int) tab (insT t l)) := by
    intro k X hk hX h1 h2 h3 h4
    have hA' : lens (up A 21 X) := hA.up (by rw [hX]; rfl)
    have hsp := ins_split l k hk h4 h3
    have hlen := ins_len (b := t) (l := l)
    refine wp.go [] 40 fun W C hW hC => ?_
    refine ⟨_, _, _, _, twF, rfl, rfl, ?_⟩
    (refine ⟨_, twI rfl rfl, (by omega), (ilt (k) (by omega) (lenlt (j := 21) (hA') (show (k) < 4 by omega))), ?_⟩; rw [twSetI rfl rfl]; try rw [Int.toNat_natCast])
    rw [up_up, up_eq]
    refine ⟨_, _, _, _, twF, rfl, rfl, ?_⟩
    rw [hn]
    conv => whnf
    rw [show iadd ((l.length : Nat) : Int) 1 = ((l.length + 1 : Nat) : Int) by rw [iadd_eq (by omega)]; omega]
    (refine ⟨_, _, _, twF, rfl, (Nat.le_of_ble_eq_true rfl), ?_⟩; rw [twP6])
    refine ⟨rfl, _, rfl, by rw [List.length_set, hX], by rw [hlen], by rw [hlen]; omega, ins_sorted hsrt, fun v hv => ?_, fun m hm => ?_⟩
    · rcases ins_mem.mp hv with rfl | hv
      · exact ⟨hile.2.2, ht3⟩
      · exact hin v hv
    · rw [hlen] at hm
      rw [hsp]
      unfold atI
      rw [gt_set (by omega)]
      rcases Nat.lt_trichotomy m k with c | c | c
      · obtain ⟨q, q1, q2, q3⟩ := h1 m c
        refine ⟨q, q1, by rw [if_neg (by omega)]; exact q2, ?_⟩
        rw [q3, List.getElem?_append_left (by rw [List.length_take]; omega), List.getElem?_take_of_lt c]
      · subst c
        refine ⟨i, hile.2.1, by rw [if_pos rfl], ?_⟩
        rw [hi, List.getElem?_append_right (by rw [List.length_take]; omega), List.length_take, Nat.min_eq_left hk, Nat.sub_self]
        rfl
      · obtain ⟨q, q1, q2, q3⟩ := h2 (m - 1) (by omega) (by omega)
        rw [Nat.sub_add_cancel (by omega)] at q2
        refine ⟨q, q1, by rw [if_neg (by omega)]; exact q2, ?_⟩
        rw [q3, List.getElem?_append_right (by rw [List.length_take]; omega), List.length_take, Nat.min_eq_left hk]
        obtain ⟨e, he⟩ : ∃ e, m - k = e + 1 := ⟨m - k - 1, by omega⟩
        rw [he, List.getElem?_cons_succ, List.getElem?_drop]
        congr 1; omega
  intro k
  induction k with
  | zero =>
    intro X hk hX h1 h2 h3
    refine wp.go [5, 45] 40 fun W C hW hC => ?_
    refine ⟨fun _ => ?_, fun c => absurd c (by decide)⟩
    exact hW _ (fin 0 X hk hX h1 h2 h3 (fun m v hm => absurd hm (by omega)))
  | succ k ih =>
    intro X hk hX h1 h2 h3
    have hA' : lens (up A 21 X) := hA.up (by rw [hX]; rfl)
    have hK' : TbK (up A 21 X) tab := hK
    have hH' : TbH (up A 21 X) := hH
    obtain ⟨q, q1, q2, q3⟩ := h1 k (by omega)
    have hkl : k < l.length := by omega
    have hlk := List.getElem?_eq_getElem hkl
    rw [hlk] at q3
    refine wp.go [5, 45] 60 fun W C hW hC => ?_
    refine ⟨fun c => absurd c (by omega), fun _ => ?_⟩
    refine ⟨_, _, _, _, twF, rfl, rfl, ?_⟩
    (conv => whnf); simp (disch := omega) only [iadd_eq, isub_eq, imul_eq]
    refine ⟨_, _, _, twI rfl rfl, rfl, (by omega), gt_at (k) (by omega) (lenlt (j := 21) (hA') (show (k) < 4 by omega)), ?_⟩
    rw [up_eq, q2]
    refine ⟨_, _, _, twF, rfl, ?_⟩
    refine hC _ _ _ (use (compares_spec hA' hT hK' hH' hile.2.1 q1) ?_); rintro _ _ ⟨rfl, rfl⟩
    rw [hi, q3]
    refine ⟨fun c => ?_, fun c => ?_⟩
    · have c : cmpT t l[k] ≤ 0 := c
      refine hW _ (fin (k + 1) X hk hX h1 h2 h3 (fun m v hm hv => ?_))
      have hk0 : 0 ≤ cmpT l[k] t := by rw [cmpT_neg]; omega
      by_cases e : m = k
      · subst e
        rw [hlk] at hv
        cases hv
        exact hk0
      · exact cmpT_trans (sorted_at hsrt (show m < k by omega) hv hlk) hk0
    · have c : 0 < cmpT t l[k] := c
      refine ⟨_, _, _, _, twF, rfl, rfl, ?_⟩
      refine ⟨_, _, _, _, twF, rfl, rfl, ?_⟩
      (conv => whnf); simp (disch := omega) only [iadd_eq, isub_eq, imul_eq]
      refine ⟨_, _, _, twI rfl rfl, rfl, (by omega), gt_at (k) (by omega) (lenlt (j := 21) (hA') (show (k) < 4 by omega)), ?_⟩
      rw [up_eq, q2]
      (refine ⟨_, twI rfl rfl, (by omega), (ilt (k + 1) (by omega) (lenlt (j := 21) (hA') (show (k + 1) < 4 by omega))), ?_⟩; rw [twSetI rfl rfl]; try rw [Int.toNat_natCast])
      rw [up_up, up_eq]
      conv => whnf
      rw [show iadd ((k + 1 : Nat) : Int) (-1) = (k : Int) by rw [iadd_eq (by omega)]; omega]
      refine hW _ (ih _ (by omega) (by rw [List.length_set, hX]) (fun m hm => ?_) (fun m hm hm2 => ?_) (fun m v hm hv => ?_))
      · obtain ⟨p, p1, p2, p3⟩ := h1 m (by omega)
        exact ⟨p, p1, by rw [gt_set (by omega), if_neg (by omega)]; exact p2, p3⟩
      · by_cases e : m = k
        · subst e
          exact ⟨q, q1, by rw [gt_set (by omega), if_pos (by omega)], by rw [q3, hlk]⟩
        · obtain ⟨p, p1, p2, p3⟩ := h2 m (by omega) hm2
          exact ⟨p, p1, by rw [gt_set (by omega), if_neg (by omega)]; exact p2, p3⟩
      · by_cases e : m = k
        · subst e
          rw [hlk] at hv
          cases hv
          rw [cmpT_neg]; omega
        · exact h3 m v (by omega) hv
/-- Model.finds -/
theorem finds_spec (hA : lens A) (hT : TbT tab) (hK : TbK A tab) (hH : TbH A) {l : List Tr} (hl : l.length ≤ 3) (hF : FoundOk (A 21) (sc 6) tab l) {i : Nat} {t : Tr} (hi : gtT tab i = some t) (ht3 : (kidsT t).length ≤ 3) :
    wp (d + 2) 313 (0, ent 3 [vR (some M), vI i], [], tw h0 M A sc) (fun r h' => r = .inl none ∧ ∃ X, h' = tw h0 M (up A 21 X) (up sc 6 ((l.length + 1 : Nat) : Int)) ∧ X.length = 4 ∧ FoundOk X ((l.length + 1 : Nat) : Int) tab (insT t l)) := by
  obtain ⟨f1, f2, f3, f4, f5⟩ := hF
  have hl2 : (A 21).length = 4 := by rw [hA.eq 21]; rfl
  have key := finds_loop (d := d) (h0 := h0) (M := M) hA hT hK hH hl f3 f1 f4 hi ht3 l.length (A 21) (Nat.le_refl _) hl2 f5 (fun m h1 h2 => absurd h1 (by omega)) (fun m v h1 h2 => by rw [List.getElem?_eq_none h1] at h2; cases h2)
  rw [upn_self] at key
  refine wp.go [5] 20 fun W C hW hC => ?_
  refine ⟨_, _, _, _, twF, rfl, rfl, ?_⟩
  rw [f1]
  exact hW _ key
end FOUND
