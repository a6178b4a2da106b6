/-! THE TWIN's TABLE OF SHAPES -/
def gtT (tab : List Tr) (i : Nat) : Option Tr := match i with
  | 0 => none
  | i + 1 => tab[i]?
def szO : Option Tr → Nat
  | none => 0
  | some t => szT t
def cmpO : Option Tr → Option Tr → Int
  | none, none => 0
  | none, some _ => -1
  | some _, none => 1
  | some a, some b => cmpT a b
theorem gtT_le {tab : List Tr} {i : Nat} {t : Tr} (h : gtT tab i = some t) : 1 ≤ i ∧ i ≤ tab.length ∧ t ∈ tab := by
  cases i with
  | zero => cases h
  | succ i =>
    have h : tab[i]? = some t := h
    exact ⟨by omega, (List.getElem?_eq_some_iff.mp h).1, List.mem_of_getElem? h⟩
theorem gtT_none {tab : List Tr} {i : Nat} (h : gtT tab i = none) (hi : i ≤ tab.length) : i = 0 := by
  cases i with
  | zero => rfl
  | succ i =>
    have h : tab[i]? = none := h
    have := List.getElem?_eq_none_iff.mp h
    omega
theorem gtT_inj {tab : List Tr} (hn : tab.Nodup) {i j : Nat} (hi : i ≤ tab.length) (hj : j ≤ tab.length) (h : gtT tab i = gtT tab j) : i = j := by
  cases i with
  | zero => exact (gtT_none h.symm hj).symm
  | succ i =>
    cases j with
    | zero => exact gtT_none h hi
    | succ j =>
      have h : tab[i]? = tab[j]? := h
      rw [List.getElem?_eq_getElem (by omega), List.getElem?_eq_getElem (by omega)] at h
      have h := Option.some.inj h
      have hp := List.pairwise_iff_getElem.mp hn
      rcases Nat.lt_trichotomy i j with c | c | c
      · exact absurd h (hp i j (by omega) (by omega) c)
      · omega
      · exact absurd h.symm (hp j i (by omega) (by omega) c)
theorem gtT_app {tab : List Tr} {t : Tr} {i : Nat} (hi : i ≤ tab.length) : gtT (tab ++ [t]) i = gtT tab i := by
  cases i with
  | zero => rfl
  | succ i => exact List.getElem?_append_left (by omega)
theorem gtT_new {tab : List Tr} {t : Tr} : gtT (tab ++ [t]) (tab.length + 1) = some t := by
  show (tab ++ [t])[tab.length]? = some t
  simp
/-- rows that are the same up to a place and not there -/
theorem lex_first : ∀ (k : Nat) (t u : Tr), okT0 t → okT0 u → (∀ i, i < k → (kidsT t)[i]? = (kidsT u)[i]?) → (kidsT t)[k]? ≠ (kidsT u)[k]? → lexT t u = cmpO (kidsT t)[k]? (kidsT u)[k]?
  | 0, .var _, .var _, _, _, _, h => absurd rfl h
  | 0, .var _, .op _ _, _, _, _, _ => by simp [lexT, kidsT, cmpO]
  | 0, .op _ _, .var _, _, _, _, _ => by simp [lexT, kidsT, cmpO]
  | 0, .op a b, .op c e, h1, h2, _, h => by
    rw [lexT_op]
    have hne : ¬ cmpT a c = 0 := fun z => h (by simp [kidsT, (cmpT_eq h1.1 h2.1).mp z])
    rw [if_neg hne]
    simp [kidsT, cmpO]
  | k + 1, .var _, .var _, _, _, _, h => absurd rfl h
  | k + 1, .var _, .op _ _, _, _, h, _ => by have := h 0 (by omega); simp [kidsT] at this
  | k + 1, .op _ _, .var _, _, _, h, _ => by have := h 0 (by omega); simp [kidsT] at this
  | k + 1, .op a b, .op c e, h1, h2, h, hn => by
    have h0 := h 0 (by omega)
    simp [kidsT] at h0
    subst h0
    rw [lexT_op, if_pos (cmpT_self a), lex_first k b e h1.2 h2.2 (fun i hi => by have := h (i + 1) (by omega); simpa [kidsT] using this) (by simpa [kidsT] using hn)]
    simp [kidsT]
theorem kids_ext {t u : Tr} (h1 : okT0 t) (h2 : okT0 u) (l1 : (kidsT t).length ≤ 4) (l2 : (kidsT u).length ≤ 4) (h : ∀ k, k < 4 → (kidsT t)[k]? = (kidsT u)[k]?) : t = u := by
  rw [← mk_kids t h1, ← mk_kids u h2]
  congr 1
  apply List.ext_getElem?
  intro i
  by_cases c : i < 4
  · exact h i c
  · rw [List.getElem?_eq_none (by omega), List.getElem?_eq_none (by omega)]
def TbT (tab : List Tr) : Prop := tab.Nodup ∧ (∀ t, t ∈ tab → okT0 t ∧ szT t ≤ 16 ∧ (kidsT t).length ≤ 4 ∧ ∀ v, v ∈ kidsT t → v ∈ tab ∧ (kidsT v).length ≤ 3) ∧ tab.length ≤ 63
/-- sizes, parts and heights stand in the table -/
def TbK (A : Nat → List Int) (tab : List Tr) : Prop := ∀ s t, gtT tab s = some t → gt (A 10) s = ((szT t : Nat) : Int) ∧ gt (A 12) s = (((kidsT t).length : Nat) : Int) ∧ gt (A 13) s = ((tallT t : Nat) : Int) ∧ ∀ k, k < 4 → ∃ i, i ≤ tab.length ∧ gt (A 11) (4 * s + k) = ((i : Nat) : Int) ∧ gtT tab i = (kidsT t)[k]?
def TbV (A : Nat → List Int) (tab : List Tr) : Prop := ∀ s t, gtT tab s = some t → gt (A 14) s = ((formsT t : Nat) : Int) ∧ gt (A 15) s = ((ownT t : Nat) : Int) ∧ gt (A 16) s = ((waysT t : Nat) : Int) ∧ ∀ k, k < 4 → gt (A 17) (4 * s + k) = ((marksT t (3 - ((kidsT t).length : Int)) k : Nat) : Int)
def TbH (A : Nat → List Int) : Prop := gt (A 10) 0 = 0 ∧ gt (A 12) 0 = 0 ∧ gt (A 13) 0 = 0 ∧ gt (A 14) 0 = 1 ∧ gt (A 15) 0 = 1 ∧ gt (A 16) 0 = 1 ∧ ∀ k, k < 4 → gt (A 11) k = 0
theorem TbK.sz {A : Nat → List Int} {tab : List Tr} (h : TbK A tab) (hH : TbH A) {s : Nat} (hs : s ≤ tab.length) : gt (A 10) s = ((szO (gtT tab s) : Nat) : Int) := by
  cases e : gtT tab s with
  | none => rw [gtT_none e hs]; exact hH.1
  | some t => exact (h s t e).1
section SHAPES
variable {d : Nat} {h0 : AH} {M : Nat} {A : Nat → List Int} {sc : Nat → Int} {tab : List Tr}
theorem cmp_in (hA : lens A) (hT : TbT tab) (hK : TbK A tab) {a b k0 : Nat} {t u : Tr} (ha : gtT tab a = some t) (hb : gtT tab b = some u) (hk0 : k0 < 4) (hne : (kidsT t)[k0]? ≠ (kidsT u)[k0]?) (heq : ∀ i, i < k0 → (kidsT t)[i]? = (kidsT u)[i]?) {x1 x6 x7 : Option AV} {y2 : Int} {Q : Rs → AH → Prop}
    (hQ : ∀ x y, x ≤ tab.length → y ≤ tab.length → gtT tab x = (kidsT t)[k0]? → gtT tab y = (kidsT u)[k0]? → wp (d + 1) 314 (5, [some (vR (some M)), x1, some (vI y2), some (vI x), some (vI y), some (vI k0), some (vI x), some (vI y)], [], tw h0 M A sc) Q) :
    ∀ j k, j + k = k0 → wp (d + 1) 314 (52, [some (vR (some M)), x1, some (vI y2), some (vI a), some (vI b), some (vI k), x6, x7], [], tw h0 M A sc) Q := by
  have la := (gtT_le ha).2.1
  have lb := (gtT_le hb).2.1
  have hl := hT.2.2
  intro j
  induction j with
  | zero =>
    intro k hk
    obtain rfl : k = k0 := by omega
    obtain ⟨i1, p1, p2, p3⟩ := (hK a t ha).2.2.2 k hk0
    obtain ⟨i2, q1, q2, q3⟩ := (hK b u hb).2.2.2 k hk0
    refine wp.go [5, 52] 60 fun W C hW hC => ?_
    refine ⟨_, _, _, _, twF, rfl, rfl, ?_⟩
    (conv => whnf); simp (disch := omega) only [iadd_eq, isub_eq, imul_eq]
    refine ⟨_, _, _, twI rfl rfl, rfl, (by omega), gt_at (4 * a + k) (by omega) (lenlt (j := 11) (hA) (show (4 * a + k) < 256 by omega)), ?_⟩
    rw [p2]
    refine ⟨_, _, _, _, twF, rfl, rfl, ?_⟩
    (conv => whnf); simp (disch := omega) only [iadd_eq, isub_eq, imul_eq]
    refine ⟨_, _, _, twI rfl rfl, rfl, (by omega), gt_at (4 * b + k) (by omega) (lenlt (j := 11) (hA) (show (4 * b + k) < 256 by omega)), ?_⟩
    rw [q2]
    refine ⟨fun c => ?_, fun c => ?_⟩
    · refine ⟨_, _, _, _, twF, rfl, rfl, ?_⟩
      (conv => whnf); simp (disch := omega) only [iadd_eq, isub_eq, imul_eq]
      refine ⟨_, _, _, twI rfl rfl, rfl, (by omega), gt_at (4 * a + k) (by omega) (lenlt (j := 11) (hA) (show (4 * a + k) < 256 by omega)), ?_⟩
      rw [p2]
      refine ⟨_, _, _, _, twF, rfl, rfl, ?_⟩
      (conv => whnf); simp (disch := omega) only [iadd_eq, isub_eq, imul_eq]
      refine ⟨_, _, _, twI rfl rfl, rfl, (by omega), gt_at (4 * b + k) (by omega) (lenlt (j := 11) (hA) (show (4 * b + k) < 256 by omega)), ?_⟩
      rw [q2]
      exact hW _ (hQ i1 i2 p1 q1 p3 q3)
    · exfalso
      have : i1 = i2 := by omega
      subst this
      exact hne (p3.symm.trans q3)
  | succ j ih =>
    intro k hk
    obtain ⟨i1, p1, p2, p3⟩ := (hK a t ha).2.2.2 k (by omega)
    obtain ⟨i2, q1, q2, q3⟩ := (hK b u hb).2.2.2 k (by omega)
    have e : i1 = i2 := gtT_inj hT.1 p1 q1 (by rw [p3, q3]; exact heq k (by omega))
    refine wp.go [5, 52] 60 fun W C hW hC => ?_
    refine ⟨_, _, _, _, twF, rfl, rfl, ?_⟩
    (conv => whnf); simp (disch := omega) only [iadd_eq, isub_eq, imul_eq]
    refine ⟨_, _, _, twI rfl rfl, rfl, (by omega), gt_at (4 * a + k) (by omega) (lenlt (j := 11) (hA) (show (4 * a + k) < 256 by omega)), ?_⟩
    rw [p2]
    refine ⟨_, _, _, _, twF, rfl, rfl, ?_⟩
    (conv => whnf); simp (disch := omega) only [iadd_eq, isub_eq, imul_eq]
    refine ⟨_, _, _, twI rfl rfl, rfl, (by omega), gt_at (4 * b + k) (by omega) (lenlt (j := 11) (hA) (show (4 * b + k) < 256 by omega)), ?_⟩
    rw [q2]
    refine ⟨fun c => absurd (by rw [e]) c, fun _ => ?_⟩
    (conv => whnf); simp (disch := omega) only [iadd_eq, isub_eq, imul_eq]
    exact hW _ (ih (k + 1) (by omega))
theorem first_ne {P : Nat → Prop} : ∀ n, (∃ k, k < n ∧ P k) → ∃ k, k < n ∧ P k ∧ ∀ i, i < k → ¬ P i := by
  intro n h
  obtain ⟨k, hk, hp⟩ := h
  induction k using Nat.strongRecOn with
  | _ k ih =>
    by_cases c : ∃ i, i < k ∧ P i
    · obtain ⟨i, h1, h2⟩ := c
      exact ih i h1 (by omega) h2
    · exact ⟨k, hk, hp, fun i hi hP => c ⟨i, hi, hP⟩⟩
theorem cmp_loop (hA : lens A) (hT : TbT tab) (hK : TbK A tab) (hH : TbH A) : ∀ (n a b : Nat) (x1 : Option AV) (y2 : Int) (x5 x6 x7 : Option AV), a ≤ tab.length → b ≤ tab.length → szO (gtT tab a) < n →
    wp (d + 1) 314 (5, [some (vR (some M)), x1, some (vI y2), some (vI a), some (vI b), x5, x6, x7], [], tw h0 M A sc) (gives (tw h0 M A sc) (cmpO (gtT tab a) (gtT tab b))) := by
  have hl := hT.2.2
  intro n
  induction n with
  | zero => intro a b x1 y2 x5 x6 x7 ha hb h; omega
  | succ n ih =>
    intro a b x1 y2 x5 x6 x7 ha hb h
    have sa := hK.sz hH ha
    have sb := hK.sz hH hb
    refine wp.go [5, 52] 40 fun W C hW hC => ?_
    refine ⟨fun c => ?_, fun c => ?_⟩
    · have : a = b := by omega
      subst this
      refine ⟨?_, rfl⟩
      cases gtT tab a with
      | none => rfl
      | some t => simp [cmpO, cmpT_self]
    · have hab : a ≠ b := fun e => c (by rw [e])
      have hne : gtT tab a ≠ gtT tab b := fun e => hab (gtT_inj hT.1 ha hb e)
      refine ⟨_, _, _, _, twF, rfl, rfl, ?_⟩
      refine ⟨_, _, _, twI rfl rfl, rfl, (by omega), gt_at (a) (by omega) (lenlt (j := 10) (hA) (show (a) < 64 by omega)), ?_⟩
      rw [sa]
      refine ⟨_, _, _, _, twF, rfl, rfl, ?_⟩
      refine ⟨_, _, _, twI rfl rfl, rfl, (by omega), gt_at (b) (by omega) (lenlt (j := 10) (hA) (show (b) < 64 by omega)), ?_⟩
      rw [sb]
      refine ⟨fun c1 => ?_, fun c1 => ?_⟩
      · have c1 : szO (gtT tab a) = szO (gtT tab b) := by omega
        cases ea : gtT tab a with
        | none =>
          cases eb : gtT tab b with
          | none => rw [ea, eb] at hne; exact absurd rfl hne
          | some u =>
            rw [ea, eb] at c1
            have := sz_pos u
            simp only [szO] at c1
            omega
        | some t =>
          cases eb : gtT tab b with
          | none =>
            rw [ea, eb] at c1
            have := sz_pos t
            simp only [szO] at c1
            omega
          | some u =>
            obtain ⟨t1, t2, t3, -⟩ := hT.2.1 t (gtT_le ea).2.2
            obtain ⟨u1, u2, u3, -⟩ := hT.2.1 u (gtT_le eb).2.2
            rw [ea, eb] at c1
            simp only [szO] at c1
            have hex : ∃ k, k < 4 ∧ (kidsT t)[k]? ≠ (kidsT u)[k]? := by
              apply Classical.byContradiction
              intro hno
              refine hne ?_
              rw [ea, eb, kids_ext t1 u1 t3 u3 fun k hk => Classical.byContradiction fun z => hno ⟨k, hk, z⟩]
            obtain ⟨k0, k1, k2, k3⟩ := first_ne 4 hex
            have hcmp : cmpO (gtT tab a) (gtT tab b) = cmpO (kidsT t)[k0]? (kidsT u)[k0]? := by
              rw [ea, eb]
              show cmpT t u = _
              unfold cmpT
              rw [if_neg (by omega), if_neg (by omega), lex_first k0 t u t1 u1 (fun i hi => Classical.not_not.mp (k3 i hi)) k2]
            refine hW _ (cmp_in hA hT hK ea eb k1 k2 (fun i hi => Classical.not_not.mp (k3 i hi)) (fun x y hx hy ex ey => ?_) k0 0 rfl)
            have key := ih x y x1 y2 (some (vI k0)) (some (vI x)) (some (vI y)) hx hy (by
              rw [ex]
              rw [ea] at h
              cases ek : (kidsT t)[k0]? with
              | none => simp only [szO] at h ⊢; have := sz_pos t; omega
              | some v =>
                have := sz_kid t v (List.mem_of_getElem? ek)
                simp only [szO] at h ⊢
                omega)
            rw [ex, ey, ← hcmp] at key
            exact key
      · have hres : ∀ v : Int, v = (if szO (gtT tab a) ≤ szO (gtT tab b) then -1 else 1) → v = cmpO (gtT tab a) (gtT tab b) := by
          intro v hv
          subst hv
          have c1 : szO (gtT tab a) ≠ szO (gtT tab b) := fun e => c1 (by rw [e])
          cases ea : gtT tab a with
          | none =>
            cases eb : gtT tab b with
            | none => rw [ea, eb] at hne; exact absurd rfl hne
            | some u => simp [cmpO, szO]
          | some t =>
            have := sz_pos t
            cases eb : gtT tab b with
            | none => show (if szT t ≤ 0 then (-1 : Int) else 1) = 1; rw [if_neg (by omega)]
            | some u =>
              rw [ea, eb] at c1
              have c1 : szT t ≠ szT u := c1
              show (if szT t ≤ szT u then (-1 : Int) else 1) = cmpT t u
              unfold cmpT
              by_cases z : szT t < szT u
              · rw [if_pos (show szT t ≤ szT u by omega), if_pos z]
              · rw [if_neg (show ¬ szT t ≤ szT u by omega), if_neg z, if_pos (by omega)]
        refine ⟨_, _, _, _, twF, rfl, rfl, ?_⟩
        refine ⟨_, _, _, twI rfl rfl, rfl, (by omega), gt_at (a) (by omega) (lenlt (j := 10) (hA) (show (a) < 64 by omega)), ?_⟩
        rw [sa]
        refine ⟨_, _, _, _, twF, rfl, rfl, ?_⟩
        refine ⟨_, _, _, twI rfl rfl, rfl, (by omega), gt_at (b) (by omega) (lenlt (j := 10) (hA) (show (b) < 64 by omega)), ?_⟩
        rw [sb]
        refine ⟨fun c2 => ?_, fun c2 => ?_⟩
        · exact ⟨by rw [← hres (-1) (by rw [if_pos (by omega)])], rfl⟩
        · exact ⟨by rw [← hres 1 (by rw [if_neg (by omega)])], rfl⟩
/-- Model.compares -/
theorem compares_spec (hA : lens A) (hT : TbT tab) (hK : TbK A tab) (hH : TbH A) {a b : Nat} (ha : a ≤ tab.length) (hb : b ≤ tab.length) : wp (d + 1) 314 (0, ent 8 [vR (some M), vI a, vI b], [], tw h0 M A sc) (gives (tw h0 M A sc) (cmpO (gtT tab a) (gtT tab b))) := by
  refine wp.go [5] 20 fun W C hW hC => ?_
  exact hW _ (cmp_loop hA hT hK hH _ a b _ _ _ _ _ ha hb (Nat.lt_succ_self _))
end SHAPES
