section TXT2
variable {G : Gr} {D : Nat → Nat → Nat}
theorem ends_mem {a c e : Nat} : e ∈ endsB G D a c ↔ e < G.1 ∧ inB D a c e ∧ D c e + 1 = tallT (TT G a c) := by
  unfold endsB
  rw [List.mem_filter, List.mem_range, Bool.and_eq_true, decide_eq_true_eq, decide_eq_true_eq]
theorem foldl_congr_mem {α β : Type} {f g : β → α → β} : ∀ (l : List α) (b : β), (∀ acc x, x ∈ l → f acc x = g acc x) → l.foldl f b = l.foldl g b
  | [], _, _ => rfl
  | x :: r, b, h => by
    rw [List.foldl_cons, List.foldl_cons, h b x List.mem_cons_self]
    exact foldl_congr_mem r _ fun acc y hy => h acc y (List.mem_cons_of_mem _ hy)
theorem brX_fuel (hG : G.wf) (hD : Far G D) : ∀ f f' a c, G.2 a c = true → bsz G D a c ≤ f → bsz G D a c ≤ f' → brX G D f a c = brX G D f' a c
  | 0, _, a, c, h, h1, _ => by have := bsz_pos hG hD h; omega
  | _ + 1, 0, a, c, h, _, h2 => by have := bsz_pos hG hD h; omega
  | f + 1, f' + 1, a, c, h, h1, h2 => by
    have hc := (hG.2.2 _ _ h).2.1
    unfold brX
    congr 1
    refine foldl_congr_mem _ _ fun acc e he => ?_
    obtain ⟨e1, e2, -⟩ := ends_mem.mp he
    congr 1
    refine chF_congr _ fun i hi x hx => ?_
    rw [pth_len] at hi
    have hl := hn_less hG hD (a := a) (c := c) (b := e) (fr := ((a : Nat) : Int)) (Or.inl ⟨h, e2, rfl⟩) hc e1 rfl (i := i) (by omega) hx
    rw [← bsz_eq hG hD h] at hl
    exact brX_fuel hG hD f f' _ x (hn_mem hG hx) (by omega) (by omega)
/-- the text of the branch at c seen from a -/
def brT (G : Gr) (D : Nat → Nat → Nat) (a c : Nat) : Tx := brX G D 16 a c
theorem brX_succ (f a c : Nat) : brX G D (f + 1) a c = wrapT (Nat.beq (tallT (TT G a c)) (szT (TT G a c))) ((endsB G D a c).foldl (fun acc e => minT acc (chT G (brX G D f) (pthL G D (D c e) c e) ((a : Nat) : Int))) []) := rfl
abbrev wayT (G : Gr) (D : Nat → Nat → Nat) (a b : Nat) (fr : Int) : Tx := chT G (brT G D) (pthL G D (D a b) a b) fr
abbrev plainB (G : Gr) (a c : Nat) : Bool := Nat.beq (tallT (TT G a c)) (szT (TT G a c))
theorem brT_eq (hG : G.wf) (hD : Far G D) {a c : Nat} (h : G.2 a c = true) : brT G D a c = wrapT (plainB G a c) ((endsB G D a c).foldl (fun acc e => minT acc (wayT G D c e ((a : Nat) : Int))) []) := by
  have hc := (hG.2.2 _ _ h).2.1
  have hn := hG.2.1
  refine Eq.trans (brX_succ 15 a c) ?_
  refine congrArg (wrapT _) ?_
  refine foldl_congr_mem _ _ fun acc e he => ?_
  obtain ⟨e1, e2, -⟩ := ends_mem.mp he
  refine congrArg (minT acc) ?_
  refine chF_congr _ fun i hi x hx => ?_
  rw [pth_len] at hi
  have hl := hn_less hG hD (a := a) (c := c) (b := e) (fr := ((a : Nat) : Int)) (Or.inl ⟨h, e2, rfl⟩) hc e1 rfl (i := i) (by omega) hx
  rw [← bsz_eq hG hD h] at hl
  have hlt := bsz_lt hG hD h
  exact brX_fuel hG hD 15 16 _ x (hn_mem hG hx) (by omega) (by omega)
/-- signs of a text -/
abbrev okX (t : Tx) : Prop := ∀ x, x ∈ t → 0 ≤ x ∧ x ≤ 127
theorem numT_ok {v : Nat} (h : v ≤ 99) : okX (numT v) := by
  unfold numT
  split
  · intro x hx
    rcases List.mem_cons.mp hx with rfl | hx
    · omega
    · rw [List.mem_singleton.mp hx]; omega
  · intro x hx
    rw [List.mem_singleton.mp hx]; omega
theorem oneT_ok {i : Nat} {t : Tx} (h : i < 99) (ht : okX t) : okX (oneT i t) := by
  intro x hx
  unfold oneT at hx
  rcases List.mem_cons.mp hx with rfl | hx
  · decide
  · rcases List.mem_append.mp hx with hx | hx
    · exact numT_ok (by omega) x hx
    · rcases List.mem_cons.mp hx with rfl | hx
      · decide
      · exact ht x hx
theorem oneT_len (i : Nat) (t : Tx) : (oneT i t).length ≤ 4 + t.length := by
  unfold oneT
  have := (numT_len (i + 1)).2
  simp only [List.length_cons, List.length_append]
  omega
/-- a text whose branches are as long as they may be -/
theorem chF_len {tx : Nat → Nat → Tx} {P : List Nat} {fr : Int} (g : Nat → Nat → Nat) : ∀ m, m ≤ 99 → (∀ i, i < m → ∀ e, e ∈ hn G P fr i → okX (tx (ptN P i) e) ∧ 4 + (tx (ptN P i) e).length ≤ 5 * g (ptN P i) e) → (P.length ≤ 99 → okX (chF G tx P fr m)) ∧ (chF G tx P fr m).length ≤ (numT P.length).length + 5 * (sumR m fun i => ((hn G P fr i).map (g (ptN P i))).sum)
  | 0, _, _ => ⟨fun h => numT_ok h, by show (numT P.length).length ≤ _ + 5 * 0; omega⟩
  | m + 1, hm, h => by
    obtain ⟨i1, i2⟩ := chF_len g m (by omega) fun i hi => h i (by omega)
    have hh := h m (by omega)
    refine ⟨fun hP => ?_, ?_⟩
    · intro x hx
      unfold chF at hx
      rcases List.mem_append.mp hx with hx | hx
      · exact i1 hP x hx
      · obtain ⟨t, ht, hx⟩ := List.mem_flatMap.mp hx
        unfold hangT hangR at ht
        rw [List.mem_reverse, hangR_mem] at ht
        rcases ht with ht | ⟨e, he, rfl⟩
        · cases ht
        · exact oneT_ok (by omega) (hh e he).1 x hx
    · unfold chF
      rw [List.length_append, List.length_flatMap]
      have e1 : ((hangT (tx (ptN P m)) (hn G P fr m)).map fun t => (oneT m t).length).sum = ((hn G P fr m).map fun e => (oneT m (tx (ptN P m) e)).length).sum := hangT_sum _ _ _
      rw [e1]
      have e2 : ∀ l : List Nat, (∀ e, e ∈ l → 4 + (tx (ptN P m) e).length ≤ 5 * g (ptN P m) e) → (l.map fun e => (oneT m (tx (ptN P m) e)).length).sum ≤ 5 * (l.map (g (ptN P m))).sum := by
        intro l
        induction l with
        | nil => intro _; exact Nat.zero_le _
        | cons x r ih =>
          intro hl
          have := ih fun e he => hl e (List.mem_cons_of_mem _ he)
          have := hl x List.mem_cons_self
          have := oneT_len m (tx (ptN P m) x)
          simp only [List.map_cons, List.sum_cons]
          omega
      have e3 := e2 _ fun e he => (hh e he).2
      show _ ≤ _ + 5 * (sumR m _ + ((hn G P fr m).map (g (ptN P m))).sum)
      omega
theorem chF_pos {tx : Nat → Nat → Tx} {P : List Nat} {fr : Int} : ∀ m, 1 ≤ (chF G tx P fr m).length
  | 0 => (numT_len _).1
  | m + 1 => by
    unfold chF
    rw [List.length_append]
    have := chF_pos (tx := tx) (P := P) (fr := fr) m
    omega
theorem min_fold (F : Nat → Tx) : ∀ (l : List Nat) (acc : Tx), (∀ e, e ∈ l → F e ≠ []) → (l.foldl (fun a e => minT a (F e)) acc = acc ∨ ∃ e, e ∈ l ∧ l.foldl (fun a e => minT a (F e)) acc = F e) ∧ (l ≠ [] → l.foldl (fun a e => minT a (F e)) acc ≠ [])
  | [], acc, _ => ⟨Or.inl rfl, fun h => absurd rfl h⟩
  | x :: r, acc, h => by
    have hx := h x List.mem_cons_self
    have hm : minT acc (F x) ≠ [] ∧ (minT acc (F x) = acc ∨ minT acc (F x) = F x) := by
      unfold minT
      split
      · exact ⟨hx, Or.inr rfl⟩
      · split
        · exact ⟨hx, Or.inr rfl⟩
        · rename_i c _
          exact ⟨c, Or.inl rfl⟩
    obtain ⟨i1, i2⟩ := min_fold F r (minT acc (F x)) fun e he => h e (List.mem_cons_of_mem _ he)
    rw [List.foldl_cons]
    refine ⟨?_, fun _ => ?_⟩
    · rcases i1 with i1 | ⟨e, e1, e2⟩
      · rw [i1]
        rcases hm.2 with q | q
        · exact Or.inl q
        · exact Or.inr ⟨x, List.mem_cons_self, q⟩
      · exact Or.inr ⟨e, List.mem_cons_of_mem _ e1, e2⟩
    · rcases i1 with i1 | ⟨e, e1, e2⟩
      · rw [i1]; exact hm.1
      · rw [e2]; exact h e (List.mem_cons_of_mem _ e1)
theorem numT_one : (numT 1).length = 1 := rfl
/-- texts of branches: how long at most -/
theorem brT_len (hG : G.wf) (hD : Far G D) : ∀ a c, G.2 a c = true → okX (brT G D a c) ∧ 1 ≤ (brT G D a c).length ∧ (brT G D a c).length + 4 ≤ 5 * bsz G D a c := by
  have key : ∀ n a c, bsz G D a c ≤ n → G.2 a c = true → okX (brT G D a c) ∧ 1 ≤ (brT G D a c).length ∧ (brT G D a c).length + 4 ≤ 5 * bsz G D a c := by
    intro n
    induction n with
    | zero => intro a c h1 h; have := bsz_pos hG hD h; omega
    | succ n ih =>
      intro a c h1 h
      have hc := (hG.2.2 _ _ h).2.1
      have hn16 := hG.2.1
      have hlt := bsz_lt hG hD h
      have hpos := bsz_pos hG hD h
      have hsz := TT_sz hG hD _ _ h
      have way : ∀ e, e ∈ endsB G D a c → okX (wayT G D c e ((a : Nat) : Int)) ∧ (wayT G D c e ((a : Nat) : Int)).length + 5 * tallT (TT G a c) ≤ (numT (tallT (TT G a c))).length + 5 * bsz G D a c := by
        intro e he
        obtain ⟨e1, e2, e3⟩ := ends_mem.mp he
        have hl := pth_len (G := G) (D := D) (D c e) c e
        have hs : seenF G D a c e ((a : Nat) : Int) := Or.inl ⟨h, e2, rfl⟩
        have hall := hang_all hG hD hs hc e1 rfl
        rw [← bsz_eq hG hD h] at hall
        have := chF_len (G := G) (tx := brT G D) (P := pthL G D (D c e) c e) (fr := ((a : Nat) : Int)) (bsz G D) (D c e + 1) (by omega) fun i hi x hx => by
          have hls := hn_less hG hD hs hc e1 rfl (i := i) (by omega) hx
          rw [← bsz_eq hG hD h] at hls
          obtain ⟨o1, o2, o3⟩ := ih _ x (by omega) (hn_mem hG hx)
          exact ⟨o1, by omega⟩
        unfold wayT chT
        rw [hl, ← e3]
        rw [hl] at this
        exact ⟨this.1 (by omega), by have := this.2; omega⟩
      have hne : endsB G D a c ≠ [] := by
        obtain ⟨v, v1, v2, v3⟩ := (TT_tall hG hD a c h).2
        intro q
        have := ends_mem.mpr ⟨v1, v2, v3⟩
        rw [q] at this
        cases this
      obtain ⟨m1, m2⟩ := min_fold (fun e => wayT G D c e ((a : Nat) : Int)) (endsB G D a c) [] fun e he q => by
        have : 1 ≤ (wayT G D c e ((a : Nat) : Int)).length := chF_pos _
        rw [q] at this
        simp at this
      have m3 := m2 hne
      rw [brT_eq hG hD h]
      obtain ⟨e, he, hm⟩ : ∃ e, e ∈ endsB G D a c ∧ (endsB G D a c).foldl (fun acc e => minT acc (wayT G D c e ((a : Nat) : Int))) [] = wayT G D c e ((a : Nat) : Int) := by
        rcases m1 with q | q
        · exact absurd q m3
        · exact q
      rw [hm]
      obtain ⟨w1, w2⟩ := way e he
      have w3 : 1 ≤ (wayT G D c e ((a : Nat) : Int)).length := chF_pos _
      have ht := tall_pos (TT G a c)
      have htle := tall_le_sz (TT G a c)
      have hnl := (numT_len (tallT (TT G a c))).2
      unfold wrapT
      cases hp : plainB G a c with
      | true =>
        have hp : tallT (TT G a c) = szT (TT G a c) := beqN.mp hp
        rw [cond_true]
        refine ⟨w1, w3, ?_⟩
        by_cases q : tallT (TT G a c) = 1
        · rw [q, numT_one] at w2; omega
        · omega
      | false =>
        have hp : tallT (TT G a c) ≠ szT (TT G a c) := fun q => by rw [show plainB G a c = true from beqN.mpr q] at hp; cases hp
        have ht2 : tallT (TT G a c) ≠ 1 := by
          intro q
          rcases tall_at (TT G a c) with ⟨k1, k2⟩ | ⟨t, k1, k2⟩
          · have := mk_kids _ (TT_ok G a c)
            rw [k1] at this
            rw [← this] at hp
            exact hp rfl
          · have := tall_pos t; omega
        rw [cond_false]
        refine ⟨?_, by simp, ?_⟩
        · intro x hx
          rcases List.mem_cons.mp hx with rfl | hx
          · decide
          · rcases List.mem_append.mp hx with hx | hx
            · exact w1 x hx
            · rw [List.mem_singleton.mp hx]; decide
        · simp only [List.length_cons, List.length_append, List.length_nil]
          omega
  exact fun a c h => key _ a c (Nat.le_refl _) h
/-- a way between two of the whole -/
theorem way_len (hG : G.wf) (hD : Far G D) {a b : Nat} (ha : a < G.1) (hb : b < G.1) : okX (wayT G D a b (-1)) ∧ 1 ≤ (wayT G D a b (-1)).length ∧ (wayT G D a b (-1)).length ≤ 80 := by
  have hn16 := hG.2.1
  have hl := pth_len (G := G) (D := D) (D a b) a b
  have hs : seenF G D 16 a b (-1) := Or.inr ⟨rfl, rfl⟩
  have hall := hang_all hG hD hs ha hb rfl
  rw [← root_eq hG hD ha] at hall
  have := chF_len (G := G) (tx := brT G D) (P := pthL G D (D a b) a b) (fr := -1) (bsz G D) (D a b + 1) (by omega) fun i hi x hx => by
    obtain ⟨o1, o2, o3⟩ := brT_len hG hD _ x (hn_mem hG hx)
    exact ⟨o1, by omega⟩
  have hnl := (numT_len (D a b + 1)).2
  unfold wayT chT
  rw [hl]
  rw [hl] at this
  exact ⟨this.1 (by omega), chF_pos _, by have := this.2; omega⟩
end TXT2
