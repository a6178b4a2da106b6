/-! SUMS AND COUNTS -/
def sumR (n : Nat) (f : Nat → Nat) : Nat := match n with
  | 0 => 0
  | n + 1 => sumR n f + f n
theorem sumR_congr {f g : Nat → Nat} : ∀ {n : Nat}, (∀ i, i < n → f i = g i) → sumR n f = sumR n g
  | 0, _ => rfl
  | n + 1, h => by simp only [sumR, sumR_congr (fun i hi => h i (Nat.lt_succ_of_lt hi)), h n (Nat.lt_succ_self n)]
theorem sumR_add {f g : Nat → Nat} : ∀ {n : Nat}, sumR n (fun i => f i + g i) = sumR n f + sumR n g
  | 0 => rfl
  | n + 1 => by simp only [sumR, sumR_add (n := n)]; omega
theorem sumR_zero : ∀ {n : Nat}, sumR n (fun _ => 0) = 0
  | 0 => rfl
  | n + 1 => by simp only [sumR, sumR_zero (n := n)]
theorem sumR_swap {f : Nat → Nat → Nat} {m : Nat} : ∀ {n : Nat}, sumR n (fun i => sumR m (fun j => f i j)) = sumR m (fun j => sumR n (fun i => f i j))
  | 0 => by simp only [sumR, sumR_zero]
  | n + 1 => by simp only [sumR, sumR_swap (n := n)]; rw [← sumR_add]
theorem sumR_le {f g : Nat → Nat} : ∀ {n : Nat}, (∀ i, i < n → f i ≤ g i) → sumR n f ≤ sumR n g
  | 0, _ => Nat.le_refl _
  | n + 1, h => by
    have := sumR_le (fun i hi => h i (Nat.lt_succ_of_lt hi))
    have := h n (Nat.lt_succ_self n)
    simp only [sumR]; omega
theorem sumR_lt {f g : Nat → Nat} : ∀ {n : Nat}, (∀ i, i < n → f i ≤ g i) → (∃ i, i < n ∧ f i < g i) → sumR n f < sumR n g
  | 0, _, h => by obtain ⟨i, hi, _⟩ := h; omega
  | n + 1, h, ⟨i, hi, hlt⟩ => by
    have h0 := h n (Nat.lt_succ_self n)
    by_cases c : i = n
    · subst c
      have := sumR_le (fun i hi => h i (Nat.lt_succ_of_lt hi))
      simp only [sumR]; omega
    · have := sumR_lt (fun i hi => h i (Nat.lt_succ_of_lt hi)) ⟨i, by omega, hlt⟩
      simp only [sumR]; omega
abbrev b01 (b : Bool) : Nat := cond b 1 0
def cnt (n : Nat) (p : Nat → Bool) : Nat := sumR n fun i => b01 (p i)
theorem sumR_none {f : Nat → Nat} : ∀ {n : Nat}, (∀ i, i < n → f i = 0) → sumR n f = 0
  | 0, _ => rfl
  | n + 1, h => by simp only [sumR, sumR_none (fun i hi => h i (Nat.lt_succ_of_lt hi)), h n (Nat.lt_succ_self n)]
theorem sumR_only {f : Nat → Nat} {k : Nat} : ∀ {n : Nat}, k < n → (∀ i, i < n → i ≠ k → f i = 0) → sumR n f = f k
  | 0, h, _ => by omega
  | n + 1, h, h2 => by
    by_cases c : k = n
    · subst c
      have h3 := sumR_none (n := k) (f := f) (fun i hi => h2 i (by omega) (by omega))
      simp only [sumR]; omega
    · simp only [sumR, sumR_only (n := n) (by omega) (fun i hi => h2 i (by omega)), h2 n (by omega) (by omega)]; omega
theorem cnt_filter (p : Nat → Bool) : ∀ n, ((List.range n).filter p).length = cnt n p
  | 0 => rfl
  | n + 1 => by
    rw [List.range_succ, List.filter_append, List.length_append, cnt_filter p n]
    show _ = cnt n p + b01 (p n)
    cases e : p n <;> simp [e]
theorem cnt_le (p : Nat → Bool) : ∀ n, cnt n p ≤ n
  | 0 => Nat.le_refl _
  | n + 1 => by
    have := cnt_le p n
    show cnt n p + b01 (p n) ≤ n + 1
    cases p n <;> simp <;> omega
theorem cnt_lt {p q : Nat → Bool} {n k : Nat} (h : ∀ i, i < n → p i = true → q i = true) (hk : k < n) (h1 : p k = false) (h2 : q k = true) : cnt n p < cnt n q := by
  refine sumR_lt (fun i hi => ?_) ⟨k, hk, by rw [h1, h2]; decide⟩
  cases e : p i with
  | false => exact Nat.zero_le _
  | true => rw [h i hi e]; exact Nat.le_refl _
theorem cnt_all {p : Nat → Bool} : ∀ {n : Nat}, (∀ i, i < n → p i = true) → cnt n p = n
  | 0, _ => rfl
  | n + 1, h => by
    show cnt n p + b01 (p n) = n + 1
    rw [cnt_all (fun i hi => h i (by omega)), h n (by omega)]; rfl
/-! BRANCHES OF A GRAPH AS TREES -/
def ch (G : Gr) (a c : Nat) : List Nat := (nb G c).filter fun e => !(Nat.beq e a)
theorem beqN {a b : Nat} : Nat.beq a b = true ↔ a = b := ⟨Nat.eq_of_beq_eq_true, fun h => by rw [h]; exact Nat.beq_refl b⟩
theorem nbeq {a b : Nat} : (!(Nat.beq a b)) = true ↔ a ≠ b := by
  cases e : Nat.beq a b with
  | true => simp [beqN.mp e]
  | false => simp; intro h; rw [beqN.mpr h] at e; cases e
theorem nb_mem {G : Gr} (hG : G.wf) {c e : Nat} : e ∈ nb G c ↔ G.2 c e = true := by
  unfold nb
  rw [List.mem_filter, List.mem_range]
  exact ⟨fun h => h.2, fun h => ⟨(hG.2.2 _ _ h).2.1, h⟩⟩
theorem ch_mem {G : Gr} (hG : G.wf) {a c e : Nat} : e ∈ ch G a c ↔ G.2 c e = true ∧ e ≠ a := by
  unfold ch
  rw [List.mem_filter, nb_mem hG, nbeq]
theorem map_sum_filter (p : Nat → Bool) (f : Nat → Nat) : ∀ n, ((((List.range n).filter p).map f).sum) = sumR n fun i => cond (p i) (f i) 0
  | 0 => rfl
  | n + 1 => by
    rw [List.range_succ, List.filter_append, List.map_append, List.sum_append, map_sum_filter p f n]
    simp only [sumR]
    cases e : p n <;> simp [e]
theorem ch_sum (G : Gr) (a c : Nat) (f : Nat → Nat) : ((ch G a c).map f).sum = sumR G.1 fun e => cond (G.2 c e && !(Nat.beq e a)) (f e) 0 := by
  unfold ch nb
  rw [List.filter_filter, map_sum_filter]
  refine sumR_congr fun i _ => ?_
  rw [Bool.and_comm]
theorem ch_root {G : Gr} (hG : G.wf) (c : Nat) : ch G 16 c = nb G c := by
  unfold ch
  rw [List.filter_eq_self]
  intro e he
  have := hG.2.1
  have := (hG.2.2 _ _ ((nb_mem hG).mp he)).2.1
  rw [nbeq]; omega
/-- how many hang behind a bond -/
def bsz (G : Gr) (D : Nat → Nat → Nat) (a c : Nat) : Nat := cnt G.1 fun v => decide (inB D a c v)
section BT
variable {G : Gr} {D : Nat → Nat → Nat}
theorem bsz_gen (hG : G.wf) (hD : Far G D) {a c : Nat} (hc : c < G.1) (S : Nat → Bool) (h0 : S c = true) (h1 : ∀ v, v < G.1 → S v = true → v ≠ c → ∃ e, G.2 c e = true ∧ e ≠ a ∧ inB D c e v) (h2 : ∀ e v, v < G.1 → G.2 c e = true → e ≠ a → inB D c e v → S v = true) : cnt G.1 S = 1 + ((ch G a c).map (bsz G D c)).sum := by
  rw [ch_sum]
  have e1 : (sumR G.1 fun e => cond (G.2 c e && !(Nat.beq e a)) (bsz G D c e) 0) = sumR G.1 fun v => sumR G.1 fun e => b01 (G.2 c e && !(Nat.beq e a) && decide (inB D c e v)) := by
    rw [sumR_swap]
    refine sumR_congr fun e _ => ?_
    cases c1 : (G.2 c e && !(Nat.beq e a)) with
    | false => simp only [cond_false, Bool.false_and]; exact sumR_zero.symm
    | true => simp only [cond_true, Bool.true_and]; rfl
  have e2 : ∀ v, v < G.1 → (sumR G.1 fun e => b01 (G.2 c e && !(Nat.beq e a) && decide (inB D c e v))) = b01 (S v && !(Nat.beq v c)) := by
    intro v hv
    by_cases cv : S v = true ∧ v ≠ c
    · obtain ⟨e, k1, k2, k3⟩ := h1 v hv cv.1 cv.2
      have he := (hG.2.2 _ _ k1).2.1
      rw [sumR_only (k := e) he]
      · rw [k1, nbeq.mpr k2, decide_eq_true k3, cv.1, nbeq.mpr cv.2]; rfl
      · intro i hi hne
        cases c1 : G.2 c i with
        | false => rfl
        | true =>
          have : ¬ inB D c i v := fun k => hne (Far.uniq hG hD hv c1 k1 k k3)
          rw [decide_eq_false this]; simp
    · rw [sumR_none]
      · have : (S v && !(Nat.beq v c)) = false := by
          cases c1 : S v with
          | false => rfl
          | true =>
            have : v = c := Classical.byContradiction fun k => cv ⟨c1, k⟩
            subst this; rw [Nat.beq_refl]; rfl
        rw [this]; rfl
      · intro i hi
        cases c1 : G.2 c i with
        | false => rfl
        | true =>
          cases c2 : (!(Nat.beq i a)) with
          | false => rfl
          | true =>
            have : ¬ inB D c i v := by
              intro k
              refine cv ⟨h2 i v hv c1 (nbeq.mp c2) k, ?_⟩
              rintro rfl
              exact (hD.self hG c1).2 k
            rw [decide_eq_false this]; rfl
  rw [e1, sumR_congr e2]
  show (sumR G.1 fun v => b01 (S v)) = _
  have e3 : (sumR G.1 fun v => b01 (S v)) = sumR G.1 fun v => b01 (Nat.beq v c) + b01 (S v && !(Nat.beq v c)) := by
    refine sumR_congr fun v _ => ?_
    cases e : Nat.beq v c with
    | true => rw [beqN.mp e, h0]; rfl
    | false => cases S v <;> rfl
  rw [e3, sumR_add, sumR_only (f := fun v => b01 (Nat.beq v c)) hc]
  · simp only [Nat.beq_refl]; rfl
  · intro i _ hne
    cases e : Nat.beq i c with
    | true => exact absurd (beqN.mp e) hne
    | false => rfl
theorem bsz_eq (hG : G.wf) (hD : Far G D) {a c : Nat} (hac : G.2 a c = true) : bsz G D a c = 1 + ((ch G a c).map (bsz G D c)).sum := by
  obtain ⟨ha, hc, hca, hne⟩ := hG.2.2 _ _ hac
  refine bsz_gen hG hD hc _ (decide_eq_true (hD.self hG hac).1) (fun v hv h hvc => ?_) (fun e v hv h1 h2 h3 => decide_eq_true (Far.sub hG hD hac h1 h2 hv h3))
  exact Far.child hG hD hc hv hvc (of_decide_eq_true h)
theorem root_eq (hG : G.wf) (hD : Far G D) {c : Nat} (hc : c < G.1) : G.1 = 1 + ((ch G 16 c).map (bsz G D c)).sum := by
  have k := bsz_gen hG hD (a := 16) hc (fun _ => true) rfl (fun v hv _ hvc => ?_) (fun e v hv h1 h2 h3 => rfl)
  · rw [cnt_all fun _ _ => rfl] at k
    exact k
  · obtain ⟨e, h1, h2⟩ := hD.near hc hv (Ne.symm hvc)
    have := hG.2.1
    have := (hG.2.2 _ _ h1).2.1
    exact ⟨e, h1, by omega, by unfold inB; omega⟩
theorem bsz_pos (hG : G.wf) (hD : Far G D) {a c : Nat} (hac : G.2 a c = true) : 1 ≤ bsz G D a c := by rw [bsz_eq hG hD hac]; omega
theorem bsz_lt (hG : G.wf) (hD : Far G D) {a c : Nat} (hac : G.2 a c = true) : bsz G D a c < G.1 := by
  obtain ⟨ha, hc, hca, hne⟩ := hG.2.2 _ _ hac
  have h := cnt_lt (n := G.1) (p := fun v => decide (inB D a c v)) (q := fun _ => true) (k := a) (fun _ _ _ => rfl) ha (decide_eq_false (hD.self hG hac).2) rfl
  rw [cnt_all (p := fun _ => true) fun _ _ => rfl] at h
  exact h
theorem bsz_child (hG : G.wf) (hD : Far G D) {a c e : Nat} (hac : G.2 a c = true) (hce : G.2 c e = true) (hne : e ≠ a) : bsz G D c e < bsz G D a c := by
  obtain ⟨ha, hc, -, -⟩ := hG.2.2 _ _ hac
  refine cnt_lt (k := c) (fun v hv h => ?_) hc (decide_eq_false (hD.self hG hce).2) (decide_eq_true (hD.self hG hac).1)
  exact decide_eq_true (Far.sub hG hD hac hce hne hv (of_decide_eq_true h))
theorem bsz_both (hG : G.wf) (hD : Far G D) {a c : Nat} (hac : G.2 a c = true) : bsz G D a c + bsz G D c a = G.1 := by
  have h : (sumR G.1 fun v => b01 (decide (inB D a c v)) + b01 (decide (inB D c a v))) = G.1 := by
    have : (sumR G.1 fun v => b01 (decide (inB D a c v)) + b01 (decide (inB D c a v))) = cnt G.1 fun _ => true := by
      refine sumR_congr fun v hv => ?_
      have p := Far.pm hG hD hac hv
      unfold inB
      rcases p with p | p
      · rw [decide_eq_false (by omega), decide_eq_true (by omega)]; rfl
      · rw [decide_eq_true (by omega), decide_eq_false (by omega)]; rfl
    rw [this, cnt_all fun _ _ => rfl]
  rw [sumR_add] at h
  exact h
/-- what holds of each branch if it holds of one as soon as of those on it, holds of all -/
theorem br_ind (hG : G.wf) (hD : Far G D) (P : Nat → Nat → Prop) (h : ∀ a c, G.2 a c = true → (∀ e, G.2 c e = true → e ≠ a → P c e) → P a c) : ∀ a c, G.2 a c = true → P a c := by
  have key : ∀ n a c, bsz G D a c ≤ n → G.2 a c = true → P a c := by
    intro n
    induction n with
    | zero => intro a c h1 h2; have := bsz_pos hG hD h2; omega
    | succ n ih =>
      intro a c h1 h2
      exact h a c h2 fun e h3 h4 => ih c e (by have := bsz_child hG hD h2 h3 h4; omega) h3
  exact fun a c hac => key _ a c (Nat.le_refl _) hac
def bt (G : Gr) : Nat → Nat → Nat → Tr
  | 0, _, _ => .var 0
  | f + 1, a, c => mkT (srtT ((ch G a c).map (bt G f c)))
/-- the tree at c seen from a; from 16: from nowhere -/
abbrev TT (G : Gr) (a c : Nat) : Tr := bt G 16 a c
theorem bt_ok (G : Gr) : ∀ f a c, okT0 (bt G f a c)
  | 0, _, _ => rfl
  | f + 1, a, c => by
    unfold bt
    refine ok_mk _ fun x hx => ?_
    rw [srt_mem, List.mem_map] at hx
    obtain ⟨e, -, rfl⟩ := hx
    exact bt_ok G f c e
theorem bt_fuel (hG : G.wf) (hD : Far G D) : ∀ f f' a c, G.2 a c = true → bsz G D a c ≤ f → bsz G D a c ≤ f' → bt G f a c = bt G f' a c
  | 0, f', a, c, h, h1, _ => by have := bsz_pos hG hD h; omega
  | f + 1, 0, a, c, h, _, h2 => by have := bsz_pos hG hD h; omega
  | f + 1, f' + 1, a, c, h, h1, h2 => by
    unfold bt
    congr 2
    refine List.map_congr_left fun e he => ?_
    obtain ⟨k1, k2⟩ := (ch_mem hG).mp he
    have := bsz_child hG hD h k1 k2
    exact bt_fuel hG hD f f' c e k1 (by omega) (by omega)
theorem TT_eq (hG : G.wf) (hD : Far G D) {a c : Nat} (h : G.2 a c = true ∨ a = 16) : TT G a c = mkT (srtT ((ch G a c).map (TT G c))) := by
  show bt G 16 a c = _
  unfold bt
  congr 2
  refine List.map_congr_left fun e he => ?_
  obtain ⟨k1, k2⟩ := (ch_mem hG).mp he
  have hn := hG.2.1
  have := bsz_lt hG hD k1
  exact bt_fuel hG hD 15 16 c e k1 (by omega) (by omega)
theorem TT_ok (G : Gr) (a c : Nat) : okT0 (TT G a c) := bt_ok G 16 a c
theorem TT_kids (hG : G.wf) (hD : Far G D) {a c : Nat} (h : G.2 a c = true ∨ a = 16) : kidsT (TT G a c) = srtT ((ch G a c).map (TT G c)) := by rw [TT_eq hG hD h, kids_mk]
theorem TT_sz (hG : G.wf) (hD : Far G D) : ∀ a c, G.2 a c = true → szT (TT G a c) = bsz G D a c := by
  refine br_ind hG hD _ fun a c hac ih => ?_
  rw [TT_eq hG hD (Or.inl hac), sz_mk, srt_sum, bsz_eq hG hD hac, List.map_map]
  congr 2
  refine List.map_congr_left fun e he => ?_
  obtain ⟨k1, k2⟩ := (ch_mem hG).mp he
  exact ih e k1 k2
theorem TT_root (hG : G.wf) (hD : Far G D) {c : Nat} (hc : c < G.1) : szT (TT G 16 c) = G.1 := by
  rw [TT_eq hG hD (Or.inr rfl), sz_mk, srt_sum, List.map_map]
  refine Eq.trans ?_ (root_eq hG hD hc).symm
  congr 2
  refine List.map_congr_left fun e he => ?_
  obtain ⟨k1, k2⟩ := (ch_mem hG).mp he
  exact TT_sz hG hD c e k1
/-- how tall: as far as the farthest of a branch is -/
theorem tall_gen (hG : G.wf) (hD : Far G D) {a c : Nat} (hv : G.2 a c = true ∨ a = 16) (hc : c < G.1) (S : Nat → Prop) (h0 : S c) (h1 : ∀ v, v < G.1 → S v → v ≠ c → ∃ e, G.2 c e = true ∧ e ≠ a ∧ inB D c e v) (h2 : ∀ e v, v < G.1 → G.2 c e = true → e ≠ a → inB D c e v → S v)
    (ih : ∀ e, G.2 c e = true → e ≠ a → (∀ v, v < G.1 → inB D c e v → D e v < tallT (TT G c e)) ∧ ∃ v, v < G.1 ∧ inB D c e v ∧ D e v + 1 = tallT (TT G c e)) : (∀ v, v < G.1 → S v → D c v < tallT (TT G a c)) ∧ ∃ v, v < G.1 ∧ S v ∧ D c v + 1 = tallT (TT G a c) := by
  have hk := TT_kids hG hD hv
  have mem : ∀ e, G.2 c e = true → e ≠ a → TT G c e ∈ kidsT (TT G a c) := by
    intro e k1 k2
    rw [hk, srt_mem, List.mem_map]
    exact ⟨e, (ch_mem hG).mpr ⟨k1, k2⟩, rfl⟩
  refine ⟨fun v hv2 hS => ?_, ?_⟩
  · by_cases e : v = c
    · subst e
      have : D v v = 0 := (hD v v hc hc).2.1.mpr rfl
      have := tall_pos (TT G a v)
      omega
    · obtain ⟨e, k1, k2, k3⟩ := h1 v hv2 hS e
      have t1 := tall_kid _ _ (mem e k1 k2)
      have t2 := (ih e k1 k2).1 v hv2 k3
      have p := Far.pm hG hD k1 hv2
      unfold inB at k3
      omega
  · rcases tall_at (TT G a c) with ⟨k1, k2⟩ | ⟨t, k1, k2⟩
    · exact ⟨c, hc, h0, by rw [k2, (hD c c hc hc).2.1.mpr rfl]⟩
    · rw [hk, srt_mem, List.mem_map] at k1
      obtain ⟨e, k3, rfl⟩ := k1
      obtain ⟨k4, k5⟩ := (ch_mem hG).mp k3
      obtain ⟨v, k6, k7, k8⟩ := (ih e k4 k5).2
      refine ⟨v, k6, h2 e v k6 k4 k5 k7, ?_⟩
      have p := Far.pm hG hD k4 k6
      unfold inB at k7
      omega
theorem TT_tall (hG : G.wf) (hD : Far G D) : ∀ a c, G.2 a c = true → (∀ v, v < G.1 → inB D a c v → D c v < tallT (TT G a c)) ∧ ∃ v, v < G.1 ∧ inB D a c v ∧ D c v + 1 = tallT (TT G a c) := by
  refine br_ind hG hD _ fun a c hac ih => ?_
  obtain ⟨ha, hc, hca, hne⟩ := hG.2.2 _ _ hac
  exact tall_gen hG hD (Or.inl hac) hc (inB D a c) (hD.self hG hac).1 (fun v hv h hvc => Far.child hG hD hc hv hvc h) (fun e v hv h1 h2 h3 => Far.sub hG hD hac h1 h2 hv h3) ih
theorem deg_cnt (G : Gr) (c : Nat) : deg G c = cnt G.1 (G.2 c) := cnt_filter _ _
theorem kids_len (hG : G.wf) (hD : Far G D) {a c : Nat} (h : G.2 a c = true ∨ a = 16) : (kidsT (TT G a c)).length = (ch G a c).length := by rw [TT_kids hG hD h, srt_len, List.length_map]
theorem filter_ne_len {a : Nat} : ∀ (l : List Nat), l.Nodup → a ∈ l → (l.filter fun e => !(Nat.beq e a)).length + 1 = l.length
  | [], _, h => nomatch h
  | x :: r, hn, h => by
    obtain ⟨h1, h2⟩ := List.nodup_cons.mp hn
    by_cases c : x = a
    · subst c
      rw [List.filter_cons, if_neg (by rw [Nat.beq_refl]; decide), List.length_cons]
      congr 2
      rw [List.filter_eq_self]
      intro e he
      rw [nbeq]
      rintro rfl
      exact h1 he
    · rw [List.filter_cons, if_pos (nbeq.mpr c), List.length_cons, List.length_cons]
      have := filter_ne_len r h2 (by rcases List.mem_cons.mp h with rfl | h; exact absurd rfl c; exact h)
      omega
theorem nb_nodup (G : Gr) (c : Nat) : (nb G c).Nodup := List.Pairwise.filter _ List.nodup_range
theorem ch_len (hG : G.wf) {a c : Nat} (hac : G.2 a c = true) : (ch G a c).length + 1 = deg G c := filter_ne_len _ (nb_nodup G c) ((nb_mem hG).mpr (hG.2.2 _ _ hac).2.2.1)
/-- bonds: one less than carbons -/
theorem bonds (hG : G.wf) (hD : Far G D) : (sumR G.1 fun a => deg G a) = 2 * (G.1 - 1) := by
  have hn := hG.1
  have one : ∀ a, a < G.1 → (sumR G.1 fun c => b01 (G.2 a c && decide (D c 0 < D a 0))) = b01 (!(Nat.beq a 0)) := by
    intro a ha
    by_cases c : a = 0
    · subst c
      rw [sumR_none]
      · rfl
      · intro i _
        have : D 0 0 = 0 := (hD 0 0 ha ha).2.1.mpr rfl
        rw [decide_eq_false (by omega)]; simp
    · obtain ⟨e, k1, k2⟩ := hD.near ha (show 0 < G.1 by omega) c
      rw [sumR_only (k := e) (hG.2.2 _ _ k1).2.1]
      · rw [k1, decide_eq_true (by omega), nbeq.mpr c]; rfl
      · intro i _ hne
        cases c1 : G.2 a i with
        | false => rfl
        | true =>
          have : ¬ D i 0 < D a 0 := fun k => hne (Far.uniq hG hD (show 0 < G.1 by omega) c1 k1 k (by omega))
          rw [decide_eq_false this]; rfl
  have tot : (sumR G.1 fun a => b01 (!(Nat.beq a 0))) = G.1 - 1 := by
    have h : (sumR G.1 fun a => b01 (Nat.beq a 0) + b01 (!(Nat.beq a 0))) = G.1 := by
      have : (sumR G.1 fun a => b01 (Nat.beq a 0) + b01 (!(Nat.beq a 0))) = cnt G.1 fun _ => true := by
        refine sumR_congr fun v _ => ?_
        cases Nat.beq v 0 <;> rfl
      rw [this, cnt_all fun _ _ => rfl]
    rw [sumR_add, sumR_only (f := fun v => b01 (Nat.beq v 0)) (k := 0) (by omega)] at h
    · have e : b01 (Nat.beq 0 0) = 1 := rfl
      rw [e] at h; omega
    · intro i _ hne
      cases e : Nat.beq i 0 with
      | true => exact absurd (beqN.mp e) hne
      | false => rfl
  have s1 : (sumR G.1 fun a => sumR G.1 fun c => b01 (G.2 a c && decide (D c 0 < D a 0))) = G.1 - 1 := by rw [sumR_congr one, tot]
  have s2 : (sumR G.1 fun a => sumR G.1 fun c => b01 (G.2 a c && decide (D a 0 < D c 0))) = G.1 - 1 := by
    rw [sumR_swap]
    rw [← s1]
    refine sumR_congr fun c _ => sumR_congr fun a _ => ?_
    have : G.2 a c = G.2 c a := by
      cases c1 : G.2 a c with
      | true => exact ((hG.2.2 _ _ c1).2.2.1).symm
      | false =>
        cases c2 : G.2 c a with
        | false => rfl
        | true => rw [(hG.2.2 _ _ c2).2.2.1] at c1; cases c1
    rw [this]
  have s3 : (sumR G.1 fun a => deg G a) = sumR G.1 fun a => (sumR G.1 fun c => b01 (G.2 a c && decide (D c 0 < D a 0))) + sumR G.1 fun c => b01 (G.2 a c && decide (D a 0 < D c 0)) := by
    refine sumR_congr fun a _ => ?_
    rw [deg_cnt, ← sumR_add]
    refine sumR_congr fun c _ => ?_
    cases c1 : G.2 a c with
    | false => rfl
    | true =>
      rcases Far.pm hG hD c1 (show 0 < G.1 by omega) with p | p
      · rw [decide_eq_false (by omega), decide_eq_true (by omega)]; rfl
      · rw [decide_eq_true (by omega), decide_eq_false (by omega)]; rfl
  rw [s3, sumR_add, s1, s2]; omega
end BT
