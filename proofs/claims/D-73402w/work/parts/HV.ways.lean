/-! WAYS of the graph, and what hangs along them -/
theorem sum_split2 (f : Nat → Nat) (M1 M2 : List Nat) (e : Nat) : ((M1 ++ e :: M2).map f).sum = f e + ((M1 ++ M2).map f).sum := by
  simp only [List.map_append, List.map_cons, List.sum_append, List.sum_cons]
  omega
theorem sub_sum (f : Nat → Nat) : ∀ {L M : List Nat}, L.Nodup → (∀ e, e ∈ L → e ∈ M) → (L.map f).sum ≤ (M.map f).sum
  | [], _, _, _ => Nat.zero_le _
  | e :: L, M, hn, h => by
    obtain ⟨h1, h2⟩ := List.nodup_cons.mp hn
    obtain ⟨M1, M2, rfl⟩ := List.append_of_mem (h e List.mem_cons_self)
    rw [sum_split2, List.map_cons, List.sum_cons]
    have := sub_sum f (L := L) (M := M1 ++ M2) h2 fun x hx => by
      have q := h x (List.mem_cons_of_mem _ hx)
      rcases List.mem_append.mp q with q | q
      · exact List.mem_append.mpr (Or.inl q)
      · rcases List.mem_cons.mp q with rfl | q
        · exact absurd hx h1
        · exact List.mem_append.mpr (Or.inr q)
    omega
theorem cover_sum {α : Type} (f : Nat → Nat) (M : α → List Nat) : ∀ {K : List α} {L : List Nat}, L.Nodup → (∀ e, e ∈ L → ∃ d, d ∈ K ∧ e ∈ M d) → (L.map f).sum ≤ (K.map fun d => ((M d).map f).sum).sum
  | [], L, _, h => by
    cases L with
    | nil => exact Nat.zero_le _
    | cons e r =>
      obtain ⟨d, q, -⟩ := h e List.mem_cons_self
      cases q
  | d :: K, L, hn, h => by
    rw [map_sum_split L (fun e => decide (e ∈ M d)) f, List.map_cons, List.sum_cons]
    have h1 := sub_sum f (L := L.filter fun e => decide (e ∈ M d)) (M := M d) (List.Pairwise.filter _ hn) fun e he => of_decide_eq_true (List.mem_filter.mp he).2
    have h2 := cover_sum f M (K := K) (L := L.filter fun e => !decide (e ∈ M d)) (List.Pairwise.filter _ hn) fun e he => by
      obtain ⟨q1, q2⟩ := List.mem_filter.mp he
      have q2 : ¬ e ∈ M d := fun w => by rw [decide_eq_true w] at q2; cases q2
      obtain ⟨d', d1, d2⟩ := h e q1
      rcases List.mem_cons.mp d1 with rfl | d1
      · exact absurd d2 q2
      · exact ⟨d', d1, d2⟩
    omega
theorem len_sum : ∀ l : List Nat, (l.map fun _ => 1).sum = l.length
  | [] => rfl
  | _ :: r => by rw [List.map_cons, List.sum_cons, len_sum r, List.length_cons]; omega
theorem sumR_head {f : Nat → Nat} : ∀ {n : Nat}, sumR (n + 1) f = f 0 + sumR n (fun i => f (i + 1))
  | 0 => by show 0 + f 0 = f 0 + 0; omega
  | n + 1 => by
    show sumR (n + 1) f + f (n + 1) = f 0 + (sumR n (fun i => f (i + 1)) + f (n + 1))
    rw [sumR_head (n := n)]
    omega
theorem maxR_ex {f : Nat → Nat} : ∀ {n : Nat}, 1 ≤ n → ∃ i, i < n ∧ f i = maxR n f
  | 0, h => by omega
  | n + 1, _ => by
    by_cases q : maxR n f ≤ f n
    · exact ⟨n, Nat.lt_succ_self n, by show f n = max (maxR n f) (f n); omega⟩
    · have hn : 1 ≤ n := by
        cases n with
        | zero => exact absurd (Nat.zero_le (f 0)) q
        | succ n => omega
      obtain ⟨i, i1, i2⟩ := maxR_ex (f := f) hn
      exact ⟨i, by omega, by show f i = max (maxR n f) (f n); omega⟩
theorem maxR_ub {f : Nat → Nat} : ∀ {n i : Nat}, i < n → f i ≤ maxR n f
  | 0, _, h => by omega
  | n + 1, i, h => by
    show f i ≤ max (maxR n f) (f n)
    by_cases q : i = n
    · subst q; omega
    · have := maxR_ub (f := f) (n := n) (i := i) (by omega); omega
section WAYS
variable {G : Gr} {D : Nat → Nat → Nat} {κ : Kc}
theorem lng_ub (hG : G.wf) {a b : Nat} (ha : a < G.1) (hb : b < G.1) : D a b + 1 ≤ lngG G D := by
  have h1 := maxR_ub (f := D a) hb
  have h2 := maxR_ub (f := farC G D) ha
  have h3 : farC G D a = maxR G.1 (D a) := rfl
  unfold lngG
  omega
theorem lng_ex (hG : G.wf) : ∃ a b, a < G.1 ∧ b < G.1 ∧ D a b + 1 = lngG G D := by
  obtain ⟨a, a1, a2⟩ := maxR_ex (f := farC G D) hG.1
  obtain ⟨b, b1, b2⟩ := maxR_ex (f := D a) hG.1
  have h3 : farC G D a = maxR G.1 (D a) := rfl
  refine ⟨a, b, a1, b1, ?_⟩
  unfold lngG
  omega
theorem Far.tri (hG : G.wf) (hD : Far G D) {b c : Nat} (hb : b < G.1) (hc : c < G.1) : ∀ (n a : Nat), a < G.1 → D a c = n → D a b ≤ n + D c b
  | 0, a, ha, h => by
    obtain rfl := (hD a c ha hc).2.1.mp h
    omega
  | n + 1, a, ha, h => by
    obtain ⟨y, y1, y2⟩ := hD.near ha hc (fun q => by rw [q, (hD c c hc hc).2.1.mpr rfl] at h; omega)
    have hy := (hG.2.2 _ _ y1).2.1
    have ih := Far.tri hG hD hb hc n y hy (by omega)
    have := Far.pm hG hD y1 hb
    omega
theorem Far.tri' (hG : G.wf) (hD : Far G D) {a b c : Nat} (ha : a < G.1) (hb : b < G.1) (hc : c < G.1) : D a b ≤ D a c + D c b := Far.tri hG hD hb hc (D a c) a ha rfl
theorem Far.sym (hD : Far G D) {a b : Nat} (ha : a < G.1) (hb : b < G.1) : D a b = D b a := (hD a b ha hb).1
/-- across a bond -/
theorem Far.cross (hG : G.wf) (hD : Far G D) {c u b : Nat} (hcu : G.2 c u = true) (hb : b < G.1) (h2 : ¬ inB D c u b) : ∀ (n v : Nat), v < G.1 → inB D c u v → D v b = n → D v b = D v u + 1 + D c b := by
  have hc := (hG.2.2 _ _ hcu).1
  have hu := (hG.2.2 _ _ hcu).2.1
  have hcb := Far.pm hG hD hcu hb
  have low : ∀ (n v : Nat), v < G.1 → inB D c u v → D v b = n → D v u + 1 + D c b ≤ n := by
    intro n
    induction n with
    | zero =>
      intro v hv h1 e
      obtain rfl := (hD v b hv hb).2.1.mp e
      exact absurd h1 h2
    | succ n ih =>
      intro v hv h1 e
      obtain ⟨y, y1, y2⟩ := hD.near hv hb (fun q => by rw [q, (hD b b hb hb).2.1.mpr rfl] at e; omega)
      have hy := (hG.2.2 _ _ y1).2.1
      by_cases q : inB D c u y
      · have := ih y hy q (by omega)
        have := Far.pm hG hD y1 hu
        omega
      · obtain ⟨e1, e2⟩ := Far.edge hG hD hcu y1 h1 q
        subst e1
        subst e2
        have : D v v = 0 := (hD v v hv hv).2.1.mpr rfl
        omega
  intro n v hv h1 e
  have l1 := low n v hv h1 e
  have t1 := Far.tri' hG hD hv hb hu
  unfold inB at h2
  omega
/-- a place between two is on the way -/
theorem pt_at (hG : G.wf) (hD : Far G D) {b x : Nat} (hb : b < G.1) (hx : x < G.1) : ∀ (i f a : Nat), a < G.1 → D a b = f → D a x = i → D x b + i = f → ptN (pthL G D f a b) i = x
  | 0, f, a, ha, h1, h2, h3 => by
    rw [pt_zero]
    exact (hD a x ha hx).2.1.mp h2
  | i + 1, f, a, ha, h1, h2, h3 => by
    obtain ⟨f, rfl⟩ : ∃ g, f = g + 1 := ⟨f - 1, by omega⟩
    obtain ⟨y, y1, y2⟩ := hD.near ha hx (fun q => by rw [q, (hD x x hx hx).2.1.mpr rfl] at h2; omega)
    have hy := (hG.2.2 _ _ y1).2.1
    have t1 := Far.tri' hG hD hy hb hx
    have hab : a ≠ b := fun q => by rw [q, (hD b b hb hb).2.1.mpr rfl] at h1; omega
    obtain ⟨n1, n2⟩ := nxt_ok hD hG ha hb hab
    have e := Far.uniq hG hD hb y1 n1 (by omega) (by omega)
    rw [← e] at n2
    rw [pt_succ, ← e]
    exact pt_at hG hD hb hx i f y hy (by omega) (by omega) (by omega)
/-- what hangs along a way, seen from one -/
def hungS (κ : Kc) (G : Gr) (D : Nat → Nat → Nat) (fr : Int) (a b : Nat) : Nat := sumR (D a b + 1) fun i => ((hn G (pthL G D (D a b) a b) fr i).map fun o => cT κ (TT G (ptN (pthL G D (D a b) a b) i) o)).sum
theorem beq_dec (x y : Nat) : Nat.beq x y = decide (((x : Nat) : Int) = ((y : Nat) : Int)) := by
  by_cases q : x = y
  · rw [q, Nat.beq_refl, decide_eq_true rfl]
  · rw [beq_ff q, decide_eq_false (by omega)]
theorem hung_step (hG : G.wf) (hD : Far G D) {a c e d : Nat} {fr : Int} (hs : seenF G D a c e fr) (hc : c < G.1) (he : e < G.1) (hd : G.2 c d = true) (hde : D d e + 1 = D c e) :
    hungS κ G D fr c e = (((nb G c).filter fun o => !decide (((o : Nat) : Int) = fr) && !Nat.beq o d).map fun o => cT κ (TT G c o)).sum + hungS κ G D ((c : Nat) : Int) d e := by
  have hdl := (hG.2.2 _ _ hd).2.1
  obtain ⟨f, hf⟩ : ∃ f, f = D d e := ⟨_, rfl⟩
  have hce : c ≠ e := fun q => by rw [q, (hD e e he he).2.1.mpr rfl] at hde; omega
  obtain ⟨n1, n2⟩ := nxt_ok hD hG hc he hce
  have hnx : d = nxt G D c e := Far.uniq hG hD he hd n1 (by omega) (by omega)
  have hP : pthL G D (f + 1) c e = c :: pthL G D f d e := by
    show c :: pthL G D f (nxt G D c e) e = _
    rw [← hnx]
  have hl := pth_len (G := G) (D := D) f d e
  have hs1 : ∀ i, ptN (pthL G D (f + 1) c e) (i + 1) = ptN (pthL G D f d e) i := fun i => by rw [pt_succ, ← hnx]
  unfold hungS
  rw [← hde, ← hf, sumR_head, pt_zero]
  congr 1
  · congr 2
    unfold hn
    rw [pt_zero, pth_len]
    refine List.filter_congr fun o _ => ?_
    rw [decide_eq_false (Nat.lt_irrefl 0), decide_eq_true (show 0 + 1 < f + 1 + 1 by omega), hs1 0, pt_zero, Bool.false_and, Bool.true_and, Bool.not_false, Bool.true_and]
  · refine sumR_congr fun i hi => ?_
    rw [hs1 i]
    congr 2
    unfold hn
    rw [hs1 i, pth_len, pth_len]
    refine List.filter_congr fun o ho => ?_
    obtain ⟨w1, w2, -⟩ := pt_way hG hD f d e hdl he hf.symm i (by omega)
    have ho := (nb_mem hG).mp ho
    have hol := (hG.2.2 _ _ ho).2.1
    have p1 := Far.pm hG hD ho he
    have hA : decide (((o : Nat) : Int) = fr) = false := by
      refine decide_eq_false fun q => ?_
      rcases hs with ⟨h1, h2, h3⟩ | ⟨h1, h2⟩
      · have : o = a := by omega
        subst this
        have p2 := Far.pm hG hD h1 he
        unfold inB at h2
        omega
      · omega
    rw [hA, hs1 (i + 1), show decide (i + 1 + 1 < f + 1 + 1) = decide (i + 1 < f + 1) by by_cases q : i + 1 < f + 1 <;> simp [q]]
    generalize (!(decide (i + 1 < f + 1) && Nat.beq o (ptN (pthL G D f d e) (i + 1)))) = X
    cases i with
    | zero =>
      rw [show 0 + 1 - 1 = 0 from rfl, pt_zero, beq_dec o c, decide_eq_true (show 0 < 0 + 1 by omega), decide_eq_false (Nat.lt_irrefl 0)]
      cases decide (((o : Nat) : Int) = ((c : Nat) : Int)) <;> cases X <;> rfl
    | succ i =>
      have hE : decide (((o : Nat) : Int) = ((c : Nat) : Int)) = false := by
        refine decide_eq_false fun q => ?_
        have : o = c := by omega
        subst this
        omega
      rw [hE, show i + 1 + 1 - 1 = i + 1 by omega, hs1 i, show i + 1 - 1 = i by omega, decide_eq_true (show 0 < i + 1 + 1 by omega), decide_eq_true (show 0 < i + 1 by omega)]
/-- what hangs at c but for one -/
theorem rest_sum (hG : G.wf) {a c d : Nat} (hac : G.2 a c = true) (hd : d ∈ ch G a c) (f : Nat → Nat) : (((nb G c).filter fun o => !decide (((o : Nat) : Int) = ((a : Nat) : Int)) && !Nat.beq o d).map f).sum + f d = ((ch G a c).map f).sum := by
  have e1 : (nb G c).filter (fun o => !decide (((o : Nat) : Int) = ((a : Nat) : Int)) && !Nat.beq o d) = (ch G a c).filter fun o => !Nat.beq o d := by
    unfold ch
    rw [List.filter_filter]
    refine List.filter_congr fun o _ => ?_
    rw [← beq_dec, Bool.and_comm]
  have hnd : (ch G a c).Nodup := List.Pairwise.filter _ (nb_nodup G _)
  rw [e1, map_sum_split (ch G a c) (fun o => Nat.beq o d) f, filter_single hnd hd]
  simp only [List.map_cons, List.map_nil, List.sum_cons, List.sum_nil]
  omega
theorem ends_nodup {a c : Nat} : (endsB G D a c).Nodup := List.Pairwise.filter _ List.nodup_range
/-- the ends of a branch lie in the tallest of what hangs there -/
theorem ends_child (hG : G.wf) (hD : Far G D) {a c e : Nat} (hac : G.2 a c = true) (hne : ch G a c ≠ []) (he : e ∈ endsB G D a c) : ∃ d, d ∈ ch G a c ∧ tallT (TT G c d) + 1 = tallT (TT G a c) ∧ e ∈ endsB G D c d ∧ D d e + 1 = D c e := by
  obtain ⟨e1, e2, e3⟩ := ends_mem.mp he
  have hc := (hG.2.2 _ _ hac).2.1
  have kid : ∀ d, d ∈ ch G a c → tallT (TT G c d) + 1 ≤ tallT (TT G a c) := fun d hd => by
    have := tall_kid (TT G a c) (TT G c d) (by
      rw [TT_kids hG hD (Or.inl hac), srt_mem]
      exact List.mem_map.mpr ⟨d, hd, rfl⟩)
    omega
  have hec : e ≠ c := by
    rintro rfl
    obtain ⟨d, hd⟩ : ∃ d, d ∈ ch G a e := by
      cases q : ch G a e with
      | nil => exact absurd q hne
      | cons d r => exact ⟨d, List.mem_cons_self⟩
    have h1 := kid d hd
    have h2 := tall_pos (TT G e d)
    have h3 : D e e = 0 := (hD e e hc hc).2.1.mpr rfl
    omega
  obtain ⟨d, d1, d2, d3⟩ := Far.child hG hD hc e1 hec e2
  have hd : d ∈ ch G a c := (ch_mem hG).mpr ⟨d1, d2⟩
  have p := Far.pm hG hD d1 e1
  have k := kid d hd
  have t := (TT_tall hG hD c d d1).1 e e1 d3
  have d4 : inB D c d e := d3
  unfold inB at d3
  exact ⟨d, hd, by omega, ends_mem.mpr ⟨e1, d4, by omega⟩, by omega⟩
theorem ends_cover (hG : G.wf) (hD : Far G D) {a c : Nat} (hac : G.2 a c = true) (hne : ch G a c ≠ []) (f : Nat → Nat) : ((endsB G D a c).map f).sum ≤ gS G a c fun d => ((endsB G D c d).map f).sum := by
  refine Nat.le_trans (cover_sum f (fun d => if tallT (TT G c d) + 1 = tallT (TT G a c) then endsB G D c d else []) (K := ch G a c) ends_nodup fun e he => ?_) (Nat.le_of_eq ?_)
  · obtain ⟨d, d1, d2, d3, -⟩ := ends_child hG hD hac hne he
    exact ⟨d, d1, by rw [if_pos d2]; exact d3⟩
  · unfold gS
    congr 1
    refine List.map_congr_left fun d _ => ?_
    by_cases q : tallT (TT G c d) + 1 = tallT (TT G a c)
    · dsimp only; rw [if_pos q, if_pos q]
    · dsimp only; rw [if_neg q, if_neg q]; rfl
theorem gS_le {a c : Nat} {f g : Nat → Nat} (h : ∀ d, d ∈ ch G a c → tallT (TT G c d) + 1 = tallT (TT G a c) → f d ≤ g d) : gS G a c f ≤ gS G a c g := by
  unfold gS
  have : ∀ l : List Nat, (∀ d, d ∈ l → d ∈ ch G a c) → (l.map fun d => if tallT (TT G c d) + 1 = tallT (TT G a c) then f d else 0).sum ≤ (l.map fun d => if tallT (TT G c d) + 1 = tallT (TT G a c) then g d else 0).sum := by
    intro l
    induction l with
    | nil => intro _; exact Nat.le_refl _
    | cons d r ih =>
      intro hl
      have i1 := ih fun x hx => hl x (List.mem_cons_of_mem _ hx)
      rw [List.map_cons, List.sum_cons, List.map_cons, List.sum_cons]
      by_cases q : tallT (TT G c d) + 1 = tallT (TT G a c)
      · rw [if_pos q, if_pos q]
        have := h d (hl d List.mem_cons_self) q
        omega
      · rw [if_neg q, if_neg q]; omega
  exact this _ fun _ h => h
theorem gS_add {a c : Nat} {f g : Nat → Nat} : gS G a c (fun d => f d + g d) = gS G a c f + gS G a c g := by
  unfold gS
  induction ch G a c with
  | nil => rfl
  | cons d r ih =>
    rw [List.map_cons, List.sum_cons, List.map_cons, List.sum_cons, List.map_cons, List.sum_cons, ih]
    by_cases q : tallT (TT G c d) + 1 = tallT (TT G a c)
    · rw [if_pos q, if_pos q, if_pos q]
      show f d + g d + _ = _
      omega
    · rw [if_neg q, if_neg q, if_neg q]; omega
/-- how many ends, and what hangs along all ways to them -/
theorem ends_cost (hG : G.wf) (hD : Far G D) : ∀ a c, G.2 a c = true → (endsB G D a c).length ≤ eT (TT G a c) ∧ ((endsB G D a c).map fun e => hungS κ G D ((a : Nat) : Int) c e).sum ≤ xT κ (TT G a c) := by
  refine br_ind hG hD _ fun a c hac ih => ?_
  have hc := (hG.2.2 _ _ hac).2.1
  by_cases hne : ch G a c = []
  · have hT := eT_leaf hG hD hac hne
    have hsub : ∀ e, e ∈ endsB G D a c → e ∈ [c] := fun e he => by
      obtain ⟨e1, e2, e3⟩ := ends_mem.mp he
      rw [hT] at e3
      have e3 : D c e + 1 = 1 := e3
      rw [(hD c e hc e1).2.1.mp (by omega)]
      exact List.mem_singleton.mpr rfl
    have hz : hungS κ G D ((a : Nat) : Int) c c = 0 := by
      unfold hungS
      rw [(hD c c hc hc).2.1.mpr rfl]
      have : hn G (pthL G D 0 c c) ((a : Nat) : Int) 0 = [] := by
        unfold hn
        rw [pt_zero, List.filter_eq_nil_iff]
        intro o ho hp
        rw [Bool.and_eq_true] at hp
        have hoa : o ≠ a := fun q => by rw [q, decide_eq_true rfl] at hp; cases hp.1
        have : o ∈ ch G a c := (ch_mem hG).mpr ⟨(nb_mem hG).mp ho, hoa⟩
        rw [hne] at this
        cases this
      show 0 + ((hn G (pthL G D 0 c c) ((a : Nat) : Int) 0).map _).sum = 0
      rw [this]
      rfl
    rw [hT]
    constructor
    · have := sub_sum (fun _ => 1) (ends_nodup (G := G) (D := D) (a := a) (c := c)) hsub
      rw [len_sum, len_sum] at this
      exact this
    · have := sub_sum (fun e => hungS κ G D ((a : Nat) : Int) c e) (ends_nodup (G := G) (D := D) (a := a) (c := c)) hsub
      refine Nat.le_trans this ?_
      show hungS κ G D ((a : Nat) : Int) c c + 0 ≤ _
      rw [hz]
      exact Nat.zero_le _
  · have hx := xT_G (κ := κ) hG hD hac
    constructor
    · rw [eT_G hG hD hac hne, ← len_sum]
      refine Nat.le_trans (ends_cover hG hD hac hne fun _ => 1) (gS_le fun d hd _ => ?_)
      rw [len_sum]
      have := (ch_mem hG).mp hd
      exact (ih d this.1 this.2).1
    · have key : ((endsB G D a c).map fun e => hungS κ G D ((a : Nat) : Int) c e).sum + gS G a c (fun d => eT (TT G c d) * cT κ (TT G c d)) ≤ gS G a c fun d => xT κ (TT G c d) + eT (TT G c d) * bsG κ G a c := by
        refine Nat.le_trans (Nat.add_le_add_right (ends_cover hG hD hac hne fun e => hungS κ G D ((a : Nat) : Int) c e) _) ?_
        rw [← gS_add]
        refine gS_le fun d hd _ => ?_
        have hd1 := (ch_mem hG).mp hd
        obtain ⟨i1, i2⟩ := ih d hd1.1 hd1.2
        obtain ⟨R, hR⟩ : ∃ R, R = (((nb G c).filter fun o => !decide (((o : Nat) : Int) = ((a : Nat) : Int)) && !Nat.beq o d).map fun o => cT κ (TT G c o)).sum := ⟨_, rfl⟩
        have hrs := rest_sum hG hac hd fun o => cT κ (TT G c o)
        rw [← hR] at hrs
        have hrs : R + cT κ (TT G c d) = bsG κ G a c := hrs
        have each : ∀ l : List Nat, (∀ e, e ∈ l → e ∈ endsB G D c d) → (l.map fun e => hungS κ G D ((a : Nat) : Int) c e).sum = l.length * R + (l.map fun e => hungS κ G D ((c : Nat) : Int) d e).sum := by
          intro l
          induction l with
          | nil => intro _; rw [List.length_nil, Nat.zero_mul]; rfl
          | cons e r ihl =>
            intro hl
            obtain ⟨e1, e2, e3⟩ := ends_mem.mp (hl e List.mem_cons_self)
            have hin := Far.sub hG hD hac hd1.1 hd1.2 e1 e2
            have p := Far.pm hG hD hd1.1 e1
            have e2' : D d e < D c e := e2
            have st := hung_step (κ := κ) hG hD (a := a) (fr := ((a : Nat) : Int)) (Or.inl ⟨hac, hin, rfl⟩) hc e1 hd1.1 (by omega)
            rw [← hR] at st
            rw [List.map_cons, List.sum_cons, List.map_cons, List.sum_cons, ihl fun x hx => hl x (List.mem_cons_of_mem _ hx), st, List.length_cons, Nat.add_mul]
            omega
        rw [each _ fun _ h => h, ← hrs, Nat.mul_add]
        have := Nat.mul_le_mul_right R i1
        omega
      omega
end WAYS
