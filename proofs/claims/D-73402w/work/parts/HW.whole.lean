/-! THE WHOLE: what all longest ways cost together -/
section WHOLEC
variable {G : Gr} {D : Nat → Nat → Nat} {κ : Kc}
/-- from one carbon: the longest ways and what hangs along them -/
def rowS (κ : Kc) (G : Gr) (D : Nat → Nat → Nat) (w L a : Nat) : Nat := (((List.range G.1).filter fun b => decide (D a b + 1 = L)).map fun b => w + hungS κ G D (-1) a b).sum
theorem rowS_ex {w L a : Nat} (h : rowS κ G D w L a ≠ 0) : ∃ b, b < G.1 ∧ D a b + 1 = L := by
  cases e : (List.range G.1).filter fun b => decide (D a b + 1 = L) with
  | nil => unfold rowS at h; rw [e] at h; exact absurd rfl h
  | cons b r =>
    have hb : b ∈ (List.range G.1).filter fun b => decide (D a b + 1 = L) := by rw [e]; exact List.mem_cons_self
    obtain ⟨b1, b2⟩ := List.mem_filter.mp hb
    exact ⟨b, List.mem_range.mp b1, of_decide_eq_true b2⟩
/-- an end of a longest way has one neighbour -/
theorem end_nb (hG : G.wf) (hD : Far G D) {a b p : Nat} (ha : a < G.1) (hb : b < G.1) (hL : D a b + 1 = lngG G D) (hp : G.2 a p = true) : D p b + 1 = D a b ∧ ∀ q, G.2 a q = true → q = p := by
  have near : ∀ q, G.2 a q = true → D q b + 1 = D a b := fun q hq => by
    have ql := (hG.2.2 _ _ hq).2.1
    have p1 := Far.pm hG hD hq hb
    have p2 := lng_ub (D := D) hG ql hb
    omega
  exact ⟨near p hp, fun q hq => Far.uniq hG hD hb hq hp (by have := near q hq; omega) (by have := near p hp; omega)⟩
theorem rowS_le (hG : G.wf) (hD : Far G D) {a p w : Nat} (hp : G.2 a p = true) (hex : ∃ b, b < G.1 ∧ D a b + 1 = lngG G D) : rowS κ G D w (lngG G D) a ≤ eT (TT G a p) * w + xT κ (TT G a p) := by
  obtain ⟨b0, hb0, hL0⟩ := hex
  have ha := (hG.2.2 _ _ hp).1
  have hpl := (hG.2.2 _ _ hp).2.1
  obtain ⟨n0, huq⟩ := end_nb hG hD ha hb0 hL0 hp
  have hz : ∀ f : Nat → Nat, (((nb G a).filter fun o => !decide (((o : Nat) : Int) = -1) && !Nat.beq o p).map f).sum = 0 := fun f => by
    have : ((nb G a).filter fun o => !decide (((o : Nat) : Int) = -1) && !Nat.beq o p) = [] := by
      rw [List.filter_eq_nil_iff]
      intro o ho hq
      rw [Bool.and_eq_true] at hq
      have := huq o ((nb_mem hG).mp ho)
      rw [this, Nat.beq_refl] at hq
      cases hq.2
    rw [this]
    rfl
  obtain ⟨t1, v, v1, v2, v3⟩ := TT_tall hG hD a p hp
  have pv := Far.pm hG hD hp v1
  have ub := lng_ub (D := D) hG ha v1
  unfold inB at v2
  have b0in : inB D a p b0 := by show D p b0 < D a b0; omega
  have t2 := t1 b0 hb0 b0in
  have tl : tallT (TT G a p) + 1 = lngG G D := by omega
  obtain ⟨c1, c2⟩ := ends_cost (κ := κ) hG hD a p hp
  have step : ∀ b, b ∈ ((List.range G.1).filter fun b => decide (D a b + 1 = lngG G D)) → b ∈ endsB G D a p ∧ w + hungS κ G D (-1) a b = w + hungS κ G D ((a : Nat) : Int) p b := fun b hb => by
    obtain ⟨b1, b2⟩ := List.mem_filter.mp hb
    have b1 := List.mem_range.mp b1
    have b2 := of_decide_eq_true b2
    obtain ⟨m1, -⟩ := end_nb hG hD ha b1 b2 hp
    refine ⟨ends_mem.mpr ⟨b1, by show D p b < D a b; omega, by omega⟩, ?_⟩
    rw [hung_step (κ := κ) hG hD (a := 16) (fr := -1) (Or.inr ⟨rfl, rfl⟩) ha b1 hp m1, hz, Nat.zero_add]
  have e1 : rowS κ G D w (lngG G D) a = (((List.range G.1).filter fun b => decide (D a b + 1 = lngG G D)).map fun b => w + hungS κ G D ((a : Nat) : Int) p b).sum := by
    unfold rowS
    congr 1
    exact List.map_congr_left fun b hb => (step b hb).2
  rw [e1]
  refine Nat.le_trans (sub_sum _ (List.Pairwise.filter _ List.nodup_range) fun b hb => (step b hb).1) ?_
  have spl : ∀ l : List Nat, (l.map fun b => w + hungS κ G D ((a : Nat) : Int) p b).sum = l.length * w + (l.map fun b => hungS κ G D ((a : Nat) : Int) p b).sum := by
    intro l
    induction l with
    | nil => rw [List.length_nil, Nat.zero_mul]; rfl
    | cons e r ih =>
      rw [List.map_cons, List.sum_cons, List.map_cons, List.sum_cons, ih, List.length_cons, Nat.add_mul]
      omega
  rw [spl]
  have := Nat.mul_le_mul_right w c1
  omega
/-- one is taller than all else that hangs: it alone tells -/
theorem one_tall (hG : G.wf) (hD : Far G D) {z x y : Nat} (hzx : G.2 z x = true) (hy : y ∈ ch G z x) (hmax : ∀ o, o ∈ ch G z x → o ≠ y → tallT (TT G x o) < tallT (TT G x y)) :
    tallT (TT G z x) = tallT (TT G x y) + 1 ∧ eT (TT G z x) = eT (TT G x y) ∧ xT κ (TT G z x) = xT κ (TT G x y) + eT (TT G x y) * (((ch G z x).filter fun o => !Nat.beq o y).map fun o => cT κ (TT G x o)).sum := by
  have hk : kidsT (TT G z x) = srtT ((ch G z x).map (TT G x)) := TT_kids hG hD (Or.inl hzx)
  have hin : ∀ o, o ∈ ch G z x → tallT (TT G x o) < tallT (TT G z x) := fun o ho => tall_kid _ _ (by rw [hk, srt_mem]; exact List.mem_map.mpr ⟨o, ho, rfl⟩)
  have ht : tallT (TT G z x) = tallT (TT G x y) + 1 := by
    rcases tall_at (TT G z x) with ⟨q, -⟩ | ⟨k, k1, k2⟩
    · have := hin y hy
      rw [hk] at q
      have : TT G x y ∈ srtT ((ch G z x).map (TT G x)) := by rw [srt_mem]; exact List.mem_map.mpr ⟨y, hy, rfl⟩
      rw [q] at this
      cases this
    · rw [hk, srt_mem] at k1
      obtain ⟨o, o1, rfl⟩ := List.mem_map.mp k1
      have h1 := hin y hy
      by_cases e : o = y
      · rw [k2, e]
      · have := hmax o o1 e; omega
  have hne : ch G z x ≠ [] := fun q => by rw [q] at hy; cases hy
  have hnd : (ch G z x).Nodup := List.Pairwise.filter _ (nb_nodup G _)
  have one : ∀ f : Nat → Nat, gS G z x f = f y := by
    intro f
    unfold gS
    rw [map_sum_split (ch G z x) (fun o => Nat.beq o y) _, filter_single hnd hy, List.map_cons, List.sum_cons, if_pos ht.symm]
    have : (((ch G z x).filter fun o => !Nat.beq o y).map fun d => if tallT (TT G x d) + 1 = tallT (TT G z x) then f d else 0).sum = 0 := by
      have : ∀ l : List Nat, (∀ o, o ∈ l → o ∈ ch G z x ∧ o ≠ y) → (l.map fun d => if tallT (TT G x d) + 1 = tallT (TT G z x) then f d else 0).sum = 0 := by
        intro l
        induction l with
        | nil => intro _; rfl
        | cons o r ih =>
          intro hl
          obtain ⟨o1, o2⟩ := hl o List.mem_cons_self
          have := hmax o o1 o2
          rw [List.map_cons, List.sum_cons, if_neg (by omega), ih fun q hq => hl q (List.mem_cons_of_mem _ hq)]
      exact this _ fun o ho => by
        obtain ⟨o1, o2⟩ := List.mem_filter.mp ho
        exact ⟨o1, nbeq.mp o2⟩
    rw [this]
    rfl
  refine ⟨ht, ?_, ?_⟩
  · rw [eT_G hG hD hzx hne, one]
  · have hx := xT_G (κ := κ) hG hD hzx
    rw [one, one] at hx
    have hb : bsG κ G z x = cT κ (TT G x y) + (((ch G z x).filter fun o => !Nat.beq o y).map fun o => cT κ (TT G x o)).sum := by
      unfold bsG
      rw [map_sum_split (ch G z x) (fun o => Nat.beq o y) _, filter_single hnd hy, List.map_cons, List.sum_cons]
      simp only [List.map_nil, List.sum_nil]
      omega
    rw [hb, Nat.mul_add] at hx
    omega
/-- up a way from an end to the bond in the middle -/
theorem climb (hG : G.wf) (hD : Far G D) {u c a b : Nat} (hcu : G.2 c u = true) (ha : a < G.1) (hb : b < G.1) (hau : inB D c u a) (hbc : inB D u c b) (hL : tallT (TT G c u) + tallT (TT G u c) = lngG G D) (h12 : tallT (TT G c u) ≤ tallT (TT G u c)) (hdb : D c b + 1 = tallT (TT G u c)) :
    ∀ i, i < D u a → G.2 (ptN (pthL G D (D u a) u a) (i + 1)) (ptN (pthL G D (D u a) u a) i) = true ∧ tallT (TT G (ptN (pthL G D (D u a) u a) (i + 1)) (ptN (pthL G D (D u a) u a) i)) = tallT (TT G u c) + (i + 1) ∧ eT (TT G (ptN (pthL G D (D u a) u a) (i + 1)) (ptN (pthL G D (D u a) u a) i)) = eT (TT G u c) ∧ xT κ (TT G (ptN (pthL G D (D u a) u a) (i + 1)) (ptN (pthL G D (D u a) u a) i)) ≤ xT κ (TT G u c) + eT (TT G u c) * sumR (i + 1) fun j => ((hn G (pthL G D (D u a) u a) ((c : Nat) : Int) j).map fun o => cT κ (TT G (ptN (pthL G D (D u a) u a) j) o)).sum := by
  have huc := (hG.2.2 _ _ hcu).2.2.1
  have hu := (hG.2.2 _ _ hcu).2.1
  have hc := (hG.2.2 _ _ hcu).1
  obtain ⟨P, hP⟩ : ∃ P, P = pthL G D (D u a) u a := ⟨_, rfl⟩
  have hPl : P.length = D u a + 1 := by rw [hP, pth_len]
  rw [← hP]
  have hbu : ¬ inB D c u b := fun q => by unfold inB at q hbc; omega
  have way := fun i hi => pt_way hG hD (D u a) u a hu ha rfl i hi
  rw [← hP] at way
  have side : ∀ i, i ≤ D u a → inB D c u (ptN P i) := fun i hi => by
    have := pt_in hG hD hcu hau ha rfl i hi
    rw [← hP] at this
    exact this
  -- how far the places are from b
  have fb : ∀ i, i ≤ D u a → D (ptN P i) b = i + tallT (TT G u c) := fun i hi => by
    obtain ⟨w1, w2, -⟩ := way i hi
    have c1 := Far.cross hG hD hcu hb hbu _ (ptN P i) w1 (side i hi) rfl
    have c2 := Far.tri' hG hD hu ha w1
    have c3 := Far.sym hD hu w1
    have up : D (ptN P i) u ≤ i := by
      have : ∀ j, j ≤ i → D (ptN P j) u ≤ j := by
        intro j
        induction j with
        | zero =>
          intro _
          rw [show ptN P 0 = u by rw [hP]; exact pt_zero _ _ _, (hD u u hu hu).2.1.mpr rfl]
          exact Nat.le_refl 0
        | succ j ih =>
          intro hj
          have i1 := ih (by omega)
          obtain ⟨x1, -, x3⟩ := way j (by omega)
          have := Far.pm hG hD (x3 (by omega)) hu
          omega
      exact this i (Nat.le_refl i)
    omega
  -- what hangs aside is lower
  have low : ∀ i o y, i < D u a → G.2 (ptN P i) o = true → G.2 (ptN P i) y = true → D y b + 1 = D (ptN P i) b → o ≠ y → tallT (TT G (ptN P i) o) < tallT (TT G u c) + i := fun i o y hi ho hy hyb hoy => by
    obtain ⟨w1, -, -⟩ := way i (by omega)
    have ol := (hG.2.2 _ _ ho).2.1
    have p1 := Far.pm hG hD ho hb
    have hob : ¬ inB D (ptN P i) o b := fun q => by
      unfold inB at q
      exact hoy (Far.uniq hG hD hb ho hy q (by omega))
    obtain ⟨-, v, v1, v2, v3⟩ := TT_tall hG hD _ _ ho
    have cr := Far.cross hG hD ho hb hob _ v v1 v2 rfl
    have f1 := fb i (by omega)
    have ub := lng_ub (D := D) hG v1 hb
    have sy := Far.sym hD v1 ol
    omega
  -- one place
  have one : ∀ i y, i < D u a → y ∈ ch G (ptN P (i + 1)) (ptN P i) → D y b + 1 = D (ptN P i) b → tallT (TT G (ptN P i) y) = tallT (TT G u c) + i → (∀ o, o ∈ ch G (ptN P (i + 1)) (ptN P i) → o ≠ y → o ∈ hn G P ((c : Nat) : Int) i) →
      G.2 (ptN P (i + 1)) (ptN P i) = true ∧ tallT (TT G (ptN P (i + 1)) (ptN P i)) = tallT (TT G u c) + (i + 1) ∧ eT (TT G (ptN P (i + 1)) (ptN P i)) = eT (TT G (ptN P i) y) ∧ xT κ (TT G (ptN P (i + 1)) (ptN P i)) ≤ xT κ (TT G (ptN P i) y) + eT (TT G (ptN P i) y) * ((hn G P ((c : Nat) : Int) i).map fun o => cT κ (TT G (ptN P i) o)).sum := by
    intro i y hi hy hyb hty hsub
    obtain ⟨w1, w2, w3⟩ := way i (by omega)
    have hz := (hG.2.2 _ _ (w3 hi)).2.2.1
    obtain ⟨q1, q2, q3⟩ := one_tall (κ := κ) hG hD hz hy fun o ho hoy => by
      have h1 := (ch_mem hG).mp ho
      have h2 := (ch_mem hG).mp hy
      rw [hty]
      exact low i o y hi h1.1 h2.1 hyb hoy
    refine ⟨hz, by rw [q1, hty]; omega, q2, ?_⟩
    rw [q3]
    refine Nat.add_le_add_left (Nat.mul_le_mul_left _ (sub_sum _ (List.Pairwise.filter _ (List.Pairwise.filter _ (nb_nodup G _))) fun o ho => ?_)) _
    obtain ⟨o1, o2⟩ := List.mem_filter.mp ho
    exact hsub o o1 (nbeq.mp o2)
  have hp0 : ptN P 0 = u := by rw [hP]; exact pt_zero _ _ _
  intro i
  induction i with
  | zero =>
    intro hi
    have hz1 := (way 0 (by omega)).2.2 hi
    have hcz : c ≠ ptN P (0 + 1) := fun q => by
      have := side 1 (by omega)
      rw [show (0 + 1) = 1 from rfl] at q
      rw [← q] at this
      exact (hD.self hG hcu).2 this
    have := one 0 c hi ((ch_mem hG).mpr ⟨by rw [hp0]; exact huc, hcz⟩) (by have := fb 0 (by omega); omega) (by rw [hp0]; rfl) fun o ho hoc => by
      obtain ⟨o1, o2⟩ := (ch_mem hG).mp ho
      unfold hn
      refine List.mem_filter.mpr ⟨(nb_mem hG).mpr o1, ?_⟩
      rw [decide_eq_false (show ¬ ((o : Nat) : Int) = ((c : Nat) : Int) by omega), decide_eq_false (Nat.lt_irrefl 0), beq_ff o2, Bool.and_false, Bool.false_and]
      rfl
    rw [hp0] at this ⊢
    obtain ⟨t1, t2, t3, t4⟩ := this
    refine ⟨t1, t2, t3, ?_⟩
    show _ ≤ xT κ (TT G u c) + eT (TT G u c) * (0 + ((hn G P ((c : Nat) : Int) 0).map fun o => cT κ (TT G (ptN P 0) o)).sum)
    rw [hp0]
    exact Nat.le_trans t4 (Nat.le_of_eq (by rw [Nat.zero_add]))
  | succ i ih =>
    intro hi
    obtain ⟨g1, g2, g3, g4⟩ := ih (by omega)
    obtain ⟨w1, w2, w3⟩ := way (i + 1) (by omega)
    have fi := fb i (by omega)
    have fj := fb (i + 1) (by omega)
    have fk := fb (i + 1 + 1) (by omega)
    have hne : ptN P i ≠ ptN P (i + 1 + 1) := fun q => by rw [q] at fi; omega
    have := one (i + 1) (ptN P i) hi ((ch_mem hG).mpr ⟨g1, hne⟩) (by omega) (by rw [g2]) fun o ho hoy => by
      obtain ⟨o1, o2⟩ := (ch_mem hG).mp ho
      unfold hn
      refine List.mem_filter.mpr ⟨(nb_mem hG).mpr o1, ?_⟩
      have hoc : ¬ ((o : Nat) : Int) = ((c : Nat) : Int) := fun q => by
        have : o = c := by omega
        subst this
        have := Far.pm hG hD o1 hb
        omega
      rw [decide_eq_false hoc, show i + 1 - 1 = i by omega, beq_ff hoy, beq_ff o2, Bool.and_false, Bool.and_false]
      rfl
    obtain ⟨t1, t2, t3, t4⟩ := this
    rw [g3] at t3 t4
    refine ⟨t1, t2, t3, Nat.le_trans t4 ?_⟩
    show _ ≤ xT κ (TT G u c) + eT (TT G u c) * (sumR (i + 1) _ + ((hn G P ((c : Nat) : Int) (i + 1)).map fun o => cT κ (TT G (ptN P (i + 1)) o)).sum)
    rw [Nat.mul_add]
    omega
/-- the ends behind a bond in the middle, together -/
def termS (κ : Kc) (G : Gr) (w u c : Nat) : Nat := eT (TT G c u) * (eT (TT G u c) * w + xT κ (TT G u c)) + eT (TT G u c) * xT κ (TT G c u)
theorem side_sum (hG : G.wf) (hD : Far G D) {w u c : Nat} (hcu : G.2 c u = true) (hL : tallT (TT G c u) + tallT (TT G u c) = lngG G D) (h12 : tallT (TT G c u) ≤ tallT (TT G u c)) : ((endsB G D c u).map fun a => rowS κ G D w (lngG G D) a).sum ≤ termS κ G w u c := by
  have huc := (hG.2.2 _ _ hcu).2.2.1
  have hu := (hG.2.2 _ _ hcu).2.1
  obtain ⟨-, b, hb, hbc, hdb⟩ := TT_tall hG hD u c huc
  obtain ⟨c1, c2⟩ := ends_cost (κ := κ) hG hD c u hcu
  have each : ∀ a, a ∈ endsB G D c u → rowS κ G D w (lngG G D) a ≤ eT (TT G u c) * w + xT κ (TT G u c) + eT (TT G u c) * hungS κ G D ((c : Nat) : Int) u a := by
    intro a ha
    obtain ⟨a1, a2, a3⟩ := ends_mem.mp ha
    have hcl := climb (κ := κ) hG hD hcu a1 hb a2 hbc hL h12 hdb
    by_cases hz : rowS κ G D w (lngG G D) a = 0
    · rw [hz]; exact Nat.zero_le _
    · have hex := rowS_ex hz
      cases e : D u a with
      | zero =>
        have hua : u = a := (hD u a hu a1).2.1.mp e
        subst hua
        have := rowS_le (κ := κ) (w := w) hG hD huc hex
        omega
      | succ m =>
        obtain ⟨q1, q2, q3, q4⟩ := hcl m (by omega)
        have hlast : ptN (pthL G D (D u a) u a) (m + 1) = a := pt_at hG hD a1 a1 (m + 1) (D u a) u hu rfl e (by rw [(hD a a a1 a1).2.1.mpr rfl]; omega)
        rw [hlast] at q1 q2 q3 q4
        have := rowS_le (κ := κ) (w := w) hG hD q1 hex
        rw [q3] at this
        have hh : (sumR (m + 1) fun j => ((hn G (pthL G D (D u a) u a) ((c : Nat) : Int) j).map fun o => cT κ (TT G (ptN (pthL G D (D u a) u a) j) o)).sum) ≤ hungS κ G D ((c : Nat) : Int) u a := by
          unfold hungS
          rw [e]
          exact Nat.le_add_right _ _
        have := Nat.mul_le_mul_left (eT (TT G u c)) hh
        omega
  have all : ∀ l : List Nat, (∀ a, a ∈ l → a ∈ endsB G D c u) → (l.map fun a => rowS κ G D w (lngG G D) a).sum ≤ l.length * (eT (TT G u c) * w + xT κ (TT G u c)) + eT (TT G u c) * (l.map fun a => hungS κ G D ((c : Nat) : Int) u a).sum := by
    intro l
    induction l with
    | nil => intro _; exact Nat.zero_le _
    | cons a r ih =>
      intro hl
      have i1 := ih fun x hx => hl x (List.mem_cons_of_mem _ hx)
      have i2 := each a (hl a List.mem_cons_self)
      have e1 : (r.length + 1) * (eT (TT G u c) * w + xT κ (TT G u c)) = r.length * (eT (TT G u c) * w + xT κ (TT G u c)) + (eT (TT G u c) * w + xT κ (TT G u c)) := Nat.succ_mul _ _
      have e2 := Nat.mul_add (eT (TT G u c)) (hungS κ G D ((c : Nat) : Int) u a) ((r.map fun a => hungS κ G D ((c : Nat) : Int) u a).sum)
      rw [List.map_cons, List.sum_cons, List.map_cons, List.sum_cons, List.length_cons]
      omega
  refine Nat.le_trans (all _ fun _ h => h) ?_
  unfold termS
  exact Nat.add_le_add (Nat.mul_le_mul_right _ c1) (Nat.mul_le_mul_left _ c2)
/-- the bond in the middle of a longest way -/
theorem mid_at (hG : G.wf) (hD : Far G D) {a b m : Nat} (ha : a < G.1) (hb : b < G.1) (hL : D a b + 1 = lngG G D) (hm : m = lngG G D / 2) (h2 : 2 ≤ lngG G D) :
    let P := pthL G D (D a b) a b
    G.2 (ptN P m) (ptN P (m - 1)) = true ∧ a ∈ endsB G D (ptN P m) (ptN P (m - 1)) ∧ tallT (TT G (ptN P m) (ptN P (m - 1))) = m ∧ tallT (TT G (ptN P (m - 1)) (ptN P m)) = lngG G D - m := by
  intro P
  obtain ⟨u, hu⟩ : ∃ u, u = ptN P (m - 1) := ⟨_, rfl⟩
  obtain ⟨c, hc⟩ : ∃ c, c = ptN P m := ⟨_, rfl⟩
  rw [← hu, ← hc]
  obtain ⟨u1, u2, u3⟩ := pt_way hG hD (D a b) a b ha hb rfl (m - 1) (by omega)
  obtain ⟨c1, c2, -⟩ := pt_way hG hD (D a b) a b ha hb rfl m (by omega)
  have u3 := u3 (by omega)
  rw [show m - 1 + 1 = m by omega] at u3
  rw [← hu] at u1 u2 u3
  rw [← hc] at c1 c2 u3
  have hcu := (hG.2.2 _ _ u3).2.2.1
  have ta := Far.tri' hG hD ha hb u1
  have tc := Far.tri' hG hD ha hb c1
  have up : ∀ j, j ≤ D a b → D a (ptN P j) ≤ j := by
    intro j
    induction j with
    | zero =>
      intro _
      rw [show ptN P 0 = a from pt_zero _ _ _, (hD a a ha ha).2.1.mpr rfl]
      exact Nat.le_refl 0
    | succ j ih =>
      intro hj
      have i1 := ih (by omega)
      obtain ⟨x1, -, x3⟩ := pt_way hG hD (D a b) a b ha hb rfl j (by omega)
      have x3 := x3 (by omega)
      have x4 := (hG.2.2 _ _ x3).2.1
      have p := Far.pm hG hD x3 ha
      have s1 := Far.sym hD ha x1
      have s2 := Far.sym hD ha x4
      have q1 : D (ptN P j) a = D (ptN (pthL G D (D a b) a b) j) a := rfl
      have q2 : D a (ptN P (j + 1)) = D a (ptN (pthL G D (D a b) a b) (j + 1)) := rfl
      have q3 : D a (ptN P j) = D a (ptN (pthL G D (D a b) a b) j) := rfl
      omega
  have hau := up (m - 1) (by omega)
  have hac := up m (by omega)
  rw [← hu] at hau
  rw [← hc] at hac
  have su := Far.sym hD ha u1
  have sc := Far.sym hD ha c1
  have ina : inB D c u a := by show D u a < D c a; omega
  have inb : inB D u c b := by show D c b < D u b; omega
  have nb1 : ¬ inB D c u b := fun q => by unfold inB at q inb; omega
  have na1 : ¬ inB D u c a := fun q => by unfold inB at q ina; omega
  obtain ⟨t1, v, v1, v2, v3⟩ := TT_tall hG hD c u hcu
  obtain ⟨s1, x, x1, x2, x3⟩ := TT_tall hG hD u c u3
  have hta := t1 a ha ina
  have hsb := s1 b hb inb
  have cv := Far.cross hG hD hcu hb nb1 _ v v1 v2 rfl
  have cx := Far.cross hG hD u3 ha na1 _ x x1 x2 rfl
  have lv := lng_ub (D := D) hG v1 hb
  have lx := lng_ub (D := D) hG x1 ha
  have sv := Far.sym hD v1 u1
  have sx := Far.sym hD x1 c1
  have e1 : tallT (TT G c u) = m := by omega
  exact ⟨hcu, ends_mem.mpr ⟨ha, ina, by omega⟩, e1, by omega⟩
/-- all bonds in the middle of longest ways lie together -/
theorem mid_few (hG : G.wf) (hD : Far G D) (hd4 : ∀ a, deg G a ≤ 4) (h2 : 2 ≤ lngG G D) : ∃ K : List (Nat × Nat), K.length ≤ 4 ∧ ∀ u c, G.2 c u = true → tallT (TT G c u) = lngG G D / 2 → tallT (TT G u c) = lngG G D - lngG G D / 2 → (u, c) ∈ K := by
  obtain ⟨a, b, ha, hb, hL⟩ := lng_ex (D := D) hG
  obtain ⟨m, hm⟩ : ∃ m, m = lngG G D / 2 := ⟨_, rfl⟩
  obtain ⟨P, hP⟩ : ∃ P, P = pthL G D (D a b) a b := ⟨_, rfl⟩
  have at_ : ∀ i x, x < G.1 → D a x = i → D x b + i = D a b → ptN P i = x := fun i x hx h1 h3 => by rw [hP]; exact pt_at hG hD hb hx i (D a b) a ha rfl h1 h3
  -- where the ends of the way lie
  have key : ∀ u c, G.2 c u = true → tallT (TT G c u) = m → tallT (TT G u c) = lngG G D - m → (c = ptN P m ∧ u = ptN P (m - 1)) ∨ (2 * m = lngG G D ∧ c = ptN P (m - 1) ∧ u = ptN P m) ∨ (2 * m + 1 = lngG G D ∧ c = ptN P m) := by
    intro u c hcu ht hs
    have huc := (hG.2.2 _ _ hcu).2.2.1
    have hu := (hG.2.2 _ _ hcu).2.1
    have hc := (hG.2.2 _ _ hcu).1
    have t1 := (TT_tall hG hD c u hcu).1
    have s1 := (TT_tall hG hD u c huc).1
    rw [ht] at t1
    rw [hs] at s1
    have pa := Far.pm hG hD hcu ha
    have pb := Far.pm hG hD hcu hb
    have sau := Far.sym hD ha hu
    have sac := Far.sym hD ha hc
    have tu := Far.tri' hG hD ha hb hu
    have tc := Far.tri' hG hD ha hb hc
    by_cases qa : inB D c u a
    · have ta := t1 a ha qa
      by_cases qb : inB D c u b
      · have tb := t1 b hb qb
        omega
      · have qb' : inB D u c b := by unfold inB at qb ⊢; omega
        have tb := s1 b hb qb'
        have cr := Far.cross hG hD hcu hb qb _ a ha qa rfl
        unfold inB at qa qb'
        left
        exact ⟨(at_ m c hc (by omega) (by omega)).symm, (at_ (m - 1) u hu (by omega) (by omega)).symm⟩
    · have qa' : inB D u c a := by unfold inB at qa ⊢; omega
      have ta := s1 a ha qa'
      by_cases qb : inB D c u b
      · have tb := t1 b hb qb
        have nb1 : ¬ inB D u c b := fun q => by unfold inB at q qb; omega
        have cr := Far.cross hG hD huc hb nb1 _ a ha qa' rfl
        unfold inB at qa' qb
        by_cases ev : 2 * m = lngG G D
        · right; left
          exact ⟨ev, (at_ (m - 1) c hc (by omega) (by omega)).symm, (at_ m u hu (by omega) (by omega)).symm⟩
        · right; right
          exact ⟨by omega, (at_ m c hc (by omega) (by omega)).symm⟩
      · have qb' : inB D u c b := by unfold inB at qb ⊢; omega
        have tb := s1 b hb qb'
        unfold inB at qa' qb'
        right; right
        exact ⟨by omega, (at_ m c hc (by omega) (by omega)).symm⟩
  by_cases ev : 2 * m = lngG G D
  · refine ⟨[(ptN P (m - 1), ptN P m), (ptN P m, ptN P (m - 1))], (by show 2 ≤ 4; decide), fun u c h1 h3 h4 => ?_⟩
    rw [← hm] at h3 h4
    rcases key u c h1 h3 h4 with ⟨q1, q2⟩ | ⟨-, q1, q2⟩ | ⟨q, -⟩
    · rw [q1, q2]; exact List.mem_cons_self
    · rw [q1, q2]; exact List.mem_cons_of_mem _ List.mem_cons_self
    · omega
  · refine ⟨(nb G (ptN P m)).map fun u => (u, ptN P m), by rw [List.length_map]; exact hd4 _, fun u c h1 h3 h4 => ?_⟩
    rw [← hm] at h3 h4
    have hcm : c = ptN P m := by
      rcases key u c h1 h3 h4 with ⟨q1, -⟩ | ⟨q, -⟩ | ⟨-, q⟩
      · exact q1
      · exact absurd q ev
      · exact q
    subst hcm
    exact List.mem_map.mpr ⟨u, (nb_mem hG).mpr h1, rfl⟩
/-- all longest ways -/
theorem whole_le (hG : G.wf) (hD : Far G D) (hd4 : ∀ a, deg G a ≤ 4) (h2 : 2 ≤ lngG G D) {w B : Nat} (hB : ∀ u c, G.2 c u = true → tallT (TT G c u) = lngG G D / 2 → tallT (TT G u c) = lngG G D - lngG G D / 2 → termS κ G w u c ≤ B) : ((List.range G.1).map fun a => rowS κ G D w (lngG G D) a).sum ≤ 4 * B := by
  obtain ⟨K, hK4, hK⟩ := mid_few hG hD hd4 h2
  rw [map_sum_split (List.range G.1) (fun a => !Nat.beq (rowS κ G D w (lngG G D) a) 0) _]
  have hz : (((List.range G.1).filter fun a => !(!Nat.beq (rowS κ G D w (lngG G D) a) 0)).map fun a => rowS κ G D w (lngG G D) a).sum = 0 := by
    have : ∀ l : List Nat, (∀ a, a ∈ l → rowS κ G D w (lngG G D) a = 0) → (l.map fun a => rowS κ G D w (lngG G D) a).sum = 0 := by
      intro l
      induction l with
      | nil => intro _; rfl
      | cons a r ih =>
        intro hl
        rw [List.map_cons, List.sum_cons, hl a List.mem_cons_self, ih fun x hx => hl x (List.mem_cons_of_mem _ hx)]
    refine this _ fun a ha => ?_
    have := (List.mem_filter.mp ha).2
    rw [Bool.not_not] at this
    exact beqN.mp this
  rw [hz, Nat.add_zero]
  refine Nat.le_trans (cover_sum (fun a => rowS κ G D w (lngG G D) a) (fun p : Nat × Nat => if G.2 p.2 p.1 = true ∧ tallT (TT G p.2 p.1) = lngG G D / 2 ∧ tallT (TT G p.1 p.2) = lngG G D - lngG G D / 2 then endsB G D p.2 p.1 else []) (K := K) (List.Pairwise.filter _ List.nodup_range) fun a ha => ?_) ?_
  · obtain ⟨a1, a2⟩ := List.mem_filter.mp ha
    have a1 := List.mem_range.mp a1
    obtain ⟨b, b1, b2⟩ := rowS_ex (nbeq.mp a2)
    obtain ⟨q1, q2, q3, q4⟩ := mid_at hG hD a1 b1 b2 rfl h2
    refine ⟨_, hK _ _ q1 q3 q4, ?_⟩
    rw [if_pos ⟨q1, q3, q4⟩]
    exact q2
  · have : ∀ l : List (Nat × Nat), (l.map fun p => ((if G.2 p.2 p.1 = true ∧ tallT (TT G p.2 p.1) = lngG G D / 2 ∧ tallT (TT G p.1 p.2) = lngG G D - lngG G D / 2 then endsB G D p.2 p.1 else []).map fun a => rowS κ G D w (lngG G D) a).sum).sum ≤ l.length * B := by
      intro l
      induction l with
      | nil => exact Nat.zero_le _
      | cons p r ih =>
        rw [List.map_cons, List.sum_cons, List.length_cons, Nat.add_mul, Nat.one_mul, Nat.add_comm]
        refine Nat.add_le_add ih ?_
        by_cases q : G.2 p.2 p.1 = true ∧ tallT (TT G p.2 p.1) = lngG G D / 2 ∧ tallT (TT G p.1 p.2) = lngG G D - lngG G D / 2
        · rw [if_pos q]
          exact Nat.le_trans (side_sum hG hD q.1 (by omega) (by omega)) (hB p.1 p.2 q.1 q.2.1 q.2.2)
        · rw [if_neg q]; exact Nat.zero_le _
    exact Nat.le_trans (this K) (Nat.mul_le_mul_right B hK4)
end WHOLEC
