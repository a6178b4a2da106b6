/-! SOME OF A SKELETON: their numbers close up -/
def gSub (G : Gr) (l : List Nat) : Gr := (l.length, fun a b => match l[a]?, l[b]? with
  | some x, some y => G.2 x y
  | _, _ => false)
section SUB
variable {G : Gr} {D : Nat → Nat → Nat}
theorem sub_at {l : List Nat} {a b x y : Nat} (ha : l[a]? = some x) (hb : l[b]? = some y) : (gSub G l).2 a b = G.2 x y := by
  show (match l[a]?, l[b]? with | some x, some y => G.2 x y | _, _ => false) = _
  rw [ha, hb]
theorem sub_tt {l : List Nat} {a b : Nat} (h : (gSub G l).2 a b = true) : ∃ x y, l[a]? = some x ∧ l[b]? = some y ∧ G.2 x y = true := by
  have h : (match l[a]?, l[b]? with | some x, some y => G.2 x y | _, _ => false) = true := h
  cases e1 : l[a]? with
  | none => rw [e1] at h; cases h
  | some x =>
    cases e2 : l[b]? with
    | none => rw [e1, e2] at h; cases h
    | some y => rw [e1, e2] at h; exact ⟨x, y, rfl, rfl, h⟩
theorem sub_range (hG : G.wf) : gSub G (List.range G.1) = G := by
  refine Prod.ext List.length_range ?_
  funext a b
  by_cases h : a < G.1 ∧ b < G.1
  · exact sub_at (List.getElem?_range h.1) (List.getElem?_range h.2)
  · rw [wf_ff hG h]
    cases e : (gSub G (List.range G.1)).2 a b with
    | false => rfl
    | true =>
      obtain ⟨x, y, h1, h2, -⟩ := sub_tt e
      have h1 := (List.getElem?_eq_some_iff.mp h1).1
      have h2 := (List.getElem?_eq_some_iff.mp h2).1
      rw [List.length_range] at h1 h2
      exact absurd ⟨h1, h2⟩ h
theorem sk_at {α : Type} {l1 l2 : List α} {x : α} {a : Nat} : (l1 ++ x :: l2)[sk l1.length a]? = (l1 ++ l2)[a]? := by
  unfold sk
  by_cases h : a < l1.length
  · rw [if_pos h, List.getElem?_append_left h, List.getElem?_append_left h]
  · rw [if_neg h, List.getElem?_append_right (by omega), List.getElem?_append_right (by omega), show a + 1 - l1.length = (a - l1.length) + 1 by omega, List.getElem?_cons_succ]
theorem sub_rem {l1 l2 : List Nat} {x : Nat} : gRem (gSub G (l1 ++ x :: l2)) l1.length = gSub G (l1 ++ l2) := by
  have hl : (l1 ++ x :: l2).length - 1 = (l1 ++ l2).length := by simp only [List.length_append, List.length_cons]; omega
  refine Prod.ext hl ?_
  funext a b
  show (decide (a < (l1 ++ x :: l2).length - 1) && (decide (b < (l1 ++ x :: l2).length - 1) && (match (l1 ++ x :: l2)[sk l1.length a]?, (l1 ++ x :: l2)[sk l1.length b]? with | some x, some y => G.2 x y | _, _ => false))) = (match (l1 ++ l2)[a]?, (l1 ++ l2)[b]? with | some x, some y => G.2 x y | _, _ => false)
  rw [sk_at, sk_at, hl]
  by_cases h1 : a < (l1 ++ l2).length
  · by_cases h2 : b < (l1 ++ l2).length
    · rw [decide_eq_true h1, decide_eq_true h2]; rfl
    · rw [decide_eq_false h2, List.getElem?_eq_none (show (l1 ++ l2).length ≤ b by omega)]
      cases (l1 ++ l2)[a]? <;> simp
  · rw [decide_eq_false h1, List.getElem?_eq_none (show (l1 ++ l2).length ≤ a by omega)]
    simp
theorem sub_wf (hG : G.wf) {l : List Nat} (hl : l.Nodup) (h1 : 1 ≤ l.length) (h2 : l.length ≤ 16) : (gSub G l).wf := by
  refine ⟨h1, h2, fun a b h => ?_⟩
  obtain ⟨x, y, e1, e2, e3⟩ := sub_tt h
  have := hG.2.2 _ _ e3
  refine ⟨(List.getElem?_eq_some_iff.mp e1).1, (List.getElem?_eq_some_iff.mp e2).1, by rw [sub_at e2 e1]; exact this.2.2.1, ?_⟩
  rintro rfl
  rw [e1] at e2
  cases e2
  exact this.2.2.2 rfl
theorem nodup_at {l : List Nat} (hl : l.Nodup) {a b x : Nat} (ha : l[a]? = some x) (hb : l[b]? = some x) : a = b := by
  obtain ⟨h1, e1⟩ := List.getElem?_eq_some_iff.mp ha
  obtain ⟨h2, e2⟩ := List.getElem?_eq_some_iff.mp hb
  rcases Nat.lt_trichotomy a b with c | c | c
  · exact absurd (e1.trans e2.symm) (List.pairwise_iff_getElem.mp hl a b h1 h2 c)
  · exact c
  · exact absurd (e2.trans e1.symm) (List.pairwise_iff_getElem.mp hl b a h2 h1 c)
theorem sub_far (hG : G.wf) (hD : Far G D) {l : List Nat} (hl : l.Nodup) (hlt : ∀ x, x ∈ l → x < G.1) (hc : ∀ x y c, x ∈ l → y ∈ l → G.2 x c = true → D c y + 1 = D x y → c ∈ l) : Far (gSub G l) (fun a b => D (l[a]?.getD 0) (l[b]?.getD 0)) := by
  intro a b ha hb
  have ha : a < l.length := ha
  have hb : b < l.length := hb
  have ea := List.getElem?_eq_getElem ha
  have eb := List.getElem?_eq_getElem hb
  have ma := List.getElem_mem ha
  have mb := List.getElem_mem hb
  dsimp only
  rw [ea, eb]
  show D l[a] l[b] = D l[b] l[a] ∧ (D l[a] l[b] = 0 ↔ a = b) ∧ (a ≠ b → ∃ c, (gSub G l).2 a c = true ∧ D (l[c]?.getD 0) l[b] + 1 = D l[a] l[b] ∧ ∀ e, (gSub G l).2 a e = true → e ≠ c → D (l[e]?.getD 0) l[b] = D l[a] l[b] + 1)
  obtain ⟨h1, h2, h3⟩ := hD l[a] l[b] (hlt _ ma) (hlt _ mb)
  refine ⟨h1, ⟨fun h => ?_, fun h => ?_⟩, fun hne => ?_⟩
  · have := h2.mp h
    exact nodup_at hl (ea.trans (congrArg some this)) eb
  · subst h; exact h2.mpr rfl
  · obtain ⟨c, c1, c2, c3⟩ := h3 (fun h => hne (nodup_at hl (ea.trans (congrArg some h)) eb))
    have mc := hc _ _ c ma mb c1 c2
    obtain ⟨k, hk, rfl⟩ := List.getElem_of_mem mc
    have ek := List.getElem?_eq_getElem hk
    refine ⟨k, by rw [sub_at ea ek]; exact c1, by rw [ek]; exact c2, fun e he hne2 => ?_⟩
    obtain ⟨x, y, e1, e2, e3⟩ := sub_tt he
    rw [ea] at e1
    cases e1
    rw [e2]
    refine c3 y e3 ?_
    rintro rfl
    exact hne2 (nodup_at hl e2 ek)
theorem filter_idx (p : Nat → Bool) : ∀ l : List Nat, ((List.range l.length).filter fun b => match l[b]? with | some y => p y | none => false).length = (l.filter p).length := by
  intro l
  rw [cnt_filter]
  induction l with
  | nil => rfl
  | cons x r ih =>
    rw [List.length_cons, Nat.add_comm, cnt_split, List.filter_cons]
    have e1 : cnt 1 (fun b => match (x :: r)[b]? with | some y => p y | none => false) = b01 (p x) := by
      show 0 + b01 (p x) = _
      omega
    have e2 : cnt r.length (fun i => match (x :: r)[1 + i]? with | some y => p y | none => false) = (r.filter p).length := by
      rw [← ih]
      refine cnt_congr fun i hi => ?_
      rw [Nat.add_comm 1 i, List.getElem?_cons_succ]
    rw [e1, e2]
    cases p x <;> simp [b01]; omega
theorem sub_deg {l : List Nat} {a x : Nat} (ha : l[a]? = some x) : deg (gSub G l) a = (l.filter (G.2 x)).length := by
  rw [← filter_idx]
  show ((List.range l.length).filter ((gSub G l).2 a)).length = _
  congr 1
  refine List.filter_congr fun b hb => ?_
  show (match l[a]?, l[b]? with | some x, some y => G.2 x y | _, _ => false) = _
  rw [ha]
  cases l[b]? <;> rfl
theorem sub_ok (hG : G.ok) (hD : Far G D) {l : List Nat} (hs : l.Sublist (List.range G.1)) (h1 : 1 ≤ l.length) (hc : ∀ x y c, x ∈ l → y ∈ l → G.2 x c = true → D c y + 1 = D x y → c ∈ l) : (gSub G l).ok := by
  have hnd : l.Nodup := hs.nodup List.nodup_range
  have hlen : l.length ≤ G.1 := by have := hs.length_le; rw [List.length_range] at this; exact this
  have hn := hG.1.2.1
  have hlt : ∀ x, x ∈ l → x < G.1 := fun x hx => List.mem_range.mp (hs.subset hx)
  have hw := sub_wf hG.1 hnd h1 (by omega)
  refine ⟨hw, fun a => ?_, _, sub_far hG.1 hD hnd hlt hc⟩
  by_cases ha : a < l.length
  · rw [sub_deg (List.getElem?_eq_getElem ha)]
    have h2 := (hs.filter (G.2 l[a])).length_le
    have h3 := hG.2.1 l[a]
    exact Nat.le_trans h2 h3
  · rw [deg_big hw ha]; omega
theorem rem_sub (hG : G.wf) {k : Nat} (hk : k < G.1) : gRem G k = gSub G ((List.range G.1).filter fun v => !(Nat.beq v k)) := by
  have e : List.range G.1 = List.range k ++ k :: (List.range (G.1 - k - 1)).map (fun i => k + 1 + i) := by
    have h1 := List.range_add (n := k) (m := G.1 - k - 1 + 1)
    rw [show k + (G.1 - k - 1 + 1) = G.1 by omega] at h1
    rw [h1, List.range_succ_eq_map, List.map_cons, List.map_map]
    congr 2
    refine List.map_congr_left fun i _ => ?_
    show k + (i + 1) = k + 1 + i
    omega
  have h2 := sub_rem (G := G) (l1 := List.range k) (x := k) (l2 := (List.range (G.1 - k - 1)).map (fun i => k + 1 + i))
  rw [List.length_range, ← e, sub_range hG] at h2
  rw [h2, e, List.filter_append, List.filter_cons, if_neg (by rw [Nat.beq_refl]; decide)]
  congr 2
  · refine (List.filter_eq_self.mpr fun v hv => ?_).symm
    have := List.mem_range.mp hv
    exact nbeq.mpr (by omega)
  · refine (List.filter_eq_self.mpr fun v hv => ?_).symm
    obtain ⟨i, -, rfl⟩ := List.mem_map.mp hv
    exact nbeq.mpr (by omega)
theorem deg_one (hG : G.wf) {k x y : Nat} (h : deg G k = 1) (hx : G.2 k x = true) (hy : G.2 k y = true) : x = y := by
  have h1 := (nb_mem hG).mpr hx
  have h2 := (nb_mem hG).mpr hy
  have h : (nb G k).length = 1 := h
  obtain ⟨z, hz⟩ := List.length_eq_one_iff.mp h
  rw [hz] at h1 h2
  rw [List.mem_singleton.mp h1, List.mem_singleton.mp h2]
theorem prune_ok (hG : G.ok) {k : Nat} (hk : k < G.1) (hd : deg G k = 1) : (gRem G k).ok := by
  obtain ⟨D, hD⟩ := hG.2.2
  have hw := hG.1
  rw [rem_sub hw hk]
  have hnb : ∃ x, G.2 k x = true := by
    have h : (nb G k).length = 1 := hd
    obtain ⟨z, hz⟩ := List.length_eq_one_iff.mp h
    exact ⟨z, (nb_mem hw).mp (by rw [hz]; exact List.mem_singleton.mpr rfl)⟩
  obtain ⟨x0, hx0⟩ := hnb
  have q0 := hw.2.2 _ _ hx0
  refine sub_ok hG hD List.filter_sublist ?_ ?_
  · exact List.length_pos_of_mem (a := x0) (List.mem_filter.mpr ⟨List.mem_range.mpr q0.2.1, nbeq.mpr (Ne.symm q0.2.2.2)⟩)
  · intro x y c hx hy h1 h2
    obtain ⟨hx1, hx2⟩ := List.mem_filter.mp hx
    obtain ⟨hy1, hy2⟩ := List.mem_filter.mp hy
    have hx1 := List.mem_range.mp hx1
    have hy1 := List.mem_range.mp hy1
    have hy2 := nbeq.mp hy2
    have qc := hw.2.2 _ _ h1
    refine List.mem_filter.mpr ⟨List.mem_range.mpr qc.2.1, nbeq.mpr ?_⟩
    rintro rfl
    obtain ⟨e, e1, e2⟩ := hD.near qc.2.1 hy1 (Ne.symm hy2)
    have := deg_one hw hd e1 qc.2.2.1
    subst this
    omega
/-- what stays if all behind a bond goes -/
def stayL (G : Gr) (D : Nat → Nat → Nat) (a c : Nat) : List Nat := (List.range G.1).filter fun v => !decide (inB D a c v)
theorem stay_ok (hG : G.ok) (hD : Far G D) {a c : Nat} (hac : G.2 a c = true) : (gSub G (stayL G D a c)).ok := by
  have hw := hG.1
  have q := hw.2.2 _ _ hac
  have mem : ∀ v, v ∈ stayL G D a c ↔ v < G.1 ∧ ¬ inB D a c v := by
    intro v
    unfold stayL
    rw [List.mem_filter, List.mem_range, Bool.not_eq_true', decide_eq_false_iff_not]
  refine sub_ok hG hD List.filter_sublist ?_ ?_
  · exact List.length_pos_of_mem (a := a) ((mem a).mpr ⟨q.1, (hD.self hw hac).2⟩)
  · intro x y e hx hy h1 h2
    obtain ⟨hx1, hx2⟩ := (mem x).mp hx
    obtain ⟨hy1, hy2⟩ := (mem y).mp hy
    have qe := hw.2.2 _ _ h1
    refine (mem e).mpr ⟨qe.2.1, fun hin => ?_⟩
    obtain ⟨rfl, rfl⟩ := Far.edge hw hD hac qe.2.2.1 hin hx2
    unfold inB at hy2
    omega
end SUB
/-- while those behind go, the greatest first: what is still there -/
def stillL (G : Gr) (D : Nat → Nat → Nat) (a c t : Nat) : List Nat := (List.range G.1).filter fun v => decide (v < t) || !decide (inB D a c v)
section SPLIT
variable {d : Nat} {h0 : AH} {M : Nat} {A : Nat → List Int} {sc : Nat → Int} {S : AS} {G : Gr} {D : Nat → Nat → Nat}
theorem still_in {a c t : Nat} (ht : t < G.1) (hin : inB D a c t) : ∃ l2, stillL G D a c (t + 1) = List.range t ++ t :: l2 ∧ stillL G D a c t = List.range t ++ l2 := by
  have e : List.range G.1 = List.range t ++ t :: (List.range (G.1 - t - 1)).map (fun i => t + 1 + i) := by
    have h1 := List.range_add (n := t) (m := G.1 - t - 1 + 1)
    rw [show t + (G.1 - t - 1 + 1) = G.1 by omega] at h1
    rw [h1, List.range_succ_eq_map, List.map_cons, List.map_map]
    congr 2
    refine List.map_congr_left fun i _ => ?_
    show t + (i + 1) = t + 1 + i
    omega
  refine ⟨((List.range (G.1 - t - 1)).map (fun i => t + 1 + i)).filter fun v => decide (v < t) || !decide (inB D a c v), ?_, ?_⟩
  · unfold stillL
    rw [e, List.filter_append, List.filter_cons, if_pos (by rw [decide_eq_true (Nat.lt_succ_self t)]; rfl)]
    congr 1
    · refine List.filter_eq_self.mpr fun v hv => ?_
      have := List.mem_range.mp hv
      rw [decide_eq_true (show v < t + 1 by omega)]; rfl
    · congr 1
      refine List.filter_congr fun v hv => ?_
      obtain ⟨i, -, rfl⟩ := List.mem_map.mp hv
      rw [decide_eq_false (show ¬ t + 1 + i < t + 1 by omega), decide_eq_false (show ¬ t + 1 + i < t by omega)]
  · unfold stillL
    rw [e, List.filter_append, List.filter_cons, if_neg (by rw [decide_eq_false (Nat.lt_irrefl t), decide_eq_true hin]; decide)]
    congr 1
    refine List.filter_eq_self.mpr fun v hv => ?_
    have := List.mem_range.mp hv
    rw [decide_eq_true this]; rfl
theorem still_out {a c t : Nat} (h : ¬ (t < G.1 ∧ inB D a c t)) : stillL G D a c (t + 1) = stillL G D a c t := by
  unfold stillL
  refine List.filter_congr fun v hv => ?_
  have hv := List.mem_range.mp hv
  by_cases e : v = t
  · subst e
    have : ¬ inB D a c v := fun q => h ⟨hv, q⟩
    rw [decide_eq_false this]; simp
  · by_cases e2 : v < t
    · rw [decide_eq_true e2, decide_eq_true (show v < t + 1 by omega)]
    · rw [decide_eq_false e2, decide_eq_false (show ¬ v < t + 1 by omega)]
def aSplit (S : AS) (D : Nat → Nat → Nat) (c o : Int) : Int × AS := if ¬ isB S c o then (-1, S) else ((((stayL S.1 D c.toNat o.toNat).length : Nat) : Int), actS S (gSub S.1 (stayL S.1 D c.toNat o.toNat)))
theorem split_loop (hG : G.wf) (hD : Far G D) {a c : Nat} (hac : G.2 a c = true) {Q : Rs → AH → Prop} (hQ : ∀ N, N.length = 17 → isRow N 0 (gSub G (stayL G D a c)) → Q (.inl (some (vI (((stayL G D a c).length : Nat) : Int)))) (tw h0 M (up A 1 N) sc)) (hA : lens A) :
    ∀ (t : Nat) (N : List Int), t ≤ 16 → N.length = 17 → isRow N 0 (gSub G (stillL G D a c t)) → wp (d + 3) 282 (48, [some (vR (some M)), some (vI ((a : Nat) : Int)), some (vI ((c : Nat) : Int)), some (vI ((bB G D a c : Nat) : Int)), some (vI ((t : Int) - 1))], [], tw h0 M (up A 1 N) sc) Q := by
  have hn := hG.2.1
  have q := hG.2.2 _ _ hac
  have hbb : bB G D a c < 65536 := Nat.lt_of_lt_of_le (bits_lt _ _) (Nat.pow_le_pow_right (n := 2) (by decide) hn)
  have nd : ∀ t, (stillL G D a c t).Nodup := fun t => List.Pairwise.filter _ List.nodup_range
  have ll : ∀ t, (stillL G D a c t).length ≤ G.1 := fun t => by have := List.length_filter_le (fun v => decide (v < t) || !decide (inB D a c v)) (List.range G.1); rw [List.length_range] at this; exact this
  have lp : ∀ t, 1 ≤ (stillL G D a c t).length := fun t => List.length_pos_of_mem (a := a) (by
    unfold stillL
    rw [List.mem_filter, List.mem_range]
    exact ⟨q.1, by rw [decide_eq_false (hD.self hG hac).2]; simp⟩)
  intro t
  induction t with
  | zero =>
    intro N _ hN hr
    have e : stillL G D a c 0 = stayL G D a c := by
      unfold stillL stayL
      refine List.filter_congr fun v _ => ?_
      rw [decide_eq_false (Nat.not_lt_zero v), Bool.false_or]
    rw [e] at hr
    have hA2 : lens (up A 1 N) := hA.up (by rw [hN]; rfl)
    refine wp.go [48] 30 fun W C hW hC => ?_
    refine ⟨fun _ => ?_, fun c => absurd c (by omega)⟩
    refine ⟨_, _, _, _, twF, rfl, rfl, ?_⟩
    refine ⟨_, _, _, twI rfl rfl, rfl, (by omega), gt_at (0) (by omega) (lenlt (j := 1) (hA2) (show (0) < 17 by omega)), ?_⟩
    rw [up_eq, hr.1]
    exact hQ N hN hr
  | succ t ih =>
    intro N ht hN hr
    have hA2 : lens (up A 1 N) := hA.up (by rw [hN]; rfl)
    have step : ∀ N', N'.length = 17 → isRow N' 0 (gSub G (stillL G D a c t)) → wp (d + 3) 282 (68, [some (vR (some M)), some (vI ((a : Nat) : Int)), some (vI ((c : Nat) : Int)), some (vI ((bB G D a c : Nat) : Int)), some (vI ((t : Nat) : Int))], [], tw h0 M (up A 1 N') sc) Q := by
      intro N' hN' hr'
      refine wp.go [48] 10 fun W C hW hC => ?_
      conv => whnf
      rw [iadd_eq (by omega)]
      exact hW _ (ih N' (by omega) hN' hr')
    rw [show ((t + 1 : Nat) : Int) - 1 = ((t : Nat) : Int) by omega]
    refine wp.go [48, 68] 30 fun W C hW hC => ?_
    refine ⟨fun c => absurd c (by omega), fun _ => ?_⟩
    refine hC _ _ _ (use (wpd.up (show d + 1 ≤ d + 2 by omega) (has_spec (d := d) (by omega) (by omega))) ?_); rintro _ _ ⟨rfl, rfl⟩
    have hbit : (bB G D a c).testBit t = (decide (t < G.1) && decide (inB D a c t)) := bits_bit _ _ _
    refine ⟨fun c1 => ?_, fun c1 => ?_⟩
    · have c2 := b0.mp c1
      rw [hbit, Bool.and_eq_true, decide_eq_true_eq, decide_eq_true_eq] at c2
      rw [still_out c2] at hr
      exact hW _ (step N hN hr)
    · have c2 := b1.mp c1
      rw [hbit, Bool.and_eq_true, decide_eq_true_eq, decide_eq_true_eq] at c2
      obtain ⟨l2, e1, e2⟩ := still_in c2.1 c2.2
      refine ⟨_, _, _, twF, rfl, ?_⟩
      refine hC _ _ _ (use (removes_spec hA2 (sub_wf hG (nd (t + 1)) (lp _) (by have := ll (t + 1); omega)) (by rw [up_eq]; exact hr) (o := t) (show t < (stillL G D a c (t + 1)).length by rw [e1, List.length_append, List.length_range, List.length_cons]; omega)) ?_)
      rintro _ _ ⟨rfl, N', rfl, hN', hr'⟩
      rw [up_up]
      have e3 := sub_rem (G := G) (l1 := List.range t) (x := t) (l2 := l2)
      rw [List.length_range, ← e1, ← e2] at e3
      rw [e3] at hr'
      exact hW _ (step N' hN' hr')
theorem split_tw (h : TW A sc S) (ho : S.ok) (hD : Far S.1 D) {c o : Int} : wp (d + 3) 282 (0, ent 5 [vR (some M), vI c, vI o], [], tw h0 M A sc) (twEnd h0 M (vI (aSplit S D c o).1) (aSplit S D c o).2) := by
  obtain ⟨h1, h2, h3, h4, h5, h6, h7⟩ := id h
  have hG := ho.1.1
  have hn := hG.2.1
  have hl := h1.eq 1
  rw [ln1] at hl
  have no : ¬ isB S c o → twEnd h0 M (vI (aSplit S D c o).1) (aSplit S D c o).2 (.inl (some (vI (-1)))) (tw h0 M A sc) := by
    intro hb
    unfold aSplit
    rw [if_pos hb]
    exact ⟨rfl, _, _, rfl, h⟩
  refine wp.go [48] 90 fun W C hW hC => ?_
  refine ⟨_, _, _, twF, rfl, hC _ _ _ (use (wpd.up (show d + 1 ≤ d + 2 by omega) (isCarbon_spec (d := d) hl)) ?_)⟩
  rintro r h' ⟨rfl, rfl⟩
  rw [h2.1]
  refine ⟨fun c1 => no fun q => b0.mp c1 q.1, fun c1 => ?_⟩
  have c1 : isC S c := b1.mp c1
  refine ⟨_, _, _, twF, rfl, hC _ _ _ (use (wpd.up (show d + 1 ≤ d + 2 by omega) (isCarbon_spec (d := d) hl)) ?_)⟩
  rintro r h' ⟨rfl, rfl⟩
  rw [h2.1]
  refine ⟨fun c2 => no fun q => b0.mp c2 q.2.1, fun c2 => ?_⟩
  have c2 : isC S o := b1.mp c2
  obtain ⟨a, rfl⟩ : ∃ k : Nat, c = (k : Int) := ⟨c.toNat, by have := c1.1; omega⟩
  obtain ⟨e, rfl⟩ : ∃ k : Nat, o = (k : Int) := ⟨o.toNat, by have := c2.1; omega⟩
  have ha : a < S.1.1 := by have := c1.2; omega
  have he : e < S.1.1 := by have := c2.2; omega
  have hrow := row_lt hn (c := a)
  refine ⟨_, _, _, _, twF, rfl, rfl, ?_⟩
  (conv => whnf); simp (disch := omega) only [iadd_eq, isub_eq, imul_eq]
  refine ⟨_, _, _, twI rfl rfl, rfl, (by omega), gt_at (1 + a) (by omega) (lenlt (j := 1) (h1) (show (1 + a) < 17 by omega)), ?_⟩
  rw [isRow0 h2 ha]
  refine hC _ _ _ (use (wpd.up (show d + 1 ≤ d + 2 by omega) (has_spec (d := d) (by omega) (by omega))) ?_); rintro _ _ ⟨rfl, rfl⟩
  rw [row_bit hG]
  refine ⟨fun c3 => ?_, fun c3 => no fun q => absurd q.2.2 (b0.mp c3)⟩
  have hae : S.1.2 a e = true := b1.mp c3
  refine ⟨_, _, _, twF, rfl, hC _ _ _ (use (wpd.up (show d + 1 ≤ d + 2 by omega) (keepsAct_spec (d := d) h1 h3 hn h2)) ?_)⟩
  rintro _ _ ⟨rfl, V, u, rfl, hV, hh⟩
  have hA2 : lens (up A 2 V) := h1.up (by rw [hV]; rfl)
  refine ⟨_, _, _, twF, rfl, ?_⟩
  refine hC _ _ _ (use (behind_spec hA2 hG (by rw [upn_ne _ _ (by decide)]; exact h2) hD hae) ?_); rintro _ _ ⟨rfl, rfl⟩
  have hst : stillL S.1 D a e 16 = List.range S.1.1 := by
    unfold stillL
    refine List.filter_eq_self.mpr fun v hv => ?_
    have := List.mem_range.mp hv
    rw [decide_eq_true (show v < 16 by omega)]; rfl
  have hq : isB S (a : Int) (e : Int) := ⟨c1, c2, hae⟩
  have key := split_loop (d := d) (h0 := h0) (M := M) (sc := up sc 0 u) (A := up A 2 V) hG hD hae (Q := twEnd h0 M (vI (aSplit S D (a : Int) (e : Int)).1) (aSplit S D (a : Int) (e : Int)).2) (fun N hN hr => ?_) hA2 16 (A 1) (Nat.le_refl _) hl (by rw [hst, sub_range hG]; exact h2)
  · have e1 : up (up A 2 V) 1 (A 1) = up A 2 V := by
      rw [up_comm (by decide), upn_self]
    rw [e1] at key
    exact hW _ key
  · unfold aSplit
    rw [if_neg (Classical.not_not.mpr hq), Int.toNat_natCast, Int.toNat_natCast]
    exact ⟨rfl, _, _, rfl, hA2.up (by rw [hN]; rfl), by rw [up_eq]; exact hr, hh, h4, h5, h6, h7⟩
end SPLIT
