/-! CENTROIDS: one, or two that are bound -/
section CEN
variable {G : Gr} {D : Nat → Nat → Nat}
def isCen (G : Gr) (D : Nat → Nat → Nat) (c : Nat) : Bool := (nb G c).all fun e => decide (2 * bsz G D c e ≤ G.1)
theorem isCen_iff (hG : G.wf) {c : Nat} : isCen G D c = true ↔ ∀ e, G.2 c e = true → 2 * bsz G D c e ≤ G.1 := by
  unfold isCen
  rw [List.all_eq_true]
  exact ⟨fun h e he => of_decide_eq_true (h e ((nb_mem hG).mpr he)), fun h e he => decide_eq_true (h e ((nb_mem hG).mp he))⟩
theorem cen_ex (hG : G.wf) (hD : Far G D) : ∃ c, c < G.1 ∧ isCen G D c = true := by
  have key : ∀ n c e, G.2 c e = true → G.1 < 2 * bsz G D c e → bsz G D c e ≤ n → ∃ c, c < G.1 ∧ isCen G D c = true := by
    intro n
    induction n with
    | zero => intro c e h1 _ h3; have := bsz_pos hG hD h1; omega
    | succ n ih =>
      intro c e h1 h2 h3
      obtain ⟨hc, he, hec, -⟩ := hG.2.2 _ _ h1
      by_cases k : isCen G D e = true
      · exact ⟨e, he, k⟩
      · rw [isCen_iff hG] at k
        have k : ∃ f, G.2 e f = true ∧ ¬ 2 * bsz G D e f ≤ G.1 := by
          apply Classical.byContradiction
          intro h
          exact k fun f hf => Classical.byContradiction fun q => h ⟨f, hf, q⟩
        obtain ⟨f, k1, k2⟩ := k
        have hb := bsz_both hG hD h1
        have hne : f ≠ c := by
          rintro rfl
          omega
        have := bsz_child hG hD h1 k1 hne
        exact ih e f k1 (by omega) (by omega)
  by_cases k : isCen G D 0 = true
  · exact ⟨0, by have := hG.1; omega, k⟩
  · rw [isCen_iff hG] at k
    have k : ∃ f, G.2 0 f = true ∧ ¬ 2 * bsz G D 0 f ≤ G.1 := by
      apply Classical.byContradiction
      intro h
      exact k fun f hf => Classical.byContradiction fun q => h ⟨f, hf, q⟩
    obtain ⟨f, k1, k2⟩ := k
    exact key _ 0 f k1 (by omega) (Nat.le_refl _)
/-- from one outside a branch into it: over its bond -/
theorem Far.over (hG : G.wf) (hD : Far G D) {c e v : Nat} (hce : G.2 c e = true) (hv : v < G.1) (hn : ¬ inB D c e v) : ∀ k u, u < G.1 → inB D c e u → D e u = k → D u v = D u c + D c v := by
  obtain ⟨hc, he, hec, -⟩ := hG.2.2 _ _ hce
  have hev : D e v = D c v + 1 := by
    have := Far.pm hG hD hce hv
    unfold inB at hn; omega
  have hec1 : D e c = 1 := by
    have h0 : D c c = 0 := (hD c c hc hc).2.1.mpr rfl
    have := Far.pm hG hD hce hc
    omega
  intro k
  induction k using Nat.strongRecOn with
  | _ k ih =>
    intro u hu hB hk
    have hce2 := Far.pm hG hD hce hu
    by_cases q : u = e
    · subst q; omega
    · obtain ⟨x, hx1, hx2⟩ := hD.near hu he q
      have hx := (hG.2.2 _ _ hx1).2.1
      have sxe := (hD e x he hx).1
      have sue := (hD e u he hu).1
      have hBx : inB D c e x := by
        apply Classical.byContradiction
        intro hnx
        exact q (Far.edge hG hD hce hx1 hB hnx).1
      have ihx := ih (D e x) (by omega) x hx hBx rfl
      have hux := Far.pm hG hD hx1 hv
      have hcx := Far.pm hG hD hce hx
      have scu := (hD c u hc hu).1
      have scx := (hD c x hc hx).1
      unfold inB at hB hBx
      rcases hux with hux | hux
      · -- D x v = D u v + 1: the way from x to v would lead over u
        exfalso
        by_cases q2 : x = e
        · subst q2
          have h00 : D c c = 0 := (hD c c hc hc).2.1.mpr rfl
          have := Far.uniq hG hD hv hec (hG.2.2 _ _ hx1).2.2.1 (by omega) (by omega)
          subst this
          omega
        · obtain ⟨y, hy1, hy2⟩ := hD.near hx he q2
          have hy := (hG.2.2 _ _ hy1).2.1
          have sye := (hD e y he hy).1
          have hBy : inB D c e y := by
            apply Classical.byContradiction
            intro hny
            exact q2 (Far.edge hG hD hce hy1 hBx hny).1
          have ihy := ih (D e y) (by omega) y hy hBy rfl
          have hcy := Far.pm hG hD hce hy
          have scy := (hD c y hc hy).1
          unfold inB at hBy
          have := Far.uniq hG hD hv hy1 (hG.2.2 _ _ hx1).2.2.1 (by omega) (by omega)
          subst this
          omega
      · omega
theorem cen_adj (hG : G.wf) (hD : Far G D) {c c' : Nat} (hc : c < G.1) (hc' : c' < G.1) (hne : c ≠ c') (h1 : isCen G D c = true) (h2 : isCen G D c' = true) : G.2 c c' = true := by
  apply Classical.byContradiction
  intro hn
  obtain ⟨e, e1, e2⟩ := hD.near hc hc' hne
  obtain ⟨f, f1, f2⟩ := hD.near hc' hc (Ne.symm hne)
  have he := (hG.2.2 _ _ e1).2.1
  have hf := (hG.2.2 _ _ f1).2.1
  have hec : e ≠ c' := fun q => hn (q ▸ e1)
  have hfc : f ≠ c := fun q => hn (q ▸ (hG.2.2 _ _ f1).2.2.1)
  have scc := (hD c c' hc hc').1
  have scf := (hD c f hc hf).1
  have sce := (hD c e hc he).1
  have sec' := (hD e c' he hc').1
  have hB' : inB D c e c' := by unfold inB; omega
  have hBf : inB D c e f := by
    apply Classical.byContradiction
    intro q
    exact hec (Far.edge hG hD e1 f1 hB' q).1.symm
  have k1 := (isCen_iff hG).mp h1 e e1
  have k2 := (isCen_iff hG).mp h2 f f1
  have all : ∀ v, v < G.1 → inB D c e v ∨ inB D c' f v := by
    intro v hv
    by_cases q : inB D c e v
    · exact Or.inl q
    · right
      have o1 := Far.over hG hD e1 hv q _ c' hc' hB' rfl
      have o2 := Far.over hG hD e1 hv q _ f hf hBf rfl
      unfold inB; omega
  have hBe : inB D c' f e := by
    have := all e he
    -- e is nearer to f's side: the way from c' to e leads over f
    have p := Far.pm hG hD f1 he
    unfold inB
    rcases p with p | p
    · exfalso
      have q : ¬ inB D c' f e := by unfold inB; omega
      have o := Far.over hG hD f1 he q _ f hf (hD.self hG f1).1 rfl
      have hc0 : inB D c' f c := by unfold inB; omega
      have o2 := Far.over hG hD f1 he q _ c hc hc0 rfl
      have z : D c e = 1 := by
        have h0 : D e e = 0 := (hD e e he he).2.1.mpr rfl
        have := Far.pm hG hD e1 he
        omega
      have pos : D c c' ≠ 0 := fun q => hne ((hD c c' hc hc').2.1.mp q)
      have pos2 : D e c' ≠ 0 := fun q => hec ((hD e c' he hc').2.1.mp q)
      omega
    · omega
  have s : G.1 + 1 ≤ bsz G D c e + bsz G D c' f := by
    have : (sumR G.1 fun v => b01 (Nat.beq v e) + 1) ≤ sumR G.1 fun v => b01 (decide (inB D c e v)) + b01 (decide (inB D c' f v)) := by
      refine sumR_le fun v hv => ?_
      by_cases q : v = e
      · subst q
        rw [decide_eq_true (hD.self hG e1).1, decide_eq_true hBe, Nat.beq_refl]
        exact Nat.le_refl _
      · have : Nat.beq v e = false := by
          cases z : Nat.beq v e with
          | false => rfl
          | true => exact absurd (beqN.mp z) q
        rw [this]
        rcases all v hv with z | z
        · rw [decide_eq_true z]; cases decide (inB D c' f v) <;> decide
        · rw [decide_eq_true z]; cases decide (inB D c e v) <;> decide
    rw [sumR_add, sumR_add, sumR_only (f := fun v => b01 (Nat.beq v e)) he] at this
    · rw [Nat.beq_refl] at this
      have z : (sumR G.1 fun _ => 1) = G.1 := cnt_all (p := fun _ => true) fun _ _ => rfl
      rw [z] at this
      have this : 1 + G.1 ≤ bsz G D c e + bsz G D c' f := this
      omega
    · intro i _ hi
      cases z : Nat.beq i e with
      | false => rfl
      | true => exact absurd (beqN.mp z) hi
  omega
theorem no_tri (hG : G.wf) (hD : Far G D) {a b c : Nat} (h1 : G.2 a b = true) (h2 : G.2 b c = true) (h3 : G.2 a c = true) : False := by
  obtain ⟨ha, hb, hba, -⟩ := hG.2.2 _ _ h1
  obtain ⟨-, hc, hcb, -⟩ := hG.2.2 _ _ h2
  have one : ∀ x y, G.2 x y = true → D x y = 1 := by
    intro x y h
    obtain ⟨hx, hy, hyx, -⟩ := hG.2.2 _ _ h
    have h0 : D y y = 0 := (hD y y hy hy).2.1.mpr rfl
    have := Far.pm hG hD h hy
    omega
  have := Far.pm hG hD h1 hc
  have := one a c h3
  have := one b c h2
  omega
/-- the centroids, rising -/
def cens (G : Gr) (D : Nat → Nat → Nat) : List Nat := (List.range G.1).filter (isCen G D)
theorem cens_mem {c : Nat} : c ∈ cens G D ↔ c < G.1 ∧ isCen G D c = true := by unfold cens; rw [List.mem_filter, List.mem_range]
theorem range_pairwise : ∀ n, (List.range n).Pairwise (· < ·) := fun n => List.pairwise_lt_range
theorem cens_cases (hG : G.wf) (hD : Far G D) : (∃ c, cens G D = [c] ∧ c < G.1 ∧ isCen G D c = true) ∨ ∃ a b, cens G D = [a, b] ∧ a < b ∧ b < G.1 ∧ G.2 a b = true ∧ isCen G D a = true ∧ isCen G D b = true := by
  have hp : (cens G D).Pairwise (· < ·) := List.Pairwise.filter _ (range_pairwise _)
  have hm : ∀ c, c ∈ cens G D → c < G.1 ∧ isCen G D c = true := fun c => cens_mem.mp
  obtain ⟨c0, k1, k2⟩ := cen_ex hG hD
  have hc0 : c0 ∈ cens G D := cens_mem.mpr ⟨k1, k2⟩
  revert hp hm hc0
  generalize cens G D = l
  intro hp hm hc0
  match l, hp, hm, hc0 with
  | [], _, _, h => exact nomatch h
  | [c], _, hm, _ => exact Or.inl ⟨c, rfl, hm c (by simp)⟩
  | [a, b], hp, hm, _ =>
    right
    have hab : a < b := by simp at hp; exact hp
    exact ⟨a, b, rfl, hab, (hm b (by simp)).1, cen_adj hG hD (hm a (by simp)).1 (hm b (by simp)).1 (by omega) (hm a (by simp)).2 (hm b (by simp)).2, (hm a (by simp)).2, (hm b (by simp)).2⟩
  | a :: b :: c :: r, hp, hm, _ =>
    exfalso
    simp only [List.pairwise_cons] at hp
    have hab := hp.1 b (by simp)
    have hac := hp.1 c (by simp)
    have hbc := hp.2.1 c (by simp)
    have ka := hm a (by simp)
    have kb := hm b (by simp)
    have kc := hm c (by simp)
    exact no_tri hG hD (cen_adj hG hD ka.1 kb.1 (by omega) ka.2 kb.2) (cen_adj hG hD kb.1 kc.1 (by omega) kb.2 kc.2) (cen_adj hG hD ka.1 kc.1 (by omega) ka.2 kc.2)
end CEN
