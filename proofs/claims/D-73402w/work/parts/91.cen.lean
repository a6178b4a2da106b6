/-! THE TWIN's CENTROIDS -/
def atN (l : List Nat) (k : Nat) : Int := match l[k]? with
  | some x => (x : Int)
  | none => -1
theorem atN_succ {c : Nat} {l : List Nat} {k : Nat} : atN (c :: l) (k + 1) = atN l k := by unfold atN; rw [List.getElem?_cons_succ]
def z01 (b : Bool) : Int := cond b 1 0
section CENT
variable {d : Nat} {h0 : AH} {M : Nat} {A : Nat → List Int} {sc : Nat → Int} {tab : List Tr} {G : Gr} {D : Nat → Nat → Nat}
theorem cen_loop (hG : G.wf) (hD : Far G D) (hS : Seen A sc tab G D) {c : Nat} (hc : c < G.1) :
    ∀ (j e : Nat), j + e = G.1 → (∀ e', e' < e → G.2 c e' = true → 2 * bsz G D c e' ≤ G.1) → wp (d + 3) 331 (2, [some (vR (some M)), some (vI c), some (vI e)], [], tw h0 M A sc) (gives (tw h0 M A sc) (z01 (isCen G D c))) := by
  have hn := hG.2.1
  obtain ⟨⟨hA, -⟩, hr, hb, -⟩ := hS
  intro j
  induction j with
  | zero =>
    intro e hj h
    obtain rfl : e = G.1 := by omega
    refine wp.go [2] 40 fun W C hW hC => ?_
    refine ⟨_, _, _, _, twF, rfl, rfl, ?_⟩
    refine ⟨_, _, _, twI rfl rfl, rfl, (by omega), gt_at (0) (by omega) (lenlt (j := 18) (hA) (show (0) < 17 by omega)), ?_⟩
    rw [hr.1]
    refine ⟨fun _ => ⟨Or.inr rfl, ?_, rfl⟩, fun c => absurd c (by omega)⟩
    rw [(isCen_iff hG).mpr (fun e he => h e (hG.2.2 _ _ he).2.1 he)]
    rfl
  | succ j ih =>
    intro e hj h
    have nxt : (G.2 c e = true → 2 * bsz G D c e ≤ G.1) → wp (d + 3) 331 (46, [some (vR (some M)), some (vI c), some (vI e)], [], tw h0 M A sc) (gives (tw h0 M A sc) (z01 (isCen G D c))) := by
      intro he
      refine wp.go [2] 20 fun W C hW hC => ?_
      (conv => whnf); simp (disch := omega) only [iadd_eq, isub_eq, imul_eq]
      refine hW _ (ih (e + 1) (by omega) (fun e' h1 h2 => ?_))
      by_cases k : e' = e
      · subst k; exact he h2
      · exact h e' (by omega) h2
    have hrow := row_lt (G := G) hn (c := c)
    refine wp.go [2, 46] 60 fun W C hW hC => ?_
    refine ⟨_, _, _, _, twF, rfl, rfl, ?_⟩
    refine ⟨_, _, _, twI rfl rfl, rfl, (by omega), gt_at (0) (by omega) (lenlt (j := 18) (hA) (show (0) < 17 by omega)), ?_⟩
    rw [hr.1]
    refine ⟨fun c => absurd c (by omega), fun _ => ?_⟩
    refine ⟨_, _, _, _, twF, rfl, rfl, ?_⟩
    (conv => whnf); simp (disch := omega) only [iadd_eq, isub_eq, imul_eq]
    refine ⟨_, _, _, twI rfl rfl, rfl, (by omega), gt_at (1 + c) (by omega) (lenlt (j := 18) (hA) (show (1 + c) < 17 by omega)), ?_⟩
    rw [isRow0 hr (by omega)]
    refine hC _ _ _ (use (has_spec (by omega) (by omega)) ?_); rintro _ _ ⟨rfl, rfl⟩
    refine ⟨fun c1 => ?_, fun c1 => ?_⟩
    · refine hW _ (nxt (fun he => (b0.mp c1) ((row_bit hG).trans he) |>.elim))
    · have he : G.2 c e = true := (row_bit hG).symm.trans (b1.mp c1)
      refine ⟨_, _, _, twF, rfl, ?_⟩
      refine hC _ _ _ (use (sizeSeen_spec hA (show c < 16 by omega) (show e < 16 by omega) (hb c e he) (bB_lt hn)) ?_)
      rintro _ _ ⟨rfl, rfl⟩
      rw [bB_size hn]
      have hlt := bsz_lt hG hD he
      refine ⟨_, _, _, _, twF, rfl, rfl, ?_⟩
      (conv => whnf); simp (disch := omega) only [iadd_eq, isub_eq, imul_eq]
      refine ⟨_, _, _, twI rfl rfl, rfl, (by omega), gt_at (0) (by omega) (lenlt (j := 18) (hA) (show (0) < 17 by omega)), ?_⟩
      rw [hr.1]
      refine ⟨fun c2 => hW _ (nxt fun _ => by omega), fun c2 => ⟨Or.inl rfl, ?_, rfl⟩⟩
      cases z : isCen G D c with
      | false => rfl
      | true => exact absurd ((isCen_iff hG).mp z e he) (by omega)
theorem isCentroid_spec (hG : G.wf) (hD : Far G D) (hS : Seen A sc tab G D) {c : Nat} (hc : c < G.1) : wp (d + 3) 331 (0, ent 3 [vR (some M), vI c], [], tw h0 M A sc) (gives (tw h0 M A sc) (z01 (isCen G D c))) := by
  refine wp.go [2] 20 fun W C hW hC => ?_
  exact hW _ (cen_loop hG hD hS hc G.1 0 rfl (fun _ h => absurd h (by omega)))
theorem cenAt_loop (hG : G.wf) (hD : Far G D) (hS : Seen A sc tab G D) {x1 : Int} :
    ∀ (j c k : Nat), j + c = G.1 → k ≤ 2147483647 → wp (d + 4) 330 (4, [some (vR (some M)), some (vI x1), some (vI k), some (vI c)], [], tw h0 M A sc) (gives (tw h0 M A sc) (atN ((List.range' c j).filter (isCen G D)) k)) := by
  have hn := hG.2.1
  have hA := hS.1.1
  have hr := hS.2.1
  intro j
  induction j with
  | zero =>
    intro c k hj hk
    obtain rfl : c = G.1 := by omega
    refine wp.go [4] 40 fun W C hW hC => ?_
    refine ⟨_, _, _, _, twF, rfl, rfl, ?_⟩
    refine ⟨_, _, _, twI rfl rfl, rfl, (by omega), gt_at (0) (by omega) (lenlt (j := 18) (hA) (show (0) < 17 by omega)), ?_⟩
    rw [hr.1]
    exact ⟨fun _ => ⟨rfl, rfl⟩, fun c => absurd c (by omega)⟩
  | succ j ih =>
    intro c k hj hk
    have hrg : List.range' c (j + 1) = c :: List.range' (c + 1) j := rfl
    rw [hrg, List.filter_cons]
    refine wp.go [4] 60 fun W C hW hC => ?_
    refine ⟨_, _, _, _, twF, rfl, rfl, ?_⟩
    refine ⟨_, _, _, twI rfl rfl, rfl, (by omega), gt_at (0) (by omega) (lenlt (j := 18) (hA) (show (0) < 17 by omega)), ?_⟩
    rw [hr.1]
    refine ⟨fun c => absurd c (by omega), fun _ => ?_⟩
    refine ⟨_, _, _, twF, rfl, ?_⟩
    refine hC _ _ _ (use (isCentroid_spec hG hD hS (c := c) (by omega)) ?_)
    rintro _ _ ⟨rfl, rfl⟩
    cases z : isCen G D c with
    | false =>
      rw [z] at hW
      refine ⟨fun c => absurd rfl c, fun _ => ?_⟩
      (conv => whnf); simp (disch := omega) only [iadd_eq, isub_eq, imul_eq]
      exact hW _ (ih (c + 1) k (by omega) hk)
    | true =>
      rw [z, if_pos rfl] at hW
      refine ⟨fun _ => ?_, fun c => absurd c (by decide)⟩
      refine ⟨fun c2 => ?_, fun c2 => ?_⟩
      · (conv => whnf); simp (disch := omega) only [iadd_eq, isub_eq, imul_eq]
        obtain ⟨m, rfl⟩ : ∃ m, k = m + 1 := ⟨k - 1, by omega⟩
        have : ((m + 1 : Nat) : Int) + -1 = (m : Int) := by omega
        rw [this]
        rw [atN_succ] at hW
        exact hW _ (ih (c + 1) m (by omega) (by omega))
      · obtain rfl : k = 0 := by omega
        exact ⟨rfl, rfl⟩
theorem centroidAt_spec (hG : G.wf) (hD : Far G D) (hS : Seen A sc tab G D) {k : Nat} (hk : k ≤ 2147483647) : wp (d + 4) 330 (0, ent 4 [vR (some M), vI k], [], tw h0 M A sc) (gives (tw h0 M A sc) (atN (cens G D) k)) := by
  have h := cenAt_loop (d := d) (h0 := h0) (M := M) hG hD hS (x1 := k) G.1 0 k rfl hk
  rw [← List.range_eq_range'] at h
  refine wp.go [4] 20 fun W C hW hC => ?_
  exact hW _ h
end CENT
