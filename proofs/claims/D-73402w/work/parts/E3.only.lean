/-! ONLY SOME STAY -/
section ONLY
variable {d : Nat} {h : AH} {o : Nat} {G : Gr}
def keptL (S c : Nat) : List Nat := (List.range c).filter fun v => S.testBit v
theorem kept_succ (S c : Nat) : keptL S (c + 1) = keptL S c ++ (if S.testBit c = true then [c] else []) := by
  unfold keptL
  rw [List.range_succ, List.filter_append]
  congr 1
  by_cases q : S.testBit c = true
  · rw [if_pos q]; simp [q]
  · rw [if_neg q]; simp [q]
theorem kept_mem {S c x : Nat} : x ∈ keptL S c ↔ x < c ∧ S.testBit x = true := by unfold keptL; rw [List.mem_filter, List.mem_range]
theorem kept_nodup (S c : Nat) : (keptL S c).Nodup := List.Pairwise.filter _ List.nodup_range
theorem kept_len (S c : Nat) : (keptL S c).length ≤ c := by
  have := List.length_filter_le (fun v => S.testBit v) (List.range c)
  rw [List.length_range] at this
  exact this
/-- bonds among the kept, those of the last one as far as they were looked at -/
def onE (G : Gr) (l : List Nat) (c k a b : Nat) : Prop := ∃ x y, l[a]? = some x ∧ l[b]? = some y ∧ G.2 x y = true ∧ (x = c → ∃ i, i < k ∧ (nb G c)[i]? = some y) ∧ (y = c → ∃ i, i < k ∧ (nb G c)[i]? = some x)
theorem sub_iff {l : List Nat} {a b : Nat} : (gSub G l).2 a b = true ↔ ∃ x y, l[a]? = some x ∧ l[b]? = some y ∧ G.2 x y = true := by
  constructor
  · exact sub_tt
  · rintro ⟨x, y, h1, h2, h3⟩
    rw [sub_at h1 h2]; exact h3
theorem sub_deg4 (hd : ∀ a, deg G a ≤ 4) {l : List Nat} (hl : l.Sublist (List.range G.1)) (a : Nat) : deg (gSub G l) a ≤ 4 := by
  cases e : l[a]? with
  | none =>
    have : deg (gSub G l) a = 0 := by
      rw [deg_cnt]
      refine cnt_none fun i _ => ?_
      cases q : (gSub G l).2 a i with
      | false => rfl
      | true =>
        obtain ⟨x, y, h1, -⟩ := sub_iff.mp q
        rw [e] at h1; cases h1
    omega
  | some x =>
    rw [sub_deg e]
    refine Nat.le_trans ?_ (hd x)
    exact (hl.filter (G.2 x)).length_le
theorem only_spec (hO : SkAt h o G) (hG : G.wf) (hd : ∀ a, deg G a ≤ 4) {S : Nat} (hS : S < 65536) : wp (d + 3) 228 (0, ent 6 [vR (some o), vI ((S : Nat) : Int)], [], h) (fun r h' => r = .inl (some (vR (some h.sz))) ∧ ext 20 115 h h' ∧ h.sz + 19 ≤ h'.sz ∧ SkAt h' h.sz (gSub G (keptL S G.1))) := by
  have hn := hG.2.1
  have ho := hO.1
  have outer : ∀ (j c : Nat) (H : AH) (N : List Int) (x5 : Option AV), j + c = G.1 → ext 20 115 h H → h.sz + 20 = H.sz → SkAt H h.sz (gSub G (keptL S c)) → H.I (h.sz + 19) = (1, N) → N.length = 16 → (∀ (i x : Nat), (keptL S c)[i]? = some x → gt N x = ((i : Nat) : Int)) →
      wp (d + 3) 228 (16, [some (vR (some o)), some (vI ((S : Nat) : Int)), some (vR (some h.sz)), some (vR (some (h.sz + 19))), some (vI ((c : Nat) : Int)), x5], [], H) (fun r h' => r = .inl (some (vR (some h.sz))) ∧ ext 20 115 h h' ∧ h.sz + 19 ≤ h'.sz ∧ SkAt h' h.sz (gSub G (keptL S G.1))) := by
    intro j
    induction j with
    | zero =>
      intro c H N x5 hj he hz hsk hN hNl hnum
      obtain rfl : c = G.1 := by omega
      have hO' := hO.mono he
      refine wp.go [16, 53] 20 fun W C hW hC => ?_
      refine ⟨_, _, _, _, hO'.2.1, rfl, rfl, ?_⟩
      refine ⟨fun _ => ?_, fun q => absurd q (by omega)⟩
      exact ⟨rfl, he, by omega, hsk⟩
    | succ j ih =>
      intro c H N x5 hj he hz hsk hN hNl hnum
      have hc : c < G.1 := by omega
      have hO' := hO.mono he
      have hks := kept_succ S c
      by_cases hb : S.testBit c = true
      · rw [if_pos hb] at hks
        have hkl := kept_len S c
        have hgetc : (keptL S (c + 1))[(keptL S c).length]? = some c := by rw [hks]; simp
        have hin : ∀ (i x : Nat), (keptL S c)[i]? = some x → (keptL S (c + 1))[i]? = some x := by
          intro i x hi
          rw [hks, List.getElem?_append_left (List.getElem?_eq_some_iff.mp hi).1]
          exact hi
        have hlast : ∀ (i : Nat), (keptL S (c + 1))[i]? = some c → i = (keptL S c).length := fun i hi => nodup_at (kept_nodup S (c + 1)) hi hgetc
        have hlen1 : (keptL S (c + 1)).length = (keptL S c).length + 1 := by rw [hks]; simp
        have inner : ∀ (i k : Nat) (H : AH) (N : List Int) (E : Nat → Nat → Bool), i + k = deg G c → ext 20 115 h H → h.sz + 20 = H.sz → SkAt H h.sz ((keptL S (c + 1)).length, E) → H.I (h.sz + 19) = (1, N) → N.length = 16 → (∀ (i x : Nat), (keptL S (c + 1))[i]? = some x → gt N x = ((i : Nat) : Int)) → (∀ a b, E a b = true ↔ onE G (keptL S (c + 1)) c k a b) →
            wp (d + 3) 228 (53, [some (vR (some o)), some (vI ((S : Nat) : Int)), some (vR (some h.sz)), some (vR (some (h.sz + 19))), some (vI ((c : Nat) : Int)), some (vI ((k : Nat) : Int))], [], H) (fun r h' => r = .inl (some (vR (some h.sz))) ∧ ext 20 115 h h' ∧ h.sz + 19 ≤ h'.sz ∧ SkAt h' h.sz (gSub G (keptL S G.1))) := by
          intro i
          induction i with
          | zero =>
            intro k H N E hi he hz hsk hN hNl hnum hP
            obtain ⟨k1, k2, k3, ⟨W, k4, k5, k6⟩, k7⟩ := hO.mono he
            refine wp.go [16, 53] 30 fun W C hW hC => ?_
            refine ⟨_, _, _, _, k2, rfl, rfl, ?_⟩
            refine ⟨_, _, _, k4, rfl, by omega, gt_at c (by omega) (by omega), ?_⟩
            rw [k6 c hc]
            refine ⟨fun _ => ?_, fun q => absurd q (by omega)⟩
            (conv => whnf); simp (disch := omega) only [iadd_eq, isub_eq, imul_eq]
            have hE : E = (gSub G (keptL S (c + 1))).2 := by
              funext a b
              rw [Bool.eq_iff_iff, hP, sub_iff]
              have hnbk : ∀ y, G.2 c y = true → ∃ i, i < k ∧ (nb G c)[i]? = some y := by
                intro y hy
                obtain ⟨i, hi2⟩ := List.getElem?_of_mem ((nb_mem hG).mpr hy)
                have hil := (List.getElem?_eq_some_iff.mp hi2).1
                have hil : i < deg G c := hil
                exact ⟨i, by omega, hi2⟩
              constructor
              · rintro ⟨x, y, h1, h2, h3, -⟩
                exact ⟨x, y, h1, h2, h3⟩
              · rintro ⟨x, y, h1, h2, h3⟩
                exact ⟨x, y, h1, h2, h3, fun w => by subst w; exact hnbk y h3, fun w => by subst w; exact hnbk x (hG.2.2 _ _ h3).2.2.1⟩
            rw [hE] at hsk
            exact hW _ (ih (c + 1) H N _ (by omega) he hz hsk hN hNl hnum)
          | succ i ihi =>
            intro k H N E hi he hz hsk hN hNl hnum hP
            obtain ⟨k1, k2, k3, ⟨W, k4, k5, k6⟩, k7⟩ := hO.mono he
            obtain ⟨X, x1, x2, x3⟩ := k7 c (by omega)
            have x3 := x3 hc
            have hkl2 : k < (nb G c).length := by show k < deg G c; omega
            have hget := List.getElem?_eq_getElem hkl2
            have hx := x3 k _ hget
            have hce : G.2 c (nb G c)[k] = true := (nb_mem hG).mp (List.getElem_mem hkl2)
            have huniq : ∀ (i : Nat), (nb G c)[i]? = some (nb G c)[k] → i = k := fun i hi => nodup_at (nb_nodup G c) hi hget
            generalize (nb G c)[k] = e at hget hx hce huniq
            obtain ⟨-, hel, hec, hne⟩ := hG.2.2 _ _ hce
            have hdc := hd c
            have skip : ¬ (e < c ∧ S.testBit e = true) → ∀ a b, E a b = true ↔ onE G (keptL S (c + 1)) c (k + 1) a b := by
              intro hno a b
              have hne2 : e ∉ keptL S (c + 1) := by
                rw [kept_mem]
                rintro ⟨w1, w2⟩
                exact hno ⟨by omega, w2⟩
              rw [hP]
              constructor
              · rintro ⟨x, y, h1, h2, h3, h4, h5⟩
                exact ⟨x, y, h1, h2, h3, fun w => by obtain ⟨i, i1, i2⟩ := h4 w; exact ⟨i, by omega, i2⟩, fun w => by obtain ⟨i, i1, i2⟩ := h5 w; exact ⟨i, by omega, i2⟩⟩
              · rintro ⟨x, y, h1, h2, h3, h4, h5⟩
                refine ⟨x, y, h1, h2, h3, fun w => ?_, fun w => ?_⟩
                · obtain ⟨i, i1, i2⟩ := h4 w
                  refine ⟨i, ?_, i2⟩
                  by_cases w2 : i = k
                  · rw [w2, hget] at i2
                    cases i2
                    exact absurd (List.mem_of_getElem? h2) hne2
                  · omega
                · obtain ⟨i, i1, i2⟩ := h5 w
                  refine ⟨i, ?_, i2⟩
                  by_cases w2 : i = k
                  · rw [w2, hget] at i2
                    cases i2
                    exact absurd (List.mem_of_getElem? h1) hne2
                  · omega
            refine wp.go [16, 53] 70 fun W C hW hC => ?_
            refine ⟨_, _, _, _, k2, rfl, rfl, ?_⟩
            refine ⟨_, _, _, k4, rfl, by omega, gt_at c (by omega) (by omega), ?_⟩
            rw [k6 c hc]
            refine ⟨fun q => absurd q (by omega), fun _ => ?_⟩
            refine ⟨_, _, _, _, k2, rfl, rfl, ?_⟩
            refine ⟨_, _, _, k3, by decide, by omega, by rw [Int.toNat_natCast]; exact row_ref (by omega), ?_⟩
            refine ⟨_, _, _, x1, rfl, by omega, gt_at k (by omega) (by omega), ?_⟩
            rw [hx]
            refine ⟨fun q => ?_, fun q => ?_⟩
            · (conv => whnf); simp (disch := omega) only [iadd_eq, isub_eq, imul_eq]
              exact hW _ (ihi (k + 1) H N E (by omega) he hz hsk hN hNl hnum (skip (by omega)))
            · refine ⟨_, _, _, _, k2, rfl, rfl, ?_⟩
              refine ⟨_, _, _, k3, by decide, by omega, by rw [Int.toNat_natCast]; exact row_ref (by omega), ?_⟩
              refine ⟨_, _, _, x1, rfl, by omega, gt_at k (by omega) (by omega), ?_⟩
              rw [hx]
              conv => whnf
              rw [ibit_eq (by omega) (by omega)]
              refine ⟨fun q2 => ?_, fun q2 => ?_⟩
              · have hbe : ¬ S.testBit e = true := fun w => q2 (by rw [if_pos w])
                (conv => whnf); simp (disch := omega) only [iadd_eq, isub_eq, imul_eq]
                exact hW _ (ihi (k + 1) H N E (by omega) he hz hsk hN hNl hnum (skip (fun w => hbe w.2)))
              · have hbe : S.testBit e = true := by
                  by_cases w : S.testBit e = true
                  · exact w
                  · rw [if_neg w] at q2; omega
                have hem : e ∈ keptL S c := kept_mem.mpr ⟨by omega, hbe⟩
                obtain ⟨m, hm⟩ := List.getElem?_of_mem hem
                have hml := (List.getElem?_eq_some_iff.mp hm).1
                have hm1 := hin m e hm
                have hme : ∀ (i : Nat), (keptL S (c + 1))[i]? = some e → i = m := fun i hi => nodup_at (kept_nodup S (c + 1)) hi hm1
                refine ⟨_, _, _, _, k2, rfl, rfl, ?_⟩
                refine ⟨_, _, _, k3, by decide, by omega, by rw [Int.toNat_natCast]; exact row_ref (by omega), ?_⟩
                refine ⟨_, _, _, x1, rfl, by omega, gt_at k (by omega) (by omega), ?_⟩
                rw [hx]
                refine ⟨_, _, _, hN, rfl, by omega, gt_at e (by omega) (by omega), ?_⟩
                refine ⟨_, _, _, hN, rfl, by omega, gt_at c (by omega) (by omega), ?_⟩
                rw [hnum m e hm1, hnum _ c hgetc]
                refine ⟨_, _, _, hsk.2.1, rfl, ?_⟩
                have hsub : ∀ a b, E a b = true → (gSub G (keptL S (c + 1))).2 a b = true := by
                  intro a b w
                  obtain ⟨x, y, h1, h2, h3, -⟩ := (hP a b).mp w
                  exact sub_iff.mpr ⟨x, y, h1, h2, h3⟩
                have hsym : ∀ a b, E a b = true → E b a = true := by
                  intro a b w
                  obtain ⟨x, y, h1, h2, h3, h4, h5⟩ := (hP a b).mp w
                  exact (hP b a).mpr ⟨y, x, h2, h1, (hG.2.2 _ _ h3).2.2.1, h5, h4⟩
                have hwE : wf0 ((keptL S (c + 1)).length, E) := by
                  have := kept_len S (c + 1)
                  refine ⟨by show (keptL S (c + 1)).length ≤ 16; omega, fun a b w => ?_⟩
                  obtain ⟨x, y, h1, h2, h3, -⟩ := (hP a b).mp w
                  refine ⟨(List.getElem?_eq_some_iff.mp h1).1, (List.getElem?_eq_some_iff.mp h2).1, hsym a b w, fun w2 => ?_⟩
                  subst w2
                  rw [h1] at h2
                  cases h2
                  exact (hG.2.2 _ _ h3).2.2.2 rfl
                have hno : E m (keptL S c).length = false := by
                  cases w : E m (keptL S c).length with
                  | false => rfl
                  | true =>
                    exfalso
                    obtain ⟨x, y, h1, h2, h3, h4, h5⟩ := (hP _ _).mp w
                    rw [hgetc] at h2
                    rw [hm1] at h1
                    cases h1
                    cases h2
                    obtain ⟨i, i1, i2⟩ := h5 rfl
                    have := huniq i i2
                    omega
                have hno2 : E (keptL S c).length m = false := by
                  cases w : E (keptL S c).length m with
                  | false => rfl
                  | true => have := hsym _ _ w; rw [hno] at this; cases this
                have hd4 := sub_deg4 (l := keptL S (c + 1)) hd (List.filter_sublist.trans (List.range_sublist.mpr (by omega)))
                have d1 := deg_less (G := ((keptL S (c + 1)).length, E)) (G' := gSub G (keptL S (c + 1))) rfl (a := m) (b := (keptL S c).length) (hsub _) (by show _ < (keptL S (c + 1)).length; omega) hno (sub_iff.mpr ⟨e, c, hm1, hgetc, hec⟩)
                have d2 := deg_less (G := ((keptL S (c + 1)).length, E)) (G' := gSub G (keptL S (c + 1))) rfl (a := (keptL S c).length) (b := m) (hsub _) (by show _ < (keptL S (c + 1)).length; omega) hno2 (sub_iff.mpr ⟨c, e, hgetc, hm1, hce⟩)
                have d3 := hd4 m
                have d4 := hd4 (keptL S c).length
                refine hC _ _ _ (use (wpd.up (by omega) (cbinds_spec (d := 0) hsk hwE (a := m) (b := (keptL S c).length) (by show m < (keptL S (c + 1)).length; omega) (by show _ < (keptL S (c + 1)).length; omega) (by omega) hno (by omega) (by omega))) ?_)
                rintro _ H2 ⟨rfl, u2, S2⟩
                (conv => whnf); simp (disch := omega) only [iadd_eq, isub_eq, imul_eq]
                refine hW _ (ihi (k + 1) H2 N (gAdd ((keptL S (c + 1)).length, E) m (keptL S c).length).2 (by omega) (he.skU (Nat.le_refl _) u2) (by rw [u2.1]; exact hz) S2 (by rw [(u2.2.2.2 _ (Or.inr (by omega))).1]; exact hN) hNl hnum fun a b => ?_)
                rw [gAdd_iff]
                show (E a b = true ∨ _) ↔ _
                rw [hP]
                constructor
                · rintro (⟨x, y, h1, h2, h3, h4, h5⟩ | ⟨rfl, rfl⟩ | ⟨rfl, rfl⟩)
                  · exact ⟨x, y, h1, h2, h3, fun w => by obtain ⟨i, i1, i2⟩ := h4 w; exact ⟨i, by omega, i2⟩, fun w => by obtain ⟨i, i1, i2⟩ := h5 w; exact ⟨i, by omega, i2⟩⟩
                  · exact ⟨e, c, hm1, hgetc, hec, fun w => absurd w (Ne.symm hne), fun _ => ⟨k, by omega, hget⟩⟩
                  · exact ⟨c, e, hgetc, hm1, hce, fun _ => ⟨k, by omega, hget⟩, fun w => absurd w (Ne.symm hne)⟩
                · rintro ⟨x, y, h1, h2, h3, h4, h5⟩
                  by_cases w1 : x = c ∧ y = e
                  · obtain ⟨rfl, rfl⟩ := w1
                    exact Or.inr (Or.inr ⟨hlast a h1, hme b h2⟩)
                  · by_cases w2 : y = c ∧ x = e
                    · obtain ⟨rfl, rfl⟩ := w2
                      exact Or.inr (Or.inl ⟨hme a h1, hlast b h2⟩)
                    · refine Or.inl ⟨x, y, h1, h2, h3, fun w => ?_, fun w => ?_⟩
                      · obtain ⟨i, i1, i2⟩ := h4 w
                        refine ⟨i, ?_, i2⟩
                        by_cases w3 : i = k
                        · rw [w3, hget] at i2
                          cases i2
                          exact absurd ⟨w, rfl⟩ w1
                        · omega
                      · obtain ⟨i, i1, i2⟩ := h5 w
                        refine ⟨i, ?_, i2⟩
                        by_cases w3 : i = k
                        · rw [w3, hget] at i2
                          cases i2
                          exact absurd ⟨w, rfl⟩ w2
                        · omega
        have hsubwf : wf0 (gSub G (keptL S c)) := by
          refine ⟨by show (keptL S c).length ≤ 16; omega, fun a b w => ?_⟩
          obtain ⟨x, y, h1, h2, h3⟩ := sub_iff.mp w
          refine ⟨(List.getElem?_eq_some_iff.mp h1).1, (List.getElem?_eq_some_iff.mp h2).1, sub_iff.mpr ⟨y, x, h2, h1, (hG.2.2 _ _ h3).2.2.1⟩, fun w2 => ?_⟩
          subst w2
          rw [h1] at h2
          cases h2
          exact (hG.2.2 _ _ h3).2.2.2 rfl
        refine wp.go [16, 53] 50 fun W C hW hC => ?_
        refine ⟨_, _, _, _, hO'.2.1, rfl, rfl, ?_⟩
        refine ⟨fun q => absurd q (by omega), fun _ => ?_⟩
        conv => whnf
        rw [ibit_eq (by omega) (by omega), if_pos hb]
        refine ⟨fun _ => ?_, fun q => absurd q (by decide)⟩
        refine ⟨_, _, _, _, hsk.2.1, rfl, rfl, ?_⟩
        refine ⟨_, hN, by omega, by omega, ?_⟩
        rw [Int.toNat_natCast]
        have hsk2 : SkAt (H.setI (h.sz + 19) (N.set c (((gSub G (keptL S c)).1 : Nat) : Int))) h.sz (gSub G (keptL S c)) := hsk.setI (by omega)
        refine ⟨_, _, _, hsk2.2.1, rfl, ?_⟩
        refine hC _ _ _ (use (wpd.up (by omega) (cadds_spec (d := 0) hsk2 hsubwf (by show (keptL S c).length < 16; omega))) ?_)
        rintro _ H2 ⟨rfl, u2, S2⟩
        refine hW _ (inner (deg G c) 0 H2 _ (gSub G (keptL S c)).2 (by omega) ((ext.setI he (by omega)).skU (Nat.le_refl _) u2) (by rw [u2.1]; exact hz) (by rw [hlen1]; exact S2) (by rw [(u2.2.2.2 _ (Or.inr (by omega))).1]; exact setI_at hN) (by rw [List.length_set]; exact hNl) (fun i x hi => ?_) (fun a b => ?_))
        · rw [gt_set (by omega)]
          by_cases w : x = c
          · subst w
            rw [if_pos rfl, hlast i hi]
            rfl
          · rw [if_neg w]
            refine hnum i x ?_
            rw [hks] at hi
            by_cases w2 : i < (keptL S c).length
            · rw [List.getElem?_append_left w2] at hi; exact hi
            · rw [List.getElem?_append_right (by omega)] at hi
              have := List.mem_of_getElem? hi
              exact absurd (List.mem_singleton.mp this) w
        · rw [sub_iff]
          constructor
          · rintro ⟨x, y, h1, h2, h3⟩
            have q1 := (kept_mem.mp (List.mem_of_getElem? h1)).1
            have q2 := (kept_mem.mp (List.mem_of_getElem? h2)).1
            exact ⟨x, y, hin a x h1, hin b y h2, h3, fun w => by omega, fun w => by omega⟩
          · rintro ⟨x, y, h1, h2, h3, h4, h5⟩
            have q1 : x ≠ c := fun w => by obtain ⟨i, i1, -⟩ := h4 w; omega
            have q2 : y ≠ c := fun w => by obtain ⟨i, i1, -⟩ := h5 w; omega
            have back : ∀ (a x : Nat), (keptL S (c + 1))[a]? = some x → x ≠ c → (keptL S c)[a]? = some x := by
              intro a x h1 q1
              rw [hks] at h1
              by_cases w2 : a < (keptL S c).length
              · rw [List.getElem?_append_left w2] at h1; exact h1
              · rw [List.getElem?_append_right (by omega)] at h1
                exact absurd (List.mem_singleton.mp (List.mem_of_getElem? h1)) q1
            exact ⟨x, y, back a x h1 q1, back b y h2 q2, h3⟩
      · rw [if_neg hb, List.append_nil] at hks
        refine wp.go [16, 53] 30 fun W C hW hC => ?_
        refine ⟨_, _, _, _, hO'.2.1, rfl, rfl, ?_⟩
        refine ⟨fun q => absurd q (by omega), fun _ => ?_⟩
        conv => whnf
        rw [ibit_eq (by omega) (by omega), if_neg hb]
        refine ⟨fun q => absurd rfl q, fun _ => ?_⟩
        (conv => whnf); simp (disch := omega) only [iadd_eq, isub_eq, imul_eq]
        refine hW _ (ih (c + 1) H N _ (by omega) he hz (by rw [hks]; exact hsk) hN hNl (by rw [hks]; exact hnum))
  refine wp.go [16] 20 fun W C hW hC => ?_
  refine hC _ _ _ (use (wpd.up (by omega) (skInit_spec (d := 0) (h := h.newF 2 [vR none, vR none, vI 0]) (s := h.sz) rfl newF_at)) ?_)
  rintro _ h1 ⟨rfl, a1, a2, a3, a4, a5⟩
  obtain ⟨e1, e2⟩ := sk_new (s := h.sz) ⟨a1, a2, a3, a4⟩
  refine ⟨by decide, by decide, ?_⟩
  have e3 : ext 20 115 h (h1.newI 1 (List.replicate (16 : Int).toNat 0)) := (e1.trans (ext_newI (t := 1) (x := List.replicate (16 : Int).toNat 0))).more (by decide) (by decide)
  have hrec := outer G.1 0 (h1.newI 1 (List.replicate (16 : Int).toNat 0)) (List.replicate 16 0) none (by omega) e3 (by show h.sz + 20 = h1.sz + 1; omega) ?_ (by rw [show h.sz + 19 = h1.sz by omega]; exact newI_at) rfl (fun i x hi => by simp [keptL] at hi)
  · refine hW _ ?_
    rw [show h1.sz = h.sz + 19 by omega]
    exact hrec
  · have : gSub G (keptL S 0) = gNil := by
      show (0, _) = (0, fun _ _ => false)
      congr 1
    rw [this]
    exact a5.mono ext_newI
end ONLY
