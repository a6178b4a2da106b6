theorem eqT_comm (a b : Tr) : eqT a b = eqT b a := by
  unfold eqT
  rw [cmpT_neg b a]
  have : (- cmpT b a = 0) ↔ (cmpT b a = 0) := by omega
  exact decide_eq_decide.mpr this
theorem twl_in (a : Tr) : ∀ (t : List Tr) (i : Nat), i < twl a t → ∃ v, t[i]? = some v ∧ eqT v a = true
  | [], i, h => by rw [twl_nil] at h; omega
  | b :: t, i, h => by
    rw [twl_cons] at h
    by_cases c : eqT b a = true
    · rw [if_pos c] at h
      cases i with
      | zero => exact ⟨b, rfl, c⟩
      | succ i => exact twl_in a t i (by omega)
    · rw [if_neg c] at h; omega
theorem twl_out (a : Tr) : ∀ (t : List Tr) (v : Tr), t[twl a t]? = some v → eqT v a = false
  | [], v, h => by simp at h
  | b :: t, v, h => by
    rw [twl_cons] at h
    by_cases c : eqT b a = true
    · rw [if_pos c] at h
      exact twl_out a t v h
    · rw [if_neg c] at h
      cases h
      exact Bool.eq_false_iff.mpr c
theorem run_sum (a : Tr) : ∀ (t : List Tr), sumS t = twl a t * szT a + sumS (t.drop (twl a t))
  | [] => by simp [twl_nil, sumS]
  | b :: t => by
    rw [twl_cons]
    by_cases c : eqT b a = true
    · rw [if_pos c, List.drop_succ_cons]
      have := run_sum a t
      have e := eqT_sz c
      simp only [sumS, List.map_cons, List.sum_cons] at this ⊢
      rw [this, e, Nat.add_mul]
      omega
    · rw [if_neg c]; simp
theorem szT_kids {t : Tr} (h : okT0 t) : szT t = 1 + sumS (kidsT t) := by
  have := sz_mk (kidsT t)
  rw [mk_kids t h] at this
  exact this
section CMARKED
variable {d : Nat}
theorem cmarked_spec : ∀ (n : Nat) (t : Tr) (x : Nat) (h : AH) (hh : Int), szT t ≤ n → BrAt h x t → okT0 t → ok3 t → (kidsT t).length ≤ 4 → szT t ≤ 16 → -100 ≤ hh → hh ≤ 4 → wp (d + n + 20) 424 (0, ent 5 [vR (some x), vI hh], [], h) (mkNew h (1 + 3 * sumS (kidsT t)) (4 + 12 * sumS (kidsT t)) (marksT t hh)) := by
  intro n
  induction n with
  | zero => intro t x h hh h1; have := sz_pos t; omega
  | succ n ih =>
    intro t x h hh hn hB ok hk3 hk4 h16 hh0 hh4
    obtain ⟨p, qs, b1, b2, b3, b4, b5⟩ := id hB
    have hql := BrL_len b5
    have hsz := szT_kids ok
    obtain ⟨l, hl⟩ : ∃ l, l = kidsT t := ⟨_, rfl⟩
    rw [← hl] at hk4 hql hsz
    have hol : ∀ v, v ∈ l → okT0 v := by rw [hl]; exact ok_kid t ok
    have h3l : ∀ v, v ∈ l → (kidsT v).length ≤ 3 ∧ ok3 v := by rw [hl]; exact ok3_iff.mp hk3
    have hat : ∀ (k : Nat) (u : Tr), l[k]? = some u → ∃ y, qs[k]? = some (some y) ∧ BrAt h y u := by rw [hl]; exact fun k u => BrL_at b5 k u
    have hR : marksT t hh = mrkD wOf 5 l (hyd hh) := by
      have := marks_mk (h := hh) (l := l) (by omega) hol
      rw [hl, mk_kids t ok] at this
      rw [this, hl]
    rw [hR, ← hl]
    have loop : ∀ (f k : Nat) (H : AH) (acc : Nat) (P : Wm) (y c : Nat) (x4 : Option AV), l.length ≤ k + f → ext (1 + 3 * c) (4 + 12 * c) h H → c + sumS (l.drop k) ≤ sumS l → h.sz ≤ acc → MkAt H acc P → mrkD wOf f (l.drop k) P = mrkD wOf 5 l (hyd hh) → wB y P → y + 3 * sumS (l.drop k) ≤ 60 → k ≤ 4 →
        wp (d + (n + 1) + 20) 424 (27, [some (vR (some x)), some (vI hh), some (vR (some acc)), some (vI ((k : Nat) : Int)), x4], [], H) (mkNew h (1 + 3 * sumS l) (4 + 12 * sumS l) (mrkD wOf 5 l (hyd hh))) := by
      intro f
      induction f with
      | zero =>
        intro k H acc P y c x4 hk he hc hacc hP hR hB2 hy hk4'
        have hR : P = mrkD wOf 5 l (hyd hh) := hR
        refine wp.go [27, 39] 30 fun W C hW hC => ?_
        refine ⟨_, _, _, _, (he.2.2.2.2.1 x b1).2.2.trans b2, rfl, rfl, ?_⟩
        refine ⟨_, Or.inr ⟨_, _, (he.2.2.2.2.1 p b3).2.1.trans b4, by decide, rfl⟩, ?_⟩
        rw [hql]
        refine ⟨fun _ => ?_, fun q => absurd q (by omega)⟩
        rw [← hR]
        exact ⟨acc, rfl, hacc, he.more (by omega) (by omega), hP⟩
      | succ f ihf =>
        intro k H acc P y c x4 hk he hc hacc hP hR hB2 hy hk4'
        have HF := (he.2.2.2.2.1 x b1).2.2.trans b2
        have HR := (he.2.2.2.2.1 p b3).2.1.trans b4
        by_cases hkl : k < l.length
        · have hdr : l.drop k = l[k] :: l.drop (k + 1) := List.drop_eq_getElem_cons hkl
          have hmem : l[k] ∈ l := List.getElem_mem hkl
          have hlk : l[k]? = some l[k] := List.getElem?_eq_getElem hkl
          obtain ⟨z, z1, z2⟩ := hat k _ hlk
          generalize l[k] = u at hdr hmem hlk z2
          have hu16 : szT u ≤ 15 := by have := sumS_mem hmem; omega
          obtain ⟨u3, uo3⟩ := h3l u hmem
          have uo := hol u hmem
          obtain ⟨m1, m2⟩ := ok3_marks _ u (Nat.le_refl _) uo uo3 u3
          have hwK := wB_wK m1 m2 (by omega)
          have z2' := z2.mono he
          have htl := twl_le u (l.drop (k + 1))
          rw [List.length_drop] at htl
          rw [hdr] at hR hy hc
          simp only [mrkD] at hR
          have hsum : sumS (u :: l.drop (k + 1)) = szT u + sumS (l.drop (k + 1)) := by simp only [sumS, List.map_cons, List.sum_cons]
          have h5 := run_sum u (l.drop (k + 1))
          obtain ⟨q, hq⟩ : ∃ q, q = twl u (l.drop (k + 1)) := ⟨_, rfl⟩
          rw [← hq] at hR h5 htl
          have e5 : (1 + q) * (3 * szT u) = 3 * szT u + 3 * (q * szT u) := by grind
          have hnew := wB_times hB2 (wB_sev (n := 1 + q) m1 (by omega))
          have hlim := wB_lim hnew (by rw [hsum] at hy; omega)
          have e6 : l.drop (k + (1 + q)) = (l.drop (k + 1)).drop q := by rw [List.drop_drop]; congr 1; omega
          obtain ⟨p', qs', c1, c2, c3, c4, c5⟩ := id z2'
          have hql' := BrL_len c5
          have husz := szT_kids uo
          have body : wp (d + (n + 1) + 20) 424 (78, [some (vR (some x)), some (vI hh), some (vR (some acc)), some (vI ((k : Nat) : Int)), some (vI ((1 + q : Nat) : Int))], [], H) (mkNew h (1 + 3 * sumS l) (4 + 12 * sumS l) (mrkD wOf 5 l (hyd hh))) := by
            have call := ih u z H (3 - (((kidsT u).length : Nat) : Int)) (by omega) z2' uo uo3 (by omega) (by omega) (by omega) (by omega)
            refine wp.go [27] 60 fun W C hW hC => ?_
            refine ⟨_, _, _, _, HF, rfl, rfl, ?_⟩
            refine ⟨_, _, _, HR, by decide, by omega, by rw [Int.toNat_natCast]; exact z1, ?_⟩
            refine ⟨_, _, _, _, HF, rfl, rfl, ?_⟩
            refine ⟨_, _, _, HR, by decide, by omega, by rw [Int.toNat_natCast]; exact z1, ?_⟩
            refine ⟨_, _, _, _, c2, rfl, rfl, ?_⟩
            refine ⟨_, Or.inr ⟨_, _, c4, by decide, rfl⟩, ?_⟩
            rw [hql']
            refine ⟨_, _, _, c2, rfl, ?_⟩
            rw [isub_eq (by omega)]
            refine hC _ _ _ (use call ?_)
            rintro _ H1 ⟨a1, rfl, g1, g2, g3⟩
            refine hC _ _ _ (use (wpd.up (by omega) (several_spec (d := 0) g3 hwK (show 1 ≤ 1 + q by omega) (by omega))) ?_)
            rintro _ H2 ⟨a2, rfl, g4, g5, g6⟩
            refine hC _ _ _ (use (wpd.up (by omega) (ctimes_spec (d := 0) ((hP.mono g2).mono g5) g6 (fun k hk => Nat.le_trans (hlim k hk) (by decide)))) ?_)
            rintro _ H3 ⟨a3, rfl, g7, g8, g9⟩
            conv => whnf
            rw [iaddN (by omega)]
            have s1 := he.1
            have s2 := g2.1
            have s3 := g5.1
            refine hW _ (ihf (k + (1 + q)) H3 a3 _ _ (c + szT u) _ (by omega) ?_ ?_ (by omega) g9 (by rw [e6]; exact hR) hnew ?_ (by omega))
            · exact (((he.trans g2).trans g5).trans g8).more (by omega) (by omega)
            · rw [e6]; rw [hsum] at hc; omega
            · rw [e6, e5]; rw [hsum] at hy; omega
          have inner : ∀ (j m : Nat), j + m = q → wp (d + (n + 1) + 20) 424 (39, [some (vR (some x)), some (vI hh), some (vR (some acc)), some (vI ((k : Nat) : Int)), some (vI ((1 + m : Nat) : Int))], [], H) (mkNew h (1 + 3 * sumS l) (4 + 12 * sumS l) (mrkD wOf 5 l (hyd hh))) := by
            intro j
            induction j with
            | zero =>
              intro m hm
              obtain rfl : m = q := by omega
              refine wp.go [39, 78] 40 fun W C hW hC => ?_
              conv => whnf
              rw [iaddN (by omega)]
              refine ⟨_, _, _, _, HF, rfl, rfl, ?_⟩
              refine ⟨_, Or.inr ⟨_, _, HR, by decide, rfl⟩, ?_⟩
              rw [hql]
              refine ⟨fun _ => hW _ body, fun w => ?_⟩
              have hlt : k + (1 + m) < l.length := by omega
              have hv := List.getElem?_eq_getElem hlt
              generalize l[k + (1 + m)] = v at hv
              obtain ⟨y1, y2, y3⟩ := hat _ _ hv
              have hvm : v ∈ l := List.mem_of_getElem? hv
              have hv16 := sumS_mem hvm
              have hout := twl_out u (l.drop (k + 1)) v (by rw [← hq, List.getElem?_drop, ← hv]; congr 1; omega)
              refine ⟨_, _, _, _, HF, rfl, rfl, ?_⟩
              refine ⟨_, _, _, HR, by decide, by omega, by rw [Int.toNat_natCast]; exact z1, ?_⟩
              refine ⟨_, _, _, _, HF, rfl, rfl, ?_⟩
              conv => whnf
              rw [iaddN (by omega)]
              refine ⟨_, _, _, HR, by decide, by omega, by rw [Int.toNat_natCast]; exact y2, ?_⟩
              refine hC _ _ _ (useE (wpd.up (by omega) (like_spec (d := 0) (o := some u) (p := some v) ⟨z2', uo, by omega⟩ ⟨y3.mono he, hol v hvm, by omega⟩)) ?_)
              rw [show eqO (some u) (some v) = eqT u v from rfl, eqT_comm, hout]
              exact ⟨fun _ => hW _ body, fun w => absurd rfl w⟩
            | succ j ihj =>
              intro m hm
              obtain ⟨v, hv, hev⟩ := twl_in u (l.drop (k + 1)) m (by omega)
              rw [List.getElem?_drop, show k + 1 + m = k + (1 + m) by omega] at hv
              obtain ⟨y1, y2, y3⟩ := hat _ _ hv
              have hvm : v ∈ l := List.mem_of_getElem? hv
              have hv16 := sumS_mem hvm
              have hvl := (List.getElem?_eq_some_iff.mp hv).1
              refine wp.go [39, 78] 40 fun W C hW hC => ?_
              conv => whnf
              rw [iaddN (by omega)]
              refine ⟨_, _, _, _, HF, rfl, rfl, ?_⟩
              refine ⟨_, Or.inr ⟨_, _, HR, by decide, rfl⟩, ?_⟩
              rw [hql]
              refine ⟨fun w => absurd w (by omega), fun w => ?_⟩
              refine ⟨_, _, _, _, HF, rfl, rfl, ?_⟩
              refine ⟨_, _, _, HR, by decide, by omega, by rw [Int.toNat_natCast]; exact z1, ?_⟩
              refine ⟨_, _, _, _, HF, rfl, rfl, ?_⟩
              conv => whnf
              rw [iaddN (by omega)]
              refine ⟨_, _, _, HR, by decide, by omega, by rw [Int.toNat_natCast]; exact y2, ?_⟩
              refine hC _ _ _ (useE (wpd.up (by omega) (like_spec (d := 0) (o := some u) (p := some v) ⟨z2', uo, by omega⟩ ⟨y3.mono he, hol v hvm, by omega⟩)) ?_)
              rw [show eqO (some u) (some v) = eqT u v from rfl, eqT_comm, hev]
              refine ⟨fun w => absurd w (by decide), fun _ => ?_⟩
              (conv => whnf); simp (disch := omega) only [iadd_eq, isub_eq, imul_eq]
              rw [show ((1 + m : Nat) : Int) + 1 = ((1 + (m + 1) : Nat) : Int) by omega]
              exact hW _ (ihj (m + 1) (by omega))
          refine wp.go [27, 39] 30 fun W C hW hC => ?_
          refine ⟨_, _, _, _, HF, rfl, rfl, ?_⟩
          refine ⟨_, Or.inr ⟨_, _, HR, by decide, rfl⟩, ?_⟩
          rw [hql]
          refine ⟨fun w => absurd w (by omega), fun _ => ?_⟩
          exact hW _ (inner q 0 (by omega))
        · rw [List.drop_eq_nil_of_le (by omega)] at hR
          have hR : P = mrkD wOf 5 l (hyd hh) := hR
          refine wp.go [27, 39] 30 fun W C hW hC => ?_
          refine ⟨_, _, _, _, HF, rfl, rfl, ?_⟩
          refine ⟨_, Or.inr ⟨_, _, HR, by decide, rfl⟩, ?_⟩
          rw [hql]
          refine ⟨fun _ => ?_, fun q => absurd q (by omega)⟩
          rw [← hR]
          exact ⟨acc, rfl, hacc, he.more (by omega) (by omega), hP⟩
    have hN := newI_at (h := h) (t := 2) (x := List.replicate 4 0)
    have e1 : ext 1 4 h (h.newI 2 (List.replicate 4 0)) := ext_newI
    have HI : ∀ Z, ((h.newI 2 (List.replicate 4 0)).setI h.sz Z).I h.sz = (2, Z) := fun Z => setI_at hN
    have fill : ∀ (j k : Nat) (Z : List Int), j + k = 4 → Z.length = 4 → (∀ m, m < 4 → gt Z m = if m < k then 1 else 0) → (∀ m : Nat, m < k → ((m : Nat) : Int) ≤ hh) → wp (d + (n + 1) + 20) 424 (6, [some (vR (some x)), some (vI hh), some (vR (some h.sz)), some (vI ((k : Nat) : Int)), none], [], (h.newI 2 (List.replicate 4 0)).setI h.sz Z) (mkNew h (1 + 3 * sumS l) (4 + 12 * sumS l) (mrkD wOf 5 l (hyd hh))) := by
      intro j
      have done : ∀ (k : Nat) (Z : List Int), Z.length = 4 → (∀ m, m < 4 → gt Z m = if m < k then 1 else 0) → (∀ m : Nat, m < k → ((m : Nat) : Int) ≤ hh) → (∀ m : Nat, m < 4 → ((m : Nat) : Int) ≤ hh → m < k) → wp (d + (n + 1) + 20) 424 (27, [some (vR (some x)), some (vI hh), some (vR (some h.sz)), some (vI 0), none], [], (h.newI 2 (List.replicate 4 0)).setI h.sz Z) (mkNew h (1 + 3 * sumS l) (4 + 12 * sumS l) (mrkD wOf 5 l (hyd hh))) := by
        intro k Z hZ h1 h2 h3
        refine loop 5 0 _ h.sz (hyd hh) 4 0 none (by omega) (ext.setI e1 (Nat.le_refl _)) (by rw [List.drop_zero]; omega) (Nat.le_refl _) ⟨by show h.sz < h.sz + 1; omega, Z, HI Z, hZ, fun m hm => ?_⟩ (by rw [List.drop_zero]) (wB_hyd hh4) (by rw [List.drop_zero]; omega) (by decide)
        rw [h1 m hm]
        unfold hyd
        by_cases q : ((m : Nat) : Int) ≤ hh
        · rw [if_pos (h3 m hm q), if_pos q]; rfl
        · rw [if_neg (fun w => q (h2 m w)), if_neg q]; rfl
      induction j with
      | zero =>
        intro k Z hj hZ h1 h2
        obtain rfl : k = 4 := by omega
        refine wp.go [6, 27] 20 fun W C hW hC => ?_
        refine hC _ _ _ (useE (wpd.up (by omega) (min_spec (d := 0))) ?_)
        refine ⟨fun _ => ?_, fun q => absurd q (by omega)⟩
        exact hW _ (done 4 Z hZ h1 h2 fun m hm _ => hm)
      | succ j ihj =>
        intro k Z hj hZ h1 h2
        refine wp.go [6, 27] 30 fun W C hW hC => ?_
        refine hC _ _ _ (useE (wpd.up (by omega) (min_spec (d := 0))) ?_)
        refine ⟨fun q => ?_, fun q => ?_⟩
        · exact hW _ (done k Z hZ h1 h2 fun m hm hq => by omega)
        · refine ⟨_, HI _, by omega, by omega, ?_⟩
          rw [setI_setI, Int.toNat_natCast]
          (conv => whnf); simp (disch := omega) only [iadd_eq, isub_eq, imul_eq]
          refine hW _ (ihj (k + 1) _ (by omega) (by rw [List.length_set]; exact hZ) (fun m hm => ?_) fun m hm => by omega)
          rw [gt_set (by omega)]
          by_cases w : m = k
          · rw [if_pos w, if_pos (by omega)]
          · rw [if_neg w, h1 m hm]
            by_cases w2 : m < k
            · rw [if_pos w2, if_pos (by omega)]
            · rw [if_neg w2, if_neg (by omega)]
    have key := fill 4 0 (List.replicate 4 0) rfl rfl (fun m hm => by rcases (show m = 0 ∨ m = 1 ∨ m = 2 ∨ m = 3 by omega) with rfl | rfl | rfl | rfl <;> rfl) (fun m hm => by omega)
    rw [setI_self hN] at key
    refine wp.go [6] 20 fun W C hW hC => ?_
    refine ⟨by decide, by decide, ?_⟩
    exact hW _ key
end CMARKED
