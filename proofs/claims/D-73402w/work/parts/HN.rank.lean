/-! rank -/
theorem cmp_dif : ∀ {l m : List Nat}, l.length = m.length → (cmpL l m < 0 ↔ difC l m < 0)
  | [], [], _ => Iff.rfl
  | [], _ :: _, h => by simp at h
  | _ :: _, [], h => by simp at h
  | a :: r, b :: s, h => by
    have ih := cmp_dif (l := r) (m := s) (by simpa using h)
    show (if a = b then cmpL r s else if a < b then -1 else 1) < 0 ↔ (if a = b then difC r s else (a : Int) - (b : Int)) < 0
    by_cases q : a = b
    · rw [if_pos q, if_pos q]; exact ih
    · rw [if_neg q, if_neg q]
      by_cases w : a < b
      · rw [if_pos w]
        exact ⟨fun _ => by omega, fun _ => by decide⟩
      · rw [if_neg w]
        exact ⟨fun v => absurd v (by decide), fun v => by omega⟩
theorem plc_pos {n : Nat} (h1 : 1 ≤ n) (h2 : n ≤ 11) {K : List Nat} {p : Nat} (hp : (codesL n)[p]? = some K) : plc K (codesL n) = p ∧ ∀ m L, (codesL n)[m]? = some L → (cmpL L K < 0 ↔ m < p) := by
  have pw := List.pairwise_iff_getElem.mp (srtB_pair (clS n h1 h2))
  obtain ⟨hpl, hpe⟩ := List.getElem?_eq_some_iff.mp hp
  have cmp : ∀ m L, (codesL n)[m]? = some L → (m < p → difC L K < 0) ∧ (m = p → L = K) ∧ (p < m → difC K L < 0) := by
    intro m L hm
    obtain ⟨hml, hme⟩ := List.getElem?_eq_some_iff.mp hm
    refine ⟨fun q => ?_, fun q => ?_, fun q => ?_⟩
    · have := pw m p hml hpl q
      rw [hme, hpe] at this
      exact this
    · subst q
      rw [hm] at hp
      cases hp
      rfl
    · have := pw p m hpl hml q
      rw [hme, hpe] at this
      exact this
  refine ⟨plc_at K (codesL n) p (by omega) (fun m L hm hL => ?_) (fun L hL => ?_), fun m L hm => ?_⟩
  · have := (cmp m L hL).1 hm
    rw [difC_anti] at this
    omega
  · rw [(cmp p L hL).2.1 rfl, difC_self]
    omega
  · rw [cmp_dif ((codes_lenL h1 h2 hm).trans (codes_lenL h1 h2 hp).symm)]
    obtain ⟨c1, c2, c3⟩ := cmp m L hm
    constructor
    · intro w
      rcases Nat.lt_trichotomy m p with q | q | q
      · exact q
      · rw [c2 q, difC_self] at w
        omega
      · have := c3 q
        rw [difC_anti] at this
        omega
    · exact c1
section RANK
variable {d x z u : Nat} {hs h : AH} {ld : Int} {nw : Nat} {wh nm : Option Nat} {tp ep : Nat} {S ST : AS} {fd : Nat → Nat → Bool}
theorem rank_loop {n p rr f : Nat} {K : List Nat} {g : AH} (h1 : 1 ≤ n) (h2 : n ≤ 11) (hp : (codesL n)[p]? = some K) (hI : g.I f = (1, K.map fun v => ((v : Nat) : Int))) (hc : codAtC g x rr n) {Q : Rs → AH → Prop} (hQ : Q (.inl (some (vI ((p : Nat) : Int)))) g) :
    ∀ (j low high : Nat) (l5 : Option AV), high - low ≤ j → low ≤ p → p ≤ high → high < (codesL n).length → wp (d + 2) 208 (45, [some (vR (some x)), some (vR (some f)), some (vR (some rr)), some (vI ((low : Nat) : Int)), some (vI ((high : Nat) : Int)), l5], [], g) Q := by
  have hl := codesL_len n h2
  have hpp := plc_pos h1 h2 hp
  have hKl := codes_lenL h1 h2 hp
  obtain ⟨r0, rows, r1, r2, r3⟩ := hc
  intro j
  induction j with
  | zero =>
    intro low high l5 hj hl hh hlen
    obtain rfl : low = p := by omega
    refine wp.go [45] 20 fun W C0 hW hC => ?_
    refine ⟨fun _ => ?_, fun c => absurd c (by omega)⟩
    exact hQ
  | succ j ih =>
    intro low high l5 hj hlo hh hlen
    refine wp.go [45] 60 fun W C0 hW hC => ?_
    refine ⟨fun c => ?_, fun c => ?_⟩
    · obtain rfl : low = p := by omega
      exact hQ
    · obtain ⟨mid, hm⟩ : ∃ m, m = (low + high) / 2 := ⟨_, rfl⟩
      have hml : mid < (codesL n).length := by omega
      have hj := List.getElem?_eq_getElem hml
      generalize (codesL n)[mid] = L at hj
      obtain ⟨a, a1, a2, a3⟩ := r3 mid L hj
      have hLl := codes_lenL h1 h2 hj
      refine ⟨by decide, ?_⟩
      conv => whnf
      rw [iadd_eq (by omega), idiv_eq ⟨by omega, by omega⟩ ⟨by omega, by omega⟩, show (((low : Nat) : Int) + ((high : Nat) : Int)) / 2 = ((mid : Nat) : Int) by omega]
      refine ⟨_, _, _, r1, by decide, by omega, by rw [Int.toNat_natCast]; exact a1, ?_⟩
      refine hC _ _ _ (useE (wpd.up (by omega) (compare_spec (d := 0) a3 hI (hLl.trans hKl.symm) (by omega))) ?_)
      have hcm := hpp.2 mid L hj
      refine ⟨fun c2 => ?_, fun c2 => ?_⟩
      · have : ¬ mid < p := fun q => by have := hcm.mpr q; omega
        exact hW _ (ih low mid _ (by omega) hlo (by omega) (by omega))
      · have := hcm.mp c2
        (conv => whnf); simp (disch := omega) only [iadd_eq, isub_eq, imul_eq]
        exact hW _ (ih (mid + 1) high _ (by omega) (by omega) hh hlen)
theorem crank_spec (hk : hsK hs z u) (b : Base h x ld nw wh nm tp ep S) (k : Cache hs h x ld ep fd) (T : Twn h x ST) (ho : S.ok) : wp (d + 44) 208 (0, ent 6 [vR (some x)], [], h) (qEnd hs h x (vI (aRank S (dst S.1))) S ST 36 189 (fun n => n = nm) fd) := by
  have hb := b
  have hn := ho.1.1.2.1
  have hn1 := ho.1.1.1
  have hD := dst_far ho.1
  obtain ⟨b1, b2, ⟨b3, b4⟩, -⟩ := b
  obtain ⟨B, hB⟩ : ∃ B : Int, B = aRank S (dst S.1) := ⟨_, rfl⟩
  rw [← hB]
  unfold aRank at hB
  refine wp.go [45] 60 fun W C0 hW hC => ?_
  refine ⟨_, _, _, _, b2, rfl, rfl, ?_⟩
  refine ⟨_, _, _, _, b4.2.1, rfl, rfl, ?_⟩
  refine ⟨fun c => ?_, fun c => ?_⟩
  · have hn11 : S.1.1 ≤ 11 := by omega
    rw [if_neg (by omega)] at hB
    refine ⟨_, _, _, b2, rfl, ?_⟩
    refine hC _ _ _ (use (wpd.up (by omega) (cwhole_spec (d := 0) hb ho)) ?_)
    rintro _ h3 ⟨w3, rfl, hb3, f3, hw3, z1, z2, z3⟩
    obtain ⟨ok3', rt3⟩ := wh_ok ho.1.1 ho.1.2.1 hD
    obtain ⟨u3, fs3', F3, l3⟩ := wh_code hw3
    have k3 := k.fr hb.1 f3 hb.six hb.h25 (Or.inl rfl)
    have T3 := T.fr hb.1 f3
    have hcd3 := f3.cd hb.1 k.2.1
    refine ⟨_, _, _, F3, l3, ?_⟩
    refine hC _ _ _ (use (wpd.up (by omega) (ccode_spec (d := 0) (fun v hv => hv.2) hw3 ok3')) ?_)
    rintro _ h4 ⟨f4, rfl, e4, y4, y5, y6⟩
    have hb4 := hb3.grown e4
    have fr4 : frB x ep h3 h4 := frB.of e4
    have k4 := k3.fr hb3.1 fr4 hb3.six hb3.h25 (Or.inl rfl)
    have T4 := T3.fr hb3.1 fr4
    have hcd4 := fr4.cd hb3.1 k3.2.1
    refine ⟨_, _, _, _, hb4.2.1, rfl, rfl, ?_⟩
    refine ⟨_, _, _, _, hb4.2.2.1.2.2.1, rfl, rfl, ?_⟩
    refine ⟨_, _, _, hb4.2.1, rfl, ?_⟩
    refine hC _ _ _ (use (wpd.up (by omega) (codesOf_spec (d := 0) (n := S.1.1) hk hb4 k4 T4 hn1 hn11)) ?_)
    rintro _ h5 ⟨rr, rfl, hc5, b5, k5, T5, z5, z6, z7, z8, hI5, cs', y7, y8⟩
    have hl := codesL_len S.1.1 hn11
    have hin := code_in ho.1 hD hn11
    obtain ⟨p, hp⟩ := List.getElem?_of_mem hin
    obtain ⟨hpl, -⟩ := List.getElem?_eq_some_iff.mp hp
    rw [(plc_pos hn1 hn11 hp).1] at hB
    obtain ⟨r0, rows, r1, r2, r3⟩ := id hc5
    refine ⟨_, Or.inr ⟨_, _, r1, by decide, rfl⟩, ?_⟩
    conv => whnf
    rw [r2, isub_eq (by omega), show (((codesL S.1.1).length : Nat) : Int) - 1 = (((codesL S.1.1).length - 1 : Nat) : Int) by omega]
    have I5 : h5.I f4 = (1, (codG S.1 (dst S.1)).map fun v => ((v : Nat) : Int)) := by
      rw [hI5 f4 (by omega), y6, rt3]
      rfl
    have e43 := e4.2.2.1
    have e44 := e4.2.2.2.1
    have e42 := e4.2.1
    refine hW _ (rank_loop (d := d + 42) hn1 hn11 hp I5 hc5 ?_ ((codesL S.1.1).length - 1) 0 ((codesL S.1.1).length - 1) none (by omega) (Nat.zero_le _) (by omega) (by omega))
    rw [← hB]
    exact ⟨rfl, ⟨nm, rfl, _, _, _, _, _, b5, k5, T5⟩, by omega, by omega, by omega⟩
  · rw [if_pos (by omega)] at hB
    rw [hB]
    exact ⟨rfl, ⟨nm, rfl, _, _, _, _, _, hb, k, T⟩, by omega, by omega, by omega⟩
end RANK
