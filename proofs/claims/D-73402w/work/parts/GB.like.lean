/-! codes are held against one another -/
def cmpL : List Nat → List Nat → Int
  | [], _ => 0
  | _ :: _, [] => 0
  | a :: r, b :: s => if a = b then cmpL r s else if a < b then -1 else 1
theorem cmpL_zero : ∀ {l m : List Nat}, l.length = m.length → (cmpL l m = 0 ↔ l = m)
  | [], [], _ => ⟨fun _ => rfl, fun _ => rfl⟩
  | [], _ :: _, h => by simp at h
  | _ :: _, [], h => by simp at h
  | a :: r, b :: s, h => by
    have ih := cmpL_zero (l := r) (m := s) (by simpa using h)
    show (if a = b then cmpL r s else if a < b then -1 else 1) = 0 ↔ _
    by_cases q : a = b
    · rw [if_pos q, ih, q]
      constructor
      · intro w; rw [w]
      · intro w; cases w; rfl
    · rw [if_neg q]
      constructor
      · intro w
        split at w <;> omega
      · intro w; cases w; exact absurd rfl q
theorem wh_code {P : Nat → Prop} {h : AH} {w : Nat} {W : Wh} (k : WhAt P h w W) : ∃ u fs, h.F w = (u, fs) ∧ lk [(8, 266), (9, 266)] (u % 200) = some 266 := by
  obtain ⟨t, o⟩ := W
  cases o with
  | none => obtain ⟨r, k1, k2, -⟩ := k; exact ⟨_, _, k2, rfl⟩
  | some u => obtain ⟨r, q, k1, k2, -⟩ := k; exact ⟨_, _, k2, rfl⟩
section CLIKEC
variable {d : Nat} {h : AH} {x : Nat} {ld : Int} {nw : Nat} {wh nm : Option Nat} {tp ep : Nat} {S : AS}
theorem compare_spec {a b : Nat} {la lb : List Nat} (hA : h.I a = (1, la.map fun v => ((v : Nat) : Int))) (hB : h.I b = (1, lb.map fun v => ((v : Nat) : Int))) (hl : la.length = lb.length) (h1000 : la.length ≤ 1000) : wp (d + 1) 203 (0, ent 3 [vR (some a), vR (some b)], [], h) (gives h (cmpL la lb)) := by
  have loop : ∀ (j k : Nat), j + k = la.length → cmpL (la.drop k) (lb.drop k) = cmpL la lb → wp (d + 1) 203 (2, [some (vR (some a)), some (vR (some b)), some (vI ((k : Nat) : Int))], [], h) (gives h (cmpL la lb)) := by
    intro j
    induction j with
    | zero =>
      intro k hj hc
      rw [List.drop_eq_nil_of_le (by omega)] at hc
      have hc : 0 = cmpL la lb := hc
      rw [← hc]
      refine wp.go [2] 20 fun W C hW hC => ?_
      refine ⟨_, Or.inl ⟨_, _, hA, by decide, rfl⟩, ?_⟩
      rw [List.length_map]
      exact ⟨fun _ => ⟨rfl, rfl⟩, fun w => absurd w (by omega)⟩
    | succ j ih =>
      intro k hj hc
      have h1 : k < la.length := by omega
      have h2 : k < lb.length := by omega
      rw [List.drop_eq_getElem_cons h1, List.drop_eq_getElem_cons h2] at hc
      have hc : (if la[k] = lb[k] then cmpL (la.drop (k + 1)) (lb.drop (k + 1)) else if la[k] < lb[k] then -1 else 1) = cmpL la lb := hc
      have ga : (la.map fun v => ((v : Nat) : Int))[k]? = some ((la[k] : Nat) : Int) := by rw [List.getElem?_map, List.getElem?_eq_getElem h1]; rfl
      have gb : (lb.map fun v => ((v : Nat) : Int))[k]? = some ((lb[k] : Nat) : Int) := by rw [List.getElem?_map, List.getElem?_eq_getElem h2]; rfl
      refine wp.go [2] 40 fun W C hW hC => ?_
      refine ⟨_, Or.inl ⟨_, _, hA, by decide, rfl⟩, ?_⟩
      rw [List.length_map]
      refine ⟨fun w => absurd w (by omega), fun _ => ?_⟩
      refine ⟨_, _, _, hA, rfl, by omega, by rw [Int.toNat_natCast]; exact ga, ?_⟩
      refine ⟨_, _, _, hB, rfl, by omega, by rw [Int.toNat_natCast]; exact gb, ?_⟩
      refine ⟨fun w => ?_, fun w => ?_⟩
      · have w : la[k] = lb[k] := by omega
        rw [if_pos w] at hc
        (conv => whnf); simp (disch := omega) only [iadd_eq, isub_eq, imul_eq]
        exact hW _ (ih (k + 1) (by omega) hc)
      · have w : la[k] ≠ lb[k] := by omega
        rw [if_neg w] at hc
        refine ⟨_, _, _, hA, rfl, by omega, by rw [Int.toNat_natCast]; exact ga, ?_⟩
        refine ⟨_, _, _, hB, rfl, by omega, by rw [Int.toNat_natCast]; exact gb, ?_⟩
        refine ⟨fun w2 => ?_, fun w2 => ?_⟩
        · rw [if_neg (by omega)] at hc
          rw [← hc]
          exact ⟨rfl, rfl⟩
        · rw [if_pos (by omega)] at hc
          rw [← hc]
          exact ⟨rfl, rfl⟩
  refine wp.go [2] 10 fun W C hW hC => ?_
  exact hW _ (loop la.length 0 (by omega) rfl)
theorem clike_spec (b : Base h x ld nw wh nm tp ep S) (ho : S.ok) {E : Nat → Nat → Nat} {k : Int} (hE : ∀ H, S.2.2.1 k.toNat = some H → Far H E) : wp (d + 60) 200 (0, ent 2 [vR (some x), vI k], [], h) (cEnd h x ld ep (vI (aLike S (dst S.1) E k)) S 72 378 (fun n => n = nm)) := by
  have hb := b
  have hn := ho.1.1.2.1
  have hD := dst_far ho.1
  obtain ⟨b1, b2, ⟨b3, b4⟩, -⟩ := b
  by_cases q : 0 ≤ k ∧ k ≤ 2
  · obtain ⟨k', rfl⟩ : ∃ n : Nat, k = (n : Int) := ⟨k.toNat, by omega⟩
    rw [Int.toNat_natCast] at hE
    obtain ⟨sl, s1, s3⟩ := cshelf_at hb (k := k') (by omega)
    cases eS : S.2.2.1 k' with
    | none =>
      rw [eS] at s3
      have hA : aLike S (dst S.1) E ((k' : Nat) : Int) = -2 := by unfold aLike; rw [if_pos q, Int.toNat_natCast, eS]
      rw [hA]
      refine wp.go [] 40 fun W C hW hC => ?_
      refine hC _ _ _ (useE (wpd.up (by omega) (cin_spec (d := 0))) ?_)
      rw [decide_eq_true q]
      refine ⟨fun _ => ?_, fun w => absurd w (by decide)⟩
      refine ⟨_, _, _, _, b2, rfl, rfl, ?_⟩
      refine ⟨_, _, _, s1, by decide, by omega, by rw [Int.toNat_natCast]; exact s3, ?_⟩
      exact hb.same.wide (by omega) (by omega) (fun _ e => e)
    | some H =>
      rw [eS] at s3
      obtain ⟨t, g1, g2, g3⟩ := s3
      have hH := (ho.2.2.1 k' H eS).2
      have hEF := hE H eS
      have hHn := hH.1.2.1
      obtain ⟨B, hB⟩ : ∃ B : Bool, B = decide (H.1 = S.1.1 ∧ codG S.1 (dst S.1) = codG H E) := ⟨_, rfl⟩
      have hA : aLike S (dst S.1) E ((k' : Nat) : Int) = z01 B := by
        unfold aLike
        rw [if_pos q, Int.toNat_natCast, eS, hB]
        dsimp only
        by_cases w : H.1 = S.1.1 ∧ codG S.1 (dst S.1) = codG H E
        · rw [if_pos w, decide_eq_true w]; rfl
        · rw [if_neg w, decide_eq_false w]; rfl
      rw [hA]
      have fin : ∀ (H5 : AH) (Z : Bool), Z = B → cEnd h x ld ep (vI (z01 B)) S 72 378 (fun n => n = nm) (.inl (some (vI (z01 B)))) H5 → wp (d + 60) 200 (79, [some (vR (some x)), some (vI ((k' : Nat) : Int))], [vI (z01 Z)], H5) (cEnd h x ld ep (vI (z01 B)) S 72 378 (fun n => n = nm)) := by
        intro H5 Z hZ hk
        rw [hZ]
        refine wp.go [] 10 fun W C hW hC => ?_
        refine hC _ _ _ (useE (wpd.up (by omega) (bit_spec (d := 0))) ?_)
        exact hk
      refine wp.go [79] 80 fun W C hW hC => ?_
      refine hC _ _ _ (useE (wpd.up (by omega) (cin_spec (d := 0))) ?_)
      rw [decide_eq_true q]
      refine ⟨fun _ => ?_, fun w => absurd w (by decide)⟩
      refine ⟨_, _, _, _, b2, rfl, rfl, ?_⟩
      refine ⟨_, _, _, s1, by decide, by omega, by rw [Int.toNat_natCast]; exact g1, ?_⟩
      refine ⟨_, _, _, _, b2, rfl, rfl, ?_⟩
      refine ⟨_, _, _, s1, by decide, by omega, by rw [Int.toNat_natCast]; exact g1, ?_⟩
      refine ⟨_, _, _, _, g3.2.1, rfl, rfl, ?_⟩
      refine ⟨_, _, _, _, b2, rfl, rfl, ?_⟩
      refine ⟨_, _, _, _, b4.2.1, rfl, rfl, ?_⟩
      refine ⟨fun w => ?_, fun w => ?_⟩
      · have w : H.1 ≠ S.1.1 := by omega
        exact hW _ (fin h false (by rw [hB, decide_eq_false (fun v => w v.1)]) (hb.same.wide (by omega) (by omega) (fun _ e => e)))
      · have w : H.1 = S.1.1 := by omega
        refine ⟨_, _, _, _, b2, rfl, rfl, ?_⟩
        refine ⟨_, _, _, s1, by decide, by omega, by rw [Int.toNat_natCast]; exact g1, ?_⟩
        refine ⟨_, _, _, g3.2.1, rfl, ?_⟩
        refine hC _ _ _ (use (wpd.up (by omega) (whole_spec (d := 0) g3 hH.1 hH.2.1 hEF)) ?_)
        rintro _ h1 ⟨w1, rfl, e1, hw1⟩
        obtain ⟨ok1, rt1⟩ := wh_ok hH.1 hH.2.1 hEF
        obtain ⟨u1, fs1, F1, l1⟩ := wh_code hw1
        refine ⟨_, _, _, F1, l1, ?_⟩
        refine hC _ _ _ (use (wpd.up (by omega) (ccode_spec (d := 0) (fun v hv => hv.2) hw1 ok1)) ?_)
        rintro _ h2 ⟨f1, rfl, e2, y1, y2, y3⟩
        have hb2 := hb.grown (e1.trans e2)
        refine ⟨_, _, _, hb2.2.1, rfl, ?_⟩
        refine hC _ _ _ (use (wpd.up (by omega) (cwhole_spec (d := 0) hb2 ho)) ?_)
        rintro _ h3 ⟨w3, rfl, hb3, f3, hw3, z1, z2, z3⟩
        obtain ⟨ok3', rt3⟩ := wh_ok ho.1.1 ho.1.2.1 hD
        obtain ⟨u3, fs3', F3, l3⟩ := wh_code hw3
        refine ⟨_, _, _, F3, l3, ?_⟩
        refine hC _ _ _ (use (wpd.up (by omega) (ccode_spec (d := 0) (fun v hv => hv.2) hw3 ok3')) ?_)
        rintro _ h4 ⟨f4, rfl, e4, y4, y5, y6⟩
        have n1 := e1.1
        have n2 := e1.2.1
        have n3 := e2.2.1
        have I1 : h4.I f1 = (1, codeI (rootW (whG H E))) := by
          have q1 := (f3.2.2 f1 y2).1 (by omega)
          have := f3.1
          rw [(e4.2.2.2.2.1 f1 (by omega)).1, q1]
          exact y3
        have hcl : (preT (rootW (whG H E)) 0).length = (preT (rootW (whG S.1 (dst S.1))) 0).length := by
          rw [preT_len, preT_len, rt1, rt3, TT_root hH.1 hEF (fstC_lt hH.1 hEF), TT_root ho.1.1 hD (fstC_lt ho.1.1 hD), w]
        have hc16 : (preT (rootW (whG H E)) 0).length ≤ 1000 := by
          rw [preT_len, rt1, TT_root hH.1 hEF (fstC_lt hH.1 hEF)]
          omega
        refine hC _ _ _ (useE (wpd.up (by omega) (compare_spec (d := 0) I1 y6 hcl hc16)) ?_)
        have hz := cmpL_zero hcl
        rw [rt1, rt3] at hz
        have hz : cmpL (preT (rootW (whG H E)) 0) (preT (rootW (whG S.1 (dst S.1))) 0) = 0 ↔ codG H E = codG S.1 (dst S.1) := by rw [rt1, rt3]; exact hz
        have e14 := e1.2.2.2.1
        have e13 := e1.2.2.1
        have e24 := e2.2.2.2.1
        have e23 := e2.2.2.1
        have e44 := e4.2.2.2.1
        have e43 := e4.2.2.1
        have e42 := e4.2.1
        have hfin : cEnd h x ld ep (vI (z01 B)) S 72 378 (fun n => n = nm) (.inl (some (vI (z01 B)))) h4 := ⟨rfl, nw, some w3, nm, tp, ep, hb3.grown e4, ((frB.of (e1.trans e2)).trans f3 (Or.inl rfl)).trans (frB.of e4) (Or.inl rfl), Or.inl rfl, by omega, by omega, by omega, rfl⟩
        refine ⟨fun v => ?_, fun v => ?_⟩
        · exact hW _ (fin h4 false (by rw [hB, decide_eq_false (fun c => v (hz.mpr c.2.symm))]) hfin)
        · exact hW _ (fin h4 true (by rw [hB, decide_eq_true ⟨w, (hz.mp v).symm⟩]) hfin)
  · have hA : aLike S (dst S.1) E k = -1 := by unfold aLike; rw [if_neg q]
    rw [hA]
    refine wp.go [] 20 fun W C hW hC => ?_
    refine hC _ _ _ (useE (wpd.up (by omega) (cin_spec (d := 0))) ?_)
    rw [decide_eq_false q]
    refine ⟨fun w => absurd rfl w, fun _ => ?_⟩
    exact hb.same.wide (by omega) (by omega) (fun _ e => e)
end CLIKEC
