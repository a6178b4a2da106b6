/-! what skeletons can be asked for, in the component -/
theorem maxR_succ {n : Nat} {f : Nat → Nat} (h : 1 ≤ n) : maxR n (fun i => f i + 1) = maxR n f + 1 := by
  induction n with
  | zero => omega
  | succ n ih =>
    show max (maxR n fun i => f i + 1) (f n + 1) = max (maxR n f) (f n) + 1
    by_cases q : 1 ≤ n
    · rw [ih q]; omega
    · obtain rfl : n = 0 := by omega
      show max 0 (f 0 + 1) = max 0 (f 0) + 1
      omega
theorem maxR_congr {n : Nat} {f g : Nat → Nat} (h : ∀ i, i < n → f i = g i) : maxR n f = maxR n g := by
  induction n with
  | zero => rfl
  | succ n ih =>
    show max (maxR n f) (f n) = max (maxR n g) (g n)
    rw [ih fun i hi => h i (by omega), h n (by omega)]
section LONGEST
variable {d : Nat} {h : AH} {s : Nat} {G : Gr} {D : Nat → Nat → Nat}
theorem clongest_spec (hS : SkAt h s G) (hG : G.wf) (hd : ∀ a, deg G a ≤ 4) (hD : Far G D) (hDb : ∀ a b, a < G.1 → b < G.1 → D a b ≤ 1000) : wp (d + 18) 237 (0, ent 7 [vR (some s)], [], h) (fun r h' => r = .inl (some (vI ((lngG G D : Nat) : Int))) ∧ ext G.1 (16 * G.1) h h') := by
  have hn := hG.2.1
  have hn1 := hG.1
  obtain ⟨F, hF⟩ : ∃ F : Nat → Nat, ∀ c, F c = maxR G.1 fun v => D c v + 1 := ⟨_, fun _ => rfl⟩
  have hFb : ∀ c, c < G.1 → F c ≤ 1001 := fun c hc => by rw [hF]; exact maxR_le fun i hi => by have := hDb c i hc hi; omega
  have hMb : ∀ c, c ≤ G.1 → maxR c F ≤ 1001 := fun c hc => maxR_le fun i hi => hFb i (by omega)
  have hall : maxR G.1 F = lngG G D := by
    unfold lngG
    rw [← maxR_succ hn1]
    refine maxR_congr fun c hc => ?_
    rw [hF]
    exact maxR_succ hn1
  have outer : ∀ (j c : Nat) (H : AH) (x3 x4 x5 x6 : Option AV), j + c = G.1 → ext c (16 * c) h H → wp (d + 18) 237 (4, [some (vR (some s)), some (vI ((maxR c F : Nat) : Int)), some (vI ((c : Nat) : Int)), x3, x4, x5, x6], [], H) (fun r h' => r = .inl (some (vI ((lngG G D : Nat) : Int))) ∧ ext G.1 (16 * G.1) h h') := by
    intro j
    induction j with
    | zero =>
      intro c H x3 x4 x5 x6 hj he
      obtain rfl : c = G.1 := by omega
      have hS' := hS.mono he
      rw [← hall]
      refine wp.go [4] 20 fun W C hW hC => ?_
      refine ⟨_, _, _, _, hS'.2.1, rfl, rfl, ?_⟩
      refine ⟨fun _ => ?_, fun q => absurd q (by omega)⟩
      exact ⟨rfl, he⟩
    | succ j ih =>
      intro c H x3 x4 x5 x6 hj he
      have hc : c < G.1 := by omega
      have hS' := hS.mono he
      refine wp.go [4, 25] 40 fun W C hW hC => ?_
      refine ⟨_, _, _, _, hS'.2.1, rfl, rfl, ?_⟩
      refine ⟨fun q => absurd q (by omega), fun _ => ?_⟩
      refine ⟨_, _, _, hS'.2.1, rfl, ?_⟩
      refine hC _ _ _ (use (wpd.up (by omega) (far_spec (d := 0) hS' hG hd hD hc)) ?_)
      rintro _ H2 ⟨rfl, e2, z2, X, y1, y2, y3⟩
      have inner : ∀ (i v : Nat) (x6 : Option AV), i + v = G.1 → wp (d + 18) 237 (25, [some (vR (some s)), some (vI ((max (maxR c F) (maxR v fun v => D c v + 1) : Nat) : Int)), some (vI ((c : Nat) : Int)), some (vR (some H.sz)), some (vI ((G.1 : Nat) : Int)), some (vI ((v : Nat) : Int)), x6], [], H2) (fun r h' => r = .inl (some (vI ((lngG G D : Nat) : Int))) ∧ ext G.1 (16 * G.1) h h') := by
        intro i
        induction i with
        | zero =>
          intro v x6 hi
          obtain rfl : v = G.1 := by omega
          refine wp.go [25, 4] 20 fun W C hW hC => ?_
          refine ⟨fun _ => ?_, fun q => absurd q (by omega)⟩
          (conv => whnf); simp (disch := omega) only [iadd_eq, isub_eq, imul_eq]
          have := ih (c + 1) H2 (some (vR (some H.sz))) (some (vI ((G.1 : Nat) : Int))) (some (vI ((G.1 : Nat) : Int))) x6 (by omega) ((he.trans e2).more (by omega) (by omega))
          rw [show maxR (c + 1) F = max (maxR c F) (maxR G.1 fun v => D c v + 1) by rw [← hF]; rfl] at this
          exact hW _ this
        | succ i ihi =>
          intro v x6 hi
          have hb1 := hMb c (by omega)
          have hb2 : (maxR v fun v => D c v + 1) ≤ 1001 := maxR_le fun i hi => by have := hDb c i hc (by omega); omega
          have hb3 := hDb c v hc (by omega)
          refine wp.go [25, 4] 30 fun W C hW hC => ?_
          refine ⟨fun q => absurd q (by omega), fun _ => ?_⟩
          refine ⟨_, _, _, y1, rfl, by omega, gt_at v (by omega) (by omega), ?_⟩
          rw [y3 v (by omega)]
          conv => whnf
          rw [iadd_eq (by omega)]
          refine hC _ _ _ (useE (wpd.up (by omega) (max_spec (d := 0))) ?_)
          (conv => whnf); simp (disch := omega) only [iadd_eq, isub_eq, imul_eq]
          have := ihi (v + 1) (some (vI ((D c v : Nat) : Int))) (by omega)
          rw [show ((max (maxR c F) (maxR (v + 1) fun v => D c v + 1) : Nat) : Int) = max ((max (maxR c F) (maxR v fun v => D c v + 1) : Nat) : Int) (((D c v : Nat) : Int) + 1) by
            show ((max (maxR c F) (max (maxR v fun v => D c v + 1) (D c v + 1)) : Nat) : Int) = _
            omega] at this
          exact hW _ this
      have key := inner G.1 0 x6 (by omega)
      rw [show max (maxR c F) (maxR 0 fun v => D c v + 1) = maxR c F from Nat.max_eq_left (Nat.zero_le _)] at key
      refine ⟨_, Or.inl ⟨_, _, y1, by decide, rfl⟩, ?_⟩
      rw [y2]
      exact hW _ key
  refine wp.go [4] 10 fun W C hW hC => ?_
  exact hW _ (outer G.1 0 h none none none none (by omega) ext.refl)
end LONGEST
/-! like branches -/
theorem ins_perm (b : Tr) : ∀ l : List Tr, (insT b l).Perm (b :: l)
  | [] => List.Perm.refl _
  | a :: l => by
    unfold insT
    split
    · exact List.Perm.refl _
    · exact (List.Perm.cons a (ins_perm b l)).trans (List.Perm.swap b a l)
theorem srt_permL (l : List Tr) : (srtT l).Perm l := srt_all (fun l m => m.Perm l) (List.Perm.refl _) (fun l m b k => (ins_perm b m).trans ((List.Perm.cons b k).trans (List.perm_append_singleton b l).symm)) l
theorem difL_nodup : ∀ (l : List Tr), (∀ x, x ∈ l → okT0 x) → sortedT l → (difL l = true ↔ l.Nodup)
  | [], _, _ => by simp [difL]
  | [a], _, _ => by simp [difL]
  | a :: b :: l, ho, hs => by
    have ih := difL_nodup (b :: l) (fun x hx => ho x (List.mem_cons_of_mem _ hx)) hs.2
    show (!eqT a b && difL (b :: l)) = true ↔ _
    rw [Bool.and_eq_true, ih]
    have hoa := ho a List.mem_cons_self
    have hob := ho b (List.mem_cons_of_mem _ List.mem_cons_self)
    have : (!eqT a b) = true ↔ a ∉ b :: l := by
      constructor
      · intro h1 h2
        have hne : ¬ eqT a b = true := by intro w; rw [w] at h1; cases h1
        apply hne
        rcases List.mem_cons.mp h2 with h2 | h2
        · rw [h2]; exact eqT_self b
        · have c1 := hs.1 b List.mem_cons_self
          have c2 := hs.2.1 a h2
          have n := cmpT_neg a b
          unfold eqT
          exact decide_eq_true (by omega)
      · intro h1
        rw [eqT_ff hoa hob (fun w => h1 (by rw [w]; exact List.mem_cons_self))]
        rfl
    rw [this]
    exact List.nodup_cons.symm
theorem sum_two {f : Nat → Nat} : ∀ {l : List Nat} {i k x y : Nat}, l[i]? = some x → l[k]? = some y → k < i → f x + f y ≤ (l.map f).sum
  | [], i, k, x, y, h, _, _ => by simp at h
  | a :: l, i, k, x, y, h1, h2, hk => by
    cases i with
    | zero => omega
    | succ i =>
      rw [List.getElem?_cons_succ] at h1
      rw [List.map_cons, List.sum_cons]
      cases k with
      | zero =>
        cases h2
        have := sum_mem (g := f) (List.mem_of_getElem? h1)
        omega
      | succ k =>
        rw [List.getElem?_cons_succ] at h2
        have := sum_two (f := f) h1 h2 (by omega)
        omega
def tri : Nat → Nat
  | 0 => 0
  | i + 1 => tri i + i
theorem tri_le : ∀ {i j : Nat}, i ≤ j → tri i ≤ tri j := by
  intro i j h
  induction h with
  | refl => exact Nat.le_refl _
  | step _ ih => exact Nat.le_trans ih (Nat.le_add_right _ _)
/-- how many pairs isAsymmetric looks at, at most -/
def asC (n : Nat) : Nat := if n < 3 then 0 else tri n
section ASYM
variable {d : Nat} {h : AH} {s : Nat} {G : Gr} {D : Nat → Nat → Nat}
theorem casy_spec (hS : SkAt h s G) (hG : G.wf) (hd : ∀ a, deg G a ≤ 4) (hD : Far G D) {c : Nat} (hc : c < G.1) : wp (d + 40) 240 (0, ent 4 [vR (some s), vI ((c : Nat) : Int)], [], h) (fun r h' => r = .inl (some (vI (z01 (asyT (TT G 16 c))))) ∧ ext (asC (deg G c) * (2 * (G.1 - 1))) (asC (deg G c) * (10 * (G.1 - 1))) h h') := by
  have hn := hG.2.1
  have hdc := hd c
  have hkl : (kidsT (TT G 16 c)).length = deg G c := by rw [kids_len hG hD (Or.inr rfl), ch_root hG]; rfl
  have hroot := root_eq hG hD hc
  rw [ch_root hG] at hroot
  have hoks : ∀ x, x ∈ (nb G c).map (TT G c) → okT0 x := by
    intro x hx
    obtain ⟨e, -, rfl⟩ := List.mem_map.mp hx
    exact TT_ok G c e
  have hdif : difL (kidsT (TT G 16 c)) = true ↔ ((nb G c).map (TT G c)).Nodup := by
    rw [TT_kids hG hD (Or.inr rfl), ch_root hG, difL_nodup _ (fun x hx => hoks x ((srt_mem _).mp hx)) (srt_sorted _)]
    exact (srt_permL _).nodup_iff
  by_cases h3 : deg G c < 3
  · have ha : asyT (TT G 16 c) = false := by
      unfold asyT
      rw [hkl, decide_eq_false (by omega)]
      rfl
    have hz : asC (deg G c) = 0 := if_pos h3
    rw [ha, hz, Nat.zero_mul, Nat.zero_mul]
    obtain ⟨k1, k2, k3, ⟨W, k4, k5, k6⟩, k7⟩ := hS
    refine wp.go [] 20 fun W C hW hC => ?_
    refine ⟨_, _, _, _, k2, rfl, rfl, ?_⟩
    refine ⟨_, _, _, k4, rfl, by omega, gt_at c (by omega) (by omega), ?_⟩
    rw [k6 c hc]
    have q0 : ((deg G c : Nat) : Int) < 3 := by omega
    refine ⟨fun q => absurd q (by show ¬ (3 : Int) ≤ ((deg G c : Nat) : Int); omega), fun _ => ?_⟩
    exact ⟨Or.inl rfl, rfl, ext.refl⟩
  · have hz : asC (deg G c) = tri (deg G c) := if_neg h3
    rw [hz]
    have hasy : asyT (TT G 16 c) = true ↔ ((nb G c).map (TT G c)).Nodup := by
      unfold asyT
      rw [hkl, decide_eq_true (by omega), Bool.true_and]
      exact hdif
    generalize hA2 : 2 * (G.1 - 1) = A2
    generalize hA10 : 10 * (G.1 - 1) = A10
    have outer : ∀ (j i : Nat) (H : AH) (x3 : Option AV), j + i = deg G c → ext (tri i * A2) (tri i * A10) h H → (∀ a b x y, a < b → b < i → (nb G c)[a]? = some x → (nb G c)[b]? = some y → TT G c x ≠ TT G c y) → wp (d + 40) 240 (14, [some (vR (some s)), some (vI ((c : Nat) : Int)), some (vI ((i : Nat) : Int)), x3], [], H) (fun r h' => r = .inl (some (vI (z01 (asyT (TT G 16 c))))) ∧ ext (tri (deg G c) * A2) (tri (deg G c) * A10) h h') := by
      intro j
      induction j with
      | zero =>
        intro i H x3 hj he hne
        obtain rfl : i = deg G c := by omega
        obtain ⟨k1, k2, k3, ⟨W, k4, k5, k6⟩, k7⟩ := hS.mono he
        have ha : asyT (TT G 16 c) = true := by
          rw [hasy, List.nodup_iff_pairwise_ne, List.pairwise_iff_getElem]
          intro a b hla hlb hab
          rw [List.getElem_map, List.getElem_map]
          rw [List.length_map] at hla hlb
          exact hne a b _ _ hab hlb (List.getElem?_eq_getElem hla) (List.getElem?_eq_getElem hlb)
        rw [ha]
        refine wp.go [14, 26] 20 fun W C hW hC => ?_
        refine ⟨_, _, _, _, k2, rfl, rfl, ?_⟩
        refine ⟨_, _, _, k4, rfl, by omega, gt_at c (by omega) (by omega), ?_⟩
        rw [k6 c hc]
        refine ⟨fun _ => ?_, fun q => absurd q (by omega)⟩
        exact ⟨Or.inr rfl, rfl, he⟩
      | succ j ih =>
        intro i H x3 hj he hne
        have hil : i < (nb G c).length := by show i < deg G c; omega
        have hgi := List.getElem?_eq_getElem hil
        have hci : G.2 c (nb G c)[i] = true := (nb_mem hG).mp (List.getElem_mem hil)
        generalize (nb G c)[i] = ei at hgi hci
        have inner : ∀ (m k : Nat) (H : AH), m + k = i → ext ((tri i + k) * A2) ((tri i + k) * A10) h H → (∀ a x, a < k → (nb G c)[a]? = some x → TT G c x ≠ TT G c ei) → wp (d + 40) 240 (26, [some (vR (some s)), some (vI ((c : Nat) : Int)), some (vI ((i : Nat) : Int)), some (vI ((k : Nat) : Int))], [], H) (fun r h' => r = .inl (some (vI (z01 (asyT (TT G 16 c))))) ∧ ext (tri (deg G c) * A2) (tri (deg G c) * A10) h h') := by
          intro m
          induction m with
          | zero =>
            intro k H hm he hne2
            obtain rfl : k = i := by omega
            refine wp.go [14, 26] 20 fun W C hW hC => ?_
            refine ⟨fun _ => ?_, fun q => absurd q (by omega)⟩
            (conv => whnf); simp (disch := omega) only [iadd_eq, isub_eq, imul_eq]
            refine hW _ (ih (k + 1) H _ (by omega) he fun a b x y hab hb h1 h2 => ?_)
            by_cases w : b = k
            · subst w
              rw [hgi] at h2
              cases h2
              exact hne2 a x hab h1
            · exact hne a b x y hab (by omega) h1 h2
          | succ m ihm =>
            intro k H hm he hne2
            have hkl2 : k < (nb G c).length := by omega
            have hgk := List.getElem?_eq_getElem hkl2
            have hck : G.2 c (nb G c)[k] = true := (nb_mem hG).mp (List.getElem_mem hkl2)
            generalize (nb G c)[k] = ek at hgk hck
            have hS' := hS.mono he
            obtain ⟨k1, k2, k3, ⟨W, k4, k5, k6⟩, k7⟩ := id hS'
            obtain ⟨X, x1, x2, x3⟩ := k7 c (by omega)
            have x3 := x3 hc
            have hxi := x3 i _ hgi
            have hxk := x3 k _ hgk
            have hei := (hG.2.2 _ _ hci).2.1
            have hek := (hG.2.2 _ _ hck).2.1
            have hpair := sum_two (f := bsz G D c) hgi hgk (by omega)
            have hb1 : bszF G D c ei = bsz G D c ei := (bsz_eq hG hD hci).symm
            have hb2 : bszF G D c ek = bsz G D c ek := (bsz_eq hG hD hck).symm
            have call := branch_spec (d := 0) hG hd hD 16 c ei H hS' (by omega) (Or.inl hci) hei
            rw [show frI c = ((c : Nat) : Int) from if_neg (by omega), hb1] at call
            refine wp.go [14, 26] 60 fun W C hW hC => ?_
            refine ⟨fun q => absurd q (by omega), fun _ => ?_⟩
            refine ⟨_, _, _, _, k2, rfl, rfl, ?_⟩
            refine ⟨_, _, _, k3, by decide, by omega, by rw [Int.toNat_natCast]; exact row_ref (by omega), ?_⟩
            refine ⟨_, _, _, x1, rfl, by omega, gt_at i (by omega) (by omega), ?_⟩
            rw [hxi]
            refine ⟨_, _, _, k2, rfl, ?_⟩
            refine hC _ _ _ (use (wpd.up (by omega) (call)) ?_)
            rintro _ H1 ⟨p, rfl, e1, bp⟩
            have hS1 := hS'.mono e1
            obtain ⟨k1, k2, k3, ⟨W', k4, k5, k6⟩, k7⟩ := id hS1
            obtain ⟨X', x1', x2', x3'⟩ := k7 c (by omega)
            have hxk := x3' hc k _ hgk
            have call2 := branch_spec (d := 0) hG hd hD 16 c ek H1 hS1 (by omega) (Or.inl hck) hek
            rw [show frI c = ((c : Nat) : Int) from if_neg (by omega), hb2] at call2
            refine ⟨_, _, _, _, k2, rfl, rfl, ?_⟩
            refine ⟨_, _, _, k3, by decide, by omega, by rw [Int.toNat_natCast]; exact row_ref (by omega), ?_⟩
            refine ⟨_, _, _, x1', rfl, by omega, gt_at k (by omega) (by omega), ?_⟩
            rw [hxk]
            refine ⟨_, _, _, k2, rfl, ?_⟩
            refine hC _ _ _ (use (wpd.up (by omega) (call2)) ?_)
            rintro _ H2 ⟨q, rfl, e2, bq⟩
            have o1 : OAt H2 (some p) (some (TT G c ei)) := ⟨(bp.at fun v hv => hv.2).mono e2, TT_ok G c ei, by rw [TT_sz hG hD _ _ hci]; have := bsz_lt hG hD hci; omega⟩
            have o2 : OAt H2 (some q) (some (TT G c ek)) := ⟨bq.at fun v hv => hv.2, TT_ok G c ek, by rw [TT_sz hG hD _ _ hck]; have := bsz_lt hG hD hck; omega⟩
            have he2 : ext ((tri i + (k + 1)) * A2) ((tri i + (k + 1)) * A10) h H2 := by
              refine ((he.trans e1).trans e2).more ?_ ?_
              · rw [show tri i + (k + 1) = (tri i + k) + 1 by omega, Nat.add_mul (tri i + k) 1, Nat.one_mul]; omega
              · rw [show tri i + (k + 1) = (tri i + k) + 1 by omega, Nat.add_mul (tri i + k) 1, Nat.one_mul]; omega
            refine hC _ _ _ (useE (wpd.up (by omega) (like_spec (d := 0) o1 o2)) ?_)
            rw [show eqO (some (TT G c ei)) (some (TT G c ek)) = eqT (TT G c ei) (TT G c ek) from rfl]
            cases q : eqT (TT G c ei) (TT G c ek) with
            | true =>
              have heq := (eqT_iff (TT_ok G c ei) (TT_ok G c ek)).mp q
              refine ⟨fun w => absurd w (by decide), fun _ => ?_⟩
              have ha : asyT (TT G 16 c) = false := by
                cases w : asyT (TT G 16 c) with
                | false => rfl
                | true =>
                  exfalso
                  have := hasy.mp w
                  rw [List.nodup_iff_pairwise_ne, List.pairwise_iff_getElem] at this
                  have h4 := this k i (by rw [List.length_map]; exact hkl2) (by rw [List.length_map]; exact hil) (by omega)
                  rw [List.getElem_map, List.getElem_map] at h4
                  apply h4
                  have g1 : (nb G c)[k] = ek := by rw [List.getElem?_eq_getElem hkl2] at hgk; exact Option.some.inj hgk
                  have g2 : (nb G c)[i] = ei := by rw [List.getElem?_eq_getElem hil] at hgi; exact Option.some.inj hgi
                  rw [g1, g2, heq]
              rw [ha]
              have ht : tri i + (k + 1) ≤ tri (deg G c) := Nat.le_trans (show tri i + (k + 1) ≤ tri (i + 1) by show _ ≤ tri i + i; omega) (tri_le (by omega))
              exact ⟨Or.inl rfl, rfl, he2.more (Nat.mul_le_mul_right _ ht) (Nat.mul_le_mul_right _ ht)⟩
            | false =>
              refine ⟨fun _ => ?_, fun w => absurd rfl w⟩
              (conv => whnf); simp (disch := omega) only [iadd_eq, isub_eq, imul_eq]
              refine hW _ (ihm (k + 1) H2 (by omega) he2 fun a x ha2 hx2 => ?_)
              by_cases w : a = k
              · subst w
                rw [hgk] at hx2
                cases hx2
                intro w2
                rw [w2, eqT_self] at q
                cases q
              · exact hne2 a x (by omega) hx2
        obtain ⟨k1, k2, k3, ⟨W, k4, k5, k6⟩, k7⟩ := hS.mono he
        refine wp.go [14, 26] 20 fun W C hW hC => ?_
        refine ⟨_, _, _, _, k2, rfl, rfl, ?_⟩
        refine ⟨_, _, _, k4, rfl, by omega, gt_at c (by omega) (by omega), ?_⟩
        rw [k6 c hc]
        refine ⟨fun q => absurd q (by omega), fun _ => ?_⟩
        exact hW _ (inner i 0 H (by omega) he (fun a x ha => by omega))
    have key := outer (deg G c) 0 h none (by omega) (by rw [show tri 0 = 0 from rfl, Nat.zero_mul, Nat.zero_mul]; exact ext.refl) (fun a b x y _ hb => by omega)
    obtain ⟨k1, k2, k3, ⟨W, k4, k5, k6⟩, k7⟩ := hS
    refine wp.go [14] 20 fun W C hW hC => ?_
    refine ⟨_, _, _, _, k2, rfl, rfl, ?_⟩
    refine ⟨_, _, _, k4, rfl, by omega, gt_at c (by omega) (by omega), ?_⟩
    rw [k6 c hc]
    refine ⟨fun _ => ?_, fun q => absurd q (by show ¬ ((deg G c : Nat) : Int) < 3; omega)⟩
    exact hW _ key
theorem casym_spec (hS : SkAt h s G) (hG : G.wf) (hd : ∀ a, deg G a ≤ 4) (hD : Far G D) : wp (d + 41) 239 (0, ent 3 [vR (some s)], [], h) (fun r h' => r = .inl (some (vI ((asyG G : Nat) : Int))) ∧ ext (sumR G.1 fun c => asC (deg G c) * (2 * (G.1 - 1))) (sumR G.1 fun c => asC (deg G c) * (10 * (G.1 - 1))) h h') := by
  have hn := hG.2.1
  have loop : ∀ (j c : Nat) (H : AH), j + c = G.1 → ext (sumR c fun c => asC (deg G c) * (2 * (G.1 - 1))) (sumR c fun c => asC (deg G c) * (10 * (G.1 - 1))) h H → wp (d + 41) 239 (4, [some (vR (some s)), some (vI ((cnt c (fun c => asyT (TT G 16 c)) : Nat) : Int)), some (vI ((c : Nat) : Int))], [], H) (fun r h' => r = .inl (some (vI ((asyG G : Nat) : Int))) ∧ ext (sumR G.1 fun c => asC (deg G c) * (2 * (G.1 - 1))) (sumR G.1 fun c => asC (deg G c) * (10 * (G.1 - 1))) h h') := by
    intro j
    induction j with
    | zero =>
      intro c H hj he
      obtain rfl : c = G.1 := by omega
      have hS' := hS.mono he
      refine wp.go [4] 20 fun W C hW hC => ?_
      refine ⟨_, _, _, _, hS'.2.1, rfl, rfl, ?_⟩
      refine ⟨fun _ => ?_, fun q => absurd q (by omega)⟩
      exact ⟨rfl, he⟩
    | succ j ih =>
      intro c H hj he
      have hS' := hS.mono he
      have hcl := cnt_le (fun c => asyT (TT G 16 c)) c
      refine wp.go [4] 30 fun W C hW hC => ?_
      refine ⟨_, _, _, _, hS'.2.1, rfl, rfl, ?_⟩
      refine ⟨fun q => absurd q (by omega), fun _ => ?_⟩
      refine ⟨_, _, _, hS'.2.1, rfl, ?_⟩
      refine hC _ _ _ (use (wpd.up (by omega) (casy_spec (d := 0) hS' hG hd hD (show c < G.1 by omega))) ?_)
      rintro _ H2 ⟨rfl, e2⟩
      refine hC _ _ _ (useE (wpd.up (by omega) (bit_spec (d := 0))) ?_)
      have key := ih (c + 1) H2 (by omega) (he.trans e2)
      rw [show cnt (c + 1) (fun c => asyT (TT G 16 c)) = cnt c (fun c => asyT (TT G 16 c)) + b01 (asyT (TT G 16 c)) from rfl] at key
      cases q : asyT (TT G 16 c) with
      | true =>
        rw [q] at key
        rw [show z01 true = 1 from rfl]
        (conv => whnf); simp (disch := omega) only [iadd_eq, isub_eq, imul_eq]
        exact hW _ key
      | false =>
        rw [q] at key
        rw [show z01 false = 0 from rfl]
        (conv => whnf); simp (disch := omega) only [iadd_eq, isub_eq, imul_eq]
        rw [Int.add_zero]
        exact hW _ key
  refine wp.go [4] 10 fun W C hW hC => ?_
  exact hW _ (loop G.1 0 h (by omega) ext.refl)
end ASYM
