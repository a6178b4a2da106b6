/-! SEARCH TREES of the library: put, by codes as texts -/
abbrev txtC (L : List Nat) : Tx := L.map fun v => ((97 + v : Nat) : Int)
theorem dif_txt : ∀ {K L : List Nat}, K.length = L.length → difT (txtC K) (txtC L) = difC K L
  | [], [], _ => rfl
  | [], _ :: _, h => by simp at h
  | _ :: _, [], h => by simp at h
  | a :: k, b :: l, h => by
    show (if ((97 + a : Nat) : Int) = ((97 + b : Nat) : Int) then difT (txtC k) (txtC l) else ((97 + a : Nat) : Int) - ((97 + b : Nat) : Int)) = if a = b then difC k l else (a : Int) - (b : Int)
    by_cases q : a = b
    · rw [if_pos q, if_pos (by rw [q]), dif_txt (by simpa using h)]
    · rw [if_neg q, if_neg (by omega)]
      omega
theorem difC_anti : ∀ {K L : List Nat}, difC L K = - difC K L
  | [], [] => rfl
  | [], _ :: _ => rfl
  | _ :: _, [] => rfl
  | a :: k, b :: l => by
    show (if b = a then difC l k else (b : Int) - (a : Int)) = -(if a = b then difC k l else (a : Int) - (b : Int))
    by_cases q : a = b
    · rw [if_pos q, if_pos q.symm]; exact difC_anti
    · rw [if_neg q, if_neg (Ne.symm q)]; omega
theorem difC_trans : ∀ {K L N : List Nat}, K.length = L.length → L.length = N.length → difC K L < 0 → difC L N < 0 → difC K N < 0
  | [], [], [], _, _, h, _ => absurd h (by decide)
  | [], _ :: _, _, h, _, _, _ => by simp at h
  | _ :: _, [], _, h, _, _, _ => by simp at h
  | _ :: _, _ :: _, [], _, h, _, _ => by simp at h
  | [], [], _ :: _, _, h, _, _ => by simp at h
  | a :: k, b :: l, c :: n, h1, h2, h3, h4 => by
    have h3 : (if a = b then difC k l else (a : Int) - (b : Int)) < 0 := h3
    have h4 : (if b = c then difC l n else (b : Int) - (c : Int)) < 0 := h4
    show (if a = c then difC k n else (a : Int) - (c : Int)) < 0
    by_cases q1 : a = b
    · rw [if_pos q1] at h3
      by_cases q2 : b = c
      · rw [if_pos q2] at h4
        rw [if_pos (q1.trans q2)]
        exact difC_trans (by simpa using h1) (by simpa using h2) h3 h4
      · rw [if_neg q2] at h4
        rw [if_neg (by omega)]
        omega
    · rw [if_neg q1] at h3
      by_cases q2 : b = c
      · rw [if_neg (by omega)]
        omega
      · rw [if_neg q2] at h4
        rw [if_neg (by omega)]
        omega
theorem difC_zero : ∀ {K L : List Nat}, K.length = L.length → difC K L = 0 → K = L
  | [], [], _, _ => rfl
  | [], _ :: _, h, _ => by simp at h
  | _ :: _, [], h, _ => by simp at h
  | a :: k, b :: l, h1, h2 => by
    have h2 : (if a = b then difC k l else (a : Int) - (b : Int)) = 0 := h2
    by_cases q : a = b
    · rw [if_pos q] at h2
      rw [q, difC_zero (by simpa using h1) h2]
    · rw [if_neg q] at h2; omega
theorem txtC_ok {L : List Nat} (h : ∀ v, v ∈ L → v < 16) : okX (txtC L) := by
  intro x hx
  obtain ⟨v, hv, rfl⟩ := List.mem_map.mp hx
  have := h v hv
  omega
/-- a map of codes: entries in their order -/
def MapAt (h : AH) (tm : Nat) (A : List Nat) (K : Nat → Option Nat × Option Nat) (kc : Nat → List Nat) (n : Nat) (v1 : Option Nat) (mc : Int) : Prop := ∃ M C t, TM h tm (· ∈ A) K M C v1 (rtB t) A.length mc ∧ inT M [] t ∧ flB t = A ∧ c01 (· ∈ A) C ∧ (∀ ρ, rtB t = some ρ → C ρ = 1) ∧ (∀ a, a ∈ A → (kc a).length = n ∧ (∀ v, v ∈ kc a → v < 16) ∧ ∃ s, (K a).1 = some s ∧ s < h.sz ∧ StrV h s (txtC (kc a))) ∧ A.Pairwise (fun a b => difC (kc a) (kc b) < 0)
theorem in_dn {M : Mp} {c : Cx0} {d : Bool} {q : Nat} {s t : BT} (h : inT M c (cond d (ndB t q s) (ndB s q t))) : inT M ((d, q, s) :: c) t := by
  obtain ⟨h1, h2, h3⟩ := h
  cases d with
  | true =>
    have h1 : M q = (rtB t, rtB s, parB c) ∧ ShB M t (some q) ∧ ShB M s (some q) := h1
    refine ⟨h1.2.1, ⟨h1.1, h1.2.2, h2⟩, ?_⟩
    have h3 : (flLB c ++ ((flB t ++ q :: flB s) ++ flRB c)).Nodup := h3
    show (flLB c ++ (flB t ++ q :: (flB s ++ flRB c))).Nodup
    simpa using h3
  | false =>
    have h1 : M q = (rtB s, rtB t, parB c) ∧ ShB M s (some q) ∧ ShB M t (some q) := h1
    refine ⟨h1.2.2, ⟨h1.1, h1.2.1, h2⟩, ?_⟩
    have h3 : (flLB c ++ ((flB s ++ q :: flB t) ++ flRB c)).Nodup := h3
    show ((flLB c ++ (flB s ++ [q])) ++ (flB t ++ flRB c)).Nodup
    simpa using h3
section PUT
variable {d tm : Nat} {h : AH} {K : Nat → Option Nat × Option Nat} {v1 : Option Nat} {mc : Int} {A : List Nat} {kc : Nat → List Nat} {n u : Nat}
theorem entInit_spec {e : Nat} {k v p : Option Nat} {H : AH} (hF : H.F e = (15, [vR none, vR none, vR none, vR none, vR none, vI 0])) : wp (d + 1) 143 (0, ent 4 [vR (some e), vR k, vR v, vR p], [], H) (fun r h' => r = .inl none ∧ h' = H.setF e [vR k, vR v, vR none, vR none, vR p, vI 1]) := by
  refine wp.go [] 40 fun W C0 hW hC => ?_
  refine ⟨_, _, _, hF, rfl, (Nat.le_of_ble_eq_true rfl), Or.inr rfl, ?_⟩
  refine ⟨_, _, _, setF_at hF, rfl, (Nat.le_of_ble_eq_true rfl), ?_⟩
  rw [setF_setF]
  refine ⟨_, _, _, setF_at hF, rfl, (Nat.le_of_ble_eq_true rfl), ?_⟩
  rw [setF_setF]
  refine ⟨_, _, _, setF_at hF, rfl, (Nat.le_of_ble_eq_true rfl), ?_⟩
  rw [setF_setF]
  exact ⟨rfl, rfl⟩
/-- what put leaves: one entry more, the rest of the heap as it was -/
abbrev putEnd (h : AH) (tm : Nat) (A : List Nat) (K : Nat → Option Nat × Option Nat) (kc : Nat → List Nat) (n : Nat) (v1 : Option Nat) (ks vs : Nat) (L : List Nat) : AH → Prop := fun h' => ∃ A1 A2 mc', A = A1 ++ A2 ∧ MapAt h' tm (A1 ++ h.sz :: A2) (up K h.sz (some ks, some vs)) (up kc h.sz L) n v1 mc' ∧ h'.sz = h.sz + 1 ∧ h'.sl = h.sl + 6 ∧ h'.S = h.S ∧ h'.I = h.I ∧ h'.R = h.R ∧ ∀ a, a < h.sz → a ∉ A → a ≠ tm → h'.F a = h.F a
theorem addEntry_spec {c : Cx0} {M : Mp} {C : Nat → Int} {L : List Nat} {ks vs p : Nat} {dl : Bool} {s : BT} {c2 : Cx0} (hc : c = (dl, p, s) :: c2) (k : TM h tm (· ∈ A) K M C v1 (topB c none) A.length mc) (hi : inT M c nlB) (hA : flLB c ++ flRB c = A) (h01 : c01 (· ∈ A) C) (hr : ∀ ρ, topB c none = some ρ → C ρ = 1) (hlt : ∀ a, a ∈ A → a < h.sz) (htm : tm < h.sz)
    (hk : ∀ a, a ∈ A → (kc a).length = n ∧ (∀ v, v ∈ kc a → v < 16) ∧ ∃ s, (K a).1 = some s ∧ s < h.sz ∧ StrV h s (txtC (kc a))) (hp : A.Pairwise (fun a b => difC (kc a) (kc b) < 0)) (hL : L.length = n) (hL16 : ∀ v, v ∈ L → v < 16) (hks : StrV h ks (txtC L)) (hksz : ks < h.sz) (hlo : ∀ a, a ∈ flLB c → difC (kc a) L < 0) (hhi : ∀ a, a ∈ flRB c → difC L (kc a) < 0) (hl0 : A.length ≤ 1000) :
    wp (d + 4) 27 (0, ent 6 [vR (some tm), vR (some ks), vR (some vs), vR (some p), vI (z01 dl)], [], h) (fun r h' => r = .inl none ∧ putEnd h tm A K kc n v1 ks vs L h') := by
  have hpA : p ∈ A := by rw [← hA, hc]; cases dl <;> simp [flLB, flRB]
  have eA : ∀ a, a ∈ A → a ≠ h.sz := fun a ha w => by have := hlt a ha; omega
  obtain ⟨H1, e1⟩ : ∃ X, X = (h.newF 15 [vR none, vR none, vR none, vR none, vR none, vI 0]).setF h.sz [vR (some ks), vR (some vs), vR none, vR none, vR (some p), vI 1] := ⟨_, rfl⟩
  have F1e : H1.F h.sz = (15, [vR (some ks), vR (some vs), vR none, vR none, vR (some p), vI 1]) := by rw [e1]; exact setF_at newF_at
  have F1 : ∀ a, a ≠ h.sz → H1.F a = h.F a := fun a ha => by rw [e1, setF_ne ha, newF_ne ha]
  obtain ⟨m, hm⟩ : ∃ m, m = cond dl (some h.sz, (M p).2.1, (M p).2.2) ((M p).1, some h.sz, (M p).2.2) := ⟨_, rfl⟩
  -- all entries, the new one with them
  obtain ⟨A', hA'⟩ : ∃ A', A' = flLB c ++ h.sz :: flRB c := ⟨_, rfl⟩
  have memA : ∀ a, a ∈ A' ↔ a = h.sz ∨ a ∈ A := by
    intro a
    rw [hA', ← hA]
    simp only [List.mem_append, List.mem_cons]
    constructor <;> rintro (w | w | w) <;> simp [w]
  have k1 : TM H1 tm (· ∈ A') (up K h.sz (some ks, some vs)) (up M h.sz (none, none, some p)) (up C h.sz 1) v1 (topB c none) A.length mc := by
    refine ⟨fun a ha => ?_, (F1 tm (by omega)).trans k.2.1, fun w => ?_⟩
    · by_cases q : a = h.sz
      · rw [q, F1e]
        show _ = (15, [vR (up K h.sz (some ks, some vs) h.sz).1, vR (up K h.sz (some ks, some vs) h.sz).2, vR (up M h.sz (none, none, some p) h.sz).1, vR (up M h.sz (none, none, some p) h.sz).2.1, vR (up M h.sz (none, none, some p) h.sz).2.2, vI (up C h.sz 1 h.sz)])
        rw [up_eq, up_eq, up_eq]
      · have ha' : a ∈ A := by
          rcases (memA a).mp ha with w | w
          · exact absurd w q
          · exact w
        rw [F1 a q, k.1 a ha']
        show _ = (15, [vR (up K h.sz (some ks, some vs) a).1, vR (up K h.sz (some ks, some vs) a).2, vR (up M h.sz (none, none, some p) a).1, vR (up M h.sz (none, none, some p) a).2.1, vR (up M h.sz (none, none, some p) a).2.2, vI (up C h.sz 1 a)])
        rw [upn_ne _ _ q, upn_ne _ _ q, upn_ne _ _ q]
    · rcases (memA tm).mp w with q | q
      · omega
      · exact k.2.2 q
  have hpA' : p ∈ A' := (memA p).mpr (Or.inr hpA)
  have hpe : p ≠ h.sz := eA p hpA
  have k2 := k1.setM hpA' m
  have eMp : up M h.sz (none, none, some p) p = M p := upn_ne _ _ hpe
  obtain ⟨H2, e2⟩ : ∃ X, X = H1.setF p [vR (up K h.sz (some ks, some vs) p).1, vR (up K h.sz (some ks, some vs) p).2, vR m.1, vR m.2.1, vR m.2.2, vI (up C h.sz 1 p)] := ⟨_, rfl⟩
  rw [← e2] at k2
  have hi2 : inT (up (up M h.sz (none, none, some p)) p m) c (ndB nlB h.sz nlB) := by
    have hnd : (flLB c ++ ([] ++ flRB c)).Nodup := hi.2.2
    rw [List.nil_append] at hnd
    have hin : ∀ a, a ∈ flLB c ∨ a ∈ flRB c → a ∈ A := fun a ha => by rw [← hA]; simp only [List.mem_append]; exact ha
    refine ⟨⟨?_, trivial, trivial⟩, hi.2.1.re hnd (fun q dd s' r' hcc => ?_) (fun a ha hne => ?_), ?_⟩
    · rw [upn_ne _ _ (Ne.symm hpe), up_eq, hc]; rfl
    · rw [hc] at hcc
      cases hcc
      rw [up_eq, hm]
      rfl
    · have hap : a ≠ p := fun w => hne (by rw [hc, w]; rfl)
      rw [upn_ne _ _ hap, upn_ne _ _ (eA a (hin a ha))]
    · show (flLB c ++ ([h.sz] ++ flRB c)).Nodup
      have n1 := List.nodup_append.mp hnd
      refine List.nodup_append.mpr ⟨n1.1, List.nodup_cons.mpr ⟨fun w => eA _ (hin _ (Or.inr w)) rfl, n1.2.1⟩, fun a ha b hb => ?_⟩
      rcases List.mem_cons.mp hb with rfl | hb
      · exact eA a (hin a (Or.inl ha))
      · exact n1.2.2 a ha b hb
  have hcne : c ≠ [] := by rw [hc]; simp
  have htop : topB c none = topB c (some h.sz) := by rw [hc]; rfl
  rw [htop] at k2 hr
  have h01' : c01 (· ∈ A') (up C h.sz 1) := by
    intro a ha
    by_cases q : a = h.sz
    · rw [q, up_eq]; exact Or.inr rfl
    · rw [upn_ne _ _ q]
      rcases (memA a).mp ha with w | w
      · exact absurd w q
      · exact h01 a w
  have o2 : tmO (· ∈ A') tm H1 H2 := by rw [e2]; exact tmO.refl.setF (Or.inl hpA')
  have heA' : h.sz ∈ A' := (memA h.sz).mpr (Or.inl rfl)
  have k3 := k2.setC heA' 0
  have fl := fix_loop (d := d) (tm := tm) (h0 := H1) (K := up K h.sz (some ks, some vs)) (v1 := v1) (sz := A.length) (mc := mc) (A := A') c.length _ _ _ c nlB nlB h.sz none (Nat.le_refl _) k3 hi2 (by rw [hA']; rfl) (h01'.up (Or.inl rfl)) (o2.setF (Or.inl heA')) (fun _ ρ hρ => by
    obtain ⟨ρ', t1, t2⟩ := top_mem c (some h.sz) hcne
    rw [hρ] at t1
    cases t1
    have : ρ ≠ h.sz := eA ρ (by rw [← hA]; simp only [List.mem_append]; exact t2)
    rw [upn_ne _ _ this, upn_ne _ _ this]
    exact hr ρ hρ)
  have fx : wp (d + 2) 28 (0, ent 3 [vR (some tm), vR (some h.sz)], [], H2) (fixEnd H1 tm (up K h.sz (some ks, some vs)) v1 A.length mc A') := by
    refine wp.go [5] 10 fun W C0 hW hC => ?_
    refine ⟨_, _, _, k2.1 h.sz heA', rfl, (Nat.le_of_ble_eq_true rfl), Or.inl rfl, ?_⟩
    exact hW _ fl
  have hlen : A'.length = A.length + 1 := by rw [hA', ← hA]; simp; omega
  have tail : wp (d + 4) 27 (32, [some (vR (some tm)), some (vR (some ks)), some (vR (some vs)), some (vR (some p)), some (vI (z01 dl)), some (vR (some h.sz))], [], H2) (fun r h' => r = .inl none ∧ putEnd h tm A K kc n v1 ks vs L h') := by
    refine wp.go [] 40 fun W C0 hW hC => ?_
    refine ⟨_, _, _, k2.2.1, rfl, ?_⟩
    refine hC _ _ _ (use (wpd.up (by omega) fx) ?_)
    rintro _ H4 ⟨rfl, M', C', t', q1, q2, q3, q4, q5, q6⟩
    refine ⟨_, _, _, _, q1.2.1, rfl, rfl, ?_⟩
    refine ⟨_, _, _, q1.2.1, rfl, (Nat.le_of_ble_eq_true rfl), ?_⟩
    rw [iadd_eq (x := ((A.length : Nat) : Int)) (y := 1) (by omega), show ((A.length : Nat) : Int) + 1 = ((A'.length : Nat) : Int) by omega]
    have T1 := q1.setT v1 (rtB t') A'.length mc
    refine ⟨_, _, _, _, T1.2.1, rfl, rfl, ?_⟩
    refine ⟨_, _, _, T1.2.1, rfl, (Nat.le_of_ble_eq_true rfl), ?_⟩
    have T2 := T1.setT v1 (rtB t') A'.length (iadd mc 1)
    obtain ⟨w1, w2, w3, w4, w5, w6⟩ := q6
    have HF : ∀ a, a < h.sz → a ∉ A → a ≠ tm → ((H4.setF tm (tmL v1 (rtB t') A'.length mc)).setF tm (tmL v1 (rtB t') A'.length (iadd mc 1))).F a = h.F a := by
      intro a a1 a2 a3
      rw [setF_ne a3, setF_ne a3, w6 a (fun w => by rcases (memA a).mp w with q | q; omega; exact a2 q) a3, F1 a (by omega)]
    refine ⟨rfl, flLB c, flRB c, iadd mc 1, hA.symm, ⟨M', C', t', ?_, q2, ?_, ?_, q5, fun a ha => ?_, ?_⟩, ?_, ?_, ?_, ?_, ?_, HF⟩
    · rw [← hA']; exact T2
    · rw [← hA']; exact q3
    · rw [← hA']; exact q4
    · rw [← hA'] at ha
      rcases (memA a).mp ha with q | q
      · rw [q, up_eq, up_eq]
        refine ⟨hL, hL16, ks, rfl, by show ks < H4.sz; rw [w1, e1]; exact Nat.lt_succ_of_lt hksz, ?_⟩
        obtain ⟨v', x1, x2, b1, b2⟩ := hks
        have n1 : ks ∉ A := fun w => by have := k.1 ks w; rw [b1] at this; cases this
        have n2 : ks ≠ tm := fun w => by have := k.2.1; rw [← w, b1] at this; cases this
        exact ⟨v', x1, x2, (HF ks hksz n1 n2).trans b1, by show H4.I v' = _; rw [w4, e1]; exact b2⟩
      · have hae := eA a q
        rw [upn_ne _ _ hae, upn_ne _ _ hae]
        obtain ⟨g1, g2, s', g3, g4, v', x1, x2, b1, b2⟩ := hk a q
        have n1 : s' ∉ A := fun w => by have := k.1 s' w; rw [b1] at this; cases this
        have n2 : s' ≠ tm := fun w => by have := k.2.1; rw [← w, b1] at this; cases this
        exact ⟨g1, g2, s', g3, by show s' < H4.sz; rw [w1, e1]; exact Nat.lt_succ_of_lt g4, v', x1, x2, (HF s' g4 n1 n2).trans b1, by show H4.I v' = _; rw [w4, e1]; exact b2⟩
    · rw [← hA] at hp
      have p1 := List.pairwise_append.mp hp
      have un : ∀ a, a ∈ flLB c ∨ a ∈ flRB c → up kc h.sz L a = kc a := fun a ha => upn_ne _ _ (eA a (by rw [← hA]; simp only [List.mem_append]; exact ha))
      refine List.pairwise_append.mpr ⟨p1.1.imp_of_mem (fun {a b} ha hb hab => by rw [un a (Or.inl ha), un b (Or.inl hb)]; exact hab), List.pairwise_cons.mpr ⟨fun b hb => ?_, p1.2.1.imp_of_mem (fun {a b} ha hb hab => by rw [un a (Or.inr ha), un b (Or.inr hb)]; exact hab)⟩, fun a ha b hb => ?_⟩
      · rw [up_eq, un b (Or.inr hb)]; exact hhi b hb
      · rcases List.mem_cons.mp hb with q | q
        · rw [q, up_eq, un a (Or.inl ha)]; exact hlo a ha
        · rw [un a (Or.inl ha), un b (Or.inr q)]; exact p1.2.2 a ha b q
    · show H4.sz = _; rw [w1, e1]; rfl
    · show H4.sl = _; rw [w2, e1]; rfl
    · show H4.S = _; rw [w3, e1]; rfl
    · show H4.I = _; rw [w4, e1]; rfl
    · show H4.R = _; rw [w5, e1]; rfl
  have hpm : up M h.sz (none, none, some p) p = M p := eMp
  cases dl with
  | true =>
    refine wp.go [32] 40 fun W C0 hW hC => ?_
    refine hC _ _ _ (useE (wpd.up (by omega) (entInit_spec (d := 0) newF_at)) ?_)
    rw [← e1]
    refine ⟨fun w => absurd w (by decide), fun _ => ?_⟩
    refine ⟨_, _, _, k1.1 p hpA', rfl, (Nat.le_of_ble_eq_true rfl), ?_⟩
    rw [show (entF (up K h.sz (some ks, some vs)) (up M h.sz (none, none, some p)) (up C h.sz 1) p).set 2 (vR (some h.sz)) = [vR (up K h.sz (some ks, some vs) p).1, vR (up K h.sz (some ks, some vs) p).2, vR m.1, vR m.2.1, vR m.2.2, vI (up C h.sz 1 p)] by rw [hm]; show [_, _, _, _, _, _] = _; rw [eMp]; rfl, ← e2]
    exact hW _ tail
  | false =>
    refine wp.go [32] 40 fun W C0 hW hC => ?_
    refine hC _ _ _ (useE (wpd.up (by omega) (entInit_spec (d := 0) newF_at)) ?_)
    rw [← e1]
    refine ⟨fun _ => ?_, fun w => absurd rfl w⟩
    refine ⟨_, _, _, k1.1 p hpA', rfl, (Nat.le_of_ble_eq_true rfl), ?_⟩
    rw [show (entF (up K h.sz (some ks, some vs)) (up M h.sz (none, none, some p)) (up C h.sz 1) p).set 3 (vR (some h.sz)) = [vR (up K h.sz (some ks, some vs) p).1, vR (up K h.sz (some ks, some vs) p).2, vR m.1, vR m.2.1, vR m.2.2, vI (up C h.sz 1 p)] by rw [hm]; show [_, _, _, _, _, _] = _; rw [eMp]; rfl, ← e2]
    exact hW _ tail
/-- put of a code that is not there -/
theorem put_spec {L : List Nat} {ks vs : Nat} (hS : h.S 7 = some u) (hU : h.F u = (228, [])) (hm : MapAt h tm A K kc n v1 mc) (hlt : ∀ a, a ∈ A → a < h.sz) (htm : tm < h.sz) (hL : L.length = n) (hL16 : ∀ v, v ∈ L → v < 16) (hks : StrV h ks (txtC L)) (hksz : ks < h.sz) (hn : n < 100) (hl0 : A.length ≤ 1000) (hnew : ∀ a, a ∈ A → kc a ≠ L) :
    wp (d + 14) 23 (0, ent 3 [vR (some tm), vR (some ks), vR (some vs)], [], h) (fun r h' => (∃ o, r = .inl (some (vR o))) ∧ putEnd h tm A K kc n v1 ks vs L h') := by
  obtain ⟨M, C, t, k, hi, hfl, h01, hr, hk, hp⟩ := hm
  have hok := txtC_ok hL16
  have hlen : (txtC L).length < 128 := by rw [List.length_map]; omega
  obtain ⟨kv, kw1, kw2, kF, kI⟩ := id hks
  -- nothing hangs there: the entry comes in
  have fin : ∀ (dl : Bool) (p : Nat) (s e : BT) (c2 : Cx0) (cmp : Int) (x4 : Option AV), inT M ((dl, p, s) :: c2) e → flB e = [] → rtB e = none → plB ((dl, p, s) :: c2) e = t → (∀ b, b ∈ flLB ((dl, p, s) :: c2) → difC (kc b) L < 0) → (∀ b, b ∈ flRB ((dl, p, s) :: c2) → difC L (kc b) < 0) → (dl = true ↔ cmp < 0) →
      wp (d + 13) 24 (201, [some (vR (some tm)), some (vR (some ks)), some (vR (some vs)), some (vI 1), x4, some (vI cmp), some (vR (some p)), some (vR none), some (vR (some ks)), none], [], h) (fun r h' => (∃ o, r = .inl (some (vR o))) ∧ putEnd h tm A K kc n v1 ks vs L h') := by
    intro dl p s e c2 cmp x4 hin he hre hpl hlo hhi hcmp
    have hroot : rtB t = topB ((dl, p, s) :: c2) none := by rw [← hpl, pl_rt, hre]
    have hA : flLB ((dl, p, s) :: c2) ++ flRB ((dl, p, s) :: c2) = A := by
      rw [← hfl, ← hpl, pl_fl, he]
      rfl
    have hin' : inT M ((dl, p, s) :: c2) nlB := by
      obtain ⟨i1, i2, i3⟩ := hin
      refine ⟨trivial, ?_, ?_⟩
      · rw [hre] at i2; exact i2
      · rw [he] at i3; exact i3
    rw [hroot] at k hr
    have call := addEntry_spec (d := 0) (kc := kc) (n := n) (L := L) (ks := ks) (vs := vs) (p := p) (dl := dl) (s := s) (c2 := c2) rfl k hin' hA h01 hr hlt htm hk hp hL hL16 hks hksz hlo hhi hl0
    cases dl with
    | true =>
      have hc : cmp < 0 := hcmp.mp rfl
      refine wp.go [] 40 fun W C0 hW hC => ?_
      refine ⟨fun w => absurd w (by omega), fun _ => ?_⟩
      refine ⟨_, _, _, k.2.1, rfl, ?_⟩
      refine hC _ _ _ (use (wpd.up (by omega) call) ?_)
      rintro _ h1 ⟨rfl, q⟩
      exact ⟨⟨none, rfl⟩, q⟩
    | false =>
      have hc : ¬ cmp < 0 := fun w => by have := hcmp.mpr w; cases this
      refine wp.go [] 40 fun W C0 hW hC => ?_
      refine ⟨fun _ => ?_, fun w => absurd w hc⟩
      refine ⟨_, _, _, k.2.1, rfl, ?_⟩
      refine hC _ _ _ (use (wpd.up (by omega) call) ?_)
      rintro _ h1 ⟨rfl, q⟩
      exact ⟨⟨none, rfl⟩, q⟩
  have loop : ∀ (f : Nat) (tl tr : BT) (a : Nat) (c : Cx0) (l5 : Option AV), (flB (ndB tl a tr)).length ≤ f → inT M c (ndB tl a tr) → plB c (ndB tl a tr) = t → (∀ b, b ∈ flLB c → difC (kc b) L < 0) → (∀ b, b ∈ flRB c → difC L (kc b) < 0) →
      wp (d + 13) 24 (127, [some (vR (some tm)), some (vR (some ks)), some (vR (some vs)), some (vI 1), some (vR (some a)), l5, some (vR (some a)), some (vR none), some (vR (some ks)), none], [], h) (fun r h' => (∃ o, r = .inl (some (vR o))) ∧ putEnd h tm A K kc n v1 ks vs L h') := by
    intro f
    induction f with
    | zero =>
      intro tl tr a c l5 hf
      have : (flB tl ++ a :: flB tr).length ≤ 0 := hf
      simp at this
    | succ f ih =>
      intro tl tr a c l5 hf hin hpl hlo hhi
      have hf : (flB tl ++ a :: flB tr).length ≤ f + 1 := hf
      rw [List.length_append, List.length_cons] at hf
      have hall : flLB c ++ ((flB tl ++ a :: flB tr) ++ flRB c) = A := by
        rw [← hfl, ← hpl, pl_fl]
        rfl
      have haA : a ∈ A := by rw [← hall]; simp
      obtain ⟨g1, g2, sa, g3, g4, g5⟩ := hk a haA
      have hp' := hp
      rw [← hall] at hp'
      have pp := (List.pairwise_append.mp (List.pairwise_append.mp hp').2.1).1
      have pp2 := List.pairwise_append.mp pp
      have pp3 := List.pairwise_cons.mp pp2.2.1
      have lenA : ∀ b, b ∈ flB tl ∨ b ∈ flB tr → (kc b).length = n := fun b hb => (hk b (by rw [← hall]; rcases hb with w | w <;> simp [w])).1
      have hM : M a = (rtB tl, rtB tr, parB c) := hin.1.1
      have oka := txtC_ok g2
      have hcmpv : difT (txtC L) (txtC (kc a)) = difC L (kc a) := dif_txt (by rw [hL, g1])
      have hne : difC L (kc a) ≠ 0 := fun w => hnew a haA (difC_zero (by rw [hL, g1]) w).symm
      -- down to the left, to the right
      have toL : difC L (kc a) < 0 → inT M ((true, a, tr) :: c) tl ∧ plB ((true, a, tr) :: c) tl = t ∧ (∀ b, b ∈ flLB ((true, a, tr) :: c) → difC (kc b) L < 0) ∧ ∀ b, b ∈ flRB ((true, a, tr) :: c) → difC L (kc b) < 0 := by
        intro hlt
        refine ⟨in_dn (d := true) hin, hpl, hlo, fun b hb => ?_⟩
        have hb : b ∈ a :: (flB tr ++ flRB c) := hb
        rcases List.mem_cons.mp hb with q | q
        · rw [q]; exact hlt
        · rcases List.mem_append.mp q with q | q
          · exact difC_trans (by rw [hL, g1]) (by rw [g1, lenA b (Or.inr q)]) hlt (pp3.1 b q)
          · exact hhi b q
      have toR : 0 < difC L (kc a) → inT M ((false, a, tl) :: c) tr ∧ plB ((false, a, tl) :: c) tr = t ∧ (∀ b, b ∈ flLB ((false, a, tl) :: c) → difC (kc b) L < 0) ∧ ∀ b, b ∈ flRB ((false, a, tl) :: c) → difC L (kc b) < 0 := by
        intro hgt
        have hgt : difC (kc a) L < 0 := by rw [difC_anti]; omega
        refine ⟨in_dn (d := false) hin, hpl, fun b hb => ?_, hhi⟩
        have hb : b ∈ flLB c ++ (flB tl ++ [a]) := hb
        rcases List.mem_append.mp hb with q | q
        · exact hlo b q
        · rcases List.mem_append.mp q with q | q
          · exact difC_trans (by rw [g1, lenA b (Or.inl q)]) (by rw [g1, hL]) (pp2.2.2 b q a List.mem_cons_self) hgt
          · rw [List.mem_singleton.mp q]; exact hgt
      refine wp.go [127, 201] 90 fun W C0 hW hC => ?_
      refine ⟨_, _, _, _, k.1 a haA, rfl, rfl, ?_⟩
      rw [g3]
      refine ⟨_, _, _, kF, rfl, ?_⟩
      refine hC _ _ _ (useE (wpd.up (by omega) (strCmp_spec (d := 0) hS hU hks g5 hok oka hlen (by rw [List.length_map, g1]; omega))) ?_)
      rw [hcmpv]
      refine ⟨fun c1 => ?_, fun c1 => ?_⟩
      · refine ⟨fun c2 => absurd c2 (by omega), fun c2 => ?_⟩
        obtain ⟨r1, r2, r3, r4⟩ := toR c2
        refine ⟨_, _, _, _, k.1 a haA, rfl, rfl, ?_⟩
        rw [show (M a).2.1 = rtB tr by rw [hM]]
        match tr, r1, r2, hf with
        | .var j, r1, r2, hf => exact hW _ (fin false a tl (.var j) c _ _ r1 rfl rfl r2 r3 r4 ⟨fun w => (by cases w), fun w => absurd w (by omega)⟩)
        | .op (.var _) _, r1, _, _ => exact r1.1.elim
        | .op (.op _ (.op _ _)) _, r1, _, _ => exact r1.1.elim
        | .op (.op l (.var b)) r, r1, r2, hf =>
          refine hW _ (ih l r b _ _ ?_ r1 r2 r3 r4)
          have : (flB (.op (.op l (.var b)) r)).length ≤ f := by omega
          exact this
      · obtain ⟨r1, r2, r3, r4⟩ := toL c1
        refine ⟨_, _, _, _, k.1 a haA, rfl, rfl, ?_⟩
        rw [show (M a).1 = rtB tl by rw [hM]]
        match tl, r1, r2, hf with
        | .var j, r1, r2, hf => exact hW _ (fin true a tr (.var j) c _ _ r1 rfl rfl r2 r3 r4 ⟨fun _ => c1, fun _ => rfl⟩)
        | .op (.var _) _, r1, _, _ => exact r1.1.elim
        | .op (.op _ (.op _ _)) _, r1, _, _ => exact r1.1.elim
        | .op (.op l (.var b)) r, r1, r2, hf =>
          refine hW _ (ih l r b _ _ ?_ r1 r2 r3 r4)
          have : (flB (.op (.op l (.var b)) r)).length ≤ f := by omega
          exact this
  have p2 : wp (d + 13) 24 (0, ent 10 [vR (some tm), vR (some ks), vR (some vs), vI 1], [], h) (fun r h' => (∃ o, r = .inl (some (vR o))) ∧ putEnd h tm A K kc n v1 ks vs L h') := by
    match t, k, hi, hfl, hr, loop with
    | .op (.var _) _, _, hi, _, _, _ => exact hi.1.elim
    | .op (.op _ (.op _ _)) _, _, hi, _, _, _ => exact hi.1.elim
    | .op (.op l (.var b)) r, k, hi, hfl, hr, loop =>
      refine wp.go [127] 60 fun W C0 hW hC => ?_
      refine ⟨_, _, _, _, k.2.1, rfl, rfl, ?_⟩
      refine ⟨_, _, _, _, k.2.1, rfl, rfl, ?_⟩
      have rn : wp (1) 164 (0, ent 1 [vR (some ks)], [], h) (fun r h' => r = .inl (some (vR (some ks))) ∧ h' = h) := by
        refine wp.go [] 10 fun W C0 hW hC => ?_
        exact ⟨rfl, rfl⟩
      refine hC _ _ _ (useE (wpd.up (by omega) (rn)) ?_)
      refine ⟨fun x hx => ?_, ?_⟩
      · cases hx
        exact ⟨(0, 14), rfl, by decide, by show (h.F ks).1 % 200 = 14; rw [kF]; rfl⟩
      exact hW _ (loop _ l r b [] none (Nat.le_refl _) hi rfl (fun b hb => by cases hb) (fun b hb => by cases hb))
    | .var j, k, hi, hfl, hr, _ =>
      have hA0 : A = [] := hfl.symm
      subst hA0
      have k2 : h.F tm = (12, tmL v1 none 0 mc) := k.2.1
      obtain ⟨H1, e1⟩ : ∃ X, X = (h.newF 15 [vR none, vR none, vR none, vR none, vR none, vI 0]).setF h.sz [vR (some ks), vR (some vs), vR none, vR none, vR none, vI 1] := ⟨_, rfl⟩
      have F1 : ∀ a, a ≠ h.sz → H1.F a = h.F a := fun a ha => by rw [e1, setF_ne ha, newF_ne ha]
      have F1t : H1.F tm = (12, tmL v1 none 0 mc) := (F1 tm (by omega)).trans k2
      have cmpS : wp (d + 11) 26 (0, ent 3 [vR (some tm), vR (some ks), vR (some ks)], [], h) (fun r h' => (∃ x, r = .inl (some (vI x))) ∧ h' = h) := by
        refine wp.go [] 40 fun W C0 hW hC => ?_
        refine ⟨_, _, _, _, k2, rfl, rfl, ?_⟩
        refine ⟨fun x hx => ?_, ?_⟩
        · cases hx
          exact ⟨(0, 14), rfl, by decide, by show (h.F ks).1 % 200 = 14; rw [kF]; rfl⟩
        refine ⟨_, _, _, kF, rfl, ?_⟩
        refine hC _ _ _ (useE (wpd.up (by omega) (strCmp_spec (d := 0) hS hU hks hks hok hok hlen hlen)) ?_)
        exact ⟨⟨_, rfl⟩, rfl⟩
      have emp : wp (d + 12) 25 (0, ent 3 [vR (some tm), vR (some ks), vR (some vs)], [], h) (fun r h' => r = .inl none ∧ putEnd h tm [] K kc n v1 ks vs L h') := by
        refine wp.go [] 60 fun W C0 hW hC => ?_
        refine ⟨_, _, _, k2, rfl, ?_⟩
        refine hC _ _ _ (use (wpd.up (by omega) cmpS) ?_)
        rintro _ hx ⟨⟨x, rfl⟩, he⟩
        rw [he]
        refine hC _ _ _ (useE (wpd.up (by omega) (entInit_spec (d := 0) newF_at)) ?_)
        rw [← e1]
        refine ⟨_, _, _, F1t, rfl, (Nat.le_of_ble_eq_true rfl), ?_⟩
        refine ⟨_, _, _, setF_at F1t, rfl, (Nat.le_of_ble_eq_true rfl), ?_⟩
        rw [setF_setF]
        refine ⟨_, _, _, _, setF_at F1t, rfl, rfl, ?_⟩
        refine ⟨_, _, _, setF_at F1t, rfl, (Nat.le_of_ble_eq_true rfl), ?_⟩
        rw [setF_setF]
        have HF : ∀ a, a < h.sz → a ≠ tm → ∀ y, (H1.setF tm y).F a = h.F a := fun a a1 a2 y => (setF_ne a2).trans (F1 a (by omega))
        have Fe : ∀ y, (H1.setF tm y).F h.sz = (15, [vR (some ks), vR (some vs), vR none, vR none, vR none, vI 1]) := fun y => by
          rw [setF_ne (by omega), e1]
          exact setF_at newF_at
        refine ⟨rfl, [], [], iadd mc 1, rfl, ⟨up (fun _ => (none, none, none)) h.sz (none, none, none), fun _ => 1, ndB nlB h.sz nlB, ⟨fun a ha => ?_, setF_at F1t, fun w => ?_⟩, ⟨⟨?_, trivial, trivial⟩, trivial, ?_⟩, rfl, fun _ _ => Or.inr rfl, fun _ _ => rfl, fun a ha => ?_, ?_⟩, ?_, ?_, ?_, ?_, ?_, fun a a1 _ a3 => HF a a1 a3 _⟩
        · rw [List.mem_singleton.mp ha, Fe]
          show _ = (15, [vR (up K h.sz (some ks, some vs) h.sz).1, vR (up K h.sz (some ks, some vs) h.sz).2, vR (up _ h.sz (none, none, none) h.sz).1, vR (up _ h.sz (none, none, none) h.sz).2.1, vR (up _ h.sz (none, none, none) h.sz).2.2, vI 1])
          rw [up_eq, up_eq]
        · have := List.mem_singleton.mp w
          omega
        · exact up_eq _ _ _
        · show ([] ++ ([h.sz] ++ [])).Nodup
          simp
        · have ha : a ∈ [h.sz] := ha
          rw [List.mem_singleton.mp ha, up_eq, up_eq]
          have n2 : ks ≠ tm := fun w => by rw [w, k2] at kF; cases kF
          exact ⟨hL, hL16, ks, rfl, by show ks < H1.sz; rw [e1]; exact Nat.lt_succ_of_lt hksz, kv, kw1, kw2, (HF ks hksz n2 _).trans kF, by show H1.I kv = _; rw [e1]; exact kI⟩
        · exact List.pairwise_singleton _ _
        · show H1.sz = _; rw [e1]; rfl
        · show H1.sl = _; rw [e1]; rfl
        · show H1.S = _; rw [e1]; rfl
        · show H1.I = _; rw [e1]; rfl
        · show H1.R = _; rw [e1]; rfl
      refine wp.go [] 60 fun W C0 hW hC => ?_
      refine ⟨_, _, _, _, k2, rfl, rfl, ?_⟩
      refine ⟨_, _, _, k2, rfl, ?_⟩
      refine hC _ _ _ (use (wpd.up (by omega) emp) ?_)
      rintro _ h1 ⟨rfl, q⟩
      exact ⟨⟨none, rfl⟩, q⟩
  refine wp.go [] 20 fun W C0 hW hC => ?_
  refine ⟨_, _, _, k.2.1, rfl, ?_⟩
  refine hC _ _ _ (use (wpd.up (by omega) p2) ?_)
  rintro _ h1 ⟨⟨o, rfl⟩, q⟩
  exact ⟨⟨o, rfl⟩, q⟩
end PUT
