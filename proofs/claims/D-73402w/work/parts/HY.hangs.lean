/-! NAMES of the component: what hangs at a carbon, in the order of its texts -/
theorem difT_anti : ∀ {K L : Tx}, difT L K = - difT K L
  | [], [] => rfl
  | [], b :: l => by
    show (((b :: l).length : Nat) : Int) = - (- (((b :: l).length : Nat) : Int))
    omega
  | a :: k, [] => rfl
  | a :: k, b :: l => by
    show (if b = a then difT l k else b - a) = - (if a = b then difT k l else a - b)
    by_cases q : a = b
    · rw [if_pos q, if_pos q.symm, difT_anti]
    · rw [if_neg q, if_neg (fun w => q w.symm)]
      omega
theorem insR_at (t : Tx) : ∀ (R1 R2 : List Tx), (∀ x, x ∈ R1 → difT t x < 0) → (∀ x, R2[0]? = some x → ¬ difT t x < 0) → insR t (R1 ++ R2) = R1 ++ t :: R2
  | [], [], _, _ => rfl
  | [], x :: r, _, h => by
    show insR t (x :: r) = t :: x :: r
    unfold insR
    rw [if_neg (h x rfl)]
  | x :: r, R2, h1, h2 => by
    show insR t (x :: (r ++ R2)) = x :: (r ++ t :: R2)
    unfold insR
    rw [if_pos (h1 x List.mem_cons_self), insR_at t r R2 (fun y hy => h1 y (List.mem_cons_of_mem _ hy)) h2]
/-- a text that was made since -/
abbrev tAt (lo : Nat) (h : AH) (p : Nat) (t : Tx) : Prop := StrAt (fun v => lo ≤ v ∧ v < h.sz) h p t
theorem tAt.V {lo p : Nat} {h : AH} {t : Tx} (k : tAt lo h p t) : StrV h p t := by
  obtain ⟨v, w1, w2, k1, k2, k3, k4⟩ := k
  exact ⟨v, w1, w2, k3, k4⟩
theorem tAt.same {lo p : Nat} {h h' : AH} {t : Tx} (k : tAt lo h p t) (hz : h.sz ≤ h'.sz) (hI : ∀ v, lo ≤ v → v < h.sz → (h.I v).1 = 3 → h'.I v = h.I v) (hF : ∀ v, lo ≤ v → v < h.sz → (h.F v).1 = 14 → h'.F v = h.F v) : tAt lo h' p t := by
  obtain ⟨v, w1, w2, ⟨k1, k1'⟩, ⟨k2, k2'⟩, k3, k4⟩ := k
  exact ⟨v, w1, w2, ⟨k1, by omega⟩, ⟨k2, by omega⟩, (hF p k1 k1' (by rw [k3])).trans k3, (hI v k2 k2' (by rw [k4])).trans k4⟩
theorem tAt.ext {lo p c s : Nat} {h h' : AH} {t : Tx} (k : tAt lo h p t) (e : ext c s h h') : tAt lo h' p t := k.same e.1 (fun v _ hv _ => (e.2.2.2.2.1 v hv).1) (fun v _ hv _ => (e.2.2.2.2.1 v hv).2.2)
/-- what the start holds for names: digits, brackets, the means to hold texts against one another -/
def nmC (h : AH) (N : Nat) : Prop := N ≤ h.sz ∧ (∃ zo, h.S 1 = some zo ∧ zo < N ∧ h.I zo = (203, digO)) ∧ (∃ zt, h.S 2 = some zt ∧ zt < N ∧ h.I zt = (203, digT)) ∧ (∃ u, h.S 7 = some u ∧ u < N ∧ h.F u = (228, [])) ∧ (∃ a v w1 w2, h.S 11 = some a ∧ a < N ∧ v < N ∧ h.F a = (214, [vR (some v), vI 0, w1, w2]) ∧ h.I v = (203, [40])) ∧ ∃ a v w1 w2, h.S 12 = some a ∧ a < N ∧ v < N ∧ h.F a = (214, [vR (some v), vI 0, w1, w2]) ∧ h.I v = (203, [41])
theorem nmC.to {h h' : AH} {N : Nat} (k : nmC h N) (hz : h.sz ≤ h'.sz) (hS : h'.S = h.S) (hv : ∀ v, v < N → h'.I v = h.I v ∧ h'.F v = h.F v) : nmC h' N := by
  obtain ⟨k0, ⟨zo, a1, a2, a3⟩, ⟨zt, b1, b2, b3⟩, ⟨u, c1, c2, c3⟩, ⟨a, v, w1, w2, d1, d2, d3, d4, d5⟩, a', v', w1', w2', e1, e2, e3, e4, e5⟩ := k
  exact ⟨by omega, ⟨zo, by rw [hS]; exact a1, a2, (hv zo a2).1.trans a3⟩, ⟨zt, by rw [hS]; exact b1, b2, (hv zt b2).1.trans b3⟩, ⟨u, by rw [hS]; exact c1, c2, (hv u c2).2.trans c3⟩, ⟨a, v, w1, w2, by rw [hS]; exact d1, d2, d3, (hv a d2).2.trans d4, (hv v d3).1.trans d5⟩, a', v', w1', w2', by rw [hS]; exact e1, e2, e3, (hv a' e2).2.trans e4, (hv v' e3).1.trans e5⟩
theorem nmC.ext {h h' : AH} {N c s : Nat} (k : nmC h N) (e : ext c s h h') : nmC h' N := k.to e.1 e.2.2.2.2.2 fun v hv => ⟨(e.2.2.2.2.1 v (by have := k.1; omega)).1, (e.2.2.2.2.1 v (by have := k.1; omega)).2.2⟩
theorem toSb_ext {s v c σ : Nat} {h h' : AH} (e : ext c σ h h') : sbF s v c σ h h' := ⟨e.1, e.2.1, e.2.2.1, e.2.2.2.1, e.2.2.2.2.2, fun a ha => ⟨fun _ => (e.2.2.2.2.1 a ha).1, (e.2.2.2.2.1 a ha).2.1, fun _ => (e.2.2.2.2.1 a ha).2.2⟩⟩
section HANGC
variable {d : Nat} {h : AH}
theorem strCmp2_spec {u s t : Nat} {a b : Tx} (hS : h.S 7 = some u) (hU : h.F u = (228, [])) (hA : StrV h s a) (hB : StrV h t b) (oa : okX a) (ob : okX b) (ha : a.length < 128) (hb : b.length < 128) : wp (d + 8) 67 (0, ent 5 [vR (some s), vR (some t)], [], h) (gives h (difT a b)) := by
  obtain ⟨v, w1, w2, a1, a2⟩ := hA
  obtain ⟨v', w1', w2', b1, b2⟩ := hB
  refine wp.go [] 40 fun W C0 hW hC => ?_
  refine ⟨_, _, _, _, a1, rfl, rfl, ?_⟩
  refine ⟨_, _, _, _, b1, rfl, rfl, ?_⟩
  refine ⟨_, _, _, a1, rfl, ?_⟩
  refine hC _ _ _ (useE (wpd.up (by omega) (coder_spec (d := 0) a1)) ?_)
  refine ⟨_, _, _, b1, rfl, ?_⟩
  refine hC _ _ _ (useE (wpd.up (by omega) (coder_spec (d := 0) b1)) ?_)
  refine ⟨fun w => absurd rfl w, fun _ => ?_⟩
  refine ⟨fun w => absurd rfl w, fun _ => ?_⟩
  refine hC _ _ _ (useE (wpd.up (by omega) (lat_spec (d := 0) hS hU a2 b2 oa ob ha hb)) ?_)
  exact ⟨rfl, rfl⟩
/-- a row of texts -/
def itsA (lo : Nat) (g : AH) (ι : Nat) (T : List Tx) : Prop := ∃ (refs : List (Option Nat)) (ps : List Nat), g.R ι = (5, refs) ∧ refs.length = 4 ∧ ps.length = T.length ∧ (∀ (j p : Nat), ps[j]? = some p → refs[j]? = some (some p)) ∧ ∀ (j p : Nat) (t : Tx), ps[j]? = some p → T[j]? = some t → tAt lo g p t
/-- only a row has changed -/
def onlyR (ι : Nat) (g H : AH) (refs : List (Option Nat)) : Prop := H.sz = g.sz ∧ H.sl = g.sl ∧ H.S = g.S ∧ H.I = g.I ∧ H.F = g.F ∧ (∀ v, v ≠ ι → H.R v = g.R v) ∧ H.R ι = (5, refs)
theorem onlyR.set {ι : Nat} {g H : AH} {refs refs' : List (Option Nat)} (k : onlyR ι g H refs) : onlyR ι g (H.setR ι refs') refs' := by
  obtain ⟨k1, k2, k3, k4, k5, k6, k7⟩ := k
  exact ⟨k1, k2, k3, k4, k5, fun v hv => (setR_ne hv).trans (k6 v hv), setR_at k7⟩
theorem onlyR.tA {lo ι p : Nat} {g H : AH} {refs : List (Option Nat)} {t : Tx} (k : onlyR ι g H refs) (q : tAt lo g p t) : tAt lo H p t := q.same (Nat.le_of_eq k.1.symm) (fun v _ _ _ => by rw [k.2.2.2.1]) (fun v _ _ _ => by rw [k.2.2.2.2.1])
variable {s sb c N : Nat} {G : Gr} {before next place : Int}
/-- a text finds its place in the row -/
theorem ins_text {lo ι n k o p : Nat} {g : AH} {ps : List Nat} {T : List Tx} {t : Tx} (hN : nmC g N) (hps : ps.length = T.length) (hn : T.length = n) (hn4 : n < 4) (hT : ∀ (j p : Nat) (t : Tx), ps[j]? = some p → T[j]? = some t → tAt lo g p t) (hok : ∀ x, x ∈ T → okX x ∧ x.length ≤ 96) (htk : okX t ∧ t.length ≤ 96) (hp : tAt lo g p t) {Q : Rs → AH → Prop}
    (hQ : ∀ (i : Nat) (H : AH) (refs : List (Option Nat)), i ≤ n → onlyR ι g H refs → refs.length = 4 → (∀ (j q : Nat), j < i → ps[j]? = some q → refs[j]? = some (some q)) → (∀ (j q : Nat), i ≤ j → ps[j]? = some q → refs[j + 1]? = some (some q)) → insR t T.reverse = (T.take i ++ t :: T.drop i).reverse →
      wp (d + 9) 245 (101, [some (vR (some s)), some (vR (some sb)), some (vI ((c : Nat) : Int)), some (vI before), some (vI next), some (vI place), some (vR (some ι)), some (vI ((n : Nat) : Int)), some (vI ((k : Nat) : Int)), some (vI ((o : Nat) : Int)), some (vR (some p)), some (vI ((i : Nat) : Int))], [], H) Q) :
    ∀ (i : Nat) (H : AH) (refs : List (Option Nat)), i ≤ n → onlyR ι g H refs → refs.length = 4 → (∀ (j q : Nat), j < i → ps[j]? = some q → refs[j]? = some (some q)) → (∀ (j q : Nat), i ≤ j → ps[j]? = some q → refs[j + 1]? = some (some q)) → (∀ x, x ∈ T.drop i → difT t x < 0) →
      wp (d + 9) 245 (63, [some (vR (some s)), some (vR (some sb)), some (vI ((c : Nat) : Int)), some (vI before), some (vI next), some (vI place), some (vR (some ι)), some (vI ((n : Nat) : Int)), some (vI ((k : Nat) : Int)), some (vI ((o : Nat) : Int)), some (vR (some p)), some (vI ((i : Nat) : Int))], [], H) Q := by
  obtain ⟨-, -, -, ⟨u, u1, u2, u3⟩, -⟩ := id hN
  have rev : ∀ i, insR t T.reverse = (T.take i ++ t :: T.drop i).reverse ↔ insR t ((T.drop i).reverse ++ (T.take i).reverse) = (T.drop i).reverse ++ t :: (T.take i).reverse := fun i => by
    rw [← List.reverse_append, List.take_append_drop]
    simp only [List.reverse_append, List.reverse_cons, List.append_assoc, List.singleton_append]
  intro i
  induction i with
  | zero =>
    intro H refs hi hR hl h1 h2 hd
    have hr := (rev 0).mpr (insR_at t _ _ (fun x hx => hd x (List.mem_reverse.mp hx)) (fun x hx => by simp at hx))
    refine wp.go [63, 101] 20 fun W C0 hW hC => ?_
    refine ⟨fun _ => ?_, fun c => absurd c (by omega)⟩
    exact hW _ (hQ 0 H refs hi hR hl h1 h2 hr)
  | succ i ih =>
    intro H refs hi hR hl h1 h2 hd
    have hil : i < ps.length := by omega
    have hiT : i < T.length := by omega
    have hpi := List.getElem?_eq_getElem hil
    have hti := List.getElem?_eq_getElem hiT
    have hmem := List.getElem_mem hiT
    generalize ps[i] = pi at hpi
    have hdr : T.drop i = T[i] :: T.drop (i + 1) := List.drop_eq_getElem_cons hiT
    have htk2 : (T.take (i + 1)).reverse[0]? = some T[i] := by
      rw [List.take_succ, hti, List.reverse_append]
      rfl
    generalize T[i] = ti at hti hmem hdr htk2
    have ri := h1 i pi (by omega) hpi
    have tA := hT i pi ti hpi hti
    obtain ⟨z1, z2, z3, z4, z5, z6, z7⟩ := id hR
    obtain ⟨v, w1, w2, -, -, Fi, -⟩ := id tA
    have cmp := strCmp2_spec (d := 0) (h := H) (u := u) (by rw [z3]; exact u1) (by rw [z5]; exact u3) (hR.tA tA).V (hR.tA hp).V (hok ti hmem).1 htk.1 (by have := (hok ti hmem).2; omega) (by omega)
    refine wp.go [63, 101] 60 fun W C0 hW hC => ?_
    refine ⟨fun c => absurd c (by omega), fun _ => ?_⟩
    conv => whnf
    rw [isub_eq (by omega), show (((i + 1 : Nat)) : Int) - 1 = ((i : Nat) : Int) by omega]
    refine ⟨_, _, _, z7, by decide, by omega, by rw [Int.toNat_natCast]; exact ri, ?_⟩
    have FiH : H.F pi = (14, [vR (some v), vI 0, w1, w2]) := by rw [z5]; exact Fi
    refine ⟨_, _, _, FiH, rfl, ?_⟩
    refine hC _ _ _ (useE (wpd.up (by omega) (cmp)) ?_)
    refine ⟨fun q => ?_, fun q => ?_⟩
    · have hr := (rev (i + 1)).mpr (insR_at t _ _ (fun x hx => hd x (List.mem_reverse.mp hx)) (fun x hx => by
        rw [htk2] at hx
        cases hx
        rw [difT_anti]
        omega))
      exact hW _ (hQ (i + 1) H refs hi hR hl h1 h2 hr)
    · conv => whnf
      rw [isub_eq (by omega), show (((i + 1 : Nat)) : Int) - 1 = ((i : Nat) : Int) by omega]
      refine ⟨_, _, _, z7, by decide, by omega, by rw [Int.toNat_natCast]; exact ri, ?_⟩
      refine ⟨_, _, z7, by decide, by decide, by omega, by omega, fun b hb => (by cases hb; exact ⟨(0, 14), rfl, by decide, by show (H.F pi).1 % 200 = 14; rw [FiH]; rfl⟩), fun q => (by cases q), ?_⟩
      conv => whnf
      rw [show iadd (((i + 1 : Nat)) : Int) (-1) = ((i : Nat) : Int) by rw [iadd_eq (by omega)]; omega]
      rw [show ((((i + 1 : Nat)) : Int)).toNat = i + 1 from rfl]
      refine hW _ (ih (H.setR ι (refs.set (i + 1) (some pi))) (refs.set (i + 1) (some pi)) (by omega) hR.set (by rw [List.length_set]; exact hl) (fun j q hj hq => by rw [List.getElem?_set_ne (by omega)]; exact h1 j q (by omega) hq) (fun j q hj hq => ?_) (fun x hx => ?_))
      · by_cases e : j = i
        · subst e
          rw [hpi] at hq
          cases hq
          rw [List.getElem?_set_self (by omega)]
        · rw [List.getElem?_set_ne (by omega)]
          exact h2 j q (by omega) hq
      · rw [hdr] at hx
        rcases List.mem_cons.mp hx with rfl | hx
        · rw [difT_anti]; omega
        · exact hd x hx
/-- who hangs there -/
abbrev hQ (before next : Int) (o : Nat) : Bool := !decide (((o : Nat) : Int) = before) && !decide (((o : Nat) : Int) = next)
/-- a branch's name, wherever it is asked for -/
def brSp (e s N : Nat) (G : Gr) (D : Nat → Nat → Nat) (a c : Nat) : Prop := ∀ g : AH, SkAt g s G → nmC g N → wp (e) 246 (0, ent 9 [vR (some s), vI ((c : Nat) : Int), vI ((a : Nat) : Int)], [], g) (fun r g' => ∃ p, r = .inl (some (vR (some p))) ∧ ext (cT kC (TT G a c)) (cT kS (TT G a c)) g g' ∧ tAt g.sz g' p (brT G D a c))
theorem tAt.low {lo lo' p : Nat} {h : AH} {t : Tx} (k : tAt lo h p t) (hl : lo' ≤ lo) : tAt lo' h p t := by
  obtain ⟨v, w1, w2, k1, k2, k3, k4⟩ := k
  exact ⟨v, w1, w2, ⟨by have := k1.1; omega, k1.2⟩, ⟨by have := k2.1; omega, k2.2⟩, k3, k4⟩
theorem filter_succ {α : Type} (p : α → Bool) (l : List α) {k : Nat} {x : α} (hk : l[k]? = some x) : (l.take (k + 1)).filter p = (l.take k).filter p ++ cond (p x) [x] [] := by
  rw [List.take_succ, hk, List.filter_append]
  cases e : p x <;> simp [e]
theorem mid_get {α : Type} {l : List α} {x : α} {i : Nat} (hi : i ≤ l.length) (j : Nat) : (l.take i ++ x :: l.drop i)[j]? = if j < i then l[j]? else if j = i then some x else l[j - 1]? := by
  have hl : (l.take i).length = i := by rw [List.length_take]; omega
  by_cases q1 : j < i
  · rw [if_pos q1, List.getElem?_append_left (by omega), List.getElem?_take, if_pos q1]
  · rw [if_neg q1, List.getElem?_append_right (by omega), hl]
    by_cases q2 : j = i
    · rw [if_pos q2, q2, Nat.sub_self]
      rfl
    · rw [if_neg q2, show j - i = (j - i - 1) + 1 by omega, List.getElem?_cons_succ, List.getElem?_drop, show i + (j - i - 1) = j - 1 by omega]
theorem onlyR.ext {ι c0 σ0 : Nat} {g H : AH} {refs : List (Option Nat)} (k : onlyR ι g H refs) (e : ext c0 σ0 h g) (hι : h.sz ≤ ι) : ext c0 σ0 h H := by
  obtain ⟨k1, k2, k3, k4, k5, k6, k7⟩ := k
  obtain ⟨e1, e2, e3, e4, e5, e6⟩ := e
  refine ⟨by omega, by omega, by omega, by omega, fun a ha => ?_, k3.trans e6⟩
  obtain ⟨a1, a2, a3⟩ := e5 a ha
  exact ⟨by rw [k4]; exact a1, (k6 a (by omega)).trans a2, by rw [k5]; exact a3⟩
theorem hang_col {D : Nat → Nat → Nat} {e : Nat} (he : 9 ≤ e) (hS : SkAt h s G) (hG : G.wf) (hd4 : ∀ a, deg G a ≤ 4) (hc : c < G.1) (hN : nmC h N) (hbr : ∀ o, o ∈ (nb G c).filter (hQ before next) → brSp e s N G D c o ∧ okX (brT G D c o) ∧ (brT G D c o).length ≤ 96) {Q : Rs → AH → Prop}
    (hQ' : ∀ (g : AH) (l9 l10 l11 : Option AV), h.sz < g.sz → ext (1 + (((nb G c).filter (hQ before next)).map fun o => cT kC (TT G c o)).sum) (4 + (((nb G c).filter (hQ before next)).map fun o => cT kS (TT G c o)).sum) h g → itsA h.sz g h.sz (hangT (brT G D c) ((nb G c).filter (hQ before next))) →
      wp (e + 1) 245 (117, [some (vR (some s)), some (vR (some sb)), some (vI ((c : Nat) : Int)), some (vI before), some (vI next), some (vI place), some (vR (some h.sz)), some (vI ((((nb G c).filter (hQ before next)).length : Nat) : Int)), some (vI ((deg G c : Nat) : Int)), l9, l10, l11], [], g) Q) :
    ∀ (j k : Nat) (g : AH) (l9 l10 l11 : Option AV), j + k = deg G c → h.sz < g.sz → ext (1 + ((((nb G c).take k).filter (hQ before next)).map fun o => cT kC (TT G c o)).sum) (4 + ((((nb G c).take k).filter (hQ before next)).map fun o => cT kS (TT G c o)).sum) h g → itsA h.sz g h.sz (hangT (brT G D c) (((nb G c).take k).filter (hQ before next))) →
      wp (e + 1) 245 (12, [some (vR (some s)), some (vR (some sb)), some (vI ((c : Nat) : Int)), some (vI before), some (vI next), some (vI place), some (vR (some h.sz)), some (vI (((((nb G c).take k).filter (hQ before next)).length : Nat) : Int)), some (vI ((k : Nat) : Int)), l9, l10, l11], [], g) Q := by
  obtain ⟨d, rfl⟩ : ∃ d, e = d + 8 := ⟨e - 8, by omega⟩
  have hn := hG.2.1
  have hdc := hd4 c
  intro j
  induction j with
  | zero =>
    intro k g l9 l10 l11 hj hz hE hI
    obtain rfl : k = deg G c := by omega
    have hS1 := hS.mono hE
    obtain ⟨k1, k2, k3, ⟨W1, k4, k5, k6⟩, k7⟩ := hS1
    have htk : (nb G c).take (deg G c) = nb G c := List.take_length
    rw [htk] at hE hI ⊢
    refine wp.go [12, 117] 20 fun W C0 hW hC => ?_
    refine ⟨_, _, _, _, k2, rfl, rfl, ?_⟩
    refine ⟨_, _, _, k4, rfl, by omega, gt_at c (by omega) (by omega), ?_⟩
    rw [k6 c hc]
    refine ⟨fun _ => ?_, fun w => absurd w (by omega)⟩
    exact hW _ (hQ' g l9 l10 l11 hz hE hI)
  | succ j ih =>
    intro k g l9 l10 l11 hj hz hE hI
    have hS1 := hS.mono hE
    obtain ⟨k1, k2, k3, ⟨W1, k4, k5, k6⟩, k7⟩ := id hS1
    have hkl : k < (nb G c).length := by show k < deg G c; omega
    have hko := List.getElem?_eq_getElem hkl
    have hmem := List.getElem_mem hkl
    generalize (nb G c)[k] = o at hko hmem
    obtain ⟨X, x1, x2, x3⟩ := k7 c (by omega)
    have xk := x3 hc k o hko
    have hsuc := filter_succ (hQ before next) (nb G c) hko
    obtain ⟨Lk, hLk⟩ : ∃ L, L = ((nb G c).take k).filter (hQ before next) := ⟨_, rfl⟩
    rw [← hLk] at hE hI hsuc ⊢
    have skip : hQ before next o = false → ∀ l10 l11, wp (d + 8 + 1) 245 (12, [some (vR (some s)), some (vR (some sb)), some (vI ((c : Nat) : Int)), some (vI before), some (vI next), some (vI place), some (vR (some h.sz)), some (vI ((Lk.length : Nat) : Int)), some (vI ((k + 1 : Nat) : Int)), some (vI ((o : Nat) : Int)), l10, l11], [], g) Q := by
      intro hq l10 l11
      rw [hq] at hsuc
      have hsuc : ((nb G c).take (k + 1)).filter (hQ before next) = Lk := by rw [hsuc]; exact List.append_nil _
      have := ih (k + 1) g (some (vI ((o : Nat) : Int))) l10 l11 (by omega) hz
      rw [hsuc] at this
      exact this hE hI
    refine wp.go [12, 63, 117] 60 fun W C0 hW hC => ?_
    refine ⟨_, _, _, _, k2, rfl, rfl, ?_⟩
    refine ⟨_, _, _, k4, rfl, by omega, gt_at c (by omega) (by omega), ?_⟩
    rw [k6 c hc]
    refine ⟨fun w => absurd w (by omega), fun _ => ?_⟩
    refine ⟨_, _, _, _, k2, rfl, rfl, ?_⟩
    refine ⟨_, _, _, k3, by decide, by omega, by rw [Int.toNat_natCast]; exact row_ref (by omega), ?_⟩
    refine ⟨_, _, _, x1, rfl, by omega, gt_at k (by omega) (by have : (nb G c).length = deg G c := rfl; omega), ?_⟩
    rw [xk]
    refine ⟨fun q => ?_, fun q1 => ⟨fun q2 => ?_, fun q2 => ?_⟩⟩
    · (conv => whnf); simp (disch := omega) only [iadd_eq, isub_eq, imul_eq]
      exact hW _ (skip (by rw [show hQ before next o = (!decide (((o : Nat) : Int) = before) && !decide (((o : Nat) : Int) = next)) from rfl, decide_eq_true q]; rfl) l10 l11)
    · have hq : hQ before next o = true := by rw [show hQ before next o = (!decide (((o : Nat) : Int) = before) && !decide (((o : Nat) : Int) = next)) from rfl, decide_eq_false q1, decide_eq_false q2]; rfl
      rw [hq] at hsuc
      have hsuc : ((nb G c).take (k + 1)).filter (hQ before next) = Lk ++ [o] := hsuc
      have hoL : o ∈ (nb G c).filter (hQ before next) := List.mem_filter.mpr ⟨hmem, hq⟩
      obtain ⟨bs, bo, bl⟩ := hbr o hoL
      refine ⟨_, _, _, k2, rfl, ?_⟩
      refine hC _ _ _ (use (bs g hS1 (hN.ext hE)) ?_)
      rintro _ g1 ⟨p, rfl, E1, tp⟩
      obtain ⟨refs, ps, r1, r2, r3, r4, r5⟩ := hI
      have zg : h.sz < g.sz := hz
      have zg1 := E1.1
      have r1' : g1.R h.sz = (5, refs) := (E1.2.2.2.2.1 h.sz hz).2.1.trans r1
      have hsub : ∀ x, x ∈ Lk → x ∈ (nb G c).filter (hQ before next) := fun x hx => by
        rw [hLk] at hx
        obtain ⟨x1, x2⟩ := List.mem_filter.mp hx
        exact List.mem_filter.mpr ⟨List.mem_of_mem_take x1, x2⟩
      have hlen : Lk.length < 4 := by
        have h1 := congrArg List.length hsuc
        have h2 := List.length_filter_le (hQ before next) ((nb G c).take (k + 1))
        have h3 := List.length_take_le (k + 1) (nb G c)
        rw [List.length_append, List.length_singleton] at h1
        omega
      have hTl : (hangT (brT G D c) Lk).length = Lk.length := hangT_len _ _
      have hN1 := (hN.ext hE).ext E1
      have hE1 := hE.trans E1
      have key := ins_text (d := d) (s := s) (sb := sb) (c := c) (before := before) (next := next) (place := place) (lo := h.sz) (ι := h.sz) (n := Lk.length) (k := k) (o := o) (p := p) (g := g1) (ps := ps) (T := hangT (brT G D c) Lk) (t := brT G D c o) hN1 r3 hTl hlen (fun j q t w1 w2 => (r5 j q t w1 w2).ext E1) (fun x hx => by
        unfold hangT hangR at hx
        rw [List.mem_reverse, hangR_mem] at hx
        rcases hx with hx | ⟨e, he, rfl⟩
        · cases hx
        · exact (hbr e (hsub e he)).2) ⟨bo, bl⟩ (tp.low hE.1) (Q := Q) (fun i H refs' hi hR hl h1 h2 hr => by
          obtain ⟨w, w1, w2, -, -, Fp, -⟩ := id tp
          have FpH : H.F p = (14, [vR (some w), vI 0, w1, w2]) := by rw [hR.2.2.2.2.1]; exact Fp
          have hT' : hangT (brT G D c) (Lk ++ [o]) = (hangT (brT G D c) Lk).take i ++ brT G D c o :: (hangT (brT G D c) Lk).drop i := by
            have : hangT (brT G D c) (Lk ++ [o]) = (insR (brT G D c o) (hangT (brT G D c) Lk).reverse).reverse := by
              unfold hangT
              rw [hangR_snoc, List.reverse_reverse]
            rw [this, hr, List.reverse_reverse]
          have ihk := ih (k + 1) (H.setR h.sz (refs'.set i (some p))) (some (vI ((o : Nat) : Int))) (some (vR (some p))) (some (vI ((i : Nat) : Int))) (by omega) (by have := hR.1; show h.sz < H.sz; omega)
          rw [hsuc] at ihk
          have ihk := ihk (((hR.set (refs' := refs'.set i (some p))).ext hE1 (Nat.le_refl _)).more (by rw [List.map_append, List.sum_append]; simp only [List.map_cons, List.map_nil, List.sum_cons, List.sum_nil]; omega) (by rw [List.map_append, List.sum_append]; simp only [List.map_cons, List.map_nil, List.sum_cons, List.sum_nil]; omega)) ⟨refs'.set i (some p), ps.take i ++ p :: ps.drop i, hR.set.2.2.2.2.2.2, by rw [List.length_set]; exact hl, by rw [hT', List.length_append, List.length_append, List.length_cons, List.length_cons, List.length_take, List.length_take, List.length_drop, List.length_drop, r3], fun j q hq => by
            rw [mid_get (by omega)] at hq
            by_cases q1 : j < i
            · rw [if_pos q1] at hq
              rw [List.getElem?_set_ne (by omega)]
              exact h1 j q q1 hq
            · rw [if_neg q1] at hq
              by_cases q2 : j = i
              · rw [if_pos q2] at hq
                cases hq
                rw [q2, List.getElem?_set_self (by omega)]
              · rw [if_neg q2] at hq
                rw [List.getElem?_set_ne (by omega)]
                have := h2 (j - 1) q (by omega) hq
                rw [show j - 1 + 1 = j by omega] at this
                exact this, fun j q t hq ht => by
            have hRs := hR.set (refs' := refs'.set i (some p))
            rw [mid_get (by omega)] at hq
            rw [hT', mid_get (by omega)] at ht
            by_cases q1 : j < i
            · rw [if_pos q1] at hq ht
              exact hRs.tA ((r5 j q t hq ht).ext E1)
            · rw [if_neg q1] at hq ht
              by_cases q2 : j = i
              · rw [if_pos q2] at hq ht
                cases hq
                cases ht
                exact hRs.tA (tp.low hE.1)
              · rw [if_neg q2] at hq ht
                exact hRs.tA ((r5 (j - 1) q t hq ht).ext E1)⟩
          rw [List.length_append, List.length_singleton] at ihk
          refine wp.go [12] 30 fun W C0 hW hC => ?_
          refine ⟨_, _, hR.2.2.2.2.2.2, by decide, by decide, by omega, by omega, fun b hb => (by cases hb; exact ⟨(0, 14), rfl, by decide, by show (H.F p).1 % 200 = 14; rw [FpH]; rfl⟩), fun q => (by cases q), ?_⟩
          conv => whnf
          rw [iadd_eq (by omega), iadd_eq (by omega), Int.toNat_natCast]
          exact hW _ ihk) Lk.length g1 refs (Nat.le_refl _) ⟨rfl, rfl, rfl, rfl, rfl, fun _ _ => rfl, r1'⟩ r2 (fun j q _ hq => r4 j q hq) (fun j q hj hq => by
            have := (List.getElem?_eq_some_iff.mp hq).1
            omega) (fun x hx => by rw [List.drop_of_length_le (by omega)] at hx; cases hx)
      exact hW _ key
    · (conv => whnf); simp (disch := omega) only [iadd_eq, isub_eq, imul_eq]
      exact hW _ (skip (by rw [show hQ before next o = (!decide (((o : Nat) : Int) = before) && !decide (((o : Nat) : Int) = next)) from rfl, decide_eq_true q2, Bool.not_true, Bool.and_false]) l10 l11)
end HANGC
