/-! SEARCH TREES of the library, pure: a tree with addresses, told as terms; a place in it by what lies above -/
abbrev BT : Type := Lean.Data.AC.Expr
abbrev ndB (l : BT) (a : Nat) (r : BT) : BT := .op (.op l (.var a)) r
abbrev nlB : BT := .var 0
def rtB : BT → Option Nat
  | .op (.op _ (.var a)) _ => some a
  | _ => none
def flB : BT → List Nat
  | .op (.op l (.var a)) r => flB l ++ a :: flB r
  | _ => []
abbrev Mp : Type := Nat → Option Nat × Option Nat × Option Nat
def ShB (M : Mp) : BT → Option Nat → Prop
  | .op (.op l (.var a)) r, par => M a = (rtB l, rtB r, par) ∧ ShB M l (some a) ∧ ShB M r (some a)
  | .var _, _ => True
  | _, _ => False
abbrev Cx0 : Type := List (Bool × Nat × BT)
def plB : Cx0 → BT → BT
  | [], t => t
  | (true, a, s) :: c, t => plB c (ndB t a s)
  | (false, a, s) :: c, t => plB c (ndB s a t)
def parB : Cx0 → Option Nat
  | [] => none
  | (_, a, _) :: _ => some a
def ShX (M : Mp) : Cx0 → Option Nat → Prop
  | [], _ => True
  | (true, a, s) :: r, c => M a = (c, rtB s, parB r) ∧ ShB M s (some a) ∧ ShX M r (some a)
  | (false, a, s) :: r, c => M a = (rtB s, c, parB r) ∧ ShB M s (some a) ∧ ShX M r (some a)
def flLB : Cx0 → List Nat
  | [] => []
  | (true, _, _) :: c => flLB c
  | (false, a, s) :: c => flLB c ++ (flB s ++ [a])
def flRB : Cx0 → List Nat
  | [] => []
  | (true, a, s) :: c => a :: (flB s ++ flRB c)
  | (false, _, _) :: c => flRB c
/-- the root, with so much above -/
def topB : Cx0 → Option Nat → Option Nat
  | [], o => o
  | (_, a, _) :: c, _ => topB c (some a)
theorem pl_fl : ∀ (c : Cx0) (t : BT), flB (plB c t) = flLB c ++ (flB t ++ flRB c)
  | [], t => by show flB t = [] ++ (flB t ++ []); simp
  | (true, a, s) :: c, t => by
    show flB (plB c (ndB t a s)) = flLB c ++ (flB t ++ a :: (flB s ++ flRB c))
    rw [pl_fl c]
    show flLB c ++ ((flB t ++ a :: flB s) ++ flRB c) = _
    simp
  | (false, a, s) :: c, t => by
    show flB (plB c (ndB s a t)) = (flLB c ++ (flB s ++ [a])) ++ (flB t ++ flRB c)
    rw [pl_fl c]
    show flLB c ++ ((flB s ++ a :: flB t) ++ flRB c) = _
    simp
theorem pl_rt : ∀ (c : Cx0) (t : BT), rtB (plB c t) = topB c (rtB t)
  | [], _ => rfl
  | (true, a, s) :: c, t => pl_rt c (ndB t a s)
  | (false, a, s) :: c, t => pl_rt c (ndB s a t)
theorem pl_sh {M : Mp} : ∀ (c : Cx0) (t : BT), ShB M (plB c t) none ↔ ShB M t (parB c) ∧ ShX M c (rtB t)
  | [], t => ⟨fun h => ⟨h, trivial⟩, fun h => h.1⟩
  | (true, a, s) :: c, t => by
    have := pl_sh (M := M) c (ndB t a s)
    show ShB M (plB c (ndB t a s)) none ↔ ShB M t (some a) ∧ M a = (rtB t, rtB s, parB c) ∧ ShB M s (some a) ∧ ShX M c (some a)
    rw [this]
    show (M a = (rtB t, rtB s, parB c) ∧ ShB M t (some a) ∧ ShB M s (some a)) ∧ ShX M c (some a) ↔ _
    constructor
    · rintro ⟨⟨h1, h2, h3⟩, h4⟩; exact ⟨h2, h1, h3, h4⟩
    · rintro ⟨h2, h1, h3, h4⟩; exact ⟨⟨h1, h2, h3⟩, h4⟩
  | (false, a, s) :: c, t => by
    have := pl_sh (M := M) c (ndB s a t)
    show ShB M (plB c (ndB s a t)) none ↔ ShB M t (some a) ∧ M a = (rtB s, rtB t, parB c) ∧ ShB M s (some a) ∧ ShX M c (some a)
    rw [this]
    show (M a = (rtB s, rtB t, parB c) ∧ ShB M s (some a) ∧ ShB M t (some a)) ∧ ShX M c (some a) ↔ _
    constructor
    · rintro ⟨⟨h1, h2, h3⟩, h4⟩; exact ⟨h3, h1, h2, h4⟩
    · rintro ⟨h2, h1, h3, h4⟩; exact ⟨⟨h1, h3, h2⟩, h4⟩
theorem ShB.to {M M' : Mp} : ∀ {t : BT} {par : Option Nat}, ShB M t par → (∀ a, a ∈ flB t → M' a = M a) → ShB M' t par
  | .var _, _, _, _ => trivial
  | .op (.var _) _, _, h, _ => h.elim
  | .op (.op _ (.op _ _)) _, _, h, _ => h.elim
  | .op (.op l (.var a)) r, par, ⟨h1, h2, h3⟩, h => by
    have hf : flB (.op (.op l (.var a)) r) = flB l ++ a :: flB r := rfl
    rw [hf] at h
    exact ⟨(h a (by simp)).trans h1, h2.to fun b hb => h b (by simp [hb]), h3.to fun b hb => h b (by simp [hb])⟩
theorem ShX.to {M M' : Mp} : ∀ {c : Cx0} {o : Option Nat}, ShX M c o → (∀ a, a ∈ flLB c ∨ a ∈ flRB c → M' a = M a) → ShX M' c o
  | [], _, _, _ => trivial
  | (true, a, s) :: c, o, ⟨h1, h2, h3⟩, h => by
    have e : flRB ((true, a, s) :: c) = a :: (flB s ++ flRB c) := rfl
    have e2 : flLB ((true, a, s) :: c) = flLB c := rfl
    rw [e, e2] at h
    exact ⟨(h a (by simp)).trans h1, h2.to fun b hb => h b (by simp [hb]), h3.to fun b hb => h b (by rcases hb with w | w; exact Or.inl w; exact Or.inr (by simp [w]))⟩
  | (false, a, s) :: c, o, ⟨h1, h2, h3⟩, h => by
    have e : flRB ((false, a, s) :: c) = flRB c := rfl
    have e2 : flLB ((false, a, s) :: c) = flLB c ++ (flB s ++ [a]) := rfl
    rw [e, e2] at h
    exact ⟨(h a (by simp)).trans h1, h2.to fun b hb => h b (by simp [hb]), h3.to fun b hb => h b (by rcases hb with w | w; exact Or.inl (by simp [w]); exact Or.inr w)⟩
theorem rt_mem : ∀ {t : BT} {b : Nat}, rtB t = some b → b ∈ flB t
  | .var _, _, h => by cases h
  | .op (.var _) _, _, h => by cases h
  | .op (.op _ (.op _ _)) _, _, h => by cases h
  | .op (.op l (.var a)) r, b, h => by
    have h : some a = some b := h
    cases h
    show a ∈ flB l ++ a :: flB r
    simp
/-- a tree gets another parent -/
theorem ShB.re {M M' : Mp} {par par' : Option Nat} : ∀ {t : BT}, ShB M t par → (flB t).Nodup → (∀ b, rtB t = some b → M' b = ((M b).1, (M b).2.1, par')) → (∀ a, a ∈ flB t → rtB t ≠ some a → M' a = M a) → ShB M' t par'
  | .var _, _, _, _, _ => trivial
  | .op (.var _) _, h, _, _, _ => h.elim
  | .op (.op _ (.op _ _)) _, h, _, _, _ => h.elim
  | .op (.op l (.var a)) r, ⟨h1, h2, h3⟩, hn, hr, ho => by
    have hf : flB (.op (.op l (.var a)) r) = flB l ++ a :: flB r := rfl
    rw [hf] at hn ho
    have hn2 := List.nodup_append.mp hn
    have hn3 := List.nodup_cons.mp hn2.2.1
    refine ⟨?_, h2.to fun b hb => ho b (by simp [hb]) (fun w => ?_), h3.to fun b hb => ho b (by simp [hb]) (fun w => ?_)⟩
    · rw [hr a rfl, h1]
    · have w : some a = some b := w
      cases w
      exact hn2.2.2 a hb a List.mem_cons_self rfl
    · have w : some a = some b := w
      cases w
      exact hn3.1 hb
/-- what hangs below gets another root -/
theorem ShX.re {M M' : Mp} {c1 c2 : Option Nat} : ∀ {c : Cx0}, ShX M c c1 → (flLB c ++ flRB c).Nodup → (∀ q d s r, c = (d, q, s) :: r → M' q = cond d (c2, (M q).2.1, (M q).2.2) ((M q).1, c2, (M q).2.2)) → (∀ a, a ∈ flLB c ∨ a ∈ flRB c → parB c ≠ some a → M' a = M a) → ShX M' c c2
  | [], _, _, _, _ => trivial
  | (true, a, s) :: c, ⟨h1, h2, h3⟩, hn, hq, ho => by
    have e : flRB ((true, a, s) :: c) = a :: (flB s ++ flRB c) := rfl
    have e2 : flLB ((true, a, s) :: c) = flLB c := rfl
    rw [e, e2] at ho hn
    have hn1 := List.nodup_append.mp hn
    have hn2 := List.nodup_cons.mp hn1.2.1
    have hq := hq a true s c rfl
    rw [cond_true, h1] at hq
    refine ⟨hq, h2.to fun b hb => ho b (by simp [hb]) (fun w => ?_), h3.to fun b hb => ho b (by rcases hb with w | w; exact Or.inl w; exact Or.inr (by simp [w])) (fun w => ?_)⟩
    · have w : some a = some b := w
      cases w
      exact hn2.1 (by simp [hb])
    · have w : some a = some b := w
      cases w
      rcases hb with w | w
      · exact hn1.2.2 a w a List.mem_cons_self rfl
      · exact hn2.1 (by simp [w])
  | (false, a, s) :: c, ⟨h1, h2, h3⟩, hn, hq, ho => by
    have e : flRB ((false, a, s) :: c) = flRB c := rfl
    have e2 : flLB ((false, a, s) :: c) = flLB c ++ (flB s ++ [a]) := rfl
    rw [e, e2] at ho hn
    have hn1 := List.nodup_append.mp hn
    have hn0 := List.nodup_append.mp hn1.1
    have hn2 := List.nodup_append.mp hn0.2.1
    have hq := hq a false s c rfl
    rw [cond_false, h1] at hq
    refine ⟨hq, h2.to fun b hb => ho b (by simp [hb]) (fun w => ?_), h3.to fun b hb => ho b (by rcases hb with w | w; exact Or.inl (by simp [w]); exact Or.inr w) (fun w => ?_)⟩
    · have w : some a = some b := w
      cases w
      exact hn2.2.2 a hb a (by simp) rfl
    · have w : some a = some b := w
      cases w
      rcases hb with w | w
      · exact hn0.2.2 a w a (by simp) rfl
      · exact hn1.2.2 a (by simp) a w rfl
/-- rotated to the left at p, r its right one -/
def rotL (M : Mp) (p r : Nat) : Mp := fun a => if a = p then ((M p).1, (M r).1, some r) else if a = r then (some p, (M r).2.1, (M p).2.2) else if (M r).1 = some a then ((M a).1, (M a).2.1, some p) else if (M p).2.2 = some a then (if (M a).1 = some p then (some r, (M a).2.1, (M a).2.2) else ((M a).1, some r, (M a).2.2)) else M a
def rotR (M : Mp) (p r : Nat) : Mp := fun a => if a = p then ((M r).2.1, (M p).2.1, some r) else if a = r then ((M r).1, some p, (M p).2.2) else if (M r).2.1 = some a then ((M a).1, (M a).2.1, some p) else if (M p).2.2 = some a then (if (M a).2.1 = some p then ((M a).1, some r, (M a).2.2) else (some r, (M a).2.1, (M a).2.2)) else M a
/-- all in the tree: told apart, in their places -/
def inT (M : Mp) (c : Cx0) (t : BT) : Prop := ShB M t (parB c) ∧ ShX M c (rtB t) ∧ (flLB c ++ (flB t ++ flRB c)).Nodup
theorem rotL_in {M : Mp} {c : Cx0} {l1 l2 r2 : BT} {p r : Nat} (h : inT M c (ndB l1 p (ndB l2 r r2))) : inT (rotL M p r) c (ndB (ndB l1 p l2) r r2) := by
  obtain ⟨⟨h1, h2, h3, h4, h5⟩, h6, h7⟩ := h
  have hfl : flB (ndB l1 p (ndB l2 r r2)) = flB l1 ++ p :: (flB l2 ++ r :: flB r2) := rfl
  have hfl2 : flB (ndB (ndB l1 p l2) r r2) = (flB l1 ++ p :: flB l2) ++ r :: flB r2 := rfl
  have hsame : flB (ndB l1 p (ndB l2 r r2)) = flB (ndB (ndB l1 p l2) r r2) := by rw [hfl, hfl2]; simp
  have hnd := h7
  rw [hfl] at h7
  have e1 : (M p).1 = rtB l1 := by rw [h1]
  have e2 : (M p).2.2 = parB c := by rw [h1]
  have e3 : (M r).1 = rtB l2 := by rw [h3]
  have e4 : (M r).2.1 = rtB r2 := by rw [h3]
  -- who is apart from whom
  have n0 := List.nodup_append.mp h7
  have n1 := List.nodup_append.mp n0.2.1
  have n2 := List.nodup_append.mp n1.1
  have n3 := List.nodup_cons.mp n2.2.1
  have n4 := List.nodup_append.mp n3.2
  have n5 := List.nodup_cons.mp n4.2.1
  have hpr : p ≠ r := fun w => n3.1 (by rw [w]; simp)
  have inC : ∀ a, a ∈ flB l1 ∨ a = p ∨ a ∈ flB l2 ∨ a = r ∨ a ∈ flB r2 → ¬ (a ∈ flLB c ∨ a ∈ flRB c) := by
    intro a ha w
    have ha2 : a ∈ flB l1 ++ p :: (flB l2 ++ r :: flB r2) := by
      rcases ha with q | q | q | q | q <;> simp [q]
    rcases w with w | w
    · exact n0.2.2 a w a (by simp only [List.mem_append] at ha2 ⊢; exact Or.inl ha2) rfl
    · exact n1.2.2 a ha2 a w rfl
  have par_in : ∀ a, parB c = some a → a ∈ flLB c ∨ a ∈ flRB c := by
    intro a ha
    match c, ha with
    | (true, b, s) :: r, ha =>
      have ha : some b = some a := ha
      cases ha
      exact Or.inr (show a ∈ a :: (flB s ++ flRB r) by simp)
    | (false, b, s) :: r, ha =>
      have ha : some b = some a := ha
      cases ha
      exact Or.inl (show a ∈ flLB r ++ (flB s ++ [a]) by simp)
  have pl2 : p ∉ flB l2 := fun w => n3.1 (by simp [w])
  have rl2 : r ∉ flB l2 := fun w => n4.2.2 r w r List.mem_cons_self rfl
  have pl1 : p ∉ flB l1 := fun w => n2.2.2 p w p List.mem_cons_self rfl
  have rl1 : r ∉ flB l1 := fun w => n2.2.2 r w r (by simp) rfl
  have pr2 : p ∉ flB r2 := fun w => n3.1 (by simp [w])
  have l12 : ∀ a, a ∈ flB l1 → a ∉ flB l2 := fun a w w2 => n2.2.2 a w a (by simp [w2]) rfl
  have l2r : ∀ a, a ∈ flB l2 → a ∉ flB r2 := fun a w w2 => n4.2.2 a w a (by simp [w2]) rfl
  have same : ∀ a, a ≠ p → a ≠ r → a ∉ flB l2 → ¬ (a ∈ flLB c ∨ a ∈ flRB c) → rotL M p r a = M a := by
    intro a q1 q2 q3 q4
    unfold rotL
    rw [if_neg q1, if_neg q2, if_neg (fun w => q3 (rt_mem (by rw [← e3]; exact w))), if_neg (fun w => q4 (par_in a (by rw [← e2]; exact w)))]
  refine ⟨⟨?_, ⟨?_, h2.to fun a ha => same a (fun w => pl1 (w ▸ ha)) (fun w => rl1 (w ▸ ha)) (l12 a ha) (inC a (Or.inl ha)), h4.re n4.1 (fun b hb => ?_) (fun a ha hne => ?_)⟩, h5.to fun a ha => same a (fun w => pr2 (w ▸ ha)) (fun w => n5.1 (w ▸ ha)) (fun w => l2r a w ha) (inC a (Or.inr (Or.inr (Or.inr (Or.inr ha)))))⟩, h6.re ?_ (fun q d s rr hc => ?_) (fun a ha hne => ?_), by rw [← hsame]; exact hnd⟩
  · unfold rotL
    rw [if_neg (Ne.symm hpr), if_pos rfl, e4, e2]
    rfl
  · unfold rotL
    rw [if_pos rfl, e1, e3]
  · have hb' := rt_mem hb
    unfold rotL
    rw [if_neg (show b ≠ p from fun w => pl2 (w ▸ hb')), if_neg (show b ≠ r from fun w => rl2 (w ▸ hb')), if_pos (by rw [e3]; exact hb)]
  · unfold rotL
    rw [if_neg (show a ≠ p from fun w => pl2 (w ▸ ha)), if_neg (show a ≠ r from fun w => rl2 (w ▸ ha)), if_neg (by rw [e3]; exact hne), if_neg (fun w => inC a (Or.inr (Or.inr (Or.inl ha))) (par_in a (by rw [← e2]; exact w)))]
  · have := (List.nodup_append.mp h7)
    refine List.nodup_append.mpr ⟨n0.1, n1.2.1, fun a ha b hb => n0.2.2 a ha b (by simp [hb])⟩
  · have hpq : parB c = some q := by rw [hc]; rfl
    have hin := par_in q hpq
    have hqp : q ≠ p := fun w => inC p (Or.inr (Or.inl rfl)) (w ▸ hin)
    have hqr : q ≠ r := fun w => inC r (Or.inr (Or.inr (Or.inr (Or.inl rfl)))) (w ▸ hin)
    have hq2 : q ∉ flB l2 := fun w => inC q (Or.inr (Or.inr (Or.inl w))) hin
    unfold rotL
    rw [if_neg hqp, if_neg hqr, if_neg (fun w => hq2 (rt_mem (by rw [← e3]; exact w))), if_pos (by rw [e2]; exact hpq)]
    subst hc
    cases d with
    | true =>
      have := h6.1
      rw [cond_true, this]
      exact if_pos rfl
    | false =>
      have := h6.1
      rw [cond_false, this]
      refine if_neg (fun w => ?_)
      have w : rtB s = some p := w
      have hs := rt_mem w
      exact inC p (Or.inr (Or.inl rfl)) (Or.inl (show p ∈ flLB rr ++ (flB s ++ [q]) by simp [hs]))
  · unfold rotL
    have hap : a ≠ p := fun w => inC p (Or.inr (Or.inl rfl)) (w ▸ ha)
    have har : a ≠ r := fun w => inC r (Or.inr (Or.inr (Or.inr (Or.inl rfl)))) (w ▸ ha)
    have ha2 : a ∉ flB l2 := fun w => inC a (Or.inr (Or.inr (Or.inl w))) ha
    rw [if_neg hap, if_neg har, if_neg (fun w => ha2 (rt_mem (by rw [← e3]; exact w))), if_neg (by rw [e2]; exact hne)]
/-! the same, seen in a mirror -/
def mirM (M : Mp) : Mp := fun a => ((M a).2.1, (M a).1, (M a).2.2)
def mirB : BT → BT
  | .op (.op l (.var a)) r => ndB (mirB r) a (mirB l)
  | t => t
def mirC : Cx0 → Cx0
  | [] => []
  | (d, a, s) :: c => (!d, a, mirB s) :: mirC c
theorem mir_rt : ∀ t : BT, rtB (mirB t) = rtB t
  | .var _ => rfl
  | .op (.var _) _ => rfl
  | .op (.op _ (.op _ _)) _ => rfl
  | .op (.op _ (.var _)) _ => rfl
theorem mir_mir : ∀ t : BT, mirB (mirB t) = t
  | .var _ => rfl
  | .op (.var _) _ => rfl
  | .op (.op _ (.op _ _)) _ => rfl
  | .op (.op l (.var a)) r => by
    show ndB (mirB (mirB l)) a (mirB (mirB r)) = _
    rw [mir_mir l, mir_mir r]
theorem mir_fl : ∀ t : BT, flB (mirB t) = (flB t).reverse
  | .var _ => rfl
  | .op (.var _) _ => rfl
  | .op (.op _ (.op _ _)) _ => rfl
  | .op (.op l (.var a)) r => by
    show flB (mirB r) ++ a :: flB (mirB l) = (flB l ++ a :: flB r).reverse
    rw [mir_fl r, mir_fl l]
    simp
theorem mir_cc : ∀ c : Cx0, mirC (mirC c) = c
  | [] => rfl
  | (d, a, s) :: c => by
    show (!(!d), a, mirB (mirB s)) :: mirC (mirC c) = _
    rw [mir_mir, mir_cc c, Bool.not_not]
theorem mir_par : ∀ c : Cx0, parB (mirC c) = parB c
  | [] => rfl
  | (_, _, _) :: _ => rfl
theorem mir_fC : ∀ c : Cx0, flLB (mirC c) = (flRB c).reverse ∧ flRB (mirC c) = (flLB c).reverse
  | [] => ⟨rfl, rfl⟩
  | (true, a, s) :: c => by
    obtain ⟨i1, i2⟩ := mir_fC c
    refine ⟨?_, i2⟩
    show flLB (mirC c) ++ (flB (mirB s) ++ [a]) = (a :: (flB s ++ flRB c)).reverse
    rw [i1, mir_fl]
    simp
  | (false, a, s) :: c => by
    obtain ⟨i1, i2⟩ := mir_fC c
    refine ⟨i1, ?_⟩
    show a :: (flB (mirB s) ++ flRB (mirC c)) = (flLB c ++ (flB s ++ [a])).reverse
    rw [i2, mir_fl]
    simp
theorem mir_sh {M : Mp} : ∀ {t : BT} {par : Option Nat}, ShB M t par → ShB (mirM M) (mirB t) par
  | .var _, _, _ => trivial
  | .op (.var _) _, _, h => h.elim
  | .op (.op _ (.op _ _)) _, _, h => h.elim
  | .op (.op l (.var a)) r, par, ⟨h1, h2, h3⟩ => by
    refine ⟨?_, mir_sh h3, mir_sh h2⟩
    show ((M a).2.1, (M a).1, (M a).2.2) = _
    rw [h1, mir_rt, mir_rt]
theorem mir_sx {M : Mp} : ∀ {c : Cx0} {o : Option Nat}, ShX M c o → ShX (mirM M) (mirC c) o
  | [], _, _ => trivial
  | (true, a, s) :: c, o, ⟨h1, h2, h3⟩ => by
    refine ⟨?_, mir_sh h2, mir_sx h3⟩
    show ((M a).2.1, (M a).1, (M a).2.2) = _
    rw [h1, mir_rt, mir_par]
  | (false, a, s) :: c, o, ⟨h1, h2, h3⟩ => by
    refine ⟨?_, mir_sh h2, mir_sx h3⟩
    show ((M a).2.1, (M a).1, (M a).2.2) = _
    rw [h1, mir_rt, mir_par]
theorem inT.mir {M : Mp} {c : Cx0} {t : BT} (h : inT M c t) : inT (mirM M) (mirC c) (mirB t) := by
  obtain ⟨h1, h2, h3⟩ := h
  refine ⟨by rw [mir_par]; exact mir_sh h1, by rw [mir_rt]; exact mir_sx h2, ?_⟩
  rw [(mir_fC c).1, (mir_fC c).2, mir_fl]
  have : (flRB c).reverse ++ ((flB t).reverse ++ (flLB c).reverse) = (flLB c ++ (flB t ++ flRB c)).reverse := by simp
  rw [this]
  exact (List.reverse_perm _).nodup_iff.mpr h3
theorem mir_M (M : Mp) : mirM (mirM M) = M := rfl
theorem rotR_mir (M : Mp) (p r : Nat) : mirM (rotL (mirM M) p r) = rotR M p r := by
  funext a
  unfold rotR mirM rotL
  dsimp only
  by_cases q1 : a = p
  · rw [if_pos q1, if_pos q1]
  · rw [if_neg q1, if_neg q1]
    by_cases q2 : a = r
    · rw [if_pos q2, if_pos q2]
    · rw [if_neg q2, if_neg q2]
      by_cases q3 : (M r).2.1 = some a
      · rw [if_pos q3, if_pos q3]
      · rw [if_neg q3, if_neg q3]
        by_cases q4 : (M p).2.2 = some a
        · rw [if_pos q4, if_pos q4]
          by_cases q5 : (M a).2.1 = some p
          · rw [if_pos q5, if_pos q5]
          · rw [if_neg q5, if_neg q5]
        · rw [if_neg q4, if_neg q4]
theorem rotR_in {M : Mp} {c : Cx0} {l1 l2 r2 : BT} {p r : Nat} (h : inT M c (ndB (ndB l1 r l2) p r2)) : inT (rotR M p r) c (ndB l1 r (ndB l2 p r2)) := by
  have h1 : inT (mirM M) (mirC c) (ndB (mirB r2) p (ndB (mirB l2) r (mirB l1))) := h.mir
  have h2 := (rotL_in h1).mir
  rw [rotR_mir, mir_cc] at h2
  have e : mirB (ndB (ndB (mirB r2) p (mirB l2)) r (mirB l1)) = ndB l1 r (ndB l2 p r2) := by
    show ndB (mirB (mirB l1)) r (ndB (mirB (mirB l2)) p (mirB (mirB r2))) = _
    rw [mir_mir, mir_mir, mir_mir]
  rw [e] at h2
  exact h2
/-- whoever lies in a tree is the top of a part of it -/
theorem in_split : ∀ {t : BT} {M : Mp} {par : Option Nat} {a : Nat}, ShB M t par → a ∈ flB t → ∃ c l r, plB c (ndB l a r) = t
  | .var _, _, _, _, _, h => by cases h
  | .op (.var _) _, _, _, _, h, _ => h.elim
  | .op (.op _ (.op _ _)) _, _, _, _, h, _ => h.elim
  | .op (.op l (.var b)) r, M, par, a, ⟨h1, h2, h3⟩, h => by
    have hm : a ∈ flB l ++ b :: flB r := h
    have comp : ∀ (c : Cx0) (c' : Cx0) (t : BT), plB (c ++ c') t = plB c' (plB c t) := by
      intro c
      induction c with
      | nil => intro c' t; rfl
      | cons f c ih =>
        obtain ⟨d, q, s⟩ := f
        intro c' t
        cases d with
        | true => exact ih c' (ndB t q s)
        | false => exact ih c' (ndB s q t)
    rcases List.mem_append.mp hm with q | q
    · obtain ⟨c, l', r', e⟩ := in_split h2 q
      refine ⟨c ++ [(true, b, r)], l', r', ?_⟩
      rw [comp, e]
      rfl
    · rcases List.mem_cons.mp q with rfl | q
      · exact ⟨[], l, r, rfl⟩
      · obtain ⟨c, l', r', e⟩ := in_split h3 q
        refine ⟨c ++ [(false, b, l)], l', r', ?_⟩
        rw [comp, e]
        rfl
