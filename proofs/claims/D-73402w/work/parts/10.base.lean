/-! THE ABSTRACT MACHINE: values as numbers of Int, a heap of lists, an instruction as a predicate transformer; 'wp' is what a method comes to, least, by depth of calls -/
abbrev AV : Type := Int ⊕ Int ⊕ Option Nat ⊕ Unit
abbrev vI (x : Int) : AV := .inl x
abbrev vL (x : Int) : AV := .inr (.inl x)
abbrev vR (r : Option Nat) : AV := .inr (.inr (.inl r))
def aV : Value → AV
  | .int i => vI i.toInt
  | .long i => vL i.toInt
  | .ref a => vR (some a)
  | .null => vR none
  | _ => .inr (.inr (.inr ()))
/-- cells made, slots used, arrays of numbers, arrays of references, objects (each with its kind's number, 0: none), constants -/
abbrev AH : Type := Nat × Nat × (Nat → Nat × List Int) × (Nat → Nat × List (Option Nat)) × (Nat → Nat × List AV) × (Nat → Option Nat)
abbrev AH.sz (h : AH) : Nat := h.1
abbrev AH.sl (h : AH) : Nat := h.2.1
abbrev AH.I (h : AH) : Nat → Nat × List Int := h.2.2.1
abbrev AH.R (h : AH) : Nat → Nat × List (Option Nat) := h.2.2.2.1
abbrev AH.F (h : AH) : Nat → Nat × List AV := h.2.2.2.2.1
abbrev AH.S (h : AH) : Nat → Option Nat := h.2.2.2.2.2
def AH.setI (h : AH) (a : Nat) (x : List Int) : AH := (h.sz, h.sl, va_up h.I a ((h.I a).1, x), h.R, h.F, h.S)
def AH.setR (h : AH) (a : Nat) (x : List (Option Nat)) : AH := (h.sz, h.sl, h.I, va_up h.R a ((h.R a).1, x), h.F, h.S)
def AH.setF (h : AH) (a : Nat) (x : List AV) : AH := (h.sz, h.sl, h.I, h.R, va_up h.F a ((h.F a).1, x), h.S)
def AH.newI (h : AH) (t : Nat) (x : List Int) : AH := (h.sz + 1, h.sl + x.length, va_up h.I h.sz (t, x), h.R, h.F, h.S)
def AH.newR (h : AH) (t : Nat) (x : List (Option Nat)) : AH := (h.sz + 1, h.sl + x.length, h.I, va_up h.R h.sz (t, x), h.F, h.S)
def AH.newF (h : AH) (t : Nat) (x : List AV) : AH := (h.sz + 1, h.sl + x.length, h.I, h.R, va_up h.F h.sz (t, x), h.S)
/-- nothing lies where nothing was made; one thing at a place, as far as it was made here -/
def fr (t : Nat) : Prop := t ≠ 0 ∧ t < 200
def WF (h : AH) : Prop := (∀ a, h.sz ≤ a → (h.I a).1 = 0 ∧ (h.R a).1 = 0 ∧ (h.F a).1 = 0) ∧ ∀ a, (fr (h.I a).1 → (h.R a).1 = 0 ∧ (h.F a).1 = 0) ∧ (fr (h.R a).1 → (h.I a).1 = 0 ∧ (h.F a).1 = 0) ∧ (fr (h.F a).1 → (h.I a).1 = 0 ∧ (h.R a).1 = 0)
abbrev Ls : Type := List (Option AV)
abbrev St : Type := Nat × Ls × List AV × AH
abbrev Rs : Type := Option AV ⊕ Nat
abbrev Out : Type := St ⊕ (Rs × AH) ⊕ (Nat × List AV × AH × (Rs → AH → St ⊕ (Rs × AH)))
abbrev nx (pc : Nat) (L : Ls) (st : List AV) (h : AH) : Out := .inl (pc, L, st, h)
abbrev rt (r : Rs) (h : AH) : Out := .inr (.inl (r, h))
abbrev Sem : Type := Ls → List AV → AH → (Out → Prop) → Prop
def Dt (f : Sem) : Prop := ∀ L st h K, f L st h K → ∃ o, f L st h (fun o' => o' = o) ∧ K o
/-! locals -/
def lg : Ls → Nat → Option AV
  | [], _ => none
  | o :: _, 0 => o
  | _ :: r, n + 1 => lg r n
def lset : Ls → Nat → Option AV → Ls
  | [], _, _ => []
  | _ :: r, 0, v => v :: r
  | o :: r, n + 1, v => o :: lset r n v
def lclr (o : Option AV) : Option AV := match o with
  | some (.inr (.inl _)) => none
  | some (.inr (.inr (.inr _))) => none
  | o => o
/-- a value of one slot comes to lie in a local: a long ahead of it is lost -/
def lst1 : Ls → Nat → AV → Ls
  | [], _, _ => []
  | _ :: r, 0, v => some v :: r
  | o :: r, 1, v => lclr o :: lset r 0 (some v)
  | o :: r, n + 2, v => o :: lst1 r (n + 1) v
/-- a long comes to lie in a local -/
def lst2 : Ls → Nat → AV → Ls
  | [], _, _ => []
  | _ :: r, 0, v => some v :: lset r 0 none
  | o :: r, 1, v => lclr o :: lset (lset r 0 (some v)) 1 none
  | o :: r, n + 2, v => o :: lst2 r (n + 1) v
def lay : List AV → Ls
  | [] => []
  | v :: r => match v with
    | .inr (.inl _) => some v :: none :: lay r
    | _ => some v :: lay r
def pad : Nat → Ls → Ls
  | 0, _ => []
  | n + 1, [] => none :: pad n []
  | n + 1, o :: r => o :: pad n r
def ent (n : Nat) (as : List AV) : Ls := pad n (lay as)
def cat (v : AV) : Nat := match v with
  | .inr (.inl _) => 2
  | .inr (.inr (.inr _)) => 3
  | _ => 1
def cats : List AV → Nat
  | [] => 0
  | v :: r => cat v + cats r
/-- arguments that find room in so many locals -/
def aok : Nat → List AV → Bool
  | _, [] => true
  | 0, _ :: _ => false
  | n + 1, v :: r => match v with
    | .inr (.inl _) => (match n with
      | 0 => false
      | n + 1 => aok n r)
    | .inr (.inr (.inr _)) => false
    | _ => aok n r
/-! what a method comes to -/
def Kt (call : Nat → St → (Rs → AH → Prop) → Prop) (mL : Nat → Nat) (R : St → Prop) (Q : Rs → AH → Prop) (o : Out) : Prop := match o with
  | .inl s => R s
  | .inr (.inl (r, h)) => Q r h
  | .inr (.inr (z, as, h, k)) => cond (aok (mL z) as) (call z (0, ent (mL z) as, [], h) (fun r h => match k r h with
    | .inl s => R s
    | .inr (r, h) => Q r h)) False
abbrev Prg : Type := Nat → Nat → Sem
def wpd (P : Prg) (mL : Nat → Nat) : Nat → Nat → St → (Rs → AH → Prop) → Prop
  | 0, _, _, _ => False
  | d + 1, y, s, Q => ∀ R : St → Prop, (∀ s : St, (WF s.2.2.2 → ∃ o, P y s.1 s.2.1 s.2.2.1 s.2.2.2 (fun o' => o' = o) ∧ Kt (wpd P mL d) mL R Q o) → R s) → R s
theorem Kt.mono {call : Nat → St → (Rs → AH → Prop) → Prop} (hc : ∀ y s Q Q', (∀ r h, Q r h → Q' r h) → call y s Q → call y s Q') {mL : Nat → Nat} {R R' : St → Prop} {Q Q' : Rs → AH → Prop} {o : Out} (hR : ∀ s, R s → R' s) (hQ : ∀ r h, Q r h → Q' r h) (k : Kt call mL R Q o) : Kt call mL R' Q' o := by
  rcases o with s | q | ⟨z, as, h, c⟩
  · exact hR _ k
  · exact hQ _ _ k
  · unfold Kt at k ⊢
    dsimp only at k ⊢
    revert k
    cases aok (mL z) as with
    | false => exact id
    | true =>
      refine hc _ _ _ _ (fun r h' q => ?_)
      revert q
      cases c r h' with
      | inl s => exact hR s
      | inr q => exact hQ _ _
theorem Kt.call {call call' : Nat → St → (Rs → AH → Prop) → Prop} (hc : ∀ y s Q, call y s Q → call' y s Q) {mL : Nat → Nat} {R : St → Prop} {Q : Rs → AH → Prop} {o : Out} (k : Kt call mL R Q o) : Kt call' mL R Q o := by
  rcases o with s | q | ⟨z, as, h, c⟩
  · exact k
  · exact k
  · unfold Kt at k ⊢
    dsimp only at k ⊢
    revert k
    cases aok (mL z) as with
    | false => exact id
    | true => exact hc _ _ _
theorem wpd.mono {P : Prg} {mL : Nat → Nat} {Q Q' : Rs → AH → Prop} (hQ : ∀ r h, Q r h → Q' r h) : ∀ (d y : Nat) (s : St), wpd P mL d y s Q → wpd P mL d y s Q'
  | 0, _, _, k => k
  | d + 1, y, s, k => by
    intro R hR
    refine k R (fun s hs => hR s (fun w => ?_))
    obtain ⟨o, h1, h2⟩ := hs w
    exact ⟨o, h1, Kt.mono (fun y s Q Q' hq => wpd.mono hq d y s) (fun _ r => r) hQ h2⟩
theorem wpd.intro {P : Prg} {mL : Nat → Nat} {d y : Nat} {s : St} {Q : Rs → AH → Prop} (k : WF s.2.2.2 → ∃ o, P y s.1 s.2.1 s.2.2.1 s.2.2.2 (fun o' => o' = o) ∧ Kt (wpd P mL d) mL (fun s => wpd P mL (d + 1) y s Q) Q o) : wpd P mL (d + 1) y s Q := by
  intro R hR
  refine hR s (fun w => ?_)
  obtain ⟨o, h1, h2⟩ := k w
  exact ⟨o, h1, Kt.mono (fun y s Q Q' hq => wpd.mono hq d y s) (fun s h => h R hR) (fun _ _ q => q) h2⟩
theorem wpd.step {P : Prg} {mL : Nat → Nat} (hP : ∀ y pc, Dt (P y pc)) {d y : Nat} {s : St} {Q : Rs → AH → Prop} (k : WF s.2.2.2 → P y s.1 s.2.1 s.2.2.1 s.2.2.2 (Kt (wpd P mL d) mL (fun s => wpd P mL (d + 1) y s Q) Q)) : wpd P mL (d + 1) y s Q :=
  wpd.intro fun w => hP _ _ _ _ _ _ (k w)
theorem wpd.wf {P : Prg} {mL : Nat → Nat} {d y : Nat} {s : St} {Q : Rs → AH → Prop} (k : WF s.2.2.2 → wpd P mL (d + 1) y s Q) : wpd P mL (d + 1) y s Q := by
  intro R hR
  refine hR s (fun w => ?_)
  have k1 := k w (fun s => WF s.2.2.2 → ∃ o, P y s.1 s.2.1 s.2.2.1 s.2.2.2 (fun o' => o' = o) ∧ Kt (wpd P mL d) mL R Q o) (fun s h w => ?_) w
  · exact k1
  · obtain ⟨o, h1, h2⟩ := h w
    exact ⟨o, h1, Kt.mono (fun y s Q Q' hq => wpd.mono hq d y s) (fun s h => hR s h) (fun _ _ q => q) h2⟩
theorem wpd.up1 {P : Prg} {mL : Nat → Nat} : ∀ (d y : Nat) (s : St) (Q : Rs → AH → Prop), wpd P mL d y s Q → wpd P mL (d + 1) y s Q
  | 0, _, _, _, k => k.elim
  | d + 1, y, s, Q, k => by
    intro R hR
    refine k R (fun s hs => hR s (fun w => ?_))
    obtain ⟨o, h1, h2⟩ := hs w
    exact ⟨o, h1, Kt.call (fun y s Q => wpd.up1 d y s Q) h2⟩
theorem wpd.up {P : Prg} {mL : Nat → Nat} {d d' : Nat} (h : d ≤ d') {y : Nat} {s : St} {Q : Rs → AH → Prop} (k : wpd P mL d y s Q) : wpd P mL d' y s Q := by
  induction h with
  | refl => exact k
  | step _ ih => exact wpd.up1 _ _ _ _ ih
/-- many steps, up to a place of 'cuts' -/
def exN (P : Prg) (mL : Nat → Nat) (d y : Nat) (Q : Rs → AH → Prop) (cuts : List Nat) : Nat → Nat → Ls → List AV → AH → Prop
  | 0, pc, L, st, h => wpd P mL (d + 1) y (pc, L, st, h) Q
  | n + 1, pc, L, st, h => P y pc L st h (Kt (wpd P mL d) mL (fun s => match s with
    | (pc, L, st, h) => cond (cuts.elem pc) (wpd P mL (d + 1) y (pc, L, st, h) Q) (exN P mL d y Q cuts n pc L st h)) Q)
theorem wpd.run {P : Prg} {mL : Nat → Nat} (hP : ∀ y pc, Dt (P y pc)) (cuts : List Nat) (n : Nat) {d y pc : Nat} {L : Ls} {st : List AV} {h : AH} {Q : Rs → AH → Prop} (k : exN P mL d y Q cuts n pc L st h) : wpd P mL (d + 1) y (pc, L, st, h) Q := by
  induction n generalizing pc L st h with
  | zero => exact k
  | succ n ih =>
    refine wpd.intro (fun w => ?_)
    obtain ⟨o, h1, h2⟩ := hP _ _ _ _ _ _ k
    refine ⟨o, h1, Kt.mono (fun y s Q Q' hq => wpd.mono hq d y s) (fun s' h => ?_) (fun _ _ q => q) h2⟩
    obtain ⟨pc', L', st', h'⟩ := s'
    revert h
    dsimp only
    cases cuts.elem pc' with
    | true => exact id
    | false => exact ih
