/-! hangs: branches of so many carbons come into places; pure things and frames -/
def dnS (f : Nat → Nat) : Nat → Nat
  | 0 => 0
  | n + 1 => f (n + 1) + dnS f n
/-- what it costs at most -/
def hgC : Nat → Nat → Nat → Option Tr → Nat
  | 0, left, _, _ => cond (Nat.beq left 0) 3 0
  | p + 1, left, most, ah => cond (Nat.beq left 0) 3 (dnS (fun s => 1 + ((brL s).map fun b => cond (ovO b ah) 0 (hgC p (left - s) s (some b))).sum) (min left most))
def okB : Tr → Bool
  | .var n => Nat.beq n 0
  | .op a b => okB a && okB b
theorem okB_ok : ∀ {t : Tr}, okB t = true → okT0 t
  | .var n, h => Nat.eq_of_beq_eq_true h
  | .op a b, h => by
    have h : (okB a && okB b) = true := h
    rw [Bool.and_eq_true] at h
    exact ⟨okB_ok h.1, okB_ok h.2⟩
/-- a tree that can be a branch -/
abbrev brT1 (t : Tr) : Prop := okT0 t ∧ szT t ≤ 16 ∧ waysT t ≤ 6 ^ szT t
theorem brL_chk : (List.range 6).all (fun s => (brL s).all fun t => okB t && (Nat.beq (szT t) s && Nat.ble (waysT t) (6 ^ szT t))) = true := by decide +kernel
theorem brL_all {s : Nat} (hs : s ≤ 5) {t : Tr} (ht : t ∈ brL s) : brT1 t ∧ szT t = s := by
  have h1 := List.all_eq_true.mp brL_chk s (List.mem_range.mpr (by omega))
  have h2 := List.all_eq_true.mp h1 t ht
  rw [Bool.and_eq_true, Bool.and_eq_true] at h2
  have h3 := Nat.eq_of_beq_eq_true h2.2.1
  exact ⟨⟨okB_ok h2.1, by omega, Nat.le_of_ble_eq_true h2.2.2⟩, h3⟩
theorem sorted_snoc {b : Tr} : ∀ {l : List Tr}, sortedT l → (∀ y, y ∈ l → 0 ≤ cmpT y b) → sortedT (l ++ [b])
  | [], _, _ => ⟨fun _ h => (nomatch h), trivial⟩
  | a :: r, h, hb => by
    refine ⟨fun y hy => ?_, sorted_snoc h.2 fun y hy => hb y (List.mem_cons_of_mem _ hy)⟩
    rcases List.mem_append.mp hy with hy | hy
    · exact h.1 y hy
    · rw [List.mem_singleton.mp hy]; exact hb a List.mem_cons_self
theorem cpy_pre {α : Type} (xs : List α) (n : Nat) (y : α) (h : n ≤ xs.length) : cpy xs (List.replicate n y) 0 0 n = xs.take n := by
  unfold cpy
  simp
/-- the frame of hangs: the row, the list it comes into, the list's row -/
def frH (c s ρ ι e : Nat) (g h' : AH) : Prop := g.sz ≤ h'.sz ∧ h'.sz ≤ g.sz + c ∧ g.sl ≤ h'.sl ∧ h'.sl ≤ g.sl + s ∧ h'.S = g.S ∧ ∀ v, v < g.sz → h'.I v = g.I v ∧ (v ≠ ρ → (v = e → (g.R e).1 = 206) → h'.R v = g.R v) ∧ (v ≠ ι → h'.F v = g.F v)
section FRH
variable {ρ ι e e1 : Nat} {c s c' s' : Nat} {g g1 g2 : AH}
theorem frH.refl : frH 0 0 ρ ι e g g := ⟨Nat.le_refl _, Nat.le_refl _, Nat.le_refl _, Nat.le_refl _, rfl, fun _ _ => ⟨rfl, fun _ _ => rfl, fun _ => rfl⟩⟩
theorem frH.more (k : frH c s ρ ι e g g1) (hc : c ≤ c') (hs : s ≤ s') : frH c' s' ρ ι e g g1 := ⟨k.1, by have := k.2.1; omega, k.2.2.1, by have := k.2.2.2.1; omega, k.2.2.2.2⟩
theorem frH.trans (a : frH c s ρ ι e g g1) (b : frH c' s' ρ ι e1 g1 g2) (he : e1 = e ∨ g.sz ≤ e1) (hne : e ≠ ρ ∨ (g.R e).1 ≠ 206) : frH (c + c') (s + s') ρ ι e g g2 := by
  obtain ⟨a1, a2, a3, a4, a5, a6⟩ := a
  obtain ⟨b1, b2, b3, b4, b5, b6⟩ := b
  refine ⟨by omega, by omega, by omega, by omega, b5.trans a5, fun v hv => ?_⟩
  obtain ⟨p1, p2, p3⟩ := a6 v hv
  obtain ⟨q1, q2, q3⟩ := b6 v (by omega)
  refine ⟨q1.trans p1, fun w1 w2 => (q2 w1 (fun w => ?_)).trans (p2 w1 w2), fun w => (q3 w).trans (p3 w)⟩
  have he : e1 = e := by omega
  subst he
  rw [← w, p2 w1 w2, w]
  exact w2 w
theorem ext.frH (k : ext c s g g1) : frH c s ρ ι e g g1 := ⟨k.1, k.2.1, k.2.2.1, k.2.2.2.1, k.2.2.2.2.2, fun v hv => ⟨(k.2.2.2.2.1 v hv).1, fun _ _ => (k.2.2.2.2.1 v hv).2.1, fun _ => (k.2.2.2.2.1 v hv).2.2⟩⟩
theorem frH.setRho (k : frH c s ρ ι e g g1) {x : List (Option Nat)} : frH c s ρ ι e g (g1.setR ρ x) := by
  obtain ⟨a1, a2, a3, a4, a5, a6⟩ := k
  exact ⟨a1, a2, a3, a4, a5, fun v hv => ⟨(a6 v hv).1, fun w1 w2 => (setR_ne w1).trans ((a6 v hv).2.1 w1 w2), (a6 v hv).2.2⟩⟩
theorem frH.setNew (k : frH c s ρ ι e g g1) {t : Nat} (ht : g.sz ≤ t) {x : List AV} : frH c s ρ ι e g (g1.setF t x) := by
  obtain ⟨a1, a2, a3, a4, a5, a6⟩ := k
  exact ⟨a1, a2, a3, a4, a5, fun v hv => ⟨(a6 v hv).1, (a6 v hv).2.1, fun w => (setF_ne (by omega)).trans ((a6 v hv).2.2 w)⟩⟩
end FRH
/-- a list whose branches are told, all of it explicit -/
def lsX (P : Nat → Prop) (g : AH) (a e : Nat) (m : Int) (bs : List Nat) (k : Nat) (L : List Tr) : Prop := P a ∧ AL g a e m bs k ∧ (P e ∨ (e < g.sz ∧ (g.R e).1 = 206)) ∧ bs.length = L.length ∧ ∀ (j b : Nat) (t : Tr), bs[j]? = some b → L[j]? = some t → BrA P g b t
theorem lsX.to {P P' : Nat → Prop} {h h' : AH} {a e k : Nat} {m : Int} {bs : List Nat} {L : List Tr} (q : lsX P h a e m bs k L) (hz : h.sz ≤ h'.sz) (hS : h'.S = h.S) (hP : ∀ v, P v → P' v ∧ h'.R v = h.R v ∧ h'.F v = h.F v) (h206 : ∀ v, v < h.sz → (h.R v).1 = 206 → h'.R v = h.R v) : lsX P' h' a e m bs k L := by
  obtain ⟨k1, k2, k3, k4, k5⟩ := q
  have hRe : h'.R e = h.R e := by
    rcases k3 with q | ⟨q1, q2⟩
    · exact (hP e q).2.1
    · exact h206 e q1 q2
  refine ⟨(hP a k1).1, k2.to hS (hP a k1).2.2 hRe, ?_, k4, fun j b t h1 h2 => (k5 j b t h1 h2).to hP⟩
  rcases k3 with q | ⟨q1, q2⟩
  · exact Or.inl (hP e q).1
  · exact Or.inr ⟨by omega, by rw [hRe]; exact q2⟩
/-- what holds while branches come into places -/
def hI (x ρ ι : Nat) (fl : List AV) (eB : Nat) (mB : Int) (lB : List Nat) (kB N : Nat) (P : Nat → Prop) (g : AH) (e : Nat) (m : Int) (l : List Nat) (k : Nat) (Ts : List Tr) (refs : List (Option Nat)) : Prop :=
  (g.F x = (1, fl) ∧ x + 87 < g.sz) ∧ brsF P g x eB mB lB kB N ∧ (∀ v, P v → x + 87 < v ∧ v < g.sz ∧ v ≠ ρ ∧ v ≠ ι ∧ v ≠ e) ∧ (AL g ι e m l k ∧ l.length = Ts.length ∧ ∀ (j b : Nat) (t : Tr), l[j]? = some b → Ts[j]? = some t → BrA P g b t) ∧ (x + 87 < ι ∧ ι < g.sz ∧ e < g.sz ∧ ι ≠ e) ∧ (x + 87 < ρ ∧ ρ < g.sz ∧ g.R ρ = (1, refs)) ∧ (eB ≠ e ∨ (g.R e).1 = 206) ∧ eB ≠ ρ
def hD (ρ ι : Nat) (P : Nat → Prop) (g : AH) (e : Nat) (l : List Nat) (refs : List (Option Nat)) (n c : Nat) (P1 : Nat → Prop) (g1 : AH) (e1 : Nat) (l1 : List Nat) (refs1 : List (Option Nat)) : Prop :=
  frH c (30 * c + (l1.length * l1.length - l.length * l.length)) ρ ι e g g1 ∧ (e1 = e ∨ g.sz ≤ e1) ∧ (∀ v, P v → P1 v) ∧ (∀ v, P1 v → P v ∨ g.sz ≤ v) ∧ refs1.length = refs.length ∧ (∀ i, i < n → refs1[i]? = refs[i]?) ∧ l.length ≤ l1.length
section HI
variable {x ρ ι : Nat} {fl : List AV} {eB : Nat} {mB : Int} {lB : List Nat} {kB N : Nat} {P P1 P2 : Nat → Prop} {g g1 g2 : AH} {e e1 e2 : Nat} {m : Int} {l l1 l2 : List Nat} {k : Nat} {Ts : List Tr} {refs refs1 refs2 : List (Option Nat)} {n n' c c' : Nat}
theorem hI.neρ (h : hI x ρ ι fl eB mB lB kB N P g e m l k Ts refs) : e ≠ ρ := by
  obtain ⟨-, -, -, ⟨a, -⟩, -, ⟨-, -, r⟩, -⟩ := h
  intro w
  have := a.six
  rw [w, r] at this
  cases this
theorem hD.refl : hD ρ ι P g e l refs n 0 P g e l refs := ⟨frH.refl.more (Nat.le_refl _) (Nat.zero_le _), Or.inl rfl, fun _ h => h, fun _ h => Or.inl h, rfl, fun _ _ => rfl, Nat.le_refl _⟩
theorem hD.trans (a : hD ρ ι P g e l refs n c P1 g1 e1 l1 refs1) (b : hD ρ ι P1 g1 e1 l1 refs1 n' c' P2 g2 e2 l2 refs2) (hn : n ≤ n') (hne : e ≠ ρ) : hD ρ ι P g e l refs n (c + c') P2 g2 e2 l2 refs2 := by
  obtain ⟨a1, a2, a3, a4, a5, a6, a7⟩ := a
  obtain ⟨b1, b2, b3, b4, b5, b6, b7⟩ := b
  have z := a1.1
  have s1 := Nat.mul_le_mul a7 a7
  have s2 := Nat.mul_le_mul b7 b7
  refine ⟨(a1.trans b1 a2 (Or.inl hne)).more (Nat.le_refl _) (by omega), by omega, fun v h => b3 v (a3 v h), fun v h => ?_, b5.trans a5, fun i hi => (b6 i (by omega)).trans (a6 i hi), by omega⟩
  rcases b4 v h with q | q
  · exact a4 v q
  · exact Or.inr (by omega)
/-- more cells, nothing else -/
theorem hI.ext {c s : Nat} (h : hI x ρ ι fl eB mB lB kB N P g e m l k Ts refs) (u : ext c s g g1) : hI x ρ ι fl eB mB lB kB N P g1 e m l k Ts refs := by
  obtain ⟨⟨h1, h1'⟩, h2, h3, ⟨h4, h5, h6⟩, ⟨h7, h8, h9, h10⟩, ⟨h11, h12, h13⟩, h14, h15⟩ := h
  have z := u.1
  have u5 := u.2.2.2.2.1
  have hP : ∀ v, P v → P v ∧ g1.R v = g.R v ∧ g1.F v = g.F v := fun v hv => ⟨hv, (u5 v (h3 v hv).2.1).2.1, (u5 v (h3 v hv).2.1).2.2⟩
  exact ⟨⟨(u5 x (by omega)).2.2.trans h1, by omega⟩, h2.to z u.2.2.2.2.2 hP (fun v hv _ => (u5 v hv).2.1) (u5 _ (by omega)).2.2 (u5 _ h2.2.1).2.1 h2.2.2.1, fun v hv => ⟨(h3 v hv).1, by have := (h3 v hv).2.1; omega, (h3 v hv).2.2⟩, ⟨h4.to u.2.2.2.2.2 (u5 _ h8).2.2 (u5 _ h9).2.1, h5, fun j b t w1 w2 => (h6 j b t w1 w2).to hP⟩, ⟨h7, by omega, by omega, h10⟩, ⟨h11, by omega, (u5 _ h12).2.1.trans h13⟩, by rw [(u5 _ h9).2.1]; exact h14, h15⟩
/-- a place of no consequence changes -/
theorem hI.setNew {t : Nat} {y : List AV} (h : hI x ρ ι fl eB mB lB kB N P g e m l k Ts refs) (ht : ¬ P t) (hx : x + 87 < t) (hι : t ≠ ι) : hI x ρ ι fl eB mB lB kB N P (g.setF t y) e m l k Ts refs := by
  obtain ⟨⟨h1, h1'⟩, h2, h3, ⟨h4, h5, h6⟩, ⟨h7, h8, h9, h10⟩, ⟨h11, h12, h13⟩, h14, h15⟩ := h
  have hP : ∀ v, P v → P v ∧ (g.setF t y).R v = g.R v ∧ (g.setF t y).F v = g.F v := fun v hv => ⟨hv, rfl, setF_ne (fun w => ht (w ▸ hv))⟩
  exact ⟨⟨(setF_ne (by omega)).trans h1, h1'⟩, h2.to (Nat.le_refl _) rfl hP (fun _ _ _ => rfl) (setF_ne (by omega)) rfl h2.2.2.1, h3, ⟨h4.to rfl (setF_ne (Ne.symm hι)) rfl, h5, fun j b t' w1 w2 => (h6 j b t' w1 w2).to hP⟩, ⟨h7, h8, h9, h10⟩, ⟨h11, h12, h13⟩, h14, h15⟩
/-- the row's places change -/
theorem hI.setRho {ys : List (Option Nat)} (h : hI x ρ ι fl eB mB lB kB N P g e m l k Ts refs) : hI x ρ ι fl eB mB lB kB N P (g.setR ρ ys) e m l k Ts ys := by
  have hne := h.neρ
  obtain ⟨⟨h1, h1'⟩, h2, h3, ⟨h4, h5, h6⟩, ⟨h7, h8, h9, h10⟩, ⟨h11, h12, h13⟩, h14, h15⟩ := h
  have hP : ∀ v, P v → P v ∧ (g.setR ρ ys).R v = g.R v ∧ (g.setR ρ ys).F v = g.F v := fun v hv => ⟨hv, setR_ne (h3 v hv).2.2.1, rfl⟩
  refine ⟨⟨h1, h1'⟩, h2.to (Nat.le_refl _) rfl hP (fun v _ w => setR_ne (fun q => by rw [q, h13] at w; cases w)) rfl (setR_ne h15) h2.2.2.1, h3, ⟨h4.to rfl rfl (setR_ne hne), h5, fun j b t' w1 w2 => (h6 j b t' w1 w2).to hP⟩, ⟨h7, h8, h9, h10⟩, ⟨h11, h12, setR_at h13⟩, ?_, h15⟩
  rw [setR_ne hne]
  exact h14
/-- a told list stays through the deeds -/
theorem lsX.hD {a e' k' : Nat} {m' : Int} {bs : List Nat} {L : List Tr} (q : lsX P g a e' m' bs k' L) (h : hI x ρ ι fl eB mB lB kB N P g e m l k Ts refs) (d : hD ρ ι P g e l refs n c P1 g1 e1 l1 refs1) : lsX P1 g1 a e' m' bs k' L := by
  obtain ⟨d1, d2, d3, d4, -, -⟩ := d
  have hne := h.neρ
  obtain ⟨⟨h1, h1'⟩, h2, h3, ⟨h4, h5, h6⟩, ⟨h7, h8, h9, h10⟩, ⟨h11, h12, h13⟩, h14, h15⟩ := h
  refine q.to d1.1 d1.2.2.2.2.1 (fun v hv => ?_) (fun v hv w => ?_)
  · obtain ⟨w1, w2, w3, w4, w5⟩ := h3 v hv
    obtain ⟨u1, u2, u3⟩ := d1.2.2.2.2.2 v w2
    exact ⟨d3 v hv, u2 w3 (fun w => absurd w w5), u3 w4⟩
  · exact (d1.2.2.2.2.2 v hv).2.1 (fun w' => by rw [w', h13] at w; cases w) (fun w' => by rw [← w']; exact w)
end HI
abbrev hgEnd (x ρ ι : Nat) (fl : List AV) (eB : Nat) (mB : Int) (lB : List Nat) (kB N : Nat) (P : Nat → Prop) (g : AH) (e : Nat) (l : List Nat) (Ts : List Tr) (refs : List (Option Nat)) (n c : Nat) (res : List Tr) : Rs → AH → Prop := fun r h' => r = .inl none ∧ ∃ P1 e1 m1 l1 k1 refs1, hI x ρ ι fl eB mB lB kB N P1 h' e1 m1 l1 k1 (Ts ++ res) refs1 ∧ hD ρ ι P g e l refs n c P1 h' e1 l1 refs1
