/-! WHAT IS KEPT ONCE: the start's heap below, counts, branches, codes, what was found; the twin behind -/
def Old (hs h : AH) (x : Nat) : Prop := hs.sz ≤ x ∧ h.S = hs.S ∧ ∀ v, v < hs.sz → h.I v = hs.I v ∧ h.R v = hs.R v ∧ h.F v = hs.F v
abbrev epOk (h : AH) (x ep : Nat) : Prop := x + 87 < ep ∨ (h.R ep).1 = 206
/-- a list of branches, all that it lies on in a set of places (or the empty row of the library) -/
def lsP (P : Nat → Prop) (h : AH) (a : Nat) (L : List Tr) : Prop := P a ∧ ∃ e m bs k, AL h a e m bs k ∧ (P e ∨ (e < h.sz ∧ (h.R e).1 = 206)) ∧ bs.length = L.length ∧ ∀ (j b : Nat) (t : Tr), bs[j]? = some b → L[j]? = some t → BrA P h b t
/-- the list of lists: the first N are told -/
def brsF (P : Nat → Prop) (h : AH) (x eB : Nat) (mB : Int) (lB : List Nat) (kB N : Nat) : Prop := AL h (x + 1) eB mB lB kB ∧ eB < h.sz ∧ ¬ P eB ∧ N ≤ lB.length ∧ lB.length ≤ 6 ∧ ∀ (i a : Nat), i < N → lB[i]? = some a → lsP P h a (brL i)
def brsAt (h : AH) (x ep N : Nat) : Prop := ∃ P eB mB lB kB, (∀ v, P v → gdA x h v ∧ v ≠ ep) ∧ ((x + 87 < eB ∧ eB ≠ ep) ∨ (h.R eB).1 = 206) ∧ lB.length = N ∧ brsF P h x eB mB lB kB N
abbrev codR (L : List Nat) : List Int := L.map fun v => ((v : Nat) : Int)
def codAtC (h : AH) (x r n : Nat) : Prop := gdA x h r ∧ ∃ rows, h.R r = (2, rows) ∧ rows.length = (codesL n).length ∧ ∀ (k : Nat) (L : List Nat), (codesL n)[k]? = some L → ∃ a, rows[k]? = some (some a) ∧ gdA x h a ∧ h.I a = (1, codR L)
def codC (h : AH) (x : Nat) : Prop := ∃ cs, h.R (x + 2) = (3, cs) ∧ cs.length = 12 ∧ ∀ n, n ≤ 11 → cs[n]? = some none ∨ (1 ≤ n ∧ ∃ r, cs[n]? = some (some r) ∧ codAtC h x r n)
noncomputable def suchL (n w : Nat) : List Int := (codesL n).map fun L => ((hasG (gC L (n - 1)) (dst (gC L (n - 1))) w : Nat) : Int)
def fndC (h : AH) (x : Nat) (fd : Nat → Nat → Bool) : Prop := ∃ fs, h.R (x + 29) = (3, fs) ∧ fs.length = 12 ∧ ∀ n, n ≤ 11 → fs[n]? = some (some (x + 30 + n)) ∧ ∃ ws, h.R (x + 30 + n) = (2, ws) ∧ ws.length = 4 ∧ ∀ w, w < 4 → (fd n w = false ∧ ws[w]? = some none) ∨ (fd n w = true ∧ ∃ a, ws[w]? = some (some a) ∧ gdA x h a ∧ h.I a = (1, suchL n w))
def Cache (hs h : AH) (x : Nat) (ld : Int) (ep : Nat) (fd : Nat → Nat → Bool) : Prop := Old hs h x ∧ epOk h x ep ∧ cntC h x ld ∧ (∃ N, brsAt h x ep N) ∧ codC h x ∧ fndC h x fd
/-- the twin lies behind the component -/
def Twn (h : AH) (x : Nat) (S : AS) : Prop := ∃ A sc, h = tw h (x + 42) A sc ∧ TW A sc S
theorem Old.to {hs h h' : AH} {x : Nat} (k : Old hs h x) (hS : h'.S = h.S) (hv : ∀ v, v < x → h'.I v = h.I v ∧ h'.R v = h.R v ∧ h'.F v = h.F v) : Old hs h' x := by
  obtain ⟨k1, k2, k3⟩ := k
  refine ⟨k1, hS.trans k2, fun v w => ?_⟩
  obtain ⟨a1, a2, a3⟩ := hv v (by omega)
  obtain ⟨b1, b2, b3⟩ := k3 v w
  exact ⟨a1.trans b1, a2.trans b2, a3.trans b3⟩
theorem cntC.to {h h' : AH} {x : Nat} {ld : Int} (k : cntC h x ld) (h3 : h'.I (x + 3) = h.I (x + 3)) (h4 : h'.I (x + 4) = h.I (x + 4)) (h5 : h'.I (x + 5) = h.I (x + 5)) : cntC h' x ld := by
  obtain ⟨k1, k2, R, F, O, k3, k4, k5, k6⟩ := k
  exact ⟨k1, k2, R, F, O, h3.trans k3, h4.trans k4, h5.trans k5, k6⟩
theorem AL.to {h h' : AH} {a e : Nat} {m : Int} {l : List Nat} {k : Nat} (A : AL h a e m l k) (hS : h'.S = h.S) (hF : h'.F a = h.F a) (hR : h'.R e = h.R e) : AL h' a e m l k := by
  obtain ⟨a1, a2⟩ := A
  refine ⟨hF.trans a1, ?_⟩
  rcases a2 with q | ⟨q1, q2, q3, q4⟩
  · exact Or.inl (hR.trans q)
  · exact Or.inr ⟨q1, q2, by rw [hS]; exact q3, hR.trans q4⟩
theorem gdA.up {x v : Nat} {h h' : AH} (k : gdA x h v) (hz : h.sz ≤ h'.sz) : gdA x h' v := ⟨k.1, Nat.lt_of_lt_of_le k.2 hz⟩
/-- branches stay where rows of kind 1, objects of kind 7 stay -/
theorem BrI.kd {x : Nat} {h h' : AH} (hz : h.sz ≤ h'.sz) (hR : ∀ v, x + 87 < v → v < h.sz → (h.R v).1 = 1 → h'.R v = h.R v) (hF : ∀ v, x + 87 < v → v < h.sz → (h.F v).1 = 7 → h'.F v = h.F v) : ∀ {t : Tr} {rs : List (Option Nat)}, BrI (gdA x h) h t rs → BrI (gdA x h') h' t rs
  | .var _, _, k => k
  | .op a b, rs, ⟨y, p, r, qs, k1, ⟨k2, k3, k4, k5, k6⟩, k7⟩ =>
    ⟨y, p, r, qs, k1, ⟨gdA.up k2 hz, (hF y k2.1 k2.2 (by rw [k3])).trans k3, gdA.up k4 hz, (hR p k4.1 k4.2 (by rw [k5])).trans k5, BrI.kd hz hR hF k6⟩, BrI.kd hz hR hF k7⟩
theorem BrA.kd {x y : Nat} {h h' : AH} {t : Tr} (k : BrA (gdA x h) h y t) (hz : h.sz ≤ h'.sz) (hR : ∀ v, x + 87 < v → v < h.sz → (h.R v).1 = 1 → h'.R v = h.R v) (hF : ∀ v, x + 87 < v → v < h.sz → (h.F v).1 = 7 → h'.F v = h.F v) : BrA (gdA x h') h' y t := by
  obtain ⟨p, qs, k2, k3, k4, k5, k6⟩ := k
  exact ⟨p, qs, gdA.up k2 hz, (hF y k2.1 k2.2 (by rw [k3])).trans k3, gdA.up k4 hz, (hR p k4.1 k4.2 (by rw [k5])).trans k5, BrI.kd hz hR hF k6⟩
theorem lsP.to {P P' : Nat → Prop} {h h' : AH} {a : Nat} {L : List Tr} (k : lsP P h a L) (hz : h.sz ≤ h'.sz) (hS : h'.S = h.S) (hP : ∀ v, P v → P' v ∧ h'.R v = h.R v ∧ h'.F v = h.F v) (h206 : ∀ v, v < h.sz → (h.R v).1 = 206 → h'.R v = h.R v) : lsP P' h' a L := by
  obtain ⟨k1, e, m, bs, kk, k2, k3, k4, k5⟩ := k
  have hRe : h'.R e = h.R e := by
    rcases k3 with q | ⟨q1, q2⟩
    · exact (hP e q).2.1
    · exact h206 e q1 q2
  refine ⟨(hP a k1).1, e, m, bs, kk, k2.to hS (hP a k1).2.2 hRe, ?_, k4, fun j b t h1 h2 => (k5 j b t h1 h2).to hP⟩
  rcases k3 with q | ⟨q1, q2⟩
  · exact Or.inl (hP e q).1
  · exact Or.inr ⟨by omega, by rw [hRe]; exact q2⟩
theorem AL.six {h : AH} {a e : Nat} {m : Int} {l : List Nat} {k : Nat} (A : AL h a e m l k) : (h.R e).1 % 200 = 6 := by
  rcases A.2 with q | ⟨-, -, -, q⟩
  · rw [q]; rfl
  · rw [q]; rfl
theorem brsF.to {P P' : Nat → Prop} {h h' : AH} {x eB kB N : Nat} {mB : Int} {lB : List Nat} (k : brsF P h x eB mB lB kB N) (hz : h.sz ≤ h'.sz) (hS : h'.S = h.S) (hP : ∀ v, P v → P' v ∧ h'.R v = h.R v ∧ h'.F v = h.F v) (h206 : ∀ v, v < h.sz → (h.R v).1 = 206 → h'.R v = h.R v) (h1 : h'.F (x + 1) = h.F (x + 1)) (hB : h'.R eB = h.R eB) (hn : ¬ P' eB) : brsF P' h' x eB mB lB kB N := by
  obtain ⟨k1, k2, k3, k4, k5, k6⟩ := k
  exact ⟨k1.to hS h1 hB, by omega, hn, k4, k5, fun i a hi ha => (k6 i a hi ha).to hz hS hP h206⟩
theorem brsAt.to {h h' : AH} {x ep ep' N : Nat} (k : brsAt h x ep N) (hz : h.sz ≤ h'.sz) (hS : h'.S = h.S) (h1 : h'.F (x + 1) = h.F (x + 1)) (hF : ∀ v, x + 87 < v → v < h.sz → h'.F v = h.F v) (hR : ∀ v, v < h.sz → (x + 87 < v ∧ v ≠ ep) ∨ (h.R v).1 = 206 → h'.R v = h.R v) (hep : ep' = ep ∨ h.sz ≤ ep') : brsAt h' x ep' N := by
  obtain ⟨P, eB, mB, lB, kB, k1, k2, k3, k4⟩ := k
  have k42 := k4.2.1
  have hRe := hR eB k42 k2
  refine ⟨P, eB, mB, lB, kB, fun v hv => ⟨gdA.up (k1 v hv).1 hz, ?_⟩, ?_, k3, k4.to hz hS (fun v hv => ⟨hv, hR v (k1 v hv).1.2 (Or.inl ⟨(k1 v hv).1.1, (k1 v hv).2⟩), hF v (k1 v hv).1.1 (k1 v hv).1.2⟩) (fun v hv w => hR v hv (Or.inr w)) h1 hRe k4.2.2.1⟩
  · have := (k1 v hv).1.2
    have := (k1 v hv).2
    omega
  · rcases k2 with q | q
    · exact Or.inl ⟨q.1, by omega⟩
    · exact Or.inr (by rw [hRe]; exact q)
theorem codAtC.to {h h' : AH} {x r n : Nat} (k : codAtC h x r n) (hz : h.sz ≤ h'.sz) (hR : ∀ v, x + 87 < v → v < h.sz → (h.R v).1 = 2 → h'.R v = h.R v) (hI : ∀ v, x + 87 < v → v < h.sz → h'.I v = h.I v) : codAtC h' x r n := by
  obtain ⟨k1, rows, k2, k3, k4⟩ := k
  refine ⟨gdA.up k1 hz, rows, (hR r k1.1 k1.2 (by rw [k2])).trans k2, k3, fun k L hk => ?_⟩
  obtain ⟨a, a1, a2, a3⟩ := k4 k L hk
  exact ⟨a, a1, gdA.up a2 hz, (hI a a2.1 a2.2).trans a3⟩
theorem codC.to {h h' : AH} {x : Nat} (k : codC h x) (hz : h.sz ≤ h'.sz) (h2 : h'.R (x + 2) = h.R (x + 2)) (hR : ∀ v, x + 87 < v → v < h.sz → (h.R v).1 = 2 → h'.R v = h.R v) (hI : ∀ v, x + 87 < v → v < h.sz → h'.I v = h.I v) : codC h' x := by
  obtain ⟨cs, k1, k2, k3⟩ := k
  refine ⟨cs, h2.trans k1, k2, fun n hn => ?_⟩
  rcases k3 n hn with q | ⟨q0, r, q1, q2⟩
  · exact Or.inl q
  · exact Or.inr ⟨q0, r, q1, q2.to hz hR hI⟩
theorem fndC.to {h h' : AH} {x : Nat} {fd : Nat → Nat → Bool} (k : fndC h x fd) (hz : h.sz ≤ h'.sz) (hR : ∀ v, x + 29 ≤ v → v ≤ x + 41 → h'.R v = h.R v) (hI : ∀ v, x + 87 < v → v < h.sz → h'.I v = h.I v) : fndC h' x fd := by
  obtain ⟨fs, k1, k2, k3⟩ := k
  refine ⟨fs, (hR _ (by omega) (by omega)).trans k1, k2, fun n hn => ?_⟩
  obtain ⟨q1, ws, q2, q3, q4⟩ := k3 n hn
  refine ⟨q1, ws, (hR _ (by omega) (by omega)).trans q2, q3, fun w hw => ?_⟩
  rcases q4 w hw with g | ⟨g1, a, g2, g3, g4⟩
  · exact Or.inl g
  · exact Or.inr ⟨g1, a, g2, gdA.up g3 hz, (hI a g3.1 g3.2).trans g4⟩
/-- all of the cache stays through a call that makes no cache -/
theorem Cache.fr {hs h h' : AH} {x : Nat} {ld : Int} {ep ep' : Nat} {fd : Nat → Nat → Bool} (c : Cache hs h x ld ep fd) (hx : x + 87 < h.sz) (f : frB x ep h h') (h6 : (h.R ep).1 % 200 = 6) (h25 : (h.R (x + 25)).1 = 4) (hep : ep' = ep ∨ h.sz ≤ ep') : Cache hs h' x ld ep' fd := by
  obtain ⟨c1, c2, c3, ⟨N, c4⟩, c5, c6⟩ := c
  obtain ⟨f1, f2, f3⟩ := f
  have hR2 : ∀ v, x + 87 < v → v < h.sz → (h.R v).1 = 2 → h'.R v = h.R v := fun v v1 v2 v3 => (f3 v v2).2.1 (by omega) (fun w => by rw [← w, v3] at h6; cases h6)
  refine ⟨c1.to f2 fun v hv => ⟨(f3 v (by omega)).1 (by omega), (f3 v (by omega)).2.1 (by omega) (fun w => ?_), (f3 v (by omega)).2.2 (by omega) (by omega)⟩, ?_, c3.to ((f3 _ (by omega)).1 (by omega)) ((f3 _ (by omega)).1 (by omega)) ((f3 _ (by omega)).1 (by omega)), ⟨N, ?_⟩, c5.to f1 ((f3 _ (by omega)).2.1 (by omega) (fun w => ?_)) hR2 (fun v v1 v2 => (f3 v v2).1 (by omega)), c6.to f1 (fun v v1 v2 => (f3 v (by omega)).2.1 (by omega) (fun w => ?_)) (fun v v1 v2 => (f3 v v2).1 (by omega))⟩
  · rcases c2 with q | q
    · omega
    · rw [w]; exact q
  · rcases c2 with q | q
    · left; omega
    · rcases hep with w | w
      · subst w
        by_cases g : ep' < h.sz
        · by_cases g2 : ep' = x + 25
          · left
            exfalso
            rw [g2, h25] at q
            cases q
          · right
            rw [(f3 ep' g).2.1 g2 (fun _ => q)]; exact q
        · left; omega
      · left; omega
  · exact c4.to f1 f2 ((f3 _ (by omega)).2.2 (by omega) (by omega)) (fun v v1 v2 => (f3 v v2).2.2 (by omega) (by omega)) (fun v v1 v2 => (f3 v v1).2.1 (fun w => by rw [w] at v2; rcases v2 with q | q; omega; rw [h25] at q; cases q) (fun w => by rcases v2 with q | q; exact absurd w q.2; rw [w] at q ⊢; exact q)) hep
  · rcases c2 with q | q
    · omega
    · rw [w]; exact q
  · rcases c2 with q | q
    · omega
    · rw [w]; exact q
/-- what may change in a call that makes or looks up what is kept: nothing that the state rests on -/
abbrev good (x v : Nat) : Prop := v < x ∨ (x + 6 ≤ v ∧ v ≤ x + 27) ∨ x + 87 < v
def frW (x ep : Nat) (h h' : AH) : Prop := h.sz ≤ h'.sz ∧ h'.S = h.S ∧ ∀ v, v < h.sz → good x v → h'.I v = h.I v ∧ (((h.R v).1 = 6 → v = ep) → h'.R v = h.R v) ∧ (((h.F v).1 = 10 → v = x + 26) → h'.F v = h.F v)
section FRW
variable {x ep : Nat} {h h' : AH}
theorem SkAt.fw {s : Nat} {G : Gr} (k : SkAt h s G) (f : frW x ep h h') (ho : skOk x s) : SkAt h' s G := by
  obtain ⟨k1, k2, k3, ⟨W, k4, k5⟩, k6⟩ := k
  obtain ⟨f1, f2, f3⟩ := f
  refine ⟨by omega, ((f3 s (by omega) (by omega)).2.2 (fun w => by rw [k2] at w; cases w)).trans k2, ((f3 (s + 1) (by omega) (by omega)).2.1 (fun w => by rw [k3] at w; cases w)).trans k3, ⟨W, (f3 _ (by omega) (by omega)).1.trans k4, k5⟩, fun c hc => ?_⟩
  obtain ⟨X, x1, x2⟩ := k6 c hc
  exact ⟨X, (f3 _ (by omega) (by omega)).1.trans x1, x2⟩
theorem BrA.fw {y : Nat} {t : Tr} (k : BrA (gdA x h) h y t) (f : frW x ep h h') : BrA (gdA x h') h' y t :=
  k.kd f.1 (fun v v1 v2 v3 => (f.2.2 v v2 (Or.inr (Or.inr v1))).2.1 (fun w => by rw [v3] at w; cases w)) (fun v v1 v2 v3 => (f.2.2 v v2 (Or.inr (Or.inr v1))).2.2 (fun w => by rw [v3] at w; cases w))
theorem WhAt.fw {w : Nat} {W : Wh} (k : WhAt (gdA x h) h w W) (f : frW x ep h h') : WhAt (gdA x h') h' w W := by
  obtain ⟨t, o⟩ := W
  cases o with
  | none =>
    obtain ⟨r, k1, k2, k3⟩ := k
    have q1 : x + 87 < w ∧ w < h.sz := k1
    exact ⟨r, gdA.up k1 f.1, ((f.2.2 w q1.2 (Or.inr (Or.inr q1.1))).2.2 (fun v => by rw [k2] at v; cases v)).trans k2, k3.fw f⟩
  | some u =>
    obtain ⟨r, q, k1, k2, k3, k4⟩ := k
    have q1 : x + 87 < w ∧ w < h.sz := k1
    exact ⟨r, q, gdA.up k1 f.1, ((f.2.2 w q1.2 (Or.inr (Or.inr q1.1))).2.2 (fun v => by rw [k2] at v; cases v)).trans k2, k3.fw f, k4.fw f⟩
theorem StrAt.fw {s : Nat} {t : List Int} (k : StrAt (gdA x h) h s t) (f : frW x ep h h') : StrAt (gdA x h') h' s t := by
  obtain ⟨v, w1, w2, k1, k2, k3, k4⟩ := k
  have q1 : x + 87 < s ∧ s < h.sz := k1
  have q2 : x + 87 < v ∧ v < h.sz := k2
  exact ⟨v, w1, w2, gdA.up k1 f.1, gdA.up k2 f.1, ((f.2.2 s q1.2 (Or.inr (Or.inr q1.1))).2.2 (fun v => by rw [k3] at v; cases v)).trans k3, (f.2.2 v q2.2 (Or.inr (Or.inr q2.1))).1.trans k4⟩
theorem Base.fw {ld ld' : Int} {nw : Nat} {wh nm : Option Nat} {tp : Nat} {S : AS} (b : Base h x ld nw wh nm tp ep S) (f : frW x ep h h') (hF : h'.F x = (1, flC x ld' nw wh nm tp)) : Base h' x ld' nw wh nm tp ep S := by
  obtain ⟨b1, b2, ⟨b3, b4⟩, ⟨⟨p1, p2⟩, m, pl, k, p3, p4, p5⟩, ⟨sl, s1, s2, s3⟩, ⟨T, t1, t2⟩, b7, b8⟩ := b
  have f1 := f.1
  refine ⟨by omega, hF, ⟨b3, b4.fw f b3⟩, ⟨⟨by omega, p2⟩, m, pl, k, p3.to f.2.1 ((f.2.2 _ (by omega) (by omega)).2.2 (fun _ => rfl)) ((f.2.2 ep p1 (by omega)).2.1 (fun _ => rfl)), p4, fun i s G h1 h2 => ?_⟩, ⟨sl, ((f.2.2 _ (by omega) (by omega)).2.1 (fun w => by rw [s1] at w; cases w)).trans s1, s2, fun k hk => ?_⟩, ⟨T, (f.2.2 _ (by omega) (by omega)).1.trans t1, t2⟩, fun w e => (b7 w e).fw f, fun s e => (b8 s e).fw f⟩
  · have := p5 i s G h1 h2
    exact ⟨this.1, this.2.fw f this.1⟩
  · have := s3 k hk
    revert this
    cases S.2.2.1 k with
    | none => exact id
    | some G =>
      rintro ⟨s, g1, g2, g3⟩
      exact ⟨s, g1, g2, g3.fw f g2⟩
theorem Base.h25 {ld : Int} {nw : Nat} {wh nm : Option Nat} {tp : Nat} {S : AS} (b : Base h x ld nw wh nm tp ep S) : (h.R (x + 25)).1 = 4 := by
  obtain ⟨-, -, -, -, ⟨sl, s1, -⟩, -⟩ := b
  rw [s1]
theorem frW.refl : frW x ep h h := ⟨Nat.le_refl _, rfl, fun _ _ _ => ⟨rfl, fun _ => rfl, fun _ => rfl⟩⟩
theorem frW.ofExt {c s : Nat} (e : ext c s h h') : frW x ep h h' := ⟨e.1, e.2.2.2.2.2, fun v hv _ => ⟨(e.2.2.2.2.1 v hv).1, fun _ => (e.2.2.2.2.1 v hv).2.1, fun _ => (e.2.2.2.2.1 v hv).2.2⟩⟩
theorem frW.trans {h1 : AH} (a : frW x ep h h1) (b : frW x ep h1 h') : frW x ep h h' := by
  obtain ⟨a1, a2, a3⟩ := a
  obtain ⟨b1, b2, b3⟩ := b
  refine ⟨by omega, b2.trans a2, fun v hv hg => ?_⟩
  obtain ⟨p1, p2, p3⟩ := a3 v hv hg
  obtain ⟨q1, q2, q3⟩ := b3 v (by omega) hg
  exact ⟨q1.trans p1, fun w => (q2 (by rw [p2 w]; exact w)).trans (p2 w), fun w => (q3 (by rw [p3 w]; exact w)).trans (p3 w)⟩
/-- the twin's deeds leave the component as it is -/
theorem tw_frW {A : Nat → List Int} {sc : Nat → Int} : frW x ep h (tw h (x + 42) A sc) := by
  refine ⟨Nat.le_refl _, rfl, fun v _ hg => ⟨if_neg (by omega), fun _ => rfl, fun _ => if_neg (by omega)⟩⟩
theorem tw_Base {A : Nat → List Int} {sc : Nat → Int} {ld : Int} {nw : Nat} {wh nm : Option Nat} {tp : Nat} {S : AS} (b : Base h x ld nw wh nm tp ep S) : Base (tw h (x + 42) A sc) x ld nw wh nm tp ep S := b.fw tw_frW ((if_neg (by omega)).trans b.2.1)
theorem tw_Cache {A : Nat → List Int} {sc : Nat → Int} {hs : AH} {ld : Int} {fd : Nat → Nat → Bool} (c : Cache hs h x ld ep fd) : Cache hs (tw h (x + 42) A sc) x ld ep fd := by
  obtain ⟨c1, c2, c3, ⟨N, c4⟩, c5, c6⟩ := c
  have hI : ∀ v, ¬ (x + 42 < v ∧ v ≤ x + 42 + 45) → (tw h (x + 42) A sc).I v = h.I v := fun v w => if_neg w
  have hF : ∀ v, v ≠ x + 42 → (tw h (x + 42) A sc).F v = h.F v := fun v w => if_neg w
  refine ⟨c1.to rfl fun v hv => ⟨hI v (by omega), rfl, hF v (by omega)⟩, c2, c3.to (hI _ (by omega)) (hI _ (by omega)) (hI _ (by omega)), ⟨N, c4.to (Nat.le_refl _) rfl (hF _ (by omega)) (fun v v1 v2 => hF v (by omega)) (fun _ _ _ => rfl) (Or.inl rfl)⟩, c5.to (Nat.le_refl _) rfl (fun _ _ _ _ => rfl) (fun v v1 v2 => hI v (by omega)), c6.to (Nat.le_refl _) (fun _ _ _ => rfl) (fun v v1 v2 => hI v (by omega))⟩
theorem Twn.of {S : AS} {A : Nat → List Int} {sc : Nat → Int} (hF : h'.F (x + 42) = (3, flds (x + 42) sc)) (hI : ∀ j, 1 ≤ j → j ≤ 45 → h'.I (x + 42 + j) = (tg j, A j)) (k : TW A sc S) : Twn h' x S := by
  refine ⟨A, sc, ?_, k⟩
  have e1 : h'.I = fun a => if x + 42 < a ∧ a ≤ x + 42 + 45 then (tg (a - (x + 42)), A (a - (x + 42))) else h'.I a := by
    funext a
    by_cases q : x + 42 < a ∧ a ≤ x + 42 + 45
    · rw [if_pos q]
      have := hI (a - (x + 42)) (by omega) (by omega)
      rw [show x + 42 + (a - (x + 42)) = a by omega] at this
      exact this
    · rw [if_neg q]
  have e2 : h'.F = fun a => if a = x + 42 then (3, flds (x + 42) sc) else h'.F a := by
    funext a
    by_cases q : a = x + 42
    · rw [if_pos q, q]; exact hF
    · rw [if_neg q]
  show h' = (h'.sz, h'.sl, (fun a => if x + 42 < a ∧ a ≤ x + 42 + 45 then (tg (a - (x + 42)), A (a - (x + 42))) else h'.I a), h'.R, (fun a => if a = x + 42 then (3, flds (x + 42) sc) else h'.F a), h'.S)
  rw [← e1, ← e2]
theorem Twn.to {S : AS} (k : Twn h x S) (hF : h'.F (x + 42) = h.F (x + 42)) (hI : ∀ v, x + 42 < v → v ≤ x + 87 → h'.I v = h.I v) : Twn h' x S := by
  obtain ⟨A, sc, e, k⟩ := k
  refine Twn.of (A := A) (sc := sc) ?_ (fun j j1 j2 => ?_) k
  · rw [hF, e]; exact twF
  · rw [hI _ (by omega) (by omega), e]
    exact twI (Nat.ble_eq.mpr j1) (Nat.ble_eq.mpr j2)
theorem Twn.fr {S : AS} (k : Twn h x S) (hx : x + 87 < h.sz) (f : frB x ep h h') : Twn h' x S :=
  k.to ((f.2.2 _ (by omega)).2.2 (by omega) (by omega)) (fun v v1 v2 => (f.2.2 v (by omega)).1 (by omega))
end FRW
/-- all that holds between the calls: the component's state is SC, the twin's ST -/
def Inv (hs h : AH) (x : Nat) (SC ST : AS) (nk : Bool) (fd : Nat → Nat → Bool) : Prop := ∃ ld nw wh nm tp ep, Base h x ld nw wh nm tp ep SC ∧ Cache hs h x ld ep fd ∧ Twn h x ST ∧ (nk = false → nm = none)
/-- what a call of the component comes to -/
abbrev kEnd (hs h : AH) (x : Nat) (v : AV) (SC ST : AS) (c s : Nat) (nk : Bool) (fd : Nat → Nat → Bool) : Rs → AH → Prop := fun r h' => r = .inl (some v) ∧ Inv hs h' x SC ST nk fd ∧ h'.sz ≤ h.sz + c ∧ h.sl ≤ h'.sl ∧ h'.sl ≤ h.sl + s
theorem kEnd.of {hs h : AH} {x : Nat} {ld : Int} {nw : Nat} {wh nm : Option Nat} {tp ep : Nat} {S SC ST : AS} {v : AV} {c s : Nat} {N : Option Nat → Prop} {nk : Bool} {fd : Nat → Nat → Bool} (b : Base h x ld nw wh nm tp ep S) (k : Cache hs h x ld ep fd) (t : Twn h x ST) (hN : ∀ n, N n → nk = false → n = none) {r : Rs} {h' : AH} (e : cEnd h x ld ep v SC c s N r h') : kEnd hs h x v SC ST c s nk fd r h' := by
  obtain ⟨rfl, nw', wh', nm', tp', ep', a1, a2, a3, a4, a5, a6, a7⟩ := e
  exact ⟨rfl, ⟨ld, nw', wh', nm', tp', ep', a1, k.fr b.1 a2 b.six b.h25 a3, t.fr b.1 a2, hN _ a7⟩, a4, a5, a6⟩
