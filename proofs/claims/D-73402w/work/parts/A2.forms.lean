/-! BRANCHES: forms, own ones, runs of like ones -/
section FORMS
variable {d : Nat} {h : AH}
theorem at_spec {x p u k : Nat} {fs : List AV} {qs : List (Option Nat)} (hF : h.F x = (7, vR (some p) :: fs)) (hR : h.R p = (u, qs)) (hu : u ≠ 0) (hk : k < 100) : wp (d + 1) 416 (0, ent 2 [vR (some x), vI ((k : Nat) : Int)], [], h) (fun r h' => r = .inl (some (vR (qs[k]?.getD none))) ∧ h' = h) := by
  refine wp.go [] 30 fun W C hW hC => ?_
  refine ⟨_, _, _, _, hF, rfl, rfl, ?_⟩
  refine ⟨_, Or.inr ⟨_, _, hR, hu, rfl⟩, ?_⟩
  refine ⟨fun c => ?_, fun c => ?_⟩
  · rw [List.getElem?_eq_none (by omega)]
    exact ⟨rfl, rfl⟩
  · refine ⟨_, _, _, _, hF, rfl, rfl, ?_⟩
    have hkl : k < qs.length := by omega
    refine ⟨_, _, _, hR, hu, by omega, by rw [Int.toNat_natCast]; exact List.getElem?_eq_getElem hkl, ?_⟩
    rw [List.getElem?_eq_getElem hkl]
    exact ⟨rfl, rfl⟩
theorem f1_spec {r : Option Nat} {o : Option Tr} (ho : OAt h r o) : wp (d + 1) 418 (0, ent 1 [vR r], [], h) (givesL h ((fO o : Nat) : Int)) := by
  cases r with
  | none =>
    cases o with
    | some t => exact absurd ho id
    | none =>
      refine wp.go [] 20 fun W C hW hC => ?_
      exact ⟨rfl, rfl⟩
  | some x =>
    cases o with
    | none => exact absurd ho id
    | some t =>
      obtain ⟨⟨p, qs, a1, a2, -⟩, -⟩ := ho
      refine wp.go [] 20 fun W C hW hC => ?_
      refine ⟨_, _, _, _, a2, rfl, rfl, ?_⟩
      exact ⟨rfl, rfl⟩
theorem o1_spec {r : Option Nat} {o : Option Tr} (ho : OAt h r o) : wp (d + 1) 421 (0, ent 1 [vR r], [], h) (givesL h ((oO o : Nat) : Int)) := by
  cases r with
  | none =>
    cases o with
    | some t => exact absurd ho id
    | none =>
      refine wp.go [] 20 fun W C hW hC => ?_
      exact ⟨rfl, rfl⟩
  | some x =>
    cases o with
    | none => exact absurd ho id
    | some t =>
      obtain ⟨⟨p, qs, a1, a2, -⟩, -⟩ := ho
      refine wp.go [] 20 fun W C hW hC => ?_
      refine ⟨_, _, _, _, a2, rfl, rfl, ?_⟩
      exact ⟨rfl, rfl⟩
theorem fO_cap {r : Option Nat} {o : Option Tr} (ho : OAt h r o) : fO o ≤ 65536 ∧ oO o ≤ 65536 := by
  cases o with
  | none => exact ⟨by decide, by decide⟩
  | some t =>
    cases r with
    | none => exact absurd ho id
    | some x =>
      have hs := ho.2.2
      have h1 : 2 ^ szT t ≤ 2 ^ 16 := Nat.pow_le_pow_right (by decide) hs
      exact ⟨Nat.le_trans (forms_le t) h1, Nat.le_trans (own_le t) h1⟩
theorem z01_ne {b : Bool} : z01 b ≠ 0 ↔ b = true := by cases b <;> decide
theorem z01_eq {b : Bool} : z01 b = 0 ↔ b = false := by cases b <;> decide
theorem mul3_le {a b c : Nat} (ha : a ≤ 65536) (hb : b ≤ 65536) (hc : c ≤ 65536) : a * b ≤ 4294967296 ∧ a * b * c ≤ 281474976710656 := by
  have h1 : a * b ≤ 65536 * 65536 := Nat.mul_le_mul ha hb
  have h2 : a * b * c ≤ 65536 * 65536 * 65536 := Nat.mul_le_mul h1 hc
  exact ⟨h1, h2⟩
theorem f3_spec {r1 r2 r3 : Option Nat} {a b c : Option Tr} (h1 : OAt h r1 a) (h2 : OAt h r2 b) (h3 : OAt h r3 c) : wp (d + 19) 417 (0, ent 7 [vR r1, vR r2, vR r3], [], h) (givesL h ((f3 (eqO a b) (eqO b c) (fO a) (fO b) (fO c) : Nat) : Int)) := by
  have ba := (fO_cap h1).1
  have bb := (fO_cap h2).1
  have bc := (fO_cap h3).1
  obtain ⟨m1, m2⟩ := mul3_le ba ba ba
  obtain ⟨m3, m4⟩ := mul3_le ba bb bc
  have rest : (eqO a b && eqO b c) = false → wp (d + 19) 417 (37, [some (vR r1), some (vR r2), some (vR r3), some (vL ((fO a : Nat) : Int)), none, none, none], [], h) (givesL h ((f3 (eqO a b) (eqO b c) (fO a) (fO b) (fO c) : Nat) : Int)) := by
    intro hab
    unfold f3
    rw [hab, cond_false]
    refine wp.go [] 60 fun W C hW hC => ?_
    refine hC _ _ _ (use (wpd.up (show d + 1 ≤ d + 18 by omega) (f1_spec (d := d) h2)) ?_); rintro _ _ ⟨rfl, rfl⟩
    refine hC _ _ _ (use (wpd.up (show d + 1 ≤ d + 18 by omega) (f1_spec (d := d) h3)) ?_); rintro _ _ ⟨rfl, rfl⟩
    refine hC _ _ _ (use (like_spec h1 h2) ?_); rintro _ _ ⟨rfl, rfl⟩
    refine ⟨fun q => ?_, fun q => ?_⟩
    · rw [z01_ne.mp q, Bool.true_or, cond_true]
      conv => whnf
      rw [lmulN (by omega), lmulN (by omega)]
      exact ⟨rfl, rfl⟩
    · refine hC _ _ _ (use (like_spec h2 h3) ?_); rintro _ _ ⟨rfl, rfl⟩
      refine ⟨fun q2 => ?_, fun q2 => ?_⟩
      · rw [z01_eq.mp q, z01_eq.mp q2, Bool.or_false, cond_false]
        conv => whnf
        rw [lmulN (by omega), lmulN (by omega), show (2 : Int) = ((2 : Nat) : Int) from rfl, lmulN (by omega)]
        exact ⟨rfl, rfl⟩
      · rw [z01_ne.mp q2, Bool.or_true, cond_true]
        conv => whnf
        rw [lmulN (by omega), lmulN (by omega)]
        exact ⟨rfl, rfl⟩
  refine wp.go [37] 60 fun W C hW hC => ?_
  refine hC _ _ _ (use (wpd.up (show d + 1 ≤ d + 18 by omega) (f1_spec (d := d) h1)) ?_); rintro _ _ ⟨rfl, rfl⟩
  refine hC _ _ _ (use (like_spec h1 h2) ?_); rintro _ _ ⟨rfl, rfl⟩
  refine ⟨fun q => ?_, fun q => ?_⟩
  · exact hW _ (rest (by rw [z01_eq.mp q]; rfl))
  · refine hC _ _ _ (use (like_spec h2 h3) ?_); rintro _ _ ⟨rfl, rfl⟩
    refine ⟨fun q2 => ?_, fun q2 => ?_⟩
    · exact hW _ (rest (by rw [z01_eq.mp q2, Bool.and_false]))
    · unfold f3
      rw [z01_ne.mp q, z01_ne.mp q2]
      refine ⟨by decide, ?_⟩
      conv => whnf
      rw [lmulN (by omega), lmulN (by omega), show (2 : Int) = ((2 : Nat) : Int) from rfl, lmulN (by omega), laddN (by omega), show (3 : Int) = ((3 : Nat) : Int) from rfl, ldivN (by omega) (by decide) (by decide)]
      exact ⟨rfl, rfl⟩
theorem o3_spec {r1 r2 r3 : Option Nat} {a b c : Option Tr} (h1 : OAt h r1 a) (h2 : OAt h r2 b) (h3 : OAt h r3 c) : wp (d + 19) 420 (0, ent 3 [vR r1, vR r2, vR r3], [], h) (givesL h ((o3 (eqO a b) (eqO b c) (fO a) (fO b) (oO a) (oO c) : Nat) : Int)) := by
  have ba := fO_cap h1
  have bb := fO_cap h2
  have bc := fO_cap h3
  have m1 := (mul3_le ba.1 bc.2 bc.2).1
  have m2 := (mul3_le bb.1 ba.2 ba.2).1
  unfold o3
  refine wp.go [] 60 fun W C hW hC => ?_
  refine hC _ _ _ (use (like_spec h1 h2) ?_); rintro _ _ ⟨rfl, rfl⟩
  refine ⟨fun q => ?_, fun q => ?_⟩
  · rw [z01_eq.mp q, cond_false]
    refine hC _ _ _ (use (like_spec h2 h3) ?_); rintro _ _ ⟨rfl, rfl⟩
    refine ⟨fun q2 => ?_, fun q2 => ?_⟩
    · rw [z01_eq.mp q2, cond_false]
      exact ⟨rfl, rfl⟩
    · rw [z01_ne.mp q2, cond_true]
      refine hC _ _ _ (use (wpd.up (show d + 1 ≤ d + 18 by omega) (f1_spec (d := d) h2)) ?_); rintro _ _ ⟨rfl, rfl⟩
      refine hC _ _ _ (use (wpd.up (show d + 1 ≤ d + 18 by omega) (o1_spec (d := d) h1)) ?_); rintro _ _ ⟨rfl, rfl⟩
      conv => whnf
      rw [lmulN (by omega)]
      exact ⟨rfl, rfl⟩
  · rw [z01_ne.mp q, cond_true]
    refine hC _ _ _ (use (wpd.up (show d + 1 ≤ d + 18 by omega) (f1_spec (d := d) h1)) ?_); rintro _ _ ⟨rfl, rfl⟩
    refine hC _ _ _ (use (wpd.up (show d + 1 ≤ d + 18 by omega) (o1_spec (d := d) h3)) ?_); rintro _ _ ⟨rfl, rfl⟩
    conv => whnf
    rw [lmulN (by omega)]
    exact ⟨rfl, rfl⟩
/-- how many like ones stand side by side up to a place -/
def runL (l : List Tr) : Nat → Nat
  | 0 => 1
  | k + 1 => cond (eqO l[k]? l[k + 1]?) (runL l k + 1) 1
theorem okO_at {l : List Tr} (h : ∀ t, t ∈ l → okT0 t) (k : Nat) : okO l[k]? := by
  cases e : l[k]? with
  | none => exact trivial
  | some t => exact h t (List.mem_of_getElem? e)
theorem runL_ok (l : List Tr) (ho : ∀ t, t ∈ l → okT0 t) : ∀ k, 1 ≤ runL l k ∧ runL l k ≤ k + 1 ∧ (∀ n, n < runL l k → l[k - n]? = l[k]?) ∧ (runL l k ≤ k → l[k - runL l k]? ≠ l[k]?)
  | 0 => ⟨Nat.le_refl _, Nat.le_refl _, fun n hn => by have hn : n < 1 := hn; rw [show n = 0 by omega], fun hk => by have hk : 1 ≤ 0 := hk; omega⟩
  | k + 1 => by
    obtain ⟨h1, h2, h3, h4⟩ := runL_ok l ho k
    unfold runL
    by_cases c : l[k]? = l[k + 1]?
    · rw [(eqO_iff (okO_at ho k) (okO_at ho (k + 1))).mpr c, cond_true]
      refine ⟨by omega, by omega, fun n hn => ?_, fun hk => ?_⟩
      · cases n with
        | zero => rfl
        | succ n => rw [show k + 1 - (n + 1) = k - n by omega, h3 n (by omega), c]
      · rw [show k + 1 - (runL l k + 1) = k - runL l k by omega, ← c]
        exact h4 (by omega)
    · rw [Bool.eq_false_iff.mpr (fun q => c ((eqO_iff (okO_at ho k) (okO_at ho (k + 1))).mp q)), cond_false]
      refine ⟨Nat.le_refl _, by omega, fun n hn => by rw [show n = 0 by omega]; rfl, fun _ => ?_⟩
      rw [show k + 1 - 1 = k from rfl]
      exact c
theorem likeAhead_spec {x p k : Nat} {fs : List AV} {qs : List (Option Nat)} {l : List Tr} (hF : h.F x = (7, vR (some p) :: fs)) (hR : h.R p = (1, qs)) (hq : ∀ (j : Nat) (t : Tr), l[j]? = some t → OAt h (qs[j]?.getD none) (some t)) (hqs : qs.length = l.length) (hl : l.length ≤ 4) (hk : k < l.length) : wp (d + 18) 415 (0, ent 3 [vR (some x), vI ((k : Nat) : Int)], [], h) (gives h ((runL l k : Nat) : Int)) := by
  have hol : ∀ t, t ∈ l → okT0 t := by
    intro t ht
    obtain ⟨j, hj⟩ := List.getElem?_of_mem ht
    have h1 := hq j t hj
    cases e : qs[j]?.getD none with
    | none => rw [e] at h1; exact absurd h1 id
    | some y => rw [e] at h1; exact h1.2.1
  obtain ⟨r1, r2, r3, r4⟩ := runL_ok l hol k
  have qat : ∀ j, j < l.length → ∃ y t, qs[j]? = some (some y) ∧ l[j]? = some t ∧ OAt h (some y) (some t) := by
    intro j hj
    have h1 := hq j _ (List.getElem?_eq_getElem hj)
    have hjq : j < qs.length := by omega
    rw [List.getElem?_eq_getElem hjq] at h1 ⊢
    have h1 : OAt h qs[j] (some l[j]) := h1
    cases e : qs[j] with
    | none => rw [e] at h1; exact absurd h1 id
    | some y => rw [e] at h1; exact ⟨y, _, rfl, List.getElem?_eq_getElem hj, h1⟩
  have loop : ∀ (j n : Nat), j + n = runL l k → 1 ≤ n → wp (d + 18) 415 (2, [some (vR (some x)), some (vI ((k : Nat) : Int)), some (vI ((n : Nat) : Int))], [], h) (gives h ((runL l k : Nat) : Int)) := by
    intro j
    induction j with
    | zero =>
      intro n hj hn
      obtain rfl : n = runL l k := by omega
      refine wp.go [2] 40 fun W C hW hC => ?_
      refine ⟨fun _ => ⟨rfl, rfl⟩, fun c => ?_⟩
      obtain ⟨y, t, y1, y2, y3⟩ := qat (k - runL l k) (by omega)
      obtain ⟨w, u, w1, w2, w3⟩ := qat k hk
      refine ⟨_, _, _, _, hF, rfl, rfl, ?_⟩
      (conv => whnf); simp (disch := omega) only [iadd_eq, isub_eq, imul_eq]
      refine ⟨_, _, _, hR, by decide, by omega, by rw [show (((k : Nat) : Int) - ((runL l k : Nat) : Int)).toNat = k - runL l k by omega]; exact y1, ?_⟩
      refine ⟨_, _, _, _, hF, rfl, rfl, ?_⟩
      refine ⟨_, _, _, hR, by decide, by omega, by rw [Int.toNat_natCast]; exact w1, ?_⟩
      refine ⟨_, _, _, y3.1.choose_spec.choose_spec.2.1, rfl, ?_⟩
      refine hC _ _ _ (use (cmp16 y3 w3) ?_); rintro _ _ ⟨rfl, rfl⟩
      refine ⟨fun q => ⟨rfl, rfl⟩, fun q => ?_⟩
      have := (cmpT_eq y3.2.1 w3.2.1).mp q
      have h4 := r4 (by omega)
      rw [y2, w2, this] at h4
      exact absurd rfl h4
    | succ j ih =>
      intro n hj hn
      obtain ⟨y, t, y1, y2, y3⟩ := qat (k - n) (by omega)
      obtain ⟨w, u, w1, w2, w3⟩ := qat k hk
      have h3 := r3 n (by omega)
      rw [y2, w2] at h3
      cases h3
      refine wp.go [2] 40 fun W C hW hC => ?_
      refine ⟨fun c => absurd c (by omega), fun c => ?_⟩
      refine ⟨_, _, _, _, hF, rfl, rfl, ?_⟩
      (conv => whnf); simp (disch := omega) only [iadd_eq, isub_eq, imul_eq]
      refine ⟨_, _, _, hR, by decide, by omega, by rw [show (((k : Nat) : Int) - ((n : Nat) : Int)).toNat = k - n by omega]; exact y1, ?_⟩
      refine ⟨_, _, _, _, hF, rfl, rfl, ?_⟩
      refine ⟨_, _, _, hR, by decide, by omega, by rw [Int.toNat_natCast]; exact w1, ?_⟩
      refine ⟨_, _, _, y3.1.choose_spec.choose_spec.2.1, rfl, ?_⟩
      refine hC _ _ _ (use (cmp16 y3 w3) ?_); rintro _ _ ⟨rfl, rfl⟩
      rw [cmpT_self]
      refine ⟨fun q => absurd rfl q, fun _ => ?_⟩
      (conv => whnf); simp (disch := omega) only [iadd_eq, isub_eq, imul_eq]
      exact hW _ (ih (n + 1) (by omega) (by omega))
  refine wp.go [2] 10 fun W C hW hC => ?_
  exact hW _ (loop (runL l k - 1) 1 (by omega) (Nat.le_refl _))
end FORMS
