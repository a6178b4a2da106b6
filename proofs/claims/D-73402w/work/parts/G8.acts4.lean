section ACTSD
variable {d : Nat} {h : AH} {x : Nat} {ld : Int} {nw : Nat} {wh nm : Option Nat} {tp ep : Nat} {S : AS}
theorem cundo_spec (b : Base h x ld nw wh nm tp ep S) (h12 : S.2.1.length ≤ 12) : wp (d + 5) 180 (0, ent 2 [vR (some x)], [], h) (cEnd h x ld ep (vI (aUndo S).1) (aUndo S).2 0 0 (actN nm)) := by
  have hb := b
  have h6 := b.six
  obtain ⟨b1, b2, ⟨b3, b4⟩, ⟨⟨p1, p2⟩, m, pl, pk, p3, p4, p5⟩, ⟨sl, s1, s2, s3⟩, ⟨T, t1, t2⟩, b7, b8⟩ := b
  unfold aUndo
  cases e : S.2.1.getLast? with
  | none =>
    have e0 := List.getLast?_eq_none_iff.mp e
    have hl : pl.length = 0 := by rw [p4, e0]; rfl
    refine wp.go [] 30 fun W C hW hC => ?_
    refine ⟨_, _, _, _, b2, rfl, rfl, ?_⟩
    refine ⟨_, _, _, p3.1, rfl, ?_⟩
    refine hC _ _ _ (useE (wpd.up (by omega) (size_spec' (d := 0) p3)) ?_)
    rw [hl]
    conv => whnf
    rw [isub_eq (by decide)]
    refine ⟨fun w => absurd w (by decide), fun _ => ?_⟩
    exact hb.same.wide (by omega) (by omega) (fun _ e => Or.inr e)
  | some G =>
    obtain ⟨gs, hgs⟩ := List.getLast?_eq_some_iff.mp e
    obtain ⟨l1, y, hpl⟩ : ∃ Y z, pl = Y ++ [z] := snoc_ex pl (fun w => by rw [w, hgs] at p4; simp at p4)
    subst hpl
    have hlen : l1.length = gs.length := by rw [hgs] at p4; simp at p4; exact p4
    have h12' : gs.length ≤ 11 := by rw [hgs] at h12; simp at h12; omega
    have hy : skOk x y ∧ SkAt h y G := p5 l1.length y G (by rw [List.getElem?_append_right (Nat.le_refl _), Nat.sub_self]; rfl) (by rw [hgs, hlen, List.getElem?_append_right (Nat.le_refl _), Nat.sub_self]; rfl)
    have hdl : S.2.1.dropLast = gs := by rw [hgs, List.dropLast_concat]
    have hSl : S.2.1.length - 1 = gs.length := by rw [hgs]; simp
    dsimp only
    rw [hdl, hSl]
    refine wp.go [] 40 fun W C hW hC => ?_
    refine ⟨_, _, _, _, b2, rfl, rfl, ?_⟩
    refine ⟨_, _, _, p3.1, rfl, ?_⟩
    refine hC _ _ _ (useE (wpd.up (by omega) (size_spec' (d := 0) p3)) ?_)
    conv => whnf
    rw [isub_eq (by simp; omega), show (((l1 ++ [y]).length : Nat) : Int) - 1 = ((l1.length : Nat) : Int) by simp]
    refine ⟨fun _ => ?_, fun w => absurd w (by omega)⟩
    refine ⟨_, _, _, _, b2, rfl, rfl, ?_⟩
    refine ⟨_, _, _, p3.1, rfl, ?_⟩
    refine hC _ _ _ (use (wpd.up (by omega) (al_remove (d := 0) (l1 := l1) (x := y) (l2 := []) p3 (by omega) (by simp; omega) (fun z hz => (nomatch hz)))) ?_)
    rintro _ h1 ⟨rfl, m', k', c1, c2, c3, c4, c5⟩
    rw [List.append_nil] at c1
    have f1 := frB.ofChg c2 c4 c5 (fun w => by rcases p3.2 with q | ⟨q, -⟩; rw [q] at w; cases w; simp at q)
    have F1 : h1.F x = (1, flC x ld nw wh nm tp) := (c2.2.2.2.2.2 x (by omega) (by omega)).2.2.trans b2
    have Y1 := hy.2.fr f1 hy.1 h6
    refine ⟨?_, ?_⟩
    · intro z hz
      cases hz
      refine ⟨(0, 2), rfl, by decide, ?_⟩
      show (h1.F y).1 % 200 = 2
      rw [Y1.2.1]
      rfl
    refine ⟨_, _, _, F1, rfl, ?_⟩
    refine hC _ _ _ (useE (wpd.up (by omega) (is_spec (d := 0) (s := y) F1)) ?_)
    have f3 : frB x ep h (h1.setF x (flC x ld y none none tp)) := f1.setF
    rw [hlen]
    refine ⟨rfl, y, none, none, tp, ep, ⟨by show x + 87 < h1.sz; omega, setF_at F1, ⟨hy.1, hy.2.fr f3 hy.1 h6⟩, ⟨⟨by show ep < h1.sz; omega, p2⟩, m', l1, k', ⟨(setF_ne (by omega)).trans c1.1, c1.2⟩, hlen, fun i s G' w1 w2 => ?_⟩, ⟨sl, ((c2.2.2.2.2.2 (x + 25) (by omega) (by omega)).2.1).trans s1, s2, fun j hj => ?_⟩, ⟨T, ((c2.2.2.2.2.2 (x + 27) (by omega) (by omega)).1).trans t1, t2⟩, fun w e => (by cases e), fun w e => (by cases e)⟩, f3, Or.inl rfl, by show h1.sz ≤ _; omega, c2.2.2.1, c2.2.2.2.1, Or.inl rfl⟩
    · have w2 : gs[i]? = some G' := w2
      have := p5 i s G' (by rw [List.getElem?_append_left (List.getElem?_eq_some_iff.mp w1).1]; exact w1) (by rw [hgs, List.getElem?_append_left (List.getElem?_eq_some_iff.mp w2).1]; exact w2)
      exact ⟨this.1, this.2.fr f3 this.1 h6⟩
    · have := s3 j hj
      show match S.2.2.1 j with | none => sl[j]? = some none | some G => ∃ s, sl[j]? = some (some s) ∧ skOk x s ∧ SkAt _ s G
      revert this
      cases S.2.2.1 j with
      | none => exact id
      | some G =>
        rintro ⟨s, g1, g2, g3⟩
        exact ⟨s, g1, g2, g3.fr f3 g2 h6⟩
end ACTSD
