/-! take -/
section TAKE
variable {d x z u : Nat} {hs h : AH} {ld : Int} {nw : Nat} {wh nm : Option Nat} {tp ep : Nat} {S ST : AS} {fd : Nat → Nat → Bool}
theorem ctake_spec (hk : hsK hs z u) (b : Base h x ld nw wh nm tp ep S) (k : Cache hs h x ld ep fd) (T : Twn h x ST) (h12 : S.2.1.length ≤ 12) {n j : Int} :
    wp (d + 43) 187 (0, ent 3 [vR (some x), vI n, vI j], [], h) (qEnd hs h x (vI (aTake S n j).1) (aTake S n j).2 ST 21 149 (actN nm) fd) := by
  unfold aTake
  refine wp.go [] 60 fun W C0 hW hC => ?_
  refine ⟨_, _, _, b.2.1, rfl, ?_⟩
  refine hC _ _ _ (use (wpd.up (by omega) (isListed_spec (d := 0) (n := n) (j := j) hk b k T)) ?_)
  rintro _ h' ⟨⟨rfl, b', k', T', z1, z2, z3, z4⟩, hf⟩
  refine ⟨fun c => ?_, fun c => ?_⟩
  · have c1 := b0.mp c
    rw [if_neg c1]
    exact ⟨rfl, ⟨nm, Or.inr rfl, _, _, _, _, _, b', k', T'⟩, by omega, z3, by omega⟩
  · have c1 := b1.mp c
    obtain ⟨c2, c3, c4⟩ := id c1
    rw [if_pos c1]
    obtain ⟨rr, cs, ⟨r0, rows, r1, r2, r3⟩, y1, y2⟩ := hf c1
    obtain ⟨m, rfl⟩ : ∃ m : Nat, n = ((m : Nat) : Int) := ⟨n.toNat, by omega⟩
    obtain ⟨jj, rfl⟩ : ∃ m : Nat, j = ((m : Nat) : Int) := ⟨j.toNat, by omega⟩
    rw [Int.toNat_natCast] at r2 r3 y2 c4
    rw [Int.toNat_natCast, Int.toNat_natCast]
    have hj := List.getElem?_eq_getElem (show jj < (codesL m).length by omega)
    have hLm := List.getElem_mem (show jj < (codesL m).length by omega)
    generalize (codesL m)[jj] = L at hj hLm
    obtain ⟨q1, q2, q3, q4⟩ := cod_at (n := m) (by omega) (by omega) hLm
    have q5 := ((cd_all (by omega) (by omega)).2.2 L (((cd_all (n := m) (by omega) (by omega)).2.1 L).mpr hLm)).2
    obtain ⟨a, a1, ⟨a2, a2'⟩, a3⟩ := r3 jj L hj
    have q6 := (q4 (L.length - 1) (by omega)).1
    rw [hj, Option.getD_some, ← q1]
    rw [← q1] at y2
    refine ⟨_, _, _, b'.2.1, rfl, ?_⟩
    refine hC _ _ _ (use (wpd.up (by omega) (codesOf_hit (d := 0) (n := L.length) b' y1 y2)) ?_)
    rintro _ h2 ⟨rfl, he⟩
    rw [he]
    refine ⟨_, _, _, r1, by decide, by omega, by rw [Int.toNat_natCast]; exact a1, ?_⟩
    refine hC _ _ _ (use (wpd.up (by omega) (by_spec (d := 0) (L := L) a3 a2' q3 (by omega) (by omega) q5 (q4 (L.length - 1) (by omega)).2.1)) ?_)
    rintro _ h3 ⟨rfl, e1, e2, e3⟩
    have b3 := b'.grown e1
    refine ⟨_, _, _, b3.2.1, rfl, ?_⟩
    refine hC _ _ _ (use (wpd.up (by omega) (becomes_spec (d := 0) b3 h12 (by have := b'.1; omega) e3)) ?_)
    rintro _ h4 ⟨rfl, ep', f1, f2, f3, f4, f5, f6⟩
    have fr1 : frB x ep h' h3 := frB.of e1
    have k3 := k'.fr b'.1 fr1 b'.six b'.h25 (Or.inl rfl)
    have T3 := T'.fr b'.1 fr1
    have g1 := e1.2.1
    have g2 := e1.2.2.1
    have g3 := e1.2.2.2.1
    have hcd4 := f2.cd b3.1 k3.2.1
    have hcd3 := fr1.cd b'.1 k'.2.1
    rw [gC_n, show L.length - 1 + 1 = L.length by omega]
    exact ⟨rfl, ⟨none, Or.inl rfl, _, _, _, _, _, f1, k3.fr b3.1 f2 b3.six b3.h25 f3, T3.fr b3.1 f2⟩, by omega, by omega, by omega⟩
end TAKE
