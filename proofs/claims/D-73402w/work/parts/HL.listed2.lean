/-! listed -/
section LISTED2
variable {d x z u : Nat} {hs h : AH} {ld : Int} {nw : Nat} {wh nm : Option Nat} {tp ep : Nat} {S ST : AS} {fd : Nat → Nat → Bool}
theorem codes_lenL {m j : Nat} {L : List Nat} (h1 : 1 ≤ m) (h2 : m ≤ 11) (hL : (codesL m)[j]? = some L) : L.length = m := ((cd_all h1 h2).2.2 L (((cd_all h1 h2).2.1 L).mpr (List.mem_of_getElem? hL))).1
theorem clisted_spec (hk : hsK hs z u) (b : Base h x ld nw wh nm tp ep S) (k : Cache hs h x ld ep fd) (T : Twn h x ST) {n j i : Int} (hn : -2147483648 < n) :
    wp (d + 43) 209 (0, ent 4 [vR (some x), vI n, vI j, vI i], [], h) (allEnd hs h x ld nw wh nm tp ep S ST fd 0 0 (vI (aListed n j i))) := by
  unfold aListed
  refine wp.go [] 60 fun W C0 hW hC => ?_
  refine ⟨_, _, _, b.2.1, rfl, ?_⟩
  refine hC _ _ _ (use (wpd.up (by omega) (isListed_spec (d := 0) (n := n) (j := j) hk b k T)) ?_)
  rintro _ h' ⟨⟨rfl, b', k', T', z1, z2, z3, z4⟩, hf⟩
  refine ⟨fun c => ?_, fun c => ?_⟩
  · have c1 := b0.mp c
    rw [if_neg (fun q => c1 q.1)]
    exact ⟨rfl, b', k', T', z1, z2, z3, z4⟩
  · have c1 := b1.mp c
    obtain ⟨c2, c3, c4⟩ := id c1
    conv => whnf
    rw [isub_eq (by omega)]
    refine hC _ _ _ (useE (wpd.up (by omega) (in_spec (d := 0))) ?_)
    refine ⟨fun c => ?_, fun c => ?_⟩
    · have c5 := b0.mp c
      rw [if_neg (fun q => c5 q.2)]
      exact ⟨rfl, b', k', T', z1, z2, z3, z4⟩
    · have c5 := b1.mp c
      rw [if_pos ⟨c1, c5⟩]
      obtain ⟨rr, cs, ⟨r0, rows, r1, r2, r3⟩, y1, y2⟩ := hf c1
      obtain ⟨m, rfl⟩ : ∃ m : Nat, n = ((m : Nat) : Int) := ⟨n.toNat, by omega⟩
      obtain ⟨jj, rfl⟩ : ∃ m : Nat, j = ((m : Nat) : Int) := ⟨j.toNat, by omega⟩
      obtain ⟨ii, rfl⟩ : ∃ m : Nat, i = ((m : Nat) : Int) := ⟨i.toNat, by omega⟩
      rw [Int.toNat_natCast] at r2 r3 y2 c4
      rw [Int.toNat_natCast, Int.toNat_natCast, Int.toNat_natCast]
      have hj := List.getElem?_eq_getElem (show jj < (codesL m).length by omega)
      generalize (codesL m)[jj] = L at hj
      have hl := codes_lenL (by omega) (by omega) hj
      obtain ⟨a, a1, a2, a3⟩ := r3 jj L hj
      have hi := List.getElem?_eq_getElem (show ii < L.length by omega)
      generalize L[ii] = w at hi
      have ha : atN ((codesL m)[jj]?.getD []) ii = ((w : Nat) : Int) := by
        rw [hj]
        show atN L ii = _
        unfold atN
        rw [hi]
      rw [ha]
      refine ⟨_, _, _, b'.2.1, rfl, ?_⟩
      refine hC _ _ _ (use (wpd.up (by omega) (codesOf_hit (d := 0) (n := m) b' y1 y2)) ?_)
      rintro _ h2 ⟨rfl, he⟩
      rw [he]
      refine ⟨_, _, _, r1, by decide, by omega, by rw [Int.toNat_natCast]; exact a1, ?_⟩
      refine ⟨_, _, ((w : Nat) : Int), a3, by decide, by omega, by rw [Int.toNat_natCast, List.getElem?_map, hi]; rfl, ?_⟩
      exact ⟨rfl, b', k', T', z1, z2, z3, z4⟩
end LISTED2
