/-! READERS of the component: a place on the tape, a skeleton that grows; what is wrong is thrown -/
theorem byte_ck : ∀ n, n < 256 → ((48 ≤ ((n : Nat) : Int) - 128 ∧ ((n : Nat) : Int) - 128 ≤ 57) ↔ (48 ≤ iand (((n : Nat) : Int) - 128) 255 ∧ iand (((n : Nat) : Int) - 128) 255 ≤ 57)) ∧ (48 ≤ iand (((n : Nat) : Int) - 128) 255 ∧ iand (((n : Nat) : Int) - 128) 255 ≤ 57 → iand (((n : Nat) : Int) - 128) 255 = ((n : Nat) : Int) - 128) := by decide +kernel
theorem gt_memT {t : List Int} {k : Nat} (h : k < t.length) : gt t k ∈ t := by
  unfold gt
  rw [List.getElem?_eq_getElem h]
  exact List.getElem_mem h
theorem raw_dig {t : List Int} (hb : ∀ b, b ∈ t → -128 ≤ b ∧ b ≤ 127) {k : Nat} (h : k < t.length) : ((48 ≤ gt t k ∧ gt t k ≤ 57) ↔ isDig t k) ∧ (isDig t k → chr t k = gt t k) := by
  have := hb _ (gt_memT h)
  obtain ⟨n, hn⟩ : ∃ n : Nat, gt t k = ((n : Nat) : Int) - 128 := ⟨(gt t k + 128).toNat, by omega⟩
  have e : chr t k = iand (gt t k) 255 := if_pos h
  have q := byte_ck n (by omega)
  unfold isDig
  rw [e, hn]
  exact q
abbrev rT (tag : Nat) : Prop := tag = 4 ∨ tag = 5
theorem lkm {tag z : Nat} (ht : rT tag) : lk [(4, z), (5, z)] (tag % 200) = some z := by rcases ht with rfl | rfl <;> rfl
theorem lkn {tag z : Nat} (ht : rT tag) : lk [(4, z), (5, z)] tag = some z := by rcases ht with rfl | rfl <;> rfl
abbrev rdF (ρ x k : Nat) : List AV := [vR (some (ρ + 1)), vI ((k : Nat) : Int), vR (some x), vR (some x)]
/-- what a reader reads -/
def RdE (h0 : AH) (x : Nat) (t : List Int) : Prop := x + 87 < h0.sz ∧ (∃ ld nw wh nm, h0.F x = (1, flC x ld nw wh nm t.length)) ∧ (∃ T, h0.I (x + 27) = (3, T) ∧ T.length = 120 ∧ ∀ i, i < t.length → gt T i = gt t i) ∧ t.length ≤ 120 ∧ ∀ b, b ∈ t → -128 ≤ b ∧ b ≤ 127
/-- a reader at a place, with what it has read: made behind all that was there -/
def RdS (h0 : AH) (tag x k : Nat) (G : Gr) (h : AH) : Prop := (h.sz = h0.sz + 20 ∧ h.sl = h0.sl + 103 ∧ h.S = h0.S ∧ ∀ v, v < h0.sz → h.I v = h0.I v ∧ h.R v = h0.R v ∧ h.F v = h0.F v) ∧ h.F h0.sz = (tag, rdF h0.sz x k) ∧ SkAt h (h0.sz + 1) G
/-- what is wrong was thrown -/
abbrev RdX (h0 : AH) (e : Nat) : Rs → AH → Prop := fun r h' => ∃ w, r = .inr w ∧ h'.F w = (6, [vR none, vR none, vR none, vR none, vR none, vI 0, vI ((e : Nat) : Int)]) ∧ ext 21 110 h0 h'
section READ
variable {d x : Nat} {h0 h : AH} {t : List Int} {tag k : Nat} {G : Gr}
theorem SkAt.setF {s p : Nat} {l : List AV} (k : SkAt h s G) (hp : p < s) : SkAt (h.setF p l) s G := by
  obtain ⟨k1, k2, k3, k4, k5⟩ := k
  exact ⟨k1, (setF_ne (by omega)).trans k2, k3, k4, k5⟩
theorem RdS.at (k' : Nat) (hS : RdS h0 tag x k G h) : RdS h0 tag x k' G (h.setF h0.sz (rdF h0.sz x k')) := by
  obtain ⟨⟨z1, z2, z3, z4⟩, hF, hs⟩ := hS
  refine ⟨⟨z1, z2, z3, fun v hv => ?_⟩, setF_at hF, hs.setF (Nat.lt_succ_self _)⟩
  have := z4 v hv
  exact ⟨this.1, this.2.1, (setF_ne (by omega)).trans this.2.2⟩
theorem RdS.sk {h' : AH} {G' : Gr} (hS : RdS h0 tag x k G h) (u : skU (h0.sz + 1) h h') (hs' : SkAt h' (h0.sz + 1) G') : RdS h0 tag x k G' h' := by
  obtain ⟨⟨z1, z2, z3, z4⟩, hF, hs⟩ := hS
  obtain ⟨u1, u2, u3, u4⟩ := u
  refine ⟨⟨u1.trans z1, u2.trans z2, u3.trans z3, fun v hv => ?_⟩, (u4 h0.sz (by omega)).2.2.trans hF, hs'⟩
  have a := u4 v (by omega)
  have b := z4 v hv
  exact ⟨a.1.trans b.1, a.2.1.trans b.2.1, a.2.2.trans b.2.2⟩
theorem RdS.xF (hE : RdE h0 x t) (hS : RdS h0 tag x k G h) : (∃ ld nw wh nm, h.F x = (1, flC x ld nw wh nm t.length)) ∧ ∃ T, h.I (x + 27) = (3, T) ∧ T.length = 120 ∧ ∀ i, i < t.length → gt T i = gt t i := by
  obtain ⟨e1, ⟨ld, nw, wh, nm, e2⟩, ⟨T, e3, e4⟩, e5, e6⟩ := hE
  have z4 := hS.1.2.2.2
  exact ⟨⟨ld, nw, wh, nm, (z4 x (by omega)).2.2.trans e2⟩, T, (z4 _ (by omega)).1.trans e3, e4⟩
theorem sign_spec (hE : RdE h0 x t) (hS : RdS h0 tag x k G h) (ht : rT tag) : wp (d + 1) 396 (0, ent 1 [vR (some h0.sz)], [], h) (gives h (chr t k)) := by
  obtain ⟨⟨ld, nw, wh, nm, Fx⟩, T, T1, T2, T3⟩ := hS.xF hE
  have F := hS.2.1
  have h120 := hE.2.2.2.1
  unfold chr
  refine wp.go [] 40 fun W C0 hW hC => ?_
  refine ⟨_, _, _, _, F, lkm ht, rfl, ?_⟩
  refine ⟨_, _, _, _, F, lkm ht, rfl, ?_⟩
  refine ⟨_, _, _, _, Fx, rfl, rfl, ?_⟩
  refine ⟨fun c => ?_, fun c => ?_⟩
  · rw [if_neg (by omega)]
    exact ⟨rfl, rfl⟩
  · rw [if_pos (by omega)]
    refine ⟨_, _, _, _, F, lkm ht, rfl, ?_⟩
    refine ⟨_, _, _, _, Fx, rfl, rfl, ?_⟩
    refine ⟨_, _, _, _, F, lkm ht, rfl, ?_⟩
    refine ⟨_, _, _, T1, rfl, by omega, gt_at k (by omega) (by omega), ?_⟩
    rw [T3 k (by omega)]
    exact ⟨rfl, rfl⟩
/-! what is thrown -/
theorem thr4_spec {w : Nat} {a0 a1 a2 a3 : Option Nat} {v4 v5 v6 : AV} {H : AH} (HF : H.F w = (6, [vR a0, vR a1, vR a2, vR a3, v4, v5, v6])) : wp (d + 1) 159 (0, ent 5 [vR (some w), vR none, vR none, vI 0, vI 0], [], H) (fun r h' => r = .inl none ∧ h' = H.setF w [vR none, vR none, vR none, vR none, v4, v5, v6]) := by
  refine wp.go [] 60 fun W C0 hW hC => ?_
  refine ⟨_, _, _, HF, rfl, (Nat.le_of_ble_eq_true rfl), ?_⟩
  refine ⟨_, _, _, setF_at HF, rfl, (Nat.le_of_ble_eq_true rfl), ?_⟩
  rw [setF_setF]
  refine ⟨_, _, _, setF_at HF, rfl, (Nat.le_of_ble_eq_true rfl), ?_⟩
  rw [setF_setF]
  refine ⟨fun _ => ?_, fun c => absurd rfl c⟩
  refine ⟨_, _, _, setF_at HF, rfl, (Nat.le_of_ble_eq_true rfl), ?_⟩
  rw [setF_setF]
  refine ⟨_, _, _, setF_at HF, rfl, (Nat.le_of_ble_eq_true rfl), ?_⟩
  rw [setF_setF]
  refine ⟨_, _, _, setF_at HF, rfl, (Nat.le_of_ble_eq_true rfl), ?_⟩
  rw [setF_setF]
  refine ⟨fun c => absurd rfl c, fun _ => ?_⟩
  refine ⟨_, _, _, setF_at HF, rfl, (Nat.le_of_ble_eq_true rfl), ?_⟩
  rw [setF_setF]
  exact ⟨rfl, rfl⟩
theorem thr5_spec {w : Nat} {a0 a1 a2 a3 : Option Nat} {v4 v5 v6 : AV} {H : AH} (HF : H.F w = (6, [vR a0, vR a1, vR a2, vR a3, v4, v5, v6])) : wp (d + 2) 160 (0, ent 5 [vR (some w), vR none, vR none, vI 0, vI 0], [], H) (fun r h' => r = .inl none ∧ h' = H.setF w [vR none, vR none, vR none, vR none, v4, v5, v6]) := by
  refine wp.go [] 20 fun W C0 hW hC => ?_
  refine hC _ _ _ (useE (wpd.up (by omega) (thr4_spec (d := 0) HF)) ?_)
  exact ⟨rfl, rfl⟩
theorem wrong_spec {w p e : Nat} {a0 a1 a2 a3 : Option Nat} {v4 v5 v6 : AV} {H : AH} (HF : H.F w = (6, [vR a0, vR a1, vR a2, vR a3, v4, v5, v6])) (hp : p ≤ 1000) (he : e ≤ 7) : wp (d + 3) 412 (0, ent 3 [vR (some w), vI ((p : Nat) : Int), vI ((e : Nat) : Int)], [], H) (fun r h' => r = .inl none ∧ h' = H.setF w [vR none, vR none, vR none, vR none, v4, v5, vI ((8 * p + e : Nat) : Int)]) := by
  refine wp.go [] 20 fun W C0 hW hC => ?_
  refine hC _ _ _ (useE (wpd.up (by omega) (thr5_spec (d := 0) HF)) ?_)
  conv => whnf
  rw [imul_eq (by omega), iadd_eq (by omega)]
  refine ⟨_, _, _, setF_at HF, rfl, (Nat.le_of_ble_eq_true rfl), ?_⟩
  rw [setF_setF, show 8 * ((p : Nat) : Int) + ((e : Nat) : Int) = ((8 * p + e : Nat) : Int) by omega]
  exact ⟨rfl, rfl⟩
theorem check_pass {ρ : Nat} {p e : Int} : wp (d + 1) 397 (0, ent 4 [vR (some ρ), vI 1, vI p, vI e], [], h) (fun r h' => r = .inl none ∧ h' = h) := by
  refine wp.go [] 20 fun W C0 hW hC => ?_
  refine ⟨fun _ => ?_, fun c => absurd c (by decide)⟩
  exact ⟨rfl, rfl⟩
theorem check_fail {ρ p e : Nat} (hp : p ≤ 1000) (he : e ≤ 7) : wp (d + 4) 397 (0, ent 4 [vR (some ρ), vI 0, vI ((p : Nat) : Int), vI ((e : Nat) : Int)], [], h) (fun r h' => r = .inr h.sz ∧ h'.F h.sz = (6, [vR none, vR none, vR none, vR none, vR none, vI 0, vI ((8 * p + e : Nat) : Int)]) ∧ ext 1 7 h h') := by
  refine wp.go [] 20 fun W C0 hW hC => ?_
  refine ⟨fun c => absurd rfl c, fun _ => ?_⟩
  refine hC _ _ _ (useE (wpd.up (by omega) (wrong_spec (d := 0) (p := p) (e := e) newF_at hp he)) ?_)
  exact ⟨rfl, setF_at newF_at, ext_newF.setF (Nat.le_refl _)⟩
theorem RdS.bad {h' : AH} {e : Nat} {r : Rs} (hS : RdS h0 tag x k G h) (q : r = .inr h.sz ∧ h'.F h.sz = (6, [vR none, vR none, vR none, vR none, vR none, vI 0, vI ((e : Nat) : Int)]) ∧ ext 1 7 h h') : RdX h0 e r h' := by
  obtain ⟨⟨z1, z2, z3, z4⟩, -, -⟩ := hS
  obtain ⟨q1, q2, q3⟩ := q
  have e0 : ext 20 103 h0 h := ⟨by omega, by omega, by omega, by omega, z4, z3⟩
  exact ⟨h.sz, q1, q2, e0.trans q3⟩
/-- a check of the reader: it passes where it holds, else what is wrong is thrown -/
theorem check_spec (hS : RdS h0 tag x k G h) {b : Bool} {p e : Nat} (hp : p ≤ 1000) (he : e ≤ 7) : wp (d + 4) 397 (0, ent 4 [vR (some h0.sz), vI (z01 b), vI ((p : Nat) : Int), vI ((e : Nat) : Int)], [], h) (fun r h' => (b = true ∧ r = .inl none ∧ h' = h) ∨ (b = false ∧ RdX h0 (8 * p + e) r h')) := by
  cases b with
  | true => exact wpd.mono (fun r h' q => Or.inl ⟨rfl, q⟩) _ _ _ (wpd.up (by omega) (check_pass (d := 0)))
  | false => exact wpd.mono (fun r h' q => Or.inr ⟨rfl, hS.bad q⟩) _ _ _ (check_fail hp he)
/-! numbers -/
theorem min_dig {v c : Nat} : min (100 : Int) (10 * ((min 100 v : Nat) : Int) + ((c : Nat) : Int)) = ((min 100 (10 * v + c) : Nat) : Int) := by omega
theorem number_spec (hE : RdE h0 x t) (hS : RdS h0 tag x k G h) (ht : rT tag) {lo hi : Nat} (hhi : hi ≤ 16) (hk : k ≤ t.length) : wp (d + 5) 398 (0, ent 5 [vR (some h0.sz), vI ((lo : Nat) : Int), vI ((hi : Nat) : Int)], [], h) (fun r h' => (¬ isDig t k ∧ RdX h0 (8 * k + 1) r h') ∨ (isDig t k ∧ ¬ (lo ≤ (digs t k 0).2 ∧ (digs t k 0).2 ≤ hi) ∧ RdX h0 (8 * k + 2) r h') ∨ (isDig t k ∧ (lo ≤ (digs t k 0).2 ∧ (digs t k 0).2 ≤ hi) ∧ r = .inl (some (vI (((digs t k 0).2 : Nat) : Int))) ∧ RdS h0 tag x (digs t k 0).1 G h')) := by
  have h120 := hE.2.2.2.1
  have loop : isDig t k → ∀ (j m v : Nat) (g : AH), j + m = t.length → RdS h0 tag x m G g → digs t m v = digs t k 0 →
      wp (d + 5) 398 (31, [some (vR (some h0.sz)), some (vI ((lo : Nat) : Int)), some (vI ((hi : Nat) : Int)), some (vI ((k : Nat) : Int)), some (vI ((min 100 v : Nat) : Int))], [], g) (fun r h' => (¬ isDig t k ∧ RdX h0 (8 * k + 1) r h') ∨ (isDig t k ∧ ¬ (lo ≤ (digs t k 0).2 ∧ (digs t k 0).2 ≤ hi) ∧ RdX h0 (8 * k + 2) r h') ∨ (isDig t k ∧ (lo ≤ (digs t k 0).2 ∧ (digs t k 0).2 ≤ hi) ∧ r = .inl (some (vI (((digs t k 0).2 : Nat) : Int))) ∧ RdS h0 tag x (digs t k 0).1 G h')) := by
    intro hd0 j
    have stop : ∀ (m v : Nat) (g : AH), RdS h0 tag x m G g → ¬ isDig t m → digs t m v = digs t k 0 → wp (d + 5) 398 (81, [some (vR (some h0.sz)), some (vI ((lo : Nat) : Int)), some (vI ((hi : Nat) : Int)), some (vI ((k : Nat) : Int)), some (vI ((min 100 v : Nat) : Int))], [], g) (fun r h' => (¬ isDig t k ∧ RdX h0 (8 * k + 1) r h') ∨ (isDig t k ∧ ¬ (lo ≤ (digs t k 0).2 ∧ (digs t k 0).2 ≤ hi) ∧ RdX h0 (8 * k + 2) r h') ∨ (isDig t k ∧ (lo ≤ (digs t k 0).2 ∧ (digs t k 0).2 ≤ hi) ∧ r = .inl (some (vI (((digs t k 0).2 : Nat) : Int))) ∧ RdS h0 tag x (digs t k 0).1 G h')) := by
      intro m v g hg hn hv
      rw [digs_else hn] at hv
      rw [← hv]
      refine wp.go [] 40 fun W C0 hW hC => ?_
      refine hC _ _ _ (useE (wpd.up (by omega) (in_spec (d := 0))) ?_)
      refine ⟨_, _, _, hg.2.1, lkm ht, ?_⟩
      by_cases c : lo ≤ v ∧ v ≤ hi
      · rw [if_pos (show ((lo : Nat) : Int) ≤ ((min 100 v : Nat) : Int) ∧ ((min 100 v : Nat) : Int) ≤ ((hi : Nat) : Int) by omega)]
        refine hC _ _ _ (useE (wpd.up (by omega) (check_pass (d := 0))) ?_)
        refine Or.inr (Or.inr ⟨hd0, c, ?_, hg⟩)
        rw [show min 100 v = v by omega]
      · rw [if_neg (show ¬ (((lo : Nat) : Int) ≤ ((min 100 v : Nat) : Int) ∧ ((min 100 v : Nat) : Int) ≤ ((hi : Nat) : Int)) by omega)]
        refine hC _ _ _ (use (wpd.up (by omega) (check_fail (d := 0) (h := g) (ρ := h0.sz) (p := k) (e := 2) (by omega) (by omega))) ?_)
        rintro _ h' ⟨rfl, q⟩
        exact Or.inr (Or.inl ⟨hd0, c, hg.bad ⟨rfl, q⟩⟩)
    induction j with
    | zero =>
      intro m v g hj hg hv
      have hn : ¬ isDig t m := fun q => by
        have := chr_in (t := t) (k := m) (by have := q.1; omega)
        omega
      refine wp.go [81] 40 fun W C0 hW hC => ?_
      refine ⟨_, _, _, hg.2.1, lkm ht, ?_⟩
      refine hC _ _ _ (useE (wpd.up (by omega) (sign_spec (d := 0) hE hg ht)) ?_)
      refine hC _ _ _ (useE (wpd.up (by omega) (in_spec (d := 0))) ?_)
      rw [if_neg hn]
      refine ⟨fun _ => ?_, fun c => absurd rfl c⟩
      exact hW _ (stop m v g hg hn hv)
    | succ j ih =>
      intro m v g hj hg hv
      refine wp.go [81, 31] 80 fun W C0 hW hC => ?_
      refine ⟨_, _, _, hg.2.1, lkm ht, ?_⟩
      refine hC _ _ _ (useE (wpd.up (by omega) (sign_spec (d := 0) hE hg ht)) ?_)
      refine hC _ _ _ (useE (wpd.up (by omega) (in_spec (d := 0))) ?_)
      by_cases hn : isDig t m
      · rw [if_pos hn]
        refine ⟨fun c => absurd c (by decide), fun _ => ?_⟩
        obtain ⟨n1, n2⟩ := id hn
        refine ⟨_, _, _, hg.2.1, lkm ht, ?_⟩
        refine hC _ _ _ (useE (wpd.up (by omega) (sign_spec (d := 0) hE hg ht)) ?_)
        conv => whnf
        rw [imul_eq (by omega), iadd_eq (by omega), isub_eq (by omega)]
        refine hC _ _ _ (useE (wpd.up (by omega) (min_spec (d := 0))) ?_)
        refine ⟨_, _, _, _, hg.2.1, lkm ht, rfl, ?_⟩
        conv => whnf
        rw [iadd_eq (by omega)]
        refine ⟨_, _, _, hg.2.1, lkn ht, (Nat.le_of_ble_eq_true rfl), ?_⟩
        rw [digs_dig hn] at hv
        have key := ih (m + 1) _ _ (by omega) (hg.at (m + 1)) hv
        rw [← min_dig, show (((chr t m - 48).toNat : Nat) : Int) = chr t m - 48 by omega, show 10 * ((min 100 v : Nat) : Int) + (chr t m - 48) = 10 * ((min 100 v : Nat) : Int) + chr t m - 48 by omega] at key
        exact hW _ key
      · rw [if_neg hn]
        refine ⟨fun _ => ?_, fun c => absurd rfl c⟩
        exact hW _ (stop m v g hg hn hv)
  refine wp.go [31] 60 fun W C0 hW hC => ?_
  refine ⟨_, _, _, hS.2.1, lkm ht, ?_⟩
  refine hC _ _ _ (useE (wpd.up (by omega) (sign_spec (d := 0) hE hS ht)) ?_)
  refine hC _ _ _ (useE (wpd.up (by omega) (in_spec (d := 0))) ?_)
  refine ⟨_, _, _, _, hS.2.1, lkm ht, rfl, ?_⟩
  refine ⟨_, _, _, hS.2.1, lkm ht, ?_⟩
  by_cases c : isDig t k
  · rw [if_pos c]
    refine hC _ _ _ (useE (wpd.up (by omega) (check_pass (d := 0))) ?_)
    refine ⟨_, _, _, _, hS.2.1, lkm ht, rfl, ?_⟩
    exact hW _ (loop c (t.length - k) k 0 h (by omega) hS rfl)
  · rw [if_neg c]
    refine hC _ _ _ (use (wpd.up (by omega) (check_fail (d := 0) (h := h) (ρ := h0.sz) (p := k) (e := 1) (by omega) (by omega))) ?_)
    rintro _ h' ⟨rfl, q⟩
    exact Or.inl ⟨c, hS.bad ⟨rfl, q⟩⟩
/-- a sign that must stand there -/
theorem must_spec (hE : RdE h0 x t) (hS : RdS h0 tag x k G h) (ht : rT tag) {c : Int} (hk : k ≤ t.length) : wp (d + 5) 400 (0, ent 2 [vR (some h0.sz), vI c], [], h) (fun r h' => (chr t k = c ∧ r = .inl none ∧ RdS h0 tag x (k + 1) G h') ∨ (chr t k ≠ c ∧ RdX h0 (8 * k + 1) r h')) := by
  have h120 := hE.2.2.2.1
  refine wp.go [] 60 fun W C0 hW hC => ?_
  refine ⟨_, _, _, hS.2.1, lkm ht, ?_⟩
  refine hC _ _ _ (useE (wpd.up (by omega) (sign_spec (d := 0) hE hS ht)) ?_)
  refine ⟨fun q => ?_, fun q => ?_⟩
  · refine ⟨_, _, _, _, hS.2.1, lkm ht, rfl, ?_⟩
    refine ⟨_, _, _, hS.2.1, lkm ht, ?_⟩
    refine hC _ _ _ (use (wpd.up (by omega) (check_fail (d := 0) (h := h) (ρ := h0.sz) (p := k) (e := 1) (by omega) (by omega))) ?_)
    rintro _ h' ⟨rfl, w⟩
    exact Or.inr ⟨q, hS.bad ⟨rfl, w⟩⟩
  · refine ⟨_, _, _, _, hS.2.1, lkm ht, rfl, ?_⟩
    refine ⟨_, _, _, hS.2.1, lkm ht, ?_⟩
    refine hC _ _ _ (useE (wpd.up (by omega) (check_pass (d := 0))) ?_)
    refine ⟨_, _, _, _, hS.2.1, lkm ht, rfl, ?_⟩
    conv => whnf
    rw [iadd_eq (by omega)]
    refine ⟨_, _, _, hS.2.1, lkn ht, (Nat.le_of_ble_eq_true rfl), ?_⟩
    exact Or.inl ⟨q, rfl, hS.at (k + 1)⟩
/-- a carbon more -/
theorem radds_spec (hS : RdS h0 tag x k G h) (ht : rT tag) {to : Int} (hto : rdTo G to) (hn : G.1 < 16) : wp (d + 3) 399 (0, ent 2 [vR (some h0.sz), vI to], [], h) (fun r h' => r = .inl (some (vI ((G.1 : Nat) : Int))) ∧ RdS h0 tag x k (gAdd1 G to) h') := by
  have hw : wf0 G := by
    rcases hto with ⟨rfl, -⟩ | ⟨q, -⟩
    · exact ⟨Nat.zero_le _, fun a b w => by cases w⟩
    · exact q.1.to0
  refine wp.go [] 60 fun W C0 hW hC => ?_
  refine ⟨_, _, _, _, hS.2.1, lkm ht, rfl, ?_⟩
  refine ⟨_, _, _, hS.2.2.2.1, rfl, ?_⟩
  refine hC _ _ _ (use (wpd.up (by omega) (cadds_spec (d := 0) hS.2.2 hw hn)) ?_)
  rintro _ h2 ⟨rfl, u2, s2⟩
  have S2 := hS.sk u2 s2
  have hF2 : ((G.1 + 1, G.2) : Gr).1 = G.1 + 1 := rfl
  refine ⟨fun c => ?_, fun c => ?_⟩
  · refine ⟨_, _, _, _, S2.2.1, lkm ht, rfl, ?_⟩
    refine ⟨_, _, _, _, S2.2.2.2.1, rfl, rfl, ?_⟩
    conv => whnf
    rw [isub_eq (by omega)]
    have e : gAdd1 G to = (G.1 + 1, G.2) := if_pos c
    rw [e]
    refine ⟨?_, S2⟩
    rw [show (((G.1 + 1 : Nat)) : Int) - 1 = ((G.1 : Nat) : Int) by omega]
  · rcases hto with ⟨-, q⟩ | ⟨q1, q2, q3, q4⟩
    · exact absurd q c
    · obtain ⟨c', rfl⟩ : ∃ n : Nat, to = ((n : Nat) : Int) := ⟨to.toNat, by omega⟩
      rw [Int.toNat_natCast] at q4
      have hc' : c' < G.1 := by omega
      have hd4 := q1.2.1 c'
      have hw2 : wf0 (G.1 + 1, G.2) := ⟨by show G.1 + 1 ≤ 16; omega, fun a b w => by have := q1.1.2.2 a b w; exact ⟨by show a < G.1 + 1; omega, by show b < G.1 + 1; omega, this.2.2⟩⟩
      have hno : G.2 c' G.1 = false := by
        cases w : G.2 c' G.1 with
        | false => rfl
        | true => have := (q1.1.2.2 _ _ w).2.1; omega
      have hno2 : deg (G.1 + 1, G.2) G.1 = 0 := by
        rw [deg_ext q1.1, deg_cnt]
        refine sumR_none fun i _ => ?_
        cases w : G.2 G.1 i with
        | false => rfl
        | true => have := (q1.1.2.2 _ _ w).1; omega
      have hdc := deg_ext q1.1 c'
      refine ⟨_, _, _, _, S2.2.1, lkm ht, rfl, ?_⟩
      refine ⟨_, _, _, _, S2.2.1, lkm ht, rfl, ?_⟩
      refine ⟨_, _, _, _, S2.2.2.2.1, rfl, rfl, ?_⟩
      conv => whnf
      rw [isub_eq (by omega), show (((G.1 + 1 : Nat)) : Int) - 1 = ((G.1 : Nat) : Int) by omega]
      refine ⟨_, _, _, S2.2.2.2.1, rfl, ?_⟩
      refine hC _ _ _ (use (wpd.up (by omega) (cbinds_spec (d := 0) S2.2.2 hw2 (a := c') (b := G.1) (by show c' < G.1 + 1; omega) (by show G.1 < G.1 + 1; omega) (by omega) hno (by omega) (by omega))) ?_)
      rintro _ h3 ⟨rfl, u3, s3⟩
      have S3 := S2.sk u3 s3
      have e : gAdd1 G ((c' : Nat) : Int) = gAdd (G.1 + 1, G.2) c' G.1 := by
        unfold gAdd1
        rw [if_neg c, Int.toNat_natCast]
        rfl
      rw [e]
      refine ⟨_, _, _, _, S3.2.1, lkm ht, rfl, ?_⟩
      refine ⟨_, _, _, _, S3.2.2.2.1, rfl, rfl, ?_⟩
      conv => whnf
      rw [isub_eq (by show -2147483648 ≤ (((G.1 + 1 : Nat)) : Int) - 1 ∧ (((G.1 + 1 : Nat)) : Int) - 1 ≤ 2147483647; omega)]
      refine ⟨?_, S3⟩
      show Sum.inl (some (vI ((((G.1 + 1 : Nat)) : Int) - 1))) = _
      rw [show (((G.1 + 1 : Nat)) : Int) - 1 = ((G.1 : Nat) : Int) by omega]
end READ
