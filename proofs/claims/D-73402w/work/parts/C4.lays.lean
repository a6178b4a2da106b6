section LAYS
variable {d : Nat} {h : AH} {s f : Nat} {G : Gr} {D : Nat → Nat → Nat}
/-- seen from a neighbour a, or from nowhere (16) -/
abbrev frI (a : Nat) : Int := if a = 16 then -1 else ((a : Nat) : Int)
abbrev inF (D : Nat → Nat → Nat) (a c v : Nat) : Prop := a = 16 ∨ inB D a c v
def bszF (G : Gr) (D : Nat → Nat → Nat) (a c : Nat) : Nat := 1 + ((ch G a c).map (bsz G D c)).sum
theorem bszF_child (hG : G.wf) (hD : Far G D) {a c e : Nat} (hce : G.2 c e = true) (hea : e ≠ a) : bszF G D c e < bszF G D a c := by
  have h1 : bszF G D c e = bsz G D c e := (bsz_eq hG hD hce).symm
  have h2 := sum_mem (g := bsz G D c) ((ch_mem hG (a := a)).mpr ⟨hce, hea⟩)
  rw [h1]
  unfold bszF
  omega
theorem clays_spec (hS : SkAt h s G) (hf : s + 18 < f) (hI : (h.I f).1 = 1) (hG : G.wf) (hd : ∀ a, deg G a ≤ 4) (hD : Far G D) : ∀ (n a c b : Nat) (X : List Int), bszF G D a c ≤ n → (G.2 a c = true ∨ a = 16) → c < G.1 → b + n ≤ 1000 → X.length = G.1 →
    wp (d + n) 236 (0, ent 6 [vR (some s), vI ((c : Nat) : Int), vI (frI a), vI ((b : Nat) : Int), vR (some f)], [], h.setI f X) (fun r h' => r = .inl none ∧ ∃ Y, h' = h.setI f Y ∧ Y.length = G.1 ∧ ∀ v, v < G.1 → (inF D a c v → gt Y v = ((b + D c v : Nat) : Int)) ∧ (¬ inF D a c v → gt Y v = gt X v)) := by
  have hn := hG.2.1
  have hIf : ∀ X, (h.setI f X).I f = (1, X) := fun X => by
    show (if f = f then ((h.I f).1, X) else h.I f) = _
    rw [if_pos rfl, hI]
  intro n
  induction n with
  | zero => intro a c b X h1; unfold bszF at h1; omega
  | succ n ih =>
    intro a c b X hb hac hc hbn hX
    have hdc := hd c
    have h0c : D c c = 0 := (hD c c hc hc).2.1.mpr rfl
    have loop : ∀ (j k : Nat) (Y : List Int), j + k = deg G c → Y.length = G.1 → (∀ v, v < G.1 → ((v = c ∨ ∃ i e, i < k ∧ (nb G c)[i]? = some e ∧ e ≠ a ∧ inB D c e v) → gt Y v = ((b + D c v : Nat) : Int)) ∧ (¬ (v = c ∨ ∃ i e, i < k ∧ (nb G c)[i]? = some e ∧ e ≠ a ∧ inB D c e v) → gt Y v = gt X v)) →
        wp (d + (n + 1)) 236 (8, [some (vR (some s)), some (vI ((c : Nat) : Int)), some (vI (frI a)), some (vI ((b : Nat) : Int)), some (vR (some f)), some (vI ((k : Nat) : Int))], [], h.setI f Y) (fun r h' => r = .inl none ∧ ∃ Y, h' = h.setI f Y ∧ Y.length = G.1 ∧ ∀ v, v < G.1 → (inF D a c v → gt Y v = ((b + D c v : Nat) : Int)) ∧ (¬ inF D a c v → gt Y v = gt X v)) := by
      intro j
      induction j with
      | zero =>
        intro k Y hj hY hv
        obtain ⟨k1, k2, k3, ⟨W, k4, k5, k6⟩, k7⟩ := hS.setI (X := Y) hf
        refine wp.go [8, 51] 30 fun W C hW hC => ?_
        refine ⟨_, _, _, _, k2, rfl, rfl, ?_⟩
        refine ⟨_, _, _, k4, rfl, by omega, gt_at c (by omega) (by omega), ?_⟩
        rw [k6 c hc]
        refine ⟨fun _ => ?_, fun q => absurd q (by omega)⟩
        refine ⟨rfl, Y, rfl, hY, fun v hvl => ?_⟩
        have hiff : (v = c ∨ ∃ i e, i < k ∧ (nb G c)[i]? = some e ∧ e ≠ a ∧ inB D c e v) ↔ inF D a c v := by
          constructor
          · rintro (g | ⟨i, e, g2, g3, g4, g5⟩)
            · rw [g]
              rcases hac with q | q
              · exact Or.inr (hD.self hG q).1
              · exact Or.inl q
            · rcases hac with q | q
              · exact Or.inr (Far.sub hG hD q ((nb_mem hG).mp (List.mem_of_getElem? g3)) g4 hvl g5)
              · exact Or.inl q
          · intro g
            by_cases q : v = c
            · exact Or.inl q
            · have : ∃ e, G.2 c e = true ∧ e ≠ a ∧ inB D c e v := by
                rcases g with g | g
                · obtain ⟨e, e1, e2⟩ := hD.near hc hvl (Ne.symm q)
                  have := (hG.2.2 _ _ e1).2.1
                  exact ⟨e, e1, by omega, by unfold inB; omega⟩
                · exact Far.child hG hD hc hvl q g
              obtain ⟨e, e1, e2, e3⟩ := this
              obtain ⟨i, hi⟩ := List.getElem?_of_mem ((nb_mem hG).mpr e1)
              have hil := (List.getElem?_eq_some_iff.mp hi).1
              have hil : i < deg G c := hil
              exact Or.inr ⟨i, e, by omega, hi, e2, e3⟩
        have := hv v hvl
        rw [hiff] at this
        exact this
      | succ j ihj =>
        intro k Y hj hY hv
        obtain ⟨k1, k2, k3, ⟨W, k4, k5, k6⟩, k7⟩ := hS.setI (X := Y) hf
        obtain ⟨X1, x1, x2, x3⟩ := k7 c (by omega)
        have x3 := x3 hc
        have hkl : k < (nb G c).length := by show k < deg G c; omega
        have hget := List.getElem?_eq_getElem hkl
        have hx := x3 k _ hget
        have hce : G.2 c (nb G c)[k] = true := (nb_mem hG).mp (List.getElem_mem hkl)
        generalize (nb G c)[k] = e at hget hx hce
        have he := (hG.2.2 _ _ hce).2.1
        have step : ∀ Y', Y'.length = G.1 → (∀ v, v < G.1 → ((v = c ∨ ∃ i e, i < k + 1 ∧ (nb G c)[i]? = some e ∧ e ≠ a ∧ inB D c e v) → gt Y' v = ((b + D c v : Nat) : Int)) ∧ (¬ (v = c ∨ ∃ i e, i < k + 1 ∧ (nb G c)[i]? = some e ∧ e ≠ a ∧ inB D c e v) → gt Y' v = gt X v)) → wp (d + (n + 1)) 236 (51, [some (vR (some s)), some (vI ((c : Nat) : Int)), some (vI (frI a)), some (vI ((b : Nat) : Int)), some (vR (some f)), some (vI ((k : Nat) : Int))], [], h.setI f Y') (fun r h' => r = .inl none ∧ ∃ Y, h' = h.setI f Y ∧ Y.length = G.1 ∧ ∀ v, v < G.1 → (inF D a c v → gt Y v = ((b + D c v : Nat) : Int)) ∧ (¬ inF D a c v → gt Y v = gt X v)) := by
          intro Y' g1 g2
          refine wp.go [8] 10 fun W C hW hC => ?_
          (conv => whnf); simp (disch := omega) only [iadd_eq, isub_eq, imul_eq]
          exact hW _ (ihj (k + 1) Y' (by omega) g1 g2)
        have hsplit : ∀ v, (v = c ∨ ∃ i e, i < k + 1 ∧ (nb G c)[i]? = some e ∧ e ≠ a ∧ inB D c e v) ↔ ((v = c ∨ ∃ i e, i < k ∧ (nb G c)[i]? = some e ∧ e ≠ a ∧ inB D c e v) ∨ (e ≠ a ∧ inB D c e v)) := by
          intro v
          constructor
          · rintro (g | ⟨i, e', g2, g3, g4, g5⟩)
            · exact Or.inl (Or.inl g)
            · by_cases qi : i = k
              · subst qi
                rw [hget] at g3
                cases g3
                exact Or.inr ⟨g4, g5⟩
              · exact Or.inl (Or.inr ⟨i, e', by omega, g3, g4, g5⟩)
          · rintro ((g | ⟨i, e', g2, g3⟩) | ⟨g4, g5⟩)
            · exact Or.inl g
            · exact Or.inr ⟨i, e', by omega, g3⟩
            · exact Or.inr ⟨k, e, by omega, hget, g4, g5⟩
        refine wp.go [8, 51] 60 fun W C hW hC => ?_
        refine ⟨_, _, _, _, k2, rfl, rfl, ?_⟩
        refine ⟨_, _, _, k4, rfl, by omega, gt_at c (by omega) (by omega), ?_⟩
        rw [k6 c hc]
        refine ⟨fun q => absurd q (by omega), fun _ => ?_⟩
        refine ⟨_, _, _, _, k2, rfl, rfl, ?_⟩
        refine ⟨_, _, _, k3, by decide, by omega, by rw [Int.toNat_natCast]; exact row_ref (by omega), ?_⟩
        refine ⟨_, _, _, x1, rfl, by omega, gt_at k (by omega) (by omega), ?_⟩
        rw [hx]
        refine ⟨fun q => ?_, fun q => ?_⟩
        · have hea : e = a := by
            by_cases q16 : a = 16
            · rw [show frI a = -1 from if_pos q16] at q; omega
            · rw [show frI a = ((a : Nat) : Int) from if_neg q16] at q; omega
          refine hW _ (step Y hY fun v hvl => ?_)
          rw [hsplit]
          have := hv v hvl
          refine ⟨fun g => this.1 (by rcases g with g | g; exact g; exact absurd hea g.1), fun g => this.2 (fun w => g (Or.inl w))⟩
        · have hea : e ≠ a := by
            intro w
            rw [show frI a = ((a : Nat) : Int) from if_neg (by omega)] at q
            omega
          refine ⟨_, _, _, _, k2, rfl, rfl, ?_⟩
          refine ⟨_, _, _, k3, by decide, by omega, by rw [Int.toNat_natCast]; exact row_ref (by omega), ?_⟩
          refine ⟨_, _, _, x1, rfl, by omega, gt_at k (by omega) (by omega), ?_⟩
          rw [hx]
          refine ⟨_, _, _, k2, rfl, ?_⟩
          conv => whnf
          rw [iadd_eq (by omega), show ((b : Nat) : Int) + 1 = ((b + 1 : Nat) : Int) by omega]
          have call := ih c e (b + 1) Y (by have := bszF_child hG hD hce hea; omega) (Or.inl hce) he (by omega) hY
          rw [show frI c = ((c : Nat) : Int) from if_neg (by omega)] at call
          refine hC _ _ _ (use call ?_)
          rintro _ _ ⟨rfl, Y', rfl, g1, g2⟩
          refine hW _ (step Y' g1 fun v hvl => ?_)
          rw [hsplit]
          have gv := g2 v hvl
          have old := hv v hvl
          have hin : inF D c e v ↔ inB D c e v := ⟨fun w => by rcases w with w | w; omega; exact w, Or.inr⟩
          rw [hin] at gv
          by_cases qb : inB D c e v
          · have pm := Far.pm hG hD hce hvl
            unfold inB at qb
            refine ⟨fun _ => ?_, fun w => absurd (Or.inr ⟨hea, qb⟩) w⟩
            rw [gv.1 qb]
            congr 1
            omega
          · rw [gv.2 qb]
            exact ⟨fun w => old.1 (by rcases w with w | w; exact w; exact absurd w.2 qb), fun w => old.2 (fun z => w (Or.inl z))⟩
    refine wp.go [8] 20 fun W C hW hC => ?_
    refine ⟨_, hIf _, by omega, by omega, ?_⟩
    rw [setI_setI, Int.toNat_natCast]
    refine hW _ (loop (deg G c) 0 _ rfl (by rw [List.length_set]; exact hX) fun v hvl => ?_)
    rw [gt_set (by omega)]
    refine ⟨fun q => ?_, fun q => ?_⟩
    · rcases q with q | ⟨i, e, q, -⟩
      · rw [if_pos q, q, h0c]; rfl
      · omega
    · rw [if_neg (fun k => q (Or.inl k))]
end LAYS
