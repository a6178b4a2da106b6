theorem SkAt.setI {h : AH} {s f : Nat} {G : Gr} {X : List Int} (k : SkAt h s G) (hf : s + 18 < f) : SkAt (h.setI f X) s G := by
  obtain ⟨k1, k2, k3, ⟨W, k4, k5⟩, k6⟩ := k
  refine ⟨k1, k2, k3, ⟨W, by rw [setI_ne (by omega)]; exact k4, k5⟩, fun c hc => ?_⟩
  obtain ⟨Y, x1, x2⟩ := k6 c hc
  exact ⟨Y, by rw [setI_ne (by omega)]; exact x1, x2⟩
theorem setI_setI {h : AH} {p : Nat} {a b : List Int} : (h.setI p a).setI p b = h.setI p b := by
  have e : va_up (h.setI p a).I p (((h.setI p a).I p).1, b) = (h.setI p b).I := by
    funext q
    show (if q = p then (((if p = p then ((h.I p).1, a) else h.I p)).1, b) else if q = p then ((h.I p).1, a) else h.I q) = if q = p then ((h.I p).1, b) else h.I q
    by_cases c : q = p
    · rw [if_pos c, if_pos c, if_pos rfl]
    · rw [if_neg c, if_neg c, if_neg c]
  show ((h.setI p a).1, (h.setI p a).2.1, va_up (h.setI p a).I p (((h.setI p a).I p).1, b), (h.setI p a).R, (h.setI p a).F, (h.setI p a).S) = _
  rw [e]
  rfl
theorem setI_self {h : AH} {p t : Nat} {a : List Int} (e : h.I p = (t, a)) : h.setI p a = h := by
  have e2 : va_up h.I p ((h.I p).1, a) = h.I := by
    funext q
    show (if q = p then ((h.I p).1, a) else h.I q) = h.I q
    by_cases c : q = p
    · rw [if_pos c, c, e]
    · rw [if_neg c]
  show (h.1, h.2.1, va_up h.I p ((h.I p).1, a), h.R, h.F, h.S) = h
  rw [e2]
