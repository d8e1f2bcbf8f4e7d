/-! TREES: the first way out where nothing is taken -/
set_option maxRecDepth 100000
/-- two ways part, the one to the left -/
def dv (a b : PT) : Prop := ∃ (s s' : Int × Int × Int × Int) (e ta tb : PT), a = ta ++ s :: e ∧ b = tb ++ s' :: e ∧ s.2.2.2 < s'.2.2.2
theorem sfx_two {a e f : PT} {s t : Int × Int × Int × Int} {x y : PT} (h : a = x ++ s :: e) (g : a = y ++ t :: f) (hl : e.length < f.length) : ∃ z, f = z ++ s :: e := by
  subst h
  have : ∃ z, x = y ++ t :: z ∧ f = z ++ s :: e := by
    rcases List.append_eq_append_iff.mp g with ⟨as, h1, h2⟩ | ⟨cs, h1, h2⟩
    · have := congrArg List.length h2
      rw [List.length_cons, List.length_append, List.length_cons] at this
      omega
    · match cs, h1, h2 with
      | [], h1, h2 =>
        rw [List.nil_append] at h2
        have := congrArg List.length h2
        rw [List.length_cons, List.length_cons] at this
        omega
      | c :: cs, h1, h2 =>
        rw [List.cons_append] at h2
        injection h2 with h3 h4
        exact ⟨cs, by rw [h1, h3], h4⟩
  obtain ⟨z, _, hz⟩ := this
  exact ⟨z, hz⟩
theorem dv_asymm {a b : PT} (h : dv a b) (g : dv b a) : False := by
  obtain ⟨s, s', e, ta, tb, h1, h2, h3⟩ := h
  obtain ⟨t, t', f, ua, ub, g1, g2, g3⟩ := g
  have eqs : ∀ {x y : PT} {s t : Int × Int × Int × Int} {e f : PT}, x ++ s :: e = y ++ t :: f → e.length = f.length → s = t ∧ e = f := fun {x y s t e f} h hl => by
    have hh := congrArg List.length h
    rw [List.length_append, List.length_append, List.length_cons, List.length_cons] at hh
    have := (List.append_inj h (by omega)).2
    injection this with a b
    exact ⟨a, b⟩
  rcases Nat.lt_trichotomy e.length f.length with hl | hl | hl
  · obtain ⟨z, hz⟩ := sfx_two h1 g2 hl
    obtain ⟨w, hw⟩ := sfx_two h2 g1 hl
    have := (eqs (hz.symm.trans hw) rfl).1
    rw [this] at h3; omega
  · have a1 := (eqs (h1.symm.trans g2) hl).1
    have a2 := (eqs (h2.symm.trans g1) hl).1
    rw [a1, a2] at h3; omega
  · obtain ⟨z, hz⟩ := sfx_two g2 h1 hl
    obtain ⟨w, hw⟩ := sfx_two g1 h2 hl
    have := (eqs (hw.symm.trans hz) rfl).1
    rw [this] at g3; omega
theorem isN_sfx {D : ZD} {eng : Int} : ∀ {t e : PT}, isN D eng (t ++ e) → isN D eng e
  | [], e, h => h
  | s :: t, e, h => isN_sfx (t := t) h.1
theorem isN_step {D : ZD} {eng : Int} : ∀ {t e : PT}, isN D eng (t ++ e) → t ≠ [] → 0 < (nl D eng e).2.2.2
  | [], e, _, h => absurd rfl h
  | [s], e, h, _ => by
    have h : isN D eng (s :: e) := h
    have := h.2.2.2.2.1
    have := h.2.2.2.2.2
    omega
  | s :: u :: t, e, h, _ => isN_step (t := u :: t) h.1 (by simp)
/-- nothing is taken there, and nowhere before -/
def FirstM (D : ZD) (e : PT) : Prop := isN D 2 e ∧ (nl D 2 e).1 = 2 ∧ ∀ e', isN D 2 e' → (nl D 2 e').1 = 2 → e' ≠ e → dv e e'
theorem FirstM.uniq {D : ZD} {e e' : PT} (h : FirstM D e) (h' : FirstM D e') : e = e' :=
  Decidable.byContradiction fun z => dv_asymm (h.2.2 e' h'.1 h'.2.1 (fun y => z y.symm)) (h'.2.2 e h.1 h.2.1 z)
theorem miss_0 {D : ZD} {eng : Int} {e : PT} (hM : MI D) (hN : isN D eng e) (h : (nl D eng e).1 = 2) : (nl D eng e).2.2.2 = 0 := by
  have hLO := nl_LO hM hN (by omega)
  rcases hLO with z | ⟨c, z, _⟩ | ⟨c, z, _⟩ | ⟨v, q, z, _⟩ | ⟨k, q, z, _⟩
  · rw [z]
  · rw [z] at h; dsimp only at h; omega
  · rw [z] at h; dsimp only at h; omega
  · rw [z] at h; dsimp only at h; omega
  · rw [z] at h; dsimp only at h; omega
theorem plt_dv {D : ZD} {e e' : PT} (hM : MI D) (hN : isN D 2 e) (h2 : (nl D 2 e).1 = 2) (hN' : isN D 2 e') (h : plt e e') : dv e e' := by
  rcases h with ⟨t, ht, rfl⟩ | h
  · have := isN_step hN' ht
    have := miss_0 hM hN h2
    omega
  · exact h
/-- what is known on a way of a place asked on it -/
theorem fa_val {D : ZD} {eng : Int} (hM : MI D) : ∀ {e : PT}, isN D eng e → ∀ st ∈ e, st.1 = 5 → fa e st.2.2.1 = st.2.2.2
  | s :: e, h, st, hs, h5 => by
    have hN := h.1
    have h0 := isN_0 hN
    rw [fa_s]
    rcases List.mem_cons.mp hs with rfl | hs
    · obtain ⟨_, h1, h2, h3, h4, h6⟩ := h
      have hLO := nl_LO hM hN (by omega)
      have hf : fa e st.2.2.1 = -1 := by
        rcases hLO with z | ⟨c, z, _⟩ | ⟨c, z, _⟩ | ⟨v, q, z, _⟩ | ⟨k, q, z, hf, _⟩
        · rw [z] at h1; dsimp only at h1; omega
        · rw [z] at h1; dsimp only at h1; omega
        · rw [z] at h1; dsimp only at h1; omega
        · rw [z] at h1; dsimp only at h1; omega
        · rw [z] at h3; dsimp only at h3; rw [← h3]; exact hf
      rw [if_pos hf, if_pos ⟨h5, rfl⟩]
    · have := fa_mem h0 hs h5
      rw [if_neg this]
      exact fa_val hM hN st hs h5
theorem fa_none : ∀ {e : PT} {p : Int}, (∀ st ∈ e, ¬ (st.1 = 5 ∧ st.2.2.1 = p)) → fa e p = -1
  | [], _, _ => rfl
  | s :: e, p, h => by
    rw [fa_s, fa_none (fun st hs => h st (List.mem_cons_of_mem _ hs)), if_pos rfl, if_neg (h s List.mem_cons_self)]
/-- the example at a place -/
def ExA (D : ZD) (p r : Int) : Prop := ∃ e, FirstM D e ∧ r = if fa e p = -1 then -4 else fa e p
theorem ExA.uniq {D : ZD} {p r r' : Int} (h : ExA D p r) (h' : ExA D p r') : r = r' := by
  obtain ⟨e, h1, rfl⟩ := h
  obtain ⟨e', g1, rfl⟩ := h'
  rw [h1.uniq g1]
