/-! TREES: how deep and in which order -/
set_option maxRecDepth 100000
theorem fa_mem : ∀ {e : PT} {s : Int × Int × Int × Int}, (∀ st ∈ e, 0 ≤ st.2.2.2) → s ∈ e → s.1 = 5 → fa e s.2.2.1 ≠ -1
  | st :: e, s, h, hs, h5 => by
    rw [fa_s]
    have h0 := h st List.mem_cons_self
    by_cases hf : fa e s.2.2.1 = -1
    · rw [if_pos hf]
      rcases List.mem_cons.mp hs with rfl | hs
      · rw [if_pos ⟨h5, rfl⟩]; omega
      · exact absurd hf (fa_mem (fun st hst => h st (List.mem_cons_of_mem _ hst)) hs h5)
    · rw [if_neg hf]; exact hf
theorem fv_mem : ∀ {e : PT} {s : Int × Int × Int × Int}, (∀ st ∈ e, 0 ≤ st.2.2.2) → s ∈ e → s.1 = 4 → fv e s.2.1 s.2.2.1 ≠ -1
  | st :: e, s, h, hs, h4 => by
    rw [fv_s]
    have h0 := h st List.mem_cons_self
    by_cases hf : fv e s.2.1 s.2.2.1 = -1
    · rw [if_pos hf]
      rcases List.mem_cons.mp hs with rfl | hs
      · rw [if_pos ⟨h4, rfl, rfl⟩]; omega
      · exact absurd hf (fv_mem (fun st hst => h st (List.mem_cons_of_mem _ hst)) hs h4)
    · rw [if_neg hf]; exact hf
theorem ff_mem : ∀ {e : PT} {s : Int × Int × Int × Int}, s ∈ e → s.1 = 3 → 0 < s.2.2.2 → ff e s.2.1 = true
  | st :: e, s, hs, h3, h0 => by
    have e1 : ff (st :: e) s.2.1 = (ff e s.2.1 || (decide (st.1 = 3) && decide (st.2.1 = s.2.1) && decide (0 < st.2.2.2))) := rfl
    rw [e1]
    rcases List.mem_cons.mp hs with rfl | hs
    · rw [decide_eq_true h3, decide_eq_true h0]; simp
    · rw [ff_mem hs h3 h0]; rfl
theorem isN_g {D : ZD} {eng : Int} : ∀ {e : PT} {s : Int × Int × Int × Int}, isN D eng (s :: e) → ∀ s' ∈ e, s'.1 = 3 → 0 < s'.2.2.2
  | s0 :: e, s, h, s', hs, h3 => by
    obtain ⟨hN, h1, h2, h4, h5, h6⟩ := h
    rcases List.mem_cons.mp hs with rfl | hs
    · have h0 : 0 ≤ s'.2.2.2 := hN.2.2.2.2.1
      by_cases hz : s'.2.2.2 = 0
      · have en : nl D eng (s' :: e) = if s'.1 = 3 ∧ s'.2.2.2 = 0 then (0, s'.2.1, 0, 0) else if s'.1 = 3 ∧ D 26 s'.2.1 = 3 then (1, s'.2.1, 0, 0) else lab D eng (s' :: e) := rfl
        rw [en, if_pos ⟨h3, hz⟩] at h6
        have h6 : s.2.2.2 < 0 := h6
        omega
      · omega
    · exact isN_g hN s' hs h3
theorem isN_0 {D : ZD} {eng : Int} : ∀ {e : PT}, isN D eng e → ∀ st ∈ e, 0 ≤ st.2.2.2
  | s :: e, h, st, hs => by
    rcases List.mem_cons.mp hs with rfl | hs
    · exact h.2.2.2.2.1
    · exact isN_0 h.1 st hs
theorem isN_k_kind {D : ZD} {eng : Int} : ∀ {e : PT}, isN D eng e → MI D → ∀ st ∈ e, st.1 = 3 ∨ st.1 = 4 ∨ st.1 = 5
  | s :: e, h, hM, st, hs => by
    rcases List.mem_cons.mp hs with rfl | hs
    · obtain ⟨hN, h1, h2, h3, h4, h5⟩ := h
      rw [nl_inner (by omega)] at h1 h5
      have hl := lab_ok hM (isN_P hM e hN).1 eng
      generalize lab D eng e = l at h1 h5 hl
      rcases hl with rfl | ⟨c, rfl, _⟩ | ⟨c, rfl, _⟩ | ⟨v, q, rfl, _⟩ | ⟨k, q, rfl, _⟩
      · dsimp only at h5; omega
      · dsimp only at h5; omega
      · dsimp only at h1; omega
      · dsimp only at h1; omega
      · dsimp only at h1; omega
    · exact isN_k_kind h.1 hM st hs
/-- what a step asks -/
def kyf (st : Int × Int × Int × Int) : Int × Int × Int := if st.1 = 5 then (5, 0, st.2.2.1) else if st.1 = 4 then (4, st.2.1, st.2.2.1) else (3, st.2.1, 0)
def kyU : List (Int × Int × Int) := (apl.map fun p => (5, 0, p)) ++ ((apl.map fun p => (4, 0, p)) ++ ((apl.map fun p => (4, 1, p)) ++ ((apl.map fun p => (4, 2, p)) ++ ((List.range 8).map fun (c : Nat) => (3, (c : Int), 0)))))
theorem kyU_len : kyU.length = 488 := by
  unfold kyU
  simp only [List.length_append, List.length_map, List.length_range, apl_len]
theorem isN_k {D : ZD} {eng : Int} (hM : MI D) : ∀ {e : PT}, isN D eng e → (e.map kyf).Nodup ∧ ∀ x ∈ e.map kyf, x ∈ kyU
  | [], _ => ⟨List.nodup_nil, fun x h => (by cases h)⟩
  | st :: e, h => by
    have hg := isN_g h
    obtain ⟨hN, h1, h2, h3, h4, h5⟩ := h
    obtain ⟨ih1, ih2⟩ := isN_k hM hN
    have h0 := isN_0 hN
    obtain ⟨hP, hV⟩ := isN_P hM e hN
    rw [nl_inner (by omega)] at h1 h2 h3 h5
    have m23 : D 23 0 ≤ 8 := hM.2.2.2.2.1.2.2.2.2.1
    have hl := lab_ok hM hP eng
    generalize lab D eng e = l at h1 h2 h3 h5 hl
    have key : kyf st ∉ e.map kyf ∧ kyf st ∈ kyU := by
      rcases hl with rfl | ⟨c, rfl, _⟩ | ⟨c, rfl, hc, _, hf, _⟩ | ⟨v, q, rfl, hv, hf, d, k, hd, ht⟩ | ⟨k, q, rfl, hf, d, hd, ht⟩
      · dsimp only at h5; omega
      · dsimp only at h5; omega
      · dsimp only at h1 h2 h3 h5
        have ek : kyf st = (3, c, 0) := by unfold kyf; rw [if_neg (by omega), if_neg (by omega), h2]
        rw [ek]
        refine ⟨fun hm => ?_, ?_⟩
        · obtain ⟨s', hs', hk⟩ := List.mem_map.mp hm
          unfold kyf at hk
          split at hk
          · injection hk with a _; omega
          · split at hk
            · injection hk with a _; omega
            · injection hk with _ a
              injection a with a _
              have hh := isN_k_kind hN hM s' hs'
              have h33 : s'.1 = 3 := by omega
              have := ff_mem hs' h33 (hg s' hs' h33)
              rw [a, hf] at this
              cases this
        · unfold kyU
          refine List.mem_append_right _ (List.mem_append_right _ (List.mem_append_right _ (List.mem_append_right _ (List.mem_map.mpr ⟨c.toNat, List.mem_range.mpr (by omega), ?_⟩))))
          rw [show ((c.toNat : Nat) : Int) = c by omega]
      · dsimp only at h1 h2 h3 h5
        have ek : kyf st = (4, v, q) := by unfold kyf; rw [if_neg (by omega), if_pos (by omega), h2, h3]
        rw [ek]
        have hap := pl_apl hd (tq_f hM hP (by omega) ht).1
        refine ⟨fun hm => ?_, ?_⟩
        · obtain ⟨s', hs', hk⟩ := List.mem_map.mp hm
          unfold kyf at hk
          split at hk
          · injection hk with a _; omega
          · split at hk
            · rename_i _ h44
              injection hk with _ a
              injection a with a b
              have := fv_mem h0 hs' h44
              rw [a, b] at this
              exact this hf
            · injection hk with a _; omega
        · unfold kyU
          refine List.mem_append_right _ ?_
          have hv3 : v = 0 ∨ v = 1 ∨ v = 2 := by omega
          rcases hv3 with rfl | rfl | rfl
          · exact List.mem_append_left _ (List.mem_map.mpr ⟨q, hap, rfl⟩)
          · exact List.mem_append_right _ (List.mem_append_left _ (List.mem_map.mpr ⟨q, hap, rfl⟩))
          · exact List.mem_append_right _ (List.mem_append_right _ (List.mem_append_left _ (List.mem_map.mpr ⟨q, hap, rfl⟩)))
      · dsimp only at h1 h2 h3 h5
        have ek : kyf st = (5, 0, q) := by unfold kyf; rw [if_pos (by omega), h3]
        rw [ek]
        have hap := pl_apl hd (tq_f hM hP (by omega) ht).1
        refine ⟨fun hm => ?_, ?_⟩
        · obtain ⟨s', hs', hk⟩ := List.mem_map.mp hm
          unfold kyf at hk
          split at hk
          · rename_i h55
            injection hk with _ a
            injection a with a b
            have := fa_mem h0 hs' h55
            rw [b] at this
            exact this hf
          · split at hk
            · injection hk with a _; omega
            · injection hk with a _; omega
        · unfold kyU
          exact List.mem_append_left _ (List.mem_map.mpr ⟨q, hap, rfl⟩)
    refine ⟨?_, fun x hx => ?_⟩
    · rw [List.map_cons, List.nodup_cons]; exact ⟨key.1, ih1⟩
    · rw [List.map_cons] at hx
      rcases List.mem_cons.mp hx with rfl | hx
      · exact key.2
      · exact ih2 x hx
theorem isN_len {D : ZD} {eng : Int} (hM : MI D) {e : PT} (h : isN D eng e) : e.length ≤ 488 := by
  have := isN_k hM h
  have := nd_le _ _ this.1 this.2
  rw [List.length_map, kyU_len] at this
  exact this
theorem kel_len : ∀ (e : PT), (kel e).length ≤ e.length
  | [] => Nat.le_refl _
  | st :: e => by
    have ih := kel_len e
    unfold kel
    rw [List.length_append, List.length_cons]
    have : (if st.1 = 5 then [(st.2.2.1, (-1 : Int), st.2.2.2)] else if st.1 = 4 then [(st.2.2.1, st.2.1, st.2.2.2)] else []).length ≤ 1 := by
      split
      · simp
      · split <;> simp
    omega
/-- one node is made before another -/
def plt (a b : PT) : Prop := (∃ t : PT, t ≠ [] ∧ b = t ++ a) ∨ (∃ (s s' : Int × Int × Int × Int) (e ta tb : PT), a = ta ++ s :: e ∧ b = tb ++ s' :: e ∧ s.2.2.2 < s'.2.2.2)
theorem plt_ne {a b : PT} (h : plt a b) : a ≠ b := fun e => by
  subst e
  rcases h with ⟨t, ht, h⟩ | ⟨s, s', e, ta, tb, h1, h2, h3⟩
  · have := congrArg List.length h
    rw [List.length_append] at this
    exact ht (List.length_eq_zero_iff.mp (by omega))
  · have := h1.symm.trans h2
    have hl := congrArg List.length this
    rw [List.length_append, List.length_append, List.length_cons, List.length_cons] at hl
    have := (List.append_inj this (by omega)).2
    injection this with a _
    subst a
    omega
