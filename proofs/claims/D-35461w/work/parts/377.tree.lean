/-! TREES: the nodes that there are, in plain terms -/
set_option maxRecDepth 100000
theorem scan_ok {D : ZD} {e : PT} : ∀ (L : List Int) (c r : Int) (s : TS), scan D e L = some (c, r, s) → c ∈ L ∧ ff e c = false ∧ r ≠ 0 ∧ (tmc D e c (0, 0, 0)).1 = r ∧ (tmc D e c (0, 0, 0)).2.1 = s
  | [], c, r, s, h => by cases h
  | x :: L, c, r, s, h => by
    have e1 : scan D e (x :: L) = if ff e x = true then scan D e L else if (tmc D e x (0, 0, 0)).1 = 0 then scan D e L else some (x, (tmc D e x (0, 0, 0)).1, (tmc D e x (0, 0, 0)).2.1) := rfl
    rw [e1] at h
    have up : (c ∈ L ∧ ff e c = false ∧ r ≠ 0 ∧ (tmc D e c (0, 0, 0)).1 = r ∧ (tmc D e c (0, 0, 0)).2.1 = s) → (c ∈ x :: L ∧ ff e c = false ∧ r ≠ 0 ∧ (tmc D e c (0, 0, 0)).1 = r ∧ (tmc D e c (0, 0, 0)).2.1 = s) := fun q => ⟨List.mem_cons_of_mem _ q.1, q.2⟩
    by_cases hf : ff e x = true
    · rw [if_pos hf] at h; exact up (scan_ok L c r s h)
    · rw [if_neg hf] at h
      by_cases h0 : (tmc D e x (0, 0, 0)).1 = 0
      · rw [if_pos h0] at h; exact up (scan_ok L c r s h)
      · rw [if_neg h0] at h
        have h := Option.some.inj h
        injection h with a1 a2
        injection a2 with a2 a3
        subst a1 a2 a3
        exact ⟨List.mem_cons_self, by simpa using hf, h0, rfl, rfl⟩
theorem argb_mem {w : Int → Nat} : ∀ (L : List Int), L ≠ [] → argb w L ∈ L
  | [], h => absurd rfl h
  | [p], _ => List.mem_singleton.mpr rfl
  | p :: q :: t, _ => by
    have e : argb w (p :: q :: t) = if w (argb w (q :: t)) < w p ∨ (w (argb w (q :: t)) = w p ∧ p ≤ argb w (q :: t)) then p else argb w (q :: t) := rfl
    rw [e]
    split
    · exact List.mem_cons_self
    · exact List.mem_cons_of_mem _ (argb_mem (q :: t) (by simp))
theorem ndc_tq {D : ZD} {e : PT} (hM : MI D) (hP : PI D e) {c q : Int} (hc : 0 ≤ c ∧ c < D 23 0) (h : q ∈ ndc D e c) : fa e q = -1 ∧ ∃ d' k', d' ≤ 3 ∧ tq D e d' q k' := by
  unfold ndc at h
  obtain ⟨x, hx, hq⟩ := List.mem_flatMap.mp h
  obtain ⟨i, i0, i1, _, h0, h1, ht, hf, hd⟩ := cols_tq (e := e) hM hc hx
  exact ndl_tq hM hP 40 x.1 x.2 (D 22 i) 0 h0 h1 ht hf (by omega) q hq
theorem tmc_ndc {D : ZD} {e : PT} {c : Int} {s : TS} (h2 : (tmc D e c s).1 = 2) (h5 : (tmc D e c s).2.1.1 = 5) : (tmc D e c s).2.1.2.2 ∈ ndc D e c := by
  have key : ∀ f (L : List (Int × Int)) (t : TS × (Int → Int)), (al (mt D (tA e) (tV e) (fun s => s) f) L t).1 = 2 → (al (mt D (tA e) (tV e) (fun s => s) f) L t).2.1.1 = 5 → (al (mt D (tA e) (tV e) (fun s => s) f) L t).2.1.2.2 ∈ L.flatMap fun x => ndl D e f x.1 x.2 := fun f L => by
    induction L with
    | nil => intro t h; cases h
    | cons c L ihL =>
      intro t
      rw [al_s, List.flatMap_cons]
      by_cases h1 : (mt D (tA e) (tV e) (fun s => s) f c.1 c.2 t).1 = 1
      · rw [if_pos h1]; exact fun a b => List.mem_append_right _ (ihL _ a b)
      · rw [if_neg h1]; exact fun a b => List.mem_append_left _ (mt_ndl f _ _ _ a b)
  unfold tmc mca at h2 h5 ⊢
  unfold ndc
  exact key 40 (cols D c) (s, fun _ => -1) h2 h5
theorem allp_tq {D : ZD} {e : PT} (hM : MI D) (hP : PI D e) {q : Int} (h : q ∈ allp D e) : fa e q = -1 ∧ ∃ d' k', d' ≤ 3 ∧ tq D e d' q k' := by
  unfold allp at h
  obtain ⟨c, hc, hq⟩ := List.mem_flatMap.mp h
  by_cases he : elig D e c = true
  · rw [if_pos he] at hq; exact ndc_tq hM hP (csl_mem hc) hq
  · rw [if_neg he] at hq; cases hq
/-- what a node asks fits what is known -/
def LO (D : ZD) (e : PT) (l : Int × Int × Int × Int) : Prop :=
  (l = (2, 0, 0, 0)) ∨
  (∃ c, l = (0, c, 0, 0) ∧ (0 ≤ c ∧ c < D 23 0) ∧ D 26 c = -1 ∧ (pca D (fa e) (fv e) c).1 = 1) ∨
  (∃ c, l = (3, c, 0, 2) ∧ (0 ≤ c ∧ c < D 23 0) ∧ D 26 c ≠ -1 ∧ ff e c = false ∧ (pca D (fa e) (fv e) c).1 = 1) ∨
  (∃ v p, l = (4, v, p, D 20 (4 * v + 3)) ∧ (0 ≤ v ∧ v ≤ 2) ∧ fv e v p = -1 ∧ ∃ d k, d ≤ 3 ∧ tq D e d p k) ∨
  (∃ k p, l = (5, k, p, ways D k) ∧ fa e p = -1 ∧ ∃ d, d ≤ 3 ∧ tq D e d p k)
theorem lab_ok {D : ZD} {e : PT} (hM : MI D) (hP : PI D e) (eng : Int) : LO D e (lab D eng e) := by
  unfold lab
  cases h : scan D e (csl D) with
  | none => exact Or.inl rfl
  | some x =>
    obtain ⟨c, r, s⟩ := x
    obtain ⟨h1, h2, h3, h4, h5⟩ := scan_ok _ _ _ _ h
    have hc := csl_mem h1
    have ha := tmc_ask hM hP hc (0, 0, 0)
    dsimp only
    by_cases hr : r = 1
    · rw [if_pos hr]
      have hp : (pca D (fa e) (fv e) c).1 = 1 := by rw [← (tmc_eq (s := (0, 0, 0))).1, h4, hr]
      by_cases h26 : D 26 c = -1
      · rw [if_pos h26]; exact Or.inr (Or.inl ⟨c, rfl, hc, h26, hp⟩)
      · rw [if_neg h26]; exact Or.inr (Or.inr (Or.inl ⟨c, rfl, hc, h26, h2, hp⟩))
    · rw [if_neg hr]
      have h22 : (tmc D e c (0, 0, 0)).1 = 2 := by
        rcases ha.1 with z | z | z
        · omega
        · omega
        · exact z
      have hA := ha.2 h22
      rw [h5] at hA
      by_cases h44 : s.1 = 4
      · rw [if_pos h44]
        rcases hA with z | z
        · omega
        · exact Or.inr (Or.inr (Or.inr (Or.inl ⟨_, _, rfl, z.2.1, z.2.2.1, z.2.2.2⟩)))
      · rw [if_neg h44]
        have h55 : s.1 = 5 ∧ fa e s.2.2 = -1 ∧ ∃ d, d ≤ 3 ∧ tq D e d s.2.2 s.2.1 := by
          rcases hA with z | z
          · exact z
          · exact absurd z.1 h44
        by_cases he : eng = 3
        · rw [if_pos he]
          have hne : allp D e ≠ [] := fun z => by
            have hm : s.2.2 ∈ allp D e := by
              unfold allp
              refine List.mem_flatMap.mpr ⟨c, h1, ?_⟩
              have hel : elig D e c = true := by unfold elig; rw [h2, decide_eq_true (by omega)]; rfl
              rw [if_pos hel, ← h5]
              exact tmc_ndc h22 (by rw [h5]; exact h55.1)
            rw [z] at hm; cases hm
          have hb := allp_tq hM hP (q := best D e) (argb_mem _ hne)
          obtain ⟨g1, d, k, hd, ht⟩ := hb
          exact Or.inr (Or.inr (Or.inr (Or.inr ⟨_, _, rfl, g1, d, hd, ht.1, rfl⟩)))
        · rw [if_neg he]
          obtain ⟨g0, g1, d, hd, ht⟩ := h55
          exact Or.inr (Or.inr (Or.inr (Or.inr ⟨_, _, rfl, g1, d, hd, ht.1, rfl⟩)))
/-- a node of the tree -/
def isN (D : ZD) (eng : Int) : PT → Prop
  | [] => True
  | st :: e => isN D eng e ∧ (nl D eng e).1 = st.1 ∧ (nl D eng e).2.1 = st.2.1 ∧ (nl D eng e).2.2.1 = st.2.2.1 ∧ 0 ≤ st.2.2.2 ∧ st.2.2.2 < (nl D eng e).2.2.2
/-- what is known of views -/
def PV (D : ZD) (e : PT) : Prop := ∀ v p, fv e v p ≠ -1 → (0 ≤ v ∧ v ≤ 2) ∧ (0 ≤ fv e v p ∧ fv e v p ≤ 9) ∧ ∃ d, d ≤ 3 ∧ vp D e d p
theorem nl_inner {D : ZD} {eng : Int} {e : PT} (h : 0 < (nl D eng e).2.2.2) : nl D eng e = lab D eng e := by
  match e with
  | [] => rfl
  | st :: e =>
    have en : nl D eng (st :: e) = if st.1 = 3 ∧ st.2.2.2 = 0 then (0, st.2.1, 0, 0) else if st.1 = 3 ∧ D 26 st.2.1 = 3 then (1, st.2.1, 0, 0) else lab D eng (st :: e) := rfl
    rw [en] at h ⊢
    by_cases h1 : st.1 = 3 ∧ st.2.2.2 = 0
    · rw [if_pos h1] at h; exact absurd h (by show ¬ (0 : Int) < 0; omega)
    · rw [if_neg h1] at h ⊢
      by_cases h2 : st.1 = 3 ∧ D 26 st.2.1 = 3
      · rw [if_pos h2] at h; exact absurd h (by show ¬ (0 : Int) < 0; omega)
      · rw [if_neg h2]
theorem isN_P {D : ZD} {eng : Int} (hM : MI D) : ∀ (e : PT), isN D eng e → PI D e ∧ PV D e
  | [], _ => ⟨fun p h => absurd rfl h, fun v p h => absurd rfl h⟩
  | st :: e, h => by
    obtain ⟨hN, h1, h2, h3, h4, h5⟩ := h
    obtain ⟨hP, hV⟩ := isN_P hM e hN
    have g := Gr.cons st e
    rw [nl_inner (by omega)] at h1 h2 h3 h5
    have hl := lab_ok hM hP eng
    generalize lab D eng e = l at h1 h2 h3 h5 hl
    have old : ∀ {d p}, d ≤ 3 → vp D e d p → vp D (st :: e) d p ∧ kd D (st :: e) 8 p = kd D e 8 p := fun hd hv => by
      have := vp_gr hM hP g _ _ (by omega) hv
      exact ⟨this.1, this.2 8 (by omega)⟩
    refine ⟨fun p hp => ?_, fun v p hp => ?_⟩
    · by_cases hf : fa e p = -1
      · rw [fa_s, if_pos hf] at hp ⊢
        by_cases hs : st.1 = 5 ∧ st.2.2.1 = p
        · rw [if_pos hs] at hp ⊢
          rcases hl with rfl | ⟨c, rfl, _⟩ | ⟨c, rfl, _⟩ | ⟨v, q, rfl, _⟩ | ⟨k, q, rfl, _, d, hd, ht⟩
          · dsimp only at h1; omega
          · dsimp only at h1; omega
          · dsimp only at h1; omega
          · dsimp only at h1; omega
          · dsimp only at h3 h5
            have ho := old hd ht.1
            rw [← hs.2, ← h3]
            refine ⟨d, hd, ho.1, h4, ?_⟩
            rw [ho.2, ht.2]; exact h5
        · rw [if_neg hs] at hp; exact absurd rfl hp
      · obtain ⟨d, hd, hv, g1, g2⟩ := hP p hf
        have ho := old hd hv
        refine ⟨d, hd, ho.1, ?_⟩
        rw [fa_s, if_neg hf, ho.2]; exact ⟨g1, g2⟩
    · by_cases hf : fv e v p = -1
      · rw [fv_s, if_pos hf] at hp ⊢
        by_cases hs : st.1 = 4 ∧ st.2.1 = v ∧ st.2.2.1 = p
        · rw [if_pos hs] at hp ⊢
          rcases hl with rfl | ⟨c, rfl, _⟩ | ⟨c, rfl, _⟩ | ⟨w, q, rfl, hw, _, d, k, hd, ht⟩ | ⟨k, q, rfl, _⟩
          · dsimp only at h1; omega
          · dsimp only at h1; omega
          · dsimp only at h1; omega
          · dsimp only at h2 h3 h5
            have ho := old hd ht.1
            have hwm := hM.2.2.2.1 w hw.1 (by omega)
            rw [← hs.2.2, ← h3, ← hs.2.1, ← h2]
            exact ⟨hw, ⟨h4, by omega⟩, d, hd, ho.1⟩
          · dsimp only at h1; omega
        · rw [if_neg hs] at hp; exact absurd rfl hp
      · obtain ⟨a, b, d, hd, hv⟩ := hV v p hf
        rw [fv_s, if_neg hf]
        exact ⟨a, b, d, hd, (old hd hv).1⟩
