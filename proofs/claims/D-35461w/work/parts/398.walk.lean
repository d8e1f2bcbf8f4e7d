/-! TREES: a run down a tree, in plain terms -/
set_option maxRecDepth 100000
theorem vp_tp {D : ZD} {g : Int → Int} {e : PT} (hM : MI D) (hg : GV D g) (hP : PI D e) (hf : ∀ p, fa e p ≠ -1 → hd D g p = fa e p) : ∀ (d : Nat) (p : Int), d ≤ 7 → vp D e d p → tp D g d p (kd D e 8 p) := by
  intro d
  induction d with
  | zero =>
    intro p _ h
    have m21 : D 21 0 ≤ 3 := hM.2.2.2.2.1.2.1
    obtain ⟨h1, h2⟩ := h
    exact ⟨h1, h2, by rw [kd_s, if_pos (by omega)]⟩
  | succ d ih =>
    intro p hd7 h
    have hr := vp_r hM hP (d + 1) p hd7 h
    have p1 := pl_p _ hr.1
    obtain ⟨hq, h1, h2, h3, h4⟩ := h
    have tq0 := ih _ (by omega) hq
    have rq := vp_r hM hP d _ (by omega) hq
    have q1 := pl_p _ rq.1
    have ht := (tp_vl hM hg d _ _ (by omega) tq0).1
    have hv : 0 ≤ vl D g 8 ((p - 1) / 5) ∧ D 5 (vl D g 8 ((p - 1) / 5)) = kd D e 8 ((p - 1) / 5) := by
      rcases ht with ⟨z, _, _⟩ | z
      · exact absurd z h2
      · exact ⟨z.1, z.2.2⟩
    have hh : D 6 (vl D g 8 ((p - 1) / 5)) = fa e ((p - 1) / 5) := by
      rw [← hf _ h1]; unfold hd; rw [if_neg (by omega)]
    refine ⟨(p - 1) / 5, (p - 1) % 5, kd D e 8 ((p - 1) / 5), by omega, by omega, ?_, tq0, h2, ?_⟩
    · unfold vn
      rw [hv.2, hh, if_neg h2]
      by_cases h5 : kd D e 8 ((p - 1) / 5) = 5
      · rw [if_pos h5]; exact h3 h5
      · rw [if_neg h5]; exact h4 (by omega)
    · rw [kd_s, if_neg (by omega), rq.2.2 7 (by omega), hh]
/-- the steps of a run down a tree -/
def wk (D : ZD) (eng : Int) (g : Int → Int) : Nat → PT → RS → PT × RS
  | 0, e, s => (e, s)
  | f + 1, e, s =>
    if (nl D eng e).1 = 5 then wk D eng g f ((5, (nl D eng e).2.1, (nl D eng e).2.2.1, hd D g (nl D eng e).2.2.1) :: e) (tick true s)
    else if (nl D eng e).1 = 4 then wk D eng g f ((4, (nl D eng e).2.1, (nl D eng e).2.2.1, (rV D g (nl D eng e).2.1 (nl D eng e).2.2.1 s).1) :: e) (tick true (rV D g (nl D eng e).2.1 (nl D eng e).2.2.1 s).2)
    else if (nl D eng e).1 = 3 then wk D eng g f ((3, (nl D eng e).2.1, (nl D eng e).2.2.1, if gd D g (pca D (hd D g) (fn s.2) (nl D eng e).2.1).2.2 (nl D eng e).2.1 = 0 then 0 else 1) :: e) s
    else (e, s)
theorem wk_s (D : ZD) (eng : Int) (g : Int → Int) (f : Nat) (e : PT) (s : RS) : wk D eng g (f + 1) e s =
    if (nl D eng e).1 = 5 then wk D eng g f ((5, (nl D eng e).2.1, (nl D eng e).2.2.1, hd D g (nl D eng e).2.2.1) :: e) (tick true s)
    else if (nl D eng e).1 = 4 then wk D eng g f ((4, (nl D eng e).2.1, (nl D eng e).2.2.1, (rV D g (nl D eng e).2.1 (nl D eng e).2.2.1 s).1) :: e) (tick true (rV D g (nl D eng e).2.1 (nl D eng e).2.2.1 s).2)
    else if (nl D eng e).1 = 3 then wk D eng g f ((3, (nl D eng e).2.1, (nl D eng e).2.2.1, if gd D g (pca D (hd D g) (fn s.2) (nl D eng e).2.1).2.2 (nl D eng e).2.1 = 0 then 0 else 1) :: e) s
    else (e, s) := rfl
/-- where a run down a tree stands -/
def WI (D : ZD) (eng : Int) (g : Int → Int) (e : PT) (s : RS) : Prop := isN D eng e ∧ (∀ p, fa e p ≠ -1 → hd D g p = fa e p) ∧ (∀ v p, fn s.2 v p = fv e v p) ∧ RI s ∧ inR s.1 ∧
  ∀ st t, e = st :: t → st.1 = 3 → (pca D (hd D g) (fn s.2) st.2.1).1 = 1 ∧ st.2.2.2 = if gd D g (pca D (hd D g) (fn s.2) st.2.1).2.2 st.2.1 = 0 then 0 else 1
theorem WI.start {D : ZD} {eng : Int} {g : Int → Int} {s : RS} (h : s.2 = []) (h2 : inR s.1) : WI D eng g [] s := ⟨trivial, fun p h => absurd rfl h, fun v p => by rw [h]; rfl, by unfold RI; rw [h]; exact ⟨List.nodup_nil, fun x hx => by cases hx⟩, h2, fun st t h => by cases h⟩
theorem nl_lab {D : ZD} {eng : Int} : ∀ {e : PT}, 2 ≤ (nl D eng e).1 → nl D eng e = lab D eng e
  | [], _ => rfl
  | st :: e, h => by
    have en : nl D eng (st :: e) = if st.1 = 3 ∧ st.2.2.2 = 0 then (0, st.2.1, 0, 0) else if st.1 = 3 ∧ D 26 st.2.1 = 3 then (1, st.2.1, 0, 0) else lab D eng (st :: e) := rfl
    by_cases h1 : st.1 = 3 ∧ st.2.2.2 = 0
    · rw [en, if_pos h1] at h; dsimp only at h; omega
    · by_cases h2 : st.1 = 3 ∧ D 26 st.2.1 = 3
      · rw [en, if_neg h1, if_pos h2] at h; dsimp only at h; omega
      · rw [en, if_neg h1, if_neg h2]
theorem nl_LO {D : ZD} {eng : Int} {e : PT} (hM : MI D) (hN : isN D eng e) (h : 2 ≤ (nl D eng e).1) : LO D e (nl D eng e) := by
  rw [nl_lab h]; exact lab_ok hM (isN_P hM e hN).1 eng
theorem tick_in (b : Bool) {s : RS} (h : inR s.1) : inR (tick b s).1 := by
  unfold tick
  cases b with
  | false => exact h
  | true => exact w32_inR _
theorem rV_1 {D : ZD} {g : Int → Int} {v p : Int} {s : RS} : (rV D g v p s).2.1 = s.1 := by
  unfold rV
  cases fnd s.2 v p <;> rfl
theorem wi_s5 {D : ZD} {eng : Int} {g : Int → Int} {e : PT} {s : RS} (hM : MI D) (hg : GV D g) (h : WI D eng g e s) (h5 : (nl D eng e).1 = 5) :
    (∃ d k, d ≤ 3 ∧ tp D g d (nl D eng e).2.2.1 k) ∧ 0 ≤ hd D g (nl D eng e).2.2.1 ∧ hd D g (nl D eng e).2.2.1 < (nl D eng e).2.2.2 ∧ WI D eng g ((5, (nl D eng e).2.1, (nl D eng e).2.2.1, hd D g (nl D eng e).2.2.1) :: e) (tick true s) := by
  obtain ⟨hN, hA, hV, hR, hI, hG⟩ := h
  have hPI := (isN_P hM e hN).1
  have hl : ∃ k q, nl D eng e = (5, k, q, ways D k) ∧ fa e q = -1 ∧ ∃ d, d ≤ 3 ∧ tq D e d q k := by
    have hLO := nl_LO hM hN (by omega)
    rcases hLO with z | ⟨c, z, _⟩ | ⟨c, z, _⟩ | ⟨v, q, z, _⟩ | ⟨k, q, z, hf, hd⟩
    · rw [z] at h5; dsimp only at h5; omega
    · rw [z] at h5; dsimp only at h5; omega
    · rw [z] at h5; dsimp only at h5; omega
    · rw [z] at h5; dsimp only at h5; omega
    · exact ⟨k, q, z, hf, hd⟩
  obtain ⟨k, q, hl, hfq, d, hd3, ht⟩ := hl
  have htp := vp_tp hM hg hPI hA d q (by omega) ht.1
  rw [ht.2] at htp
  have hr := hd_r hM hg (by omega) htp
  have htf := tq_f hM hPI (by omega) ht
  have hw : hd D g q < ways D k := by
    by_cases h4 : k = 4
    · rw [h4, ways_4]; omega
    · by_cases h55 : k = 5
      · rw [h55, ways_5]; have := hr.2.2.2.2.2 h55; omega
      · rw [ways_t (by omega)]; exact hr.2.2.2.2.1 (by omega)
  have e1 : (nl D eng e).2.1 = k := by rw [hl]
  have e2 : (nl D eng e).2.2.1 = q := by rw [hl]
  have e3 : (nl D eng e).2.2.2 = ways D k := by rw [hl]
  rw [e1, e2, e3]
  refine ⟨⟨d, k, hd3, htp⟩, hr.1, hw, ⟨hN, h5, e1, e2, hr.1, by rw [e3]; exact hw⟩, fun p hp => ?_, fun v p => ?_, ?_, tick_in true hI, fun st t h h3 => ?_⟩
  · rw [fa_s] at hp ⊢
    by_cases hf : fa e p = -1
    · rw [if_pos hf] at hp ⊢
      dsimp only at hp ⊢
      by_cases hq : q = p
      · rw [if_pos ⟨rfl, hq⟩, hq]
      · rw [if_neg (fun z => hq z.2)] at hp; exact absurd rfl hp
    · rw [if_neg hf]; exact hA p hf
  · have ev : fv ((5, k, q, hd D g q) :: e) v p = fv e v p := by
      rw [fv_s]
      by_cases hf : fv e v p = -1
      · rw [if_pos hf, if_neg (fun z => by have := z.1; dsimp only at this; omega), hf]
      · rw [if_neg hf]
    rw [ev, tick_2]; exact hV v p
  · unfold RI; rw [tick_2]; exact hR
  · injection h with h _
    subst h
    dsimp only at h3; omega
theorem fn_app {L : List (Int × Int × Int)} {v p x v' p' : Int} (h : fnd L v p = none) : fn (L ++ [(v, p, x)]) v' p' = if v = v' ∧ p = p' then x else fn L v' p' := by
  unfold fn
  by_cases e : v = v' ∧ p = p'
  · obtain ⟨rfl, rfl⟩ := e
    rw [if_pos ⟨rfl, rfl⟩]
    unfold fnd at h ⊢
    rw [Option.map_eq_none_iff] at h
    rw [List.find?_append, h, Option.none_or, List.find?_cons_of_pos (by simp)]; rfl
  · rw [if_neg e]
    unfold fnd
    rw [List.find?_append, List.find?_cons_of_neg (by simp; exact fun a b => e ⟨a, b⟩), List.find?_nil, Option.or_none]
theorem wi_s4 {D : ZD} {eng : Int} {g : Int → Int} {e : PT} {s : RS} (hM : MI D) (hg : GV D g) (h : WI D eng g e s) (h4 : (nl D eng e).1 = 4) :
    (0 ≤ (nl D eng e).2.1 ∧ (nl D eng e).2.1 ≤ 2) ∧ (∃ d k, d ≤ 3 ∧ tp D g d (nl D eng e).2.2.1 k) ∧ 0 ≤ (rV D g (nl D eng e).2.1 (nl D eng e).2.2.1 s).1 ∧ (rV D g (nl D eng e).2.1 (nl D eng e).2.2.1 s).1 < (nl D eng e).2.2.2 ∧
    WI D eng g ((4, (nl D eng e).2.1, (nl D eng e).2.2.1, (rV D g (nl D eng e).2.1 (nl D eng e).2.2.1 s).1) :: e) (tick true (rV D g (nl D eng e).2.1 (nl D eng e).2.2.1 s).2) := by
  obtain ⟨hN, hA, hV, hR, hI, hG⟩ := h
  have hPI := (isN_P hM e hN).1
  have hl : ∃ v q, nl D eng e = (4, v, q, D 20 (4 * v + 3)) ∧ (0 ≤ v ∧ v ≤ 2) ∧ fv e v q = -1 ∧ ∃ d k, d ≤ 3 ∧ tq D e d q k := by
    have hLO := nl_LO hM hN (by omega)
    rcases hLO with z | ⟨c, z, _⟩ | ⟨c, z, _⟩ | ⟨v, q, z, hv, hf, hd⟩ | ⟨k, q, z, hf, hd⟩
    · rw [z] at h4; dsimp only at h4; omega
    · rw [z] at h4; dsimp only at h4; omega
    · rw [z] at h4; dsimp only at h4; omega
    · exact ⟨v, q, z, hv, hf, hd⟩
    · rw [z] at h4; dsimp only at h4; omega
  obtain ⟨v, q, hl, hv, hfv, d, k, hd3, ht⟩ := hl
  have htp := vp_tp hM hg hPI hA d q (by omega) ht.1
  rw [ht.2] at htp
  have hap := pl_apl hd3 (tq_f hM hPI (by omega) ht).1
  have hmod := hM.2.2.2.1 v hv.1 (by omega)
  have hnone : fnd s.2 v q = none := by
    cases hf : fnd s.2 v q with
    | none => rfl
    | some x =>
      have h1 := hV v q
      unfold fn at h1
      rw [hf, hfv] at h1
      have h1 : x = -1 := h1
      unfold fnd at hf
      rw [Option.map_eq_some_iff] at hf
      obtain ⟨y, hy, rfl⟩ := hf
      have := (hR.2 y (List.mem_of_find?_eq_some hy)).2.2
      omega
  have e1 : (nl D eng e).2.1 = v := by rw [hl]
  have e2 : (nl D eng e).2.2.1 = q := by rw [hl]
  have e3 : (nl D eng e).2.2.2 = D 20 (4 * v + 3) := by rw [hl]
  have hrv : rV D g v q s = (gv D g v q s.2.length, (s.1, s.2 ++ [(v, q, gv D g v q s.2.length)])) := by unfold rV; rw [hnone]
  have hRI := rV_RI (D := D) (g := g) hM hR hv hap
  rw [e1, e2, e3]
  have hlt : (rV D g v q s).1 < D 20 (4 * v + 3) := by
    rw [hrv]
    exact Int.emod_lt_of_pos _ (by omega)
  refine ⟨hv, ⟨d, k, hd3, htp⟩, hRI.2.1, hlt, ⟨hN, h4, e1, e2, hRI.2.1, by rw [e3]; exact hlt⟩, fun p hp => ?_, fun v' p => ?_, ?_, tick_in true (by rw [rV_1]; exact hI), fun st t h h3 => ?_⟩
  · have ev : fa ((4, v, q, (rV D g v q s).1) :: e) p = fa e p := by
      rw [fa_s]
      by_cases hf : fa e p = -1
      · rw [if_pos hf, if_neg (fun z => by have := z.1; dsimp only at this; omega), hf]
      · rw [if_neg hf]
    rw [ev] at hp ⊢
    exact hA p hp
  · rw [tick_2, hrv]
    dsimp only
    rw [fn_app hnone, fv_s, hV v' p]
    dsimp only
    by_cases hvp : v = v' ∧ q = p
    · obtain ⟨rfl, rfl⟩ := hvp
      rw [if_pos ⟨rfl, rfl⟩, if_pos hfv, if_pos ⟨rfl, rfl, rfl⟩]
    · rw [if_neg hvp]
      by_cases hf : fv e v' p = -1
      · rw [if_pos hf, if_neg (fun z => hvp z.2), hf]
      · rw [if_neg hf]
  · unfold RI; rw [tick_2]; exact hRI.1
  · injection h with h _
    subst h
    dsimp only at h3; omega
theorem wi_g {D : ZD} {eng : Int} {g : Int → Int} {e : PT} {s : RS} (h : WI D eng g e s) {c : Int} (hp : (pca D (fa e) (fv e) c).1 = 1) : (pca D (hd D g) (fn s.2) c).1 = 1 := by
  obtain ⟨hN, hA, hV, -⟩ := h
  have := mono_pca (D := D) (a := fa e) (a' := hd D g) (w := fv e) (w' := fn s.2) (c := c) hA (fun v p _ => hV v p) (by omega)
  rw [this.1]; exact hp
theorem wi_s3 {D : ZD} {eng : Int} {g : Int → Int} {e : PT} {s : RS} (hM : MI D) (h : WI D eng g e s) (h3 : (nl D eng e).1 = 3) :
    (0 ≤ (nl D eng e).2.1 ∧ (nl D eng e).2.1 < D 23 0) ∧ D 26 (nl D eng e).2.1 ≠ -1 ∧ (nl D eng e).2.2.1 = 0 ∧ (nl D eng e).2.2.2 = 2 ∧ (pca D (hd D g) (fn s.2) (nl D eng e).2.1).1 = 1 ∧
    WI D eng g ((3, (nl D eng e).2.1, (nl D eng e).2.2.1, if gd D g (pca D (hd D g) (fn s.2) (nl D eng e).2.1).2.2 (nl D eng e).2.1 = 0 then 0 else 1) :: e) s := by
  have hw := h
  obtain ⟨hN, hA, hV, hR, hI, hG⟩ := h
  have hl : ∃ c, nl D eng e = (3, c, 0, 2) ∧ (0 ≤ c ∧ c < D 23 0) ∧ D 26 c ≠ -1 ∧ ff e c = false ∧ (pca D (fa e) (fv e) c).1 = 1 := by
    have hLO := nl_LO hM hN (by omega)
    rcases hLO with z | ⟨c, z, _⟩ | ⟨c, z, hc⟩ | ⟨v, q, z, hv, hf, hd⟩ | ⟨k, q, z, hf, hd⟩
    · rw [z] at h3; dsimp only at h3; omega
    · rw [z] at h3; dsimp only at h3; omega
    · exact ⟨c, z, hc⟩
    · rw [z] at h3; dsimp only at h3; omega
    · rw [z] at h3; dsimp only at h3; omega
  obtain ⟨c, hl, hc, h26, hff, hp⟩ := hl
  have hp2 := wi_g hw hp
  have e1 : (nl D eng e).2.1 = c := by rw [hl]
  have e2 : (nl D eng e).2.2.1 = 0 := by rw [hl]
  have e3 : (nl D eng e).2.2.2 = 2 := by rw [hl]
  rw [e1, e2, e3]
  have h01 : 0 ≤ (if gd D g (pca D (hd D g) (fn s.2) c).2.2 c = 0 then (0 : Int) else 1) ∧ (if gd D g (pca D (hd D g) (fn s.2) c).2.2 c = 0 then (0 : Int) else 1) < 2 := by split <;> omega
  refine ⟨hc, h26, rfl, rfl, hp2, ⟨hN, h3, e1, e2, h01.1, by rw [e3]; exact h01.2⟩, fun p hp => ?_, fun v p => ?_, hR, hI, fun st t h h3 => ?_⟩
  · rw [fa_s] at hp ⊢
    by_cases hf : fa e p = -1
    · rw [if_pos hf, if_neg (fun z => by have := z.1; dsimp only at this; omega)] at hp; exact absurd rfl hp
    · rw [if_neg hf]; exact hA p hf
  · rw [fv_s, hV v p]
    by_cases hf : fv e v p = -1
    · rw [if_pos hf, if_neg (fun z => by have := z.1; dsimp only at this; omega), hf]
    · rw [if_neg hf]
  · injection h with h _
    subst h
    exact ⟨hp2, rfl⟩
/-- where a run down a tree ends -/
theorem wi_end {D : ZD} {eng : Int} {g : Int → Int} {e : PT} {s : RS} (hM : MI D) (h : WI D eng g e s) (h5 : (nl D eng e).1 ≠ 5) (h4 : (nl D eng e).1 ≠ 4) (h3 : (nl D eng e).1 ≠ 3) :
    (nl D eng e).1 = 2 ∨ (((nl D eng e).1 = 0 ∨ (nl D eng e).1 = 1) ∧ (0 ≤ (nl D eng e).2.1 ∧ (nl D eng e).2.1 < D 23 0) ∧ (pca D (hd D g) (fn s.2) (nl D eng e).2.1).1 = 1 ∧ (gd D g (pca D (hd D g) (fn s.2) (nl D eng e).2.1).2.2 (nl D eng e).2.1 = 2 ↔ (nl D eng e).1 = 1)) := by
  have hw := h
  obtain ⟨hN, hA, hV, hR, hI, hG⟩ := h
  have hlab : nl D eng e = lab D eng e → (nl D eng e).1 = 2 ∨ (((nl D eng e).1 = 0 ∨ (nl D eng e).1 = 1) ∧ (0 ≤ (nl D eng e).2.1 ∧ (nl D eng e).2.1 < D 23 0) ∧ (pca D (hd D g) (fn s.2) (nl D eng e).2.1).1 = 1 ∧ (gd D g (pca D (hd D g) (fn s.2) (nl D eng e).2.1).2.2 (nl D eng e).2.1 = 2 ↔ (nl D eng e).1 = 1)) := fun hl => by
    have hLO := lab_ok hM (isN_P hM e hN).1 eng
    rw [hl] at h5 h4 h3 ⊢
    rcases hLO with z | ⟨c, z, hc, h26, hp⟩ | ⟨c, z, hc⟩ | ⟨v, q, z, hv, hf, hd⟩ | ⟨k, q, z, hf, hd⟩
    · rw [z]; exact Or.inl rfl
    · rw [z]
      refine Or.inr ⟨Or.inl rfl, hc, wi_g hw hp, fun y => ?_, fun y => by cases y⟩
      unfold gd at y
      rw [if_pos h26] at y
      cases y
    · rw [z] at h3; exact absurd rfl h3
    · rw [z] at h4; exact absurd rfl h4
    · rw [z] at h5; exact absurd rfl h5
  match e, hN, hG, hlab with
  | [], _, _, hlab => exact hlab rfl
  | st :: e, hN, hG, hlab =>
    have en : nl D eng (st :: e) = if st.1 = 3 ∧ st.2.2.2 = 0 then (0, st.2.1, 0, 0) else if st.1 = 3 ∧ D 26 st.2.1 = 3 then (1, st.2.1, 0, 0) else lab D eng (st :: e) := rfl
    have hc3 : st.1 = 3 → 0 ≤ st.2.1 ∧ st.2.1 < D 23 0 := fun h33 => by
      obtain ⟨hN1, n1, n2, n3, n4, n5⟩ := hN
      have hLO := nl_LO hM hN1 (by omega)
      rcases hLO with z | ⟨c, z, _⟩ | ⟨c, z, hc, _⟩ | ⟨v, q, z, hv, hf, hd⟩ | ⟨k, q, z, hf, hd⟩
      · rw [z] at n1; dsimp only at n1; omega
      · rw [z] at n1; dsimp only at n1; omega
      · rw [z] at n2; dsimp only at n2; rw [← n2]; exact hc
      · rw [z] at n1; dsimp only at n1; omega
      · rw [z] at n1; dsimp only at n1; omega
    by_cases h1 : st.1 = 3 ∧ st.2.2.2 = 0
    · obtain ⟨hp, hv⟩ := hG st e rfl h1.1
      rw [en, if_pos h1]
      refine Or.inr ⟨Or.inl rfl, hc3 h1.1, hp, fun y => ?_, fun y => by cases y⟩
      have y : gd D g (pca D (hd D g) (fn s.2) st.2.1).2.2 st.2.1 = 2 := y
      rw [h1.2, y] at hv
      cases hv
    · by_cases h2 : st.1 = 3 ∧ D 26 st.2.1 = 3
      · obtain ⟨hp, hv⟩ := hG st e rfl h2.1
        rw [en, if_neg h1, if_pos h2]
        refine Or.inr ⟨Or.inr rfl, hc3 h2.1, hp, fun _ => rfl, fun _ => ?_⟩
        show gd D g (pca D (hd D g) (fn s.2) st.2.1).2.2 st.2.1 = 2
        have hn : gd D g (pca D (hd D g) (fn s.2) st.2.1).2.2 st.2.1 ≠ 0 := fun z => by
          rw [z, if_pos rfl] at hv
          exact h1 ⟨h2.1, hv⟩
        unfold gd at hn ⊢
        rw [if_neg (by omega), if_neg (by omega), if_neg (by omega), if_neg (by omega)] at hn ⊢
        split
        · rfl
        · rename_i z; rw [if_neg z] at hn; exact absurd rfl hn
      · exact hlab (by rw [en, if_neg h1, if_neg h2])
