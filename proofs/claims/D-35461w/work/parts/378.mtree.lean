/-! REFERENCE: what is known at a node; cases tried by it -/
set_option maxRecDepth 100000
/-- the node i is the one that the way e leads to -/
def Nd (K : ZG) : PT → Int → Prop
  | [], i => i = 0
  | st :: e, i => 0 < i ∧ i < 512 ∧ 0 ≤ zsg K 5 57 i ∧ zsg K 5 57 i < i ∧ Nd K e (zsg K 5 57 i) ∧ st = (zsg K 5 58 (zsg K 5 57 i), zsg K 5 59 (zsg K 5 57 i), zsg K 5 60 (zsg K 5 57 i), i - zsg K 5 61 (zsg K 5 57 i))
theorem Nd.of {K K' : ZG} (h : ∀ j, 57 ≤ j → j ≤ 61 → zsg K' 5 j = zsg K 5 j) : ∀ {e : PT} {i : Int}, Nd K e i → Nd K' e i
  | [], i, hn => hn
  | st :: e, i, hn => by
    obtain ⟨h1, h2, h3, h4, h5, h6⟩ := hn
    unfold Nd
    rw [h 57 (by omega) (by omega), h 58 (by omega) (by omega), h 59 (by omega) (by omega), h 60 (by omega) (by omega), h 61 (by omega) (by omega)]
    exact ⟨h1, h2, h3, h4, Nd.of h h5, h6⟩
theorem Nd.r {K : ZG} {e : PT} {i : Int} (h : Nd K e i) : 0 ≤ i ∧ i < 512 := by
  match e with
  | [] => have h : i = 0 := h; omega
  | st :: e => have := h.1; have := h.2.1; omega
theorem nl_m {D : ZD} {eng : Int} {e : PT} (hM : MI D) (hP : PI D e) : (nl D eng e).2.2.2 ≤ 10 := by
  by_cases h0 : 0 < (nl D eng e).2.2.2
  · rw [nl_inner h0]
    rcases lab_ok hM hP eng with h | ⟨c, h, _⟩ | ⟨c, h, _⟩ | ⟨v, q, h, hv, _⟩ | ⟨k, q, h, _, d, hd, ht⟩
    · rw [h]; show (0 : Int) ≤ 10; omega
    · rw [h]; show (0 : Int) ≤ 10; omega
    · rw [h]; show (2 : Int) ≤ 10; omega
    · rw [h]
      have := hM.2.2.2.1 v hv.1 (by omega)
      show D 20 (4 * v + 3) ≤ 10
      omega
    · rw [h]
      have := tq_f hM hP (by omega) ht
      exact (ways_le hM this.2.1 this.2.2.1).2
  · omega
theorem isN_v {D : ZD} {eng : Int} (hM : MI D) : ∀ {e : PT}, isN D eng e → ∀ st ∈ e, 0 ≤ st.2.2.2 ∧ st.2.2.2 ≤ 9
  | [], _, st, h => by cases h
  | s :: e, h, st, hs => by
    rcases List.mem_cons.mp hs with rfl | hs
    · have := nl_m (eng := eng) hM (isN_P hM e h.1).1
      have := h.2.2.2.2.2
      exact ⟨h.2.2.2.2.1, by omega⟩
    · exact isN_v hM h.1 st hs
theorem fa_v : ∀ {e : PT}, (∀ st ∈ e, 0 ≤ st.2.2.2 ∧ st.2.2.2 ≤ 9) → ∀ p, -1 ≤ fa e p
  | [], _, p => by show (-1 : Int) ≤ -1; omega
  | st :: e, h, p => by
    have ih := fa_v (e := e) (fun s hs => h s (List.mem_cons_of_mem _ hs)) p
    have := h st List.mem_cons_self
    rw [fa_s]
    split
    · split <;> omega
    · exact ih
theorem fv_v : ∀ {e : PT}, (∀ st ∈ e, 0 ≤ st.2.2.2 ∧ st.2.2.2 ≤ 9) → ∀ v p, -1 ≤ fv e v p
  | [], _, v, p => by show (-1 : Int) ≤ -1; omega
  | st :: e, h, v, p => by
    have ih := fv_v (e := e) (fun s hs => h s (List.mem_cons_of_mem _ hs)) v p
    have := h st List.mem_cons_self
    rw [fv_s]
    split
    · split <;> omega
    · exact ih
theorem w6_factT {K : ZG} {e : PT} {p : Int} {Q : Int → ZG → Prop} (hN : Nd K e (zsg K 5 41 0)) (hv : ∀ st ∈ e, 0 ≤ st.2.2.2 ∧ st.2.2.2 ≤ 9) (h40 : zsg K 5 40 0 = 0) (hp : 0 ≤ p) (hQ : Q (if fa e p = -1 then -9 else fa e p) K) : vX6_factAt p K Q := by
  unfold vX6_factAt
  rw [zbr_pos hp, zgF_e, h40, zbr_pos rfl, zgF_e]
  refine zl2_of (fun (fd a : Int) => ∃ e', Nd K e' a ∧ (∀ st ∈ e', 0 ≤ st.2.2.2 ∧ st.2.2.2 ≤ 9) ∧ (if fa e' p = -1 then fd else fa e' p) = (if fa e p = -1 then -9 else fa e p)) (fun (_ a : Int) => a.toNat) (fun P fd a hI hPP => ?_) ⟨e, hN, hv, rfl⟩
  obtain ⟨e', hN', hv', he⟩ := hI
  match e', hN', hv', he with
  | [], hN', _, he =>
    have hN' : a = 0 := hN'
    refine zbr_i (fun _ => ?_) (fun z => absurd (by omega) z)
    rw [if_pos (show fa [] p = -1 from rfl)] at he
    rw [he]; exact hQ
  | st :: e', hN', hv', he =>
    obtain ⟨h1, h2, h3, h4, h5, h6⟩ := hN'
    have hst := hv' st List.mem_cons_self
    refine zbr_i (fun z => absurd z (by omega)) (fun _ => ?_)
    refine zaL_i (by omega) (by omega) ?_
    refine zaL_i h3 (by omega) ?_
    dsimp only [zjn]
    rw [fa_s] at he
    have ev : st.2.2.2 = a - zsg K 5 61 (zsg K 5 57 a) := by rw [h6]
    have e1 : st.1 = zsg K 5 58 (zsg K 5 57 a) := by rw [h6]
    have e3 : st.2.2.1 = zsg K 5 60 (zsg K 5 57 a) := by rw [h6]
    have fin : ∀ x, x = (if st.1 = 5 ∧ st.2.2.1 = p then st.2.2.2 else fd) → zaL K 5 57 512 a fun (x5 : Int) => P x x5 := fun x hx => by
      refine zaL_i (by omega) (by omega) ?_
      refine hPP _ _ ⟨e', h5, fun s hs => hv' s (List.mem_cons_of_mem _ hs), ?_⟩ (by omega)
      rw [← he]
      by_cases hf : fa e' p = -1
      · rw [if_pos hf, if_pos hf, hx]
        by_cases hs : st.1 = 5 ∧ st.2.2.1 = p
        · rw [if_pos hs, if_pos hs, if_neg (by omega)]
        · rw [if_neg hs, if_neg hs, if_pos rfl]
      · rw [if_neg hf, if_neg hf, if_neg hf]
    refine zbr_i (fun hs => fin _ (by rw [if_neg (fun z => hs (by rw [← e1]; exact z.1))])) (fun hs => ?_)
    refine zaL_i (by omega) (by omega) ?_
    refine zaL_i h3 (by omega) ?_
    refine zbr_i (fun hs2 => fin _ (by rw [if_neg (fun z => hs2 (by rw [← e3]; exact z.2))])) (fun hs2 => ?_)
    refine zaL_i (by omega) (by omega) ?_
    refine zaL_i h3 (by omega) ?_
    refine fin _ ?_
    rw [if_pos ⟨by rw [e1]; exact Decidable.of_not_not hs, by rw [e3]; exact Decidable.of_not_not hs2⟩, ev, w32_eq (by omega) (by omega)]
theorem w6_gaveT {K : ZG} {e : PT} {v p : Int} {Q : Int → ZG → Prop} (hN : Nd K e (zsg K 5 41 0)) (hv : ∀ st ∈ e, 0 ≤ st.2.2.2 ∧ st.2.2.2 ≤ 9) (h40 : zsg K 5 40 0 = 0) (hQ : Q (if fv e v p = -1 then -9 else fv e v p) K) : vX6_gave v p K Q := by
  unfold vX6_gave
  rw [zgF_e, h40, zbr_neg (by omega), zgF_e]
  refine zl2_of (fun (fd a : Int) => ∃ e', Nd K e' a ∧ (∀ st ∈ e', 0 ≤ st.2.2.2 ∧ st.2.2.2 ≤ 9) ∧ (if fv e' v p = -1 then fd else fv e' v p) = (if fv e v p = -1 then -9 else fv e v p)) (fun (_ a : Int) => a.toNat) (fun P fd a hI hPP => ?_) ⟨e, hN, hv, rfl⟩
  obtain ⟨e', hN', hv', he⟩ := hI
  match e', hN', hv', he with
  | [], hN', _, he =>
    have hN' : a = 0 := hN'
    refine zbr_i (fun _ => ?_) (fun z => absurd (by omega) z)
    rw [if_pos (show fv [] v p = -1 from rfl)] at he
    rw [he]; exact hQ
  | st :: e', hN', hv', he =>
    obtain ⟨h1, h2, h3, h4, h5, h6⟩ := hN'
    have hst := hv' st List.mem_cons_self
    refine zbr_i (fun z => absurd z (by omega)) (fun _ => ?_)
    refine zaL_i (by omega) (by omega) ?_
    refine zaL_i h3 (by omega) ?_
    dsimp only [zjn]
    rw [fv_s] at he
    have ev : st.2.2.2 = a - zsg K 5 61 (zsg K 5 57 a) := by rw [h6]
    have e1 : st.1 = zsg K 5 58 (zsg K 5 57 a) := by rw [h6]
    have e2 : st.2.1 = zsg K 5 59 (zsg K 5 57 a) := by rw [h6]
    have e3 : st.2.2.1 = zsg K 5 60 (zsg K 5 57 a) := by rw [h6]
    have fin : ∀ x, x = (if st.1 = 4 ∧ st.2.1 = v ∧ st.2.2.1 = p then st.2.2.2 else fd) → zaL K 5 57 512 a fun (x5 : Int) => P x x5 := fun x hx => by
      refine zaL_i (by omega) (by omega) ?_
      refine hPP _ _ ⟨e', h5, fun s hs => hv' s (List.mem_cons_of_mem _ hs), ?_⟩ (by omega)
      rw [← he]
      by_cases hf : fv e' v p = -1
      · rw [if_pos hf, if_pos hf, hx]
        by_cases hs : st.1 = 4 ∧ st.2.1 = v ∧ st.2.2.1 = p
        · rw [if_pos hs, if_pos hs, if_neg (by omega)]
        · rw [if_neg hs, if_neg hs, if_pos rfl]
      · rw [if_neg hf, if_neg hf, if_neg hf]
    have no : ∀ {c : Prop}, ¬ (st.1 = 4 ∧ st.2.1 = v ∧ st.2.2.1 = p) → zbr ((0 : Int) = 0) (zaL K 5 57 512 a fun (x22 : Int) => P fd x22) c := fun hn => zbr_i (fun _ => fin _ (by rw [if_neg hn])) (fun z => absurd rfl z)
    refine zbr_i (fun hs => no (fun z => hs (by rw [← e1]; exact z.1))) (fun hs => ?_)
    refine zaL_i (by omega) (by omega) ?_
    refine zaL_i h3 (by omega) ?_
    refine zbr_i (fun hs2 => no (fun z => hs2 (by rw [← e2]; exact z.2.1))) (fun hs2 => ?_)
    refine zaL_i (by omega) (by omega) ?_
    refine zaL_i h3 (by omega) ?_
    refine zbr_i (fun hs3 => no (fun z => hs3 (by rw [← e3]; exact z.2.2))) (fun hs3 => ?_)
    rw [zbr_neg (by omega)]
    refine zaL_i (by omega) (by omega) ?_
    refine zaL_i h3 (by omega) ?_
    refine fin _ ?_
    rw [if_pos ⟨by rw [e1]; exact Decidable.of_not_not hs, by rw [e2]; exact Decidable.of_not_not hs2, by rw [e3]; exact Decidable.of_not_not hs3⟩, ev, w32_eq (by omega) (by omega)]
theorem ff_s (st : Int × Int × Int × Int) (e : PT) (c : Int) : ff (st :: e) c = (ff e c || (decide (st.1 = 3) && decide (st.2.1 = c) && decide (0 < st.2.2.2))) := rfl
theorem w6_hasFailed {K : ZG} {e : PT} {c : Int} {Q : Int → Prop} (hN : Nd K e (zsg K 5 41 0)) (hQ : Q (bb (ff e c))) : vX6_hasFailed c K Q := by
  unfold vX6_hasFailed
  rw [zgF_e]
  refine zl2_of (fun (h a : Int) => ∃ e' b, Nd K e' a ∧ h = bb b ∧ (b || ff e' c) = ff e c) (fun (_ a : Int) => a.toNat) (fun P h a hI hPP => ?_) ⟨e, false, hN, rfl, by rw [Bool.false_or]⟩
  obtain ⟨e', b, hN', rfl, he⟩ := hI
  match e', hN', he with
  | [], hN', he =>
    have hN' : a = 0 := hN'
    refine zbr_i (fun _ => ?_) (fun z => absurd (by omega) z)
    have : b = ff e c := by rw [← he]; show b = (b || false); rw [Bool.or_false]
    rw [this]; exact hQ
  | st :: e', hN', he =>
    obtain ⟨h1, h2, h3, h4, h5, h6⟩ := hN'
    refine zbr_i (fun z => absurd z (by omega)) (fun _ => ?_)
    dsimp only [zjn]
    rw [ff_s] at he
    have ev : st.2.2.2 = a - zsg K 5 61 (zsg K 5 57 a) := by rw [h6]
    have e1 : st.1 = zsg K 5 58 (zsg K 5 57 a) := by rw [h6]
    have e2 : st.2.1 = zsg K 5 59 (zsg K 5 57 a) := by rw [h6]
    have fin : ∀ b', (b' || ff e' c) = ff e c → zaL K 5 57 512 a fun (x5 : Int) => P (bb b') x5 := fun b' hb => by
      refine zaL_i (by omega) (by omega) ?_
      exact hPP _ _ ⟨e', b', h5, rfl, hb⟩ (by omega)
    have no : b = false → ¬ (st.1 = 3 ∧ st.2.1 = c ∧ 0 < st.2.2.2) → zaL K 5 57 512 a fun (x5 : Int) => P 0 x5 := fun hb hn => by
      refine fin false ?_
      rw [← he, hb]
      have : (decide (st.1 = 3) && decide (st.2.1 = c) && decide (0 < st.2.2.2)) = false := by
        cases q : (decide (st.1 = 3) && decide (st.2.1 = c) && decide (0 < st.2.2.2)) with
        | false => rfl
        | true =>
          rw [Bool.and_eq_true, Bool.and_eq_true] at q
          exact absurd ⟨of_decide_eq_true q.1.1, of_decide_eq_true q.1.2, of_decide_eq_true q.2⟩ hn
      rw [this, Bool.or_false]
    have yes : (b = true ∨ (st.1 = 3 ∧ st.2.1 = c ∧ 0 < st.2.2.2)) → zaL K 5 57 512 a fun (x5 : Int) => P 1 x5 := fun hb => by
      refine fin true ?_
      rw [← he]
      rcases hb with hb | hb
      · rw [hb]; simp
      · rw [decide_eq_true hb.1, decide_eq_true hb.2.1, decide_eq_true hb.2.2]; simp
    cases hb : b with
    | true => exact zbr_i (fun _ => yes (Or.inl hb)) (fun z => absurd (show bb true ≠ 0 by simp [bb]) z)
    | false =>
      refine zbr_i (fun z => absurd rfl z) (fun _ => ?_)
      refine zaL_i (by omega) (by omega) ?_
      refine zaL_i h3 (by omega) ?_
      refine zbr_i (fun hs => no hb (fun z => hs (by rw [← e1]; exact z.1))) (fun hs => ?_)
      refine zaL_i (by omega) (by omega) ?_
      refine zaL_i h3 (by omega) ?_
      refine zbr_i (fun hs2 => no hb (fun z => hs2 (by rw [← e2]; exact z.2.1))) (fun hs2 => ?_)
      refine zaL_i (by omega) (by omega) ?_
      refine zaL_i h3 (by omega) ?_
      refine zbr_i (fun hs3 => no hb (fun z => by have := z.2.2; omega)) (fun hs3 => ?_)
      exact yes (Or.inr ⟨by rw [e1]; exact Decidable.of_not_not hs, by rw [e2]; exact Decidable.of_not_not hs2, by omega⟩)
/-- the reference at a node -/
def IvT (K0 K : ZG) (_ : TS) : Prop := Mo K0 K ∧ ∀ j, ¬ (32 ≤ j ∧ j ≤ 39) → ¬ (42 ≤ j ∧ j ≤ 45) → zsg K 5 j = zsg K0 5 j
def AsT (K : ZG) (s : TS) : Prop := zsg K 5 42 0 = s.1 ∧ zsg K 5 44 0 = s.2.2 ∧ (s.1 = 4 → zsg K 5 43 0 = s.2.1)
theorem z5_self {K : ZG} {j : Nat} {i v : Int} (h : zsg K 5 j i = v) : zsg (zss K 5 j i v) 5 = zsg K 5 := by
  funext j' i'
  rw [zsg_ss]
  by_cases e : (5 : Nat) = 5 ∧ j' = j ∧ i' = i
  · rw [if_pos e, e.2.1, e.2.2, h]
  · rw [if_neg e]
theorem ME_tree {D : ZD} {e : PT} {K0 : ZG} (hM : MI D) (hP : PI D e) (hV : PV D e) (hv : ∀ st ∈ e, 0 ≤ st.2.2.2 ∧ st.2.2.2 ≤ 9) (hN : Nd K0 e (zsg K0 5 41 0)) (hK : ∀ j, 1 ≤ j → j ≤ 29 → zsg K0 5 j = D j) (h40 : zsg K0 5 40 0 = 0) (h47 : inR (zsg K0 5 47 0)) : ME D (tA e) (tV e) (fun s => s) (IvT K0) AsT (tq D e) false := by
  have dt : ∀ {K s}, IvT K0 K s → ∀ j, 1 ≤ j → j ≤ 29 → zsg K 5 j = D j := fun h j j1 j2 => by rw [h.2 j (by omega) (by omega), hK j j1 j2]
  have d40 : ∀ {K s}, IvT K0 K s → zsg K 5 40 0 = 0 := fun h => by rw [h.2 40 (by omega) (by omega), h40]
  have dN : ∀ {K s}, IvT K0 K s → Nd K e (zsg K 5 41 0) := fun h => by
    rw [h.2 41 (by omega) (by omega)]
    exact hN.of (fun j j1 j2 => h.2 j (by omega) (by omega))
  have tk : ∀ {K s s'}, IvT K0 K s → IvT K0 (zss K 5 47 0 (w32 (zsg K 5 47 0 + bb false))) s' := fun {K s s'} h => by
    have e47 : w32 (zsg K 5 47 0 + bb false) = zsg K 5 47 0 := by
      show w32 (zsg K 5 47 0 + 0) = _
      rw [Int.add_zero, w32_id]
      rw [h.2 47 (by omega) (by omega)]; exact h47
    rw [e47]
    refine ⟨h.1.ss _ _ _, fun j j1 j2 => ?_⟩
    rw [z5_self rfl]; exact h.2 j j1 j2
  have fr := fa_v hv
  have fvr := fv_v hv
  refine ⟨dt, fun h => d40 h, fun h mo hj => ⟨h.1.trans mo, fun j j1 j2 => by rw [hj j j1 j2, h.2 j j1 j2]⟩, fun h hd => (vp_r hM hP _ _ (by omega) h.1).1, fun s h hd => ?_, fun {K s d p k Q} h hp hd hQ => ?_, fun {K s d p k} h hp hd ha => ?_, fun h hp hd ha => tk h, fun h => tk h, fun {K s d v p k Q} h hp hd hv2 hQ => ?_, fun {H K s d v p k} h hp hd hv2 ha hI => ?_, fun hp hd h0 h1 e3 hf he i0 i1 => tq_mk hM hP hd h0 h1 e3 hp hf he i0 i1, fun hp hd h0 h1 e6 hf hn he i0 i1 => tq_ls hM hP hd h0 h1 e6 hp hf hn he i0 i1⟩
  · have := tq_f hM hP (by omega) h
    have w := ways_le hM this.2.1 this.2.2.1
    show -1 ≤ fa e _ ∧ fa e _ ≤ 9 ∧ (_ = 5 → fa e _ ≤ 3)
    refine ⟨fr _, ?_, fun h5 => ?_⟩
    · rcases this.2.2.2 with z | z <;> omega
    · have t := this.2.2.2
      rw [h5, ways_5] at t
      rcases t with z | z <;> omega
  · have hpr := apl_r _ (pl_apl hd (vp_r hM hP _ _ (by omega) hp.1).1)
    refine w6_factT (dN h) hv (d40 h) (by omega) ?_
    have q := hQ K (Mo.refl K) (fun _ _ => rfl)
    exact q
  · have h1 : fa e p = -1 := ha
    have e1 : (tA e p k s).2 = (5, k, p) := by unfold tA; rw [if_pos h1]
    rw [e1]
    refine ⟨⟨(h.1.ss _ _ _).ss _ _ _, fun j j1 j2 => by rw [z5_ne (by omega), z5_ne (by omega), h.2 j j1 j2]⟩, ?_, ?_, fun z => by cases z⟩
    · rw [z5_ne (by omega), zsg_ss, if_pos ⟨rfl, rfl, rfl⟩]
    · rw [zsg_ss, if_pos ⟨rfl, rfl, rfl⟩]
  · refine w6_gaveT (dN h) hv (d40 h) ?_
    have hb : -1 ≤ (tV e v p s).1 ∧ (tV e v p s).1 ≤ 9 := by
      refine ⟨fvr v p, ?_⟩
      show fv e v p ≤ 9
      by_cases z : fv e v p = -1
      · omega
      · exact (hV v p z).2.1.2
    have q := hQ hb K (Mo.refl K) (fun _ _ _ => rfl) h
    exact q
  · have h1 : fv e v p = -1 := ha
    have e1 : (tV e v p s).2 = (4, v, p) := by unfold tV; rw [if_pos h1]
    rw [e1] at hI ⊢
    refine ⟨⟨((hI.1.ss _ _ _).ss _ _ _).ss _ _ _, fun j j1 j2 => by rw [z5_ne (by omega), z5_ne (by omega), z5_ne (by omega), hI.2 j j1 j2]⟩, ?_, ?_, fun _ => ?_⟩
    · rw [z5_ne (by omega), z5_ne (by omega), zsg_ss, if_pos ⟨rfl, rfl, rfl⟩]
    · rw [zsg_ss, if_pos ⟨rfl, rfl, rfl⟩]
    · rw [z5_ne (by omega), zsg_ss, if_pos ⟨rfl, rfl, rfl⟩]
/-- a case tried by what is known at a node -/
theorem w6_tryT {D : ZD} {e : PT} {eng c : Int} {K0 : ZG} {Q : Int → ZG → Prop} (hM : MI D) (hL : LIN D) (hn : isN D eng e) (hN : Nd K0 e (zsg K0 5 41 0)) (hK : ∀ j, 1 ≤ j → j ≤ 29 → zsg K0 5 j = D j) (h40 : zsg K0 5 40 0 = 0) (h47 : inR (zsg K0 5 47 0)) (hc : 0 ≤ c ∧ c < D 23 0)
    (hY : (tmc D e c (0, 0, 0)).1 = 1 → ∀ K', Mo K0 K' → (∀ j, ¬ (32 ≤ j ∧ j ≤ 39) → ¬ (42 ≤ j ∧ j ≤ 45) → zsg K' 5 j = zsg K0 5 j) → (∀ x, 0 ≤ x → x ≤ 5 → zsg K' 5 39 x = (tmc D e c (0, 0, 0)).2.2 x) → Q 0 K')
    (hNo : (tmc D e c (0, 0, 0)).1 = 0 → ∀ K', Mo K0 K' → (∀ j, ¬ (32 ≤ j ∧ j ≤ 39) → ¬ (42 ≤ j ∧ j ≤ 45) → zsg K' 5 j = zsg K0 5 j) → Q 1 K')
    (hA : (tmc D e c (0, 0, 0)).1 = 2 → ∀ K', Mo K0 K' → (∀ j, ¬ (32 ≤ j ∧ j ≤ 39) → ¬ (42 ≤ j ∧ j ≤ 45) → zsg K' 5 j = zsg K0 5 j) → AsT K' (tmc D e c (0, 0, 0)).2.1 → Q 2 K') : vX6_tryCase c K0 Q := by
  obtain ⟨hP, hV⟩ := isN_P hM e hn
  have hv := isN_v hM hn
  have E := ME_tree hM hP hV hv hN hK h40 h47
  have m21 : D 21 0 ≤ 3 := hM.2.2.2.2.1.2.1
  refine w6_try E hM hL (fun i i0 i1 => ⟨⟨by omega, by omega⟩, ?_⟩) (s := (0, 0, 0)) ⟨Mo.refl K0, fun _ _ _ => rfl⟩ hc (fun h1 K' hI h39 => hY h1 K' hI.1 hI.2 h39) (fun h1 K' hI => hNo h1 K' hI.1 hI.2) (fun h1 K' hI hAs => hA h1 K' hI.1 hI.2 hAs)
  rw [kd_s, if_pos (by omega), show i + 1 - 1 = i by omega]
