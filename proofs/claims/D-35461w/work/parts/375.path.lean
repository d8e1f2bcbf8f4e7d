/-! TREES: places that are known to be there, in plain terms -/
set_option maxRecDepth 100000
theorem fa_s (st : Int × Int × Int × Int) (e : PT) (p : Int) : fa (st :: e) p = if fa e p = -1 then (if st.1 = 5 ∧ st.2.2.1 = p then st.2.2.2 else -1) else fa e p := rfl
theorem fv_s (st : Int × Int × Int × Int) (e : PT) (v p : Int) : fv (st :: e) v p = if fv e v p = -1 then (if st.1 = 4 ∧ st.2.1 = v ∧ st.2.2.1 = p then st.2.2.2 else -1) else fv e v p := rfl
theorem kd_s (D : ZD) (e : PT) (f : Nat) (p : Int) : kd D e (f + 1) p = if p ≤ 3 then D 22 (p - 1) else if kd D e f ((p - 1) / 5) = 5 then 4 else D 3 (3 * (4 * kd D e f ((p - 1) / 5) + fa e ((p - 1) / 5)) + (p - 1) % 5) := rfl
/-- a place is there, as far as is known -/
def vp (D : ZD) (e : PT) : Nat → Int → Prop
  | 0, p => 1 ≤ p ∧ p ≤ D 21 0
  | d + 1, p => vp D e d ((p - 1) / 5) ∧ fa e ((p - 1) / 5) ≠ -1 ∧ kd D e 8 ((p - 1) / 5) ≠ 4 ∧ (kd D e 8 ((p - 1) / 5) = 5 → (p - 1) % 5 < fa e ((p - 1) / 5)) ∧ (kd D e 8 ((p - 1) / 5) < 4 → (p - 1) % 5 < D 2 (4 * kd D e 8 ((p - 1) / 5) + fa e ((p - 1) / 5)))
/-- what is known is known of places that are there, and fits -/
def PI (D : ZD) (e : PT) : Prop := ∀ p, fa e p ≠ -1 → ∃ d, d ≤ 3 ∧ vp D e d p ∧ 0 ≤ fa e p ∧ fa e p < ways D (kd D e 8 p)
theorem ways_4 {D : ZD} : ways D 4 = 10 := if_pos rfl
theorem ways_5 {D : ZD} : ways D 5 = 4 := by unfold ways; rw [if_neg (by omega), if_pos rfl]
theorem ways_t {D : ZD} {k : Int} (h : k < 4) : ways D k = D 1 k := by unfold ways; rw [if_neg (by omega), if_neg (by omega)]
theorem vp_r {D : ZD} {e : PT} (hM : MI D) (hP : PI D e) : ∀ (d : Nat) (p : Int), d ≤ 7 → vp D e d p → p ∈ pl d ∧ (0 ≤ kd D e 8 p ∧ kd D e 8 p ≤ 5) ∧ ∀ f, d < f → kd D e f p = kd D e 8 p := by
  have m21 : 0 ≤ D 21 0 ∧ D 21 0 ≤ 3 := ⟨hM.2.2.2.2.1.1, hM.2.2.2.2.1.2.1⟩
  have m22 := hM.2.2.2.2.1.2.2.1
  intro d
  induction d with
  | zero =>
    intro p _ h
    obtain ⟨h1, h2⟩ := h
    have hk : ∀ f, 0 < f → kd D e f p = D 22 (p - 1) := fun f hf => by
      obtain ⟨f, rfl⟩ : ∃ f', f = f' + 1 := ⟨f - 1, by omega⟩
      rw [kd_s, if_pos (by omega)]
    have hp : p = 1 ∨ p = 2 ∨ p = 3 := by omega
    refine ⟨by rcases hp with rfl | rfl | rfl <;> decide, ?_, fun f hf => by rw [hk f hf, hk 8 (by omega)]⟩
    rw [hk 8 (by omega)]
    have := m22 (p - 1) (by omega) (by omega)
    omega
  | succ d ih =>
    intro p hd h
    obtain ⟨hq, h1, h2, h3, h4⟩ := h
    obtain ⟨i1, i2, i3⟩ := ih _ (by omega) hq
    obtain ⟨d', _, _, g1, g2⟩ := hP _ h1
    have q1 := pl_p _ i1
    have j0 := Int.emod_nonneg (p - 1) (show (5 : Int) ≠ 0 by omega)
    have hk : ∀ f, d + 1 < f → kd D e f p = if kd D e 8 ((p - 1) / 5) = 5 then 4 else D 3 (3 * (4 * kd D e 8 ((p - 1) / 5) + fa e ((p - 1) / 5)) + (p - 1) % 5) := fun f hf => by
      obtain ⟨f, rfl⟩ : ∃ f', f = f' + 1 := ⟨f - 1, by omega⟩
      rw [kd_s, if_neg (by omega), i3 f (by omega)]
    have hj : (p - 1) % 5 < 3 ∧ 0 ≤ kd D e 8 p ∧ kd D e 8 p ≤ 5 := by
      rw [hk 8 (by omega)]
      by_cases h5 : kd D e 8 ((p - 1) / 5) = 5
      · rw [h5, ways_5] at g2
        have := h3 h5
        rw [if_pos h5]
        omega
      · have h44 : kd D e 8 ((p - 1) / 5) < 4 := by omega
        rw [ways_t h44] at g2
        have hc := (hM.1 _ i2.1 h44).2.2 _ g1 g2
        have := h4 h44
        have c3 := hc.2.2 ((p - 1) % 5) j0 (by omega)
        rw [if_neg h5]
        omega
    refine ⟨?_, hj.2, fun f hf => by rw [hk f hf, hk 8 (by omega)]⟩
    have := pl_s (d := d) (q := (p - 1) / 5) (j := (p - 1) % 5) i1 j0 hj.1
    rw [show 5 * ((p - 1) / 5) + (p - 1) % 5 + 1 = p by omega] at this
    exact this
/-- what is known grows -/
def Gr (e e' : PT) : Prop := (∀ p, fa e p ≠ -1 → fa e' p = fa e p) ∧ ∀ v p, fv e v p ≠ -1 → fv e' v p = fv e v p
theorem Gr.cons (st : Int × Int × Int × Int) (e : PT) : Gr e (st :: e) := ⟨fun p h => by rw [fa_s, if_neg h], fun v p h => by rw [fv_s, if_neg h]⟩
theorem vp_gr {D : ZD} {e e' : PT} (hM : MI D) (hP : PI D e) (g : Gr e e') : ∀ (d : Nat) (p : Int), d ≤ 7 → vp D e d p → vp D e' d p ∧ ∀ f, d < f → kd D e' f p = kd D e 8 p := by
  intro d
  induction d with
  | zero =>
    intro p _ h
    have m21 : D 21 0 ≤ 3 := hM.2.2.2.2.1.2.1
    have hb : p ≤ 3 := by have := h.2; omega
    refine ⟨h, fun f hf => ?_⟩
    obtain ⟨f, rfl⟩ : ∃ f', f = f' + 1 := ⟨f - 1, by omega⟩
    rw [kd_s, if_pos hb, kd_s, if_pos hb]
  | succ d ih =>
    intro p hd h
    have hr := vp_r hM hP (d + 1) p hd h
    have p1 := pl_p _ hr.1
    obtain ⟨hq, h1, h2, h3, h4⟩ := h
    obtain ⟨i1, i2⟩ := ih _ (by omega) hq
    have rq := vp_r hM hP d _ (by omega) hq
    have q1 := pl_p _ rq.1
    have e8 := i2 8 (by omega)
    have ef := g.1 _ h1
    refine ⟨⟨i1, by rw [ef]; exact h1, by rw [e8]; exact h2, by rw [e8, ef]; exact h3, by rw [e8, ef]; exact h4⟩, fun f hf => ?_⟩
    obtain ⟨f, rfl⟩ : ∃ f', f = f' + 1 := ⟨f - 1, by omega⟩
    rw [kd_s, kd_s, i2 f (by omega), ef, rq.2.2 7 (by omega)]
/-- a place that is there, of a kind -/
def tq (D : ZD) (e : PT) (d : Nat) (p k : Int) : Prop := vp D e d p ∧ kd D e 8 p = k
theorem tq_f {D : ZD} {e : PT} {d : Nat} {p k : Int} (hM : MI D) (hP : PI D e) (hd : d ≤ 7) (h : tq D e d p k) : p ∈ pl d ∧ 0 ≤ k ∧ k ≤ 5 ∧ (fa e p = -1 ∨ (0 ≤ fa e p ∧ fa e p < ways D k)) := by
  obtain ⟨h1, rfl⟩ := h
  have := vp_r hM hP d p hd h1
  refine ⟨this.1, this.2.1.1, this.2.1.2, ?_⟩
  by_cases hf : fa e p = -1
  · exact Or.inl hf
  · obtain ⟨_, _, _, g1, g2⟩ := hP p hf
    exact Or.inr ⟨g1, g2⟩
theorem ways_le {D : ZD} {k : Int} (hM : MI D) (h0 : 0 ≤ k) (h5 : k ≤ 5) : 0 ≤ ways D k ∧ ways D k ≤ 10 := by
  by_cases h4 : k = 4
  · rw [h4, ways_4]; omega
  · by_cases h55 : k = 5
    · rw [h55, ways_5]; omega
    · rw [ways_t (by omega)]
      have := hM.1 k h0 (by omega)
      omega
theorem tq_mk {D : ZD} {e : PT} {d : Nat} {n p k i : Int} (hM : MI D) (hP : PI D e) (hd3 : d ≤ 3) (h0 : 0 ≤ n) (h1 : n < D 9 0) (e3 : D 10 n = 3) (hp : tq D e d p k) (hf : fitk D n k) (he : fa e p = D 11 n % 4) (i0 : 0 ≤ i) (i1 : i < D 2 (D 11 n)) :
    tq D e (d + 1) (5 * p + 0 + i + 1) (D 3 (3 * D 11 n + i)) := by
  have c3 := (hM.2.2.1.2.2 n h0 h1).2.2.2.2.2.2.2.2.2.2.2.2.2.2.1 e3
  have hk : k = D 11 n / 4 := by unfold fitk at hf; omega
  have e44 : 4 * (D 11 n / 4) + D 11 n % 4 = D 11 n := by omega
  have m2 := (hM.1 (D 11 n / 4) (by omega) (by omega)).2.2 (D 11 n % 4) (by omega) c3.2.2.1
  rw [e44] at m2
  have hr := tq_f hM hP (by omega) hp
  have p1 := pl_p _ hr.1
  obtain ⟨hv, hk8⟩ := hp
  have vr := vp_r hM hP d p (by omega) hv
  have e1 : (5 * p + 0 + i + 1 - 1) / 5 = p := by omega
  have e2 : (5 * p + 0 + i + 1 - 1) % 5 = i := by omega
  refine ⟨⟨by rw [e1]; exact hv, by rw [e1, he]; omega, by rw [e1, hk8]; omega, by rw [e1, hk8]; omega, fun _ => ?_⟩, ?_⟩
  · rw [e1, e2, hk8, he, hk, e44]; exact i1
  · rw [kd_s, if_neg (by omega), e1, e2, vr.2.2 7 (by omega), hk8, if_neg (by omega), he, hk, e44]
theorem tq_ls {D : ZD} {e : PT} {d : Nat} {n p k i : Int} (hM : MI D) (hP : PI D e) (hd3 : d ≤ 3) (h0 : 0 ≤ n) (h1 : n < D 9 0) (e6 : D 10 n = 6) (hp : tq D e d p k) (hf : fitk D n k) (hn : fa e p ≠ -1) (hfit : fitl D n (fa e p) = true) (i0 : 0 ≤ i) (i1 : i < D 11 n) :
    tq D e (d + 1) (5 * p + begl D n (fa e p) + i + 1) 4 := by
  have c6 := (hM.2.2.1.2.2 n h0 h1).2.2.2.2.2.2.2.2.2.2.2.2.2.2.2.2.2 e6
  have hk : k = 5 := by unfold fitk at hf; omega
  have hb := begl_r hfit c6.1
  have hr := tq_f hM hP (by omega) hp
  have p1 := pl_p _ hr.1
  have hfr := hr.2.2.2.resolve_left hn
  rw [hk, ways_5] at hfr
  obtain ⟨hv, hk8⟩ := hp
  have vr := vp_r hM hP d p (by omega) hv
  have e1 : (5 * p + begl D n (fa e p) + i + 1 - 1) / 5 = p := by omega
  have e2 : (5 * p + begl D n (fa e p) + i + 1 - 1) % 5 = begl D n (fa e p) + i := by omega
  refine ⟨⟨by rw [e1]; exact hv, by rw [e1]; exact hn, by rw [e1, hk8]; omega, fun _ => by rw [e1, e2]; omega, by rw [e1, hk8]; omega⟩, ?_⟩
  rw [kd_s, if_neg (by omega), e1, e2, vr.2.2 7 (by omega), hk8, if_pos hk]
/-- what is asked is asked of a place that is there, and not known -/
def Aok (D : ZD) (e : PT) (s : TS) : Prop := (s.1 = 5 ∧ fa e s.2.2 = -1 ∧ ∃ d, d ≤ 3 ∧ tq D e d s.2.2 s.2.1) ∨ (s.1 = 4 ∧ (0 ≤ s.2.1 ∧ s.2.1 ≤ 2) ∧ fv e s.2.1 s.2.2 = -1 ∧ ∃ d k, d ≤ 3 ∧ tq D e d s.2.2 k)
theorem al_012 {σ : Type} {M : Int → Int → σ → Int × σ} {J : Int × σ → Prop} : ∀ (L : List (Int × Int)), (∀ c ∈ L, ∀ t, ((M c.1 c.2 t).1 = 0 ∨ (M c.1 c.2 t).1 = 1 ∨ (M c.1 c.2 t).1 = 2) ∧ ((M c.1 c.2 t).1 = 2 → J (M c.1 c.2 t))) → ∀ t, ((al M L t).1 = 0 ∨ (al M L t).1 = 1 ∨ (al M L t).1 = 2) ∧ ((al M L t).1 = 2 → J (al M L t))
  | [], _, t => ⟨Or.inr (Or.inl rfl), fun h => by cases h⟩
  | c :: L, h, t => by
    rw [al_s]
    by_cases h1 : (M c.1 c.2 t).1 = 1
    · rw [if_pos h1]; exact al_012 L (fun d hd => h d (List.mem_cons_of_mem _ hd)) _
    · rw [if_neg h1]; exact h c List.mem_cons_self t
theorem mt_ask {D : ZD} {e : PT} (hM : MI D) (hP : PI D e) : ∀ (f : Nat) (n p k : Int) (d : Nat) (t : TS × (Int → Int)), 0 ≤ n → n < D 9 0 → tq D e d p k → fitk D n k → (d : Int) + D 15 n ≤ 4 →
    ((mt D (tA e) (tV e) (fun s => s) f n p t).1 = 0 ∨ (mt D (tA e) (tV e) (fun s => s) f n p t).1 = 1 ∨ (mt D (tA e) (tV e) (fun s => s) f n p t).1 = 2) ∧ ((mt D (tA e) (tV e) (fun s => s) f n p t).1 = 2 → Aok D e (mt D (tA e) (tV e) (fun s => s) f n p t).2.1) := by
  intro f
  induction f with
  | zero => intro n p k d t _ _ _ _ _; exact ⟨Or.inl rfl, fun h => by cases h⟩
  | succ f ih =>
    intro n p k d t h0 h1 hp hf hdp
    have hpw := hM.2.2.1.2.2 n h0 h1
    have m15 := hpw.2.2.1
    have hd3 : d ≤ 3 := by omega
    obtain ⟨hform, -, -, -, -, -, -, -, -, -, -, f0, f1, f2, f3, f4, f5, f6⟩ := id hpw
    have ask : ∀ kk, kk = k → (tA e p kk t.1).1 = -1 → Aok D e (tA e p kk t.1).2 := fun kk hk h => by
      subst hk
      have h : fa e p = -1 := h
      unfold tA
      rw [if_pos h]
      exact Or.inl ⟨rfl, h, d, hd3, hp⟩
    rw [mt_s]
    by_cases e1 : D 10 n = 1
    · rw [if_pos e1]
      have c1 := f1 e1
      have q0 := pch hM.2.2.1 h0 h1 (k := 0) (by omega) (by omega) (by omega)
      have h := ih (prt D n 0) p k d t q0.1 q0.2.1 hp (by unfold fitk at hf ⊢; rw [← c1.2.2.2.2.2.1]; exact hf) (by omega)
      generalize mt D (tA e) (tV e) (fun s => s) f (prt D n 0) p t = R at h
      by_cases hR : R.1 = 1
      · rw [if_pos hR]; exact ⟨Or.inr (Or.inl rfl), fun z => by cases z⟩
      · rw [if_neg hR]; exact h
    rw [if_neg e1]
    by_cases e2 : D 10 n = 2
    · rw [if_pos e2]
      have c2 := f2 e2
      have hk : (4 : Int) = k := by unfold fitk at hf; omega
      dsimp only
      by_cases ha : (tA e p 4 t.1).1 = -1
      · rw [if_pos ha]; exact ⟨Or.inr (Or.inr rfl), fun _ => ask 4 hk ha⟩
      · rw [if_neg ha]
        by_cases hi : D 11 n ≤ (tA e p 4 t.1).1 ∧ (tA e p 4 t.1).1 ≤ D 12 n
        · rw [if_pos hi]; exact ⟨Or.inr (Or.inl rfl), fun z => by cases z⟩
        · rw [if_neg hi]; exact ⟨Or.inl rfl, fun z => by cases z⟩
    rw [if_neg e2]
    have parts : ∀ j t2, (∀ i, 0 ≤ i → i < 3 → prt D n i ≠ -1 → ∃ k', tq D e (d + 1) (5 * p + j + i + 1) k' ∧ fitk D (prt D n i) k' ∧ D 15 (prt D n i) + 1 ≤ D 15 n) → ((al (mt D (tA e) (tV e) (fun s => s) f) (chs D n p j) t2).1 = 0 ∨ (al (mt D (tA e) (tV e) (fun s => s) f) (chs D n p j) t2).1 = 1 ∨ (al (mt D (tA e) (tV e) (fun s => s) f) (chs D n p j) t2).1 = 2) ∧ ((al (mt D (tA e) (tV e) (fun s => s) f) (chs D n p j) t2).1 = 2 → Aok D e (al (mt D (tA e) (tV e) (fun s => s) f) (chs D n p j) t2).2.1) := fun j t2 hch => by
      refine al_012 (J := fun R => Aok D e R.2.1) (chs D n p j) (fun c hc t3 => ?_) t2
      obtain ⟨i, i0, i3, hi, rfl⟩ := chs_mem hc
      have qi := pch hM.2.2.1 h0 h1 i0 i3 hi
      obtain ⟨k', hk1, hk2, hk3⟩ := hch i i0 i3 hi
      exact ih (prt D n i) _ k' (d + 1) t3 qi.1 qi.2.1 hk1 hk2 (by omega)
    by_cases e3 : D 10 n = 3
    · rw [if_pos e3]
      have c3 := f3 e3
      have hk : D 11 n / 4 = k := by unfold fitk at hf; omega
      have hck := c3.2.2.2.2.2
      by_cases ha : (tA e p (D 11 n / 4) t.1).1 = -1
      · rw [if_pos ha]; exact ⟨Or.inr (Or.inr rfl), fun _ => ask _ hk ha⟩
      · rw [if_neg ha]
        by_cases hi : (tA e p (D 11 n / 4) t.1).1 = D 11 n % 4
        · rw [if_pos hi]
          refine parts 0 _ (fun i i0 i3 hi2 => ?_)
          have i1 : i < D 2 (D 11 n) := Decidable.byContradiction fun z => hi2 ((hck i i0 i3).2 (by omega))
          have hci := (hck i i0 i3).1 i1
          exact ⟨_, tq_mk hM hP hd3 h0 h1 e3 hp hf hi i0 i1, hci.2.1, hci.2.2⟩
        · rw [if_neg hi]; exact ⟨Or.inl rfl, fun z => by cases z⟩
    rw [if_neg e3]
    by_cases e4 : D 10 n = 4
    · rw [if_pos e4]
      have c4 := f4 e4
      have q0 := pch hM.2.2.1 h0 h1 (k := 0) (by omega) (by omega) (by omega)
      have q1 := pch hM.2.2.1 h0 h1 (k := 1) (by omega) (by omega) (by omega)
      have ff := c4.2.2.2.2.2.1 k hf
      have h := ih (prt D n 0) p k d t q0.1 q0.2.1 hp ff.1 (by omega)
      generalize mt D (tA e) (tV e) (fun s => s) f (prt D n 0) p t = R at h
      by_cases hR : R.1 = 0
      · rw [if_pos hR]; exact ih (prt D n 1) p k d R.2 q1.1 q1.2.1 hp ff.2 (by omega)
      · rw [if_neg hR]; exact h
    rw [if_neg e4]
    by_cases e5 : D 10 n = 5
    · rw [if_pos e5]
      have c5 := f5 e5
      by_cases ha : (tV e (D 11 n) p t.1).1 = -1
      · rw [if_pos ha]
        refine ⟨Or.inr (Or.inr rfl), fun _ => ?_⟩
        have h : fv e (D 11 n) p = -1 := ha
        unfold tV
        rw [if_pos h]
        exact Or.inr ⟨rfl, ⟨c5.1, c5.2.1⟩, h, d, k, hd3, hp⟩
      · rw [if_neg ha]
        generalize hold D (fun s => s) 40 (prt D n 0) (tV e (D 11 n) p t.1).1 (tV e (D 11 n) p t.1).2 = hh
        refine ⟨?_, fun z => ?_⟩
        · rcases bb_or hh.1 with z | z
          · exact Or.inl z
          · exact Or.inr (Or.inl z)
        · have z : bb hh.1 = 2 := z
          rcases bb_or hh.1 with y | y <;> omega
    rw [if_neg e5]
    by_cases e6 : D 10 n = 6
    · rw [if_pos e6]
      have c6 := f6 e6
      have hck := c6.2.2.2.2.2.2
      have hk : (5 : Int) = k := by unfold fitk at hf; omega
      by_cases ha : (tA e p 5 t.1).1 = -1
      · rw [if_pos ha]; exact ⟨Or.inr (Or.inr rfl), fun _ => ask 5 hk ha⟩
      · rw [if_neg ha]
        by_cases hi : fitl D n (tA e p 5 t.1).1 = true
        · rw [if_pos hi]
          refine parts _ _ (fun i i0 i3 hi2 => ?_)
          have i1 : i < D 11 n := Decidable.byContradiction fun z => hi2 ((hck i i0 i3).2 (by omega))
          have hci := (hck i i0 i3).1 i1
          exact ⟨4, tq_ls hM hP hd3 h0 h1 e6 hp hf ha hi i0 i1, hci.2.1, hci.2.2⟩
        · rw [if_neg hi]; exact ⟨Or.inl rfl, fun z => by cases z⟩
    rw [if_neg e6]
    exact ⟨Or.inr (Or.inl rfl), fun z => by cases z⟩
