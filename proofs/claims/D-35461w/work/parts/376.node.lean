/-! TREES: what nodes ask, in plain terms -/
set_option maxRecDepth 100000
/-- the same answer by facts, wherever the looking stands -/
def Eq2 {σ : Type} (R : Int × (σ × (Int → Int))) (P : Int × (Unit × (Int → Int))) : Prop := R.1 = P.1 ∧ R.2.2 = P.2.2
theorem al_eq2 {σ : Type} {M : Int → Int → σ × (Int → Int) → Int × (σ × (Int → Int))} {N : Int → Int → Unit × (Int → Int) → Int × (Unit × (Int → Int))} : ∀ (L : List (Int × Int)), (∀ c ∈ L, ∀ s bd, Eq2 (M c.1 c.2 (s, bd)) (N c.1 c.2 ((), bd))) → ∀ s bd, Eq2 (al M L (s, bd)) (al N L ((), bd))
  | [], _, s, bd => ⟨rfl, rfl⟩
  | c :: L, h, s, bd => by
    rw [al_s, al_s]
    obtain ⟨e1, e2⟩ := h c List.mem_cons_self s bd
    by_cases h1 : (M c.1 c.2 (s, bd)).1 = 1
    · rw [if_pos h1, if_pos (by omega)]
      have := al_eq2 L (fun d hd => h d (List.mem_cons_of_mem _ hd)) (M c.1 c.2 (s, bd)).2.1 (M c.1 c.2 (s, bd)).2.2
      rw [e2] at this
      have e3 : (M c.1 c.2 (s, bd)).2 = ((M c.1 c.2 (s, bd)).2.1, (N c.1 c.2 ((), bd)).2.2) := by rw [← e2]
      rw [e3]
      exact this
    · rw [if_neg h1, if_neg (by omega)]; exact ⟨e1, e2⟩
theorem mt_eq2 {σ : Type} {D : ZD} {A V : Int → Int → σ → Int × σ} {C : σ → σ} {a : Int → Int} {w : Int → Int → Int} (hA : ∀ p k s, (A p k s).1 = a p) (hV : ∀ v p s, (V v p s).1 = w v p) :
    ∀ (f : Nat) (n p : Int) (s : σ) (bd : Int → Int), Eq2 (mt D A V C f n p (s, bd)) (mt D (pA a) (pV w) (fun u => u) f n p ((), bd)) := by
  intro f
  induction f with
  | zero => intro n p s bd; exact ⟨rfl, rfl⟩
  | succ f ih =>
    intro n p s bd
    rw [mt_s, mt_s]
    have pa : ∀ k, (pA a p k ()).1 = a p := fun _ => rfl
    have pv : ∀ v, (pV w v p ()).1 = w v p := fun _ => rfl
    by_cases e1 : D 10 n = 1
    · rw [if_pos e1, if_pos e1]
      obtain ⟨g1, g2⟩ := ih (prt D n 0) p s bd
      by_cases h1 : (mt D A V C f (prt D n 0) p (s, bd)).1 = 1
      · rw [if_pos h1, if_pos (by omega)]
        refine ⟨rfl, ?_⟩
        dsimp only
        rw [g2]
      · rw [if_neg h1, if_neg (by omega)]; exact ⟨g1, g2⟩
    rw [if_neg e1, if_neg e1]
    by_cases e2 : D 10 n = 2
    · rw [if_pos e2, if_pos e2]
      dsimp only
      rw [hA, pa]
      exact ⟨rfl, rfl⟩
    rw [if_neg e2, if_neg e2]
    have parts : ∀ j s2, Eq2 (al (mt D A V C f) (chs D n p j) (s2, bd)) (al (mt D (pA a) (pV w) (fun u => u) f) (chs D n p j) ((), bd)) := fun j s2 => al_eq2 _ (fun c _ s3 bd3 => ih c.1 c.2 s3 bd3) s2 bd
    by_cases e3 : D 10 n = 3
    · rw [if_pos e3, if_pos e3]
      dsimp only
      rw [hA, pa]
      by_cases h1 : a p = -1
      · rw [if_pos h1, if_pos h1]; exact ⟨rfl, rfl⟩
      · rw [if_neg h1, if_neg h1]
        by_cases h2 : a p = D 11 n % 4
        · rw [if_pos h2, if_pos h2]; exact parts 0 _
        · rw [if_neg h2, if_neg h2]; exact ⟨rfl, rfl⟩
    rw [if_neg e3, if_neg e3]
    by_cases e4 : D 10 n = 4
    · rw [if_pos e4, if_pos e4]
      obtain ⟨g1, g2⟩ := ih (prt D n 0) p s bd
      by_cases h1 : (mt D A V C f (prt D n 0) p (s, bd)).1 = 0
      · rw [if_pos h1, if_pos (by omega)]
        have := ih (prt D n 1) p (mt D A V C f (prt D n 0) p (s, bd)).2.1 (mt D A V C f (prt D n 0) p (s, bd)).2.2
        rw [g2] at this
        have e3 : (mt D A V C f (prt D n 0) p (s, bd)).2 = ((mt D A V C f (prt D n 0) p (s, bd)).2.1, (mt D (pA a) (pV w) (fun u => u) f (prt D n 0) p ((), bd)).2.2) := by rw [← g2]
        rw [e3]
        exact this
      · rw [if_neg h1, if_neg (by omega)]; exact ⟨g1, g2⟩
    rw [if_neg e4, if_neg e4]
    by_cases e5 : D 10 n = 5
    · rw [if_pos e5, if_pos e5]
      dsimp only
      rw [hV, pv]
      by_cases h1 : w (D 11 n) p = -1
      · rw [if_pos h1, if_pos h1]; exact ⟨rfl, rfl⟩
      · rw [if_neg h1, if_neg h1]
        have e := hold_1 (D := D) (C := C) (C' := fun u : Unit => u) 40 (prt D n 0) (w (D 11 n) p) (V (D 11 n) p s).2 (pV w (D 11 n) p ()).2
        exact ⟨by dsimp only; rw [e], rfl⟩
    rw [if_neg e5, if_neg e5]
    by_cases e6 : D 10 n = 6
    · rw [if_pos e6, if_pos e6]
      dsimp only
      rw [hA, pa]
      by_cases h1 : a p = -1
      · rw [if_pos h1, if_pos h1]; exact ⟨rfl, rfl⟩
      · rw [if_neg h1, if_neg h1]
        by_cases h2 : fitl D n (a p) = true
        · rw [if_pos h2, if_pos h2]; exact parts _ _
        · rw [if_neg h2, if_neg h2]; exact ⟨rfl, rfl⟩
    rw [if_neg e6, if_neg e6]
    exact ⟨rfl, rfl⟩
theorem tmc_eq {D : ZD} {e : PT} {c : Int} {s : TS} : (tmc D e c s).1 = (pca D (fa e) (fv e) c).1 ∧ (tmc D e c s).2.2 = (pca D (fa e) (fv e) c).2.2 := by
  have key := fun f => al_eq2 (M := mt D (tA e) (tV e) (fun s => s) f) (N := mt D (pA (fa e)) (pV (fv e)) (fun u => u) f) (cols D c) (fun q _ s3 bd3 => mt_eq2 (A := tA e) (V := tV e) (C := fun s => s) (a := fa e) (w := fv e) (fun _ _ _ => rfl) (fun _ _ _ => rfl) f q.1 q.2 s3 bd3) s (fun _ => -1)
  unfold tmc pca mca
  exact key 40
theorem cols_tq {D : ZD} {e : PT} (hM : MI D) {c : Int} (hc : 0 ≤ c ∧ c < D 23 0) {x : Int × Int} (hx : x ∈ cols D c) : ∃ i, 0 ≤ i ∧ i < D 21 0 ∧ x = (D 24 (3 * c + i), i + 1) ∧ 0 ≤ x.1 ∧ x.1 < D 9 0 ∧ tq D e 0 x.2 (D 22 i) ∧ fitk D x.1 (D 22 i) ∧ D 15 x.1 ≤ 4 := by
  obtain ⟨i, i0, i1, rfl⟩ := cols_mem hx
  have m21 : D 21 0 ≤ 3 := hM.2.2.2.2.1.2.1
  have hcw := hM.2.2.2.2.1.2.2.2.2.2.2 c hc.1 hc.2
  have how := hcw.1 i i0 i1
  have hpw := hM.2.2.1.2.2 _ how.1 how.2.1
  refine ⟨i, i0, i1, rfl, how.1, how.2.1, ⟨⟨by dsimp only; omega, by dsimp only; omega⟩, ?_⟩, how.2.2, hpw.2.2.1.2⟩
  rw [kd_s, if_pos (by omega), show i + 1 - 1 = i by omega]
theorem tmc_ask {D : ZD} {e : PT} (hM : MI D) (hP : PI D e) {c : Int} (hc : 0 ≤ c ∧ c < D 23 0) (s : TS) : ((tmc D e c s).1 = 0 ∨ (tmc D e c s).1 = 1 ∨ (tmc D e c s).1 = 2) ∧ ((tmc D e c s).1 = 2 → Aok D e (tmc D e c s).2.1) := by
  have key := fun f => al_012 (M := mt D (tA e) (tV e) (fun s => s) f) (J := fun R => Aok D e R.2.1) (cols D c) (fun x hx t => by
    obtain ⟨i, i0, i1, _, h0, h1, ht, hf, hd⟩ := cols_tq (e := e) hM hc hx
    exact mt_ask hM hP f x.1 x.2 (D 22 i) 0 t h0 h1 ht hf (by omega)) (s, fun _ => -1)
  unfold tmc mca
  exact key 40
/-! what a pattern needs -/
theorem ndl_s (D : ZD) (e : PT) (f : Nat) (n p : Int) : ndl D e (f + 1) n p = if D 10 n = 1 then ndl D e f (prt D n 0) p
    else if D 10 n = 4 then ndl D e f (prt D n 0) p ++ ndl D e f (prt D n 1) p
    else if D 10 n = 2 then (if fa e p = -1 then [p] else [])
    else if D 10 n = 3 then (if fa e p = -1 then [p] else if fa e p = D 11 n % 4 then (chs D n p 0).flatMap (fun x => ndl D e f x.1 x.2) else [])
    else if D 10 n = 6 then (if fa e p = -1 then [p] else if fitl D n (fa e p) = true then (chs D n p (begl D n (fa e p))).flatMap (fun x => ndl D e f x.1 x.2) else [])
    else [] := rfl
theorem mt_ndl {D : ZD} {e : PT} : ∀ (f : Nat) (n p : Int) (t : TS × (Int → Int)), (mt D (tA e) (tV e) (fun s => s) f n p t).1 = 2 → (mt D (tA e) (tV e) (fun s => s) f n p t).2.1.1 = 5 → (mt D (tA e) (tV e) (fun s => s) f n p t).2.1.2.2 ∈ ndl D e f n p := by
  intro f
  induction f with
  | zero => intro n p t h; cases h
  | succ f ih =>
    intro n p t
    rw [mt_s, ndl_s]
    have al2 : ∀ (L : List (Int × Int)) t2, (al (mt D (tA e) (tV e) (fun s => s) f) L t2).1 = 2 → (al (mt D (tA e) (tV e) (fun s => s) f) L t2).2.1.1 = 5 → (al (mt D (tA e) (tV e) (fun s => s) f) L t2).2.1.2.2 ∈ L.flatMap (fun x => ndl D e f x.1 x.2) := fun L => by
      induction L with
      | nil => intro t2 h; cases h
      | cons c L ihL =>
        intro t2
        rw [al_s, List.flatMap_cons]
        by_cases h1 : (mt D (tA e) (tV e) (fun s => s) f c.1 c.2 t2).1 = 1
        · rw [if_pos h1]; exact fun a b => List.mem_append_right _ (ihL _ a b)
        · rw [if_neg h1]; exact fun a b => List.mem_append_left _ (ih _ _ _ a b)
    have own : ∀ kk, fa e p = -1 → (tA e p kk t.1).2.1 = 5 → (tA e p kk t.1).2.2.2 ∈ ([p] : List Int) := fun kk h _ => by
      unfold tA; rw [if_pos h]; exact List.mem_singleton.mpr rfl
    have ta : ∀ kk, (tA e p kk t.1).1 = fa e p := fun _ => rfl
    by_cases e1 : D 10 n = 1
    · rw [if_pos e1, if_pos e1]
      intro h h5
      by_cases hR : (mt D (tA e) (tV e) (fun s => s) f (prt D n 0) p t).1 = 1
      · rw [if_pos hR] at h; cases h
      · rw [if_neg hR] at h h5 ⊢; exact ih _ p t h h5
    rw [if_neg e1, if_neg e1]
    by_cases e2 : D 10 n = 2
    · rw [if_pos e2, if_neg (show ¬ D 10 n = 4 by omega), if_pos e2]
      intro h h5
      dsimp only at h
      rw [ta] at h
      by_cases ha : fa e p = -1
      · rw [if_pos ha]; exact own 4 ha h5
      · rw [if_neg ha] at h
        split at h <;> cases h
    rw [if_neg e2]
    by_cases e3 : D 10 n = 3
    · rw [if_pos e3, if_neg (show ¬ D 10 n = 4 by omega), if_neg e2, if_pos e3, ta]
      by_cases ha : fa e p = -1
      · rw [if_pos ha, if_pos ha]; exact fun _ h5 => own _ ha h5
      · rw [if_neg ha, if_neg ha]
        by_cases hi : fa e p = D 11 n % 4
        · rw [if_pos hi, if_pos hi]; exact al2 _ _
        · rw [if_neg hi]; intro h; cases h
    rw [if_neg e3]
    by_cases e4 : D 10 n = 4
    · rw [if_pos e4, if_pos e4]
      by_cases hR : (mt D (tA e) (tV e) (fun s => s) f (prt D n 0) p t).1 = 0
      · rw [if_pos hR]; exact fun a b => List.mem_append_right _ (ih _ _ _ a b)
      · rw [if_neg hR]; exact fun a b => List.mem_append_left _ (ih _ _ _ a b)
    rw [if_neg e4, if_neg e4, if_neg e2, if_neg e3]
    by_cases e5 : D 10 n = 5
    · rw [if_pos e5]
      by_cases ha : (tV e (D 11 n) p t.1).1 = -1
      · rw [if_pos ha]
        intro _ h5
        have h : fv e (D 11 n) p = -1 := ha
        have h5 : (tV e (D 11 n) p t.1).2.1 = 5 := h5
        unfold tV at h5
        rw [if_pos h] at h5
        cases h5
      · rw [if_neg ha]
        generalize hold D (fun s => s) 40 (prt D n 0) (tV e (D 11 n) p t.1).1 (tV e (D 11 n) p t.1).2 = hh
        intro h
        have z : bb hh.1 = 2 := h
        rcases bb_or hh.1 with y | y <;> omega
    rw [if_neg e5]
    by_cases e6 : D 10 n = 6
    · rw [if_pos e6, if_pos e6, ta]
      by_cases ha : fa e p = -1
      · rw [if_pos ha, if_pos ha]; exact fun _ h5 => own _ ha h5
      · rw [if_neg ha, if_neg ha]
        by_cases hi : fitl D n (fa e p) = true
        · rw [if_pos hi, if_pos hi]; exact al2 _ _
        · rw [if_neg hi]; intro h; cases h
    rw [if_neg e6]
    intro h; cases h
theorem ndl_tq {D : ZD} {e : PT} (hM : MI D) (hP : PI D e) : ∀ (f : Nat) (n p k : Int) (d : Nat), 0 ≤ n → n < D 9 0 → tq D e d p k → fitk D n k → (d : Int) + D 15 n ≤ 4 → ∀ q ∈ ndl D e f n p, fa e q = -1 ∧ ∃ d' k', d' ≤ 3 ∧ tq D e d' q k' := by
  intro f
  induction f with
  | zero => intro n p k d _ _ _ _ _ q hq; cases hq
  | succ f ih =>
    intro n p k d h0 h1 hp hf hdp q
    have hpw := hM.2.2.1.2.2 n h0 h1
    have m15 := hpw.2.2.1
    have hd3 : d ≤ 3 := by omega
    obtain ⟨hform, -, -, -, -, -, -, -, -, -, -, f0, f1, f2, f3, f4, f5, f6⟩ := id hpw
    rw [ndl_s]
    have own : fa e p = -1 → q ∈ ([p] : List Int) → fa e q = -1 ∧ ∃ d' k', d' ≤ 3 ∧ tq D e d' q k' := fun h hq => by
      rw [List.mem_singleton] at hq
      subst hq
      exact ⟨h, d, k, hd3, hp⟩
    have parts : ∀ j, (∀ i, 0 ≤ i → i < 3 → prt D n i ≠ -1 → ∃ k', tq D e (d + 1) (5 * p + j + i + 1) k' ∧ fitk D (prt D n i) k' ∧ D 15 (prt D n i) + 1 ≤ D 15 n) → q ∈ (chs D n p j).flatMap (fun x => ndl D e f x.1 x.2) → fa e q = -1 ∧ ∃ d' k', d' ≤ 3 ∧ tq D e d' q k' := fun j hch hq => by
      obtain ⟨c, hc, hq⟩ := List.mem_flatMap.mp hq
      obtain ⟨i, i0, i3, hi, rfl⟩ := chs_mem hc
      have qi := pch hM.2.2.1 h0 h1 i0 i3 hi
      obtain ⟨k', hk1, hk2, hk3⟩ := hch i i0 i3 hi
      exact ih (prt D n i) _ k' (d + 1) qi.1 qi.2.1 hk1 hk2 (by omega) q hq
    by_cases e1 : D 10 n = 1
    · rw [if_pos e1]
      have c1 := f1 e1
      have q0 := pch hM.2.2.1 h0 h1 (k := 0) (by omega) (by omega) (by omega)
      exact ih (prt D n 0) p k d q0.1 q0.2.1 hp (by unfold fitk at hf ⊢; rw [← c1.2.2.2.2.2.1]; exact hf) (by omega) q
    rw [if_neg e1]
    by_cases e4 : D 10 n = 4
    · rw [if_pos e4]
      have c4 := f4 e4
      have q0 := pch hM.2.2.1 h0 h1 (k := 0) (by omega) (by omega) (by omega)
      have q1 := pch hM.2.2.1 h0 h1 (k := 1) (by omega) (by omega) (by omega)
      have ff := c4.2.2.2.2.2.1 k hf
      intro hq
      rcases List.mem_append.mp hq with hq | hq
      · exact ih (prt D n 0) p k d q0.1 q0.2.1 hp ff.1 (by omega) q hq
      · exact ih (prt D n 1) p k d q1.1 q1.2.1 hp ff.2 (by omega) q hq
    rw [if_neg e4]
    by_cases e2 : D 10 n = 2
    · rw [if_pos e2]
      by_cases ha : fa e p = -1
      · rw [if_pos ha]; exact own ha
      · rw [if_neg ha]; intro h; cases h
    rw [if_neg e2]
    by_cases e3 : D 10 n = 3
    · rw [if_pos e3]
      have c3 := f3 e3
      have hck := c3.2.2.2.2.2
      by_cases ha : fa e p = -1
      · rw [if_pos ha]; exact own ha
      · rw [if_neg ha]
        by_cases hi : fa e p = D 11 n % 4
        · rw [if_pos hi]
          refine parts 0 (fun i i0 i3 hi2 => ?_)
          have i1 : i < D 2 (D 11 n) := Decidable.byContradiction fun z => hi2 ((hck i i0 i3).2 (by omega))
          have hci := (hck i i0 i3).1 i1
          exact ⟨_, tq_mk hM hP hd3 h0 h1 e3 hp hf hi i0 i1, hci.2.1, hci.2.2⟩
        · rw [if_neg hi]; intro h; cases h
    rw [if_neg e3]
    by_cases e6 : D 10 n = 6
    · rw [if_pos e6]
      have c6 := f6 e6
      have hck := c6.2.2.2.2.2.2
      by_cases ha : fa e p = -1
      · rw [if_pos ha]; exact own ha
      · rw [if_neg ha]
        by_cases hi : fitl D n (fa e p) = true
        · rw [if_pos hi]
          refine parts _ (fun i i0 i3 hi2 => ?_)
          have i1 : i < D 11 n := Decidable.byContradiction fun z => hi2 ((hck i i0 i3).2 (by omega))
          have hci := (hck i i0 i3).1 i1
          exact ⟨4, tq_ls hM hP hd3 h0 h1 e6 hp hf ha hi i0 i1, hci.2.1, hci.2.2⟩
        · rw [if_neg hi]; intro h; cases h
    rw [if_neg e6]
    intro h; cases h
