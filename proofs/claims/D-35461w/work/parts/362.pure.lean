/-! MATCHING BY WHAT IS KNOWN, in plain terms -/
set_option maxRecDepth 100000
def pA (a : Int → Int) (p _k : Int) (u : Unit) : Int × Unit := (a p, u)
def pV (w : Int → Int → Int) (v p : Int) (u : Unit) : Int × Unit := (w v p, u)
/-- a case by the facts a and the views w; -1: not known -/
def pca (D : ZD) (a : Int → Int) (w : Int → Int → Int) (c : Int) : Int × (Unit × (Int → Int)) := mca D (pA a) (pV w) (fun u => u) c ()
theorem hold_1 {σ τ : Type} {D : ZD} {C : σ → σ} {C' : τ → τ} : ∀ (f : Nat) (n x : Int) (s : σ) (s' : τ), (hold D C f n x s).1 = (hold D C' f n x s').1
  | 0, _, _, _, _ => rfl
  | f + 1, n, x, s, s' => by
    rw [hold_s, hold_s]
    by_cases h4 : D 10 n = 4
    · rw [if_pos h4, if_pos h4]
      have e := hold_1 (D := D) (C := C) (C' := C') f (prt D n 0) x s s'
      by_cases h : (hold D C f (prt D n 0) x s).1 = true
      · rw [if_pos h, if_pos (by rw [← e]; exact h), e]
      · rw [if_neg h, if_neg (by rw [← e]; exact h)]
        exact hold_1 f _ x _ _
    · rw [if_neg h4, if_neg h4]
      by_cases h2 : D 10 n = 2
      · rw [if_pos h2, if_pos h2]
      · rw [if_neg h2, if_neg h2]
theorem hold_I {σ : Type} {D : ZD} {C : σ → σ} {I : σ → Prop} (hC : ∀ s, I s → I (C s)) : ∀ (f : Nat) (n x : Int) (s : σ), I s → I (hold D C f n x s).2
  | 0, _, _, _, h => h
  | f + 1, n, x, s, hI => by
    rw [hold_s]
    have e := hold_I (D := D) hC f (prt D n 0) x s hI
    split
    · split
      · exact e
      · exact hold_I hC f _ x _ e
    · split
      · exact hC s hI
      · exact hI
/-- what is known suffices: all that know it answer alike -/
def Sim {σ : Type} (I : σ → Prop) (P : Int × (Unit × (Int → Int))) (R : Int × (σ × (Int → Int))) : Prop := R.1 = P.1 ∧ R.2.2 = P.2.2 ∧ I R.2.1
theorem al_sim {σ : Type} {I : σ → Prop} {M : Int → Int → σ × (Int → Int) → Int × (σ × (Int → Int))} {N : Int → Int → Unit × (Int → Int) → Int × (Unit × (Int → Int))} : ∀ (L : List (Int × Int)), (∀ c ∈ L, ∀ s bd, I s → (N c.1 c.2 ((), bd)).1 ≠ 2 → Sim I (N c.1 c.2 ((), bd)) (M c.1 c.2 (s, bd))) →
    ∀ s bd, I s → (al N L ((), bd)).1 ≠ 2 → Sim I (al N L ((), bd)) (al M L (s, bd))
  | [], _, s, bd, hI, _ => ⟨rfl, rfl, hI⟩
  | c :: L, h, s, bd, hI, hn => by
    rw [al_s] at hn
    rw [al_s, al_s]
    by_cases h1 : (N c.1 c.2 ((), bd)).1 = 1
    · rw [if_pos h1] at hn ⊢
      obtain ⟨e1, e2, e3⟩ := h c List.mem_cons_self s bd hI (by omega)
      rw [if_pos (by omega)]
      generalize M c.1 c.2 (s, bd) = R at e1 e2 e3
      generalize N c.1 c.2 ((), bd) = P at e1 e2 hn h1
      obtain ⟨p1, ⟨⟩, pb⟩ := P
      obtain ⟨r1, rs, rb⟩ := R
      dsimp only at e2 e3 ⊢
      subst e2
      exact al_sim L (fun d hd => h d (List.mem_cons_of_mem _ hd)) rs rb e3 hn
    · rw [if_neg h1] at hn ⊢
      have := h c List.mem_cons_self s bd hI hn
      rw [if_neg (by rw [this.1]; exact h1)]
      exact this
theorem mt_sim {σ : Type} {D : ZD} {A V : Int → Int → σ → Int × σ} {C : σ → σ} {I : σ → Prop} {a : Int → Int} {w : Int → Int → Int} (hA : ∀ p k s, I s → a p ≠ -1 → (A p k s).1 = a p ∧ I (A p k s).2) (hV : ∀ v p s, I s → w v p ≠ -1 → (V v p s).1 = w v p ∧ I (V v p s).2) (hC : ∀ s, I s → I (C s)) :
    ∀ (f : Nat) (n p : Int) (s : σ) (bd : Int → Int), I s → (mt D (pA a) (pV w) (fun u => u) f n p ((), bd)).1 ≠ 2 → Sim I (mt D (pA a) (pV w) (fun u => u) f n p ((), bd)) (mt D A V C f n p (s, bd)) := by
  intro f
  induction f with
  | zero => intro n p s bd hI _; exact ⟨rfl, rfl, hI⟩
  | succ f ih =>
    intro n p s bd hI hn
    rw [mt_s] at hn
    rw [mt_s, mt_s]
    by_cases e1 : D 10 n = 1
    · rw [if_pos e1] at hn
      rw [if_pos e1, if_pos e1]
      have h0 := ih (prt D n 0) p s bd hI
      generalize mt D A V C f (prt D n 0) p (s, bd) = R at h0
      generalize mt D (pA a) (pV w) (fun u => u) f (prt D n 0) p ((), bd) = P at h0 hn
      by_cases h1 : P.1 = 1
      · obtain ⟨g1, g2, g3⟩ := h0 (by omega)
        rw [if_pos h1, if_pos (by omega)]
        refine ⟨rfl, ?_, g3⟩
        dsimp only
        rw [g2]
      · rw [if_neg h1] at hn
        obtain ⟨g1, g2, g3⟩ := h0 hn
        rw [if_neg h1, if_neg (by omega)]
        exact ⟨g1, g2, g3⟩
    rw [if_neg e1] at hn
    rw [if_neg e1, if_neg e1]
    have look : ∀ k, (pA a p k ()).1 ≠ -1 → (A p k s).1 = (pA a p k ()).1 ∧ I (A p k s).2 := fun k h => hA p k s hI h
    by_cases e2 : D 10 n = 2
    · rw [if_pos e2] at hn
      rw [if_pos e2, if_pos e2]
      dsimp only at hn ⊢
      by_cases h1 : (pA a p 4 ()).1 = -1
      · rw [if_pos h1] at hn; exact absurd rfl hn
      · obtain ⟨g1, g2⟩ := look 4 h1
        rw [g1]
        exact ⟨rfl, rfl, g2⟩
    rw [if_neg e2] at hn
    rw [if_neg e2, if_neg e2]
    have parts : ∀ j s2, I s2 → (al (mt D (pA a) (pV w) (fun u => u) f) (chs D n p j) ((), bd)).1 ≠ 2 → Sim I (al (mt D (pA a) (pV w) (fun u => u) f) (chs D n p j) ((), bd)) (al (mt D A V C f) (chs D n p j) (s2, bd)) := fun j s2 h2 hn2 => al_sim _ (fun c _ s3 bd3 h3 hn3 => ih c.1 c.2 s3 bd3 h3 hn3) s2 bd h2 hn2
    by_cases e3 : D 10 n = 3
    · rw [if_pos e3] at hn
      rw [if_pos e3, if_pos e3]
      dsimp only at hn ⊢
      by_cases h1 : (pA a p (D 11 n / 4) ()).1 = -1
      · rw [if_pos h1] at hn; exact absurd rfl hn
      · obtain ⟨g1, g2⟩ := look _ h1
        rw [if_neg h1] at hn
        rw [g1, if_neg h1, if_neg h1]
        by_cases h2 : (pA a p (D 11 n / 4) ()).1 = D 11 n % 4
        · rw [if_pos h2] at hn
          rw [if_pos h2, if_pos h2]
          exact parts 0 _ g2 hn
        · rw [if_neg h2, if_neg h2]
          exact ⟨rfl, rfl, g2⟩
    rw [if_neg e3] at hn
    rw [if_neg e3, if_neg e3]
    by_cases e4 : D 10 n = 4
    · rw [if_pos e4] at hn
      rw [if_pos e4, if_pos e4]
      have h0 := ih (prt D n 0) p s bd hI
      generalize mt D A V C f (prt D n 0) p (s, bd) = R at h0
      generalize mt D (pA a) (pV w) (fun u => u) f (prt D n 0) p ((), bd) = P at h0 hn
      by_cases h1 : P.1 = 0
      · obtain ⟨g1, g2, g3⟩ := h0 (by omega)
        rw [if_pos h1] at hn
        rw [if_pos h1, if_pos (by omega)]
        obtain ⟨p1, ⟨⟩, pb⟩ := P
        obtain ⟨r1, rs, rb⟩ := R
        dsimp only at g2 g3 hn ⊢
        subst g2
        exact ih _ p rs rb g3 hn
      · rw [if_neg h1] at hn
        obtain ⟨g1, g2, g3⟩ := h0 hn
        rw [if_neg h1, if_neg (by omega)]
        exact ⟨g1, g2, g3⟩
    rw [if_neg e4] at hn
    rw [if_neg e4, if_neg e4]
    by_cases e5 : D 10 n = 5
    · rw [if_pos e5] at hn
      rw [if_pos e5, if_pos e5]
      dsimp only at hn ⊢
      by_cases h1 : (pV w (D 11 n) p ()).1 = -1
      · rw [if_pos h1] at hn; exact absurd rfl hn
      · obtain ⟨g1, g2⟩ : (V (D 11 n) p s).1 = (pV w (D 11 n) p ()).1 ∧ I (V (D 11 n) p s).2 := hV _ p s hI h1
        rw [g1, if_neg h1, if_neg h1]
        have e := hold_1 (D := D) (C := C) (C' := fun u : Unit => u) 40 (prt D n 0) (pV w (D 11 n) p ()).1 (V (D 11 n) p s).2 (pV w (D 11 n) p ()).2
        have e2 := hold_I (D := D) hC 40 (prt D n 0) (pV w (D 11 n) p ()).1 (V (D 11 n) p s).2 g2
        exact ⟨by dsimp only; rw [e], rfl, e2⟩
    rw [if_neg e5] at hn
    rw [if_neg e5, if_neg e5]
    by_cases e6 : D 10 n = 6
    · rw [if_pos e6] at hn
      rw [if_pos e6, if_pos e6]
      dsimp only at hn ⊢
      by_cases h1 : (pA a p 5 ()).1 = -1
      · rw [if_pos h1] at hn; exact absurd rfl hn
      · obtain ⟨g1, g2⟩ := look 5 h1
        rw [if_neg h1] at hn
        rw [g1, if_neg h1, if_neg h1]
        by_cases h2 : fitl D n (pA a p 5 ()).1 = true
        · rw [if_pos h2] at hn
          rw [if_pos h2, if_pos h2]
          exact parts _ _ g2 hn
        · rw [if_neg h2, if_neg h2]
          exact ⟨rfl, rfl, g2⟩
    rw [if_neg e6, if_neg e6]
    exact ⟨rfl, rfl, hI⟩
theorem mca_sim {σ : Type} {D : ZD} {A V : Int → Int → σ → Int × σ} {C : σ → σ} {I : σ → Prop} {a : Int → Int} {w : Int → Int → Int} (hA : ∀ p k s, I s → a p ≠ -1 → (A p k s).1 = a p ∧ I (A p k s).2) (hV : ∀ v p s, I s → w v p ≠ -1 → (V v p s).1 = w v p ∧ I (V v p s).2) (hC : ∀ s, I s → I (C s)) {c : Int} {s : σ} (hI : I s) (hn : (pca D a w c).1 ≠ 2) : Sim I (pca D a w c) (mca D A V C c s) := by
  have key := fun f => al_sim (I := I) (M := mt D A V C f) (N := mt D (pA a) (pV w) (fun u => u) f) (cols D c) (fun e _ s3 bd3 h3 hn3 => mt_sim hA hV hC f e.1 e.2 s3 bd3 h3 hn3) s (fun _ => -1) hI
  unfold pca mca at hn ⊢
  exact key 40 hn
/-! a run by its own log -/
def fn (L : List (Int × Int × Int)) (v p : Int) : Int := (fnd L v p).getD (-1)
theorem fnd_app {l e : List (Int × Int × Int)} {v p x : Int} (h : fnd l v p = some x) : fnd (l ++ e) v p = some x := by
  unfold fnd at h ⊢
  rw [List.find?_append]
  cases q : l.find? (fun x => decide (x.1 = v) && decide (x.2.1 = p)) with
  | none => rw [q] at h; cases h
  | some y => rw [q] at h; rw [Option.some_or]; exact h
theorem rV_log {D : ZD} {g : Int → Int} {v p : Int} {s : RS} : (∃ e, (rV D g v p s).2.2 = s.2 ++ e) ∧ fnd (rV D g v p s).2.2 v p = some (rV D g v p s).1 := by
  unfold rV
  cases h : fnd s.2 v p with
  | some x => exact ⟨⟨[], by simp⟩, h⟩
  | none =>
    refine ⟨⟨_, rfl⟩, ?_⟩
    dsimp only
    unfold fnd at h ⊢
    rw [Option.map_eq_none_iff] at h
    rw [List.find?_append, h, Option.none_or, List.find?_cons_of_pos (by simp)]; rfl
theorem tick_2 (b : Bool) (s : RS) : (tick b s).2 = s.2 := by unfold tick; cases b <;> rfl
theorem hold_log {D : ZD} {b : Bool} (f : Nat) (n x : Int) (s : RS) : (hold D (tick b) f n x s).2.2 = s.2 := hold_I (I := fun t : RS => t.2 = s.2) (fun t h => by rw [tick_2, h]) f n x s rfl
/-- the answer is by the log at the end, or a later one -/
def Lg (D : ZD) (g : Int → Int) (t : RS × (Int → Int)) (R : Int × (RS × (Int → Int))) (P : List (Int × Int × Int) → Int × (Unit × (Int → Int))) : Prop := (∃ e, R.2.1.2 = t.1.2 ++ e) ∧ ∀ e, R.1 = (P (R.2.1.2 ++ e)).1 ∧ R.2.2 = (P (R.2.1.2 ++ e)).2.2
theorem al_log {D : ZD} {g : Int → Int} {M : Int → Int → RS × (Int → Int) → Int × (RS × (Int → Int))} {N : List (Int × Int × Int) → Int → Int → Unit × (Int → Int) → Int × (Unit × (Int → Int))} : ∀ (L : List (Int × Int)), (∀ c ∈ L, ∀ t, Lg D g t (M c.1 c.2 t) (fun l => N l c.1 c.2 ((), t.2))) →
    ∀ t, Lg D g t (al M L t) (fun l => al (N l) L ((), t.2))
  | [], _, t => ⟨⟨[], by simp [al]⟩, fun _ => ⟨rfl, rfl⟩⟩
  | c :: L, h, t => by
    obtain ⟨⟨e1, h1⟩, h2⟩ := h c List.mem_cons_self t
    have e : ∀ l, al (N l) (c :: L) ((), t.2) = if (N l c.1 c.2 ((), t.2)).1 = 1 then al (N l) L (N l c.1 c.2 ((), t.2)).2 else N l c.1 c.2 ((), t.2) := fun l => al_s _ _ _ _
    unfold Lg
    rw [al_s]
    simp only [e]
    by_cases hc : (M c.1 c.2 t).1 = 1
    · rw [if_pos hc]
      obtain ⟨⟨e3, h3⟩, h4⟩ := al_log L (fun d hd => h d (List.mem_cons_of_mem _ hd)) (M c.1 c.2 t).2
      refine ⟨⟨e1 ++ e3, by rw [h3, h1, List.append_assoc]⟩, fun q => ?_⟩
      have q2 := h2 (e3 ++ q)
      rw [← List.append_assoc, ← h3] at q2
      rw [← q2.1, if_pos hc]
      have q4 := h4 q
      rw [q2.2] at q4
      exact q4
    · rw [if_neg hc]
      refine ⟨⟨e1, h1⟩, fun q => ?_⟩
      have q2 := h2 q
      rw [← q2.1, if_neg hc]
      exact q2
theorem mt_log {D : ZD} {g : Int → Int} {b : Bool} : ∀ (f : Nat) (n p : Int) (t : RS × (Int → Int)), Lg D g t (mt D (rA D g b) (rV D g) (tick b) f n p t) (fun l => mt D (pA (hd D g)) (pV (fn l)) (fun u => u) f n p ((), t.2)) := by
  intro f
  induction f with
  | zero => intro n p t; exact ⟨⟨[], by simp [mt]⟩, fun _ => ⟨rfl, rfl⟩⟩
  | succ f ih =>
    intro n p t
    have hs : ∀ l, mt D (pA (hd D g)) (pV (fn l)) (fun u => u) (f + 1) n p ((), t.2) = _ := fun l => mt_s _ _ _ _ f n p ((), t.2)
    unfold Lg
    rw [mt_s]
    simp only [hs]
    have same : ∀ (k : Int), (rA D g b p k t.1).1 = hd D g p ∧ (rA D g b p k t.1).2.2 = t.1.2 := fun k => ⟨rfl, tick_2 b t.1⟩
    have pa : ∀ k u, (pA (hd D g) p k u).1 = hd D g p := fun _ _ => rfl
    by_cases e1 : D 10 n = 1
    · simp only [if_pos e1]
      obtain ⟨⟨e, h1⟩, h2⟩ := ih (prt D n 0) p t
      by_cases hc : (mt D (rA D g b) (rV D g) (tick b) f (prt D n 0) p t).1 = 1
      · simp only [if_pos hc]
        refine ⟨⟨e, h1⟩, fun q => ?_⟩
        have q2 := h2 q
        rw [if_pos (by rw [← q2.1]; exact hc)]
        refine ⟨rfl, ?_⟩
        dsimp only
        rw [q2.2]
      · simp only [if_neg hc]
        refine ⟨⟨e, h1⟩, fun q => ?_⟩
        have q2 := h2 q
        rw [if_neg (by rw [← q2.1]; exact hc)]
        exact q2
    simp only [if_neg e1]
    by_cases e2 : D 10 n = 2
    · simp only [if_pos e2]
      exact ⟨⟨[], by rw [(same 4).2]; simp⟩, fun _ => by constructor <;> trivial⟩
    simp only [if_neg e2]
    have parts : ∀ j k, Lg D g t (al (mt D (rA D g b) (rV D g) (tick b) f) (chs D n p j) ((rA D g b p k t.1).2, t.2)) (fun l => al (mt D (pA (hd D g)) (pV (fn l)) (fun u => u) f) (chs D n p j) ((), t.2)) := fun j k => by
      have := al_log (D := D) (g := g) (M := mt D (rA D g b) (rV D g) (tick b) f) (N := fun l => mt D (pA (hd D g)) (pV (fn l)) (fun u => u) f) (chs D n p j) (fun c _ t => ih c.1 c.2 t) ((rA D g b p k t.1).2, t.2)
      unfold Lg at this ⊢
      dsimp only at this
      rw [(same k).2] at this
      exact this
    by_cases e3 : D 10 n = 3
    · simp only [if_pos e3, (same _).1, pa]
      by_cases h1 : hd D g p = -1
      · simp only [if_pos h1]
        exact ⟨⟨[], by rw [(same _).2]; simp⟩, fun _ => by constructor <;> trivial⟩
      · simp only [if_neg h1]
        by_cases h2 : hd D g p = D 11 n % 4
        · simp only [if_pos h2]
          exact parts 0 _
        · simp only [if_neg h2]
          exact ⟨⟨[], by rw [(same _).2]; simp⟩, fun _ => by constructor <;> trivial⟩
    simp only [if_neg e3]
    by_cases e4 : D 10 n = 4
    · simp only [if_pos e4]
      obtain ⟨⟨e, h1⟩, h2⟩ := ih (prt D n 0) p t
      by_cases hc : (mt D (rA D g b) (rV D g) (tick b) f (prt D n 0) p t).1 = 0
      · simp only [if_pos hc]
        obtain ⟨⟨e3, h3⟩, h4⟩ := ih (prt D n 1) p (mt D (rA D g b) (rV D g) (tick b) f (prt D n 0) p t).2
        refine ⟨⟨e ++ e3, by rw [h3, h1, List.append_assoc]⟩, fun q => ?_⟩
        have q2 := h2 (e3 ++ q)
        rw [← List.append_assoc, ← h3] at q2
        rw [if_pos (by rw [← q2.1]; exact hc)]
        have q4 := h4 q
        dsimp only at q4
        rw [q2.2] at q4
        exact q4
      · simp only [if_neg hc]
        refine ⟨⟨e, h1⟩, fun q => ?_⟩
        have q2 := h2 q
        rw [if_neg (by rw [← q2.1]; exact hc)]
        exact q2
    simp only [if_neg e4]
    by_cases e5 : D 10 n = 5
    · simp only [if_pos e5]
      obtain ⟨⟨e, h1⟩, h2⟩ := rV_log (D := D) (g := g) (v := D 11 n) (p := p) (s := t.1)
      have pv : ∀ l u, (pV (fn l) (D 11 n) p u).1 = fn l (D 11 n) p := fun _ _ => rfl
      simp only [pv]
      generalize rV D g (D 11 n) p t.1 = R at h1 h2
      have hf : ∀ q, fn (R.2.2 ++ q) (D 11 n) p = R.1 := fun q => by unfold fn; rw [fnd_app h2]; rfl
      by_cases hx : R.1 = -1
      · simp only [if_pos hx]
        exact ⟨⟨e, h1⟩, fun q => by rw [hf q, if_pos hx]; exact ⟨rfl, rfl⟩⟩
      · simp only [if_neg hx]
        refine ⟨⟨e, by rw [hold_log, h1]⟩, fun q => ?_⟩
        rw [hold_log, hf q, if_neg hx]
        exact ⟨by dsimp only; rw [hold_1 (C' := fun u : Unit => u) 40 (prt D n 0) R.1 R.2 ()], rfl⟩
    simp only [if_neg e5]
    by_cases e6 : D 10 n = 6
    · simp only [if_pos e6, (same _).1, pa]
      by_cases h1 : hd D g p = -1
      · simp only [if_pos h1]
        exact ⟨⟨[], by rw [(same _).2]; simp⟩, fun _ => by constructor <;> trivial⟩
      · simp only [if_neg h1]
        by_cases h2 : fitl D n (hd D g p) = true
        · simp only [if_pos h2]
          exact parts _ _
        · simp only [if_neg h2]
          exact ⟨⟨[], by rw [(same _).2]; simp⟩, fun _ => by constructor <;> trivial⟩
    simp only [if_neg e6]
    exact ⟨⟨[], by simp⟩, fun _ => by constructor <;> trivial⟩
/-- a case of a run, by the log at the end -/
theorem rmc_log {D : ZD} {g : Int → Int} {b : Bool} {c : Int} {s : RS} : (∃ e, (rmc D g b c s).2.1.2 = s.2 ++ e) ∧ ∀ e, (rmc D g b c s).1 = (pca D (hd D g) (fn ((rmc D g b c s).2.1.2 ++ e)) c).1 ∧ (rmc D g b c s).2.2 = (pca D (hd D g) (fn ((rmc D g b c s).2.1.2 ++ e)) c).2.2 := by
  have key := fun f => al_log (D := D) (g := g) (M := mt D (rA D g b) (rV D g) (tick b) f) (N := fun l => mt D (pA (hd D g)) (pV (fn l)) (fun u => u) f) (cols D c) (fun e _ t => mt_log f e.1 e.2 t) (s, fun _ => -1)
  unfold rmc pca mca
  exact key 40
/-- a case held against a log that has all views that it needs: nothing is run anew -/
theorem rmc_rep {D : ZD} {g : Int → Int} {b : Bool} {c : Int} {s : RS} (h : (pca D (hd D g) (fn s.2) c).1 ≠ 2) : Sim (fun t : RS => t.2 = s.2) (pca D (hd D g) (fn s.2) c) (rmc D g b c s) := by
  unfold rmc
  exact mca_sim (D := D) (A := rA D g b) (V := rV D g) (C := tick b) (a := hd D g) (w := fn s.2) (I := fun t : RS => t.2 = s.2) (fun p k t ht _ => ⟨rfl, by show (tick b t).2 = s.2; rw [tick_2, ht]⟩) (fun v p t ht hw => by
    unfold fn at hw ⊢
    unfold rV
    rw [ht]
    cases hf : fnd s.2 v p with
    | none => rw [hf] at hw; exact absurd rfl hw
    | some x => exact ⟨rfl, ht⟩) (fun t ht => by rw [tick_2, ht]) rfl h
/-- what is not counted changes nothing but the log -/
theorem mono_pca {D : ZD} {a a' : Int → Int} {w w' : Int → Int → Int} {c : Int} (ha : ∀ p, a p ≠ -1 → a' p = a p) (hw : ∀ v p, w v p ≠ -1 → w' v p = w v p) (h : (pca D a w c).1 ≠ 2) : (pca D a' w' c).1 = (pca D a w c).1 ∧ (pca D a' w' c).2.2 = (pca D a w c).2.2 := by
  have := mca_sim (D := D) (A := pA a') (V := pV w') (C := fun u => u) (a := a) (w := w) (I := fun _ => True) (fun p k s _ q => ⟨ha p q, trivial⟩) (fun v p s _ q => ⟨hw v p q, trivial⟩) (fun _ _ => trivial) (s := ()) trivial h
  exact ⟨this.1, this.2.1⟩
