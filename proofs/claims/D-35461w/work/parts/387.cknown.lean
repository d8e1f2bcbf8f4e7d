/-! COMPONENT: what is known at a node that is being made -/
set_option maxRecDepth 100000
/-- what is known, the first thing asked first -/
def kel : PT → List (Int × Int × Int)
  | [] => []
  | st :: e => kel e ++ (if st.1 = 5 then [(st.2.2.1, -1, st.2.2.2)] else if st.1 = 4 then [(st.2.2.1, st.2.1, st.2.2.2)] else [])
def lko (l : List (Int × Int × Int)) (v p : Int) : Option Int := (l.find? fun x => decide (x.1 = p) && decide (x.2.1 = v)).map fun x => x.2.2
theorem lko_app {l m : List (Int × Int × Int)} {v p : Int} : lko (l ++ m) v p = (lko l v p).or (lko m v p) := by
  unfold lko
  rw [List.find?_append]
  cases l.find? (fun x => decide (x.1 = p) && decide (x.2.1 = v)) <;> simp
theorem lko_1 {x : Int × Int × Int} {v p : Int} : lko [x] v p = if x.1 = p ∧ x.2.1 = v then some x.2.2 else none := by
  unfold lko
  by_cases h : x.1 = p ∧ x.2.1 = v
  · rw [if_pos h, List.find?_cons_of_pos (by simp [h.1, h.2])]; rfl
  · rw [if_neg h, List.find?_cons_of_neg (by simp; exact fun a b => h ⟨a, b⟩)]; rfl
/-- steps that are as steps are -/
def stk (e : PT) : Prop := ∀ st ∈ e, 0 ≤ st.2.2.2 ∧ (st.1 = 4 → 0 ≤ st.2.1)
theorem lko_fa : ∀ {e : PT}, stk e → ∀ p, (lko (kel e) (-1) p = none ∧ fa e p = -1) ∨ (∃ x, 0 ≤ x ∧ lko (kel e) (-1) p = some x ∧ fa e p = x)
  | [], _, p => Or.inl ⟨rfl, rfl⟩
  | st :: e, h, p => by
    have ih := lko_fa (e := e) (fun s hs => h s (List.mem_cons_of_mem _ hs)) p
    have hs := h st List.mem_cons_self
    unfold kel
    rw [lko_app, fa_s]
    rcases ih with ⟨h1, h2⟩ | ⟨x, x0, h1, h2⟩
    · rw [h1, Option.none_or, if_pos h2]
      by_cases h5 : st.1 = 5
      · rw [if_pos h5, lko_1]
        by_cases hp : st.2.2.1 = p
        · rw [if_pos ⟨hp, rfl⟩, if_pos ⟨h5, hp⟩]; exact Or.inr ⟨_, hs.1, rfl, rfl⟩
        · rw [if_neg (fun z => hp z.1), if_neg (fun z => hp z.2)]; exact Or.inl ⟨rfl, rfl⟩
      · rw [if_neg h5, if_neg (show ¬ (st.1 = 5 ∧ st.2.2.1 = p) from fun z => h5 z.1)]
        by_cases h4 : st.1 = 4
        · rw [if_pos h4, lko_1, if_neg (fun z => by have := hs.2 h4; have := z.2; dsimp only at this; omega)]; exact Or.inl ⟨rfl, rfl⟩
        · rw [if_neg h4]; exact Or.inl ⟨rfl, rfl⟩
    · rw [h1, Option.some_or, if_neg (by omega)]; exact Or.inr ⟨x, x0, rfl, h2⟩
theorem lko_fv : ∀ {e : PT}, stk e → ∀ v p, 0 ≤ v → (lko (kel e) v p = none ∧ fv e v p = -1) ∨ (∃ x, 0 ≤ x ∧ lko (kel e) v p = some x ∧ fv e v p = x)
  | [], _, v, p, _ => Or.inl ⟨rfl, rfl⟩
  | st :: e, h, v, p, hv => by
    have ih := lko_fv (e := e) (fun s hs => h s (List.mem_cons_of_mem _ hs)) v p hv
    have hs := h st List.mem_cons_self
    unfold kel
    rw [lko_app, fv_s]
    rcases ih with ⟨h1, h2⟩ | ⟨x, x0, h1, h2⟩
    · rw [h1, Option.none_or, if_pos h2]
      by_cases h5 : st.1 = 5
      · rw [if_pos h5, lko_1, if_neg (fun z => by have := z.2; dsimp only at this; omega), if_neg (by omega)]; exact Or.inl ⟨rfl, rfl⟩
      · rw [if_neg h5]
        by_cases h4 : st.1 = 4
        · rw [if_pos h4, lko_1]
          by_cases hp : st.2.2.1 = p ∧ st.2.1 = v
          · rw [if_pos hp, if_pos ⟨h4, hp.2, hp.1⟩]; exact Or.inr ⟨_, hs.1, rfl, rfl⟩
          · rw [if_neg hp, if_neg (fun z => hp ⟨z.2.2, z.2.1⟩)]; exact Or.inl ⟨rfl, rfl⟩
        · rw [if_neg h4, if_neg (fun z => h4 z.1)]; exact Or.inl ⟨rfl, rfl⟩
    · rw [h1, Option.some_or, if_neg (by omega)]; exact Or.inr ⟨x, x0, rfl, h2⟩
theorem isN_s {D : ZD} {eng : Int} (hM : MI D) : ∀ {e : PT}, isN D eng e → stk e
  | [], _ => fun st h => by cases h
  | s :: e, h => fun st hs => by
    rcases List.mem_cons.mp hs with rfl | hs
    · refine ⟨h.2.2.2.2.1, fun h4 => ?_⟩
      obtain ⟨hN, h1, h2, h3, h5, h6⟩ := h
      rw [nl_inner (by omega)] at h1 h2
      rcases lab_ok hM (isN_P hM e hN).1 eng with z | ⟨c, z, _⟩ | ⟨c, z, _⟩ | ⟨v, q, z, hv, _⟩ | ⟨k, q, z, _⟩
      · rw [z] at h1; dsimp only at h1; omega
      · rw [z] at h1; dsimp only at h1; omega
      · rw [z] at h1; dsimp only at h1; omega
      · rw [z] at h2; dsimp only at h2; omega
      · rw [z] at h1; dsimp only at h1; omega
    · exact isN_s hM h.1 st hs
/-- the component's list of what is known -/
def KL (o : Nat) (G : ZG) (e : PT) : Prop := zsg G o 15 0 = ((kel e).length : Int) ∧ (kel e).length ≤ 600 ∧ ∀ (k : Nat) x, (kel e)[k]? = some x → zsg G o 12 k = x.1 ∧ zsg G o 13 k = x.2.1 ∧ zsg G o 14 k = x.2.2
theorem w4_known {o : Nat} {G : ZG} {e : PT} {v p : Int} {Q : Int → Prop} (h : KL o G e) (hQ : Q ((lko (kel e) v p).getD (-1))) : vX4_knownAt o v p G Q := by
  obtain ⟨h1, h2, h3⟩ := h
  unfold vX4_knownAt
  refine zl1_of (fun k => 0 ≤ k ∧ k ≤ ((kel e).length : Int) ∧ lko (kel e) v p = lko ((kel e).drop k.toNat) v p) (fun k => (((kel e).length : Int) - k).toNat) (fun P k hI hPP => ?_) ⟨by omega, by omega, rfl⟩
  obtain ⟨k0, k1, hk⟩ := hI
  rw [zgF_e, h1]
  dsimp only [zjn]
  refine zbr_i (fun hle => ?_) (fun hgt => ?_)
  · rw [List.drop_eq_nil_of_le (by omega)] at hk
    rw [hk] at hQ
    exact hQ
  · obtain ⟨y, hy⟩ : ∃ y, (kel e)[k.toNat]? = some y := ⟨_, List.getElem?_eq_getElem (by omega)⟩
    have hd : (kel e).drop k.toNat = y :: (kel e).drop (k + 1).toNat := by
      rw [List.drop_eq_getElem_cons (by omega), show (k + 1).toNat = k.toNat + 1 by omega]
      congr 1
      exact (List.getElem?_eq_some_iff.mp hy).2
    have q := h3 _ y hy
    rw [show ((k.toNat : Nat) : Int) = k by omega] at q
    rw [hd, show y :: (kel e).drop (k + 1).toNat = [y] ++ (kel e).drop (k + 1).toNat from rfl, lko_app, lko_1] at hk
    have next : ¬ (y.1 = p ∧ y.2.1 = v) → zlt1 (w32 (k + 1)) fun (x3 : Int) => P x3 := fun hn => by
      rw [if_neg hn, Option.none_or] at hk
      rw [zlt1_e, w32_eq (by omega) (by omega)]
      exact hPP _ ⟨by omega, by omega, hk⟩ (by omega)
    refine zaL_i k0 (by omega) ?_
    rw [q.1]
    refine zbr_i (fun n1 => next (fun z => n1 z.1)) (fun n1 => ?_)
    refine zaL_i k0 (by omega) ?_
    rw [q.2.1]
    refine zbr_i (fun n2 => next (fun z => n2 z.2)) (fun n2 => ?_)
    refine zaL_i k0 (by omega) ?_
    rw [q.2.2]
    rw [if_pos ⟨Decidable.of_not_not n1, Decidable.of_not_not n2⟩, Option.some_or] at hk
    rw [hk] at hQ
    exact hQ
/-- a tree of ours -/
def tob (o : Nat) : Prop := o = 2 ∨ o = 3
/-- matching by what is known, under way -/
def Tu (o : Nat) (G0 G : ZG) : Prop := Fr [o] G0 G ∧ (∀ j i, j ≠ 0 → j ≠ 17 → j ≠ 18 → j ≠ 19 → zsg G o j i = zsg G0 o j i) ∧ ∀ j i, zsr G o j i = zsr G0 o j i
theorem Tu.refl {o : Nat} {G : ZG} (hS : Sep G) : Tu o G G := ⟨Fr.refl _ hS, fun _ _ _ _ _ _ => rfl, fun _ _ => rfl⟩
theorem Tu.ss {o : Nat} {G0 G : ZG} (h : Tu o G0 G) (ho : tob o) {j : Nat} (i v : Int) (hj : j = 0 ∨ j = 17 ∨ j = 18 ∨ j = 19) : Tu o G0 (zss G o j i v) := by
  refine ⟨h.1.ss _ _ _ (by simp) (by unfold tob at ho; omega), fun j' i' j1 j2 j3 j4 => ?_, fun j' i' => by rw [zsr_ss]; exact h.2.2 j' i'⟩
  rw [zsg_ss, if_neg (by omega)]; exact h.2.1 j' i' j1 j2 j3 j4
theorem KL.tu {o : Nat} {G0 G : ZG} {e : PT} (h : KL o G0 e) (t : Tu o G0 G) : KL o G e := by
  obtain ⟨h1, h2, h3⟩ := h
  refine ⟨by rw [t.2.1 15 0 (by omega) (by omega) (by omega) (by omega)]; exact h1, h2, fun k x hx => ?_⟩
  rw [t.2.1 12 k (by omega) (by omega) (by omega) (by omega), t.2.1 13 k (by omega) (by omega) (by omega) (by omega), t.2.1 14 k (by omega) (by omega) (by omega) (by omega)]
  exact h3 k x hx
/-- what was asked last -/
def Aq (o : Nat) (G : ZG) (s : TS) : Prop := zsg G o 17 0 = s.2.2 ∧ zsg G o 18 0 = s.2.1 ∧ zsg G o 19 0 = bb (decide (s.1 = 4))
theorem w4_at {o : Nat} {G0 G : ZG} {e : PT} {p k : Int} {s : TS} {Q : Int → ZG → Prop} (ho : tob o) (hs : stk e) (hK : KL o G0 e) (t : Tu o G0 G) (hQ : ∀ G', Tu o G0 G' → ((tA e p k s).1 = -1 → Aq o G' (tA e p k s).2) → Q (tA e p k s).1 G') : vX4_at o p k G Q := by
  unfold vX4_at
  refine w4_known (hK.tu t) ?_
  have ef : (lko (kel e) (-1) p).getD (-1) = fa e p := by
    rcases lko_fa hs p with ⟨h1, h2⟩ | ⟨x, x0, h1, h2⟩
    · rw [h1, h2]; rfl
    · rw [h1, h2]; rfl
  rw [ef]
  unfold vX4_ask
  dsimp only [zjn]
  refine zbr_i (fun hn => hQ G t (fun z => absurd z hn)) (fun hn => ?_)
  have hn := Decidable.of_not_not hn
  rw [zpF_e, zpF_e, zpF_e]
  refine hQ _ (((t.ss ho _ _ (by omega)).ss ho _ _ (by omega)).ss ho _ _ (by omega)) (fun _ => ?_)
  unfold tA
  rw [if_pos hn]
  refine ⟨?_, ?_, ?_⟩
  · rw [zsg_ss, if_neg (by omega), zsg_ss, if_neg (by omega), zsg_ss, if_pos ⟨rfl, rfl, rfl⟩]
  · rw [zsg_ss, if_neg (by omega), zsg_ss, if_pos ⟨rfl, rfl, rfl⟩]
  · rw [zsg_ss, if_pos ⟨rfl, rfl, rfl⟩]; rfl
theorem w4_seen {o : Nat} {G0 G : ZG} {e : PT} {v p : Int} {s : TS} {Q : Int → ZG → Prop} (ho : tob o) (hs : stk e) (hK : KL o G0 e) (t : Tu o G0 G) (hv : 0 ≤ v) (hQ : ∀ G', Tu o G0 G' → ((tV e v p s).1 = -1 → Aq o G' (tV e v p s).2) → Q (tV e v p s).1 G') : vX4_seen o v p G Q := by
  unfold vX4_seen
  refine w4_known (hK.tu t) ?_
  have ef : (lko (kel e) v p).getD (-1) = fv e v p := by
    rcases lko_fv hs v p hv with ⟨h1, h2⟩ | ⟨x, x0, h1, h2⟩
    · rw [h1, h2]; rfl
    · rw [h1, h2]; rfl
  rw [ef]
  unfold vX4_ask
  dsimp only [zjn]
  refine zbr_i (fun hn => hQ G t (fun z => absurd z hn)) (fun hn => ?_)
  have hn := Decidable.of_not_not hn
  rw [zpF_e, zpF_e, zpF_e]
  refine hQ _ (((t.ss ho _ _ (by omega)).ss ho _ _ (by omega)).ss ho _ _ (by omega)) (fun _ => ?_)
  unfold tV
  rw [if_pos hn]
  refine ⟨?_, ?_, ?_⟩
  · rw [zsg_ss, if_neg (by omega), zsg_ss, if_neg (by omega), zsg_ss, if_pos ⟨rfl, rfl, rfl⟩]
  · rw [zsg_ss, if_neg (by omega), zsg_ss, if_pos ⟨rfl, rfl, rfl⟩]
  · rw [zsg_ss, if_pos ⟨rfl, rfl, rfl⟩]; rfl
/-- a view's pattern and a number that is known -/
theorem w4_holds {o : Nat} {G0 G : ZG} {D : ZD} {td pa pf : Nat → Nat} {x : Int} (hM : MIp D) (hP : CPo G0 D td pa pf) (t : Tu o G0 G) : ∀ (f : Nat) (n : Int) (dd : Nat) (s : TS) (Q : Int → Prop), 0 ≤ n → n < D 9 0 → D 16 n ≤ f → f ≤ dd → Q (bb (hold D (fun s => s) f n x s).1) → vX2_holdsT dd o (some (.inl (pa n.toNat))) x G Q := by
  intro f
  induction f with
  | zero =>
    intro n dd s Q h0 h1 hs
    have := (hM.2.2 n h0 h1).2.2.2.1
    omega
  | succ f ih =>
    intro n dd s Q h0 h1 hs hdd hQ
    obtain ⟨dd, rfl⟩ : ∃ d', dd = d' + 1 := ⟨dd - 1, by omega⟩
    have hpw := hM.2.2 n h0 h1
    have en : ((n.toNat : Nat) : Int) = n := by omega
    have hc0 := (hP.2 n.toNat (by omega)).2.1
    have hc := t.1.hk hc0
    have hE := hold_s D (fun s => s) f n x s
    generalize hold D (fun s => s) (f + 1) n x s = R at hE hQ
    rw [vX2_holdsT_s]
    unfold bX2_holdsT
    refine pcell_k (f := 4) (by rw [en]; exact hpw) hc (by omega) ?_
    rw [en]
    dsimp only [zjn]
    by_cases h4 : D 10 n = 4
    · rw [if_pos h4] at hE
      rw [zbr_bbt (decide_eq_true h4)]
      rw [cls13 (by rw [en]; exact h4), en] at hc hc0
      have c1 := hpw.2.2.2.2.2.2.2.2.2.2.2.2.2.2.2.1 h4
      have q0 := pch hM h0 h1 (k := 0) (by omega) (by omega) (by omega)
      have q1 := pch hM h0 h1 (k := 1) (by omega) (by omega) (by omega)
      refine ⟨zca_i hc.1, zisO_i hc.1, ?_⟩
      unfold vX13_first
      rw [zdR_e hc.1 rfl]
      refine ih _ dd s _ q0.1 q0.2.1 (by omega) (by omega) ?_
      cases hb : (hold D (fun s => s) f (prt D n 0) x s).1 with
      | true =>
        rw [if_pos hb] at hE
        subst hE
        rw [hb] at hQ
        exact zbr_i (fun _ => hQ) (fun z => absurd (show bb true ≠ 0 by simp [bb]) z)
      | false =>
        rw [if_neg (by rw [hb]; simp)] at hE
        subst hE
        refine zbr_i (fun z => absurd rfl z) (fun _ => ⟨zisO_i hc.1, ?_⟩)
        unfold vX13_second
        rw [zdR_e hc.1 rfl]
        refine ih _ dd (hold D (fun s => s) f (prt D n 0) x s).2 _ q1.1 q1.2.1 (by omega) (by omega) ?_
        cases hb2 : (hold D (fun s => s) f (prt D n 1) x (hold D (fun s => s) f (prt D n 0) x s).2).1 with
        | true => rw [hb2] at hQ; exact zbr_i (fun z => by cases z) (fun _ => hQ)
        | false => rw [hb2] at hQ; exact zbr_i (fun _ => hQ) (fun z => absurd rfl z)
    · rw [if_neg h4] at hE
      rw [zbr_bbf (decide_eq_false h4)]
      refine pcell_k (f := 2) (by rw [en]; exact hpw) hc (by omega) ?_
      rw [en]
      by_cases h2 : D 10 n = 2
      · rw [if_pos h2] at hE
        subst hE
        rw [zbr_bbt (decide_eq_true h2)]
        rw [pcell2 (by rw [en]; exact h2), en] at hc hc0
        refine ⟨zca_i hc.1, zisO_i hc.1, ?_⟩
        unfold vX11_holds
        rw [zdI_e hc.1 rfl, zdI_e hc.1 rfl, eX1_inRange]
        dsimp only at hQ
        cases hb : (decide (D 11 n ≤ x) && decide (x ≤ D 12 n)) with
        | true => rw [hb] at hQ; exact zbr_i (fun z => by cases z) (fun _ => hQ)
        | false => rw [hb] at hQ; exact zbr_i (fun _ => hQ) (fun z => absurd rfl z)
      · rw [if_neg h2] at hE
        subst hE
        rw [zbr_bbf (decide_eq_false h2)]
        exact hQ
