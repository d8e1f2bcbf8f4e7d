/-! NAMES AND SIZES of what is laid, in plain terms -/
set_option maxRecDepth 100000
/-- a name is not bound again within its own pattern -/
def LIN (D : ZD) : Prop := ∀ n, 0 ≤ n → n < D 9 0 → D 10 n = 1 → hs (D 17 (prt D n 0)) (D 11 n) = false
theorem hs_nch {D : ZD} {n x : Int} (hpw : PW D n) (x0 : 0 ≤ x) (x5 : x ≤ 5) (h : hs (D 17 n) x = false) : ¬ (D 10 n = 1 ∧ D 11 n = x) ∧ ∀ q ∈ chl D n, hs (D 17 q) x = false := by
  rw [hpw.2.2.2.2.2.2.2.2.2.2.1 x x0 (by omega), Bool.or_eq_false_iff] at h
  refine ⟨fun z => ?_, fun q hq => ?_⟩
  · have := h.1
    rw [decide_eq_true z.1, decide_eq_true z.2] at this
    cases this
  · exact Bool.eq_false_iff.mpr fun z => by
      have := List.any_eq_false.mp h.2 q hq
      exact this z
theorem hs_chl {D : ZD} {n x q : Int} (hpw : PW D n) (x0 : 0 ≤ x) (x5 : x ≤ 5) (hq : q ∈ chl D n) (h : hs (D 17 q) x = true) : hs (D 17 n) x = true := by
  rw [hpw.2.2.2.2.2.2.2.2.2.2.1 x x0 (by omega), Bool.or_eq_true]
  exact Or.inr (List.any_eq_true.mpr ⟨q, hq, h⟩)
theorem hs_own {D : ZD} {n : Int} (hpw : PW D n) (h1 : D 10 n = 1) (x0 : 0 ≤ D 11 n) (x5 : D 11 n ≤ 5) : hs (D 17 n) (D 11 n) = true := by
  rw [hpw.2.2.2.2.2.2.2.2.2.2.1 _ x0 (by omega), Bool.or_eq_true, decide_eq_true h1, decide_eq_true rfl]
  exact Or.inl rfl
theorem chs_mem {D : ZD} {n p j : Int} {c : Int × Int} (h : c ∈ chs D n p j) : ∃ k, 0 ≤ k ∧ k < 3 ∧ prt D n k ≠ -1 ∧ c = (prt D n k, 5 * p + j + k + 1) := by
  unfold chs at h
  obtain ⟨k, hk, e⟩ := List.mem_filterMap.mp h
  by_cases hp : prt D n k = -1
  · rw [if_pos hp] at e; cases e
  · rw [if_neg hp] at e
    refine ⟨k, ?_, ?_, hp, (Option.some.inj e).symm⟩
    · simp at hk; omega
    · simp at hk; omega
theorem chs_chl {D : ZD} {n p j : Int} {c : Int × Int} (h : c ∈ chs D n p j) : c.1 ∈ chl D n := by
  obtain ⟨k, k0, k3, hp, rfl⟩ := chs_mem h
  exact chl_in k0 k3 hp
theorem chs_fst {D : ZD} {n p j : Int} : (chs D n p j).map Prod.fst = chl D n := by
  unfold chs chl
  simp only [List.filterMap_cons, List.filterMap_nil]
  by_cases h0 : prt D n 0 = -1 <;> by_cases h1 : prt D n 1 = -1 <;> by_cases h2 : prt D n 2 = -1 <;> simp [h0, h1, h2]
def szs (D : ZD) (L : List (Int × Int)) : Int := (L.map fun c => D 16 c.1).sum
theorem szs_cons (D : ZD) (c : Int × Int) (L : List (Int × Int)) : szs D (c :: L) = D 16 c.1 + szs D L := by unfold szs; rw [List.map_cons, List.sum_cons]
theorem szs_len {D : ZD} : ∀ {L : List (Int × Int)}, (∀ c ∈ L, 1 ≤ D 16 c.1) → (L.length : Int) ≤ szs D L
  | [], _ => by unfold szs; simp
  | c :: L, h => by
    have a := h c List.mem_cons_self
    have b := szs_len (L := L) fun d hd => h d (List.mem_cons_of_mem _ hd)
    rw [szs_cons, List.length_cons]; omega
theorem szs_chs {D : ZD} {n p j : Int} (hpw : PW D n) : D 16 n = 1 + szs D (chs D n p j) := by
  have h := hpw.2.2.2.2.2.2.2.2.2.1
  rw [← chs_fst (p := p) (j := j), List.map_map] at h
  exact h
def nml (D : ZD) (L : List (Int × Int)) (x : Int) : Bool := L.any fun c => hs (D 17 c.1) x
theorem nml_cons (D : ZD) (c : Int × Int) (L : List (Int × Int)) (x : Int) : nml D (c :: L) x = (hs (D 17 c.1) x || nml D L x) := rfl
theorem al_nm {D : ZD} {σ : Type} {x : Int} {M : Int → Int → σ × (Int → Int) → Int × (σ × (Int → Int))} : ∀ (L : List (Int × Int)), (∀ c ∈ L, ∀ t : σ × (Int → Int), hs (D 17 c.1) x = false → (M c.1 c.2 t).2.2 x = t.2 x) → ∀ t : σ × (Int → Int), nml D L x = false → (al M L t).2.2 x = t.2 x
  | [], _, _, _ => rfl
  | c :: L, h, t, hn => by
    rw [nml_cons, Bool.or_eq_false_iff] at hn
    have hc := h c List.mem_cons_self t hn.1
    rw [al_s]
    by_cases h1 : (M c.1 c.2 t).1 = 1
    · rw [if_pos h1, al_nm L (fun c' hc' => h c' (List.mem_cons_of_mem _ hc')) _ hn.2, hc]
    · rw [if_neg h1, hc]
theorem chs_nml {D : ZD} {n p j x : Int} (h : ∀ q ∈ chl D n, hs (D 17 q) x = false) : nml D (chs D n p j) x = false := by
  unfold nml
  exact List.any_eq_false.mpr fun c hc z => by rw [h _ (chs_chl hc)] at z; cases z
theorem chs_nmt {D : ZD} {n p j x : Int} (hpw : PW D n) (x0 : 0 ≤ x) (x5 : x ≤ 5) (h1 : D 10 n ≠ 1) (h : hs (D 17 n) x = true) : nml D (chs D n p j) x = true := by
  rcases hs_ch hpw x0 x5 h with z | ⟨i, i0, i3, hn, hh⟩
  · exact absurd z.1 h1
  · unfold nml
    refine List.any_eq_true.mpr ⟨(prt D n i, 5 * p + j + i + 1), ?_, hh⟩
    unfold chs
    refine List.mem_filterMap.mpr ⟨i, ?_, by rw [if_neg hn]⟩
    have : i = 0 ∨ i = 1 ∨ i = 2 := by omega
    rcases this with rfl | rfl | rfl <;> simp
/-- names that a pattern does not bind stay -/
theorem mt_nm {σ : Type} {D : ZD} {A V : Int → Int → σ → Int × σ} {C : σ → σ} {x : Int} (hM : MIp D) (x0 : 0 ≤ x) (x5 : x ≤ 5) : ∀ (f : Nat) (n p : Int) (t : σ × (Int → Int)), 0 ≤ n → n < D 9 0 → hs (D 17 n) x = false → (mt D A V C f n p t).2.2 x = t.2 x := by
  intro f
  induction f with
  | zero => intro n p t _ _ _; rfl
  | succ f ih =>
    intro n p t h0 h1 hx
    have hpw := hM.2.2 n h0 h1
    have hn := hs_nch hpw x0 x5 hx
    have ch : ∀ k, 0 ≤ k → k < 3 → prt D n k ≠ -1 → ∀ p t, (mt D A V C f (prt D n k) p t).2.2 x = t.2 x := fun k k0 k3 hk p t => by
      have q := pch hM h0 h1 k0 k3 hk
      exact ih _ p t q.1 q.2.1 (hn.2 _ (chl_in k0 k3 hk))
    have hal : ∀ j t, (al (mt D A V C f) (chs D n p j) t).2.2 x = t.2 x := fun j t => by
      refine al_nm (D := D) _ (fun c hc t _ => ?_) t (chs_nml hn.2)
      obtain ⟨k, k0, k3, hk, rfl⟩ := chs_mem hc
      exact ch k k0 k3 hk _ t
    obtain ⟨hform, -, -, -, -, -, -, -, -, -, -, f0, f1, f2, f3, f4, f5, f6⟩ := id hpw
    rw [mt_s]
    by_cases e1 : D 10 n = 1
    · rw [if_pos e1]
      have c1 := f1 e1
      have h := ch 0 (by omega) (by omega) (by omega) p t
      generalize mt D A V C f (prt D n 0) p t = T at h
      by_cases hT : T.1 = 1
      · rw [if_pos hT]
        show (if x = D 11 n then p else T.2.2 x) = t.2 x
        rw [if_neg (fun z => hn.1 ⟨e1, z.symm⟩), h]
      · rw [if_neg hT, h]
    rw [if_neg e1]
    by_cases e2 : D 10 n = 2
    · rw [if_pos e2]
    rw [if_neg e2]
    by_cases e3 : D 10 n = 3
    · rw [if_pos e3]
      split
      · rfl
      · split
        · rw [hal]
        · rfl
    rw [if_neg e3]
    by_cases e4 : D 10 n = 4
    · rw [if_pos e4]
      have c4 := f4 e4
      have h := ch 0 (by omega) (by omega) (by omega) p t
      generalize mt D A V C f (prt D n 0) p t = T at h
      by_cases hT : T.1 = 0
      · rw [if_pos hT, ch 1 (by omega) (by omega) (by omega) p T.2, h]
      · rw [if_neg hT, h]
    rw [if_neg e4]
    by_cases e5 : D 10 n = 5
    · rw [if_pos e5]
      split
      · rfl
      · rfl
    rw [if_neg e5]
    by_cases e6 : D 10 n = 6
    · rw [if_pos e6]
      split
      · rfl
      · split
        · rw [hal]
        · rfl
    rw [if_neg e6]
