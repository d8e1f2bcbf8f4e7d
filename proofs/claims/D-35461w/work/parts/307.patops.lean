/-! COMPONENT: the patterns' operations -/
set_option maxRecDepth 100000
theorem CD.pats {G K : ZG} {D : ZD} (hC : CD G D) (hF : Fr [] G K) : ∃ td pa pf : Nat → Nat, Lst K 9 (refs (D 9 0) td) ∧ CPo K D td pa pf := (hC.of hF).2.2.2.1
theorem e9sz {K : ZG} {D : ZD} {td : Nat → Nat} (hM : MI D) (hL : Lst K 9 (refs (D 9 0) td)) : zsg K 9 2 0 = D 9 0 := by
  rw [hL.1, refs_len]; have := hM.2.2.1.1; omega
theorem sX1_requirePattern {G : ZG} {D : ZD} {td : Nat → Nat} {n : Int} {X : Nat → ZG → Prop} {Q : Unit → Prop} (hM : MI D) (hL : Lst G 9 (refs (D 9 0) td)) (hX : ¬ (0 ≤ n ∧ n < D 9 0) → X 0 G) (hQ : 0 ≤ n ∧ n < D 9 0 → Q ()) : vX1_requirePattern n G X Q := by
  have m9 : 0 ≤ D 9 0 ∧ D 9 0 ≤ 60 := ⟨hM.2.2.1.1, hM.2.2.1.2.1⟩
  simp only [vX1_requirePattern, eJ2_size, e9sz hM hL, eX1_inRange, eX1_reqI]
  rw [w32_eq (by omega) (by omega)]
  by_cases h : 0 ≤ n ∧ n < D 9 0
  · rw [if_pos (by simp; omega)]; exact hQ h
  · rw [if_neg (by simp; omega)]; exact hX h
theorem pa_new {G K : ZG} {D : ZD} {td pa pf : Nat → Nat} {x : Nat} (hP : CPo G D td pa pf) (hx : zsj G x = none) : ∀ i : Nat, (i : Int) < D 9 0 → pa i ≠ x := fun i hi e => by
  have := (hP.2 i hi).2.1.1
  rw [e, hx] at this; cases this
theorem k1_any {G : ZG} {D : ZD} {X : Nat → ZG → Prop} {Q : Int → ZG → Prop} (hC : CD G D) (hM : MI D)
    (hX : D 9 0 = 60 → ∀ G', Fr [] G G' → X 2 G')
    (hQ : D 9 0 < 60 → ∀ G', Fr [9] G G' → CD G' (addP D (pv 0 0 0 (-1) 1 1 0 0 1) (-1) (-1) (-1)) → Q (D 9 0) G') : vX1_any G X Q := by
  have hS := hC.1
  have m9 : 0 ≤ D 9 0 ∧ D 9 0 ≤ 60 := ⟨hM.2.2.1.1, hM.2.2.1.2.1⟩
  have e9n : (((D 9 0).toNat : Nat) : Int) = D 9 0 := by omega
  intro x hx
  refine ⟨⟨x, rfl⟩, ⟨⟨x, rfl⟩, ⟨⟨x, rfl⟩, ?_⟩⟩⟩
  have f1 := (Fr.refl [] hS).new hS (c := .inr (.inr (8, zdf 8))) hx
  have h1 := f1.hi (by simp) hS hx (zsj_eq _ _ _) (imm_obj (c := 8) (fs := zdf 8) (by omega))
  obtain ⟨td, pa, pf, hL, hP⟩ := hC.2.2.2.1
  have hL1 := f1.lst ⟨by omega, by omega⟩ (by simp) hL
  refine pAdd (v := pv 0 0 0 (-1) 1 1 0 0 1) (a := -1) (b := -1) (c := -1) (y := 0) hC hM f1 hL1 (hP.fr f1 (fun _ _ => rfl)) ?_ (pa_new (K := G) hP hx) (fun q => by rcases q with q | q <;> cases q) (fun q => absurd ⟨by decide, by decide⟩ q) (fun _ q => hX q _ f1) (fun _ q G' f c => hQ q G' f c)
  unfold pcell
  rw [e9n, addP_n (j := 10) (by omega)]
  exact h1
theorem k1_range {G : ZG} {D : ZD} {a b : Int} {X : Nat → ZG → Prop} {Q : Int → ZG → Prop} (hC : CD G D) (hM : MI D)
    (hA : ¬ ((0 ≤ a ∧ a ≤ 9) ∧ a ≤ b ∧ b ≤ 9) → X 1 G) (hX : (0 ≤ a ∧ a ≤ 9) ∧ a ≤ b ∧ b ≤ 9 → D 9 0 = 60 → ∀ G', Fr [] G G' → X 2 G')
    (hQ : (0 ≤ a ∧ a ≤ 9) ∧ a ≤ b ∧ b ≤ 9 → D 9 0 < 60 → ∀ G', Fr [9] G G' → CD G' (addP D (pv 2 a b 4 1 1 0 0 1) (-1) (-1) (-1)) → Q (D 9 0) G') : vX1_range a b G X Q := by
  have hS := hC.1
  have m9 : 0 ≤ D 9 0 ∧ D 9 0 ≤ 60 := ⟨hM.2.2.1.1, hM.2.2.1.2.1⟩
  have e9n : (((D 9 0).toNat : Nat) : Int) = D 9 0 := by omega
  simp only [vX1_range, eX1_inRange, zjn_e, reqA0, reqA1, bb0, zbr_or, Bool.and_eq_false_iff, decide_eq_false_iff_not]
  refine zbr_i (fun h => hA (by omega)) (fun h => ?_)
  have h : (0 ≤ a ∧ a ≤ 9) ∧ a ≤ b ∧ b ≤ 9 := by omega
  intro x hx
  have f1 := (Fr.refl [] hS).new hS (c := .inr (.inr (11, [.inl a, .inl b]))) hx
  have h1 := f1.hi (by simp) hS hx (zsj_eq _ _ _) (imm_obj (c := 11) (by omega))
  refine ⟨⟨x, rfl⟩, sX11_init (zsj_eq _ _ _) ?_⟩
  rw [zsc_zsc]
  obtain ⟨td, pa, pf, hL, hP⟩ := hC.2.2.2.1
  have hL1 := f1.lst ⟨by omega, by omega⟩ (by simp) hL
  refine pAdd (v := pv 2 a b 4 1 1 0 0 1) (a := -1) (b := -1) (c := -1) (y := 0) hC hM f1 hL1 (hP.fr f1 (fun _ _ => rfl)) ?_ (pa_new (K := G) hP hx) (fun q => by rcases q with q | q <;> cases q) (fun q => absurd ⟨show (1 : Int) ≤ 40 by decide, show (1 : Int) ≤ 4 by decide⟩ q) (fun _ q => hX h q _ f1) (fun _ q G' f c => hQ h q G' f c)
  unfold pcell
  rw [e9n, addP_n (j := 10) (by omega), addP_n (j := 11) (by omega), addP_n (j := 12) (by omega)]
  exact h1
theorem k1_name {G : ZG} {D : ZD} {n p : Int} {X : Nat → ZG → Prop} {Q : Int → ZG → Prop} (hC : CD G D) (hM : MI D)
    (hX0 : ¬ ((0 ≤ n ∧ n ≤ 5) ∧ 0 ≤ p ∧ p < D 9 0) → X 0 G)
    (hX1 : (0 ≤ n ∧ n ≤ 5) ∧ 0 ≤ p ∧ p < D 9 0 → ¬ (hs (D 17 p) n = false ∧ D 16 p + 1 ≤ 40) → ∀ G', Fr [] G G' → X 1 G')
    (hX2 : (0 ≤ n ∧ n ≤ 5) ∧ 0 ≤ p ∧ p < D 9 0 → hs (D 17 p) n = false ∧ D 16 p + 1 ≤ 40 → D 9 0 = 60 → ∀ G', Fr [] G G' → X 2 G')
    (hQ : (0 ≤ n ∧ n ≤ 5) ∧ 0 ≤ p ∧ p < D 9 0 → hs (D 17 p) n = false ∧ D 16 p + 1 ≤ 40 → D 9 0 < 60 → ∀ G', Fr [9] G G' →
      CD G' (addP D (pv 1 n 0 (D 14 p) (D 15 p) (D 16 p + 1) (bOr (D 17 p) (bShl 1 n)) (D 18 p) 0) p (-1) (-1)) → Q (D 9 0) G') : vX1_name n p G X Q := by
  have hS := hC.1
  have m9 : 0 ≤ D 9 0 ∧ D 9 0 ≤ 60 := ⟨hM.2.2.1.1, hM.2.2.1.2.1⟩
  have e9n : (((D 9 0).toNat : Nat) : Int) = D 9 0 := by omega
  obtain ⟨td, pa, pf, hL, hP⟩ := hC.2.2.2.1
  simp only [vX1_name, eX1_inRange, eX1_reqI]
  by_cases hn : 0 ≤ n ∧ n ≤ 5
  · rw [if_pos (by simp; omega)]
    refine sX1_requirePattern hM hL (fun q => hX0 (by omega)) (fun hp => ?_)
    have hh := And.intro hn hp
    refine sX1_told hL hP hp.1 hp.2 (fun ht => ⟨zisO_i ht.1, ?_⟩)
    have hpw := hM.2.2.1.2.2 p hp.1 hp.2
    rw [Tl.names ht, eX1_has, zjn_e]
    rw [zbr_ite]
    by_cases hb : hs (D 17 p) n = true
    · rw [if_pos (by rw [hb]; simp [bb])]
      dsimp only
      rw [reqA0]
      exact hX1 hh (fun q => by rw [hb] at q; cases q.1) G (Fr.refl _ hS)
    · have hb : hs (D 17 p) n = false := by simpa using hb
      rw [if_neg (by rw [hb]; simp [bb])]
      dsimp only
      rw [reqA1]
      intro x hx
      have f0 := (Fr.refl [] hS).new hS (c := .inr (.inr (10, zdf 10))) hx
      have t0 := f0.hk ht
      refine ⟨zisO_i t0.1, ?_⟩
      rw [Tl.pat t0]
      have f1 := (Fr.refl [] hS).new hS (c := .inr (.inr (10, [.inl n, .inr (some (.inl (pa p.toNat)))]))) hx
      have h1 := f1.hi (by simp) hS hx (zsj_eq _ _ _) (imm_obj (c := 10) (by omega))
      have t1 := f1.hk ht
      refine ⟨⟨x, rfl⟩, sX10_init (zsj_eq _ _ _) ?_⟩
      rw [zsc_zsc]
      refine ⟨zisO_i t1.1, ?_⟩
      rw [Tl.kind t1]
      refine ⟨zisO_i t1.1, ?_⟩
      rw [Tl.names t1]
      refine ⟨zisO_i t1.1, ?_⟩
      rw [Tl.depth t1]
      refine ⟨zisO_i t1.1, ?_⟩
      rw [Tl.size t1]
      refine ⟨zisO_i t1.1, ?_⟩
      rw [Tl.pure t1 hpw.2.2.2.2.2.1, w32_eq (by have := hpw.2.2.2.1; omega) (by have := hpw.2.2.2.1; omega)]
      have hL1 := f1.lst ⟨by omega, by omega⟩ (by simp) hL
      refine pAdd (v := pv 1 n 0 (D 14 p) (D 15 p) (D 16 p + 1) (bOr (D 17 p) (bShl 1 n)) (D 18 p) 0) (a := p) (b := -1) (c := -1) (y := 0) hC hM f1 hL1 (hP.fr f1 (fun _ _ => rfl)) ?_ (pa_new (K := G) hP hx) (fun q => by rcases q with q | q <;> cases q)
        (fun q => hX1 hh (fun z => q ⟨z.2, hpw.2.2.1.2⟩) _ f1) (fun z q => hX2 hh ⟨hb, z.1⟩ q _ f1) (fun z q G' f c => hQ hh ⟨hb, z.1⟩ q G' f c)
      unfold pcell
      rw [e9n, addP_n (j := 10) (by omega), addP_n (j := 11) (by omega), addP_13n (by omega) (by omega), pk0, snoc_lt (by omega)]
      exact h1
  · rw [if_neg (by simp; omega)]
    exact hX0 (by omega)
theorem k1_view {G : ZG} {D : ZD} {n p : Int} {X : Nat → ZG → Prop} {Q : Int → ZG → Prop} (hC : CD G D) (hM : MI D)
    (hX0 : ¬ ((0 ≤ n ∧ n ≤ 2) ∧ 0 ≤ p ∧ p < D 9 0) → X 0 G)
    (hX1 : (0 ≤ n ∧ n ≤ 2) ∧ 0 ≤ p ∧ p < D 9 0 → ¬ (D 19 p = 1 ∧ D 16 p + 1 ≤ 40) → ∀ G', Fr [] G G' → X 1 G')
    (hX2 : (0 ≤ n ∧ n ≤ 2) ∧ 0 ≤ p ∧ p < D 9 0 → D 19 p = 1 ∧ D 16 p + 1 ≤ 40 → D 9 0 = 60 → ∀ G', Fr [] G G' → X 2 G')
    (hQ : (0 ≤ n ∧ n ≤ 2) ∧ 0 ≤ p ∧ p < D 9 0 → D 19 p = 1 ∧ D 16 p + 1 ≤ 40 → D 9 0 < 60 → ∀ G', Fr [9] G G' →
      CD G' (addP D (pv 5 n 0 (-1) (D 15 p) (D 16 p + 1) 0 1 0) p (-1) (-1)) → Q (D 9 0) G') : vX1_view n p G X Q := by
  have hS := hC.1
  have m9 : 0 ≤ D 9 0 ∧ D 9 0 ≤ 60 := ⟨hM.2.2.1.1, hM.2.2.1.2.1⟩
  have e9n : (((D 9 0).toNat : Nat) : Int) = D 9 0 := by omega
  obtain ⟨td, pa, pf, hL, hP⟩ := hC.2.2.2.1
  simp only [vX1_view, eX1_inRange, eX1_reqI]
  by_cases hn : 0 ≤ n ∧ n ≤ 2
  · rw [if_pos (by simp; omega)]
    refine sX1_requirePattern hM hL (fun q => hX0 (by omega)) (fun hp => ?_)
    have hh := And.intro hn hp
    refine sX1_told hL hP hp.1 hp.2 (fun ht => ⟨zisO_i ht.1, ?_⟩)
    have hpw := hM.2.2.1.2.2 p hp.1 hp.2
    rw [Tl.num ht hpw.2.2.2.2.2.2.1]
    by_cases hb : D 19 p = 1
    · rw [hb, reqA1]
      intro x hx
      have f0 := (Fr.refl [] hS).new hS (c := .inr (.inr (14, zdf 14))) hx
      have t0 := f0.hk ht
      refine ⟨zisO_i t0.1, ?_⟩
      rw [Tl.pat t0]
      have f1 := (Fr.refl [] hS).new hS (c := .inr (.inr (14, [.inl n, .inr (some (.inl (pa p.toNat)))]))) hx
      have h1 := f1.hi (by simp) hS hx (zsj_eq _ _ _) (imm_obj (c := 14) (by omega))
      have t1 := f1.hk ht
      refine ⟨⟨x, rfl⟩, sX14_init (zsj_eq _ _ _) ?_⟩
      rw [zsc_zsc]
      refine ⟨zisO_i t1.1, ?_⟩
      rw [Tl.depth t1]
      refine ⟨zisO_i t1.1, ?_⟩
      rw [Tl.size t1, w32_eq (by have := hpw.2.2.2.1; omega) (by have := hpw.2.2.2.1; omega)]
      have hL1 := f1.lst ⟨by omega, by omega⟩ (by simp) hL
      refine pAdd (v := pv 5 n 0 (-1) (D 15 p) (D 16 p + 1) 0 1 0) (a := p) (b := -1) (c := -1) (y := 0) hC hM f1 hL1 (hP.fr f1 (fun _ _ => rfl)) ?_ (pa_new (K := G) hP hx) (fun q => by rcases q with q | q <;> cases q)
        (fun q => hX1 hh (fun z => q ⟨z.2, hpw.2.2.1.2⟩) _ f1) (fun z q => hX2 hh ⟨hb, z.1⟩ q _ f1) (fun z q G' f c => hQ hh ⟨hb, z.1⟩ q G' f c)
      unfold pcell
      rw [e9n, addP_n (j := 10) (by omega), addP_n (j := 11) (by omega), addP_13n (by omega) (by omega), pk0, snoc_lt (by omega)]
      exact h1
    · rw [show D 19 p = 0 by have := hpw.2.2.2.2.2.2.1; omega, reqA0]
      exact hX1 hh (fun q => hb q.1) G (Fr.refl _ hS)
  · rw [if_neg (by simp; omega)]
    exact hX0 (by omega)
