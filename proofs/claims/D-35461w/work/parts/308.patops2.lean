/-! COMPONENT: alternatives, patterns of parts -/
set_option maxRecDepth 100000
def altb (D : ZD) (a b : Int) : Bool := (decide (D 14 a = -1) || fkb D b (D 14 a)) && (decide (D 17 a = D 17 b) && decide (D 16 a + D 16 b < 40))
theorem sX1_canBeEither {G : ZG} {D : ZD} {x y : Nat} {a b : Int} {p q : Nat} {Q : Int → Prop} (h1 : HI G x (tlc D a p)) (h2 : HI G y (tlc D b q)) (s1 : 1 ≤ D 16 a ∧ D 16 a ≤ 40) (s2 : 1 ≤ D 16 b ∧ D 16 b ≤ 40) (hQ : Q (bb (altb D a b))) : vX1_canBeEither (some (.inl x)) (some (.inl y)) G Q := by
  unfold vX1_canBeEither
  dsimp only [zjn]
  refine ⟨zisO_i h1.1, ?_⟩
  rw [Tl.kind h1]
  have hrest : ∀ z : Int, z = bb (decide (D 14 a = -1) || fkb D b (D 14 a)) → zbr (z = 0) (Q 0) (zisO G (some (.inl x)) 9 ∧ vX9_names (some (.inl x)) G fun x4 => zisO G (some (.inl y)) 9 ∧ vX9_names (some (.inl y)) G fun x6 => zbr (x4 ≠ x6) (Q 0) (zisO G (some (.inl x)) 9 ∧ vX9_size (some (.inl x)) G fun x8 => zisO G (some (.inl y)) 9 ∧ vX9_size (some (.inl y)) G fun x10 => zbr (40 ≤ w32 (x8 + x10)) (Q 0) (Q 1))) := by
    rintro z rfl
    unfold altb at hQ
    refine zbr_i (fun hz => ?_) (fun hz => ⟨zisO_i h1.1, ?_⟩)
    · rw [bb0] at hz; rw [hz] at hQ; exact hQ
    · have hz : (decide (D 14 a = -1) || fkb D b (D 14 a)) = true := by
        rw [bb0] at hz
        revert hz
        cases (decide (D 14 a = -1) || fkb D b (D 14 a)) <;> simp
      rw [hz, Bool.true_and] at hQ
      rw [Tl.names h1]
      refine ⟨zisO_i h2.1, ?_⟩
      rw [Tl.names h2]
      refine zbr_i (fun hn => ?_) (fun hn => ⟨zisO_i h1.1, ?_⟩)
      · rw [decide_eq_false hn] at hQ; exact hQ
      · rw [decide_eq_true (Decidable.of_not_not hn), Bool.true_and] at hQ
        rw [Tl.size h1]
        refine ⟨zisO_i h2.1, ?_⟩
        rw [Tl.size h2, w32_eq (by omega) (by omega)]
        refine zbr_i (fun hs => ?_) (fun hs => ?_)
        · rw [decide_eq_false (by omega)] at hQ; exact hQ
        · rw [decide_eq_true (by omega)] at hQ; exact hQ
  refine zbr_i (fun h => hrest 1 (by rw [decide_eq_true h]; rfl)) (fun h => ⟨zisO_i h1.1, ?_⟩)
  rw [Tl.kind h1]
  refine ⟨zisO_i h2.1, ?_⟩
  rw [Tl.fits h2]
  refine zbr_i (fun hf => hrest 0 ?_) (fun hf => hrest 1 ?_)
  · rw [bb0] at hf; rw [decide_eq_false h, hf]; rfl
  · rw [bb0] at hf
    have hf : fkb D b (D 14 a) = true := by simpa using hf
    rw [decide_eq_false h, hf]; rfl
def eiv (D : ZD) (a b : Int) : Nat → Int := pv 4 0 0 (if D 14 a = -1 then D 14 b else D 14 a) (if D 15 a < D 15 b then D 15 b else D 15 a) (D 16 a + D 16 b + 1) (D 17 a) (if D 18 a = 1 ∨ D 18 b = 1 then 1 else 0) (if D 19 a = 1 ∧ D 19 b = 1 then 1 else 0)
theorem sX1_addEither {G : ZG} {D : ZD} {td pa pf : Nat → Nat} {a b : Int} {X : Nat → ZG → Prop} {Q : Int → ZG → Prop} (hC : CD G D) (hM : MI D) (hL : Lst G 9 (refs (D 9 0) td)) (hP : CPo G D td pa pf)
    (ha : 0 ≤ a ∧ a < D 9 0) (hb : 0 ≤ b ∧ b < D 9 0) (hsz : D 16 a + D 16 b < 40)
    (hX2 : D 9 0 = 60 → ∀ G', Fr [] G G' → X 2 G') (hQ : D 9 0 < 60 → ∀ G', Fr [9] G G' → CD G' (addP D (eiv D a b) a b (-1)) → Q (D 9 0) G') :
    vX1_addEither (some (.inl (td a.toNat))) (some (.inl (td b.toNat))) G X Q := by
  have hS := hC.1
  have m9 : 0 ≤ D 9 0 ∧ D 9 0 ≤ 60 := ⟨hM.2.2.1.1, hM.2.2.1.2.1⟩
  have e9n : (((D 9 0).toNat : Nat) : Int) = D 9 0 := by omega
  have pwa := hM.2.2.1.2.2 a ha.1 ha.2
  have pwb := hM.2.2.1.2.2 b hb.1 hb.2
  have h1 := (hP.2 a.toNat (by omega)).1
  have h2 := (hP.2 b.toNat (by omega)).1
  rw [show ((a.toNat : Nat) : Int) = a by omega] at h1
  rw [show ((b.toNat : Nat) : Int) = b by omega] at h2
  simp only [vX1_addEither, zjn_e]
  refine ⟨zisO_i h1.1, ?_⟩
  rw [Tl.kind h1]
  have main : ∀ z : Int, z = (if D 14 a = -1 then D 14 b else D 14 a) → znw G (.inr (.inr (13, zdf 13))) fun (x3 : ZR) (G1 : ZG) => zisO G1 (some (.inl (td a.toNat))) 9 ∧ vX9_pattern (some (.inl (td a.toNat))) G1 fun (x5 : ZR) => zisO G1 (some (.inl (td b.toNat))) 9 ∧ vX9_pattern (some (.inl (td b.toNat))) G1 fun (x7 : ZR) => znn x3 ∧ vX13_init x3 x5 x7 G1 fun (G2 : ZG) => zisO G2 (some (.inl (td a.toNat))) 9 ∧ vX9_names (some (.inl (td a.toNat))) G2 fun (x10 : Int) => zisO G2 (some (.inl (td a.toNat))) 9 ∧ vX9_depth (some (.inl (td a.toNat))) G2 fun (x12 : Int) => zisO G2 (some (.inl (td b.toNat))) 9 ∧ vX9_depth (some (.inl (td b.toNat))) G2 fun (x14 : Int) => vJ4_max x12 x14 fun (x15 : Int) => zisO G2 (some (.inl (td a.toNat))) 9 ∧ vX9_size (some (.inl (td a.toNat))) G2 fun (x17 : Int) => zisO G2 (some (.inl (td b.toNat))) 9 ∧ vX9_size (some (.inl (td b.toNat))) G2 fun (x19 : Int) => zisO G2 (some (.inl (td a.toNat))) 9 ∧ vX9_isPure (some (.inl (td a.toNat))) G2 fun (x21 : Int) => zjn (fun (z82_6 : Int) => zisO G2 (some (.inl (td a.toNat))) 9 ∧ vX9_isForNumbers (some (.inl (td a.toNat))) G2 fun (x23 : Int) => zjn (fun (z101_7 : Int) => vX1_addPattern x3 z x10 x15 (w32 ((w32 (x17 + x19)) + 1)) z82_6 z101_7 G2 X fun (x24 : Int) (G3 : ZG) => Q x24 G3) fun J101 => zjn (fun (_ : Unit) => J101 0) fun J100 => zbr (x23 = 0) (J100 ()) (zisO G2 (some (.inl (td b.toNat))) 9 ∧ vX9_isForNumbers (some (.inl (td b.toNat))) G2 fun (x26 : Int) => zbr (x26 = 0) (J100 ()) (J101 1))) fun J82 => zjn (fun (_ : Unit) => J82 0) fun J81 => zbr (x21 = 0) (J81 ()) (zisO G2 (some (.inl (td b.toNat))) 9 ∧ vX9_isPure (some (.inl (td b.toNat))) G2 fun (x28 : Int) => zbr (x28 = 0) (J81 ()) (J82 1)) := by
    intro z hz x hx
    have f0 := (Fr.refl [] hS).new hS (c := .inr (.inr (13, zdf 13))) hx
    have u1 := f0.hk h1
    have u2 := f0.hk h2
    refine ⟨zisO_i u1.1, ?_⟩
    rw [Tl.pat u1]
    refine ⟨zisO_i u2.1, ?_⟩
    rw [Tl.pat u2]
    refine ⟨⟨x, rfl⟩, sX13_init (zsj_eq _ _ _) ?_⟩
    rw [zsc_zsc]
    have f1 := (Fr.refl [] hS).new hS (c := .inr (.inr (13, [.inr (some (.inl (pa a.toNat))), .inr (some (.inl (pa b.toNat)))]))) hx
    have hx1 := f1.hi (by simp) hS hx (zsj_eq _ _ _) (imm_obj (c := 13) (by omega))
    have t1 := f1.hk h1
    have t2 := f1.hk h2
    refine ⟨zisO_i t1.1, ?_⟩
    rw [Tl.names t1]
    refine ⟨zisO_i t1.1, ?_⟩
    rw [Tl.depth t1]
    refine ⟨zisO_i t2.1, ?_⟩
    rw [Tl.depth t2, eJ4_max]
    refine ⟨zisO_i t1.1, ?_⟩
    rw [Tl.size t1]
    refine ⟨zisO_i t2.1, ?_⟩
    rw [Tl.size t2]
    have sa := pwa.2.2.2.1
    have sb := pwb.2.2.2.1
    rw [w32_eq (x := D 16 a + D 16 b) (by omega) (by omega), w32_eq (x := D 16 a + D 16 b + 1) (by omega) (by omega)]
    refine ⟨zisO_i t1.1, ?_⟩
    rw [Tl.pure t1 pwa.2.2.2.2.2.1]
    have hL1 := f1.lst ⟨by omega, by omega⟩ (by simp) hL
    have fin : ∀ u w : Int, u = 1 - (if D 18 a = 1 ∨ D 18 b = 1 then 1 else 0) → w = (if D 19 a = 1 ∧ D 19 b = 1 then 1 else 0) → vX1_addPattern (some (.inl x)) z (D 17 a) (if D 15 a < D 15 b then D 15 b else D 15 a) (D 16 a + D 16 b + 1) u w (zsc G x (.inr (.inr (13, [.inr (some (.inl (pa a.toNat))), .inr (some (.inl (pa b.toNat)))])))) X fun (x24 : Int) (G3 : ZG) => Q x24 G3 := by
      rintro u w rfl rfl
      subst hz
      refine pAdd (v := eiv D a b) (a := a) (b := b) (c := -1) (y := 0) hC hM f1 hL1 (hP.fr f1 (fun _ _ => rfl)) ?_ (pa_new (K := G) hP hx) (fun q => by rcases q with q | q <;> cases q)
        (fun q => ?_) (fun z q => hX2 q _ f1) (fun z q G' f c => hQ q G' f c)
      · unfold pcell
        rw [e9n, addP_n (j := 10) (by omega), addP_13n (by omega) (by omega), addP_13n (by omega) (by omega), pk0, pk1, snoc_lt (k := a.toNat) (by omega), snoc_lt (k := b.toNat) (by omega)]
        exact hx1
      · exfalso
        apply q
        have da := pwa.2.2.1
        have db := pwb.2.2.1
        refine ⟨show D 16 a + D 16 b + 1 ≤ 40 by omega, show (if D 15 a < D 15 b then D 15 b else D 15 a) ≤ 4 from ?_⟩
        split <;> omega
    have fin2 : ∀ u : Int, u = 1 - (if D 18 a = 1 ∨ D 18 b = 1 then 1 else 0) → (zisO (zsc G x (.inr (.inr (13, [.inr (some (.inl (pa a.toNat))), .inr (some (.inl (pa b.toNat)))])))) (some (.inl (td a.toNat))) 9 ∧ vX9_isForNumbers (some (.inl (td a.toNat))) (zsc G x (.inr (.inr (13, [.inr (some (.inl (pa a.toNat))), .inr (some (.inl (pa b.toNat)))])))) fun (x23 : Int) => zjn (fun (z101_7 : Int) => vX1_addPattern (some (.inl x)) z (D 17 a) (if D 15 a < D 15 b then D 15 b else D 15 a) (D 16 a + D 16 b + 1) u z101_7 (zsc G x (.inr (.inr (13, [.inr (some (.inl (pa a.toNat))), .inr (some (.inl (pa b.toNat)))])))) X fun (x24 : Int) (G3 : ZG) => Q x24 G3) fun J101 => zjn (fun (_ : Unit) => J101 0) fun J100 => zbr (x23 = 0) (J100 ()) (zisO (zsc G x (.inr (.inr (13, [.inr (some (.inl (pa a.toNat))), .inr (some (.inl (pa b.toNat)))])))) (some (.inl (td b.toNat))) 9 ∧ vX9_isForNumbers (some (.inl (td b.toNat))) (zsc G x (.inr (.inr (13, [.inr (some (.inl (pa a.toNat))), .inr (some (.inl (pa b.toNat)))])))) fun (x26 : Int) => zbr (x26 = 0) (J100 ()) (J101 1))) := by
      intro u hu
      refine ⟨zisO_i t1.1, ?_⟩
      rw [Tl.num t1 pwa.2.2.2.2.2.2.1]
      simp only [zjn_e]
      have na := pwa.2.2.2.2.2.2.1
      have nb := pwb.2.2.2.2.2.2.1
      refine zbr_i (fun h => fin u 0 hu (by rw [if_neg (by omega)])) (fun h => ⟨zisO_i t2.1, ?_⟩)
      rw [Tl.num t2 nb]
      refine zbr_i (fun h => fin u 0 hu (by rw [if_neg (by omega)])) (fun h => fin u 1 hu (by rw [if_pos (by omega)]))
    simp only [zjn_e] at fin2 ⊢
    have ua := pwa.2.2.2.2.2.1
    have ub := pwb.2.2.2.2.2.1
    refine zbr_i (fun h => fin2 0 (by rw [if_pos (by omega)]; rfl)) (fun h => ⟨zisO_i t2.1, ?_⟩)
    rw [Tl.pure t2 ub]
    refine zbr_i (fun h => fin2 0 (by rw [if_pos (by omega)]; rfl)) (fun h => fin2 1 (by rw [if_neg (by omega)]; rfl))
  simp only [zjn_e] at main
  refine zbr_i (fun h => ⟨zisO_i h1.1, ?_⟩) (fun h => ⟨zisO_i h2.1, ?_⟩)
  · rw [Tl.kind h1]
    exact main _ (by rw [if_neg h])
  · rw [Tl.kind h2]
    exact main _ (by rw [if_pos (Decidable.of_not_not h)])
theorem k1_either {G : ZG} {D : ZD} {a b : Int} {X : Nat → ZG → Prop} {Q : Int → ZG → Prop} (hC : CD G D) (hM : MI D)
    (hX0 : ¬ ((0 ≤ a ∧ a < D 9 0) ∧ 0 ≤ b ∧ b < D 9 0) → X 0 G)
    (hX1 : (0 ≤ a ∧ a < D 9 0) ∧ 0 ≤ b ∧ b < D 9 0 → altb D a b = false → X 1 G)
    (hX2 : (0 ≤ a ∧ a < D 9 0) ∧ 0 ≤ b ∧ b < D 9 0 → altb D a b = true → D 9 0 = 60 → ∀ G', Fr [] G G' → X 2 G')
    (hQ : (0 ≤ a ∧ a < D 9 0) ∧ 0 ≤ b ∧ b < D 9 0 → altb D a b = true → D 9 0 < 60 → ∀ G', Fr [9] G G' → CD G' (addP D (eiv D a b) a b (-1)) → Q (D 9 0) G') : vX1_either a b G X Q := by
  obtain ⟨td, pa, pf, hL, hP⟩ := hC.2.2.2.1
  refine sX1_requirePattern hM hL (fun q => hX0 (by omega)) (fun ha => ?_)
  refine sX1_requirePattern hM hL (fun q => hX0 (by omega)) (fun hb => ?_)
  have pwa := hM.2.2.1.2.2 a ha.1 ha.2
  have pwb := hM.2.2.1.2.2 b hb.1 hb.2
  refine sX1_told hL hP ha.1 ha.2 (fun t1 => ?_)
  refine sX1_told hL hP hb.1 hb.2 (fun t2 => ?_)
  refine sX1_canBeEither t1 t2 pwa.2.2.2.1 pwb.2.2.2.1 ?_
  rw [eX1_reqA]
  by_cases h : altb D a b = true
  · rw [if_pos h]
    refine sX1_told hL hP ha.1 ha.2 (fun t1 => ?_)
    refine sX1_told hL hP hb.1 hb.2 (fun t2 => ?_)
    refine sX1_addEither hC hM hL hP ha hb ?_ (fun q => hX2 ⟨ha, hb⟩ h q) (fun q => hQ ⟨ha, hb⟩ h q)
    unfold altb at h; simp at h; omega
  · rw [if_neg h]; exact hX1 ⟨ha, hb⟩ (by simpa using h)
