/-! REFERENCE: guards set -/
set_option maxRecDepth 100000
theorem k6_guard {G : ZG} {D : ZD} {c g nm th : Int} {Q : Int → ZG → Prop} (hD : zsg G 5 = D) (hM : MI D)
    (h1 : ¬ gOk1 D c g nm → Q 0 (zss G 5 0 0 1)) (h2 : gOk1 D c g nm → ¬ gOk2 D c g nm th → ∀ G', Mo G G' → zsg G' 5 0 0 = 2 → (∀ j, j ≠ 0 → j ≠ 30 → j ≠ 31 → zsg G' 5 j = D j) → Q 0 G')
    (hQ : gOk1 D c g nm → gOk2 D c g nm th → ∀ G', Mo G G' → zsg G' 5 0 0 = 0 → (∀ j, j ≠ 0 → j ≠ 30 → j ≠ 31 → zsg G' 5 j = up (addG D c g nm th) 54 0 (-1) j) → Q (D 26 c) G') : vX6_guard c g nm th G Q := by
  have m23 : 0 ≤ D 23 0 ∧ D 23 0 ≤ 8 := ⟨hM.2.2.2.2.1.2.2.2.1, hM.2.2.2.2.1.2.2.2.2.1⟩
  unfold vX6_guard
  refine w6_isCase hD hM ?_
  dsimp only [zjn]
  have r1 : ¬ gOk1 D c g nm → ∀ f : Int → ZG → Prop, (∀ x2 G1, x2 ≠ 0 → f x2 G1 = Q 0 G1) → vX6_refused 1 G f := fun hno f hf => by
    rw [eX6_refused, hf _ _ (by simp [bb])]; exact h1 hno
  have r2 : gOk1 D c g nm → ¬ gOk2 D c g nm th → ∀ K, Mo G K → (∀ j, j ≠ 30 → j ≠ 31 → zsg K 5 j = D j) → ∀ f : Int → ZG → Prop, (∀ x2 G1, x2 ≠ 0 → f x2 G1 = Q 0 G1) → vX6_refused 2 K f := fun ho hno K mo hK f hf => by
    rw [eX6_refused, hf _ _ (by simp [bb])]
    exact h2 ho hno _ (mo.ss _ _ _) (by rw [z5_eq]; rfl) (fun j j0 j1 j2 => by rw [z5_ne j0, hK j j1 j2])
  have r0 : gOk1 D c g nm → gOk2 D c g nm th → ∀ K, Mo G K → (∀ j, j ≠ 30 → j ≠ 31 → zsg K 5 j = D j) → vX6_refused 0 K fun (x2 : Int) (G1 : ZG) => zbr (x2 = 0) (zaL G1 5 26 8 c fun (x3 : Int) => zaS G1 5 26 8 c g fun (G2 : ZG) => zaS G2 5 27 8 c nm fun (G3 : ZG) => zaS G3 5 28 8 c th fun (G4 : ZG) => zpF G4 5 54 (-1) fun (G5 : ZG) => Q x3 G5) (Q 0 G1) := fun ho hok K mo hK => by
    have hc := ho.1
    rw [eX6_refused, zbr_pos (by simp [bb])]
    refine zaL_i hc.1 (by omega) ?_
    refine zaS_i hc.1 (by omega) ?_
    refine zaS_i hc.1 (by omega) ?_
    refine zaS_i hc.1 (by omega) ?_
    rw [zpF_e, z5_ne (by omega), hK 26 (by omega) (by omega)]
    refine hQ ho hok _ (((((mo.ss _ _ _).ss _ _ _).ss _ _ _).ss _ _ _).ss _ _ _) (by rw [z5_ne (by omega), z5_ne (by omega), z5_ne (by omega), z5_ne (by omega), z5_eq]; rfl) (fun j j0 j1 j2 => ?_)
    rw [zss5, zss5, zss5, zss5]
    unfold addG
    funext i
    have : zsg (zss K 5 0 0 0) 5 j = D j := by rw [z5_ne j0, hK j j1 j2]
    unfold up
    rw [this]
  by_cases hc : 0 ≤ c ∧ c < D 23 0
  · rw [decide_eq_true hc, zbr_neg (by simp [bb]), eX6_in]
    by_cases hg : -1 ≤ g ∧ g ≤ 3
    · rw [decide_eq_true hg.1, decide_eq_true hg.2, zbr_neg (by simp [bb]), eX6_in]
      by_cases hn : 0 ≤ nm ∧ nm ≤ 5
      · have hok1 : gOk1 D c g nm := ⟨hc, hg, hn⟩
        have hk0 : ∀ j, j ≠ 30 → j ≠ 31 → zsg G 5 j = D j := fun j _ _ => by rw [hD]
        rw [decide_eq_true hn.1, decide_eq_true hn.2, zbr_neg (by simp [bb]), zbr_neg (show ¬ (1 : Int) = 0 by omega), eX6_in]
        by_cases ht : 0 ≤ th ∧ th ≤ 9
        · rw [decide_eq_true ht.1, decide_eq_true ht.2, zbr_neg (by simp [bb])]
          refine zbr_i (fun hgn => ?_) (fun hgn => ?_)
          · refine w6_binds hD hM hc hn (fun K mo hK => ?_)
            cases hb : nmc D nm c with
            | false =>
              refine zbr_i (fun _ => ?_) (fun z => absurd rfl z)
              rw [zbr_pos (show (1 : Int) ≠ 0 by omega), zbr_pos rfl]
              exact r2 hok1 (fun z => by have := z.2; rw [if_neg hgn, hb] at this; cases this) K mo hK _ (fun x2 G1 h => zbr_neg h)
            | true =>
              refine zbr_i (fun z => by cases z) (fun _ => ?_)
              rw [zbr_pos (show (1 : Int) ≠ 0 by omega), zbr_neg (by omega)]
              exact r0 hok1 ⟨ht, by rw [if_neg hgn]; exact hb⟩ K mo hK
          · have hgn := Decidable.of_not_not hgn
            refine zbr_i (fun hn0 => ?_) (fun hn0 => ?_)
            · rw [zbr_pos (show (1 : Int) ≠ 0 by omega), zbr_pos rfl]
              exact r2 hok1 (fun z => by have := z.2; rw [if_pos hgn] at this; exact hn0 this) G (Mo.refl G) hk0 _ (fun x2 G1 h => zbr_neg h)
            · rw [zbr_pos (show (1 : Int) ≠ 0 by omega), zbr_neg (by omega)]
              exact r0 hok1 ⟨ht, by rw [if_pos hgn]; exact Decidable.of_not_not hn0⟩ G (Mo.refl G) hk0
        · rw [zbr_pos (by rw [bb0]; simp; omega), zbr_pos (show (1 : Int) ≠ 0 by omega), zbr_pos rfl]
          exact r2 hok1 (fun z => ht z.1) G (Mo.refl G) hk0 _ (fun x2 G1 h => zbr_neg h)
      · rw [zbr_pos (show bb (decide (0 ≤ nm) && decide (nm ≤ 5)) = 0 by rw [bb0]; simp; omega), zbr_pos (rfl : (0 : Int) = 0), zbr_neg (show ¬ (0 : Int) ≠ 0 by omega)]
        exact r1 (fun z => hn z.2.2) _ (fun x2 G1 h => zbr_neg h)
    · rw [zbr_pos (show bb (decide (-1 ≤ g) && decide (g ≤ 3)) = 0 by rw [bb0]; simp; omega), zbr_pos (rfl : (0 : Int) = 0), zbr_neg (show ¬ (0 : Int) ≠ 0 by omega)]
      exact r1 (fun z => hg z.2.1) _ (fun x2 G1 h => zbr_neg h)
  · rw [decide_eq_false hc, zbr_pos (show bb false = 0 from rfl), zbr_pos (rfl : (0 : Int) = 0), zbr_neg (show ¬ (0 : Int) ≠ 0 by omega)]
    exact r1 (fun z => hc z.1) _ (fun x2 G1 h => zbr_neg h)
