/-! REFERENCE: cases split, merged -/
set_option maxRecDepth 100000
theorem k6_split {G : ZG} {D : ZD} {c col : Int} {Q : Int → ZG → Prop} (hD : zsg G 5 = D) (hM : MI D)
    (h1 : ¬ ((0 ≤ c ∧ c < D 23 0) ∧ 0 ≤ col ∧ col < D 21 0) → Q 0 (zss G 5 0 0 1)) (h2 : (0 ≤ c ∧ c < D 23 0) ∧ 0 ≤ col ∧ col < D 21 0 → ¬ spCan D c col → Q 0 (zss G 5 0 0 2))
    (hQ : (0 ≤ c ∧ c < D 23 0) ∧ 0 ≤ col ∧ col < D 21 0 → spCan D c col → ∀ G', Mo G G' → zsg G' 5 0 0 = 0 → (∀ j, j ≠ 0 → zsg G' 5 j = up (spl D c col (prt D (D 24 (3 * c + col)) 0) (prt D (D 24 (3 * c + col)) 1)) 54 0 (-1) j) → Q (D 23 0 + 1) G') : vX6_split c col G Q := by
  have m21 : 0 ≤ D 21 0 ∧ D 21 0 ≤ 3 := ⟨hM.2.2.2.2.1.1, hM.2.2.2.2.1.2.1⟩
  have m23 : 0 ≤ D 23 0 ∧ D 23 0 ≤ 8 := ⟨hM.2.2.2.2.1.2.2.2.1, hM.2.2.2.2.1.2.2.2.2.1⟩
  have m9 : 0 ≤ D 9 0 ∧ D 9 0 ≤ 60 := ⟨hM.2.2.1.1, hM.2.2.1.2.1⟩
  have z10 : ¬ (1 : Int) = 0 := by omega
  unfold vX6_split
  refine w6_isCase hD hM ?_
  dsimp only [zjn]
  by_cases hok : (0 ≤ c ∧ c < D 23 0) ∧ 0 ≤ col ∧ col < D 21 0
  · rw [decide_eq_true hok.1, zbr_e0, if_pos rfl, zgF_e, hD, eX6_in, w32_eq (x := D 21 0 - 1) (by omega) (by omega), zbr_e0, if_pos (by rw [decide_eq_true hok.2.1, decide_eq_true (show col ≤ D 21 0 - 1 by omega)]; rfl), zbr_neg z10]
    rw [w32_eq (x := 3 * c) (by omega) (by omega), w32_eq (x := 3 * c + col) (by omega) (by omega)]
    refine zaL_i (by omega) (by omega) ?_
    rw [hD]
    have hcw := hM.2.2.2.2.1.2.2.2.2.2.2 c hok.1.1 hok.1.2
    have how := hcw.1 col hok.2.1 hok.2.2
    generalize hown : D 24 (3 * c + col) = own at *
    have hpw := hM.2.2.1.2.2 own how.1 how.2.1
    rw [zbr_neg z10]
    have no : ¬ spCan D c col → zbr ((1 : Int) ≠ 0) (zbr ((0 : Int) = 0) (vX6_refused 2 G fun x2 G1 => zbr (x2 = 0) (vX6_open c G1 fun G2 => vX6_copyCase (w32 (c + 1)) c G2 fun G3 => zaS G3 5 29 8 c 0 fun G4 => zaS G4 5 29 8 (w32 (c + 1)) 0 fun G5 => zaL G5 5 13 180 (w32 (3 * own)) fun x3 => zaS G5 5 24 24 (3 * c + col) x3 fun G6 => zaL G6 5 13 180 (w32 (w32 (3 * own) + 1)) fun x4 => zaS G6 5 24 24 (w32 (w32 (3 * c + 3) + col)) x4 fun G7 => zgF G7 5 23 fun x5 => Q x5 G7) (Q 0 G1)) (vX6_refused 0 G fun x2 G1 => zbr (x2 = 0) (vX6_open c G1 fun G2 => vX6_copyCase (w32 (c + 1)) c G2 fun G3 => zaS G3 5 29 8 c 0 fun G4 => zaS G4 5 29 8 (w32 (c + 1)) 0 fun G5 => zaL G5 5 13 180 (w32 (3 * own)) fun x3 => zaS G5 5 24 24 (3 * c + col) x3 fun G6 => zaL G6 5 13 180 (w32 (w32 (3 * own) + 1)) fun x4 => zaS G6 5 24 24 (w32 (w32 (3 * c + 3) + col)) x4 fun G7 => zgF G7 5 23 fun x5 => Q x5 G7) (Q 0 G1))) (vX6_refused 1 G fun x2 G1 => zbr (x2 = 0) (vX6_open c G1 fun G2 => vX6_copyCase (w32 (c + 1)) c G2 fun G3 => zaS G3 5 29 8 c 0 fun G4 => zaS G4 5 29 8 (w32 (c + 1)) 0 fun G5 => zaL G5 5 13 180 (w32 (3 * own)) fun x3 => zaS G5 5 24 24 (3 * c + col) x3 fun G6 => zaL G6 5 13 180 (w32 (w32 (3 * own) + 1)) fun x4 => zaS G6 5 24 24 (w32 (w32 (3 * c + 3) + col)) x4 fun G7 => zgF G7 5 23 fun x5 => Q x5 G7) (Q 0 G1)) := by
      intro hno
      rw [zbr_pos (by omega), zbr_pos rfl, eX6_refused, zbr_neg (by simp [bb])]; exact h2 hok hno
    refine zaL_i hok.1.1 (by omega) ?_
    rw [hD]
    refine zbr_i (fun h => no (fun q => h q.1)) (fun h26 => ?_)
    refine zaL_i how.1 (by omega) ?_
    rw [hD]
    refine zbr_i (fun h => no (fun q => by have := q.2.1; rw [hown] at this; exact h this)) (fun h10 => ?_)
    refine zaL_i how.1 (by omega) ?_
    rw [hD]
    refine zbr_i (fun h => no (fun q => by have := q.2.2.1; rw [hown] at this; exact h this)) (fun h18 => ?_)
    rw [zgF_e, hD]
    refine zbr_i (fun h => no (fun q => by have := q.2.2.2; omega)) (fun h8 => ?_)
    have h26 := Decidable.of_not_not h26
    have h10 := Decidable.of_not_not h10
    have h18 := Decidable.of_not_not h18
    have hcan : spCan D c col := ⟨h26, by rw [hown]; exact h10, by rw [hown]; exact h18, by omega⟩
    rw [zbr_pos (by omega), zbr_neg z10, eX6_refused, zbr_pos (show bb (decide ((0 : Int) ≠ 0)) = 0 from rfl)]
    refine s6_open (D := D) (fun j hj => by rw [z5_ne hj, hD]) (by omega) (by omega) (fun K mo e0 ej => ?_)
    rw [w32_eq (x := c + 1) (by omega) (by omega)]
    refine s6_copyCase (by omega) (by omega) (by omega) (fun K2 mo2 e2 => ?_)
    refine zaS_i (by omega) (by omega) ?_
    refine zaS_i (by omega) (by omega) ?_
    rw [w32_eq (x := 3 * own) (by omega) (by omega), w32_eq (x := 3 * own + 1) (by omega) (by omega), w32_eq (x := 3 * c + 3) (by omega) (by omega), w32_eq (x := 3 * c + 3 + col) (by omega) (by omega)]
    have e13 : zsg K2 5 13 = D 13 := by rw [e2, cpy_o (by omega), ej 13 (by omega), up_ne (by omega), up_ne (by omega), up_ne (by omega), reR_o (by omega)]
    refine zaL_i (by omega) (by omega) ?_
    rw [z5_ne (by omega), z5_ne (by omega), e13]
    refine zaS_i (by omega) (by omega) ?_
    refine zaL_i (by omega) (by omega) ?_
    rw [z5_ne (by omega), z5_ne (by omega), z5_ne (by omega), e13]
    refine zaS_i (by omega) (by omega) ?_
    have e23 : zsg K2 5 23 = fun i => if i = 0 then D 23 0 + 1 else D 23 i := by rw [e2, cpy_o (by omega), ej 23 (by omega), up_ne (by omega), up_ne (by omega), up_ne (by omega), reR_23]
    rw [zgF_e, z5_ne (by omega), z5_ne (by omega), z5_ne (by omega), z5_ne (by omega), e23]
    dsimp only
    rw [if_pos rfl]
    have ep0 : D 13 (3 * own) = prt D own 0 := by unfold prt; rw [show 3 * own + 0 = 3 * own by omega]
    have ep1 : D 13 (3 * own + 1) = prt D own 1 := rfl
    rw [ep0, ep1]
    refine hQ hok hcan _ ((((((Mo.refl G).ss _ _ _).trans mo).trans mo2).ss _ _ _).ss _ _ _ |>.ss _ _ _ |>.ss _ _ _) ?_ (fun j hj => ?_)
    · rw [z5_ne (by omega), z5_ne (by omega), z5_ne (by omega), z5_ne (by omega), e2, cpy_o (by omega), e0, z5_eq]; rfl
    · -- the rows behind the copies
      have r24 : ∀ q r, 0 ≤ r → r < 3 → zsg K2 5 24 (3 * q + r) = D 24 (3 * spS (D 23 0) c q + r) := fun q r r0 r3 => by
        rw [e2, cpy_24 r0 r3, ej 24 (by omega), up_ne (by omega), up_ne (by omega), up_ne (by omega), reR_24 r0 r3, reR_24 r0 r3]
        by_cases hq : q = c
        · rw [if_pos hq, hq]
          unfold spS
          rw [if_neg (by omega), if_pos (by omega), if_pos (by omega), show c + 1 - 1 = c by omega]
        · rw [if_neg hq]
      by_cases j24 : j = 24
      · subst j24
        rw [up_ne (by omega)]
        refine fun3 (fun q r r0 r3 => ?_)
        rw [z5_eq, z5_eq, z5_ne (by omega), z5_ne (by omega), spl_24 r0 r3 hok.2.1 (by omega)]
        dsimp only
        rw [r24 q r r0 r3]
        by_cases hq1 : q = c ∧ r = col
        · rw [if_neg (by omega), if_pos (by omega), if_pos hq1]
        · by_cases hq2 : q = c + 1 ∧ r = col
          · rw [if_pos (by omega), if_neg hq1, if_pos hq2]
          · rw [if_neg (by omega), if_neg (by omega), if_neg hq1, if_neg hq2]
      · rw [z5_ne j24, z5_ne j24]
        by_cases j29 : j = 29
        · subst j29
          rw [z5_eq, z5_eq, up_ne (by omega), e2, cpy_l (by omega), ej 29 (by omega), up_ne (by omega), up_ne (by omega)]
          funext i
          dsimp only
          rw [spl_29, up_at, up_at, reR_l (by omega), reR_l (by omega)]
          by_cases hi1 : i = c + 1
          · rw [if_pos hi1, if_pos (Or.inr hi1)]
          · rw [if_neg hi1]
            by_cases hi2 : i = c
            · rw [if_pos hi2, if_pos (Or.inl hi2)]
            · rw [if_neg hi2, if_neg hi2, if_neg (show ¬ i = c from hi2), if_neg (by omega)]
        · rw [z5_ne j29, z5_ne j29, e2]
          by_cases j26 : j = 26
          · subst j26
            rw [cpy_l (by omega), ej 26 (by omega), up_ne (by omega)]
            funext i
            rw [show up (spl D c col (prt D own 0) (prt D own 1)) 54 0 (-1) 26 = spl D c col (prt D own 0) (prt D own 1) 26 from up_ne (by omega), spl_l (by omega), up_at, up_at, up_ne (by omega), reR_l (by omega), reR_l (by omega)]
            by_cases hi : i = c
            · rw [if_pos hi, hi, if_neg (by omega)]
              unfold spS
              rw [if_neg (by omega), if_pos (by omega), if_pos (by omega), show c + 1 - 1 = c by omega]
            · rw [if_neg hi, if_neg hi]
          · by_cases jr : 25 ≤ j ∧ j ≤ 28
            · rw [cpy_l (by omega), ej j hj, up_ne (by omega), up_ne (by omega), up_ne (by omega), up_ne (by omega)]
              funext i
              rw [spl_l jr, reR_l (by omega), reR_l (by omega)]
              by_cases hi : i = c
              · rw [if_pos hi, hi]
                unfold spS
                rw [if_neg (by omega), if_pos (by omega), if_pos (by omega), show c + 1 - 1 = c by omega]
              · rw [if_neg hi]
            · rw [cpy_o (by omega), ej j hj]
              by_cases j54 : j = 54
              · subst j54
                funext i
                rw [up_at, up_at, up_ne (by omega), up_ne (by omega), reR_o (by omega), spl_o (by omega)]
              · rw [up_ne j54, up_ne j54, up_ne j26, up_ne j29]
                by_cases j23 : j = 23
                · subst j23
                  unfold spl
                  rw [up_ne (by omega), up_ne (by omega), up_ne (by omega), up_ne (by omega)]
                · rw [reR_o (by omega), spl_o (by omega)]
  · have bad : ∀ A B : Prop, zbr ((0 : Int) = 0) (zbr ((0 : Int) = 0) (zbr ((0 : Int) ≠ 0) A B) A) A = B := fun A B => by
      rw [zbr_pos rfl, zbr_pos rfl, zbr_neg (by omega)]
    have fin : ∀ (f : ZG → Prop), vX6_refused 1 G fun x2 G1 => zbr (x2 = 0) (f G1) (Q 0 G1) := fun f => by
      rw [eX6_refused, zbr_neg (by simp [bb])]; exact h1 hok
    by_cases hc : 0 ≤ c ∧ c < D 23 0
    · rw [decide_eq_true hc, zbr_e0, if_pos rfl, zgF_e, hD, eX6_in, w32_eq (x := D 21 0 - 1) (by omega) (by omega), zbr_e0, if_neg (by simp; omega), zbr_pos rfl, zbr_pos rfl, zbr_neg (by omega)]
      exact fin _
    · rw [decide_eq_false hc, zbr_e0, if_neg (by simp), zbr_pos rfl, zbr_pos rfl, zbr_neg (by omega)]
      exact fin _
