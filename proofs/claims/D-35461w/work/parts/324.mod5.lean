/-! REFERENCE: name, view, either -/
set_option maxRecDepth 100000
theorem szp_1 {D : ZD} {p : Int} (h : p ≠ -1) : szp D p = D 16 p := if_neg h
theorem szp_0 (D : ZD) : szp D (-1) = 0 := rfl
theorem w6_sz1 {G : ZG} {D : ZD} {p : Int} {Q : Int → Prop} (hM : MI D) (hD : zsg G 5 = D) (hp : 0 ≤ p ∧ p < D 9 0) (hQ : Q (D 16 p + 1)) : vX6_sizeOf p (-1) (-1) G Q := by
  refine w6_sizeOf hM (fun q _ => by rw [hD]) (Or.inr hp) (Or.inl rfl) (Or.inl rfl) ?_
  rw [szp_1 (by omega), szp_0, show 1 + D 16 p + 0 + 0 = D 16 p + 1 by omega]; exact hQ
theorem op1 {D : ZD} {p : Int} (hp : 0 ≤ p ∧ p < D 9 0) : ∀ k, 0 ≤ k → k < 3 → op D (pk p (-1) (-1) k) := fun k k0 k3 => op_n D k0 k3 (Or.inr hp) (Or.inl rfl) (Or.inl rfl)
theorem k6_name {G : ZG} {D : ZD} {n p : Int} {Q : Int → ZG → Prop} (hD : zsg G 5 = D) (hM : MI D) (h1 : ¬ ((0 ≤ n ∧ n ≤ 5) ∧ 0 ≤ p ∧ p < D 9 0) → Q 0 (zss G 5 0 0 1))
    (h2 : (0 ≤ n ∧ n ≤ 5) ∧ 0 ≤ p ∧ p < D 9 0 → ¬ (hs (D 17 p) n = false ∧ D 16 p + 1 ≤ 40) → Q 0 (zss G 5 0 0 2))
    (h3 : (0 ≤ n ∧ n ≤ 5) ∧ 0 ≤ p ∧ p < D 9 0 → hs (D 17 p) n = false ∧ D 16 p + 1 ≤ 40 → D 9 0 = 60 → Q 0 (zss G 5 0 0 3))
    (hQ : (0 ≤ n ∧ n ≤ 5) ∧ 0 ≤ p ∧ p < D 9 0 → hs (D 17 p) n = false ∧ D 16 p + 1 ≤ 40 → D 9 0 < 60 → ∀ G', Mo G G' → zsg G' 5 0 0 = 0 → (∀ j, j ≠ 0 → zsg G' 5 j = addP D (pv 1 n 0 (D 14 p) (D 15 p) (D 16 p + 1) (bOr (D 17 p) (bShl 1 n)) (D 18 p) 0) p (-1) (-1) j) → Q (D 9 0) G') : vX6_name n p G Q := by
  have m9 := hM.2.2.1.2.1
  unfold vX6_name
  rw [eX6_in]
  dsimp only [zjn]
  have cont : ∀ (z22 z57 : Int), (z22 = 0 ∧ ¬ ((0 ≤ n ∧ n ≤ 5) ∧ 0 ≤ p ∧ p < D 9 0)) ∨ (z22 = 1 ∧ ((0 ≤ n ∧ n ≤ 5) ∧ 0 ≤ p ∧ p < D 9 0) ∧ ((z57 = 0 ∧ ¬ (hs (D 17 p) n = false ∧ D 16 p + 1 ≤ 40)) ∨ (z57 = 1 ∧ hs (D 17 p) n = false ∧ D 16 p + 1 ≤ 40))) →
      zbr (z22 ≠ 0) (zbr (z57 ≠ 0) (vX6_isFull G fun x5 => zbr (x5 = 0) (vX6_refused 0 G fun x2 G1 => zbr (x2 = 0) (zaL G1 5 14 60 p fun x3 => vX6_pattern 1 n 0 p (-1) (-1) x3 G1 fun x4 G2 => Q x4 G2) (Q 0 G1)) (vX6_refused 3 G fun x2 G1 => zbr (x2 = 0) (zaL G1 5 14 60 p fun x3 => vX6_pattern 1 n 0 p (-1) (-1) x3 G1 fun x4 G2 => Q x4 G2) (Q 0 G1))) (vX6_refused 2 G fun x2 G1 => zbr (x2 = 0) (zaL G1 5 14 60 p fun x3 => vX6_pattern 1 n 0 p (-1) (-1) x3 G1 fun x4 G2 => Q x4 G2) (Q 0 G1))) (vX6_refused 1 G fun x2 G1 => zbr (x2 = 0) (zaL G1 5 14 60 p fun x3 => vX6_pattern 1 n 0 p (-1) (-1) x3 G1 fun x4 G2 => Q x4 G2) (Q 0 G1)) := by
    rintro z22 z57 (⟨rfl, hno⟩ | ⟨rfl, hok, ⟨rfl, hno⟩ | ⟨rfl, hok2⟩⟩)
    · rw [zbr_neg (by omega), eX6_refused, zbr_neg (by simp [bb])]; exact h1 hno
    · rw [zbr_pos (by omega), zbr_neg (by omega), eX6_refused, zbr_neg (by simp [bb])]; exact h2 hok hno
    · rw [zbr_pos (by omega), zbr_pos (by omega)]
      refine w6_isFull ?_
      rw [hD]
      by_cases h : D 9 0 = 60
      · rw [decide_eq_true h, zbr_neg (by simp [bb]), eX6_refused, zbr_neg (by simp [bb])]
        exact h3 hok hok2 h
      · rw [decide_eq_false h, zbr_pos (show bb false = 0 from rfl), eX6_refused, zbr_pos (show bb (decide ((0 : Int) ≠ 0)) = 0 from rfl)]
        refine zaL_i hok.2.1 (by omega) ?_
        rw [z5_ne (by omega), hD]
        have hpw := hM.2.2.1.2.2 p hok.2.1 hok.2.2
        refine r6_fin hD hM (by omega) (op1 hok.2) ?_ (hQ hok hok2 (by omega))
        unfold mpv
        rw [der_e, nmr_e, hvr_e, if_pos rfl, if_neg (show ¬ (1 : Int) = 5 by omega), if_pos (Or.inl rfl), if_pos (Or.inl rfl), bar_0]
        have pn : ¬ p = -1 := by omega
        have hd := hpw.2.2.1
        have hv := hpw.2.2.2.2.2.1
        simp only [if_pos, if_neg pn, szp_1 pn, szp_0]
        rw [if_neg (show ¬ D 15 p ≤ 0 by omega), bOr_comm (bShl 1 n), show D 15 p + 0 = D 15 p by omega, show 1 + D 16 p + 0 + 0 = D 16 p + 1 by omega, show (if (0 : Int) ≠ 0 ∨ D 18 p ≠ 0 then (1 : Int) else 0) = D 18 p by
          rcases hv with e | e <;> rw [e] <;> simp]
  by_cases hok : (0 ≤ n ∧ n ≤ 5) ∧ 0 ≤ p ∧ p < D 9 0
  · rw [zbr_e0, if_pos (by rw [decide_eq_true hok.1.1, decide_eq_true hok.1.2]; rfl)]
    refine w6_isPattern (by rw [hD]; exact hM) ?_
    rw [hD, decide_eq_true hok.2, zbr_e0, if_pos rfl, zbr_neg (show ¬ (1 : Int) = 0 by omega)]
    refine zaL_i hok.2.1 (by omega) ?_
    rw [hD]
    have hpw := hM.2.2.1.2.2 p hok.2.1 hok.2.2
    by_cases hb : hs (D 17 p) n = true
    · have e1 : bAnd (bShr (D 17 p) n) 1 = 1 := by unfold hs at hb; simpa using hb
      rw [zbr_pos (by rw [e1]; omega)]
      exact cont 1 0 (Or.inr ⟨rfl, hok, Or.inl ⟨rfl, fun q => by rw [hb] at q; cases q.1⟩⟩)
    · have hb : hs (D 17 p) n = false := by simpa using hb
      have e1 : bAnd (bShr (D 17 p) n) 1 ≠ 1 := by unfold hs at hb; simpa using hb
      have e2 := bits_one ⟨(D 17 p).toNat, by have := hpw.2.2.2.2.1; omega⟩ ⟨n.toNat, by omega⟩
      simp only at e2
      rw [show (((D 17 p).toNat : Nat) : Int) = D 17 p by have := hpw.2.2.2.2.1; omega, show ((n.toNat : Nat) : Int) = n by omega] at e2
      rw [zbr_neg (by omega)]
      refine w6_sz1 hM hD hok.2 ?_
      refine zbr_i (fun h => cont 1 0 (Or.inr ⟨rfl, hok, Or.inl ⟨rfl, fun q => by omega⟩⟩)) (fun h => cont 1 1 (Or.inr ⟨rfl, hok, Or.inr ⟨rfl, hb, by omega⟩⟩))
  · have bad : ∀ z, zbr ((0 : Int) = 0) (zbr ((0 : Int) ≠ 0) (zbr ((0 : Int) ≠ 0) (vX6_isFull G fun x5 => zbr (x5 = 0) (vX6_refused 0 G fun x2 G1 => zbr (x2 = 0) (zaL G1 5 14 60 p fun x3 => vX6_pattern 1 n 0 p (-1) (-1) x3 G1 fun x4 G2 => Q x4 G2) (Q 0 G1)) (vX6_refused 3 G fun x2 G1 => zbr (x2 = 0) (zaL G1 5 14 60 p fun x3 => vX6_pattern 1 n 0 p (-1) (-1) x3 G1 fun x4 G2 => Q x4 G2) (Q 0 G1))) (vX6_refused 2 G fun x2 G1 => zbr (x2 = 0) (zaL G1 5 14 60 p fun x3 => vX6_pattern 1 n 0 p (-1) (-1) x3 G1 fun x4 G2 => Q x4 G2) (Q 0 G1))) (vX6_refused 1 G fun x2 G1 => zbr (x2 = 0) (zaL G1 5 14 60 p fun x3 => vX6_pattern 1 n 0 p (-1) (-1) x3 G1 fun x4 G2 => Q x4 G2) (Q 0 G1))) z := fun z => by
      rw [zbr_pos rfl]; exact cont 0 0 (Or.inl ⟨rfl, hok⟩)
    rw [zbr_e0]
    by_cases hn : 0 ≤ n ∧ n ≤ 5
    · rw [if_pos (by rw [decide_eq_true hn.1, decide_eq_true hn.2]; rfl)]
      refine w6_isPattern (by rw [hD]; exact hM) ?_
      rw [hD, decide_eq_false (fun q => hok ⟨hn, q⟩), zbr_e0, if_neg (by simp)]
      exact bad _
    · rw [if_neg (by simp; omega)]
      exact bad _
theorem k6_view {G : ZG} {D : ZD} {n p : Int} {Q : Int → ZG → Prop} (hD : zsg G 5 = D) (hM : MI D) (h1 : ¬ ((0 ≤ n ∧ n ≤ 2) ∧ 0 ≤ p ∧ p < D 9 0) → Q 0 (zss G 5 0 0 1))
    (h2 : (0 ≤ n ∧ n ≤ 2) ∧ 0 ≤ p ∧ p < D 9 0 → ¬ (D 19 p = 1 ∧ D 16 p + 1 ≤ 40) → Q 0 (zss G 5 0 0 2))
    (h3 : (0 ≤ n ∧ n ≤ 2) ∧ 0 ≤ p ∧ p < D 9 0 → D 19 p = 1 ∧ D 16 p + 1 ≤ 40 → D 9 0 = 60 → Q 0 (zss G 5 0 0 3))
    (hQ : (0 ≤ n ∧ n ≤ 2) ∧ 0 ≤ p ∧ p < D 9 0 → D 19 p = 1 ∧ D 16 p + 1 ≤ 40 → D 9 0 < 60 → ∀ G', Mo G G' → zsg G' 5 0 0 = 0 → (∀ j, j ≠ 0 → zsg G' 5 j = addP D (pv 5 n 0 (-1) (D 15 p) (D 16 p + 1) 0 1 0) p (-1) (-1) j) → Q (D 9 0) G') : vX6_view n p G Q := by
  have m9 := hM.2.2.1.2.1
  unfold vX6_view
  rw [eX6_in]
  dsimp only [zjn]
  have cont : ∀ (z22 z57 : Int), (z22 = 0 ∧ ¬ ((0 ≤ n ∧ n ≤ 2) ∧ 0 ≤ p ∧ p < D 9 0)) ∨ (z22 = 1 ∧ ((0 ≤ n ∧ n ≤ 2) ∧ 0 ≤ p ∧ p < D 9 0) ∧ ((z57 = 0 ∧ ¬ (D 19 p = 1 ∧ D 16 p + 1 ≤ 40)) ∨ (z57 = 1 ∧ D 19 p = 1 ∧ D 16 p + 1 ≤ 40))) →
      zbr (z22 ≠ 0) (zbr (z57 ≠ 0) (vX6_isFull G fun x5 => zbr (x5 = 0) (vX6_refused 0 G fun x2 G1 => zbr (x2 = 0) (vX6_pattern 5 n 0 p (-1) (-1) (-1) G1 fun x4 G2 => Q x4 G2) (Q 0 G1)) (vX6_refused 3 G fun x2 G1 => zbr (x2 = 0) (vX6_pattern 5 n 0 p (-1) (-1) (-1) G1 fun x4 G2 => Q x4 G2) (Q 0 G1))) (vX6_refused 2 G fun x2 G1 => zbr (x2 = 0) (vX6_pattern 5 n 0 p (-1) (-1) (-1) G1 fun x4 G2 => Q x4 G2) (Q 0 G1))) (vX6_refused 1 G fun x2 G1 => zbr (x2 = 0) (vX6_pattern 5 n 0 p (-1) (-1) (-1) G1 fun x4 G2 => Q x4 G2) (Q 0 G1)) := by
    rintro z22 z57 (⟨rfl, hno⟩ | ⟨rfl, hok, ⟨rfl, hno⟩ | ⟨rfl, hok2⟩⟩)
    · rw [zbr_neg (by omega), eX6_refused, zbr_neg (by simp [bb])]; exact h1 hno
    · rw [zbr_pos (by omega), zbr_neg (by omega), eX6_refused, zbr_neg (by simp [bb])]; exact h2 hok hno
    · rw [zbr_pos (by omega), zbr_pos (by omega)]
      refine w6_isFull ?_
      rw [hD]
      by_cases h : D 9 0 = 60
      · rw [decide_eq_true h, zbr_neg (by simp [bb]), eX6_refused, zbr_neg (by simp [bb])]
        exact h3 hok hok2 h
      · rw [decide_eq_false h, zbr_pos (show bb false = 0 from rfl), eX6_refused, zbr_pos (show bb (decide ((0 : Int) ≠ 0)) = 0 from rfl)]
        have hpw := hM.2.2.1.2.2 p hok.2.1 hok.2.2
        refine r6_fin hD hM (by omega) (op1 hok.2) ?_ (hQ hok hok2 (by omega))
        unfold mpv
        rw [der_e, nmr_e, hvr_e, if_neg (show ¬ (5 : Int) = 1 by omega), if_pos rfl, if_pos (Or.inr (Or.inr rfl)), if_pos (Or.inr (Or.inl rfl)), bar_0]
        have pn : ¬ p = -1 := by omega
        have hd := hpw.2.2.1
        have h17 := hpw.2.2.2.2.2.2.2.1 hok2.1
        simp only [if_pos, if_neg pn, szp_1 pn, szp_0]
        rw [if_neg (show ¬ D 15 p ≤ 0 by omega), h17, show bOr 0 0 = 0 from bOr_self inR_0, show D 15 p + 0 = D 15 p by omega, show 1 + D 16 p + 0 + 0 = D 16 p + 1 by omega, if_pos (Or.inl (by omega))]
  by_cases hok : (0 ≤ n ∧ n ≤ 2) ∧ 0 ≤ p ∧ p < D 9 0
  · rw [zbr_e0, if_pos (by rw [decide_eq_true hok.1.1, decide_eq_true hok.1.2]; rfl)]
    refine w6_isPattern (by rw [hD]; exact hM) ?_
    rw [hD, decide_eq_true hok.2, zbr_e0, if_pos rfl, zbr_neg (show ¬ (1 : Int) = 0 by omega)]
    refine zaL_i hok.2.1 (by omega) ?_
    rw [hD]
    have hpw := hM.2.2.1.2.2 p hok.2.1 hok.2.2
    have h19 := hpw.2.2.2.2.2.2.1
    refine zbr_i (fun h => cont 1 0 (Or.inr ⟨rfl, hok, Or.inl ⟨rfl, fun q => by omega⟩⟩)) (fun hb => ?_)
    refine w6_sz1 hM hD hok.2 ?_
    refine zbr_i (fun h => cont 1 0 (Or.inr ⟨rfl, hok, Or.inl ⟨rfl, fun q => by omega⟩⟩)) (fun h => cont 1 1 (Or.inr ⟨rfl, hok, Or.inr ⟨rfl, by omega, by omega⟩⟩))
  · have bad : ∀ z, zbr ((0 : Int) = 0) (zbr ((0 : Int) ≠ 0) (zbr ((0 : Int) ≠ 0) (vX6_isFull G fun x5 => zbr (x5 = 0) (vX6_refused 0 G fun x2 G1 => zbr (x2 = 0) (vX6_pattern 5 n 0 p (-1) (-1) (-1) G1 fun x4 G2 => Q x4 G2) (Q 0 G1)) (vX6_refused 3 G fun x2 G1 => zbr (x2 = 0) (vX6_pattern 5 n 0 p (-1) (-1) (-1) G1 fun x4 G2 => Q x4 G2) (Q 0 G1))) (vX6_refused 2 G fun x2 G1 => zbr (x2 = 0) (vX6_pattern 5 n 0 p (-1) (-1) (-1) G1 fun x4 G2 => Q x4 G2) (Q 0 G1))) (vX6_refused 1 G fun x2 G1 => zbr (x2 = 0) (vX6_pattern 5 n 0 p (-1) (-1) (-1) G1 fun x4 G2 => Q x4 G2) (Q 0 G1))) z := fun z => by
      rw [zbr_pos rfl]; exact cont 0 0 (Or.inl ⟨rfl, hok⟩)
    rw [zbr_e0]
    by_cases hn : 0 ≤ n ∧ n ≤ 2
    · rw [if_pos (by rw [decide_eq_true hn.1, decide_eq_true hn.2]; rfl)]
      refine w6_isPattern (by rw [hD]; exact hM) ?_
      rw [hD, decide_eq_false (fun q => hok ⟨hn, q⟩), zbr_e0, if_neg (by simp)]
      exact bad _
    · rw [if_neg (by simp; omega)]
      exact bad _
