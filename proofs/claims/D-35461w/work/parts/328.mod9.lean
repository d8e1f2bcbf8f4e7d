/-! REFERENCE: cases opened, added -/
set_option maxRecDepth 100000
theorem reR_23 {D : ZD} {n : Int} {src : Int → Int} : reR D n src 23 = fun i => if i = 0 then n else D 23 i := by
  funext i; unfold reR
  by_cases h : i = 0
  · rw [if_pos ⟨rfl, h⟩, if_pos h]
  · rw [if_neg (fun q => h q.2), if_neg (show ¬ (23 : Nat) = 24 by omega), if_neg (show ¬ ((25 : Nat) ≤ 23 ∧ 23 ≤ 29) by omega), if_neg h]
theorem reR_j {D : ZD} {n : Int} {src : Int → Int} {j : Nat} (h : 25 ≤ j ∧ j ≤ 29) : reR D n src j = fun i => D j (src i) := by
  funext i; exact reR_l h
theorem reR_f24 {D : ZD} {n : Int} {src : Int → Int} {q r : Int} (h0 : 0 ≤ r) (h3 : r < 3) : reR D n src 24 (3 * q + r) = D 24 (3 * src q + r) := reR_24 h0 h3
/-- functions of data, alike but where rows are -/
theorem reR_ext {D E : ZD} {n : Int} {src : Int → Int} (ho : ∀ j, (j < 23 ∨ 29 < j) → E j = D j) (h23 : E 23 = fun i => if i = 0 then n else D 23 i) (h24 : ∀ q r, 0 ≤ r → r < 3 → E 24 (3 * q + r) = D 24 (3 * src q + r)) (hj : ∀ j, 25 ≤ j → j ≤ 29 → ∀ i, E j i = D j (src i)) : E = reR D n src := by
  funext j
  by_cases h : j < 23 ∨ 29 < j
  · rw [ho j h, reR_o h]
  · by_cases h2 : j = 23
    · rw [h2, h23, reR_23]
    · by_cases h3 : j = 24
      · subst h3
        refine fun3 (fun q r r0 r3 => ?_)
        rw [h24 q r r0 r3, reR_24 r0 r3]
      · funext i; rw [hj j (by omega) (by omega), reR_l (by omega)]
theorem s6_open {G : ZG} {D : ZD} {a : Int} {Q : ZG → Prop} (hD : ∀ j, j ≠ 0 → zsg G 5 j = D j) (hn : 0 ≤ D 23 0 ∧ D 23 0 ≤ 7) (ha : 0 ≤ a ∧ a ≤ D 23 0)
    (hQ : ∀ G', Mo G G' → zsg G' 5 0 = zsg G 5 0 → (∀ j, j ≠ 0 → zsg G' 5 j = up (up (up (reR D (D 23 0 + 1) (spS (D 23 0) a)) 29 a 0) 26 a (-1)) 54 0 (-1) j) → Q G') : vX6_open a G Q := by
  unfold vX6_open
  rw [zgF_e, hD 23 (by omega)]
  refine zl2_of (fun k K => a ≤ k ∧ k ≤ D 23 0 ∧ Mo G K ∧ zsg K 5 0 = zsg G 5 0 ∧ (∀ j, j ≠ 0 → (j < 24 ∨ 29 < j) → zsg K 5 j = D j) ∧ (∀ q r, 0 ≤ r → r < 3 → zsg K 5 24 (3 * q + r) = D 24 (3 * (if k < q ∧ q ≤ D 23 0 then q - 1 else q) + r)) ∧ (∀ j, 25 ≤ j → j ≤ 29 → ∀ i, zsg K 5 j i = D j (if k < i ∧ i ≤ D 23 0 then i - 1 else i))) (fun k _ => (k - a).toNat) (fun P k K hI hPP => ?_) ⟨by omega, by omega, Mo.refl G, rfl, fun j h0 _ => hD j h0, fun q r _ _ => by rw [if_neg (by omega), hD 24 (by omega)], fun j h1 h2 i => by rw [if_neg (by omega), hD j (by omega)]⟩
  obtain ⟨k0, k1, mo, i00, i0, i24, ij⟩ := hI
  refine zbr_i (fun hk => ?_) (fun hk => ?_)
  · have e : k = a := by omega
    subst e
    rw [zgF_e, zpF_e, i0 23 (by omega) (by omega), w32_eq (by omega) (by omega)]
    refine zaS_i ha.1 (by omega) ?_
    refine zaS_i ha.1 (by omega) ?_
    rw [zpF_e]
    refine hQ _ ((((mo.ss _ _ _).ss _ _ _).ss _ _ _).ss _ _ _) (by rw [z5_ne (by omega), z5_ne (by omega), z5_ne (by omega), z5_ne (by omega), i00]) (fun j hj0 => ?_)
    have e23 : zsg (zss K 5 23 0 (D 23 0 + 1)) 5 = fun j => if j = 0 then zsg G 5 0 else reR D (D 23 0 + 1) (spS (D 23 0) k) j := by
      funext j
      by_cases hj0 : j = 0
      · rw [hj0, z5_ne (by omega), i00, if_pos rfl]
      · rw [if_neg hj0]
        by_cases h : j < 23 ∨ 29 < j
        · rw [z5_ne (by omega), i0 j hj0 (by omega), reR_o h]
        · by_cases h2 : j = 23
          · rw [h2, z5_eq, i0 23 (by omega) (by omega), reR_23]
          · rw [z5_ne h2]
            have hsp : ∀ q, (if k < q ∧ q ≤ D 23 0 then q - 1 else q) = spS (D 23 0) k q := fun q => by
              unfold spS
              by_cases h1 : q ≤ k
              · rw [if_pos h1, if_neg (by omega)]
              · rw [if_neg h1]
                by_cases h3 : q ≤ D 23 0
                · rw [if_pos h3, if_pos (by omega)]
                · rw [if_neg h3, if_neg (by omega)]
            by_cases h3 : j = 24
            · subst h3
              refine fun3 (fun q r r0 r3 => ?_)
              rw [i24 q r r0 r3, reR_24 r0 r3, hsp]
            · funext i; rw [ij j (by omega) (by omega), reR_l (by omega), hsp]
    rw [zss5, zss5, zss5, e23]
    have hup : ∀ {A B : ZD} {j' : Nat} {i v : Int}, (∀ j, j ≠ 0 → A j = B j) → ∀ j, j ≠ 0 → up A j' i v j = up B j' i v j := fun {A B j' i v} h j hj => by
      funext i'; unfold up; rw [h j hj]
    exact hup (hup (hup (fun j hj => if_neg hj))) j hj0
  · rw [w32_eq (x := k - 1) (by omega) (by omega)]
    refine s6_copyCase (by omega) (by omega) (by omega) (fun K' mo' e' => ?_)
    rw [zlt1_e, w32_eq (by omega) (by omega)]
    refine hPP _ _ ⟨by omega, by omega, mo.trans mo', by rw [e', cpy_o (by omega), i00], fun j h0 h1 => by rw [e', cpy_o h1, i0 j h0 h1], fun q r r0 r3 => ?_, fun j h1 h2 i => ?_⟩ (by omega)
    · rw [e', cpy_24 r0 r3]
      by_cases hq : q = k
      · rw [if_pos hq, i24 (k - 1) r r0 r3, if_neg (by omega), if_pos (by omega), hq]
      · rw [if_neg hq, i24 q r r0 r3]
        by_cases h : k < q ∧ q ≤ D 23 0
        · rw [if_pos h, if_pos (by omega)]
        · rw [if_neg h, if_neg (by omega)]
    · rw [e', cpy_l ⟨h1, h2⟩]
      dsimp only
      by_cases hq : i = k
      · rw [if_pos hq, ij j h1 h2, if_neg (by omega), if_pos (by omega), hq]
      · rw [if_neg hq, ij j h1 h2]
        by_cases h : k < i ∧ i ≤ D 23 0
        · rw [if_pos h, if_pos (by omega)]
        · rw [if_neg h, if_neg (by omega)]
theorem w6_isCase {G : ZG} {D : ZD} {n : Int} {Q : Int → Prop} (hD : zsg G 5 = D) (hM : MI D) (hQ : Q (bb (decide (0 ≤ n ∧ n < D 23 0)))) : vX6_isCase n G Q := by
  have m23 : 0 ≤ D 23 0 ∧ D 23 0 ≤ 8 := ⟨hM.2.2.2.2.1.2.2.2.1, hM.2.2.2.2.1.2.2.2.2.1⟩
  unfold vX6_isCase
  rw [zgF_e, hD, eX6_in, w32_eq (by omega) (by omega)]
  by_cases h : 0 ≤ n ∧ n < D 23 0
  · rw [decide_eq_true h] at hQ
    rw [decide_eq_true h.1, decide_eq_true (show n ≤ D 23 0 - 1 by omega)]; exact hQ
  · rw [decide_eq_false h] at hQ
    by_cases h0 : 0 ≤ n
    · rw [decide_eq_true h0, decide_eq_false (show ¬ n ≤ D 23 0 - 1 by omega)]; exact hQ
    · rw [decide_eq_false h0]; exact hQ
/-! what is told of the latest run -/
theorem k6_viewAt {G : ZG} {D : ZD} {i : Int} {Q : Int → ZG → Prop} (hD : zsg G 5 = D) (hM : MI D) (h1 : ¬ (0 ≤ i ∧ i < D 48 0) → Q 0 (zss G 5 0 0 1)) (hQ : 0 ≤ i ∧ i < D 48 0 → Q (100000 * D 49 i + 10 * D 50 i + D 51 i) (zss G 5 0 0 0)) : vX6_viewAt i G Q := by
  have m := hM.2.2.2.2.2
  have m1 := m.1
  have m2 := m.2.1
  unfold vX6_viewAt
  rw [zgF_e, hD, eX6_in, w32_eq (by omega) (by omega)]
  dsimp only [zjn]
  by_cases h : 0 ≤ i ∧ i < D 48 0
  · rw [zbr_e0, if_pos (by rw [decide_eq_true h.1, decide_eq_true (show i ≤ D 48 0 - 1 by omega)]; rfl), eX6_refused, zbr_pos (show bb (decide ((0 : Int) ≠ 0)) = 0 from rfl)]
    have b := m.2.2.1 i h.1 h.2
    refine zaL_i h.1 (by omega) ?_
    refine zaL_i h.1 (by omega) ?_
    refine zaL_i h.1 (by omega) ?_
    rw [z5_ne (by omega), z5_ne (by omega), z5_ne (by omega), hD, w32_eq (x := 100000 * D 49 i) (by omega) (by omega), w32_eq (x := 10 * D 50 i) (by omega) (by omega), w32_eq (x := 100000 * D 49 i + 10 * D 50 i) (by omega) (by omega), w32_eq (x := 100000 * D 49 i + 10 * D 50 i + D 51 i) (by omega) (by omega)]
    exact hQ h
  · rw [zbr_e0, if_neg (by simp; omega), eX6_refused, zbr_neg (by simp [bb])]
    exact h1 h
theorem k6_bound {G : ZG} {D : ZD} {i : Int} {Q : Int → ZG → Prop} (hD : zsg G 5 = D) (h1 : ¬ (0 ≤ i ∧ i ≤ 5) → Q 0 (zss G 5 0 0 1)) (hQ : 0 ≤ i ∧ i ≤ 5 → Q (if D 52 0 = -1 then -1 else D 53 i) (zss G 5 0 0 0)) : vX6_bound i G Q := by
  unfold vX6_bound
  rw [eX6_in]
  dsimp only [zjn]
  by_cases h : 0 ≤ i ∧ i ≤ 5
  · rw [zbr_e0, if_pos (by rw [decide_eq_true h.1, decide_eq_true h.2]; rfl), eX6_refused, zbr_pos (show bb (decide ((0 : Int) ≠ 0)) = 0 from rfl), zgF_e, z5_ne (by omega), hD]
    have hQ := hQ h
    refine zbr_i (fun hn => ?_) (fun hn => ?_)
    · rw [if_neg hn] at hQ
      refine zaL_i h.1 (by omega) ?_
      rw [z5_ne (by omega), hD]; exact hQ
    · rw [if_pos (Decidable.of_not_not hn)] at hQ; exact hQ
  · rw [zbr_e0, if_neg (by simp; omega), eX6_refused, zbr_neg (by simp [bb])]
    exact h1 h
theorem k6_taken {G : ZG} {D : ZD} {c : Int} {Q : Int → ZG → Prop} (hD : zsg G 5 = D) (hM : MI D) (h1 : ¬ (0 ≤ c ∧ c < D 23 0) → Q 0 (zss G 5 0 0 1)) (hQ : 0 ≤ c ∧ c < D 23 0 → Q (D 29 c) (zss G 5 0 0 0)) : vX6_taken c G Q := by
  have m23 : 0 ≤ D 23 0 ∧ D 23 0 ≤ 8 := ⟨hM.2.2.2.2.1.2.2.2.1, hM.2.2.2.2.1.2.2.2.2.1⟩
  unfold vX6_taken
  refine w6_isCase hD hM ?_
  dsimp only [zjn]
  by_cases h : 0 ≤ c ∧ c < D 23 0
  · rw [decide_eq_true h, zbr_e0, if_pos rfl, eX6_refused, zbr_pos (show bb (decide ((0 : Int) ≠ 0)) = 0 from rfl)]
    refine zaL_i h.1 (by omega) ?_
    rw [z5_ne (by omega), hD]; exact hQ h
  · rw [decide_eq_false h, zbr_e0, if_neg (by simp), eX6_refused, zbr_neg (by simp [bb])]
    exact h1 h
theorem k6_tests {G : ZG} {Q : Int → ZG → Prop} (hQ : Q (zsg G 5 47 0) (zss G 5 0 0 0)) : vX6_tests G Q := by
  unfold vX6_tests
  rw [zpF_e, zgF_e, z5_ne (by omega)]; exact hQ
theorem k6_views {G : ZG} {Q : Int → ZG → Prop} (hQ : Q (zsg G 5 48 0) (zss G 5 0 0 0)) : vX6_views G Q := by
  unfold vX6_views
  rw [zpF_e, zgF_e, z5_ne (by omega)]; exact hQ
