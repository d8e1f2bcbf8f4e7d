/-! REFERENCE: views, the start of a match, cases -/
set_option maxRecDepth 100000
theorem fun3 {f g : Int → Int} (h : ∀ q r, 0 ≤ r → r < 3 → f (3 * q + r) = g (3 * q + r)) : f = g := by
  funext i
  have := h (i / 3) (i % 3) (by omega) (by omega)
  rw [show 3 * (i / 3) + i % 3 = i by omega] at this
  exact this
theorem k6_setView {G : ZG} {D : ZD} {v a b c m : Int} {Q : Int → ZG → Prop} (hD : zsg G 5 = D) (h1 : ¬ (0 ≤ v ∧ v ≤ 2) → Q 0 (zss G 5 0 0 1)) (h2 : 0 ≤ v ∧ v ≤ 2 → ¬ wOk a b c m → Q 0 (zss G 5 0 0 2))
    (hQ : 0 ≤ v ∧ v ≤ 2 → wOk a b c m → ∀ G', Mo G G' → zsg G' 5 = up (addW (up D 0 0 0) v a b c m) 54 0 (-1) → Q (D 20 (4 * v + 3)) G') : vX6_setView v a b c m G Q := by
  unfold vX6_setView
  rw [eX6_in]
  dsimp only [zjn]
  have cont : ∀ z : Int, (z = 1 ∧ wOk a b c m) ∨ (z = 0 ∧ ¬ wOk a b c m) → vX6_in v 0 2 fun x2 => zbr (x2 ≠ 0) (zbr (z = 0) (vX6_refused 2 G fun x3 G1 => zbr (x3 = 0) (zaL G1 5 20 12 (w32 (w32 (4 * v) + 3)) fun x4 => zaS G1 5 20 12 (w32 (4 * v)) a fun G2 => zaS G2 5 20 12 (w32 (w32 (4 * v) + 1)) b fun G3 => zaS G3 5 20 12 (w32 (w32 (4 * v) + 2)) c fun G4 => zaS G4 5 20 12 (w32 (w32 (4 * v) + 3)) m fun G5 => zpF G5 5 54 (-1) fun G6 => Q x4 G6) (Q 0 G1)) (vX6_refused 0 G fun x3 G1 => zbr (x3 = 0) (zaL G1 5 20 12 (w32 (w32 (4 * v) + 3)) fun x4 => zaS G1 5 20 12 (w32 (4 * v)) a fun G2 => zaS G2 5 20 12 (w32 (w32 (4 * v) + 1)) b fun G3 => zaS G3 5 20 12 (w32 (w32 (4 * v) + 2)) c fun G4 => zaS G4 5 20 12 (w32 (w32 (4 * v) + 3)) m fun G5 => zpF G5 5 54 (-1) fun G6 => Q x4 G6) (Q 0 G1))) (vX6_refused 1 G fun x3 G1 => zbr (x3 = 0) (zaL G1 5 20 12 (w32 (w32 (4 * v) + 3)) fun x4 => zaS G1 5 20 12 (w32 (4 * v)) a fun G2 => zaS G2 5 20 12 (w32 (w32 (4 * v) + 1)) b fun G3 => zaS G3 5 20 12 (w32 (w32 (4 * v) + 2)) c fun G4 => zaS G4 5 20 12 (w32 (w32 (4 * v) + 3)) m fun G5 => zpF G5 5 54 (-1) fun G6 => Q x4 G6) (Q 0 G1)) := by
    intro z hz
    rw [eX6_in]
    by_cases hv : 0 ≤ v ∧ v ≤ 2
    · rw [zbr_pos (by rw [decide_eq_true hv.1, decide_eq_true hv.2]; simp [bb])]
      rcases hz with ⟨rfl, hw⟩ | ⟨rfl, hw⟩
      · rw [zbr_neg (by omega), eX6_refused, zbr_pos (show bb (decide ((0 : Int) ≠ 0)) = 0 from rfl), w32_eq (x := 4 * v) (by omega) (by omega), w32_eq (x := 4 * v + 1) (by omega) (by omega), w32_eq (x := 4 * v + 2) (by omega) (by omega), w32_eq (x := 4 * v + 3) (by omega) (by omega)]
        refine zaL_i (by omega) (by omega) ?_
        refine zaS_i (by omega) (by omega) ?_
        refine zaS_i (by omega) (by omega) ?_
        refine zaS_i (by omega) (by omega) ?_
        refine zaS_i (by omega) (by omega) ?_
        rw [zpF_e, z5_ne (by omega), hD]
        refine hQ hv hw _ ((((((((Mo.refl G).ss _ _ _).ss _ _ _).ss _ _ _).ss _ _ _).ss _ _ _).ss _ _ _)) ?_
        rw [zss5, zss5, zss5, zss5, zss5, zss5, hD]
        rfl
      · rw [zbr_pos rfl, eX6_refused, zbr_neg (by simp [bb])]; exact h2 hv hw
    · rw [zbr_neg (by rw [bb0n]; simp; omega), eX6_refused, zbr_neg (by simp [bb])]; exact h1 hv
  unfold wOk at cont
  refine zbr_i (fun h => cont 0 (Or.inr ⟨rfl, fun q => by rw [decide_eq_true q.1.1, decide_eq_true q.1.2] at h; cases h⟩)) (fun g1 => ?_)
  rw [eX6_in]
  refine zbr_i (fun h => cont 0 (Or.inr ⟨rfl, fun q => by rw [decide_eq_true q.2.1.1, decide_eq_true q.2.1.2] at h; cases h⟩)) (fun g2 => ?_)
  rw [eX6_in]
  refine zbr_i (fun h => cont 0 (Or.inr ⟨rfl, fun q => by rw [decide_eq_true q.2.2.1.1, decide_eq_true q.2.2.1.2] at h; cases h⟩)) (fun g3 => ?_)
  rw [eX6_in]
  refine zbr_i (fun h => cont 0 (Or.inr ⟨rfl, fun q => by rw [decide_eq_true q.2.2.2.1, decide_eq_true q.2.2.2.2] at h; cases h⟩)) (fun g4 => cont 1 (Or.inl ⟨rfl, ?_⟩))
  rw [bb0] at g1 g2 g3 g4
  simp at g1 g2 g3 g4
  exact ⟨g1, g2, g3, g4⟩
theorem k6_begin {G : ZG} {D : ZD} {n a b c : Int} {Q : Int → ZG → Prop} (hD : zsg G 5 = D) (h1 : ¬ bOk n a b c → Q 0 (zss G 5 0 0 1))
    (hQ : bOk n a b c → ∀ G', Mo G G' → zsg G' 5 = up (addB (up D 0 0 0) n a b c) 54 0 (-1) → Q (D 23 0) G') : vX6_begin n a b c G Q := by
  unfold vX6_begin
  rw [eX6_in]
  dsimp only [zjn]
  refine zl2_of (fun z k => 0 ≤ k ∧ k ≤ 3 ∧ ((z = 1 ∧ (1 ≤ n ∧ n ≤ 3) ∧ ∀ j, 0 ≤ j → j < k → if j < n then 0 ≤ pk a b c j ∧ pk a b c j ≤ 5 else pk a b c j = 0) ∨ (z = 0 ∧ ¬ bOk n a b c))) (fun _ k => (3 - k).toNat) (fun P z k hI hPP => ?_) ⟨by omega, by omega, ?_⟩
  · obtain ⟨k0, k1, hz⟩ := hI
    refine zbr_i (fun hk => ?_) (fun hk => ?_)
    · rcases hz with ⟨rfl, hn, hz⟩ | ⟨rfl, hno⟩
      · have hok : bOk n a b c := ⟨hn, fun j j0 j3 => hz j j0 (by omega)⟩
        rw [zbr_neg (by omega), eX6_refused, zbr_pos (show bb (decide ((0 : Int) ≠ 0)) = 0 from rfl), zgF_e, zpF_e, z5_ne (by omega), hD]
        intro P2 hc
        refine hc _ _ ?_
        dsimp only
        rw [zbr_neg (by omega), eX6_pick, pk0]
        refine zaS_i (by omega) (by omega) ?_
        rw [zlt1_e, show w32 (0 + 1) = 1 from w32_eq (by omega) (by omega)]
        refine hc _ _ ?_
        dsimp only
        rw [zbr_neg (by omega), eX6_pick, pk1]
        refine zaS_i (by omega) (by omega) ?_
        rw [zlt1_e, show w32 (1 + 1) = 2 from w32_eq (by omega) (by omega)]
        refine hc _ _ ?_
        dsimp only
        rw [zbr_neg (by omega), eX6_pick, pk2]
        refine zaS_i (by omega) (by omega) ?_
        rw [zlt1_e, show w32 (2 + 1) = 3 from w32_eq (by omega) (by omega)]
        refine hc _ _ ?_
        dsimp only
        rw [zbr_pos (by omega), zpF_e, zpF_e, zpF_e, zpF_e, zpF_e]
        refine hQ hok _ (((((((((((Mo.refl G).ss _ _ _).ss _ _ _).ss _ _ _).ss _ _ _).ss _ _ _).ss _ _ _).ss _ _ _).ss _ _ _).ss _ _ _).ss _ _ _) ?_
        rw [zss5, zss5, zss5, zss5, zss5, zss5, zss5, zss5, zss5, zss5, hD]
        rfl
      · rw [zbr_pos rfl, eX6_refused, zbr_neg (by simp [bb])]; exact h1 hno
    · rw [eX6_pick]
      have step : ∀ u : Int, ((u = 1 ∧ (1 ≤ n ∧ n ≤ 3) ∧ ∀ j, 0 ≤ j → j < k + 1 → if j < n then 0 ≤ pk a b c j ∧ pk a b c j ≤ 5 else pk a b c j = 0) ∨ (u = 0 ∧ ¬ bOk n a b c)) → zlt1 (w32 (k + 1)) fun x12 => P u x12 := by
        intro u hu
        rw [zlt1_e, w32_eq (by omega) (by omega)]
        exact hPP _ _ ⟨by omega, by omega, hu⟩ (by omega)
      rcases hz with ⟨rfl, hn, hz⟩ | ⟨rfl, hno⟩
      · rw [zbr_neg (by omega)]
        have good : (if k < n then 0 ≤ pk a b c k ∧ pk a b c k ≤ 5 else pk a b c k = 0) → zlt1 (w32 (k + 1)) fun x12 => P 1 x12 := fun h => step 1 (Or.inl ⟨rfl, hn, fun j j0 j1 => by
          by_cases hjk : j = k
          · rw [hjk]; exact h
          · exact hz j j0 (by omega)⟩)
        have bad : ¬ (if k < n then 0 ≤ pk a b c k ∧ pk a b c k ≤ 5 else pk a b c k = 0) → zlt1 (w32 (k + 1)) fun x12 => P 0 x12 := fun h => step 0 (Or.inr ⟨rfl, fun q => h (q.2 k k0 (by omega))⟩)
        refine zbr_i (fun hkn => ?_) (fun hkn => ?_)
        · rw [if_neg (by omega)] at good bad
          refine zbr_i (fun h => bad h) (fun h => good (Decidable.of_not_not h))
        · rw [if_pos (by omega)] at good bad
          rw [eX6_isKind]
          by_cases hp : 0 ≤ pk a b c k ∧ pk a b c k ≤ 5
          · rw [zbr_bbt (by unfold kn; rw [decide_eq_true hp.1, decide_eq_true hp.2]; rfl)]; exact good hp
          · rw [zbr_bbf (by unfold kn; simp; omega)]; exact bad hp
      · rw [zbr_pos rfl]; exact step 0 (Or.inr ⟨rfl, hno⟩)
  · by_cases hn : 1 ≤ n ∧ n ≤ 3
    · exact Or.inl ⟨by rw [decide_eq_true hn.1, decide_eq_true hn.2]; rfl, hn, fun j _ _ => by omega⟩
    · refine Or.inr ⟨?_, fun q => hn q.1⟩
      rw [show (decide (1 ≤ n) && decide (n ≤ 3)) = false by simp; omega]; rfl
/-- one row over another -/
def cpy (D : ZD) (f t : Int) : ZD := fun j i => if j = 24 then D 24 (if i / 3 = t then 3 * f + i % 3 else i) else if (25 ≤ j ∧ j ≤ 29) ∧ i = t then D j f else D j i
theorem cpy_24 {D : ZD} {f t q r : Int} (h0 : 0 ≤ r) (h3 : r < 3) : cpy D f t 24 (3 * q + r) = if q = t then D 24 (3 * f + r) else D 24 (3 * q + r) := by
  unfold cpy
  rw [if_pos rfl, show (3 * q + r) / 3 = q by omega, show (3 * q + r) % 3 = r by omega]
  by_cases h : q = t
  · rw [if_pos h, if_pos h]
  · rw [if_neg h, if_neg h]
theorem cpy_l {D : ZD} {f t : Int} {j : Nat} (h : 25 ≤ j ∧ j ≤ 29) : cpy D f t j = fun i => if i = t then D j f else D j i := by
  funext i; unfold cpy; rw [if_neg (by omega)]
  by_cases hi : i = t
  · rw [if_pos ⟨h, hi⟩, if_pos hi]
  · rw [if_neg (fun q => hi q.2), if_neg hi]
theorem cpy_o {D : ZD} {f t : Int} {j : Nat} (h : j < 24 ∨ 29 < j) : cpy D f t j = D j := by
  funext i; unfold cpy; rw [if_neg (by omega), if_neg (by omega)]
theorem s6_copyCase {G : ZG} {f t : Int} {Q : ZG → Prop} (hf : 0 ≤ f ∧ f < 8) (ht : 0 ≤ t ∧ t < 8) (hft : f ≠ t) (hQ : ∀ G', Mo G G' → zsg G' 5 = cpy (zsg G 5) f t → Q G') : vX6_copyCase f t G Q := by
  unfold vX6_copyCase
  refine zl2_of (fun k K => 0 ≤ k ∧ k ≤ 3 ∧ Mo G K ∧ (∀ j, j ≠ 24 → zsg K 5 j = zsg G 5 j) ∧ ∀ q r, 0 ≤ r → r < 3 → zsg K 5 24 (3 * q + r) = if q = t ∧ r < k then zsg G 5 24 (3 * f + r) else zsg G 5 24 (3 * q + r)) (fun k _ => (3 - k).toNat) (fun P k K hI hPP => ?_) ⟨by omega, by omega, Mo.refl G, fun _ _ => rfl, fun q r r0 r3 => by rw [if_neg (by omega)]⟩
  obtain ⟨k0, k1, mo, i0, i24⟩ := hI
  refine zbr_i (fun hk => ?_) (fun hk => ?_)
  · have e3 : k = 3 := by omega
    subst e3
    refine zaL_i hf.1 (by omega) ?_
    refine zaS_i ht.1 (by omega) ?_
    refine zaL_i hf.1 (by omega) ?_
    refine zaS_i ht.1 (by omega) ?_
    refine zaL_i hf.1 (by omega) ?_
    refine zaS_i ht.1 (by omega) ?_
    refine zaL_i hf.1 (by omega) ?_
    refine zaS_i ht.1 (by omega) ?_
    refine zaL_i hf.1 (by omega) ?_
    refine zaS_i ht.1 (by omega) ?_
    refine hQ _ (((((mo.ss _ _ _).ss _ _ _).ss _ _ _).ss _ _ _).ss _ _ _) ?_
    funext j
    by_cases j24 : j = 24
    · subst j24
      rw [z5_ne (by omega), z5_ne (by omega), z5_ne (by omega), z5_ne (by omega), z5_ne (by omega)]
      refine fun3 (fun q r r0 r3 => ?_)
      rw [i24 q r r0 r3, cpy_24 r0 r3]
      by_cases hq : q = t
      · rw [if_pos ⟨hq, by omega⟩, if_pos hq]
      · rw [if_neg (fun z => hq z.1), if_neg hq]
    · by_cases j29 : j = 29
      · subst j29
        rw [z5_eq, z5_ne (by omega), z5_ne (by omega), z5_ne (by omega), z5_ne (by omega), i0 29 (by omega), cpy_l (by omega)]
      · rw [z5_ne j29]
        by_cases j28 : j = 28
        · subst j28
          rw [z5_eq, z5_ne (by omega), z5_ne (by omega), z5_ne (by omega), i0 28 (by omega), cpy_l (by omega)]
        · rw [z5_ne j28]
          by_cases j27 : j = 27
          · subst j27
            rw [z5_eq, z5_ne (by omega), z5_ne (by omega), i0 27 (by omega), cpy_l (by omega)]
          · rw [z5_ne j27]
            by_cases j26 : j = 26
            · subst j26
              rw [z5_eq, z5_ne (by omega), i0 26 (by omega), cpy_l (by omega)]
            · rw [z5_ne j26]
              by_cases j25 : j = 25
              · subst j25
                rw [z5_eq, i0 25 (by omega), cpy_l (by omega)]
              · rw [z5_ne j25, i0 j j24, cpy_o (by omega)]
  · rw [w32_eq (x := 3 * f) (by omega) (by omega), w32_eq (x := 3 * f + k) (by omega) (by omega), w32_eq (x := 3 * t) (by omega) (by omega), w32_eq (x := 3 * t + k) (by omega) (by omega)]
    refine zaL_i (by omega) (by omega) ?_
    refine zaS_i (by omega) (by omega) ?_
    rw [zlt1_e, w32_eq (by omega) (by omega)]
    refine hPP _ _ ⟨by omega, by omega, mo.ss _ _ _, fun j hj => by rw [z5_ne hj]; exact i0 j hj, fun q r r0 r3 => ?_⟩ (by omega)
    rw [z5_eq]
    dsimp only
    rw [i24 f k k0 (by omega), if_neg (show ¬ (f = t ∧ k < k) by omega)]
    by_cases hq : q = t ∧ r = k
    · rw [if_pos (by omega), if_pos (by omega), hq.2]
    · rw [if_neg (by omega), i24 q r r0 r3]
      by_cases hq2 : q = t ∧ r < k
      · rw [if_pos hq2, if_pos (by omega)]
      · rw [if_neg hq2, if_neg (by omega)]
