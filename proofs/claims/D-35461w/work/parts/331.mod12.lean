/-! REFERENCE: cases merged -/
set_option maxRecDepth 100000
theorem k6_merge {G : ZG} {D : ZD} {c col : Int} {Q : Int → ZG → Prop} (hD : zsg G 5 = D) (hM : MI D)
    (h1 : ¬ ((0 ≤ c ∧ c ≤ D 23 0 - 2) ∧ 0 ≤ col ∧ col < D 21 0) → Q 0 (zss G 5 0 0 1)) (h2 : (0 ≤ c ∧ c ≤ D 23 0 - 2) ∧ 0 ≤ col ∧ col < D 21 0 → ¬ mrCan D c col → Q 0 (zss G 5 0 0 2))
    (hQ : (0 ≤ c ∧ c ≤ D 23 0 - 2) ∧ 0 ≤ col ∧ col < D 21 0 → mrCan D c col → ∀ G', Mo G G' → zsg G' 5 0 0 = 0 →
      (∀ j, j ≠ 0 → zsg G' 5 j = up (mrg (addP D (eiv D (D 24 (3 * c + col)) (D 24 (3 * (c + 1) + col))) (D 24 (3 * c + col)) (D 24 (3 * (c + 1) + col)) (-1)) c col (D 9 0)) 54 0 (-1) j) → Q (D 23 0 - 1) G') : vX6_merge c col G Q := by
  have m21 : 0 ≤ D 21 0 ∧ D 21 0 ≤ 3 := ⟨hM.2.2.2.2.1.1, hM.2.2.2.2.1.2.1⟩
  have m23 : 0 ≤ D 23 0 ∧ D 23 0 ≤ 8 := ⟨hM.2.2.2.2.1.2.2.2.1, hM.2.2.2.2.1.2.2.2.2.1⟩
  have m9 : 0 ≤ D 9 0 ∧ D 9 0 ≤ 60 := ⟨hM.2.2.1.1, hM.2.2.1.2.1⟩
  have z10 : ¬ (1 : Int) = 0 := by omega
  unfold vX6_merge
  rw [zgF_e, hD, eX6_in, w32_eq (x := D 23 0 - 2) (by omega) (by omega)]
  dsimp only [zjn]
  by_cases hok : (0 ≤ c ∧ c ≤ D 23 0 - 2) ∧ 0 ≤ col ∧ col < D 21 0
  · rw [zbr_e0, if_pos (by rw [decide_eq_true hok.1.1, decide_eq_true hok.1.2]; rfl), zgF_e, hD, eX6_in, w32_eq (x := D 21 0 - 1) (by omega) (by omega), zbr_e0, if_pos (by rw [decide_eq_true hok.2.1, decide_eq_true (show col ≤ D 21 0 - 1 by omega)]; rfl), zbr_neg z10]
    rw [w32_eq (x := c + 1) (by omega) (by omega), w32_eq (x := 3 * c) (by omega) (by omega), w32_eq (x := 3 * c + 3) (by omega) (by omega), w32_eq (x := 3 * c + col) (by omega) (by omega), w32_eq (x := 3 * c + 3 + col) (by omega) (by omega)]
    have cw1 := hM.2.2.2.2.1.2.2.2.2.2.2 c hok.1.1 (by omega)
    have cw2 := hM.2.2.2.2.1.2.2.2.2.2.2 (c + 1) (by omega) (by omega)
    have how1 := cw1.1 col hok.2.1 hok.2.2
    have how2 := cw2.1 col hok.2.1 hok.2.2
    have e3 : ∀ k, 3 * c + 3 + k = 3 * (c + 1) + k := fun k => by omega
    -- the loop over the columns
    have main : ∀ z : Int, ((z = 1 ∧ D 26 c = -1 ∧ D 26 (c + 1) = -1 ∧ D 25 c = D 25 (c + 1)) ∨ (z = 0 ∧ ¬ mrCan D c col)) → zl2 (fun (P87 : Int → Int → Prop) (a87_4 : Int) (a87_5 : Int) => zgF G 5 21 fun (x3 : Int) => zbr (x3 ≤ a87_5) (zbr ((1 : Int) ≠ 0) (zbr (a87_4 = 0) (vX6_refused 2 G fun (x4 : Int) (G1 : ZG) => zbr (x4 = 0) (zaL G1 5 24 24 (3 * c + col) fun (x5 : Int) => zaL G1 5 24 24 (3 * c + 3 + col) fun (x6 : Int) => vX6_alternatives x5 x6 G1 fun (x7 : Int) (G2 : ZG) => zaS G2 5 24 24 (3 * c + col) x7 fun (G3 : ZG) => zaS G3 5 29 8 c 0 fun (G4 : ZG) => zlt1 (c + 1) fun (x8 : Int) => zl2 (fun (P276 : Int → ZG → Prop) (a276_5 : Int) (K276 : ZG) => zgF K276 5 23 fun (x9 : Int) => zbr (w32 (x9 - 1) ≤ a276_5) (zgF K276 5 23 fun (x10 : Int) => zpF K276 5 23 (w32 (x10 - 1)) fun (G5 : ZG) => zpF G5 5 54 (-1) fun (G6 : ZG) => zgF G6 5 23 fun (x11 : Int) => Q x11 G6) (vX6_copyCase (w32 (a276_5 + 1)) a276_5 K276 fun (G7 : ZG) => zlt1 (w32 (a276_5 + 1)) fun (x12 : Int) => P276 x12 G7)) x8 G4) (Q 0 G1)) (vX6_refused 0 G fun (x4 : Int) (G1 : ZG) => zbr (x4 = 0) (zaL G1 5 24 24 (3 * c + col) fun (x5 : Int) => zaL G1 5 24 24 (3 * c + 3 + col) fun (x6 : Int) => vX6_alternatives x5 x6 G1 fun (x7 : Int) (G2 : ZG) => zaS G2 5 24 24 (3 * c + col) x7 fun (G3 : ZG) => zaS G3 5 29 8 c 0 fun (G4 : ZG) => zlt1 (c + 1) fun (x8 : Int) => zl2 (fun (P276 : Int → ZG → Prop) (a276_5 : Int) (K276 : ZG) => zgF K276 5 23 fun (x9 : Int) => zbr (w32 (x9 - 1) ≤ a276_5) (zgF K276 5 23 fun (x10 : Int) => zpF K276 5 23 (w32 (x10 - 1)) fun (G5 : ZG) => zpF G5 5 54 (-1) fun (G6 : ZG) => zgF G6 5 23 fun (x11 : Int) => Q x11 G6) (vX6_copyCase (w32 (a276_5 + 1)) a276_5 K276 fun (G7 : ZG) => zlt1 (w32 (a276_5 + 1)) fun (x12 : Int) => P276 x12 G7)) x8 G4) (Q 0 G1))) (vX6_refused 1 G fun (x4 : Int) (G1 : ZG) => zbr (x4 = 0) (zaL G1 5 24 24 (3 * c + col) fun (x5 : Int) => zaL G1 5 24 24 (3 * c + 3 + col) fun (x6 : Int) => vX6_alternatives x5 x6 G1 fun (x7 : Int) (G2 : ZG) => zaS G2 5 24 24 (3 * c + col) x7 fun (G3 : ZG) => zaS G3 5 29 8 c 0 fun (G4 : ZG) => zlt1 (c + 1) fun (x8 : Int) => zl2 (fun (P276 : Int → ZG → Prop) (a276_5 : Int) (K276 : ZG) => zgF K276 5 23 fun (x9 : Int) => zbr (w32 (x9 - 1) ≤ a276_5) (zgF K276 5 23 fun (x10 : Int) => zpF K276 5 23 (w32 (x10 - 1)) fun (G5 : ZG) => zpF G5 5 54 (-1) fun (G6 : ZG) => zgF G6 5 23 fun (x11 : Int) => Q x11 G6) (vX6_copyCase (w32 (a276_5 + 1)) a276_5 K276 fun (G7 : ZG) => zlt1 (w32 (a276_5 + 1)) fun (x12 : Int) => P276 x12 G7)) x8 G4) (Q 0 G1))) (zbr (a87_4 = 0) (zbr ((1 : Int) ≠ 0) (zbr (a87_4 = 0) (vX6_refused 2 G fun (x4 : Int) (G1 : ZG) => zbr (x4 = 0) (zaL G1 5 24 24 (3 * c + col) fun (x5 : Int) => zaL G1 5 24 24 (3 * c + 3 + col) fun (x6 : Int) => vX6_alternatives x5 x6 G1 fun (x7 : Int) (G2 : ZG) => zaS G2 5 24 24 (3 * c + col) x7 fun (G3 : ZG) => zaS G3 5 29 8 c 0 fun (G4 : ZG) => zlt1 (c + 1) fun (x8 : Int) => zl2 (fun (P276 : Int → ZG → Prop) (a276_5 : Int) (K276 : ZG) => zgF K276 5 23 fun (x9 : Int) => zbr (w32 (x9 - 1) ≤ a276_5) (zgF K276 5 23 fun (x10 : Int) => zpF K276 5 23 (w32 (x10 - 1)) fun (G5 : ZG) => zpF G5 5 54 (-1) fun (G6 : ZG) => zgF G6 5 23 fun (x11 : Int) => Q x11 G6) (vX6_copyCase (w32 (a276_5 + 1)) a276_5 K276 fun (G7 : ZG) => zlt1 (w32 (a276_5 + 1)) fun (x12 : Int) => P276 x12 G7)) x8 G4) (Q 0 G1)) (vX6_refused 0 G fun (x4 : Int) (G1 : ZG) => zbr (x4 = 0) (zaL G1 5 24 24 (3 * c + col) fun (x5 : Int) => zaL G1 5 24 24 (3 * c + 3 + col) fun (x6 : Int) => vX6_alternatives x5 x6 G1 fun (x7 : Int) (G2 : ZG) => zaS G2 5 24 24 (3 * c + col) x7 fun (G3 : ZG) => zaS G3 5 29 8 c 0 fun (G4 : ZG) => zlt1 (c + 1) fun (x8 : Int) => zl2 (fun (P276 : Int → ZG → Prop) (a276_5 : Int) (K276 : ZG) => zgF K276 5 23 fun (x9 : Int) => zbr (w32 (x9 - 1) ≤ a276_5) (zgF K276 5 23 fun (x10 : Int) => zpF K276 5 23 (w32 (x10 - 1)) fun (G5 : ZG) => zpF G5 5 54 (-1) fun (G6 : ZG) => zgF G6 5 23 fun (x11 : Int) => Q x11 G6) (vX6_copyCase (w32 (a276_5 + 1)) a276_5 K276 fun (G7 : ZG) => zlt1 (w32 (a276_5 + 1)) fun (x12 : Int) => P276 x12 G7)) x8 G4) (Q 0 G1))) (vX6_refused 1 G fun (x4 : Int) (G1 : ZG) => zbr (x4 = 0) (zaL G1 5 24 24 (3 * c + col) fun (x5 : Int) => zaL G1 5 24 24 (3 * c + 3 + col) fun (x6 : Int) => vX6_alternatives x5 x6 G1 fun (x7 : Int) (G2 : ZG) => zaS G2 5 24 24 (3 * c + col) x7 fun (G3 : ZG) => zaS G3 5 29 8 c 0 fun (G4 : ZG) => zlt1 (c + 1) fun (x8 : Int) => zl2 (fun (P276 : Int → ZG → Prop) (a276_5 : Int) (K276 : ZG) => zgF K276 5 23 fun (x9 : Int) => zbr (w32 (x9 - 1) ≤ a276_5) (zgF K276 5 23 fun (x10 : Int) => zpF K276 5 23 (w32 (x10 - 1)) fun (G5 : ZG) => zpF G5 5 54 (-1) fun (G6 : ZG) => zgF G6 5 23 fun (x11 : Int) => Q x11 G6) (vX6_copyCase (w32 (a276_5 + 1)) a276_5 K276 fun (G7 : ZG) => zlt1 (w32 (a276_5 + 1)) fun (x12 : Int) => P276 x12 G7)) x8 G4) (Q 0 G1))) (zaL G 5 24 24 (w32 (3 * c + a87_5)) fun (x13 : Int) => zaL G 5 24 24 (w32 (3 * c + 3 + a87_5)) fun (x14 : Int) => zbr (a87_5 ≠ col) (zbr (x13 ≠ x14) (zlt1 (w32 (a87_5 + 1)) fun (x15 : Int) => P87 0 x15) (zlt1 (w32 (a87_5 + 1)) fun (x15 : Int) => P87 1 x15)) (zaL G 5 18 60 x13 fun (x16 : Int) => zbr (x16 ≠ 0) (zlt1 (w32 (a87_5 + 1)) fun (x15 : Int) => P87 0 x15) (zaL G 5 18 60 x14 fun (x17 : Int) => zbr (x17 ≠ 0) (zlt1 (w32 (a87_5 + 1)) fun (x15 : Int) => P87 0 x15) (vX6_areAlternatives x13 x14 G fun (x18 : Int) => zbr (x18 = 0) (zlt1 (w32 (a87_5 + 1)) fun (x15 : Int) => P87 0 x15) (vX6_isFull G fun (x19 : Int) => zbr (x19 ≠ 0) (zlt1 (w32 (a87_5 + 1)) fun (x15 : Int) => P87 0 x15) (zlt1 (w32 (a87_5 + 1)) fun (x15 : Int) => P87 1 x15)))))))) z 0 := by
      intro z hz
      refine zl2_of (fun z k => 0 ≤ k ∧ k ≤ D 21 0 ∧ ((z = 1 ∧ (D 26 c = -1 ∧ D 26 (c + 1) = -1 ∧ D 25 c = D 25 (c + 1)) ∧ ∀ j, 0 ≤ j → j < k → (j ≠ col → D 24 (3 * c + j) = D 24 (3 * (c + 1) + j)) ∧ (j = col → D 18 (D 24 (3 * c + col)) = 0 ∧ D 18 (D 24 (3 * (c + 1) + col)) = 0 ∧ altb D (D 24 (3 * c + col)) (D 24 (3 * (c + 1) + col)) = true ∧ D 9 0 < 60)) ∨ (z = 0 ∧ ¬ mrCan D c col))) (fun _ k => (D 21 0 - k).toNat) (fun P z k hI hPP => ?_) ⟨by omega, m21.1, ?_⟩
      · obtain ⟨k0, k1, hz⟩ := hI
        rw [zgF_e, hD]
        refine zbr_i (fun hk => ?_) (fun hk => zbr_i (fun hz0 => ?_) (fun hz0 => ?_))
        · rw [zbr_pos (by omega)]
          rcases hz with ⟨rfl, hg3, hz⟩ | ⟨rfl, hno⟩
          · have hc := (hz col hok.2.1 (by omega)).2 rfl
            have hcan : mrCan D c col := ⟨hg3, fun j j0 j1 j2 => (hz j j0 (by omega)).1 j2, hc.1, hc.2.1, hc.2.2.1, hc.2.2.2⟩
            rw [zbr_neg z10, eX6_refused, zbr_pos (show bb (decide ((0 : Int) ≠ 0)) = 0 from rfl)]
            refine zaL_i (by omega) (by omega) ?_
            refine zaL_i (by omega) (by omega) ?_
            rw [z5_ne (by omega), hD, e3 col]
            generalize hga : D 24 (3 * c + col) = a at *
            generalize hgb : D 24 (3 * (c + 1) + col) = b at *
            refine w6_alternatives (D := D) hM (fun j hj => by rw [z5_ne hj, hD]) ⟨how1.1, how1.2.1⟩ ⟨how2.1, how2.2.1⟩ hc.2.2.1 hc.2.2.2 (fun G2 mo2 e0 ej => ?_)
            refine zaS_i (by omega) (by omega) ?_
            refine zaS_i (by omega) (by omega) ?_
            rw [zlt1_e]
            have hQ' := hQ hok hcan
            generalize hD1 : addP D (eiv D a b) a b (-1) = D1 at ej hQ'
            have d23 : D1 23 = D 23 := by rw [← hD1]; exact addP_o (by omega)
            have mo4 : Mo G (zss (zss G2 5 24 (3 * c + col) (D 9 0)) 5 29 c 0) := ((((Mo.refl G).ss _ _ _).trans mo2).ss _ _ _).ss _ _ _
            have f0 : zsg (zss (zss G2 5 24 (3 * c + col) (D 9 0)) 5 29 c 0) 5 0 0 = 0 := by rw [z5_ne (by omega), z5_ne (by omega), e0, z5_eq]; rfl
            have fj : ∀ j, j ≠ 0 → zsg (zss (zss G2 5 24 (3 * c + col) (D 9 0)) 5 29 c 0) 5 j = up (up D1 24 (3 * c + col) (D 9 0)) 29 c 0 j := fun j hj => by
              rw [zss5, zss5]
              funext i
              unfold up
              rw [ej j hj]
            generalize zss (zss G2 5 24 (3 * c + col) (D 9 0)) 5 29 c 0 = K at mo4 f0 fj
            refine zl2_of (fun k K' => c + 1 ≤ k ∧ k ≤ D 23 0 - 1 ∧ Mo G K' ∧ zsg K' 5 0 0 = 0 ∧ (∀ j, j ≠ 0 → (j < 24 ∨ 29 < j) → zsg K' 5 j = D1 j) ∧ (∀ q r, 0 ≤ r → r < 3 → zsg K' 5 24 (3 * q + r) = (up D1 24 (3 * c + col) (D 9 0)) 24 (3 * (if c < q ∧ q < k then q + 1 else q) + r)) ∧ (∀ j, 25 ≤ j → j ≤ 29 → ∀ i, zsg K' 5 j i = (up D1 29 c 0) j (if c < i ∧ i < k then i + 1 else i))) (fun k _ => (D 23 0 - 1 - k).toNat) (fun P3 k K' hJ hP3 => ?_) ⟨by omega, by omega, mo4, f0, fun j hj0 hj => by rw [fj j hj0, up_ne (by omega), up_ne (by omega)], fun q r _ _ => by rw [if_neg (by omega), fj 24 (by omega), up_ne (by omega)], fun j h1 h2 i => ?_⟩
            · obtain ⟨q0, q1, mo, i00, i0, i24, ij⟩ := hJ
              rw [zgF_e, i0 23 (by omega) (by omega), d23, w32_eq (by omega) (by omega)]
              refine zbr_i (fun hk => ?_) (fun hk => ?_)
              · have e : k = D 23 0 - 1 := by omega
                rw [zgF_e, i0 23 (by omega) (by omega), d23, zpF_e, zpF_e, zgF_e, z5_ne (by omega), z5_eq, w32_eq (by omega) (by omega)]
                dsimp only
                rw [if_pos rfl]
                refine hQ' _ ((mo.ss _ _ _).ss _ _ _) (by rw [z5_ne (by omega), z5_ne (by omega), i00]) (fun j hj => ?_)
                have hsp : ∀ q, (if c < q ∧ q < k then q + 1 else q) = mrS (D1 23 0) c q := fun q => by
                  unfold mrS
                  rw [d23]
                  by_cases h1 : q ≤ c
                  · rw [if_pos h1, if_neg (by omega)]
                  · rw [if_neg h1]
                    by_cases h3 : q < D 23 0 - 1
                    · rw [if_pos h3, if_pos (by omega)]
                    · rw [if_neg h3, if_neg (by omega)]
                have hmr : ∀ q, mrS (D1 23 0) c q = c ↔ q = c := fun q => by
                  unfold mrS
                  by_cases h1 : q ≤ c
                  · rw [if_pos h1]
                  · rw [if_neg h1]; split <;> constructor <;> intro h <;> omega
                by_cases j54 : j = 54
                · subst j54
                  rw [z5_eq, z5_ne (by omega), i0 54 (by omega) (by omega)]
                  funext i
                  rw [up_at, mrg_o (by omega)]
                · rw [z5_ne j54, up_ne j54]
                  by_cases j23 : j = 23
                  · subst j23
                    rw [z5_eq, i0 23 (by omega) (by omega)]
                    funext i
                    unfold mrg
                    rw [up_ne (by omega), up_ne (by omega), reR_23, d23]
                  · rw [z5_ne j23]
                    by_cases j24 : j = 24
                    · subst j24
                      refine fun3 (fun q r r0 r3 => ?_)
                      rw [i24 q r r0 r3, hsp, mrg_24 r0 r3 hok.2.1 (by omega), up_at]
                      have := hmr q
                      by_cases hq : q = c ∧ r = col
                      · rw [if_pos hq, if_pos (by have := this.mpr hq.1; omega)]
                      · rw [if_neg hq, if_neg (fun e => hq ⟨this.mp (by omega), by omega⟩)]
                    · by_cases jr : 25 ≤ j ∧ j ≤ 29
                      · funext i
                        rw [ij j jr.1 jr.2, hsp]
                        by_cases j29 : j = 29
                        · subst j29
                          rw [mrg_29, up_at]
                          by_cases hi : i = c
                          · rw [if_pos hi, if_pos ((hmr i).mpr hi)]
                          · rw [if_neg hi, if_neg (fun e => hi ((hmr i).mp e))]
                        · rw [up_ne j29, mrg_l (by omega)]
                      · rw [i0 j hj (by omega), mrg_o (by omega)]
              · rw [w32_eq (x := k + 1) (by omega) (by omega)]
                refine s6_copyCase (by omega) (by omega) (by omega) (fun K2 mo' e' => ?_)
                rw [zlt1_e]
                refine hP3 _ _ ⟨by omega, by omega, mo.trans mo', by rw [e', cpy_o (by omega), i00], fun j h0 h1 => by rw [e', cpy_o h1, i0 j h0 h1], fun q r r0 r3 => ?_, fun j h1 h2 i => ?_⟩ (by omega)
                · rw [e', cpy_24 r0 r3]
                  by_cases hq : q = k
                  · rw [if_pos hq, i24 (k + 1) r r0 r3, if_neg (by omega), if_pos (by omega), hq]
                  · rw [if_neg hq, i24 q r r0 r3]
                    by_cases h : c < q ∧ q < k
                    · rw [if_pos h, if_pos (by omega)]
                    · rw [if_neg h, if_neg (by omega)]
                · rw [e', cpy_l ⟨h1, h2⟩]
                  dsimp only
                  by_cases hq : i = k
                  · rw [if_pos hq, ij j h1 h2, if_neg (by omega), if_pos (by omega), hq]
                  · rw [if_neg hq, ij j h1 h2]
                    by_cases h : c < i ∧ i < k
                    · rw [if_pos h, if_pos (by omega)]
                    · rw [if_neg h, if_neg (by omega)]
            · rw [if_neg (by omega), fj j (by omega)]
              by_cases j29 : j = 29
              · subst j29; rw [up_at, up_at, up_ne (by omega)]
              · rw [up_ne j29, up_ne j29, up_ne (by omega)]
          · rw [zbr_pos rfl, eX6_refused, zbr_neg (by simp [bb])]; exact h2 hok hno
        · rcases hz with ⟨rfl, hg3, hz⟩ | ⟨rfl, hno⟩
          · exact absurd hz0 z10
          · rw [zbr_pos (by omega), zbr_pos rfl, eX6_refused, zbr_neg (by simp [bb])]; exact h2 hok hno
        · rcases hz with ⟨rfl, hg3, hz⟩ | ⟨rfl, hno⟩
          · have step1 : ((k ≠ col → D 24 (3 * c + k) = D 24 (3 * (c + 1) + k)) ∧ (k = col → D 18 (D 24 (3 * c + col)) = 0 ∧ D 18 (D 24 (3 * (c + 1) + col)) = 0 ∧ altb D (D 24 (3 * c + col)) (D 24 (3 * (c + 1) + col)) = true ∧ D 9 0 < 60)) → zlt1 (w32 (k + 1)) fun x15 => P 1 x15 := by
              intro hkk
              rw [zlt1_e, w32_eq (by omega) (by omega)]
              refine hPP _ _ ⟨by omega, by omega, Or.inl ⟨rfl, hg3, fun j j0 j1 => ?_⟩⟩ (by omega)
              by_cases hjk : j = k
              · rw [hjk]; exact hkk
              · exact hz j j0 (by omega)
            have step0 : ¬ mrCan D c col → zlt1 (w32 (k + 1)) fun x15 => P 0 x15 := by
              intro hno
              rw [zlt1_e, w32_eq (by omega) (by omega)]
              exact hPP _ _ ⟨by omega, by omega, Or.inr ⟨rfl, hno⟩⟩ (by omega)
            rw [w32_eq (x := 3 * c + k) (by omega) (by omega), w32_eq (x := 3 * c + 3 + k) (by omega) (by omega)]
            refine zaL_i (by omega) (by omega) ?_
            refine zaL_i (by omega) (by omega) ?_
            rw [hD, e3 k]
            refine zbr_i (fun hkc => ?_) (fun hkc => ?_)
            · refine zbr_i (fun hne => step0 (fun q => hne (q.2.1 k k0 (by omega) hkc))) (fun he => step1 ⟨fun _ => Decidable.of_not_not he, fun q => absurd q hkc⟩)
            · have hkc := Decidable.of_not_not hkc
              subst hkc
              refine zaL_i how1.1 (by omega) ?_
              rw [hD]
              refine zbr_i (fun h => step0 (fun q => h q.2.2.1)) (fun g1 => ?_)
              refine zaL_i how2.1 (by omega) ?_
              rw [hD]
              refine zbr_i (fun h => step0 (fun q => h q.2.2.2.1)) (fun g2 => ?_)
              refine w6_areAlt hM hD ⟨how1.1, how1.2.1⟩ ⟨how2.1, how2.2.1⟩ ?_
              cases halt : altb D (D 24 (3 * c + k)) (D 24 (3 * (c + 1) + k)) with
              | false => exact zbr_i (fun _ => step0 (fun q => by have := q.2.2.2.2.1; rw [halt] at this; cases this)) (fun q => absurd rfl q)
              | true =>
                refine zbr_i (fun q => by simp [bb] at q) (fun _ => ?_)
                refine w6_isFull ?_
                rw [hD]
                by_cases h60 : D 9 0 = 60
                · rw [decide_eq_true h60]
                  exact zbr_i (fun _ => step0 (fun q => by have := q.2.2.2.2.2; omega)) (fun q => absurd (show bb true ≠ 0 by simp [bb]) q)
                · rw [decide_eq_false h60]
                  exact zbr_i (fun q => absurd rfl q) (fun _ => step1 ⟨fun q => absurd rfl q, fun _ => ⟨Decidable.of_not_not g1, Decidable.of_not_not g2, halt, by omega⟩⟩)
          · exact absurd rfl hz0
      · rcases hz with ⟨rfl, hg⟩ | hz
        · exact Or.inl ⟨rfl, hg, fun j j0 j1 => by omega⟩
        · exact Or.inr hz
    refine zaL_i hok.1.1 (by omega) ?_
    rw [hD]
    refine zbr_i (fun h => main 0 (Or.inr ⟨rfl, fun q => h q.1.1⟩)) (fun g1 => ?_)
    refine zaL_i (by omega) (by omega) ?_
    rw [hD]
    refine zbr_i (fun h => main 0 (Or.inr ⟨rfl, fun q => h q.1.2.1⟩)) (fun g2 => ?_)
    refine zaL_i hok.1.1 (by omega) ?_
    refine zaL_i (by omega) (by omega) ?_
    rw [hD]
    refine zbr_i (fun h => main 0 (Or.inr ⟨rfl, fun q => h q.1.2.2⟩)) (fun g3 => main 1 (Or.inl ⟨rfl, Decidable.of_not_not g1, Decidable.of_not_not g2, Decidable.of_not_not g3⟩))
  · have fin : ∀ (f : ZG → Prop), vX6_refused 1 G fun x2 G1 => zbr (x2 = 0) (f G1) (Q 0 G1) := fun f => by
      rw [eX6_refused, zbr_neg (by simp [bb])]; exact h1 hok
    by_cases hc : 0 ≤ c ∧ c ≤ D 23 0 - 2
    · rw [zbr_e0, if_pos (by rw [decide_eq_true hc.1, decide_eq_true hc.2]; rfl), zgF_e, hD, eX6_in, w32_eq (x := D 21 0 - 1) (by omega) (by omega), zbr_e0, if_neg (by simp; omega), zbr_pos rfl]
      intro P hcl
      refine hcl _ _ ?_
      dsimp only
      rw [zgF_e, hD]
      refine zbr_i (fun _ => ?_) (fun _ => zbr_i (fun _ => ?_) (fun q => absurd rfl q))
      · rw [zbr_neg (by omega)]; exact fin _
      · rw [zbr_neg (by omega)]; exact fin _
    · rw [zbr_e0, if_neg (by simp; omega), zbr_pos rfl]
      intro P hcl
      refine hcl _ _ ?_
      dsimp only
      rw [zgF_e, hD]
      refine zbr_i (fun _ => ?_) (fun _ => zbr_i (fun _ => ?_) (fun q => absurd rfl q))
      · rw [zbr_neg (by omega)]; exact fin _
      · rw [zbr_neg (by omega)]; exact fin _
