/-! REFERENCE: values and constructors -/
set_option maxRecDepth 100000
/-- only the reference's own object has changed -/
def Mo (G G' : ZG) : Prop := G'.2 = G.2 ∧ ∀ o, o ≠ 5 → zsg G' o = zsg G o
theorem Mo.refl (G : ZG) : Mo G G := ⟨rfl, fun _ _ => rfl⟩
theorem Mo.trans {G K H : ZG} (h : Mo G K) (g : Mo K H) : Mo G H := ⟨g.1.trans h.1, fun o ho => (g.2 o ho).trans (h.2 o ho)⟩
theorem Mo.ss {G K : ZG} (h : Mo G K) (j : Nat) (i v : Int) : Mo G (zss K 5 j i v) := ⟨h.1, fun o ho => by
  funext j' i'
  rw [zsg_ss, if_neg (fun z => ho z.1)]; exact congrFun (congrFun (h.2 o ho) j') i'⟩
theorem zss5 (G : ZG) (j : Nat) (i v : Int) : zsg (zss G 5 j i v) 5 = up (zsg G 5) j i v := by
  funext j' i'
  rw [zsg_ss]; unfold up
  by_cases h : j' = j ∧ i' = i
  · rw [if_pos ⟨rfl, h.1, h.2⟩, if_pos h]
  · rw [if_neg (fun z => h z.2), if_neg h]
theorem zaL_i {G : ZG} {o j n : Nat} {i : Int} {Q : Int → Prop} (h0 : 0 ≤ i) (h1 : i < (n : Int)) (h : Q (zsg G o j i)) : zaL G o j n i Q := ⟨h0, h1, h⟩
theorem zaS_i {G : ZG} {o j n : Nat} {i x : Int} {Q : ZG → Prop} (h0 : 0 ≤ i) (h1 : i < (n : Int)) (h : Q (zss G o j i x)) : zaS G o j n i x Q := ⟨h0, h1, h⟩
theorem s6_value {G : ZG} {k h a b c m : Int} {Q : Int → ZG → Prop} (h0 : 0 ≤ zsg G 5 4 0) (h1 : zsg G 5 4 0 < 40) (hm : 0 ≤ m) (hm2 : m ≤ 100000) (hQ : ∀ G', Mo G G' → zsg G' 5 = addV (zsg G 5) k h a b c (m % 97) → Q (zsg G 5 4 0) G') : vX6_value k h a b c m G Q := by
  unfold vX6_value
  rw [zgF_e]
  refine zaS_i h0 (by omega) ?_
  rw [zgF_e]
  have e : ∀ (K : ZG) (j : Nat) (i v : Int), j ≠ 4 → zsg (zss K 5 j i v) 5 4 0 = zsg K 5 4 0 := fun K j i v hj => by rw [zsg_ss, if_neg (by omega)]
  rw [e _ _ _ _ (by omega)]
  refine zaS_i h0 (by omega) ?_
  rw [zgF_e, e _ _ _ _ (by omega), e _ _ _ _ (by omega), w32_eq (x := 3 * zsg G 5 4 0) (by omega) (by omega)]
  refine zaS_i (by omega) (by omega) ?_
  rw [zgF_e, e _ _ _ _ (by omega), e _ _ _ _ (by omega), e _ _ _ _ (by omega), w32_eq (x := 3 * zsg G 5 4 0) (by omega) (by omega), w32_eq (x := 3 * zsg G 5 4 0 + 1) (by omega) (by omega)]
  refine zaS_i (by omega) (by omega) ?_
  rw [zgF_e, e _ _ _ _ (by omega), e _ _ _ _ (by omega), e _ _ _ _ (by omega), e _ _ _ _ (by omega), w32_eq (x := 3 * zsg G 5 4 0) (by omega) (by omega), w32_eq (x := 3 * zsg G 5 4 0 + 2) (by omega) (by omega)]
  refine zaS_i (by omega) (by omega) ?_
  rw [zgF_e, e _ _ _ _ (by omega), e _ _ _ _ (by omega), e _ _ _ _ (by omega), e _ _ _ _ (by omega), e _ _ _ _ (by omega), dRem_nn (by unfold inR; omega) hm (by omega) (by omega)]
  refine ⟨by unfold zn0; omega, zaS_i (by omega) (by omega) ?_⟩
  rw [zgF_e, e _ _ _ _ (by omega), e _ _ _ _ (by omega), e _ _ _ _ (by omega), e _ _ _ _ (by omega), e _ _ _ _ (by omega), e _ _ _ _ (by omega), zpF_e, zgF_e, zsg_ss, if_pos ⟨rfl, rfl, rfl⟩, w32_eq (x := zsg G 5 4 0 + 1) (by omega) (by omega), w32_eq (by omega) (by omega), show zsg G 5 4 0 + 1 - 1 = zsg G 5 4 0 by omega]
  refine hQ _ (((((((((Mo.refl G).ss _ _ _).ss _ _ _).ss _ _ _).ss _ _ _).ss _ _ _).ss _ _ _).ss _ _ _)) ?_
  rw [zss5, zss5, zss5, zss5, zss5, zss5, zss5]
  rfl
theorem k6_num {G : ZG} {n : Int} {Q : Int → ZG → Prop} (hM : MI (zsg G 5)) (h1 : ¬ (0 ≤ n ∧ n ≤ 9) → Q 0 (zss G 5 0 0 1)) (h2 : (0 ≤ n ∧ n ≤ 9) → zsg G 5 4 0 = 40 → Q 0 (zss G 5 0 0 2))
    (hQ : (0 ≤ n ∧ n ≤ 9) → zsg G 5 4 0 < 40 → ∀ G', Mo G G' → zsg G' 5 = addV (up (zsg G 5) 0 0 0) 4 n 0 0 0 n → Q (zsg G 5 4 0) G') : vX6_num n G Q := by
  have m4 : 0 ≤ zsg G 5 4 0 ∧ zsg G 5 4 0 ≤ 40 := ⟨hM.2.1.1, hM.2.1.2.1⟩
  simp only [vX6_num, eX6_in, zjn_e, eX6_refused]
  by_cases h : 0 ≤ n ∧ n ≤ 9
  · rw [zbr_pos (by rw [decide_eq_true h.1, decide_eq_true h.2]; simp [bb]), zgF_e]
    refine zbr_i (fun h40 => ?_) (fun h40 => ?_)
    · have e4 : zsg (zss G 5 0 0 0) 5 4 0 = zsg G 5 4 0 := by rw [zsg_ss, if_neg (by omega)]
      rw [zbr_pos (by simp [bb])]
      refine s6_value (by rw [e4]; omega) (by rw [e4]; omega) h.1 (by omega) (fun G' mo e => ?_)
      rw [e4]
      rw [zss5, Int.emod_eq_of_lt h.1 (by omega)] at e
      exact hQ h (by omega) G' (((Mo.refl G).ss _ _ _).trans mo) e
    · rw [zbr_neg (by simp [bb])]
      exact h2 h (by omega)
  · rw [zbr_neg (by rw [bb0n]; simp; omega), zbr_neg (by simp [bb])]
    exact h1 h
theorem k6_seq {G : ZG} {n a b c : Int} {Q : Int → ZG → Prop} (hM : MI (zsg G 5)) (h1 : ¬ seqOk n a b c → Q 0 (zss G 5 0 0 1)) (h2 : seqOk n a b c → zsg G 5 4 0 = 40 → Q 0 (zss G 5 0 0 2))
    (hQ : seqOk n a b c → zsg G 5 4 0 < 40 → ∀ G', Mo G G' → zsg G' 5 = addV (up (zsg G 5) 0 0 0) 5 n a b c (3 * n + a + b + c) → Q (zsg G 5 4 0) G') : vX6_seq n a b c G Q := by
  have m4 : 0 ≤ zsg G 5 4 0 ∧ zsg G 5 4 0 ≤ 40 := ⟨hM.2.1.1, hM.2.1.2.1⟩
  simp only [vX6_seq, eX6_in, zjn_e, eX6_refused, eX6_pick]
  refine zl2_of (fun z k => 0 ≤ k ∧ k ≤ 3 ∧ ((z = 1 ∧ (0 ≤ n ∧ n ≤ 3) ∧ ∀ j, 0 ≤ j → j < k → 0 ≤ pk a b c j ∧ pk a b c j ≤ if j < n then 9 else 0) ∨ (z = 0 ∧ ¬ seqOk n a b c))) (fun _ k => (3 - k).toNat) (fun P z k hI hPP => ?_) ⟨by omega, by omega, ?_⟩
  · obtain ⟨k0, k1, hz⟩ := hI
    refine zbr_i (fun hk => ?_) (fun hk => ?_)
    · rcases hz with ⟨rfl, hn, hz⟩ | ⟨rfl, hno⟩
      · have hok : seqOk n a b c := ⟨hn, fun j j0 j3 => hz j j0 (by omega)⟩
        have r := seqOk_iff.mp hok
        rw [zbr_pos (by omega), zgF_e]
        refine zbr_i (fun h40 => ?_) (fun h40 => ?_)
        · have e4 : zsg (zss G 5 0 0 0) 5 4 0 = zsg G 5 4 0 := by rw [zsg_ss, if_neg (by omega)]
          have r1 : 0 ≤ a ∧ a ≤ 9 := by have := r.2.1; split at this <;> omega
          have r2 : 0 ≤ b ∧ b ≤ 9 := by have := r.2.2.1; split at this <;> omega
          have r3 : 0 ≤ c ∧ c ≤ 9 := by have := r.2.2.2; split at this <;> omega
          rw [zbr_pos (by simp [bb]), w32_eq (x := 3 * n) (by omega) (by omega), w32_eq (x := 3 * n + a) (by omega) (by omega), w32_eq (x := 3 * n + a + b) (by omega) (by omega), w32_eq (x := 3 * n + a + b + c) (by omega) (by omega)]
          refine s6_value (by rw [e4]; omega) (by rw [e4]; omega) (by omega) (by omega) (fun G' mo e => ?_)
          rw [e4]
          rw [zss5, Int.emod_eq_of_lt (by omega) (by omega)] at e
          exact hQ hok (by omega) G' (((Mo.refl G).ss _ _ _).trans mo) e
        · rw [zbr_neg (by simp [bb])]; exact h2 hok (by omega)
      · rw [zbr_neg (by omega), zbr_neg (by simp [bb])]; exact h1 hno
    · have step : ∀ u : Int, ((u = 1 ∧ (0 ≤ n ∧ n ≤ 3) ∧ ∀ j, 0 ≤ j → j < k + 1 → 0 ≤ pk a b c j ∧ pk a b c j ≤ if j < n then 9 else 0) ∨ (u = 0 ∧ ¬ seqOk n a b c)) → zlt1 (w32 (k + 1)) fun x5 => P u x5 := by
        intro u hu
        rw [zlt1_e, w32_eq (by omega) (by omega)]
        exact hPP _ _ ⟨by omega, by omega, hu⟩ (by omega)
      rcases hz with ⟨rfl, hn, hz⟩ | ⟨rfl, hno⟩
      · rw [zbr_neg (by omega)]
        have key : ∀ w : Int, w = (if k < n then 9 else 0) → zbr (bb (decide (0 ≤ pk a b c k) && decide (pk a b c k ≤ w)) = 0) (zlt1 (w32 (k + 1)) fun x5 => P 0 x5) (zlt1 (w32 (k + 1)) fun x5 => P 1 x5) := by
          rintro w rfl
          by_cases hp : 0 ≤ pk a b c k ∧ pk a b c k ≤ if k < n then 9 else 0
          · rw [zbr_bbt (by rw [decide_eq_true hp.1, decide_eq_true hp.2]; rfl)]
            refine step 1 (Or.inl ⟨rfl, hn, fun j j0 j1 => ?_⟩)
            by_cases hjk : j = k
            · rw [hjk]; exact hp
            · exact hz j j0 (by omega)
          · rw [zbr_bbf (by simp; omega)]
            exact step 0 (Or.inr ⟨rfl, fun q => hp (q.2 k k0 (by omega))⟩)
        refine zbr_i (fun hkn => key 0 (by rw [if_neg (by omega)])) (fun hkn => key 9 (by rw [if_pos (by omega)]))
      · rw [zbr_pos rfl]; exact step 0 (Or.inr ⟨rfl, hno⟩)
  · by_cases hn : 0 ≤ n ∧ n ≤ 3
    · exact Or.inl ⟨by rw [decide_eq_true hn.1, decide_eq_true hn.2]; rfl, hn, fun j _ _ => by omega⟩
    · refine Or.inr ⟨?_, fun q => hn q.1⟩
      rw [show (decide (0 ≤ n) && decide (n ≤ 3)) = false by simp; omega]; rfl
theorem w6_isConstructor {G : ZG} {t c : Int} {Q : Int → Prop} (hM : MI (zsg G 5)) (hQ : Q (bb (decide (0 ≤ t ∧ t ≤ 3 ∧ 0 ≤ c ∧ c < zsg G 5 1 t)))) : vX6_isConstructor t c G Q := by
  simp only [vX6_isConstructor, eX6_in, zjn_e]
  by_cases ht : 0 ≤ t ∧ t ≤ 3
  · rw [zbr_bbt (by rw [decide_eq_true ht.1, decide_eq_true ht.2]; rfl)]
    have m1 := hM.1 t ht.1 (by omega)
    refine zaL_i ht.1 (by omega) ?_
    rw [w32_eq (by omega) (by omega)]
    by_cases hc : 0 ≤ c ∧ c < zsg G 5 1 t
    · rw [decide_eq_true ⟨ht.1, ht.2, hc.1, hc.2⟩] at hQ
      rw [zbr_bbt (by simp; omega)]; exact hQ
    · rw [decide_eq_false (fun z => hc z.2.2)] at hQ
      rw [zbr_bbf (by simp; omega)]; exact hQ
  · rw [decide_eq_false (fun z => ht ⟨z.1, z.2.1⟩)] at hQ
    rw [zbr_bbf (by simp; omega)]; exact hQ
