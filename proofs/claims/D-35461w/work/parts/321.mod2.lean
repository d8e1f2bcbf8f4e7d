/-! REFERENCE: data, constructor -/
set_option maxRecDepth 100000
theorem k6_data {G : ZG} {t c a b d : Int} {Q : Int → ZG → Prop} (hM : MI (zsg G 5))
    (h1 : ¬ dOk1 (zsg G 5) t c a b d → Q 0 (zss G 5 0 0 1)) (h2 : dOk1 (zsg G 5) t c a b d → ¬ dOk2 (zsg G 5) t c a b d → Q 0 (zss G 5 0 0 2))
    (h3 : dOk1 (zsg G 5) t c a b d → dOk2 (zsg G 5) t c a b d → zsg G 5 4 0 = 40 → Q 0 (zss G 5 0 0 3))
    (hQ : dOk1 (zsg G 5) t c a b d → dOk2 (zsg G 5) t c a b d → zsg G 5 4 0 < 40 → ∀ G', Mo G G' → zsg G' 5 = addV (up (zsg G 5) 0 0 0) t c a b d ((5 * c + dsm (zsg G 5) a b d (zsg G 5 2 (4 * t + c)).toNat) % 97) → Q (zsg G 5 4 0) G') :
    vX6_data t c a b d G Q := by
  have m4 : 0 ≤ zsg G 5 4 0 ∧ zsg G 5 4 0 ≤ 40 := ⟨hM.2.1.1, hM.2.1.2.1⟩
  generalize hD : zsg G 5 = D at *
  unfold vX6_data
  refine w6_isConstructor (by rw [hD]; exact hM) ?_
  rw [hD]
  dsimp only [zjn]
  by_cases hct : 0 ≤ t ∧ t ≤ 3 ∧ 0 ≤ c ∧ c < D 1 t
  · have m1 := hM.1 t hct.1 (by omega)
    have m2 := m1.2.2 c hct.2.2.1 hct.2.2.2
    rw [decide_eq_true hct, bb_t, zbr_neg (by omega), w32_eq (x := 4 * t) (by omega) (by omega), w32_eq (x := 4 * t + c) (by omega) (by omega)]
    generalize hnf : D 2 (4 * t + c) = nf at *
    have z10 : ¬ (1 : Int) = 0 := by omega
    refine zl3_of (fun ar fi k => 0 ≤ k ∧ k ≤ 3 ∧ ((ar = 1 ∧ (∀ j, 0 ≤ j → j < k → j < nf → 0 ≤ pk a b d j ∧ pk a b d j < D 4 0) ∧ ((fi = 1 ∧ ∀ j, 0 ≤ j → j < k → (j < nf → D 5 (pk a b d j) = D 3 (3 * (4 * t + c) + j)) ∧ (nf ≤ j → pk a b d j = -1)) ∨ (fi = 0 ∧ ¬ dOk2 D t c a b d))) ∨ (ar = 0 ∧ ¬ dOk1 D t c a b d))) (fun _ _ k => (3 - k).toNat) (fun P ar fi k hI hPP => ?_) ⟨by omega, by omega, Or.inl ⟨rfl, fun j _ _ => by omega, Or.inl ⟨rfl, fun j _ _ => by omega⟩⟩⟩
    obtain ⟨k0, k1, hz⟩ := hI
    refine zbr_i (fun hk3 => ?_) (fun hk3 => zbr_i (fun ha => ?_) (fun ha => ?_))
    · rcases hz with ⟨rfl, hin, hz⟩ | ⟨rfl, hno⟩
      · have hok1 : dOk1 D t c a b d := ⟨hct, by rw [hnf]; exact fun j j0 j1 => hin j j0 (by omega) j1⟩
        rw [zbr_pos (by omega)]
        rcases hz with ⟨rfl, hz⟩ | ⟨rfl, hno⟩
        · have hok2 : dOk2 D t c a b d := ⟨by rw [hnf]; exact fun j j0 j1 => (hz j (by omega) (by omega)).2 j0, by rw [hnf]; exact fun j j0 j1 => (hz j j0 (by omega)).1 j1⟩
          rw [zbr_pos (by omega), zgF_e, hD]
          refine zbr_i (fun h40 => ?_) (fun h40 => ?_)
          · rw [eX6_refused, zbr_pos (by simp [bb]), zlt1_e, w32_eq (by omega) (by omega)]
            have hm8 : ∀ j : Int, 0 ≤ j → j < nf → 0 ≤ D 8 (pk a b d j) ∧ D 8 (pk a b d j) ≤ 96 := fun j j0 j1 => by
              have q := hin j j0 (by omega) j1
              have := hM.2.1.2.2 _ q.1 q.2
              exact ⟨this.2.2.1, this.2.2.2.1⟩
            have e5 : ∀ (j : Nat) (i : Int), j ≠ 0 → zsg (zss G 5 0 0 0) 5 j i = D j i := fun j i hj => by rw [zsg_ss, if_neg (by omega), hD]
            refine zl2_of (fun s k => 0 ≤ k ∧ k ≤ nf ∧ s = 5 * c + dsm D a b d k.toNat) (fun _ k => (nf - k).toNat) (fun P2 s k2 hJ hP2 => ?_) ⟨by omega, m2.1, by simp [dsm]⟩
            obtain ⟨q0, q1, rfl⟩ := hJ
            have hb := dsm_le (D := D) (a := a) (b := b) (d := d) (n := k2.toNat) (by omega) (fun j j0 j1 => hm8 j j0 (by omega))
            refine zaL_i (by omega) (by omega) ?_
            rw [e5 _ _ (by omega), hnf]
            refine zbr_i (fun hk2 => ?_) (fun hk2 => ?_)
            · have e : k2 = nf := by omega
              subst e
              have e4 : zsg (zss G 5 0 0 0) 5 4 0 = D 4 0 := e5 _ _ (by omega)
              refine s6_value (by rw [e4]; omega) (by rw [e4]; omega) (by omega) (by omega) (fun G' mo e => ?_)
              rw [e4]
              rw [zss5, hD] at e
              exact hQ hok1 hok2 (by omega) G' (((Mo.refl G).ss _ _ _).trans mo) e
            · rw [eX6_pick]
              have hik := hin k2 q0 (by omega) (by omega)
              refine zaL_i hik.1 (by omega) ?_
              rw [e5 _ _ (by omega), zlt1_e, zlt1_e]
              have h8 := hm8 k2 q0 (by omega)
              have hstep : w32 (5 * c + dsm D a b d k2.toNat + w32 (w32 (k2 + 1) * D 8 (pk a b d k2))) = 5 * c + dsm D a b d (k2 + 1).toNat := by
                have : k2 = 0 ∨ k2 = 1 ∨ k2 = 2 := by omega
                rw [show (k2 + 1).toNat = k2.toNat + 1 by omega]
                simp only [dsm]
                rw [show ((k2.toNat : Nat) : Int) = k2 by omega]
                rcases this with rfl | rfl | rfl <;> (rw [w32_eq (x := _ + 1) (by omega) (by omega), w32_eq (x := _ * _) (by omega) (by omega), w32_eq (by omega) (by omega)]; omega)
              rw [hstep, w32_eq (by omega) (by omega)]
              exact hP2 _ _ ⟨by omega, by omega, rfl⟩ (by omega)
          · rw [eX6_refused, zbr_neg (by simp [bb])]; exact h3 hok1 hok2 (by omega)
        · rw [zbr_neg (by omega), eX6_refused, zbr_neg (by simp [bb])]; exact h2 hok1 hno
      · rw [zbr_neg (by omega), eX6_refused, zbr_neg (by simp [bb])]; exact h1 hno
    · rcases hz with ⟨rfl, hin, hz⟩ | ⟨rfl, hno⟩
      · exact absurd ha z10
      · rw [zbr_neg (by omega), eX6_refused, zbr_neg (by simp [bb])]; exact h1 hno
    · rcases hz with ⟨rfl, hin, hz⟩ | ⟨rfl, hno⟩
      · have step : ∀ u v : Int, ((u = 1 ∧ (k < nf → 0 ≤ pk a b d k ∧ pk a b d k < D 4 0) ∧ ((v = 1 ∧ fi = 1 ∧ (k < nf → D 5 (pk a b d k) = D 3 (3 * (4 * t + c) + k)) ∧ (nf ≤ k → pk a b d k = -1)) ∨ (v = 0 ∧ (fi = 0 ∨ (k < nf ∧ D 5 (pk a b d k) ≠ D 3 (3 * (4 * t + c) + k)) ∨ (nf ≤ k ∧ pk a b d k ≠ -1)))) ∨ (u = 0 ∧ k < nf ∧ ¬ (0 ≤ pk a b d k ∧ pk a b d k < D 4 0)))) → zlt1 (w32 (k + 1)) fun x13 => P u v x13 := by
          intro u v hu
          rw [zlt1_e, w32_eq (by omega) (by omega)]
          refine hPP _ _ _ ⟨by omega, by omega, ?_⟩ (by omega)
          rcases hu with ⟨rfl, hu1, hu⟩ | ⟨rfl, hu1, hu2⟩
          · refine Or.inl ⟨rfl, fun j j0 j1 j2 => ?_, ?_⟩
            · by_cases hjk : j = k
              · rw [hjk]; exact hu1 (by omega)
              · exact hin j j0 (by omega) j2
            · rcases hu with ⟨rfl, rfl, hu2, hu3⟩ | ⟨rfl, hu2⟩
              · rcases hz with ⟨-, hz⟩ | ⟨q, -⟩
                · refine Or.inl ⟨rfl, fun j j0 j1 => ?_⟩
                  by_cases hjk : j = k
                  · rw [hjk]; exact ⟨hu2, hu3⟩
                  · exact hz j j0 (by omega)
                · cases q
              · refine Or.inr ⟨rfl, fun q => ?_⟩
                rcases hu2 with rfl | ⟨g1, g2⟩ | ⟨g1, g2⟩
                · rcases hz with ⟨q2, -⟩ | ⟨-, q2⟩
                  · cases q2
                  · exact q2 q
                · exact g2 (q.2 k k0 (by rw [hnf]; exact g1))
                · exact g2 (q.1 k (by rw [hnf]; exact g1) (by omega))
          · exact Or.inr ⟨rfl, fun q => hu2 (q.2 k k0 (by rw [hnf]; exact hu1))⟩
        rw [eX6_pick]
        refine zaL_i (by omega) (by omega) ?_
        rw [hD, hnf]
        refine zbr_i (fun hnk => ?_) (fun hnk => ?_)
        · rw [zbr_pos rfl]
          refine zbr_i (fun hf => step 1 0 (Or.inl ⟨rfl, fun q => by omega, Or.inr ⟨rfl, Or.inl hf⟩⟩)) (fun hf => ?_)
          have hf1 : fi = 1 := by rcases hz with ⟨q, -⟩ | ⟨q, -⟩; exact q; exact absurd q hf
          rw [zbr_pos rfl]
          refine zbr_i (fun hp => step 1 0 (Or.inl ⟨rfl, fun q => by omega, Or.inr ⟨rfl, Or.inr (Or.inr ⟨hnk, hp⟩)⟩⟩)) (fun hp => step 1 1 (Or.inl ⟨rfl, fun q => by omega, Or.inl ⟨rfl, hf1, fun q => by omega, fun _ => Decidable.of_not_not hp⟩⟩))
        · rw [zbr_neg z10, zgF_e, hD, eX6_in, w32_eq (by omega) (by omega)]
          by_cases hp : 0 ≤ pk a b d k ∧ pk a b d k < D 4 0
          · rw [zbr_bbt (by simp; omega)]
            refine zbr_i (fun hf => step 1 0 (Or.inl ⟨rfl, fun q => hp, Or.inr ⟨rfl, Or.inl hf⟩⟩)) (fun hf => ?_)
            have hf1 : fi = 1 := by rcases hz with ⟨q, -⟩ | ⟨q, -⟩; exact q; exact absurd q hf
            rw [zbr_neg z10, zbr_neg z10]
            refine zaL_i hp.1 (by omega) ?_
            rw [w32_eq (x := 3 * (4 * t + c)) (by omega) (by omega), w32_eq (x := 3 * (4 * t + c) + k) (by omega) (by omega)]
            refine zaL_i (by omega) (by omega) ?_
            rw [hD]
            refine zbr_i (fun hne => step 1 0 (Or.inl ⟨rfl, fun q => hp, Or.inr ⟨rfl, Or.inr (Or.inl ⟨by omega, hne⟩)⟩⟩)) (fun he => step 1 1 (Or.inl ⟨rfl, fun q => hp, Or.inl ⟨rfl, hf1, fun _ => Decidable.of_not_not he, fun q => by omega⟩⟩))
          · rw [zbr_bbf (by simp; omega)]
            refine zbr_i (fun hf => step 0 0 (Or.inr ⟨rfl, by omega, hp⟩)) (fun hf => ?_)
            rw [zbr_neg z10, zbr_pos rfl]
            exact step 0 0 (Or.inr ⟨rfl, by omega, hp⟩)
      · exact absurd rfl ha
  · rw [decide_eq_false hct, bb_f, zbr_pos rfl]
    intro P hc
    refine hc _ _ _ ?_
    dsimp only
    rw [zbr_neg (by omega), zbr_pos rfl, zbr_neg (by omega), eX6_refused, zbr_neg (by simp [bb])]
    exact h1 (fun q => hct q.1)
theorem k6_constructor {G : ZG} {t n a b c : Int} {Q : Int → ZG → Prop} (hM : MI (zsg G 5))
    (h1 : ¬ (0 ≤ t ∧ t ≤ 3) → Q 0 (zss G 5 0 0 1)) (h2 : (0 ≤ t ∧ t ≤ 3) → ¬ kOk n a b c → Q 0 (zss G 5 0 0 2))
    (h3 : (0 ≤ t ∧ t ≤ 3) → kOk n a b c → zsg G 5 1 t = 4 → Q 0 (zss G 5 0 0 3))
    (hQ : (0 ≤ t ∧ t ≤ 3) → kOk n a b c → zsg G 5 1 t < 4 → ∀ G', Mo G G' → zsg G' 5 = up (addC (up (zsg G 5) 0 0 0) t n a b c) 54 0 (-1) → Q (zsg G 5 1 t) G') :
    vX6_constructor t n a b c G Q := by
  generalize hD : zsg G 5 = D at *
  unfold vX6_constructor
  rw [eX6_in]
  dsimp only [zjn]
  refine zl2_of (fun z k => 0 ≤ k ∧ k ≤ 3 ∧ ((z = 1 ∧ (0 ≤ n ∧ n ≤ 3) ∧ ∀ j, 0 ≤ j → j < k → if j < n then 0 ≤ pk a b c j ∧ pk a b c j ≤ 5 else pk a b c j = 0) ∨ (z = 0 ∧ ¬ kOk n a b c))) (fun _ k => (3 - k).toNat) (fun P z k hI hPP => ?_) ⟨by omega, by omega, ?_⟩
  · obtain ⟨k0, k1, hz⟩ := hI
    refine zbr_i (fun hk => ?_) (fun hk => ?_)
    · rw [eX6_in]
      by_cases ht : 0 ≤ t ∧ t ≤ 3
      · have m1 := hM.1 t ht.1 (by omega)
        rw [zbr_pos (by rw [decide_eq_true ht.1, decide_eq_true ht.2]; simp [bb])]
        rcases hz with ⟨rfl, hn, hz⟩ | ⟨rfl, hno⟩
        · have hok : kOk n a b c := ⟨hn, fun j j0 j3 => hz j j0 (by omega)⟩
          rw [zbr_pos (by omega)]
          refine zaL_i ht.1 (by omega) ?_
          rw [hD]
          refine zbr_i (fun h40 => ?_) (fun h40 => ?_)
          · rw [eX6_refused, zbr_pos (by simp [bb])]
            have e1 : zsg (zss G 5 0 0 0) 5 1 t = D 1 t := by rw [zsg_ss, if_neg (by omega), hD]
            refine zaL_i ht.1 (by omega) ?_
            rw [e1, zlt1_e, w32_eq (x := 4 * t) (by omega) (by omega), w32_eq (x := 4 * t + D 1 t) (by omega) (by omega)]
            refine zaS_i (by omega) (by omega) ?_
            intro P2 hc
            refine hc _ _ ?_
            dsimp only
            rw [zbr_neg (by omega), eX6_pick, pk0, w32_eq (x := 3 * (4 * t + D 1 t)) (by omega) (by omega), w32_eq (x := 3 * (4 * t + D 1 t) + 0) (by omega) (by omega)]
            refine zaS_i (by omega) (by omega) ?_
            rw [zlt1_e, show w32 (0 + 1) = 1 from w32_eq (by omega) (by omega)]
            refine hc _ _ ?_
            dsimp only
            rw [zbr_neg (by omega), eX6_pick, pk1, w32_eq (x := 3 * (4 * t + D 1 t)) (by omega) (by omega), w32_eq (x := 3 * (4 * t + D 1 t) + 1) (by omega) (by omega)]
            refine zaS_i (by omega) (by omega) ?_
            rw [zlt1_e, show w32 (1 + 1) = 2 from w32_eq (by omega) (by omega)]
            refine hc _ _ ?_
            dsimp only
            rw [zbr_neg (by omega), eX6_pick, pk2, w32_eq (x := 3 * (4 * t + D 1 t)) (by omega) (by omega), w32_eq (x := 3 * (4 * t + D 1 t) + 2) (by omega) (by omega)]
            refine zaS_i (by omega) (by omega) ?_
            rw [zlt1_e, show w32 (2 + 1) = 3 from w32_eq (by omega) (by omega)]
            refine hc _ _ ?_
            dsimp only
            rw [zbr_pos (by omega)]
            have mo : Mo G (zss (zss (zss (zss (zss G 5 0 0 0) 5 2 (4 * t + D 1 t) n) 5 3 (3 * (4 * t + D 1 t) + 0) a) 5 3 (3 * (4 * t + D 1 t) + 1) b) 5 3 (3 * (4 * t + D 1 t) + 2) c) := ((((((Mo.refl G).ss _ _ _).ss _ _ _).ss _ _ _).ss _ _ _).ss _ _ _)
            have e5 : zsg (zss (zss (zss (zss (zss G 5 0 0 0) 5 2 (4 * t + D 1 t) n) 5 3 (3 * (4 * t + D 1 t) + 0) a) 5 3 (3 * (4 * t + D 1 t) + 1) b) 5 3 (3 * (4 * t + D 1 t) + 2) c) 5 = up (up (up (up (up D 0 0 0) 2 (4 * t + D 1 t) n) 3 (3 * (4 * t + D 1 t)) a) 3 (3 * (4 * t + D 1 t) + 1) b) 3 (3 * (4 * t + D 1 t) + 2) c := by
              rw [zss5, zss5, zss5, zss5, zss5, hD, show 3 * (4 * t + D 1 t) + 0 = 3 * (4 * t + D 1 t) by omega]
            generalize zss (zss (zss (zss (zss G 5 0 0 0) 5 2 (4 * t + D 1 t) n) 5 3 (3 * (4 * t + D 1 t) + 0) a) 5 3 (3 * (4 * t + D 1 t) + 1) b) 5 3 (3 * (4 * t + D 1 t) + 2) c = K at mo e5
            have ek : zsg K 5 1 t = D 1 t := by rw [e5, up_ne (by omega), up_ne (by omega), up_ne (by omega), up_ne (by omega), up_ne (by omega)]
            refine zaL_i ht.1 (by omega) ?_
            rw [ek]
            refine zaS_i ht.1 (by omega) ?_
            rw [zpF_e, w32_eq (x := D 1 t + 1) (by omega) (by omega)]
            refine zaL_i ht.1 (by omega) ?_
            rw [zsg_ss, if_neg (by omega), zsg_ss, if_pos ⟨rfl, rfl, rfl⟩, w32_eq (by omega) (by omega), show D 1 t + 1 - 1 = D 1 t by omega]
            refine hQ ht hok (by omega) _ ((mo.ss _ _ _).ss _ _ _) ?_
            rw [zss5, zss5, e5]
            unfold addC
            rw [show up D 0 0 0 1 = D 1 from up_ne (by omega)]
          · rw [eX6_refused, zbr_neg (by simp [bb])]; exact h3 ht hok (by omega)
        · rw [zbr_neg (by omega), eX6_refused, zbr_neg (by simp [bb])]; exact h2 ht hno
      · rw [zbr_neg (by rw [bb0n]; simp; omega), eX6_refused, zbr_neg (by simp [bb])]
        exact h1 ht
    · rw [eX6_pick]
      have step : ∀ u : Int, ((u = 1 ∧ (0 ≤ n ∧ n ≤ 3) ∧ ∀ j, 0 ≤ j → j < k + 1 → if j < n then 0 ≤ pk a b c j ∧ pk a b c j ≤ 5 else pk a b c j = 0) ∨ (u = 0 ∧ ¬ kOk n a b c)) → zlt1 (w32 (k + 1)) fun x12 => P u x12 := by
        intro u hu
        rw [zlt1_e, w32_eq (by omega) (by omega)]
        exact hPP _ _ ⟨by omega, by omega, hu⟩ (by omega)
      rcases hz with ⟨rfl, hn, hz⟩ | ⟨rfl, hno⟩
      · rw [zbr_neg (by omega)]
        have good : (if k < n then 0 ≤ pk a b c k ∧ pk a b c k ≤ 5 else pk a b c k = 0) → zlt1 (w32 (k + 1)) fun x12 => P 1 x12 := fun h => step 1 (Or.inl ⟨rfl, hn, fun j j0 j1 => by
          by_cases hjk : j = k
          · rw [hjk]; exact h
          · exact hz j j0 (by omega)⟩)
        have bad : ¬ (if k < n then 0 ≤ pk a b c k ∧ pk a b c k ≤ 5 else pk a b c k = 0) → zlt1 (w32 (k + 1)) fun x12 => P 0 x12 := fun h => step 0 (Or.inr ⟨rfl, fun q => h (q.2 k k0 (by omega))⟩)
        refine zbr_i (fun hkn => ?_) (fun hkn => ?_)
        · rw [if_neg (by omega)] at good bad
          refine zbr_i (fun h => bad h) (fun h => good (Decidable.of_not_not h))
        · rw [if_pos (by omega)] at good bad
          rw [eX6_isKind]
          by_cases hp : 0 ≤ pk a b c k ∧ pk a b c k ≤ 5
          · rw [zbr_bbt (by unfold kn; rw [decide_eq_true hp.1, decide_eq_true hp.2]; rfl)]; exact good hp
          · rw [zbr_bbf (by unfold kn; simp; omega)]; exact bad hp
      · rw [zbr_pos rfl]; exact step 0 (Or.inr ⟨rfl, hno⟩)
  · by_cases hn : 0 ≤ n ∧ n ≤ 3
    · exact Or.inl ⟨by rw [decide_eq_true hn.1, decide_eq_true hn.2]; rfl, hn, fun j _ _ => by omega⟩
    · refine Or.inr ⟨?_, fun q => hn q.1⟩
      rw [show (decide (0 ≤ n) && decide (n ≤ 3)) = false by simp; omega]; rfl
