/-! REFERENCE: make, list -/
set_option maxRecDepth 100000
theorem op_parts {D : ZD} {m a b c : Int} (hI : rpI m (D 9 0) a b c) (hN : rpN m a b c) : ∀ k, 0 ≤ k → k < 3 → op D (pk a b c k) := fun k k0 k3 => by
  by_cases h : k < m
  · exact Or.inr (hI k k0 h)
  · exact Or.inl (hN k (by omega) k3)
theorem k6_make {G : ZG} {D : ZD} {t c a b d : Int} {Q : Int → ZG → Prop} (hD : zsg G 5 = D) (hM : MI D)
    (h1 : ¬ mOk1 D t c a b d → Q 0 (zss G 5 0 0 1)) (h2 : mOk1 D t c a b d → ¬ mOk2 D (D 2 (4 * t + c)) (fun k => D 3 (3 * (4 * t + c) + k)) a b d → Q 0 (zss G 5 0 0 2))
    (h3 : mOk1 D t c a b d → mOk2 D (D 2 (4 * t + c)) (fun k => D 3 (3 * (4 * t + c) + k)) a b d → D 9 0 = 60 → Q 0 (zss G 5 0 0 3))
    (hQ : mOk1 D t c a b d → mOk2 D (D 2 (4 * t + c)) (fun k => D 3 (3 * (4 * t + c) + k)) a b d → D 9 0 < 60 → ∀ G', Mo G G' → zsg G' 5 0 0 = 0 → (∀ j, j ≠ 0 → zsg G' 5 j = addP D (mdv D 3 (4 * t + c) 0 t a b d (D 2 (4 * t + c)).toNat) a b d j) → Q (D 9 0) G') :
    vX6_make t c a b d G Q := by
  have m9 : 0 ≤ D 9 0 ∧ D 9 0 ≤ 60 := ⟨hM.2.2.1.1, hM.2.2.1.2.1⟩
  unfold vX6_make
  refine w6_isConstructor (by rw [hD]; exact hM) ?_
  rw [hD]
  dsimp only [zjn]
  by_cases hct : 0 ≤ t ∧ t ≤ 3 ∧ 0 ≤ c ∧ c < D 1 t
  · have m1 := hM.1 t hct.1 (by omega)
    have m2 := m1.2.2 c hct.2.2.1 hct.2.2.2
    rw [decide_eq_true hct, bb_t, zbr_neg (by omega), w32_eq (x := 4 * t) (by omega) (by omega), w32_eq (x := 4 * t + c) (by omega) (by omega)]
    generalize hnf : D 2 (4 * t + c) = nf at *
    have z10 : ¬ (1 : Int) = 0 := by omega
    refine zl4_of (fun ar fi bo k => 0 ≤ k ∧ k ≤ 3 ∧ ((ar = 1 ∧ (∀ j, 0 ≤ j → j < k → j < nf → 0 ≤ pk a b d j ∧ pk a b d j < D 9 0) ∧ bo = nmo D a b d (if k ≤ nf then k else nf).toNat ∧ ((fi = 1 ∧ ∀ j, 0 ≤ j → j < k → (j < nf → fitk D (pk a b d j) (D 3 (3 * (4 * t + c) + j)) ∧ bAnd (D 17 (pk a b d j)) (nmo D a b d j.toNat) = 0) ∧ (nf ≤ j → pk a b d j = -1)) ∨ (fi = 0 ∧ ¬ mOk2 D nf (fun k => D 3 (3 * (4 * t + c) + k)) a b d))) ∨ (ar = 0 ∧ ¬ mOk1 D t c a b d))) (fun _ _ _ k => (3 - k).toNat) (fun P ar fi bo k hI hPP => ?_) ⟨by omega, by omega, Or.inl ⟨rfl, fun j _ _ => by omega, ?_, Or.inl ⟨rfl, fun j _ _ => by omega⟩⟩⟩
    · obtain ⟨k0, k1, hz⟩ := hI
      refine zbr_i (fun hk3 => ?_) (fun hk3 => zbr_i (fun ha => ?_) (fun ha => ?_))
      · rcases hz with ⟨rfl, hin, hbo, hz⟩ | ⟨rfl, hno⟩
        · have hI : rpI nf (D 9 0) a b d := fun j j0 j1 => hin j j0 (by omega) j1
          have hok1 : mOk1 D t c a b d := ⟨hct, by rw [hnf]; exact hI⟩
          rw [zbr_neg z10]
          have no2 : ¬ mOk2 D nf (fun k => D 3 (3 * (4 * t + c) + k)) a b d → zbr ((1 : Int) ≠ 0) (zbr ((0 : Int) ≠ 0) (vX6_isFull G fun x4 => zbr (x4 = 0) (vX6_refused 0 G fun x2 G1 => zbr (x2 = 0) (vX6_pattern 3 (4 * t + c) 0 a b d t G1 fun x3 G2 => Q x3 G2) (Q 0 G1)) (vX6_refused 3 G fun x2 G1 => zbr (x2 = 0) (vX6_pattern 3 (4 * t + c) 0 a b d t G1 fun x3 G2 => Q x3 G2) (Q 0 G1))) (vX6_refused 2 G fun x2 G1 => zbr (x2 = 0) (vX6_pattern 3 (4 * t + c) 0 a b d t G1 fun x3 G2 => Q x3 G2) (Q 0 G1))) (vX6_refused 1 G fun x2 G1 => zbr (x2 = 0) (vX6_pattern 3 (4 * t + c) 0 a b d t G1 fun x3 G2 => Q x3 G2) (Q 0 G1)) := by
            intro hno
            rw [zbr_pos (by omega), zbr_neg (by omega), eX6_refused, zbr_neg (by simp [bb])]; exact h2 hok1 hno
          rcases hz with ⟨rfl, hz⟩ | ⟨rfl, hno⟩
          · have hN : rpN nf a b d := fun j j0 j1 => (hz j (by omega) (by omega)).2 j0
            have hpf : pfit D (fun k => D 3 (3 * (4 * t + c) + k)) nf a b d := fun j j0 j1 => (hz j j0 (by omega)).1 j1
            have hop := op_parts hI hN
            have hpe := parts_e hM m2.1 m2.2.1 hI hN
            rw [zbr_neg z10]
            refine w6_depthOf hM hD hop ?_
            rw [hpe.1]
            refine zbr_i (fun hd => no2 (fun q => by have := q.2.2.2; omega)) (fun hd => ?_)
            refine w6_sizeOf hM (fun q _ => by rw [hD]) (hop 0 (by omega) (by omega)) (hop 1 (by omega) (by omega)) (hop 2 (by omega) (by omega)) ?_
            rw [hpe.2.1]
            refine zbr_i (fun hs => no2 (fun q => by have := q.2.2.1; omega)) (fun hs => ?_)
            have hok2 : mOk2 D nf (fun k => D 3 (3 * (4 * t + c) + k)) a b d := ⟨hN, hpf, by omega, by omega⟩
            rw [zbr_pos (by omega), zbr_pos (by omega)]
            refine w6_isFull ?_
            rw [hD]
            by_cases h : D 9 0 = 60
            · rw [decide_eq_true h, zbr_neg (by simp [bb]), eX6_refused, zbr_neg (by simp [bb])]
              exact h3 hok1 hok2 h
            · rw [decide_eq_false h, zbr_pos (show bb false = 0 from rfl), eX6_refused, zbr_pos (show bb (decide ((0 : Int) ≠ 0)) = 0 from rfl)]
              exact r6_fin hD hM (by omega) hop (mpv_mdv hM m2.1 m2.2.1 hI hN (Or.inl rfl)) (hQ hok1 hok2 (by omega))
          · rw [zbr_pos rfl]; exact no2 hno
        · rw [zbr_pos rfl, zbr_neg (by omega), eX6_refused, zbr_neg (by simp [bb])]; exact h1 hno
      · rcases hz with ⟨rfl, hin, hbo, hz⟩ | ⟨rfl, hno⟩
        · exact absurd ha z10
        · rw [zbr_pos rfl, zbr_neg (by omega), eX6_refused, zbr_neg (by simp [bb])]; exact h1 hno
      · rcases hz with ⟨rfl, hin, hbo, hz⟩ | ⟨rfl, hno⟩
        · have step : ∀ u v w : Int, ((u = 1 ∧ (k < nf → 0 ≤ pk a b d k ∧ pk a b d k < D 9 0) ∧ w = (if k < nf then D 17 (pk a b d k) else 0) ∧ ((v = 1 ∧ fi = 1 ∧ (k < nf → fitk D (pk a b d k) (D 3 (3 * (4 * t + c) + k)) ∧ bAnd (D 17 (pk a b d k)) bo = 0) ∧ (nf ≤ k → pk a b d k = -1)) ∨ (v = 0 ∧ (fi = 0 ∨ (k < nf ∧ ¬ (fitk D (pk a b d k) (D 3 (3 * (4 * t + c) + k)) ∧ bAnd (D 17 (pk a b d k)) bo = 0)) ∨ (nf ≤ k ∧ pk a b d k ≠ -1)))) ∨ (u = 0 ∧ k < nf ∧ ¬ (0 ≤ pk a b d k ∧ pk a b d k < D 9 0)))) → zlt1 (bOr bo w) fun x9 => zlt1 (w32 (k + 1)) fun x10 => P u v x9 x10 := by
            intro u v w hu
            rw [zlt1_e, zlt1_e, w32_eq (by omega) (by omega)]
            refine hPP _ _ _ _ ⟨by omega, by omega, ?_⟩ (by omega)
            rcases hu with ⟨rfl, hu1, rfl, hu⟩ | ⟨rfl, hu1, hu2⟩
            · have hbk : k < nf → bo = nmo D a b d k.toNat := fun h => by rw [hbo, if_pos (by omega)]
              refine Or.inl ⟨rfl, fun j j0 j1 j2 => ?_, ?_, ?_⟩
              · by_cases hjk : j = k
                · rw [hjk]; exact hu1 (by omega)
                · exact hin j j0 (by omega) j2
              · by_cases hkn : k < nf
                · rw [if_pos hkn, if_pos (by omega), show (k + 1).toNat = k.toNat + 1 by omega]
                  simp only [nmo]
                  rw [show ((k.toNat : Nat) : Int) = k by omega, hbk hkn]
                · rw [if_neg hkn, if_neg (by omega), hbo]
                  have e : (if k ≤ nf then k else nf) = nf := by split <;> omega
                  rw [e]
                  exact bOr_0 (nmo_b hM (m := nf) (fun j j0 j1 => hin j j0 (by omega) j1) nf.toNat (by omega))
              · rcases hu with ⟨rfl, rfl, hu2, hu3⟩ | ⟨rfl, hu2⟩
                · rcases hz with ⟨-, hz⟩ | ⟨q, -⟩
                  · refine Or.inl ⟨rfl, fun j j0 j1 => ?_⟩
                    by_cases hjk : j = k
                    · rw [hjk]; exact ⟨fun h => by rw [← hbk h]; exact hu2 h, hu3⟩
                    · exact hz j j0 (by omega)
                  · cases q
                · refine Or.inr ⟨rfl, fun q => ?_⟩
                  rcases hu2 with rfl | ⟨g1, g2⟩ | ⟨g1, g2⟩
                  · rcases hz with ⟨q2, -⟩ | ⟨-, q2⟩
                    · cases q2
                    · exact q2 q
                  · rw [hbk g1] at g2; exact g2 (q.2.1 k k0 g1)
                  · exact g2 (q.1 k g1 (by omega))
            · exact Or.inr ⟨rfl, fun q => hu2 (q.2 k k0 (by rw [hnf]; exact hu1))⟩
          rw [eX6_pick]
          refine zaL_i (by omega) (by omega) ?_
          rw [hD, hnf]
          refine zbr_i (fun hnk => ?_) (fun hnk => ?_)
          · rw [zbr_pos rfl, zbr_pos rfl, zbr_pos rfl]
            refine zbr_i (fun hf => step 1 0 0 (Or.inl ⟨rfl, fun q => by omega, by rw [if_neg (by omega)], Or.inr ⟨rfl, Or.inl hf⟩⟩)) (fun hf => ?_)
            have hf1 : fi = 1 := by rcases hz with ⟨q, -⟩ | ⟨q, -⟩; exact q; exact absurd q hf
            refine zbr_i (fun hp => step 1 0 0 (Or.inl ⟨rfl, fun q => by omega, by rw [if_neg (by omega)], Or.inr ⟨rfl, Or.inr (Or.inr ⟨hnk, hp⟩)⟩⟩)) (fun hp => by rw [zbr_pos rfl]; exact step 1 1 0 (Or.inl ⟨rfl, fun q => by omega, by rw [if_neg (by omega)], Or.inl ⟨rfl, hf1, fun q => by omega, fun _ => Decidable.of_not_not hp⟩⟩))
          · rw [zbr_neg z10]
            refine w6_isPattern (by rw [hD]; exact hM) ?_
            rw [hD]
            by_cases hp : 0 ≤ pk a b d k ∧ pk a b d k < D 9 0
            · rw [decide_eq_true hp, zbr_e0, if_pos rfl]
              have hw : D 17 (pk a b d k) = if k < nf then D 17 (pk a b d k) else 0 := by rw [if_pos (by omega)]
              have fin : ∀ v : Int, ((v = 1 ∧ fi = 1 ∧ (k < nf → fitk D (pk a b d k) (D 3 (3 * (4 * t + c) + k)) ∧ bAnd (D 17 (pk a b d k)) bo = 0) ∧ (nf ≤ k → pk a b d k = -1)) ∨ (v = 0 ∧ (fi = 0 ∨ (k < nf ∧ ¬ (fitk D (pk a b d k) (D 3 (3 * (4 * t + c) + k)) ∧ bAnd (D 17 (pk a b d k)) bo = 0)) ∨ (nf ≤ k ∧ pk a b d k ≠ -1)))) → zbr ((1 : Int) = 0) (zlt1 (bOr bo 0) fun x9 => zlt1 (w32 (k + 1)) fun x10 => P 1 v x9 x10) (zbr ((1 : Int) = 0) (zlt1 (bOr bo 0) fun x9 => zlt1 (w32 (k + 1)) fun x10 => P 1 v x9 x10) (zaL G 5 17 60 (pk a b d k) fun x11 => zlt1 (bOr bo x11) fun x9 => zlt1 (w32 (k + 1)) fun x10 => P 1 v x9 x10)) := by
                intro v hv
                rw [zbr_neg z10, zbr_neg z10]
                refine zaL_i hp.1 (by omega) ?_
                rw [hD]
                exact step 1 v _ (Or.inl ⟨rfl, fun _ => hp, hw, hv⟩)
              refine zbr_i (fun hf => fin 0 (Or.inr ⟨rfl, Or.inl hf⟩)) (fun hf => ?_)
              have hf1 : fi = 1 := by rcases hz with ⟨q, -⟩ | ⟨q, -⟩; exact q; exact absurd q hf
              rw [zbr_neg z10, zbr_neg z10, w32_eq (x := 3 * (4 * t + c)) (by omega) (by omega), w32_eq (x := 3 * (4 * t + c) + k) (by omega) (by omega)]
              refine zaL_i (by omega) (by omega) ?_
              rw [hD]
              refine w6_suits hM hD hp ?_
              cases hfk : fkb D (pk a b d k) (D 3 (3 * (4 * t + c) + k)) with
              | false =>
                rw [zbr_pos (show bb false = 0 from rfl)]
                exact fin 0 (Or.inr ⟨rfl, Or.inr (Or.inl ⟨by omega, fun q => by have := fkb_iff.mpr q.1; rw [hfk] at this; cases this⟩)⟩)
              | true =>
                rw [zbr_neg (by simp [bb])]
                refine zaL_i hp.1 (by omega) ?_
                rw [hD]
                refine zbr_i (fun hb => fin 0 (Or.inr ⟨rfl, Or.inr (Or.inl ⟨by omega, fun q => hb q.2⟩)⟩)) (fun hb => fin 1 (Or.inl ⟨rfl, hf1, fun _ => ⟨fkb_iff.mp hfk, Decidable.of_not_not hb⟩, fun q => by omega⟩))
            · rw [decide_eq_false hp, zbr_e0, if_neg (by simp)]
              have fin : zbr ((1 : Int) = 0) (zlt1 (bOr bo 0) fun x9 => zlt1 (w32 (k + 1)) fun x10 => P 0 0 x9 x10) (zbr ((0 : Int) = 0) (zlt1 (bOr bo 0) fun x9 => zlt1 (w32 (k + 1)) fun x10 => P 0 0 x9 x10) (zaL G 5 17 60 (pk a b d k) fun x11 => zlt1 (bOr bo x11) fun x9 => zlt1 (w32 (k + 1)) fun x10 => P 0 0 x9 x10)) := by
                rw [zbr_neg z10, zbr_pos rfl]
                exact step 0 0 0 (Or.inr ⟨rfl, by omega, hp⟩)
              refine zbr_i (fun hf => fin) (fun hf => ?_)
              rw [zbr_neg z10, zbr_pos rfl]
              exact fin
        · exact absurd rfl ha
    · rw [if_pos m2.1]; rfl
  · rw [decide_eq_false hct, bb_f, zbr_pos rfl]
    intro P hc
    refine hc _ _ _ _ ?_
    dsimp only
    rw [zbr_neg (by omega), zbr_pos rfl, zbr_pos rfl, zbr_neg (by omega), eX6_refused, zbr_neg (by simp [bb])]
    exact h1 (fun q => hct q.1)
theorem zjn_2 {K : Int → Prop} {x n k : Int} : zjn K (fun J61 => zjn (fun (_ : Unit) => J61 0) fun J60 => zbr (x = 0) (J60 ()) (zbr (n ≤ k) (J60 ()) (J61 1))) = K (if x = 0 ∨ n ≤ k then 0 else 1) := by
  simp only [zjn, zbr_or]
  by_cases h : x = 0 ∨ n ≤ k
  · rw [if_pos h, zbr_pos h]
  · rw [if_neg h, zbr_neg h]
theorem k6_list {G : ZG} {D : ZD} {n a b r : Int} {Q : Int → ZG → Prop} (hD : zsg G 5 = D) (hM : MI D)
    (h1 : ¬ ((0 ≤ r ∧ r ≤ 2) ∧ (0 ≤ n ∧ n ≤ 2 → rpI n (D 9 0) a b (-1))) → Q 0 (zss G 5 0 0 1))
    (h2 : ((0 ≤ r ∧ r ≤ 2) ∧ (0 ≤ n ∧ n ≤ 2 → rpI n (D 9 0) a b (-1))) → ¬ ((0 ≤ n ∧ n ≤ 2) ∧ mOk2 D n (fun _ => 4) a b (-1)) → Q 0 (zss G 5 0 0 2))
    (h3 : ((0 ≤ r ∧ r ≤ 2) ∧ (0 ≤ n ∧ n ≤ 2 → rpI n (D 9 0) a b (-1))) → ((0 ≤ n ∧ n ≤ 2) ∧ mOk2 D n (fun _ => 4) a b (-1)) → D 9 0 = 60 → Q 0 (zss G 5 0 0 3))
    (hQ : ((0 ≤ r ∧ r ≤ 2) ∧ (0 ≤ n ∧ n ≤ 2 → rpI n (D 9 0) a b (-1))) → ((0 ≤ n ∧ n ≤ 2) ∧ mOk2 D n (fun _ => 4) a b (-1)) → D 9 0 < 60 → ∀ G', Mo G G' → zsg G' 5 0 0 = 0 → (∀ j, j ≠ 0 → zsg G' 5 j = addP D (mdv D 6 n r 5 a b (-1) n.toNat) a b (-1) j) → Q (D 9 0) G') :
    vX6_list n a b r G Q := by
  have m9 : 0 ≤ D 9 0 ∧ D 9 0 ≤ 60 := ⟨hM.2.2.1.1, hM.2.2.1.2.1⟩
  have z10 : ¬ (1 : Int) = 0 := by omega
  unfold vX6_list
  rw [eX6_in, eX6_in]
  -- how many are looked for
  generalize hnf : (if 0 ≤ n ∧ n ≤ 2 then n else 0) = nf
  have hnf0 : 0 ≤ nf ∧ nf ≤ 2 := by rw [← hnf]; split <;> omega
  have hx1 : (decide (0 ≤ n) && decide (n ≤ 2)) = decide (0 ≤ n ∧ n ≤ 2) := by
    by_cases h : 0 ≤ n ∧ n ≤ 2
    · rw [decide_eq_true h.1, decide_eq_true h.2, decide_eq_true h]; rfl
    · rw [decide_eq_false h]; by_cases h0 : 0 ≤ n
      · rw [decide_eq_true h0, decide_eq_false (by omega)]; rfl
      · rw [decide_eq_false h0]; rfl
  have hx2 : (decide (0 ≤ r) && decide (r ≤ 2)) = decide (0 ≤ r ∧ r ≤ 2) := by
    by_cases h : 0 ≤ r ∧ r ≤ 2
    · rw [decide_eq_true h.1, decide_eq_true h.2, decide_eq_true h]; rfl
    · rw [decide_eq_false h]; by_cases h0 : 0 ≤ r
      · rw [decide_eq_true h0, decide_eq_false (by omega)]; rfl
      · rw [decide_eq_false h0]; rfl
  rw [hx1, hx2]
  have hneed : ∀ k, 0 ≤ k → (if bb (decide (0 ≤ n ∧ n ≤ 2)) = 0 ∨ n ≤ k then (0 : Int) else 1) = if k < nf then 1 else 0 := by
    intro k k0
    by_cases h : 0 ≤ n ∧ n ≤ 2
    · rw [decide_eq_true h]
      rw [if_pos h] at hnf
      by_cases hk : n ≤ k
      · rw [if_pos (Or.inr hk), if_neg (by omega)]
      · rw [if_neg (fun q => q.elim (fun z => by cases z) hk), if_pos (by omega)]
    · rw [if_neg h] at hnf
      rw [decide_eq_false h, if_pos (show bb false = 0 ∨ n ≤ k from Or.inl rfl), if_neg (by omega)]
  refine zl4_of (fun ar fi bo k => 0 ≤ k ∧ k ≤ 2 ∧ ((ar = 1 ∧ (0 ≤ r ∧ r ≤ 2) ∧ (∀ j, 0 ≤ j → j < k → j < nf → 0 ≤ pk a b (-1) j ∧ pk a b (-1) j < D 9 0) ∧ bo = nmo D a b (-1) (if k ≤ nf then k else nf).toNat ∧ ((fi = 1 ∧ (0 ≤ n ∧ n ≤ 2) ∧ ∀ j, 0 ≤ j → j < k → (j < nf → fitk D (pk a b (-1) j) 4 ∧ bAnd (D 17 (pk a b (-1) j)) (nmo D a b (-1) j.toNat) = 0) ∧ (nf ≤ j → pk a b (-1) j = -1)) ∨ (fi = 0 ∧ ¬ ((0 ≤ n ∧ n ≤ 2) ∧ mOk2 D n (fun _ => 4) a b (-1))))) ∨ (ar = 0 ∧ ¬ ((0 ≤ r ∧ r ≤ 2) ∧ (0 ≤ n ∧ n ≤ 2 → rpI n (D 9 0) a b (-1)))))) (fun _ _ _ k => (2 - k).toNat) (fun P ar fi bo k hI hPP => ?_) ⟨by omega, by omega, ?_⟩
  · obtain ⟨k0, k1, hz⟩ := hI
    refine zbr_i (fun hk3 => ?_) (fun hk3 => ?_)
    · dsimp only [zjn]
      rcases hz with ⟨rfl, hr, hin, hbo, hz⟩ | ⟨rfl, hno⟩
      · have hok1 : (0 ≤ r ∧ r ≤ 2) ∧ (0 ≤ n ∧ n ≤ 2 → rpI n (D 9 0) a b (-1)) := ⟨hr, fun hn j j0 j1 => by rw [if_pos hn] at hnf; exact hin j j0 (by omega) (by omega)⟩
        rw [zbr_neg z10]
        have no2 : ¬ ((0 ≤ n ∧ n ≤ 2) ∧ mOk2 D n (fun _ => 4) a b (-1)) → zbr ((1 : Int) ≠ 0) (zbr ((0 : Int) ≠ 0) (vX6_isFull G fun x5 => zbr (x5 = 0) (vX6_refused 0 G fun x3 G1 => zbr (x3 = 0) (vX6_pattern 6 n r a b (-1) 5 G1 fun x4 G2 => Q x4 G2) (Q 0 G1)) (vX6_refused 3 G fun x3 G1 => zbr (x3 = 0) (vX6_pattern 6 n r a b (-1) 5 G1 fun x4 G2 => Q x4 G2) (Q 0 G1))) (vX6_refused 2 G fun x3 G1 => zbr (x3 = 0) (vX6_pattern 6 n r a b (-1) 5 G1 fun x4 G2 => Q x4 G2) (Q 0 G1))) (vX6_refused 1 G fun x3 G1 => zbr (x3 = 0) (vX6_pattern 6 n r a b (-1) 5 G1 fun x4 G2 => Q x4 G2) (Q 0 G1)) := by
          intro hno
          rw [zbr_pos (by omega), zbr_neg (by omega), eX6_refused, zbr_neg (by simp [bb])]; exact h2 hok1 hno
        rcases hz with ⟨rfl, hn, hz⟩ | ⟨rfl, hno⟩
        · rw [if_pos hn] at hnf
          subst hnf
          have hI := hok1.2 hn
          have hN : rpN n a b (-1) := fun j j0 j1 => by
            by_cases h2 : j = 2
            · rw [h2]; rfl
            · exact (hz j (by omega) (by omega)).2 j0
          have hpf : pfit D (fun _ => 4) n a b (-1) := fun j j0 j1 => (hz j j0 (by omega)).1 j1
          have hop := op_parts hI hN
          have hpe := parts_e hM hnf0.1 (by omega) hI hN
          rw [zbr_neg z10]
          refine w6_depthOf hM hD hop ?_
          rw [hpe.1]
          refine zbr_i (fun hd => no2 (fun q => by have := q.2.2.2.2; omega)) (fun hd => ?_)
          refine w6_sizeOf hM (fun q _ => by rw [hD]) (hop 0 (by omega) (by omega)) (hop 1 (by omega) (by omega)) (hop 2 (by omega) (by omega)) ?_
          rw [hpe.2.1]
          refine zbr_i (fun hs => no2 (fun q => by have := q.2.2.2.1; omega)) (fun hs => ?_)
          have hok2 : (0 ≤ n ∧ n ≤ 2) ∧ mOk2 D n (fun _ => 4) a b (-1) := ⟨hn, hN, hpf, by omega, by omega⟩
          rw [zbr_pos (by omega), zbr_pos (by omega)]
          refine w6_isFull ?_
          rw [hD]
          by_cases h : D 9 0 = 60
          · rw [decide_eq_true h, zbr_neg (by simp [bb]), eX6_refused, zbr_neg (by simp [bb])]
            exact h3 hok1 hok2 h
          · rw [decide_eq_false h, zbr_pos (show bb false = 0 from rfl), eX6_refused, zbr_pos (show bb (decide ((0 : Int) ≠ 0)) = 0 from rfl)]
            exact r6_fin hD hM (by omega) hop (mpv_mdv hM hnf0.1 (by omega) hI hN (Or.inr rfl)) (hQ hok1 hok2 (by omega))
        · rw [zbr_pos rfl]; exact no2 hno
      · rw [zbr_pos rfl, zbr_neg (by omega), eX6_refused, zbr_neg (by simp [bb])]; exact h1 hno
    · rw [zjn_ne, zjn_2, hneed k k0]
      have epk : (if k = 0 then a else b) = pk a b (-1) k := by
        have : k = 0 ∨ k = 1 := by omega
        rcases this with rfl | rfl <;> rfl
      rw [epk]
      refine w6_isPattern (by rw [hD]; exact hM) ?_
      rw [hD]
      dsimp only [zjn]
      have step : ∀ u v w : Int, ((u = 1 ∧ ar = 1 ∧ (k < nf → 0 ≤ pk a b (-1) k ∧ pk a b (-1) k < D 9 0) ∧ w = (if k < nf then D 17 (pk a b (-1) k) else 0) ∧ ((v = 1 ∧ fi = 1 ∧ (k < nf → fitk D (pk a b (-1) k) 4 ∧ bAnd (D 17 (pk a b (-1) k)) bo = 0) ∧ (nf ≤ k → pk a b (-1) k = -1)) ∨ (v = 0 ∧ (fi = 0 ∨ (k < nf ∧ ¬ (fitk D (pk a b (-1) k) 4 ∧ bAnd (D 17 (pk a b (-1) k)) bo = 0)) ∨ (nf ≤ k ∧ pk a b (-1) k ≠ -1))))) ∨ (u = 0 ∧ (ar = 0 ∨ (k < nf ∧ ¬ (0 ≤ pk a b (-1) k ∧ pk a b (-1) k < D 9 0))))) → zlt1 (bOr bo w) fun x9 => zlt1 (w32 (k + 1)) fun x10 => P u v x9 x10 := by
        intro u v w hu
        rw [zlt1_e, zlt1_e, w32_eq (by omega) (by omega)]
        refine hPP _ _ _ _ ⟨by omega, by omega, ?_⟩ (by omega)
        rcases hu with ⟨rfl, rfl, hu1, rfl, hu⟩ | ⟨rfl, hu1⟩
        · rcases hz with ⟨-, hr, hin, hbo, hz⟩ | ⟨q, -⟩
          · have hbk : k < nf → bo = nmo D a b (-1) k.toNat := fun h => by rw [hbo, if_pos (by omega)]
            refine Or.inl ⟨rfl, hr, fun j j0 j1 j2 => ?_, ?_, ?_⟩
            · by_cases hjk : j = k
              · rw [hjk]; exact hu1 (by omega)
              · exact hin j j0 (by omega) j2
            · by_cases hkn : k < nf
              · rw [if_pos hkn, if_pos (by omega), show (k + 1).toNat = k.toNat + 1 by omega]
                simp only [nmo]
                rw [show ((k.toNat : Nat) : Int) = k by omega, hbk hkn]
              · rw [if_neg hkn, if_neg (by omega), hbo]
                have e : (if k ≤ nf then k else nf) = nf := by split <;> omega
                rw [e]
                exact bOr_0 (nmo_b hM (m := nf) (fun j j0 j1 => hin j j0 (by omega) j1) nf.toNat (by omega))
            · rcases hu with ⟨rfl, rfl, hu2, hu3⟩ | ⟨rfl, hu2⟩
              · rcases hz with ⟨-, hn, hz⟩ | ⟨q, -⟩
                · refine Or.inl ⟨rfl, hn, fun j j0 j1 => ?_⟩
                  by_cases hjk : j = k
                  · rw [hjk]; exact ⟨fun h => by rw [← hbk h]; exact hu2 h, hu3⟩
                  · exact hz j j0 (by omega)
                · cases q
              · refine Or.inr ⟨rfl, fun q => ?_⟩
                have en : n = nf := by rw [if_pos q.1] at hnf; exact hnf
                rcases hu2 with rfl | ⟨g1, g2⟩ | ⟨g1, g2⟩
                · rcases hz with ⟨q2, -⟩ | ⟨-, q2⟩
                  · cases q2
                  · exact q2 q
                · rw [hbk g1] at g2; exact g2 (q.2.2.1 k k0 (by omega))
                · exact g2 (q.2.1 k (by omega) (by omega))
          · cases q
        · refine Or.inr ⟨rfl, fun q => ?_⟩
          rcases hu1 with rfl | ⟨g1, g2⟩
          · rcases hz with ⟨q2, -⟩ | ⟨-, q2⟩
            · cases q2
            · exact q2 q
          · have hn : 0 ≤ n ∧ n ≤ 2 := by
              by_cases h : 0 ≤ n ∧ n ≤ 2
              · exact h
              · rw [if_neg h] at hnf; omega
            rw [if_pos hn] at hnf
            exact g2 (q.2 hn k k0 (by omega))
      have har : ar = 0 ∨ ar = 1 := by rcases hz with ⟨q, -⟩ | ⟨q, -⟩; exact Or.inr q; exact Or.inl q
      have hfi : fi = 0 ∨ fi ≠ 0 := by omega
      have hf1 : ar = 1 → fi ≠ 0 → fi = 1 := fun q1 q2 => by
        rcases hz with ⟨-, -, -, -, hz⟩ | ⟨q, -⟩
        · rcases hz with ⟨q, -⟩ | ⟨q, -⟩
          · exact q
          · exact absurd q q2
        · omega
      by_cases hkn : k < nf
      · rw [if_pos hkn]
        by_cases hp : 0 ≤ pk a b (-1) k ∧ pk a b (-1) k < D 9 0
        · rw [decide_eq_true hp]
          -- what is left, by the new values
          have tl : ∀ u v : Int, (u = ar) → ((v = 1 ∧ fi ≠ 0 ∧ fitk D (pk a b (-1) k) 4 ∧ bAnd (D 17 (pk a b (-1) k)) bo = 0) ∨ (v = 0 ∧ (fi = 0 ∨ ¬ (fitk D (pk a b (-1) k) 4 ∧ bAnd (D 17 (pk a b (-1) k)) bo = 0)))) → zbr ((1 : Int) = 0) (zlt1 (bOr bo 0) fun x9 => zlt1 (w32 (k + 1)) fun x10 => P u v x9 x10) (zbr (bb true = 0) (zlt1 (bOr bo 0) fun x9 => zlt1 (w32 (k + 1)) fun x10 => P u v x9 x10) (zaL G 5 17 60 (pk a b (-1) k) fun x11 => zlt1 (bOr bo x11) fun x9 => zlt1 (w32 (k + 1)) fun x10 => P u v x9 x10)) := by
            rintro u v rfl hv
            rw [zbr_neg z10, zbr_neg (by simp [bb])]
            refine zaL_i hp.1 (by omega) ?_
            rw [hD]
            refine step u v _ ?_
            rcases har with e | e
            · exact Or.inr ⟨e, Or.inl e⟩
            · refine Or.inl ⟨e, e, fun _ => hp, by rw [if_pos hkn], ?_⟩
              rcases hv with ⟨e1, e2, e3⟩ | ⟨e1, e2⟩
              · exact Or.inl ⟨e1, hf1 e e2, fun _ => e3, fun q => by omega⟩
              · refine Or.inr ⟨e1, ?_⟩
                rcases e2 with e2 | e2
                · exact Or.inl e2
                · exact Or.inr (Or.inl ⟨hkn, e2⟩)
          -- whether it fits
          have ft : ∀ u : Int, (u = ar) → zbr (fi = 0) (zbr ((1 : Int) = 0) (zlt1 (bOr bo 0) fun x9 => zlt1 (w32 (k + 1)) fun x10 => P u 0 x9 x10) (zbr (bb true = 0) (zlt1 (bOr bo 0) fun x9 => zlt1 (w32 (k + 1)) fun x10 => P u 0 x9 x10) (zaL G 5 17 60 (pk a b (-1) k) fun x11 => zlt1 (bOr bo x11) fun x9 => zlt1 (w32 (k + 1)) fun x10 => P u 0 x9 x10))) (zbr ((1 : Int) = 0) (zbr (pk a b (-1) k ≠ -1) (zbr ((1 : Int) = 0) (zlt1 (bOr bo 0) fun x9 => zlt1 (w32 (k + 1)) fun x10 => P u 0 x9 x10) (zbr (bb true = 0) (zlt1 (bOr bo 0) fun x9 => zlt1 (w32 (k + 1)) fun x10 => P u 0 x9 x10) (zaL G 5 17 60 (pk a b (-1) k) fun x11 => zlt1 (bOr bo x11) fun x9 => zlt1 (w32 (k + 1)) fun x10 => P u 0 x9 x10))) (zbr ((1 : Int) = 0) (zlt1 (bOr bo 0) fun x9 => zlt1 (w32 (k + 1)) fun x10 => P u 1 x9 x10) (zbr (bb true = 0) (zlt1 (bOr bo 0) fun x9 => zlt1 (w32 (k + 1)) fun x10 => P u 1 x9 x10) (zaL G 5 17 60 (pk a b (-1) k) fun x11 => zlt1 (bOr bo x11) fun x9 => zlt1 (w32 (k + 1)) fun x10 => P u 1 x9 x10)))) (zbr (bb true = 0) (zbr ((1 : Int) = 0) (zlt1 (bOr bo 0) fun x9 => zlt1 (w32 (k + 1)) fun x10 => P u 0 x9 x10) (zbr (bb true = 0) (zlt1 (bOr bo 0) fun x9 => zlt1 (w32 (k + 1)) fun x10 => P u 0 x9 x10) (zaL G 5 17 60 (pk a b (-1) k) fun x11 => zlt1 (bOr bo x11) fun x9 => zlt1 (w32 (k + 1)) fun x10 => P u 0 x9 x10))) (vX6_suits (pk a b (-1) k) 4 G fun x12 => zbr (x12 = 0) (zbr ((1 : Int) = 0) (zlt1 (bOr bo 0) fun x9 => zlt1 (w32 (k + 1)) fun x10 => P u 0 x9 x10) (zbr (bb true = 0) (zlt1 (bOr bo 0) fun x9 => zlt1 (w32 (k + 1)) fun x10 => P u 0 x9 x10) (zaL G 5 17 60 (pk a b (-1) k) fun x11 => zlt1 (bOr bo x11) fun x9 => zlt1 (w32 (k + 1)) fun x10 => P u 0 x9 x10))) (zaL G 5 17 60 (pk a b (-1) k) fun x13 => zbr (bAnd x13 bo ≠ 0) (zbr ((1 : Int) = 0) (zlt1 (bOr bo 0) fun x9 => zlt1 (w32 (k + 1)) fun x10 => P u 0 x9 x10) (zbr (bb true = 0) (zlt1 (bOr bo 0) fun x9 => zlt1 (w32 (k + 1)) fun x10 => P u 0 x9 x10) (zaL G 5 17 60 (pk a b (-1) k) fun x11 => zlt1 (bOr bo x11) fun x9 => zlt1 (w32 (k + 1)) fun x10 => P u 0 x9 x10))) (zbr ((1 : Int) = 0) (zlt1 (bOr bo 0) fun x9 => zlt1 (w32 (k + 1)) fun x10 => P u 1 x9 x10) (zbr (bb true = 0) (zlt1 (bOr bo 0) fun x9 => zlt1 (w32 (k + 1)) fun x10 => P u 1 x9 x10) (zaL G 5 17 60 (pk a b (-1) k) fun x11 => zlt1 (bOr bo x11) fun x9 => zlt1 (w32 (k + 1)) fun x10 => P u 1 x9 x10))))))) := by
            intro u hu
            refine zbr_i (fun hf => tl u 0 hu (Or.inr ⟨rfl, Or.inl hf⟩)) (fun hf => zbr_i (fun q => absurd q z10) (fun _ => zbr_i (fun q => by simp [bb] at q) (fun _ => ?_)))
            refine w6_suits hM hD hp ?_
            cases hfk : fkb D (pk a b (-1) k) 4 with
            | false =>
              refine zbr_i (fun _ => tl u 0 hu (Or.inr ⟨rfl, Or.inr (fun q => by have := fkb_iff.mpr q.1; rw [hfk] at this; cases this)⟩)) (fun q => absurd rfl q)
            | true =>
              refine zbr_i (fun q => by simp [bb] at q) (fun _ => ?_)
              refine zaL_i hp.1 (by omega) ?_
              rw [hD]
              refine zbr_i (fun hb => tl u 0 hu (Or.inr ⟨rfl, Or.inr (fun q => hb q.2)⟩)) (fun hb => tl u 1 hu (Or.inl ⟨rfl, hf, fkb_iff.mp hfk, Decidable.of_not_not hb⟩))
          refine zbr_i (fun ha => ft 0 ha.symm) (fun ha => zbr_i (fun q => absurd q z10) (fun _ => zbr_i (fun q => by simp [bb] at q) (fun _ => ft 1 (by omega))))
        · rw [decide_eq_false hp]
          have st0 : ∀ v w : Int, zlt1 (bOr bo w) fun x9 => zlt1 (w32 (k + 1)) fun x10 => P 0 v x9 x10 := fun v w => step 0 v w (Or.inr ⟨rfl, Or.inr ⟨hkn, hp⟩⟩)
          have tl : ∀ v : Int, zbr ((1 : Int) = 0) (zlt1 (bOr bo 0) fun x9 => zlt1 (w32 (k + 1)) fun x10 => P 0 v x9 x10) (zbr (bb false = 0) (zlt1 (bOr bo 0) fun x9 => zlt1 (w32 (k + 1)) fun x10 => P 0 v x9 x10) (zaL G 5 17 60 (pk a b (-1) k) fun x11 => zlt1 (bOr bo x11) fun x9 => zlt1 (w32 (k + 1)) fun x10 => P 0 v x9 x10)) := fun v =>
            zbr_i (fun _ => st0 v 0) (fun _ => zbr_i (fun _ => st0 v 0) (fun q => absurd rfl q))
          refine zbr_i (fun ha => ?_) (fun ha => zbr_i (fun q => absurd q z10) (fun _ => zbr_i (fun _ => ?_) (fun q => absurd rfl q)))
          · exact zbr_i (fun _ => tl 0) (fun _ => zbr_i (fun q => absurd q z10) (fun _ => zbr_i (fun _ => tl 0) (fun q => absurd rfl q)))
          · exact zbr_i (fun _ => tl 0) (fun _ => zbr_i (fun q => absurd q z10) (fun _ => zbr_i (fun _ => tl 0) (fun q => absurd rfl q)))
      · rw [if_neg hkn]
        have tl : ∀ u v : Int, (u = ar) → ((v = 1 ∧ fi ≠ 0 ∧ pk a b (-1) k = -1) ∨ (v = 0 ∧ (fi = 0 ∨ pk a b (-1) k ≠ -1))) → zlt1 (bOr bo 0) fun x9 => zlt1 (w32 (k + 1)) fun x10 => P u v x9 x10 := by
          rintro u v rfl hv
          refine step u v 0 ?_
          rcases har with e | e
          · exact Or.inr ⟨e, Or.inl e⟩
          · refine Or.inl ⟨e, e, fun q => absurd q hkn, by rw [if_neg hkn], ?_⟩
            rcases hv with ⟨e1, e2, e3⟩ | ⟨e1, e2⟩
            · exact Or.inl ⟨e1, hf1 e e2, fun q => absurd q hkn, fun _ => e3⟩
            · refine Or.inr ⟨e1, ?_⟩
              rcases e2 with e2 | e2
              · exact Or.inl e2
              · exact Or.inr (Or.inr ⟨by omega, e2⟩)
        generalize bb (decide (0 ≤ pk a b (-1) k ∧ pk a b (-1) k < D 9 0)) = pp
        have ft : ∀ u : Int, u = ar → zbr (fi = 0) (zbr ((0 : Int) = 0) (zlt1 (bOr bo 0) fun x9 => zlt1 (w32 (k + 1)) fun x10 => P u 0 x9 x10) (zbr (pp = 0) (zlt1 (bOr bo 0) fun x9 => zlt1 (w32 (k + 1)) fun x10 => P u 0 x9 x10) (zaL G 5 17 60 (pk a b (-1) k) fun x11 => zlt1 (bOr bo x11) fun x9 => zlt1 (w32 (k + 1)) fun x10 => P u 0 x9 x10))) (zbr ((0 : Int) = 0) (zbr (pk a b (-1) k ≠ -1) (zbr ((0 : Int) = 0) (zlt1 (bOr bo 0) fun x9 => zlt1 (w32 (k + 1)) fun x10 => P u 0 x9 x10) (zbr (pp = 0) (zlt1 (bOr bo 0) fun x9 => zlt1 (w32 (k + 1)) fun x10 => P u 0 x9 x10) (zaL G 5 17 60 (pk a b (-1) k) fun x11 => zlt1 (bOr bo x11) fun x9 => zlt1 (w32 (k + 1)) fun x10 => P u 0 x9 x10))) (zbr ((0 : Int) = 0) (zlt1 (bOr bo 0) fun x9 => zlt1 (w32 (k + 1)) fun x10 => P u 1 x9 x10) (zbr (pp = 0) (zlt1 (bOr bo 0) fun x9 => zlt1 (w32 (k + 1)) fun x10 => P u 1 x9 x10) (zaL G 5 17 60 (pk a b (-1) k) fun x11 => zlt1 (bOr bo x11) fun x9 => zlt1 (w32 (k + 1)) fun x10 => P u 1 x9 x10)))) (zbr (pp = 0) (zbr ((0 : Int) = 0) (zlt1 (bOr bo 0) fun x9 => zlt1 (w32 (k + 1)) fun x10 => P u 0 x9 x10) (zbr (pp = 0) (zlt1 (bOr bo 0) fun x9 => zlt1 (w32 (k + 1)) fun x10 => P u 0 x9 x10) (zaL G 5 17 60 (pk a b (-1) k) fun x11 => zlt1 (bOr bo x11) fun x9 => zlt1 (w32 (k + 1)) fun x10 => P u 0 x9 x10))) (vX6_suits (pk a b (-1) k) 4 G fun x12 => zbr (x12 = 0) (zbr ((0 : Int) = 0) (zlt1 (bOr bo 0) fun x9 => zlt1 (w32 (k + 1)) fun x10 => P u 0 x9 x10) (zbr (pp = 0) (zlt1 (bOr bo 0) fun x9 => zlt1 (w32 (k + 1)) fun x10 => P u 0 x9 x10) (zaL G 5 17 60 (pk a b (-1) k) fun x11 => zlt1 (bOr bo x11) fun x9 => zlt1 (w32 (k + 1)) fun x10 => P u 0 x9 x10))) (zaL G 5 17 60 (pk a b (-1) k) fun x13 => zbr (bAnd x13 bo ≠ 0) (zbr ((0 : Int) = 0) (zlt1 (bOr bo 0) fun x9 => zlt1 (w32 (k + 1)) fun x10 => P u 0 x9 x10) (zbr (pp = 0) (zlt1 (bOr bo 0) fun x9 => zlt1 (w32 (k + 1)) fun x10 => P u 0 x9 x10) (zaL G 5 17 60 (pk a b (-1) k) fun x11 => zlt1 (bOr bo x11) fun x9 => zlt1 (w32 (k + 1)) fun x10 => P u 0 x9 x10))) (zbr ((0 : Int) = 0) (zlt1 (bOr bo 0) fun x9 => zlt1 (w32 (k + 1)) fun x10 => P u 1 x9 x10) (zbr (pp = 0) (zlt1 (bOr bo 0) fun x9 => zlt1 (w32 (k + 1)) fun x10 => P u 1 x9 x10) (zaL G 5 17 60 (pk a b (-1) k) fun x11 => zlt1 (bOr bo x11) fun x9 => zlt1 (w32 (k + 1)) fun x10 => P u 1 x9 x10))))))) := by
          intro u hu
          refine zbr_i (fun hf => zbr_i (fun _ => tl u 0 hu (Or.inr ⟨rfl, Or.inl hf⟩)) (fun q => absurd rfl q)) (fun hf => zbr_i (fun _ => ?_) (fun q => absurd rfl q))
          refine zbr_i (fun hp => zbr_i (fun _ => tl u 0 hu (Or.inr ⟨rfl, Or.inr hp⟩)) (fun q => absurd rfl q)) (fun hp => zbr_i (fun _ => tl u 1 hu (Or.inl ⟨rfl, hf, Decidable.of_not_not hp⟩)) (fun q => absurd rfl q))
        refine zbr_i (fun ha => ft 0 ha.symm) (fun ha => zbr_i (fun _ => ft 1 (by omega)) (fun q => absurd rfl q))
  · by_cases hr : 0 ≤ r ∧ r ≤ 2
    · refine Or.inl ⟨by rw [decide_eq_true hr]; rfl, hr, fun j _ _ => by omega, by rw [if_pos hnf0.1]; rfl, ?_⟩
      by_cases hn : 0 ≤ n ∧ n ≤ 2
      · exact Or.inl ⟨by rw [decide_eq_true hn]; rfl, hn, fun j _ _ => by omega⟩
      · exact Or.inr ⟨by rw [decide_eq_false hn]; rfl, fun q => hn q.1⟩
    · exact Or.inr ⟨by rw [decide_eq_false hr]; rfl, fun q => hr q.1⟩
