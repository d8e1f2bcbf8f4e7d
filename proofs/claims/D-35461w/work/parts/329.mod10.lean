/-! REFERENCE: cases added -/
set_option maxRecDepth 100000
theorem reR_id {D : ZD} {n : Int} {src : Int → Int} (h : ∀ i, src i = i) : reR D n src = up D 23 0 n := by
  refine (reR_ext (E := up D 23 0 n) (fun j hj => up_ne (by omega)) (funext fun i => by rw [up_at]) (fun q r r0 r3 => by rw [up_ne (by omega), h]) (fun j h1 h2 i => by rw [up_ne (by omega), h])).symm
theorem k6_add {G : ZG} {D : ZD} {a b c r : Int} {Q : Int → ZG → Prop} (hD : zsg G 5 = D) (hM : MI D)
    (h1 : ¬ rpI (D 21 0) (D 9 0) a b c → Q 0 (zss G 5 0 0 1)) (h2 : rpI (D 21 0) (D 9 0) a b c → ¬ cOk2 D a b c r → Q 0 (zss G 5 0 0 2))
    (h3 : rpI (D 21 0) (D 9 0) a b c → cOk2 D a b c r → ¬ (0 < D 21 0 ∧ D 23 0 < 8) → Q 0 (zss G 5 0 0 3))
    (hQ : rpI (D 21 0) (D 9 0) a b c → cOk2 D a b c r → (0 < D 21 0 ∧ D 23 0 < 8) → ∀ G', Mo G G' → zsg G' 5 0 0 = 0 → (∀ j, j ≠ 0 → zsg G' 5 j = up (addK D a b c r) 54 0 (-1) j) → Q (D 23 0) G') : vX6_add a b c r G Q := by
  have m9 : 0 ≤ D 9 0 ∧ D 9 0 ≤ 60 := ⟨hM.2.2.1.1, hM.2.2.1.2.1⟩
  have m21 : 0 ≤ D 21 0 ∧ D 21 0 ≤ 3 := ⟨hM.2.2.2.2.1.1, hM.2.2.2.2.1.2.1⟩
  have m23 : 0 ≤ D 23 0 ∧ D 23 0 ≤ 8 := ⟨hM.2.2.2.2.1.2.2.2.1, hM.2.2.2.2.1.2.2.2.2.1⟩
  have z10 : ¬ (1 : Int) = 0 := by omega
  unfold vX6_add
  rw [eX6_in]
  generalize hnf : D 21 0 = nf at *
  refine zl4_of (fun ar fi bo k => 0 ≤ k ∧ k ≤ 3 ∧ ((ar = 1 ∧ (∀ j, 0 ≤ j → j < k → j < nf → 0 ≤ pk a b c j ∧ pk a b c j < D 9 0) ∧ bo = nmo D a b c (if k ≤ nf then k else nf).toNat ∧ ((fi = 1 ∧ (0 ≤ r ∧ r ≤ 99) ∧ ∀ j, 0 ≤ j → j < k → (j < nf → fitk D (pk a b c j) (D 22 j) ∧ bAnd (D 17 (pk a b c j)) (nmo D a b c j.toNat) = 0) ∧ (nf ≤ j → pk a b c j = -1)) ∨ (fi = 0 ∧ ¬ cOk2 D a b c r))) ∨ (ar = 0 ∧ ¬ rpI nf (D 9 0) a b c))) (fun _ _ _ k => (3 - k).toNat) (fun P ar fi bo k hI hPP => ?_) ⟨by omega, by omega, ?_⟩
  · obtain ⟨k0, k1, hz⟩ := hI
    refine zbr_i (fun hk3 => ?_) (fun hk3 => ?_)
    · dsimp only [zjn]
      rcases hz with ⟨rfl, hin, hbo, hz⟩ | ⟨rfl, hno⟩
      · have hI : rpI nf (D 9 0) a b c := fun j j0 j1 => hin j j0 (by omega) j1
        rw [zbr_pos (by omega)]
        rcases hz with ⟨rfl, hr, hz⟩ | ⟨rfl, hno⟩
        · have hok : cOk2 D a b c r := ⟨by rw [hnf]; exact fun j j0 j1 => (hz j (by omega) (by omega)).2 j0, hr, by rw [hnf]; exact fun j j0 j1 => (hz j j0 (by omega)).1 j1⟩
          rw [zbr_pos (by omega), zgF_e, hD, hnf]
          refine zbr_i (fun h => ?_) (fun h => ?_)
          · rw [eX6_refused, zbr_neg (by simp [bb])]; exact h3 hI hok (by omega)
          · rw [zgF_e, hD]
            refine zbr_i (fun h8 => ?_) (fun h8 => ?_)
            · rw [eX6_refused, zbr_pos (show bb (decide ((0 : Int) ≠ 0)) = 0 from rfl), zgF_e, z5_ne (by omega), hD]
              refine s6_open (D := D) (fun j hj => by rw [z5_ne hj, hD]) (by omega) (by omega) (fun K mo e0 ej => ?_)
              have ej2 : ∀ j, j ≠ 0 → zsg K 5 j = up (up (up (up D 23 0 (D 23 0 + 1)) 29 (D 23 0) 0) 26 (D 23 0) (-1)) 54 0 (-1) j := fun j hj => by
                rw [ej j hj, reR_id (fun i => by unfold spS; by_cases h1 : i ≤ D 23 0; rw [if_pos h1]; rw [if_neg h1, if_neg h1])]
              intro P2 hc
              refine hc _ _ ?_
              dsimp only
              rw [zbr_neg (by omega), eX6_pick, pk0, w32_eq (x := 3 * D 23 0) (by omega) (by omega), w32_eq (x := 3 * D 23 0 + 0) (by omega) (by omega)]
              refine zaS_i (by omega) (by omega) ?_
              rw [zlt1_e, show w32 (0 + 1) = 1 from w32_eq (by omega) (by omega)]
              refine hc _ _ ?_
              dsimp only
              rw [zbr_neg (by omega), eX6_pick, pk1, w32_eq (x := 3 * D 23 0) (by omega) (by omega), w32_eq (x := 3 * D 23 0 + 1) (by omega) (by omega)]
              refine zaS_i (by omega) (by omega) ?_
              rw [zlt1_e, show w32 (1 + 1) = 2 from w32_eq (by omega) (by omega)]
              refine hc _ _ ?_
              dsimp only
              rw [zbr_neg (by omega), eX6_pick, pk2, w32_eq (x := 3 * D 23 0) (by omega) (by omega), w32_eq (x := 3 * D 23 0 + 2) (by omega) (by omega)]
              refine zaS_i (by omega) (by omega) ?_
              rw [zlt1_e, show w32 (2 + 1) = 3 from w32_eq (by omega) (by omega)]
              refine hc _ _ ?_
              dsimp only
              rw [zbr_pos (by omega)]
              refine zaS_i (by omega) (by omega) ?_
              refine hQ hI hok (by omega) _ ((((((Mo.refl G).ss _ _ _).trans mo).ss _ _ _).ss _ _ _).ss _ _ _ |>.ss _ _ _) ?_ (fun j hj => ?_)
              · rw [z5_ne (by omega), z5_ne (by omega), z5_ne (by omega), z5_ne (by omega), e0, z5_eq]; rfl
              · by_cases j25 : j = 25
                · subst j25
                  rw [z5_eq, z5_ne (by omega), z5_ne (by omega), z5_ne (by omega), ej2 25 (by omega), up_ne (by omega), up_ne (by omega), up_ne (by omega), up_ne (by omega), up_ne (by omega)]
                  funext i
                  unfold addK
                  rw [if_neg (show ¬ ((25 : Nat) = 23 ∧ i = 0) by omega), if_neg (show ¬ (25 : Nat) = 24 by omega)]
                  by_cases hi : i = D 23 0
                  · rw [if_pos hi, if_pos ⟨rfl, hi⟩]
                  · rw [if_neg hi, if_neg (fun q => hi q.2), if_neg (show ¬ ((25 : Nat) = 26 ∧ i = D 23 0) by omega), if_neg (show ¬ ((25 : Nat) = 29 ∧ i = D 23 0) by omega)]
                · rw [z5_ne j25]
                  by_cases j24 : j = 24
                  · subst j24
                    rw [z5_eq, z5_eq, z5_eq, ej2 24 (by omega), up_ne (by omega), up_ne (by omega), up_ne (by omega), up_ne (by omega), up_ne (by omega)]
                    funext i
                    unfold addK
                    rw [if_neg (show ¬ ((24 : Nat) = 23 ∧ i = 0) by omega), if_pos rfl]
                    dsimp only
                    rw [show 3 * D 23 0 + 0 = 3 * D 23 0 by omega]
                  · rw [z5_ne j24, z5_ne j24, z5_ne j24, ej2 j hj]
                    by_cases j54 : j = 54
                    · subst j54
                      funext i
                      rw [up_at, up_at, up_ne (by omega), up_ne (by omega), up_ne (by omega), addK_o (by omega)]
                    · rw [up_ne j54, up_ne j54]
                      by_cases j26 : j = 26
                      · subst j26
                        funext i
                        rw [up_at, up_ne (by omega), up_ne (by omega)]
                        unfold addK
                        rw [if_neg (show ¬ ((26 : Nat) = 23 ∧ i = 0) by omega), if_neg (show ¬ (26 : Nat) = 24 by omega), if_neg (show ¬ ((26 : Nat) = 25 ∧ i = D 23 0) by omega)]
                        by_cases hi : i = D 23 0
                        · rw [if_pos hi, if_pos ⟨rfl, hi⟩]
                        · rw [if_neg hi, if_neg (fun q => hi q.2), if_neg (show ¬ ((26 : Nat) = 29 ∧ i = D 23 0) by omega)]
                      · rw [up_ne j26]
                        by_cases j29 : j = 29
                        · subst j29
                          funext i
                          rw [up_at, up_ne (by omega)]
                          unfold addK
                          rw [if_neg (show ¬ ((29 : Nat) = 23 ∧ i = 0) by omega), if_neg (show ¬ (29 : Nat) = 24 by omega), if_neg (show ¬ ((29 : Nat) = 25 ∧ i = D 23 0) by omega), if_neg (show ¬ ((29 : Nat) = 26 ∧ i = D 23 0) by omega)]
                          by_cases hi : i = D 23 0
                          · rw [if_pos hi, if_pos ⟨rfl, hi⟩]
                          · rw [if_neg hi, if_neg (fun q => hi q.2)]
                        · rw [up_ne j29]
                          by_cases j23 : j = 23
                          · subst j23
                            funext i
                            rw [up_at]
                            unfold addK
                            by_cases hi : i = 0
                            · rw [if_pos hi, if_pos ⟨rfl, hi⟩]
                            · rw [if_neg hi, if_neg (fun q => hi q.2), if_neg (show ¬ (23 : Nat) = 24 by omega), if_neg (show ¬ ((23 : Nat) = 25 ∧ i = D 23 0) by omega), if_neg (show ¬ ((23 : Nat) = 26 ∧ i = D 23 0) by omega), if_neg (show ¬ ((23 : Nat) = 29 ∧ i = D 23 0) by omega)]
                          · rw [up_ne j23, addK_o ⟨j23, j24, j25, j26, j29⟩]
            · rw [eX6_refused, zbr_neg (by simp [bb])]; exact h3 hI hok (by omega)
        · rw [zbr_neg (by omega), eX6_refused, zbr_neg (by simp [bb])]; exact h2 hI hno
      · rw [zbr_neg (by omega), eX6_refused, zbr_neg (by simp [bb])]; exact h1 hno
    · rw [eX6_pick, zgF_e, hD, hnf]
      dsimp only [zjn]
      have step : ∀ u v w : Int, ((u = 1 ∧ ar = 1 ∧ (k < nf → 0 ≤ pk a b c k ∧ pk a b c k < D 9 0) ∧ w = (if k < nf then D 17 (pk a b c k) else 0) ∧ ((v = 1 ∧ fi = 1 ∧ (k < nf → fitk D (pk a b c k) (D 22 k) ∧ bAnd (D 17 (pk a b c k)) bo = 0) ∧ (nf ≤ k → pk a b c k = -1)) ∨ (v = 0 ∧ (fi = 0 ∨ (k < nf ∧ ¬ (fitk D (pk a b c k) (D 22 k) ∧ bAnd (D 17 (pk a b c k)) bo = 0)) ∨ (nf ≤ k ∧ pk a b c k ≠ -1))))) ∨ (u = 0 ∧ (ar = 0 ∨ (k < nf ∧ ¬ (0 ≤ pk a b c k ∧ pk a b c k < D 9 0))))) → zlt1 (bOr bo w) fun x11 => zlt1 (w32 (k + 1)) fun x12 => P u v x11 x12 := by
        intro u v w hu
        rw [zlt1_e, zlt1_e, w32_eq (by omega) (by omega)]
        refine hPP _ _ _ _ ⟨by omega, by omega, ?_⟩ (by omega)
        rcases hu with ⟨rfl, rfl, hu1, rfl, hu⟩ | ⟨rfl, hu1⟩
        · rcases hz with ⟨-, hin, hbo, hz⟩ | ⟨q, -⟩
          · have hbk : k < nf → bo = nmo D a b c k.toNat := fun h => by rw [hbo, if_pos (by omega)]
            refine Or.inl ⟨rfl, fun j j0 j1 j2 => ?_, ?_, ?_⟩
            · by_cases hjk : j = k
              · rw [hjk]; exact hu1 (by omega)
              · exact hin j j0 (by omega) j2
            · by_cases hkn : k < nf
              · rw [if_pos hkn, if_pos (by omega), show (k + 1).toNat = k.toNat + 1 by omega]
                simp only [nmo]
                rw [show ((k.toNat : Nat) : Int) = k by omega, hbk hkn]
              · rw [if_neg hkn, if_neg (by omega), hbo]
                have e : (if k ≤ nf then k else nf) = nf := by split <;> omega
                rw [e]
                exact bOr_0 (nmo_b hM (m := nf) (fun j j0 j1 => hin j j0 (by omega) j1) nf.toNat (by omega))
            · rcases hu with ⟨rfl, rfl, hu2, hu3⟩ | ⟨rfl, hu2⟩
              · rcases hz with ⟨-, hn, hz⟩ | ⟨q, -⟩
                · refine Or.inl ⟨rfl, hn, fun j j0 j1 => ?_⟩
                  by_cases hjk : j = k
                  · rw [hjk]; exact ⟨fun h => by rw [← hbk h]; exact hu2 h, hu3⟩
                  · exact hz j j0 (by omega)
                · cases q
              · refine Or.inr ⟨rfl, fun q => ?_⟩
                rcases hu2 with rfl | ⟨g1, g2⟩ | ⟨g1, g2⟩
                · rcases hz with ⟨q2, -⟩ | ⟨-, q2⟩
                  · cases q2
                  · exact q2 q
                · rw [hbk g1] at g2; exact g2 (q.2.2 k k0 (by rw [hnf]; exact g1))
                · exact g2 (q.1 k (by rw [hnf]; exact g1) (by omega))
          · cases q
        · refine Or.inr ⟨rfl, fun q => ?_⟩
          rcases hu1 with rfl | ⟨g1, g2⟩
          · rcases hz with ⟨q2, -⟩ | ⟨-, q2⟩
            · cases q2
            · exact q2 q
          · exact g2 (q k k0 g1)
      have har : ar = 0 ∨ ar = 1 := by rcases hz with ⟨q, -⟩ | ⟨q, -⟩; exact Or.inr q; exact Or.inl q
      have hf1 : ar = 1 → fi ≠ 0 → fi = 1 := fun q1 q2 => by
        rcases hz with ⟨-, -, -, hz⟩ | ⟨q, -⟩
        · rcases hz with ⟨q, -⟩ | ⟨q, -⟩
          · exact q
          · exact absurd q q2
        · omega
      refine zbr_i (fun hnk => ?_) (fun hnk => ?_)
      · refine w6_isPattern (by rw [hD]; exact hM) ?_
        rw [hD]
        have tl : ∀ u v : Int, (u = ar) → ((v = 1 ∧ fi ≠ 0 ∧ pk a b c k = -1) ∨ (v = 0 ∧ (fi = 0 ∨ pk a b c k ≠ -1))) → zlt1 (bOr bo 0) fun x9 => zlt1 (w32 (k + 1)) fun x10 => P u v x9 x10 := by
          rintro u v rfl hv
          refine step u v 0 ?_
          rcases har with e | e
          · exact Or.inr ⟨e, Or.inl e⟩
          · refine Or.inl ⟨e, e, fun q => by omega, by rw [if_neg (by omega)], ?_⟩
            rcases hv with ⟨e1, e2, e3⟩ | ⟨e1, e2⟩
            · exact Or.inl ⟨e1, hf1 e e2, fun q => by omega, fun _ => e3⟩
            · refine Or.inr ⟨e1, ?_⟩
              rcases e2 with e2 | e2
              · exact Or.inl e2
              · exact Or.inr (Or.inr ⟨hnk, e2⟩)
        generalize bb (decide (0 ≤ pk a b c k ∧ pk a b c k < D 9 0)) = pp
        refine zbr_i (fun ha => ?_) (fun ha => zbr_i (fun _ => ?_) (fun q => absurd rfl q))
        · refine zbr_i (fun hf => zbr_i (fun _ => tl 0 0 ha.symm (Or.inr ⟨rfl, Or.inl hf⟩)) (fun q => absurd rfl q)) (fun hf => zbr_i (fun _ => ?_) (fun q => absurd rfl q))
          refine zbr_i (fun hp => zbr_i (fun _ => tl 0 0 ha.symm (Or.inr ⟨rfl, Or.inr hp⟩)) (fun q => absurd rfl q)) (fun hp => zbr_i (fun _ => tl 0 1 ha.symm (Or.inl ⟨rfl, hf, Decidable.of_not_not hp⟩)) (fun q => absurd rfl q))
        · refine zbr_i (fun hf => zbr_i (fun _ => tl 1 0 (by omega) (Or.inr ⟨rfl, Or.inl hf⟩)) (fun q => absurd rfl q)) (fun hf => zbr_i (fun _ => ?_) (fun q => absurd rfl q))
          refine zbr_i (fun hp => zbr_i (fun _ => tl 1 0 (by omega) (Or.inr ⟨rfl, Or.inr hp⟩)) (fun q => absurd rfl q)) (fun hp => zbr_i (fun _ => tl 1 1 (by omega) (Or.inl ⟨rfl, hf, Decidable.of_not_not hp⟩)) (fun q => absurd rfl q))
      · refine w6_isPattern (by rw [hD]; exact hM) ?_
        rw [hD]
        have hkn : k < nf := by omega
        by_cases hp : 0 ≤ pk a b c k ∧ pk a b c k < D 9 0
        · rw [decide_eq_true hp]
          have tl : ∀ u v : Int, (u = ar) → ((v = 1 ∧ fi ≠ 0 ∧ fitk D (pk a b c k) (D 22 k) ∧ bAnd (D 17 (pk a b c k)) bo = 0) ∨ (v = 0 ∧ (fi = 0 ∨ ¬ (fitk D (pk a b c k) (D 22 k) ∧ bAnd (D 17 (pk a b c k)) bo = 0)))) → zbr ((1 : Int) = 0) (zlt1 (bOr bo 0) fun x9 => zlt1 (w32 (k + 1)) fun x10 => P u v x9 x10) (zbr (bb true = 0) (zlt1 (bOr bo 0) fun x9 => zlt1 (w32 (k + 1)) fun x10 => P u v x9 x10) (zaL G 5 17 60 (pk a b c k) fun x11 => zlt1 (bOr bo x11) fun x9 => zlt1 (w32 (k + 1)) fun x10 => P u v x9 x10)) := by
            rintro u v rfl hv
            rw [zbr_neg z10, zbr_neg (by simp [bb])]
            refine zaL_i hp.1 (by omega) ?_
            rw [hD]
            refine step u v _ ?_
            rcases har with e | e
            · exact Or.inr ⟨e, Or.inl e⟩
            · refine Or.inl ⟨e, e, fun _ => hp, by rw [if_pos hkn], ?_⟩
              rcases hv with ⟨e1, e2, e3⟩ | ⟨e1, e2⟩
              · exact Or.inl ⟨e1, hf1 e e2, fun _ => e3, fun q => by omega⟩
              · refine Or.inr ⟨e1, ?_⟩
                rcases e2 with e2 | e2
                · exact Or.inl e2
                · exact Or.inr (Or.inl ⟨hkn, e2⟩)
          have ft : ∀ u : Int, (u = ar) → zbr (fi = 0) (zbr ((1 : Int) = 0) (zlt1 (bOr bo 0) fun x9 => zlt1 (w32 (k + 1)) fun x10 => P u 0 x9 x10) (zbr (bb true = 0) (zlt1 (bOr bo 0) fun x9 => zlt1 (w32 (k + 1)) fun x10 => P u 0 x9 x10) (zaL G 5 17 60 (pk a b c k) fun x11 => zlt1 (bOr bo x11) fun x9 => zlt1 (w32 (k + 1)) fun x10 => P u 0 x9 x10))) (zbr ((1 : Int) = 0) (zbr (pk a b c k ≠ -1) (zbr ((1 : Int) = 0) (zlt1 (bOr bo 0) fun x9 => zlt1 (w32 (k + 1)) fun x10 => P u 0 x9 x10) (zbr (bb true = 0) (zlt1 (bOr bo 0) fun x9 => zlt1 (w32 (k + 1)) fun x10 => P u 0 x9 x10) (zaL G 5 17 60 (pk a b c k) fun x11 => zlt1 (bOr bo x11) fun x9 => zlt1 (w32 (k + 1)) fun x10 => P u 0 x9 x10))) (zbr ((1 : Int) = 0) (zlt1 (bOr bo 0) fun x9 => zlt1 (w32 (k + 1)) fun x10 => P u 1 x9 x10) (zbr (bb true = 0) (zlt1 (bOr bo 0) fun x9 => zlt1 (w32 (k + 1)) fun x10 => P u 1 x9 x10) (zaL G 5 17 60 (pk a b c k) fun x11 => zlt1 (bOr bo x11) fun x9 => zlt1 (w32 (k + 1)) fun x10 => P u 1 x9 x10)))) (zbr (bb true = 0) (zbr ((1 : Int) = 0) (zlt1 (bOr bo 0) fun x9 => zlt1 (w32 (k + 1)) fun x10 => P u 0 x9 x10) (zbr (bb true = 0) (zlt1 (bOr bo 0) fun x9 => zlt1 (w32 (k + 1)) fun x10 => P u 0 x9 x10) (zaL G 5 17 60 (pk a b c k) fun x11 => zlt1 (bOr bo x11) fun x9 => zlt1 (w32 (k + 1)) fun x10 => P u 0 x9 x10))) (zaL G 5 22 3 k fun x14 => vX6_suits (pk a b c k) x14 G fun x12 => zbr (x12 = 0) (zbr ((1 : Int) = 0) (zlt1 (bOr bo 0) fun x9 => zlt1 (w32 (k + 1)) fun x10 => P u 0 x9 x10) (zbr (bb true = 0) (zlt1 (bOr bo 0) fun x9 => zlt1 (w32 (k + 1)) fun x10 => P u 0 x9 x10) (zaL G 5 17 60 (pk a b c k) fun x11 => zlt1 (bOr bo x11) fun x9 => zlt1 (w32 (k + 1)) fun x10 => P u 0 x9 x10))) (zaL G 5 17 60 (pk a b c k) fun x13 => zbr (bAnd x13 bo ≠ 0) (zbr ((1 : Int) = 0) (zlt1 (bOr bo 0) fun x9 => zlt1 (w32 (k + 1)) fun x10 => P u 0 x9 x10) (zbr (bb true = 0) (zlt1 (bOr bo 0) fun x9 => zlt1 (w32 (k + 1)) fun x10 => P u 0 x9 x10) (zaL G 5 17 60 (pk a b c k) fun x11 => zlt1 (bOr bo x11) fun x9 => zlt1 (w32 (k + 1)) fun x10 => P u 0 x9 x10))) (zbr ((1 : Int) = 0) (zlt1 (bOr bo 0) fun x9 => zlt1 (w32 (k + 1)) fun x10 => P u 1 x9 x10) (zbr (bb true = 0) (zlt1 (bOr bo 0) fun x9 => zlt1 (w32 (k + 1)) fun x10 => P u 1 x9 x10) (zaL G 5 17 60 (pk a b c k) fun x11 => zlt1 (bOr bo x11) fun x9 => zlt1 (w32 (k + 1)) fun x10 => P u 1 x9 x10))))))) := by
            intro u hu
            refine zbr_i (fun hf => tl u 0 hu (Or.inr ⟨rfl, Or.inl hf⟩)) (fun hf => zbr_i (fun q => absurd q z10) (fun _ => zbr_i (fun q => by simp [bb] at q) (fun _ => ?_)))
            refine zaL_i k0 (by omega) ?_
            rw [hD]
            refine w6_suits hM hD hp ?_
            cases hfk : fkb D (pk a b c k) (D 22 k) with
            | false =>
              refine zbr_i (fun _ => tl u 0 hu (Or.inr ⟨rfl, Or.inr (fun q => by have := fkb_iff.mpr q.1; rw [hfk] at this; cases this)⟩)) (fun q => absurd rfl q)
            | true =>
              refine zbr_i (fun q => by simp [bb] at q) (fun _ => ?_)
              refine zaL_i hp.1 (by omega) ?_
              rw [hD]
              refine zbr_i (fun hb => tl u 0 hu (Or.inr ⟨rfl, Or.inr (fun q => hb q.2)⟩)) (fun hb => tl u 1 hu (Or.inl ⟨rfl, hf, fkb_iff.mp hfk, Decidable.of_not_not hb⟩))
          refine zbr_i (fun ha => ft 0 ha.symm) (fun ha => zbr_i (fun q => absurd q z10) (fun _ => zbr_i (fun q => by simp [bb] at q) (fun _ => ft 1 (by omega))))
        · rw [decide_eq_false hp]
          have st0 : ∀ v w : Int, zlt1 (bOr bo w) fun x9 => zlt1 (w32 (k + 1)) fun x10 => P 0 v x9 x10 := fun v w => step 0 v w (Or.inr ⟨rfl, Or.inr ⟨hkn, hp⟩⟩)
          have tl : ∀ v : Int, zbr ((1 : Int) = 0) (zlt1 (bOr bo 0) fun x9 => zlt1 (w32 (k + 1)) fun x10 => P 0 v x9 x10) (zbr (bb false = 0) (zlt1 (bOr bo 0) fun x9 => zlt1 (w32 (k + 1)) fun x10 => P 0 v x9 x10) (zaL G 5 17 60 (pk a b c k) fun x11 => zlt1 (bOr bo x11) fun x9 => zlt1 (w32 (k + 1)) fun x10 => P 0 v x9 x10)) := fun v =>
            zbr_i (fun _ => st0 v 0) (fun _ => zbr_i (fun _ => st0 v 0) (fun q => absurd rfl q))
          refine zbr_i (fun ha => ?_) (fun ha => zbr_i (fun q => absurd q z10) (fun _ => zbr_i (fun _ => ?_) (fun q => absurd rfl q)))
          · exact zbr_i (fun _ => tl 0) (fun _ => zbr_i (fun q => absurd q z10) (fun _ => zbr_i (fun _ => tl 0) (fun q => absurd rfl q)))
          · exact zbr_i (fun _ => tl 0) (fun _ => zbr_i (fun q => absurd q z10) (fun _ => zbr_i (fun _ => tl 0) (fun q => absurd rfl q)))
  · refine Or.inl ⟨rfl, fun j _ _ => by omega, by rw [if_pos m21.1]; rfl, ?_⟩
    by_cases hr : 0 ≤ r ∧ r ≤ 99
    · exact Or.inl ⟨by rw [decide_eq_true hr.1, decide_eq_true hr.2]; rfl, hr, fun j _ _ => by omega⟩
    · refine Or.inr ⟨?_, fun q => hr q.2.1⟩
      rw [show (decide (0 ≤ r) && decide (r ≤ 99)) = false by simp; omega]; rfl
