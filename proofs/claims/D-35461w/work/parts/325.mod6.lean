/-! REFERENCE: either, make, list -/
set_option maxRecDepth 100000
theorem w6_areAlt {G : ZG} {D : ZD} {a b : Int} {Q : Int → Prop} (hM : MI D) (hD : zsg G 5 = D) (ha : 0 ≤ a ∧ a < D 9 0) (hb : 0 ≤ b ∧ b < D 9 0) (hQ : Q (bb (altb D a b))) : vX6_areAlternatives a b G Q := by
  have m9 := hM.2.2.1.2.1
  have pwa := hM.2.2.1.2.2 a ha.1 ha.2
  have pwb := hM.2.2.1.2.2 b hb.1 hb.2
  unfold vX6_areAlternatives
  refine zaL_i ha.1 (by omega) ?_
  rw [hD]
  dsimp only [zjn]
  have rest : ∀ z : Int, z = bb (decide (D 14 a = -1) || fkb D b (D 14 a)) → zbr (z = 0) (Q 0) (zaL G 5 17 60 a fun x2 => zaL G 5 17 60 b fun x3 => zbr (x2 ≠ x3) (Q 0) (vX6_sizeOf a b (-1) G fun x4 => zbr (40 < x4) (Q 0) (Q 1))) := by
    rintro z rfl
    unfold altb at hQ
    rw [zbr_e0]
    cases h : (decide (D 14 a = -1) || fkb D b (D 14 a)) with
    | false => rw [h] at hQ; rw [if_neg (by simp)]; exact hQ
    | true =>
      rw [h, Bool.true_and] at hQ
      rw [if_pos rfl]
      refine zaL_i ha.1 (by omega) ?_
      refine zaL_i hb.1 (by omega) ?_
      rw [hD]
      refine zbr_i (fun hn => ?_) (fun hn => ?_)
      · rw [decide_eq_false hn] at hQ; exact hQ
      · rw [decide_eq_true (Decidable.of_not_not hn), Bool.true_and] at hQ
        refine w6_sizeOf hM (fun q _ => by rw [hD]) (Or.inr ha) (Or.inr hb) (Or.inl rfl) ?_
        rw [szp_1 (by omega), szp_1 (by omega), szp_0]
        refine zbr_i (fun hs => ?_) (fun hs => ?_)
        · rw [decide_eq_false (by omega)] at hQ; exact hQ
        · rw [decide_eq_true (by omega)] at hQ; exact hQ
  refine zbr_i (fun h => rest 1 (by rw [decide_eq_true h]; rfl)) (fun h => ?_)
  refine zaL_i hb.1 (by omega) ?_
  rw [hD]
  have fk1 : fkb D b (D 14 a) = (decide (D 14 b = -1) || decide (D 14 b = D 14 a)) := rfl
  refine zbr_i (fun h2 => rest 1 (by rw [fk1, decide_eq_true h2, Bool.true_or, Bool.or_true]; rfl)) (fun h2 => ?_)
  refine zaL_i ha.1 (by omega) ?_
  refine zaL_i hb.1 (by omega) ?_
  rw [hD]
  refine zbr_i (fun h3 => rest 0 (by rw [fk1, decide_eq_false h, decide_eq_false h2, decide_eq_false (fun e => h3 e.symm)]; rfl)) (fun h3 => rest 1 (by rw [fk1, decide_eq_true (Decidable.of_not_not h3).symm, Bool.or_true, Bool.or_true]; rfl))
theorem w6_alternatives {G : ZG} {D : ZD} {a b : Int} {Q : Int → ZG → Prop} (hM : MI D) (hD : ∀ j, j ≠ 0 → zsg G 5 j = D j) (ha : 0 ≤ a ∧ a < D 9 0) (hb : 0 ≤ b ∧ b < D 9 0) (halt : altb D a b = true) (h60 : D 9 0 < 60)
    (hQ : ∀ G', Mo G G' → zsg G' 5 0 = zsg G 5 0 → (∀ j, j ≠ 0 → zsg G' 5 j = addP D (eiv D a b) a b (-1) j) → Q (D 9 0) G') : vX6_alternatives a b G Q := by
  have pwa := hM.2.2.1.2.2 a ha.1 ha.2
  have pwb := hM.2.2.1.2.2 b hb.1 hb.2
  unfold vX6_alternatives
  refine zaL_i ha.1 (by omega) ?_
  rw [hD 14 (by omega)]
  dsimp only [zjn]
  have fin : ∀ z, z = (if D 14 a = -1 then D 14 b else D 14 a) → vX6_pattern 4 0 0 a b (-1) z G fun x2 G1 => Q x2 G1 := by
    rintro z rfl
    refine s6_pattern hM hD h60 (fun k k0 k3 => op_n D k0 k3 (Or.inr ha) (Or.inr hb) (Or.inl rfl)) (fun G' mo e0 ej => hQ G' mo e0 ?_)
    have : mpv D 4 0 0 a b (-1) (if D 14 a = -1 then D 14 b else D 14 a) = eiv D a b := by
      unfold mpv eiv
      rw [der_e, nmr_e, hvr_e, bar_e, if_neg (show ¬ (4 : Int) = 1 by omega), if_neg (show ¬ (4 : Int) = 5 by omega), if_pos (Or.inr (Or.inl rfl)), if_neg (show ¬ ((4 : Int) = 1 ∨ (4 : Int) = 5 ∨ (4 : Int) = 3 ∨ (4 : Int) = 6) by omega)]
      have an : ¬ a = -1 := by omega
      have bn : ¬ b = -1 := by omega
      have na : D 17 a = D 17 b := by unfold altb at halt; simp at halt; exact halt.2.1
      have da := pwa.2.2.1
      have va := pwa.2.2.2.2.2.1
      have vb := pwb.2.2.2.2.2.1
      have ba := pwa.2.2.2.2.2.2.1
      have bb' := pwb.2.2.2.2.2.2.1
      have nr := pwa.2.2.2.2.1
      simp only [if_pos, if_neg an, if_neg bn, szp_1 an, szp_1 bn, szp_0]
      have e0 : bOr 0 (D 17 a) = D 17 a := by
        have := bits_or ⟨0, by omega⟩ ⟨(D 17 a).toNat, by omega⟩
        simp only [Nat.zero_or] at this
        rw [show (((D 17 a).toNat : Nat) : Int) = D 17 a by omega] at this
        exact this
      rw [if_neg (show ¬ D 15 a ≤ 0 by omega), e0, ← na, bOr_self (by unfold inR; omega), show 1 + D 16 a + D 16 b + 0 = D 16 a + D 16 b + 1 by omega]
      congr 1
      · split <;> split <;> omega
      · rcases va with e | e <;> rcases vb with e2 | e2 <;> rw [e, e2] <;> simp
      · rcases ba with e | e <;> rcases bb' with e2 | e2 <;> rw [e, e2] <;> simp
    rw [this] at ej; exact ej
  refine zbr_i (fun h => ?_) (fun h => ?_)
  · refine zaL_i ha.1 (by omega) ?_
    rw [hD 14 (by omega)]; exact fin _ (by rw [if_neg h])
  · refine zaL_i hb.1 (by omega) ?_
    rw [hD 14 (by omega)]; exact fin _ (by rw [if_pos (Decidable.of_not_not h)])
theorem k6_either {G : ZG} {D : ZD} {a b : Int} {Q : Int → ZG → Prop} (hD : zsg G 5 = D) (hM : MI D) (h1 : ¬ ((0 ≤ a ∧ a < D 9 0) ∧ 0 ≤ b ∧ b < D 9 0) → Q 0 (zss G 5 0 0 1))
    (h2 : (0 ≤ a ∧ a < D 9 0) ∧ 0 ≤ b ∧ b < D 9 0 → altb D a b = false → Q 0 (zss G 5 0 0 2))
    (h3 : (0 ≤ a ∧ a < D 9 0) ∧ 0 ≤ b ∧ b < D 9 0 → altb D a b = true → D 9 0 = 60 → Q 0 (zss G 5 0 0 3))
    (hQ : (0 ≤ a ∧ a < D 9 0) ∧ 0 ≤ b ∧ b < D 9 0 → altb D a b = true → D 9 0 < 60 → ∀ G', Mo G G' → zsg G' 5 0 0 = 0 → (∀ j, j ≠ 0 → zsg G' 5 j = addP D (eiv D a b) a b (-1) j) → Q (D 9 0) G') : vX6_either a b G Q := by
  have m9 := hM.2.2.1.2.1
  unfold vX6_either
  refine w6_isPattern (by rw [hD]; exact hM) ?_
  rw [hD]
  dsimp only [zjn]
  by_cases hok : (0 ≤ a ∧ a < D 9 0) ∧ 0 ≤ b ∧ b < D 9 0
  · rw [decide_eq_true hok.1, zbr_e0, if_pos rfl]
    refine w6_isPattern (by rw [hD]; exact hM) ?_
    rw [hD, decide_eq_true hok.2, zbr_e0, if_pos rfl, zbr_pos (show (1 : Int) ≠ 0 by omega)]
    refine w6_areAlt hM hD hok.1 hok.2 ?_
    cases halt : altb D a b with
    | false => rw [zbr_neg (by simp [bb]), eX6_refused, zbr_neg (by simp [bb])]; exact h2 hok halt
    | true =>
      rw [zbr_pos (by simp [bb])]
      refine w6_isFull ?_
      rw [hD]
      by_cases h : D 9 0 = 60
      · rw [decide_eq_true h, zbr_neg (by simp [bb]), eX6_refused, zbr_neg (by simp [bb])]
        exact h3 hok halt h
      · rw [decide_eq_false h, zbr_pos (show bb false = 0 from rfl), eX6_refused, zbr_pos (show bb (decide ((0 : Int) ≠ 0)) = 0 from rfl)]
        refine w6_alternatives hM (fun j hj => by rw [z5_ne hj, hD]) hok.1 hok.2 halt (by omega) (fun G' mo e0 ej => hQ hok halt (by omega) G' (((Mo.refl G).ss _ _ _).trans mo) ?_ ej)
        rw [e0, z5_eq]; rfl
  · have bad : zbr ((0 : Int) ≠ 0) (vX6_areAlternatives a b G fun x4 => zbr (x4 ≠ 0) (vX6_isFull G fun x5 => zbr (x5 = 0) (vX6_refused 0 G fun x2 G1 => zbr (x2 = 0) (vX6_alternatives a b G1 fun x3 G2 => Q x3 G2) (Q 0 G1)) (vX6_refused 3 G fun x2 G1 => zbr (x2 = 0) (vX6_alternatives a b G1 fun x3 G2 => Q x3 G2) (Q 0 G1))) (vX6_refused 2 G fun x2 G1 => zbr (x2 = 0) (vX6_alternatives a b G1 fun x3 G2 => Q x3 G2) (Q 0 G1))) (vX6_refused 1 G fun x2 G1 => zbr (x2 = 0) (vX6_alternatives a b G1 fun x3 G2 => Q x3 G2) (Q 0 G1)) := by
      rw [zbr_neg (by omega), eX6_refused, zbr_neg (by simp [bb])]; exact h1 hok
    by_cases ha : 0 ≤ a ∧ a < D 9 0
    · rw [decide_eq_true ha, zbr_e0, if_pos rfl]
      refine w6_isPattern (by rw [hD]; exact hM) ?_
      rw [hD, decide_eq_false (fun q => hok ⟨ha, q⟩), zbr_e0, if_neg (by simp)]
      exact bad
    · rw [decide_eq_false ha, zbr_e0, if_neg (by simp)]
      exact bad
theorem w6_depthOf {G : ZG} {D : ZD} {a b c : Int} {Q : Int → Prop} (hM : MI D) (hD : zsg G 5 = D) (ho : ∀ k, 0 ≤ k → k < 3 → op D (pk a b c k)) (hQ : Q (der D a b c 3 + 1)) : vX6_depthOf a b c G Q := by
  have m9 := hM.2.2.1.2.1
  unfold vX6_depthOf
  refine zl2_of (fun z k => 0 ≤ k ∧ k ≤ 3 ∧ z = der D a b c k.toNat) (fun _ k => (3 - k).toNat) (fun P z k hI hPP => ?_) ⟨by omega, by omega, rfl⟩
  obtain ⟨k0, k1, rfl⟩ := hI
  have hd := der_b hM ho k.toNat (by omega)
  refine zbr_i (fun hk => ?_) (fun hk => ?_)
  · have e : k = 3 := by omega
    subst e
    rw [w32_eq (by omega) (by omega)]; exact hQ
  · rw [eX6_pick]
    dsimp only [zjn]
    have ek : (k + 1).toNat = k.toNat + 1 := by omega
    have ek2 : ((k.toNat : Nat) : Int) = k := by omega
    have step : ∀ w, w = der D a b c (k + 1).toNat → zlt1 (w32 (k + 1)) fun x2 => P w x2 := by
      rintro w rfl
      rw [zlt1_e, w32_eq (by omega) (by omega)]
      exact hPP _ _ ⟨by omega, by omega, rfl⟩ (by omega)
    simp only [ek, der] at step
    rw [ek2] at step
    refine zbr_i (fun hp => step _ (by rw [if_pos hp])) (fun hp => ?_)
    have hp2 : 0 ≤ pk a b c k ∧ pk a b c k < D 9 0 := by rcases ho k k0 (by omega) with q | q; exact absurd q hp; exact q
    refine zaL_i hp2.1 (by omega) ?_
    rw [hD]
    refine zbr_i (fun hle => step _ (by rw [if_neg hp, if_pos hle])) (fun hle => ?_)
    refine zaL_i hp2.1 (by omega) ?_
    rw [hD]
    exact step _ (by rw [if_neg hp, if_neg hle])
theorem bOr_0 {x : Int} (h : 0 ≤ x ∧ x ≤ 63) : bOr x 0 = x := by
  have := bits_or ⟨x.toNat, by omega⟩ ⟨0, by omega⟩
  simp only [Nat.or_zero] at this
  rw [show ((x.toNat : Nat) : Int) = x by omega] at this
  exact this
theorem der_A {D : ZD} {m a b c : Int} (hI : ∀ k, 0 ≤ k → k < m → pk a b c k ≠ -1) : ∀ n : Nat, (n : Int) ≤ m → der D a b c n = dpo D a b c n := by
  intro n
  induction n with
  | zero => intro _; rfl
  | succ n ih =>
    intro h
    have e := ih (by omega)
    simp only [der, dpo, e]
    rw [if_neg (hI n (by omega) (by omega))]
    by_cases q : D 15 (pk a b c n) ≤ dpo D a b c n
    · rw [if_pos q, if_neg (by omega)]
    · rw [if_neg q, if_pos (by omega)]
theorem der_B {D : ZD} {m a b c : Int} (h0 : 0 ≤ m) (hN : rpN m a b c) : ∀ d : Nat, m + d ≤ 3 → der D a b c (m.toNat + d) = der D a b c m.toNat := by
  intro d
  induction d with
  | zero => intro _; rfl
  | succ d ih =>
    intro h
    rw [← ih (by omega), show m.toNat + (d + 1) = (m.toNat + d) + 1 by omega]
    simp only [der]
    rw [if_pos (hN _ (by omega) (by omega))]
theorem nmr_A {D : ZD} {m a b c : Int} (hI : ∀ k, 0 ≤ k → k < m → pk a b c k ≠ -1) : ∀ n : Nat, (n : Int) ≤ m → nmr D 0 a b c n = nmo D a b c n := by
  intro n
  induction n with
  | zero => intro _; rfl
  | succ n ih =>
    intro h
    have e := ih (by omega)
    simp only [nmr, nmo, e]
    rw [if_neg (hI n (by omega) (by omega))]
theorem nmr_B {D : ZD} {m a b c : Int} (h0 : 0 ≤ m) (hN : rpN m a b c) : ∀ d : Nat, m + d ≤ 3 → nmr D 0 a b c (m.toNat + d) = nmr D 0 a b c m.toNat := by
  intro d
  induction d with
  | zero => intro _; rfl
  | succ d ih =>
    intro h
    rw [← ih (by omega), show m.toNat + (d + 1) = (m.toNat + d) + 1 by omega]
    simp only [nmr]
    rw [if_pos (hN _ (by omega) (by omega))]
theorem hvr_A {D : ZD} {m a b c : Int} (hI : ∀ k, 0 ≤ k → k < m → pk a b c k ≠ -1) (hv : ∀ k, 0 ≤ k → k < m → D 18 (pk a b c k) = 0 ∨ D 18 (pk a b c k) = 1) : ∀ n : Nat, (n : Int) ≤ m → hvr D 0 a b c n = hvo D a b c n := by
  intro n
  induction n with
  | zero => intro _; rfl
  | succ n ih =>
    intro h
    have e := ih (by omega)
    simp only [hvr, hvo, e]
    rw [if_neg (hI n (by omega) (by omega))]
    have h1 := hvo_b D a b c n
    have h2 := hv n (by omega) (by omega)
    by_cases q : hvo D a b c n = 1 ∨ D 18 (pk a b c n) = 1
    · rw [if_pos q, if_pos (by omega)]
    · rw [if_neg q, if_neg (by omega)]
theorem hvr_B {D : ZD} {m a b c : Int} (h0 : 0 ≤ m) (hN : rpN m a b c) : ∀ d : Nat, m + d ≤ 3 → hvr D 0 a b c (m.toNat + d) = hvr D 0 a b c m.toNat := by
  intro d
  induction d with
  | zero => intro _; rfl
  | succ d ih =>
    intro h
    rw [← ih (by omega), show m.toNat + (d + 1) = (m.toNat + d) + 1 by omega]
    simp only [hvr]
    rw [if_pos (hN _ (by omega) (by omega))]
/-- of parts that are there up to m, the others none -/
theorem parts_e {D : ZD} (hM : MI D) {m a b c : Int} (h0 : 0 ≤ m) (h3 : m ≤ 3) (hI : rpI m (D 9 0) a b c) (hN : rpN m a b c) :
    der D a b c 3 = dpo D a b c m.toNat ∧ 1 + szp D a + szp D b + szp D c = szo D a b c m.toNat ∧ nmr D 0 a b c 3 = nmo D a b c m.toNat ∧ hvr D 0 a b c 3 = hvo D a b c m.toNat := by
  have hn : ∀ k, 0 ≤ k → k < m → pk a b c k ≠ -1 := fun k k0 k1 => by have := (hI k k0 k1).1; omega
  have hv : ∀ k, 0 ≤ k → k < m → D 18 (pk a b c k) = 0 ∨ D 18 (pk a b c k) = 1 := fun k k0 k1 => (hM.2.2.1.2.2 _ (hI k k0 k1).1 (hI k k0 k1).2).2.2.2.2.2.1
  have e3 : m.toNat + (3 - m.toNat) = 3 := by omega
  have hd := der_B (D := D) h0 hN (3 - m.toNat) (by omega)
  have hnm := nmr_B (D := D) h0 hN (3 - m.toNat) (by omega)
  have hhv := hvr_B (D := D) h0 hN (3 - m.toNat) (by omega)
  rw [e3] at hd hnm hhv
  refine ⟨hd.trans (der_A hn _ (by omega)), ?_, hnm.trans (nmr_A hn _ (by omega)), hhv.trans (hvr_A hn hv _ (by omega))⟩
  have h : m = 0 ∨ m = 1 ∨ m = 2 ∨ m = 3 := by omega
  rcases h with rfl | rfl | rfl | rfl
  · have e0 : a = -1 := hN 0 (by omega) (by omega)
    have e1 : b = -1 := hN 1 (by omega) (by omega)
    have e2 : c = -1 := hN 2 (by omega) (by omega)
    subst e0; subst e1; subst e2
    rfl
  · have an : ¬ a = -1 := hn 0 (by omega) (by omega)
    have e1 : b = -1 := hN 1 (by omega) (by omega)
    have e2 : c = -1 := hN 2 (by omega) (by omega)
    subst e1; subst e2
    rw [szp_1 an, szp_0]
    show 1 + D 16 a + 0 + 0 = 1 + D 16 a
    omega
  · have an : ¬ a = -1 := hn 0 (by omega) (by omega)
    have bn : ¬ b = -1 := hn 1 (by omega) (by omega)
    have e2 : c = -1 := hN 2 (by omega) (by omega)
    subst e2
    rw [szp_1 an, szp_1 bn, szp_0]
    show 1 + D 16 a + D 16 b + 0 = 1 + D 16 a + D 16 b
    omega
  · have an : ¬ a = -1 := hn 0 (by omega) (by omega)
    have bn : ¬ b = -1 := hn 1 (by omega) (by omega)
    have cn : ¬ c = -1 := hn 2 (by omega) (by omega)
    rw [szp_1 an, szp_1 bn, szp_1 cn]
    rfl
theorem mpv_mdv {D : ZD} (hM : MI D) {m a b c form head rest kind : Int} (h0 : 0 ≤ m) (h3 : m ≤ 3) (hI : rpI m (D 9 0) a b c) (hN : rpN m a b c) (hf : form = 3 ∨ form = 6) : mpv D form head rest a b c kind = mdv D form head rest kind a b c m.toNat := by
  have h := parts_e hM h0 h3 hI hN
  unfold mpv mdv
  rw [h.1, h.2.1, if_neg (show ¬ (form = 1 ∨ form = 4 ∨ form = 5) by omega), if_neg (show ¬ form = 1 by omega), if_neg (show ¬ form = 5 by omega), if_pos (show form = 1 ∨ form = 5 ∨ form = 3 ∨ form = 6 by omega), h.2.2.1, h.2.2.2, bar_0]
theorem nmo_b {D : ZD} (hM : MI D) {m a b c : Int} (hI : ∀ k, 0 ≤ k → k < m → 0 ≤ pk a b c k ∧ pk a b c k < D 9 0) (n : Nat) (hn : (n : Int) ≤ m) : 0 ≤ nmo D a b c n ∧ nmo D a b c n ≤ 63 := by
  induction n with
  | zero => simp [nmo]
  | succ n ih =>
    have h1 := ih (by omega)
    have h2 := hI n (by omega) (by omega)
    have h3 := (hM.2.2.1.2.2 _ h2.1 h2.2).2.2.2.2.1
    exact (hs_or h1 h3 (x := 0) (by omega)).2
theorem w6_suits {G : ZG} {D : ZD} {p k : Int} {Q : Int → Prop} (hM : MI D) (hD : zsg G 5 = D) (hp : 0 ≤ p ∧ p < D 9 0) (hQ : Q (bb (fkb D p k))) : vX6_suits p k G Q := by
  have m9 := hM.2.2.1.2.1
  unfold vX6_suits
  refine zaL_i hp.1 (by omega) ?_
  rw [hD]
  dsimp only [zjn]
  unfold fkb at hQ
  refine zbr_i (fun h => ?_) (fun h => ?_)
  · rw [decide_eq_true h] at hQ; exact hQ
  · rw [decide_eq_false h] at hQ
    refine zaL_i hp.1 (by omega) ?_
    rw [hD]
    refine zbr_i (fun h2 => ?_) (fun h2 => ?_)
    · rw [decide_eq_false h2] at hQ; exact hQ
    · rw [decide_eq_true (Decidable.of_not_not h2)] at hQ; exact hQ
