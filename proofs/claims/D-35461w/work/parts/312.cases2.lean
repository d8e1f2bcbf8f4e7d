/-! COMPONENT: cases split, merged -/
set_option maxRecDepth 100000
theorem sX1_with {G : ZG} {b : Nat} {m col p : Int} {f : Int → Int} {Q : ZR → ZG → Prop} (hb : HI G b (.inl (0, ints m f))) (h0 : 0 ≤ col) (h1 : col < m) (h3 : m ≤ 3) (hQ : ∀ y, zsj G y = none → Q (some (.inl y)) (zsc G y (.inl (0, ints m fun k => if k = col then p else f k)))) : vX1_with (some (.inl b)) col p G Q := by
  refine ⟨b, _, rfl, hb.1, by rw [ints_len]; omega, fun y hy => ⟨⟨y, _, rfl, zsj_eq _ _ _⟩, ?_⟩⟩
  refine zeS_i (zsj_eq _ _ _) h0 (by rw [ints_len]; omega) ?_
  rw [zsc_zsc, ints_set h0]
  exact hQ y hy
theorem zfam_inl (x y : Nat) : zfam (some (.inl x)) (some (.inl y)) := ⟨⟨fun h => (by cases h), fun h => (by cases h)⟩, fun o o' h => (by cases h)⟩
theorem sX1_numberOf {G : ZG} {D : ZD} {td pa pf : Nat → Nat} {n : Int} {Q : Int → Prop} (hM : MI D) (hL : Lst G 9 (refs (D 9 0) td)) (hP : CPo G D td pa pf) (h0 : 0 ≤ n) (h1 : n < D 9 0) (hQ : Q n) : vX1_numberOf (some (.inl (pa n.toNat))) G Q := by
  have m9 : 0 ≤ D 9 0 ∧ D 9 0 ≤ 60 := ⟨hM.2.2.1.1, hM.2.2.1.2.1⟩
  unfold vX1_numberOf
  refine zl1_of (fun k => 0 ≤ k ∧ k ≤ n) (fun k => (n - k).toNat) (fun P k hI hPP => ?_) ⟨by omega, h0⟩
  refine sX1_told hL hP hI.1 (by omega) (fun ht => ⟨zisO_i ht.1, ?_⟩)
  rw [Tl.pat ht]
  have hk := (hP.2 k.toNat (by omega)).2.1
  have hn := (hP.2 n.toNat (by omega)).2.1
  refine ⟨Or.inr (Or.inl ⟨_, _, rfl, hk.1⟩), Or.inr (Or.inl ⟨_, _, rfl, hn.1⟩), zfam_inl _ _, ?_⟩
  refine zbr_i (fun h => ?_) (fun h => ?_)
  · have : pa k.toNat = pa n.toNat := by simpa using h
    have := hP.1 _ _ (by omega) (by omega) this
    rw [show k = n by omega]; exact hQ
  · rw [zlt1_e, w32_eq (by omega) (by omega)]
    have hkn : k ≠ n := fun e => h (by rw [e])
    exact hPP _ ⟨by omega, by omega⟩ (by omega)
theorem sX1_caseAt {G : ZG} {D : ZD} {ka kb : Nat → Nat} {c : Int} {X : Nat → ZG → Prop} {Q : ZR → Prop} (hM : MI D) (hL : Lst G 10 (refs (D 23 0) ka)) (hc : CCo G D ka kb) (hX : ¬ (0 ≤ c ∧ c < D 23 0) → X 0 G) (hQ : 0 ≤ c ∧ c < D 23 0 → CRow G D (ka c.toNat) (kb c.toNat) c → Q (some (.inl (ka c.toNat)))) : vX1_caseAt c G X Q := by
  have m23 : 0 ≤ D 23 0 ∧ D 23 0 ≤ 8 := ⟨hM.2.2.2.2.1.2.2.2.1, hM.2.2.2.2.1.2.2.2.2.1⟩
  have e10 : zsg G 10 2 0 = D 23 0 := by rw [hL.1, refs_len]; omega
  unfold vX1_caseAt
  rw [eJ2_size, e10, eX1_inRange, eX1_reqI, w32_eq (by omega) (by omega)]
  by_cases h : 0 ≤ c ∧ c < D 23 0
  · rw [if_pos (by simp; omega)]
    have hr : CRow G D (ka c.toNat) (kb c.toNat) c := by
      have := hc.2 c.toNat (by omega)
      rw [show ((c.toNat : Nat) : Int) = c by omega] at this
      exact this
    refine sJ2_get hL h.1 (refs_get h.1 h.2) ?_
    obtain ⟨nm, th, g1, -⟩ := hr.1
    exact ⟨zca_i g1, hQ h hr⟩
  · rw [if_neg (by simp; omega)]; exact hX h
theorem sX1_requireColumn {G : ZG} {D : ZD} {c : Int} {X : Nat → ZG → Prop} {Q : Unit → Prop} (hM : MI D) (hk : CIk G D) (hX : ¬ (0 ≤ c ∧ c < D 21 0) → X 0 G) (hQ : 0 ≤ c ∧ c < D 21 0 → Q ()) : vX1_requireColumn c G X Q := by
  have m21 : 0 ≤ D 21 0 ∧ D 21 0 ≤ 3 := ⟨hM.2.2.2.2.1.1, hM.2.2.2.2.1.2.1⟩
  unfold vX1_requireColumn
  rw [zgF_e, hk.1, eX1_inRange, eX1_reqI, w32_eq (by omega) (by omega)]
  by_cases h : 0 ≤ c ∧ c < D 21 0
  · rw [if_pos (by simp; omega)]; exact hQ h
  · rw [if_neg (by simp; omega)]; exact hX h
/-- the cases in another order -/
def reR (D : ZD) (n : Int) (src : Int → Int) : ZD := fun j i =>
  if j = 23 ∧ i = 0 then n else if j = 24 then D 24 (3 * src (i / 3) + i % 3) else if 25 ≤ j ∧ j ≤ 29 then D j (src i) else D j i
theorem reR_o {D : ZD} {n : Int} {src : Int → Int} {j : Nat} (h : j < 23 ∨ 29 < j) : reR D n src j = D j := by
  funext i; unfold reR; rw [if_neg (by omega), if_neg (by omega), if_neg (by omega)]
theorem reR_24 {D : ZD} {n : Int} {src : Int → Int} {i k : Int} (h0 : 0 ≤ k) (h3 : k < 3) : reR D n src 24 (3 * i + k) = D 24 (3 * src i + k) := by
  unfold reR; rw [if_neg (by omega), if_pos rfl, show (3 * i + k) / 3 = i by omega, show (3 * i + k) % 3 = k by omega]
theorem reR_l {D : ZD} {n : Int} {src : Int → Int} {j : Nat} {i : Int} (h : 25 ≤ j ∧ j ≤ 29) : reR D n src j i = D j (src i) := by
  unfold reR; rw [if_neg (by omega), if_neg (by omega), if_pos h]
def spS (n c : Int) (i : Int) : Int := if i ≤ c then i else if i ≤ n then i - 1 else i
def spl (D : ZD) (c col p q : Int) : ZD := up (up (up (up (reR D (D 23 0 + 1) (spS (D 23 0) c)) 24 (3 * c + col) p) 24 (3 * (c + 1) + col) q) 29 c 0) 29 (c + 1) 0
theorem spl_o {D : ZD} {c col p q : Int} {j : Nat} (h : j < 23 ∨ 29 < j) : spl D c col p q j = D j := by
  unfold spl; rw [up_ne (by omega), up_ne (by omega), up_ne (by omega), up_ne (by omega), reR_o h]
theorem spl_23 {D : ZD} {c col p q : Int} : spl D c col p q 23 0 = D 23 0 + 1 := by
  unfold spl; rw [up_ne (by omega), up_ne (by omega), up_ne (by omega), up_ne (by omega)]; rfl
theorem spl_24 {D : ZD} {c col p q i k : Int} (h0 : 0 ≤ k) (h3 : k < 3) (c0 : 0 ≤ col) (c3 : col < 3) : spl D c col p q 24 (3 * i + k) = if i = c ∧ k = col then p else if i = c + 1 ∧ k = col then q else D 24 (3 * spS (D 23 0) c i + k) := by
  unfold spl; rw [up_ne (by omega), up_ne (by omega), up_at, up_at, reR_24 h0 h3]
  by_cases h1 : i = c ∧ k = col
  · rw [if_pos h1, if_neg (by omega), if_pos (by omega)]
  · rw [if_neg h1]
    by_cases h2 : i = c + 1 ∧ k = col
    · rw [if_pos h2, if_pos (by omega)]
    · rw [if_neg h2, if_neg (by omega), if_neg (by omega)]
theorem spl_l {D : ZD} {c col p q i : Int} {j : Nat} (h : 25 ≤ j ∧ j ≤ 28) : spl D c col p q j i = D j (spS (D 23 0) c i) := by
  unfold spl; rw [up_ne (by omega), up_ne (by omega), up_ne (by omega), up_ne (by omega), reR_l (by omega)]
theorem spl_29 {D : ZD} {c col p q i : Int} : spl D c col p q 29 i = if i = c ∨ i = c + 1 then 0 else D 29 (spS (D 23 0) c i) := by
  unfold spl; rw [up_at, up_at, up_ne (by omega), up_ne (by omega), reR_l (by omega)]
  by_cases h1 : i = c + 1
  · rw [if_pos h1, if_pos (Or.inr h1)]
  · rw [if_neg h1]
    by_cases h2 : i = c
    · rw [if_pos h2, if_pos (Or.inl h2)]
    · rw [if_neg h2, if_neg (by omega)]
def spCan (D : ZD) (c col : Int) : Prop := D 26 c = -1 ∧ D 10 (D 24 (3 * c + col)) = 4 ∧ D 18 (D 24 (3 * c + col)) = 0 ∧ D 23 0 < 8
/-- a case's object, new: result r, patterns y -/
abbrev kcel (y : Nat) (r : Int) : ZC := .inr (.inr (16, [.inr (some (.inl y)), .inl r, .inr none, .inl 0, .inl 0, .inl 0]))
theorem CRow.new {K : ZG} {D' : ZD} {x y : Nat} {i r m : Int} {f : Int → Int} (hx : zsj K x = some (kcel y r)) (hy : HI K y (.inl (0, ints m f))) (e21 : D' 21 0 = m) (e24 : ∀ k, 0 ≤ k → k < m → D' 24 (3 * i + k) = f k) (e25 : D' 25 i = r) (e26 : D' 26 i = -1) (e29 : D' 29 i = 0) : CRow K D' x y i := by
  unfold CRow
  rw [e21, e25, e26, e29]
  refine ⟨⟨0, 0, hx, fun q => absurd rfl q⟩, ?_⟩
  rw [ints_congr (f := f) e24]; exact hy
theorem cls13 {D : ZD} {pa pf : Nat → Nat} {n : Nat} (h : D 10 n = 4) : pcell D pa pf n = .inr (.inr (13, [.inr (some (.inl (pa (prt D n 0).toNat))), .inr (some (.inl (pa (prt D n 1).toNat)))])) := by
  unfold pcell; rw [if_neg (by omega), if_neg (by omega), if_neg (by omega), if_pos h]
theorem ziO_i {G : ZG} {a k c : Nat} {fs : List ZF} {Q : Int → Prop} (hj : zsj G a = some (.inr (.inr (k, fs)))) (hk : k = 8 ∨ (10 ≤ k ∧ k ≤ 15)) (h : Q (if k = c then 1 else 0)) : ziO G (some (.inl a)) c Q := ⟨a, k, fs, rfl, hj, hk, h⟩
theorem grf_none {x : Int} : grf x = none ↔ x = -1 := by
  unfold grf; by_cases h : x = -1
  · rw [if_pos h]; simp [h]
  · rw [if_neg h]; simp [h]
theorem pcell_k {D : ZD} {pa pf : Nat → Nat} {n : Nat} {G : ZG} {Q : Int → Prop} (hM : PW D n) (h : HI G (pa n) (pcell D pa pf n)) {c : Nat} {f : Int} (hc : (c = 10 ∧ f = 1) ∨ (c = 11 ∧ f = 2) ∨ (c = 12 ∧ f = 3) ∨ (c = 13 ∧ f = 4) ∨ (c = 14 ∧ f = 5) ∨ (c = 15 ∧ f = 6)) (hQ : Q (bb (decide (D 10 n = f)))) : ziO G (some (.inl (pa n))) c Q := by
  have hr := hM.1
  have hj := h.1
  unfold pcell at hj
  by_cases h1 : D 10 n = 1
  · rw [if_pos h1] at hj
    refine ziO_i hj (by omega) ?_
    rw [h1, ← bb_dec] at hQ
    by_cases e : c = 10
    · rw [if_pos e.symm]; rw [if_pos (by omega)] at hQ; exact hQ
    · rw [if_neg (Ne.symm e)]; rw [if_neg (by omega)] at hQ; exact hQ
  · rw [if_neg h1] at hj
    by_cases h2 : D 10 n = 2
    · rw [if_pos h2] at hj
      refine ziO_i hj (by omega) ?_
      rw [h2, ← bb_dec] at hQ
      by_cases e : c = 11
      · rw [if_pos e.symm]; rw [if_pos (by omega)] at hQ; exact hQ
      · rw [if_neg (Ne.symm e)]; rw [if_neg (by omega)] at hQ; exact hQ
    · rw [if_neg h2] at hj
      by_cases h3 : D 10 n = 3
      · rw [if_pos h3] at hj
        refine ziO_i hj (by omega) ?_
        rw [h3, ← bb_dec] at hQ
        by_cases e : c = 12
        · rw [if_pos e.symm]; rw [if_pos (by omega)] at hQ; exact hQ
        · rw [if_neg (Ne.symm e)]; rw [if_neg (by omega)] at hQ; exact hQ
      · rw [if_neg h3] at hj
        by_cases h4 : D 10 n = 4
        · rw [if_pos h4] at hj
          refine ziO_i hj (by omega) ?_
          rw [h4, ← bb_dec] at hQ
          by_cases e : c = 13
          · rw [if_pos e.symm]; rw [if_pos (by omega)] at hQ; exact hQ
          · rw [if_neg (Ne.symm e)]; rw [if_neg (by omega)] at hQ; exact hQ
        · rw [if_neg h4] at hj
          by_cases h5 : D 10 n = 5
          · rw [if_pos h5] at hj
            refine ziO_i hj (by omega) ?_
            rw [h5, ← bb_dec] at hQ
            by_cases e : c = 14
            · rw [if_pos e.symm]; rw [if_pos (by omega)] at hQ; exact hQ
            · rw [if_neg (Ne.symm e)]; rw [if_neg (by omega)] at hQ; exact hQ
          · rw [if_neg h5] at hj
            by_cases h6 : D 10 n = 6
            · rw [if_pos h6] at hj
              refine ziO_i hj (by omega) ?_
              rw [h6, ← bb_dec] at hQ
              by_cases e : c = 15
              · rw [if_pos e.symm]; rw [if_pos (by omega)] at hQ; exact hQ
              · rw [if_neg (Ne.symm e)]; rw [if_neg (by omega)] at hQ; exact hQ
            · rw [if_neg h6] at hj
              refine ziO_i hj (by omega) ?_
              rw [decide_eq_false (by omega)] at hQ
              rw [if_neg (by omega)]; exact hQ
theorem k1_split {G : ZG} {D : ZD} {c col : Int} {X : Nat → ZG → Prop} {Q : Int → ZG → Prop} (hC : CD G D) (hM : MI D)
    (hX0 : ¬ ((0 ≤ c ∧ c < D 23 0) ∧ 0 ≤ col ∧ col < D 21 0) → X 0 G) (hX2 : (0 ≤ c ∧ c < D 23 0) ∧ 0 ≤ col ∧ col < D 21 0 → ¬ spCan D c col → X 2 G)
    (hQ : (0 ≤ c ∧ c < D 23 0) ∧ 0 ≤ col ∧ col < D 21 0 → spCan D c col → ∀ G', Fr [10, 2, 3, 4] G G' → Chg G' →
      CD G' (spl D c col (prt D (D 24 (3 * c + col)) 0) (prt D (D 24 (3 * c + col)) 1)) → Q (D 23 0 + 1) G') : vX1_split c col G X Q := by
  have hS := hC.1
  obtain ⟨td, pa, pf, hL, hP⟩ := hC.2.2.2.1
  obtain ⟨ka, kb, hLc, hcc⟩ := hC.2.2.2.2.2.2.1
  have m9 : 0 ≤ D 9 0 ∧ D 9 0 ≤ 60 := ⟨hM.2.2.1.1, hM.2.2.1.2.1⟩
  have m21 : 0 ≤ D 21 0 ∧ D 21 0 ≤ 3 := ⟨hM.2.2.2.2.1.1, hM.2.2.2.2.1.2.1⟩
  have m23 : 0 ≤ D 23 0 ∧ D 23 0 ≤ 8 := ⟨hM.2.2.2.2.1.2.2.2.1, hM.2.2.2.2.1.2.2.2.2.1⟩
  have hkk := hC.2.2.2.2.2.1
  unfold vX1_split
  refine sX1_caseAt hM hLc hcc (fun q => hX0 (fun z => q z.1)) (fun hcr hrow => ?_)
  refine sX1_requireColumn hM hkk (fun q => hX0 (fun z => q z.2)) (fun hcol => ?_)
  have hh := And.intro hcr hcol
  have hcw := hM.2.2.2.2.1.2.2.2.2.2.2 c hcr.1 hcr.2
  have how := hcw.1 col hcol.1 hcol.2
  obtain ⟨⟨nm, th, hk1, -⟩, hkb⟩ := id hrow
  rw [zdR_e hk1 rfl]
  refine zeI_i hkb.1 hcol.1 (ints_get hcol.1 hcol.2) ?_
  generalize hown : D 24 (3 * c + col) = own at *
  have hpw := hM.2.2.1.2.2 own how.1 how.2.1
  refine sX1_told hL hP how.1 how.2.1 (fun ht => ?_)
  rw [zdR_e hk1 rfl]
  have hpo := (hP.2 own.toNat (by omega)).2.1
  have eo : ((own.toNat : Nat) : Int) = own := by omega
  dsimp only [zjn]
  refine zbr_i (fun h => ?_) (fun h => ⟨zisO_i ht.1, ?_⟩)
  · rw [reqS0]; exact hX2 hh (fun z => h (grf_none.mpr z.1))
  · have h26 : D 26 c = -1 := grf_none.mp (Decidable.of_not_not h)
    rw [Tl.pat ht]
    refine pcell_k (f := 4) (by rw [eo]; exact hpw) hpo (by omega) ?_
    rw [eo]
    refine zbr_i (fun h => ?_) (fun h => ⟨zisO_i ht.1, ?_⟩)
    · rw [reqS0]
      refine hX2 hh (fun z => ?_)
      have z2 := z.2.1
      rw [hown] at z2
      rw [z2] at h; cases h
    · have h10 : D 10 own = 4 := by
        by_cases q : D 10 own = 4
        · exact q
        · rw [decide_eq_false q] at h; exact absurd rfl h
      rw [Tl.pure ht hpw.2.2.2.2.2.1]
      refine zbr_i (fun h => ?_) (fun h => ?_)
      · rw [reqS0]
        refine hX2 hh (fun z => ?_)
        have z2 := z.2.2.1
        rw [hown] at z2
        omega
      · have h18 : D 18 own = 0 := by have := hpw.2.2.2.2.2.1; omega
        have e10 : zsg G 10 2 0 = D 23 0 := by rw [hLc.1, refs_len]; omega
        rw [eJ2_size, e10]
        refine zbr_i (fun h => ?_) (fun h => ?_)
        · rw [reqS0]; exact hX2 hh (fun z => by have := z.2.2.2; omega)
        · have hcan : spCan D c col := ⟨h26, by rw [hown]; exact h10, by rw [hown]; exact h18, by omega⟩
          rw [reqS1]
          refine ⟨zisO_i ht.1, ?_⟩
          rw [Tl.pat ht]
          rw [cls13 (by rw [eo]; exact h10), eo] at hpo
          have hf4 := hpw.2.2.2.2.2.2.2.2.2.2.2.2.2.2.2.1 h10
          have hb0 : prt D own 0 < own := by
            rcases hpw.2.2.2.2.2.2.2.2.1 0 (by omega) (by omega) with q | q <;> omega
          have hb1 : prt D own 1 < own := by
            rcases hpw.2.2.2.2.2.2.2.2.1 1 (by omega) (by omega) with q | q <;> omega
          refine ⟨zca_i hpo.1, fun x hx => ?_⟩
          -- the first new case
          have f1 := (Fr.refl [] hS).new hS (c := .inr (.inr (16, zdf 16))) hx
          dsimp only
          rw [zdR_e (f1.2.2.2.2.1 (by simp) _ _ hk1 rfl) rfl]
          refine ⟨zisO_i (f1.hk hpo).1, ?_⟩
          unfold vX13_first
          rw [zdR_e (f1.hk hpo).1 rfl]
          refine sX1_numberOf hM (f1.lst ⟨by omega, by omega⟩ (by simp) hL) (hP.fr f1 (fun _ _ => rfl)) hf4.1 (by omega) ?_
          refine sX1_with (p := prt D own 0) (f1.hk hkb) hcol.1 hcol.2 m21.2 (fun y hy => ?_)
          have hxy : x ≠ y := fun q => by subst q; rw [zsj_eq] at hy; cases hy
          have f2 := f1.new hS (c := .inl (0, ints (D 21 0) fun k => if k = col then prt D own 0 else D 24 (3 * c + k))) hy
          have hy2 := f2.hi (by simp) hS (f1.1.old hy) (zsj_eq _ _ _) (imm_int (t := 0) (l := ints (D 21 0) fun k => if k = col then prt D own 0 else D 24 (3 * c + k)))
          have hx2 : zsj (zsc (zsc G x (.inr (.inr (16, zdf 16)))) y (.inl (0, ints (D 21 0) fun k => if k = col then prt D own 0 else D 24 (3 * c + k)))) x = some (.inr (.inr (16, zdf 16))) := by rw [zsj_ne hxy]; exact zsj_eq _ _ _
          rw [zdI_e (f2.2.2.2.2.1 (by simp) _ _ hk1 rfl) rfl]
          generalize zsc (zsc G x (.inr (.inr (16, zdf 16)))) y (.inl (0, ints (D 21 0) fun k => if k = col then prt D own 0 else D 24 (3 * c + k))) = K2 at f2 hy2 hx2
          refine ⟨⟨x, rfl⟩, sX16_init hx2 ?_⟩
          have f3 := f2.fresh hS (c := kcel y (D 25 c)) hx (fun c' e => by rw [hx2] at e; cases e; rfl)
          have hx3 : zsj (zsc K2 x (kcel y (D 25 c))) x = some (kcel y (D 25 c)) := zsj_eq _ _ _
          have hy3 : HI (zsc K2 x (kcel y (D 25 c))) y (.inl (0, ints (D 21 0) fun k => if k = col then prt D own 0 else D 24 (3 * c + k))) := ⟨by rw [zsj_ne (Ne.symm hxy)]; exact hy2.1, hy2.2.1, fun q => hy2.2.2 q⟩
          show vJ2_set 10 c (some (.inl x)) (zsc K2 x (kcel y (D 25 c))) _
          generalize zsc K2 x (kcel y (D 25 c)) = K3 at f3 hx3 hy3
          have hLc3 := f3.lst ⟨by omega, by omega⟩ (by simp) hLc
          have hzk : ∀ {S : List Nat} {K : ZG}, Fr S G K → 16 ∉ S → ∀ i : Nat, (i : Int) < D 23 0 → zel K 3 (some (.inl (ka i))) := fun f hs i hi => by
            obtain ⟨nm, th, g1, -⟩ := (hcc.2 i hi).1
            exact zel_o3 (f.2.2.2.2.1 hs _ _ g1 rfl)
          refine sJ2_set hLc3 hcr.1 (refs_get hcr.1 hcr.2) (zel_o3 hx3) (fun K4 lf4 hL4 => ?_)
          rw [refs_set] at hL4
          have f4' := lf4.fr hL4 ⟨by omega, by omega⟩ f3.2.1
          have f4 := (f3.mono (S' := [10]) (by simp)).trans f4'
          have hx4 := f4'.2.2.2.2.1 (by simp) _ _ hx3 rfl
          have hy4 := f4'.hk hy3
          -- the second new case
          intro z hz
          have f5' := (Fr.refl [10] f4.2.1).new f4.2.1 (c := .inr (.inr (16, zdf 16))) hz
          have f5 := f4.trans f5'
          have hzG := f4.1.old hz
          have hL5 : Lst (zsc K4 z (.inr (.inr (16, zdf 16)))) 10 (refs (D 23 0) fun k => if k = c.toNat then x else ka k) := ((Fr.refl [] f4.2.1).new f4.2.1 hz).lst ⟨by omega, by omega⟩ (by simp) hL4
          rw [zdR_e (f5.2.2.2.2.1 (by simp) _ _ hk1 rfl) rfl]
          refine ⟨zisO_i (f5.hk hpo).1, ?_⟩
          unfold vX13_second
          rw [zdR_e (f5.hk hpo).1 rfl]
          refine sX1_numberOf hM (f5.lst ⟨by omega, by omega⟩ (by simp) hL) (hP.fr f5 (fun _ _ => rfl)) hf4.2.1 (by omega) ?_
          refine sX1_with (p := prt D own 1) (f5.hk hkb) hcol.1 hcol.2 m21.2 (fun w hw => ?_)
          have hzw : z ≠ w := fun q => by subst q; rw [zsj_eq] at hw; cases hw
          have f6' := f5'.new f4.2.1 (c := .inl (0, ints (D 21 0) fun k => if k = col then prt D own 1 else D 24 (3 * c + k))) hw
          have f6 := f4.trans f6'
          have hL6 : Lst (zsc (zsc K4 z (.inr (.inr (16, zdf 16)))) w (.inl (0, ints (D 21 0) fun k => if k = col then prt D own 1 else D 24 (3 * c + k)))) 10 (refs (D 23 0) fun k => if k = c.toNat then x else ka k) := ((Fr.refl [] f5.2.1).new f5.2.1 hw).lst ⟨by omega, by omega⟩ (by simp) hL5
          have hw6 := f6.hi (by simp) hS (f5.1.old hw) (zsj_eq _ _ _) (imm_int (t := 0) (l := ints (D 21 0) fun k => if k = col then prt D own 1 else D 24 (3 * c + k)))
          have hz6 : zsj (zsc (zsc K4 z (.inr (.inr (16, zdf 16)))) w (.inl (0, ints (D 21 0) fun k => if k = col then prt D own 1 else D 24 (3 * c + k)))) z = some (.inr (.inr (16, zdf 16))) := by rw [zsj_ne hzw]; exact zsj_eq _ _ _
          rw [zdI_e (f6.2.2.2.2.1 (by simp) _ _ hk1 rfl) rfl]
          generalize zsc (zsc K4 z (.inr (.inr (16, zdf 16)))) w (.inl (0, ints (D 21 0) fun k => if k = col then prt D own 1 else D 24 (3 * c + k))) = K6 at f6 f6' hL6 hw6 hz6
          refine ⟨⟨z, rfl⟩, sX16_init hz6 ?_⟩
          have f7' := f6'.fresh f4.2.1 (c := kcel w (D 25 c)) hz (fun c' e => by rw [hz6] at e; cases e; rfl)
          have f7 := f4.trans f7'
          have hz7 : zsj (zsc K6 z (kcel w (D 25 c))) z = some (kcel w (D 25 c)) := zsj_eq _ _ _
          have hw7 : HI (zsc K6 z (kcel w (D 25 c))) w (.inl (0, ints (D 21 0) fun k => if k = col then prt D own 1 else D 24 (3 * c + k))) := ⟨by rw [zsj_ne (Ne.symm hzw)]; exact hw6.1, hw6.2.1, fun q => hw6.2.2 q⟩
          have hL7 : Lst (zsc K6 z (kcel w (D 25 c))) 10 (refs (D 23 0) fun k => if k = c.toNat then x else ka k) := by
            refine ⟨hL6.1, ?_⟩
            rcases hL6.2 with ⟨e, e2⟩ | ⟨b, r, e1, e2, e3⟩
            · exact Or.inl ⟨e, e2⟩
            · exact Or.inr ⟨b, r, e1, by rw [zsj_ne (fun q => by subst q; rw [hz6] at e2; cases e2)]; exact e2, e3⟩
          have hx7 := f7'.2.2.2.2.1 (by simp) _ _ hx4 rfl
          have hy7 := f7'.hk hy4
          show vJ2_add_3 10 (w32 (c + 1)) (some (.inl z)) (zsc K6 z (kcel w (D 25 c))) _
          generalize zsc K6 z (kcel w (D 25 c)) = K7 at f7 f7' hz7 hw7 hL7 hx7 hy7
          rw [w32_eq (by omega) (by omega)]
          refine sJ2_insert hL7 (by rw [refs_len]; omega) (by omega) (by rw [refs_len]; omega) (fun q hq => ?_) (zel_o3 hz7) (fun K8 lf8 hL8 => ?_)
          · obtain ⟨i, hi, rfl⟩ := refs_mem hq
            by_cases hic : i = c.toNat
            · rw [if_pos hic]; exact zel_o3 hx7
            · rw [if_neg hic]; exact hzk f7 (by simp) i hi
          · rw [refs_ins m23.1 (by omega)] at hL8
            have f8' := lf8.fr hL8 ⟨by omega, by omega⟩ f7.2.1
            have f8 := f7.trans f8'
            have f9 := (f8.mono (S' := [10, 2, 3, 4]) (by simp)).chg (by simp) (by simp) (by simp)
            rw [eX1_changed, eJ2_size, (hL8.chg ⟨by omega, by omega⟩).1, refs_len, show (((D 23 0 + 1).toNat : Nat) : Int) = D 23 0 + 1 by omega]
            have hx8 : zsj (zss (zss (zss K8 2 11 0 0) 3 11 0 0) 4 2 0 0) x = _ := f8'.2.2.2.2.1 (by simp) _ _ hx7 rfl
            have hy8 := f8'.hk hy7
            have hz8 : zsj (zss (zss (zss K8 2 11 0 0) 3 11 0 0) 4 2 0 0) z = _ := f8'.2.2.2.2.1 (by simp) _ _ hz7 rfl
            have hw8 := f8'.hk hw7
            have hL9 := hL8.chg ⟨by omega, by omega⟩
            have hchg := Chg.of K8
            have hcw2 : ∀ a cc, HI K8 a cc → HI (zss (zss (zss K8 2 11 0 0) 3 11 0 0) 4 2 0 0) a cc := fun a cc h => h
            have hy9 := hcw2 _ _ hy8
            have hw9 := hcw2 _ _ hw8
            generalize zss (zss (zss K8 2 11 0 0) 3 11 0 0) 4 2 0 0 = K9 at f9 hx8 hz8 hL9 hchg hy9 hw9
            have hcn : (c + 1).toNat = c.toNat + 1 := by omega
            rw [hcn] at hL9
            have hne : ∀ {a : Nat}, zsj G a = none → ∀ i : Nat, (i : Int) < D 23 0 → ka i ≠ a := fun ha i hi e => by
              obtain ⟨nm, th, g1, -⟩ := (hcc.2 i hi).1
              rw [e, ha] at g1; cases g1
            have hxz : x ≠ z := fun q => by
              have := hx4; rw [q, hz] at this; cases this
            refine hQ hh hcan K9 f9 hchg (hC.of10 f9 ⟨_, fun k => if k < c.toNat + 1 then (if k = c.toNat then y else kb k) else if k = c.toNat + 1 then w else kb (k - 1), by rw [spl_23]; exact hL9, ?_, ?_⟩ (fun j hj => spl_o hj))
            · intro i j hi hj e
              rw [spl_23] at hi hj
              have hxn := hne hx
              have hzn := hne hzG
              by_cases i1 : i < c.toNat + 1 <;> by_cases j1 : j < c.toNat + 1
              · rw [if_pos i1, if_pos j1] at e
                by_cases i2 : i = c.toNat <;> by_cases j2 : j = c.toNat
                · rw [i2, j2]
                · rw [if_pos i2, if_neg j2] at e; exact absurd e.symm (hxn j (by omega))
                · rw [if_neg i2, if_pos j2] at e; exact absurd e (hxn i (by omega))
                · rw [if_neg i2, if_neg j2] at e; exact hcc.1 i j (by omega) (by omega) e
              · rw [if_pos i1, if_neg j1] at e
                exfalso
                by_cases i2 : i = c.toNat <;> by_cases j2 : j = c.toNat + 1
                · rw [if_pos i2, if_pos j2] at e; exact hxz e
                · rw [if_pos i2, if_neg j2] at e
                  by_cases j3 : j - 1 = c.toNat
                  · omega
                  · rw [if_neg j3] at e; exact hxn _ (by omega) e.symm
                · rw [if_neg i2, if_pos j2] at e; exact hzn _ (by omega) e
                · rw [if_neg i2, if_neg j2, if_neg (by omega)] at e
                  have := hcc.1 _ _ (by omega) (by omega) e; omega
              · rw [if_neg i1, if_pos j1] at e
                exfalso
                by_cases i2 : i = c.toNat + 1 <;> by_cases j2 : j = c.toNat
                · rw [if_pos i2, if_pos j2] at e; exact hxz e.symm
                · rw [if_pos i2, if_neg j2] at e; exact hzn _ (by omega) e.symm
                · rw [if_neg i2, if_pos j2, if_neg (by omega)] at e; exact hxn _ (by omega) e
                · rw [if_neg i2, if_neg j2, if_neg (by omega)] at e
                  have := hcc.1 _ _ (by omega) (by omega) e; omega
              · rw [if_neg i1, if_neg j1] at e
                by_cases i2 : i = c.toNat + 1 <;> by_cases j2 : j = c.toNat + 1
                · rw [i2, j2]
                · rw [if_pos i2, if_neg j2, if_neg (by omega)] at e; exact absurd e.symm (hzn _ (by omega))
                · rw [if_neg i2, if_pos j2, if_neg (by omega)] at e; exact absurd e (hzn _ (by omega))
                · rw [if_neg i2, if_neg j2, if_neg (by omega), if_neg (by omega)] at e
                  have := hcc.1 _ _ (by omega) (by omega) e; omega
            · intro i hi
              rw [spl_23] at hi
              dsimp only
              have e21 : spl D c col (prt D own 0) (prt D own 1) 21 0 = D 21 0 := by rw [spl_o (by omega)]
              have hold : ∀ (i' : Nat) (ii : Int), (i' : Int) < D 23 0 → ii ≠ c → ii ≠ c + 1 → spS (D 23 0) c ii = i' → CRow K9 (spl D c col (prt D own 0) (prt D own 1)) (ka i') (kb i') ii := by
                intro i' ii hi' n1 n2 hs
                have hrow : CRow K9 D (ka i') (kb i') i' := CRow.fr (S := [10, 2, 3, 4]) (hcc.2 i' hi') f9 (by simp)
                refine hrow.eq m21.2 e21 (fun k k0 k1 => ?_) (by rw [spl_l (by omega), hs]) (by rw [spl_l (by omega), hs]) (fun _ => ⟨by rw [spl_l (by omega), hs], by rw [spl_l (by omega), hs]⟩) (by rw [spl_29, if_neg (by omega), hs])
                rw [spl_24 k0 k1 hcol.1 (by omega), if_neg (by omega), if_neg (by omega), hs]
              by_cases i1 : i < c.toNat + 1
              · rw [if_pos i1, if_pos i1]
                by_cases i2 : i = c.toNat
                · rw [if_pos i2, if_pos i2]
                  have ei : (i : Int) = c := by omega
                  have es : spS (D 23 0) c i = c := by unfold spS; rw [if_pos (by omega)]; exact ei
                  refine CRow.new hx8 hy9 e21 (fun k k0 k1 => ?_) (by rw [spl_l (by omega), es]) (by rw [spl_l (by omega), es]; exact h26) (by rw [spl_29, if_pos (Or.inl ei)])
                  rw [spl_24 k0 (by omega) hcol.1 (by omega), es]
                  by_cases hkc : k = col
                  · rw [if_pos ⟨ei, hkc⟩, if_pos hkc]
                  · rw [if_neg (by omega), if_neg (by omega), if_neg hkc]
                · rw [if_neg i2, if_neg i2]
                  exact hold i i (by omega) (by omega) (by omega) (by unfold spS; rw [if_pos (by omega)])
              · rw [if_neg i1, if_neg i1]
                by_cases i2 : i = c.toNat + 1
                · rw [if_pos i2, if_pos i2]
                  have ei : (i : Int) = c + 1 := by omega
                  have es : spS (D 23 0) c i = c := by unfold spS; rw [if_neg (by omega), if_pos (by omega)]; omega
                  refine CRow.new hz8 hw9 e21 (fun k k0 k1 => ?_) (by rw [spl_l (by omega), es]) (by rw [spl_l (by omega), es]; exact h26) (by rw [spl_29, if_pos (Or.inr ei)])
                  rw [spl_24 k0 (by omega) hcol.1 (by omega), es]
                  by_cases hkc : k = col
                  · rw [if_neg (by omega), if_pos ⟨ei, hkc⟩, if_pos hkc]
                  · rw [if_neg (by omega), if_neg (by omega), if_neg hkc]
                · rw [if_neg i2, if_neg i2, if_neg (by omega)]
                  exact hold (i - 1) i (by omega) (by omega) (by omega) (by unfold spS; rw [if_neg (by omega), if_pos (by omega)]; omega)
