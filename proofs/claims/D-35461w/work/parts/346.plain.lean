/-! COMPONENT: cases of a run, one behind the other -/
set_option maxRecDepth 100000
/-- the component but for the run -/
def CDx (G : ZG) (D : ZD) : Prop := Sep G ∧ CIt G D ∧ CIv G D ∧ CIp G D ∧ CIw G D ∧ CIk G D ∧ CIc G D
theorem CD.x {G : ZG} {D : ZD} (h : CD G D) : CDx G D := ⟨h.1, h.2.1, h.2.2.1, h.2.2.2.1, h.2.2.2.2.1, h.2.2.2.2.2.1, h.2.2.2.2.2.2.1⟩
theorem w1_cols {G0 G : ZG} {D : ZD} {g : Int → Int} {b : Bool} {s : RS} {bd : Int → Int} {a kbx : Nat} {c : Int} {Q : Int → ZG → Prop} {td pa pf : Nat → Nat} (M : Int → Int → RS × (Int → Int) → Int × (RS × (Int → Int))) (hM : MI D) (hL : Lst G0 9 (refs (D 9 0) td)) (hP : CPo G0 D td pa pf) (hCk : CIk G0 D) (hc : 0 ≤ c ∧ c < D 23 0) (hr : CRow G0 D a kbx c)
    (hmat : ∀ i, 0 ≤ i → i < D 21 0 → ∀ (s : RS) (bd : Int → Int) (G : ZG) (Q : Int → ZG → Prop), Ru D g b G0 G s bd → (∀ G', Ru D g b G0 G' (M (D 24 (3 * c + i)) (i + 1) (s, bd)).2.1 (M (D 24 (3 * c + i)) (i + 1) (s, bd)).2.2 → Q (M (D 24 (3 * c + i)) (i + 1) (s, bd)).1 G') → vX2_matches_2R 90 (some (.inl (pa (D 24 (3 * c + i)).toNat))) (i + 1) G Q)
    (hR : Ru D g b G0 G s bd)
    (hQ : ∀ G', Ru D g b G0 G' (al M (cols D c) (s, bd)).2.1 (al M (cols D c) (s, bd)).2.2 → Q (al M (cols D c) (s, bd)).1 G') : vX2_matchesR (some (.inl a)) G Q := by
  have m21 : 0 ≤ D 21 0 ∧ D 21 0 ≤ 3 := ⟨hM.2.2.2.2.1.1, hM.2.2.2.2.1.2.1⟩
  have hcw := hM.2.2.2.2.1.2.2.2.2.2.2 c hc.1 hc.2
  obtain ⟨⟨nm0, th0, hk1, -⟩, hkb⟩ := hr
  rw [cols_p] at hQ
  generalize hA : al M (prow (D 21 0) 0 0 fun k => D 24 (3 * c + k)) (s, bd) = A at hQ
  unfold vX2_matchesR
  refine zl3_of (fun is i K => 0 ≤ i ∧ i ≤ D 21 0 ∧ ∃ t : RS × (Int → Int), Ru D g b G0 K t.1 t.2 ∧ ((is = 1 ∧ al M ((prow (D 21 0) 0 0 fun k => D 24 (3 * c + k)).drop i.toNat) t = A) ∨ (is ≠ 1 ∧ A = (is, t)))) (fun _ i _ => (D 21 0 - i).toNat) (fun P is i K hI hPP => ?_) ⟨by omega, m21.1, (s, bd), hR, Or.inl ⟨rfl, hA⟩⟩
  obtain ⟨i0, i1, t, hR', ht⟩ := hI
  have f := hR'.1
  have hkk := f.2.2.2.2.1 (by simp) _ _ hk1 rfl
  rw [zgF_e, f.g (by simp), hCk.1]
  dsimp only [zjn]
  refine zbr_i (fun hi => ?_) (fun hi => ?_)
  · rcases ht with ⟨rfl, ht⟩ | ⟨hn, ht⟩
    · rw [show ((prow (D 21 0) 0 0 fun k => D 24 (3 * c + k)).drop i.toNat) = [] from List.drop_eq_nil_of_le (by unfold prow; rw [List.length_map, List.length_range]; omega)] at ht
      subst ht; exact hQ K hR'
    · subst ht; exact hQ K hR'
  · refine zbr_i (fun hn => ?_) (fun hn => ?_)
    · rcases ht with ⟨rfl, ht⟩ | ⟨_, ht⟩
      · exact absurd rfl hn
      · subst ht; exact hQ K hR'
    · have hn := Decidable.of_not_not hn
      subst hn
      rcases ht with ⟨_, ht⟩ | ⟨hz, _⟩
      · rw [prow_drop i0 (by omega), al_s] at ht
        have how := hcw.1 i i0 (by omega)
        rw [zdR_e hkk rfl]
        refine zeI_i (f.hk hkb).1 i0 (ints_get i0 (by omega)) ?_
        refine sX1_told (f.lst ⟨by omega, by omega⟩ (by simp) hL) (hP.fr f (fun _ _ => rfl)) how.1 how.2.1 (fun htl => ⟨zisO_i htl.1, ?_⟩)
        rw [Tl.pat htl, w32_eq (by omega) (by omega)]
        dsimp only at ht
        rw [show 5 * 0 + 0 + i + 1 = i + 1 by omega] at ht
        refine hmat i i0 (by omega) t.1 t.2 K _ hR' (fun G' hR2 => ?_)
        rw [zlt1_e]
        refine hPP _ _ _ ⟨by omega, by omega, (M (D 24 (3 * c + i)) (i + 1) (t.1, t.2)).2, hR2, ?_⟩ (by omega)
        by_cases h1 : (M (D 24 (3 * c + i)) (i + 1) (t.1, t.2)).1 = 1
        · rw [if_pos h1] at ht
          exact Or.inl ⟨h1, ht⟩
        · rw [if_neg h1] at ht
          exact Or.inr ⟨h1, ht.symm⟩
      · exact absurd rfl hz
theorem w1_case {G0 G : ZG} {D : ZD} {g : Int → Int} {b : Bool} {s : RS} {bd : Int → Int} {a kbx : Nat} {c : Int} {Q : Int → ZG → Prop} (hC : CDx G0 D) (hM : MI D) (hg : GV D g) (hc : 0 ≤ c ∧ c < D 23 0) (hr : CRow G0 D a kbx c) (hR : Ru D g b G0 G s bd)
    (hQ : ∀ G', Ru D g b G0 G' (al (mt D (rA D g b) (rV D g) (tick b) 40) (cols D c) (s, bd)).2.1 (al (mt D (rA D g b) (rV D g) (tick b) 40) (cols D c) (s, bd)).2.2 → Q (al (mt D (rA D g b) (rV D g) (tick b) 40) (cols D c) (s, bd)).1 G') : vX2_matchesR (some (.inl a)) G Q := by
  have m21 : 0 ≤ D 21 0 ∧ D 21 0 ≤ 3 := ⟨hM.2.2.2.2.1.1, hM.2.2.2.2.1.2.1⟩
  have hcw := hM.2.2.2.2.1.2.2.2.2.2.2 c hc.1 hc.2
  obtain ⟨hS, hCt, hCv, ⟨td, pa, pf, hL, hP⟩, hCw, hCk, hCc⟩ := hC
  refine w1_cols (mt D (rA D g b) (rV D g) (tick b) 40) hM hL hP hCk hc hr (fun i i0 i1 s2 bd2 G2 Q2 hR2 hQ2 => ?_) hR hQ
  have how := hcw.1 i i0 i1
  have hpw := hM.2.2.1.2.2 _ how.1 how.2.1
  have a15 := hpw.2.2.1
  have a16 := hpw.2.2.2.1
  have ht : tp D g 0 (i + 1) (D 22 i) := ⟨by omega, by omega, by congr 1; omega⟩
  exact w1_match hM hg hCv hCw hP 40 (D 24 (3 * c + i)) (i + 1) (D 22 i) 0 90 s2 bd2 G2 Q2 how.1 how.2.1 (by omega) ht how.2.2 (by omega) (by omega) hR2 hQ2
theorem w1_clear {G0 G : ZG} {D : ZD} {g : Int → Int} {b : Bool} {s : RS} {bd : Int → Int} {Q : ZG → Prop} (hR : Ru D g b G0 G s bd) (hQ : ∀ G', Ru D g b G0 G' s (fun _ => -1) → Q G') : vX2_clearNamesR G Q := by
  unfold vX2_clearNamesR
  refine zl2_of (fun i K => 0 ≤ i ∧ i ≤ 6 ∧ Ru D g b G0 K s (fun j => if j < i then -1 else bd j)) (fun i _ => (6 - i).toNat) (fun P i K hI hPP => ?_) ⟨by omega, by omega, ?_⟩
  · obtain ⟨i0, i1, hR'⟩ := hI
    refine zbr_i (fun hi => ?_) (fun hi => ?_)
    · obtain ⟨r1, r2, r3, r4, r5, r6, r7, r8, r9⟩ := hR'
      refine hQ K ⟨r1, r2, r3, r4, r5, r6, fun j j0 j1 => ?_, r8, r9⟩
      exact (r7 j j0 j1).trans (if_pos (by omega))
    · refine zaS_i i0 (by omega) ?_
      rw [zlt1_e, w32_eq (by omega) (by omega)]
      refine hPP _ _ ⟨by omega, by omega, Ru_name hR' (fun j j0 j1 => ?_)⟩ (by omega)
      by_cases h : j = i
      · rw [if_pos h, if_pos (by omega)]
      · rw [if_neg h]
        by_cases h2 : j < i
        · rw [if_pos h2, if_pos (by omega)]
        · rw [if_neg h2, if_neg (by omega)]
  · obtain ⟨r1, r2, r3, r4, r5, r6, r7, r8, r9⟩ := hR
    exact ⟨r1, r2, r3, r4, r5, r6, fun j j0 j1 => (r7 j j0 j1).trans (if_neg (by omega)).symm, r8, r9⟩
theorem w1_guards {G0 G : ZG} {D : ZD} {g : Int → Int} {b : Bool} {s : RS} {bd : Int → Int} {a kbx : Nat} {c : Int} {Q : Int → Prop} (hC : CDx G0 D) (hM : MI D) (hg : GV D g) (hc : 0 ≤ c ∧ c < D 23 0) (hr : CRow G0 D a kbx c) (hR : Ru D g b G0 G s bd)
    (hb : D 26 c ≠ -1 → tpx D g bd (D 27 c)) (hQ : Q (gd D g bd c)) : vX3_guards (some (.inl a)) G Q := by
  have hcw := hM.2.2.2.2.1.2.2.2.2.2.2 c hc.1 hc.2
  obtain ⟨hS, hCt, hCv, hCp, hCw, hCk, hCc⟩ := hC
  obtain ⟨⟨nm0, th0, hk1, hnt⟩, hkb⟩ := hr
  have f := hR.1
  have hkk := f.2.2.2.2.1 (by simp) _ _ hk1 rfl
  unfold vX3_guards
  unfold gd at hQ
  rw [zdR_e hkk rfl]
  dsimp only [zjn]
  refine zbr_i (fun hn => ?_) (fun hn => ?_)
  · have h26 : D 26 c ≠ -1 := fun e => hn (grf_none.mpr e)
    have hr1 := hcw.2.2.2.1
    have hr2 := hcw.2.2.2.2.1
    have hr3 := hcw.2.2.2.2.2.1 h26
    rw [if_neg h26] at hQ
    obtain ⟨e1, e2⟩ := hnt h26
    subst e1
    subst e2
    obtain ⟨d, k, hd3, hp⟩ := hb h26
    rw [zdR_e hkk rfl, zdI_e hkk rfl]
    refine zaL_i hr3.1 (by omega) ?_
    rw [hR.2.2.2.2.2.2.1 _ hr3.1 (by omega)]
    refine w1_number hM hg (hCv.fr f (by simp) (fun _ _ => rfl)) hR.2.1 hd3 hp ?_
    rw [zdI_e hkk rfl]
    refine ⟨(D 26 c).toNat, by omega, by unfold grf; rw [if_neg h26], ?_⟩
    have hcs : D 26 c = 0 ∨ D 26 c = 1 ∨ D 26 c = 2 ∨ D 26 c = 3 := by omega
    rcases hcs with e | e | e | e
    · rw [if_pos e] at hQ; rw [e]; exact hQ
    · rw [if_neg (by omega), if_pos e] at hQ; rw [e]; exact hQ
    · rw [if_neg (by omega), if_neg (by omega), if_pos e] at hQ; rw [e]; exact hQ
    · rw [if_neg (by omega), if_neg (by omega), if_neg (by omega)] at hQ; rw [e]; exact hQ
  · have h26 : D 26 c = -1 := grf_none.mp (Decidable.of_not_not hn)
    rw [if_pos h26] at hQ; exact hQ
theorem csl_drop {D : ZD} {i : Int} (i0 : 0 ≤ i) (i1 : i < D 23 0) : (csl D).drop i.toNat = i :: (csl D).drop (i + 1).toNat := by
  have hl : i.toNat < (csl D).length := by unfold csl; rw [List.length_map, List.length_range]; omega
  rw [List.drop_eq_getElem_cons hl, show (i + 1).toNat = i.toNat + 1 by omega]
  have h : (csl D)[i.toNat]? = some i := by
    unfold csl
    rw [List.getElem?_map, List.getElem?_range (by omega)]
    show some ((i.toNat : Nat) : Int) = _
    rw [show ((i.toNat : Nat) : Int) = i by omega]
  rw [(List.getElem?_eq_some_iff.mp h).2]
theorem csl_end {D : ZD} {i : Int} (i1 : D 23 0 ≤ i) : (csl D).drop i.toNat = [] := List.drop_eq_nil_of_le (by unfold csl; rw [List.length_map, List.length_range]; omega)
theorem plain_s (D : ZD) (g : Int → Int) (c : Int) (t : List Int) (s : RS) : plain D g (c :: t) s = if (rmc D g true c s).1 = 1 ∧ gd D g (rmc D g true c s).2.2 c ≠ 1 then (some (c, (rmc D g true c s).2.2), (rmc D g true c s).2.1) else plain D g t (rmc D g true c s).2.1 := rfl
theorem w1_plain {G0 G : ZG} {D : ZD} {g : Int → Int} {s : RS} {bd : Int → Int} {Q : Int → ZG → Prop} (hC : CDx G0 D) (hM : MI D) (hg : GV D g) (hR : Ru D g true G0 G s bd)
    (hQ0 : (plain D g (csl D) s).1 = none → ∀ G' bd', Ru D g true G0 G' (plain D g (csl D) s).2 bd' → Q (-1) G')
    (hQ1 : ∀ c bd', (plain D g (csl D) s).1 = some (c, bd') → 0 ≤ c ∧ c < D 23 0 → ∀ G', Ru D g true G0 G' (plain D g (csl D) s).2 bd' → Q c G') : vX1_tryPlain G Q := by
  have m23 : 0 ≤ D 23 0 ∧ D 23 0 ≤ 8 := ⟨hM.2.2.2.2.1.2.2.2.1, hM.2.2.2.2.1.2.2.2.2.1⟩
  obtain ⟨ka, kb, hLc, hcc⟩ := hC.2.2.2.2.2.2
  generalize hA : plain D g (csl D) s = A at hQ0 hQ1
  unfold vX1_tryPlain
  refine zl2_of (fun i K => 0 ≤ i ∧ i ≤ D 23 0 ∧ ∃ s' bd', Ru D g true G0 K s' bd' ∧ plain D g ((csl D).drop i.toNat) s' = A) (fun i _ => (D 23 0 - i).toNat) (fun P i K hI hPP => ?_) ⟨by omega, m23.1, s, bd, hR, hA⟩
  obtain ⟨i0, i1, s', bd', hR', ht⟩ := hI
  have hLK := hR'.1.lst ⟨by omega, by omega⟩ (by simp) hLc
  rw [eJ2_size, hLK.1, refs_len, show (((D 23 0).toNat : Nat) : Int) = D 23 0 by omega]
  refine zbr_i (fun hi => ?_) (fun hi => ?_)
  · rw [csl_end hi] at ht
    subst ht
    exact hQ0 rfl K bd' hR'
  · rw [csl_drop i0 (by omega), plain_s] at ht
    have hrow : CRow G0 D (ka i.toNat) (kb i.toNat) i := by
      have := hcc.2 i.toNat (by omega)
      rw [show ((i.toNat : Nat) : Int) = i by omega] at this
      exact this
    refine w1_clear hR' (fun G1 hR1 => ?_)
    refine sJ2_get (hR1.1.lst ⟨by omega, by omega⟩ (by simp) hLc) i0 (refs_get i0 (by omega)) ?_
    obtain ⟨⟨nm0, th0, hk1, hnt⟩, hkb⟩ := id hrow
    have hkk := hR1.1.2.2.2.2.1 (by simp) _ _ hk1 rfl
    refine ⟨zca_i hkk, w1_case hC hM hg ⟨i0, by omega⟩ hrow hR1 (fun G2 hR2 => ?_)⟩
    change Ru D g true G0 G2 (rmc D g true i s').2.1 (rmc D g true i s').2.2 at hR2
    have step : ¬ ((rmc D g true i s').1 = 1 ∧ gd D g (rmc D g true i s').2.2 i ≠ 1) → zlt1 (w32 (i + 1)) fun x4 => P x4 G2 := fun hn => by
      rw [if_neg hn] at ht
      rw [zlt1_e, w32_eq (by omega) (by omega)]
      exact hPP _ _ ⟨by omega, by omega, _, _, hR2, ht⟩ (by omega)
    dsimp only [zjn]
    refine zbr_i (fun h1 => step (fun z => h1 z.1)) (fun h1 => ?_)
    have h1 : (rmc D g true i s').1 = 1 := Decidable.of_not_not h1
    refine sJ2_get (hR2.1.lst ⟨by omega, by omega⟩ (by simp) hLc) i0 (refs_get i0 (by omega)) ?_
    have hkk2 := hR2.1.2.2.2.2.1 (by simp) _ _ hk1 rfl
    refine ⟨zca_i hkk2, w1_guards hC hM hg ⟨i0, by omega⟩ hrow hR2 (fun h26 => ?_) ?_⟩
    · have hcw := (hM.2.2.2.2.1.2.2.2.2.2.2 i i0 (by omega)).2.2.2.2.2.1 h26
      exact mca_b hM hg ⟨i0, by omega⟩ ⟨hcw.1, hcw.2.1⟩ h1 hcw.2.2.2.2
    · refine zbr_i (fun h2 => step (fun z => z.2 h2)) (fun h2 => ?_)
      rw [if_pos ⟨h1, h2⟩] at ht
      subst ht
      exact hQ1 _ _ rfl ⟨i0, by omega⟩ G2 hR2
