/-! COMPONENT: a tree is built -/
set_option maxRecDepth 100000
theorem w4_many {o : Nat} {G : ZG} {D : ZD} {k : Int} {Q : Int → Prop} (hC : CDx G D) (hM : MI D) (hk : 0 ≤ k ∧ k ≤ 5) (hQ : Q (ways D k)) : vX4_manyOf o k G Q := by
  unfold vX4_manyOf
  dsimp only [zjn]
  refine zbr_i (fun h4 => zbr_i (fun h5 => ?_) (fun h5 => ?_)) (fun h4 => ?_)
  · have hC := hC.2.1
    obtain ⟨ta, hL, hH⟩ := hC.2 k.toNat (by omega)
    have m1 := hM.1 k hk.1 (by omega)
    refine sJ2_get hC.1 (x := some (.inr (11 + k.toNat))) hk.1 ?_ ⟨11 + k.toNat, rfl, ?_, ?_⟩
    · have : k = 0 ∨ k = 1 ∨ k = 2 ∨ k = 3 := by omega
      rcases this with rfl | rfl | rfl | rfl <;> rfl
    · have : k = 0 ∨ k = 1 ∨ k = 2 ∨ k = 3 := by omega
      rcases this with rfl | rfl | rfl | rfl <;> rfl
    · dsimp only
      rw [eJ2_size, hL.1, refs_len, show ((k.toNat : Nat) : Int) = k by omega, show (((D 1 k).toNat : Nat) : Int) = D 1 k by omega]
      rw [ways_t (by omega)] at hQ
      exact hQ
  · rw [Decidable.of_not_not h5, ways_5] at hQ; exact hQ
  · rw [Decidable.of_not_not h4, ways_4] at hQ; exact hQ
theorem Pre.vu {D : ZD} {eng : Int} {o : Nat} {G K : ZG} {L : List PT} {e : PT} (h : Pre D eng o G L e) (ho : tob o) (v : Vu o G K) : Pre D eng o K L e := by
  obtain ⟨a1, a2, a3, a4, a5, a6, a7, a8⟩ := h
  exact ⟨a1.fr v.1 (by unfold tob at ho; omega), a2.vu v, a3.wf (v.2.1 16 0 (by omega) (by omega)), by rw [v.2.1 2 0 (by omega) (by omega)]; exact a4, a5.of (v.2.1 9 0 (by omega) (by omega)) (v.2.1 10 0 (by omega) (by omega)), a6, a7, a8⟩
theorem BR.vu {D : ZD} {eng : Int} {o : Nat} {G K G' : ZG} {L : List PT} {e : PT} {r : Int} (h : BR D eng o K L e r G') (v : Vu o G K) : BR D eng o G L e r G' := by
  obtain ⟨h1, h2, h3, h4⟩ := h
  rw [v.2.1 15 0 (by omega) (by omega)] at h1 h2
  rw [v.2.1 16 0 (by omega) (by omega)] at h3
  rw [v.2.1 10 0 (by omega) (by omega)] at h4
  exact ⟨(Wf.vu v).trans h1 (Int.le_refl _) (Int.le_refl _), h2, h3, h4⟩
theorem w4_choose {D : ZD} {eng : Int} {o : Nat} {G : ZG} {L : List PT} {e : PT} {d : Nat} {Q : Int → ZG → Prop} (ho : tob o) (hM : MI D) (hP : Pre D eng o G L e) (h5 : (nl D eng e).1 = 5)
    (hne : eng = 3 → allp D e ≠ [] ∧ (nl D eng e).2.1 = kd D e 8 (best D e) ∧ (nl D eng e).2.2.1 = best D e) (h17 : eng ≠ 3 → zsg G o 17 0 = (nl D eng e).2.2.1 ∧ zsg G o 18 0 = (nl D eng e).2.1)
    (hch : ∀ k : Nat, (k : Int) < (nl D eng e).2.2.2 → BOK D eng o d (stp (nl D eng e) k :: e)) (hQ : ∀ r G', BR D eng o G L e r G' → Q r G') : vX4_choose (d + 2) o G Q := by
  obtain ⟨hC, hK, hF, h2, hB, hN, hlab, hq⟩ := id hP
  have hPI := (isN_P hM e hN).1
  have hW : (nl D eng e).2.2.2 = ways D (nl D eng e).2.1 ∧ 0 ≤ (nl D eng e).2.1 ∧ (nl D eng e).2.1 ≤ 5 := by
    have hl := lab_ok hM hPI eng
    rw [← hlab] at hl
    generalize nl D eng e = l at hl h5
    rcases hl with rfl | ⟨c, rfl, _⟩ | ⟨c, rfl, _⟩ | ⟨v, q, rfl, hv, _⟩ | ⟨k, q, rfl, _, d, hd, ht⟩
    · dsimp only at h5; omega
    · dsimp only at h5; omega
    · dsimp only at h5; omega
    · dsimp only at h5; omega
    · have := tq_f hM hPI (by omega) ht
      exact ⟨rfl, this.2.1, this.2.2.1⟩
  rw [vX4_choose_s]
  unfold bX4_choose
  rw [zgF_e]
  dsimp only [zjn]
  have main : ∀ H, Vu o G H → zsg H o 17 0 = (nl D eng e).2.2.1 → zsg H o 18 0 = (nl D eng e).2.1 → zgF H o 18 fun (x2 : Int) => vX4_manyOf o x2 H fun (x3 : Int) => vX4_branch (d + 1) o 0 x3 H fun (x4 : Int) (G1 : ZG) => Q x4 G1 := fun H v e17 e18 => by
    rw [zgF_e, e18]
    refine w4_many (hC.fr v.1 (by unfold tob at ho; omega)) hM hW.2 ?_
    exact w4_branch ho hM (hP.vu ho v) (Or.inl ⟨h5, rfl⟩) hW.1.symm e17 e18 hch (fun r G' hBR => hQ r G' (hBR.vu v))
  refine zbr_i (fun hz => ?_) (fun hz => ?_)
  · have he : eng ≠ 3 := fun z => by rw [h2, z] at hz; cases hz
    exact main G (Vu.refl hC.1) (h17 he).1 (h17 he).2
  · have he : eng = 3 := Decidable.byContradiction fun z => hz (by rw [h2, decide_eq_false z]; rfl)
    obtain ⟨n1, n2, n3⟩ := hne he
    exact w4_most ho hC hM hPI (isN_s hM hN) hK hF (Vu.refl hC.1) n1 (fun H v e17 e18 _ => main H v (by rw [e17, n3]) (by rw [e18, n2]))
theorem allp_n2 {D : ZD} {e : PT} {c : Int} {s : TS} (hc : c ∈ csl D) (hf : ff e c = false) (h2 : (tmc D e c (0, 0, 0)).1 = 2) (hs : (tmc D e c (0, 0, 0)).2.1 = s) (h5 : s.1 = 5) : allp D e ≠ [] := fun z => by
  have hm : s.2.2 ∈ allp D e := by
    unfold allp
    refine List.mem_flatMap.mpr ⟨c, hc, ?_⟩
    have hel : elig D e c = true := by unfold elig; rw [hf, decide_eq_true (by omega)]; rfl
    rw [if_pos hel, ← hs]
    exact tmc_ndc h2 (by rw [hs]; exact h5)
  rw [z] at hm; cases hm
theorem w4_build : ∀ (n : Nat) {D : ZD} {eng : Int} {o : Nat} (d : Nat) (e : PT), tob o → MI D → isN D eng e → 489 - e.length ≤ n → 3 * n ≤ d → BOK D eng o d e := by
  intro n
  induction n with
  | zero =>
    intro D eng o d e ho hM hN hn hd
    have := isN_len hM hN
    omega
  | succ n ih =>
    intro D eng o d e ho hM hN hn hd G L Q hP hQ
    obtain ⟨d, rfl⟩ : ∃ d', d = d' + 3 := ⟨d - 3, by omega⟩
    obtain ⟨hC, hK, hF, h2, hB, -, hlab, hq⟩ := id hP
    have hPI := (isN_P hM e hN).1
    have hs := isN_s hM hN
    have m23 : 0 ≤ D 23 0 ∧ D 23 0 ≤ 8 := ⟨hM.2.2.2.2.1.2.2.2.1, hM.2.2.2.2.1.2.2.2.2.1⟩
    have no : ∀ x : Nat, x = 10 ∨ x = 16 → x ∉ [o] := fun x h z => by
      rw [List.mem_singleton] at z; unfold tob at ho; omega
    have hch : ∀ (d' : Nat), 3 * n ≤ d' → ∀ k : Nat, (k : Int) < (nl D eng e).2.2.2 → BOK D eng o d' (stp (nl D eng e) k :: e) := fun d' hd' k hk =>
      ih d' _ ho hM (stp_isN hN hk) (by rw [List.length_cons]; omega) hd'
    obtain ⟨-, -, -, -, -, -, ⟨ka, kb, hLc, hcc⟩⟩ := id hC
    have hL0 : lab D eng e = match scan D e (csl D) with
      | none => (2, 0, 0, 0)
      | some (c, r, s) =>
        if r = 1 then (if D 26 c = -1 then (0, c, 0, 0) else (3, c, 0, 2))
        else if s.1 = 4 then (4, s.2.1, s.2.2, D 20 (4 * s.2.1 + 3))
        else if eng = 3 then (5, kd D e 8 (best D e), best D e, ways D (kd D e 8 (best D e)))
        else (5, kd D e 8 s.2.2, s.2.2, ways D (kd D e 8 s.2.2)) := rfl
    rw [← hlab] at hL0
    rw [vX4_build_s]
    unfold bX4_build
    refine zl2_of (fun c K => 0 ≤ c ∧ c ≤ D 23 0 ∧ Vu o G K ∧ scan D e ((csl D).drop c.toNat) = scan D e (csl D)) (fun c _ => (D 23 0 - c).toNat) (fun P c K hI hPP => ?_) ⟨by omega, m23.1, Vu.refl hC.1, rfl⟩
    obtain ⟨c0, c1, tK, hsc⟩ := hI
    have hLK := tK.1.lst ⟨by omega, by omega⟩ (no 10 (by omega)) hLc
    rw [eJ2_size, hLK.1, refs_len, show (((D 23 0).toNat : Nat) : Int) = D 23 0 by omega]
    have hPK := hP.vu ho tK
    refine zbr_i (fun hi => ?_) (fun hi => ?_)
    · rw [csl_end hi] at hsc
      rw [← hsc] at hL0
      have hL0 : nl D eng e = (2, 0, 0, 0) := hL0
      refine w4_end ho tK.1.2.1 hPK.2.2.2.2.1 hN hq (by rw [hL0]; exact ⟨rfl, rfl, rfl, rfl⟩) (fun r G' hBR => hQ r G' (hBR.vu tK))
    · rw [csl_drop c0 (by omega)] at hsc
      have e1 : scan D e (c :: (csl D).drop (c + 1).toNat) = if ff e c = true then scan D e ((csl D).drop (c + 1).toNat) else if (tmc D e c (0, 0, 0)).1 = 0 then scan D e ((csl D).drop (c + 1).toNat) else some (c, (tmc D e c (0, 0, 0)).1, (tmc D e c (0, 0, 0)).2.1) := rfl
      rw [e1] at hsc
      rw [zgF_e, tK.2.1 16 0 (by omega) (by omega), eX1_has, hF.2 c c0 (by omega)]
      have next : ∀ H, Vu o G H → scan D e ((csl D).drop (c + 1).toNat) = scan D e (csl D) → zlt1 (w32 (c + 1)) fun x5 => P x5 H := fun H tH hh => by
        rw [zlt1_e, w32_eq (by omega) (by omega)]
        exact hPP _ _ ⟨by omega, by omega, tH, hh⟩ (by omega)
      dsimp only [zjn]
      cases hff : ff e c with
      | true =>
        rw [if_pos hff] at hsc
        exact zbr_i (fun z => by cases z) (fun _ => zbr_i (fun _ => zbr_i (fun _ => next K tK hsc) (fun z => absurd (Decidable.of_not_not z) (by omega))) (fun z => absurd (Decidable.of_not_not z) (by omega)))
      | false =>
        rw [if_neg (by rw [hff]; simp)] at hsc
        refine zbr_i (fun _ => ?_) (fun z => absurd rfl z)
        have hrow : CRow G D (ka c.toNat) (kb c.toNat) c := by
          have := hcc.2 c.toNat (by omega)
          rw [show ((c.toNat : Nat) : Int) = c by omega] at this
          exact this
        have hrowK := hrow.fr tK.1 (no 16 (by omega))
        obtain ⟨⟨nm0, th0, hk1, hnt⟩, hkb⟩ := id hrowK
        refine sJ2_get hLK c0 (refs_get c0 (by omega)) ?_
        refine ⟨zca_i hk1, w4_case ho hPK.1 hM hPI hs hPK.2.1 ⟨c0, by omega⟩ hrowK (Tu.refl tK.1.2.1) (fun G' tu haq => ?_)⟩
        have tG := tK.tu tu
        have hPG := hP.vu ho tG
        have ha := tmc_ask hM hPI ⟨c0, by omega⟩ (0, 0, 0)
        have hcm : c ∈ csl D := by
          unfold csl
          exact List.mem_map.mpr ⟨c.toNat, List.mem_range.mpr (by omega), by omega⟩
        generalize hz : (tmc D e c (0, 0, 0)).1 = z at hsc haq ha
        generalize hss : (tmc D e c (0, 0, 0)).2.1 = s at hsc haq ha
        refine zbr_i (fun hz1 => zbr_i (fun hz2 => ?_) (fun hz2 => ?_)) (fun hz1 => ?_)
        · have hz0 : z = 0 := by rcases ha.1 with a | a | a <;> omega
          rw [if_pos hz0] at hsc
          exact next G' tG hsc
        · have hz2 := Decidable.of_not_not hz2
          rw [if_neg (by omega)] at hsc
          rw [← hsc] at hL0
          have hL0 : nl D eng e = if z = 1 then (if D 26 c = -1 then (0, c, 0, 0) else (3, c, 0, 2))
            else if s.1 = 4 then (4, s.2.1, s.2.2, D 20 (4 * s.2.1 + 3))
            else if eng = 3 then (5, kd D e 8 (best D e), best D e, ways D (kd D e 8 (best D e)))
            else (5, kd D e 8 s.2.2, s.2.2, ways D (kd D e 8 s.2.2)) := hL0
          rw [if_neg hz1] at hL0
          obtain ⟨q17, q18, q19⟩ := haq hz2
          have hA := ha.2 hz2
          rw [zgF_e, q19]
          by_cases h4 : s.1 = 4
          · rw [if_pos h4] at hL0
            rw [decide_eq_true h4]
            refine zbr_i (fun y => by cases y) (fun _ => ?_)
            have hv := hA.resolve_left (fun y => by omega)
            rw [zgF_e, q18]
            obtain ⟨wa, hw1, hw2⟩ := hPG.1.2.2.2.2.1 s.2.1.toNat (by omega)
            rw [show ((s.2.1.toNat : Nat) : Int) = s.2.1 by omega] at hw1 hw2
            refine ⟨hv.2.1.1, by omega, ?_⟩
            rw [hw1]
            refine zeI_i hw2.1 (by omega) (x := D 20 (4 * s.2.1 + 3)) rfl ?_
            exact w4_branch ho hM hPG (Or.inr ⟨by rw [hL0], rfl⟩) (by rw [hL0]) (by rw [hL0]; exact q17) (by rw [hL0]; exact q18) (hch _ (by omega)) (fun r G2 hBR => hQ r G2 (hBR.vu tG))
          · rw [if_neg h4] at hL0
            rw [decide_eq_false h4]
            refine zbr_i (fun _ => ?_) (fun y => absurd rfl y)
            have hv := hA.resolve_right (fun y => h4 y.1)
            obtain ⟨_, _, dd, _, ht⟩ := id hv
            refine w4_choose (d := d) ho hM hPG ?_ (fun he => ?_) (fun he => ?_) (hch _ (by omega)) (fun r G2 hBR => hQ r G2 (hBR.vu tG))
            · rw [hL0]; split <;> rfl
            · rw [hL0, if_pos he]
              exact ⟨allp_n2 hcm hff (by rw [hz]; exact hz2) hss hv.1, rfl, rfl⟩
            · rw [hL0, if_neg he]
              exact ⟨q17, by rw [q18]; exact ht.2.symm⟩
        · have hz1 := Decidable.of_not_not hz1
          rw [if_neg (by omega)] at hsc
          rw [← hsc] at hL0
          have hL0 : nl D eng e = if z = 1 then (if D 26 c = -1 then (0, c, 0, 0) else (3, c, 0, 2))
            else if s.1 = 4 then (4, s.2.1, s.2.2, D 20 (4 * s.2.1 + 3))
            else if eng = 3 then (5, kd D e 8 (best D e), best D e, ways D (kd D e 8 (best D e)))
            else (5, kd D e 8 s.2.2, s.2.2, ways D (kd D e 8 s.2.2)) := hL0
          rw [if_pos hz1] at hL0
          have hLG := tG.1.lst ⟨by omega, by omega⟩ (no 10 (by omega)) hLc
          have hrowG := hrow.fr tG.1 (no 16 (by omega))
          obtain ⟨⟨nm1, th1, hk2, hnt2⟩, hkb2⟩ := id hrowG
          refine sJ2_get hLG c0 (refs_get c0 (by omega)) ?_
          refine ⟨zca_i hk2, ?_⟩
          rw [zdR_e hk2 rfl]
          refine zbr_i (fun hn => ?_) (fun hn => ?_)
          · have h26 : D 26 c ≠ -1 := fun y => hn (grf_none.mpr y)
            rw [if_neg h26] at hL0
            refine w4_guard (d := d + 1) ho hM hPG hL0 ⟨c0, by omega⟩ h26 hff (fun _ => hch _ (by omega) 1 (by rw [hL0]; show (1 : Int) < 2; omega)) (fun r G2 hBR => hQ r G2 (hBR.vu tG))
          · have h26 := grf_none.mp (Decidable.of_not_not hn)
            rw [if_pos h26] at hL0
            exact w4_end ho tG.1.2.1 hPG.2.2.2.2.1 hN hq (by rw [hL0]; exact ⟨rfl, rfl, rfl, rfl⟩) (fun r G2 hBR => hQ r G2 (hBR.vu tG))
