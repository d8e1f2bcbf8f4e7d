/-! COMPONENT: guards of a tree -/
set_option maxRecDepth 100000
theorem w4_guard {D : ZD} {eng : Int} {o : Nat} {G : ZG} {L : List PT} {e : PT} {c : Int} {d : Nat} {Q : Int → ZG → Prop} (ho : tob o) (hM : MI D) (hP : Pre D eng o G L e) (hl : nl D eng e = (3, c, 0, 2)) (hc : 0 ≤ c ∧ c < D 23 0) (h26 : D 26 c ≠ -1) (hff : ff e c = false)
    (hch : D 26 c ≠ 3 → BOK D eng o d (stp (nl D eng e) 1 :: e)) (hQ : ∀ r G', BR D eng o G L e r G' → Q r G') : vX4_guard (d + 1) o c G Q := by
  obtain ⟨hC, hK, hF, h2, hB, hN, hlab, hq⟩ := hP
  have m23 : D 23 0 ≤ 8 := hM.2.2.2.2.1.2.2.2.2.1
  have hcw := hM.2.2.2.2.1.2.2.2.2.2.2 c hc.1 hc.2
  have l1 : (nl D eng e).1 = 3 := by rw [hl]
  have l2 : (nl D eng e).2.1 = c := by rw [hl]
  have l3 : (nl D eng e).2.2.1 = 0 := by rw [hl]
  have l4 : (nl D eng e).2.2.2 = 2 := by rw [hl]
  have no : ∀ x : Nat, x = 10 ∨ x = 16 → x ∉ [o] := fun x h z => by
    rw [List.mem_singleton] at z; unfold tob at ho; omega
  rw [vX4_guard_s]
  unfold bX4_guard
  refine w4_node ho hC.1 hB hN (fun z => hq e z (List.suffix_refl e)) (fun r G1 w h15 h16 _ hst => ?_)
  rw [zgF_e]
  dsimp only [zjn]
  rcases hst with h | ⟨h0, hr, hn, r3, r4, r5, r7⟩
  · exact zbr_i (fun _ => hQ r G1 ⟨w, h15, h16, Or.inl h⟩) (fun z => absurd (show zsg G1 o 10 0 ≠ 0 by rw [h.1]; omega) z)
  subst hr
  have hl2 := hn.2.2.1
  rw [List.length_append, List.length_singleton] at hl2
  refine zbr_i (fun z => absurd hn.1 z) (fun _ => ?_)
  refine zaS_i (by omega) (by omega) ⟨⟨by omega, by omega⟩, ?_⟩
  have w2 := w.ss ho (j := 7) (i := (L.length : Int)) (v := 2) (by omega)
  have b15 : zsg (zss G1 o 7 (L.length : Int) 2) o 15 0 = zsg G o 15 0 := by rw [zsg_ss, if_neg (by omega)]; exact h15
  have b16 : zsg (zss G1 o 7 (L.length : Int) 2) o 16 0 = zsg G o 16 0 := by rw [zsg_ss, if_neg (by omega)]; exact h16
  have cor0 : Cor D eng o L e 0 2 (zss G1 o 7 (L.length : Int) 2) := by
    refine Or.inr ⟨[], by rw [List.append_nil]; exact hn.of (by rw [zsg_ss, if_neg (by omega)]) (by rw [zsg_ss, if_neg (by omega)]), ?_, ?_, ?_, ?_, fun j hj => by omega, List.Pairwise.nil, (fun q hq => by cases hq), fun i q hi hiq => ?_⟩
    · rw [zsg_ss, if_neg (by omega), r3, l1]; rfl
    · rw [zsg_ss, if_neg (by omega), r4, l3]
    · rw [zsg_ss, if_neg (by omega), r5, l2]
    · rw [zsg_ss, if_pos ⟨rfl, rfl, rfl⟩]
    · have := (List.getElem?_eq_some_iff.mp hiq).1
      rw [List.append_nil, List.length_append, List.length_singleton] at this
      omega
  have b7 : zsg (zss G1 o 7 (L.length : Int) 2) o 7 (L.length : Int) = 2 := by rw [zsg_ss, if_pos ⟨rfl, rfl, rfl⟩]
  generalize zss G1 o 7 (L.length : Int) 2 = G2 at w2 b15 b16 cor0 b7
  obtain ⟨LA, a1, a2, a3, a4⟩ := cor0.child (K' := G2) hM (by omega) (by omega) hq rfl rfl (fun _ _ _ => rfl)
  have nA : isN D eng (stp (nl D eng e) 0 :: e) := stp_isN hN (by rw [l4]; omega)
  have nlA : nl D eng (stp (nl D eng e) 0 :: e) = (0, c, 0, 0) := by
    show (if (nl D eng e).1 = 3 ∧ ((0 : Nat) : Int) = 0 then (0, (nl D eng e).2.1, 0, 0) else if (nl D eng e).1 = 3 ∧ D 26 (nl D eng e).2.1 = 3 then (1, (nl D eng e).2.1, 0, 0) else lab D eng (stp (nl D eng e) 0 :: e)) = (0, c, 0, 0)
    rw [if_pos ⟨l1, rfl⟩, l2]
  refine w4_end ho w2.1.2.1 a1 nA a2 (by rw [nlA]; exact ⟨rfl, rfl, rfl, rfl⟩) (fun r3 G3 hBR => ⟨by omega, by omega, ?_⟩)
  obtain ⟨w3, d15, d16, _⟩ := id hBR
  have w4' := ((w2.trans w3 (by omega) (by rw [b15]; exact Int.le_refl _))).ss ho (j := 6) (i := 10 * (L.length : Int) + 0) (v := r3) (by omega)
  have e15 : zsg (zss G3 o 6 (10 * (L.length : Int) + 0) r3) o 15 0 = zsg G o 15 0 := by rw [zsg_ss, if_neg (by omega), d15, b15]
  have e16 : zsg (zss G3 o 6 (10 * (L.length : Int) + 0) r3) o 16 0 = zsg G o 16 0 := by rw [zsg_ss, if_neg (by omega), d16, b16]
  have e7 : zsg (zss G3 o 6 (10 * (L.length : Int) + 0) r3) o 7 (L.length : Int) = 2 := by rw [zsg_ss, if_neg (by omega), w3.2.2.2.1 7 _ (by omega) (by omega), b7]
  have cor1 : Cor D eng o L e 1 2 (zss G3 o 6 (10 * (L.length : Int) + 0) r3) := by
    refine a4 r3 G3 _ _ hBR ⟨fun j i hj => ?_, fun i hi2 => ?_, fun i hi2 => ?_, ?_, ?_⟩ e7 (fun j hj => ?_)
    · rw [zsg_ss, if_neg (by omega)]
    · rw [zsg_ss, if_neg (by omega)]
    · rw [zsg_ss, if_neg (by omega)]
    · rw [zsg_ss, if_neg (by omega)]
    · rw [zsg_ss, if_neg (by omega)]
    · rw [zsg_ss]
      by_cases hj0 : j = 0
      · rw [if_pos hj0, if_pos ⟨rfl, rfl, by omega⟩]
      · rw [if_neg hj0, if_neg (by omega)]
  generalize zss G3 o 6 (10 * (L.length : Int) + 0) r3 = G4 at w4' e15 e16 e7 cor1
  have hC4 := hC.fr w4'.1 (by unfold tob at ho; omega)
  obtain ⟨hS4, -, -, -, -, -, ⟨ka, kb, hLc, hcc⟩⟩ := id hC4
  have hrow : CRow G4 D (ka c.toNat) (kb c.toNat) c := by
    have := hcc.2 c.toNat (by omega)
    rw [show ((c.toNat : Nat) : Int) = c by omega] at this
    exact this
  obtain ⟨⟨nm0, th0, hk1, hnt⟩, hkb⟩ := id hrow
  refine sJ2_get hLc hc.1 (refs_get hc.1 hc.2) ?_
  refine ⟨zca_i hk1, ?_⟩
  rw [zdR_e hk1 rfl]
  have hg : grf (D 26 c) = some (.inr (20 + (D 26 c).toNat)) := by unfold grf; rw [if_neg h26]
  have g26 : 0 ≤ D 26 c ∧ D 26 c ≤ 3 := by have := hcw.2.2.2.1; have := hcw.2.2.2.2.1; omega
  rw [hg]
  have fin : ∀ (rr : Int) (K' K'' H : ZG), Wf o (L.length : Int) (zsg G o 15 0) G H → zsg H o 15 0 = zsg G o 15 0 → zsg H o 16 0 = zsg G o 16 0 → Cor D eng o L e 2 2 H → Q L.length H := fun rr K' K'' H wH x15 x16 hcor =>
    hQ _ H (Cor.fin (k := 2) (by rw [l4]; exact hcor) hM hN (by rw [l4]; rfl) h0 wH x15 x16)
  have n1 : isN D eng (stp (nl D eng e) 1 :: e) := stp_isN hN (by rw [l4]; omega)
  refine ⟨Or.inr (Or.inr (Or.inl ⟨(D 26 c).toNat, rfl, by omega⟩)), Or.inr (Or.inr (Or.inl ⟨3, rfl, by omega⟩)), ⟨⟨fun z => ?_, fun z => ?_⟩, fun x y hx hy => ?_⟩, ?_⟩
  · injection z with z; injection z with z; omega
  · injection z with z; injection z with z; omega
  · injection hx with hx; injection hx with hx; injection hy with hy; injection hy with hy; omega
  refine zbr_i (fun h3 => ?_) (fun h3 => ?_)
  · have h3 : D 26 c ≠ 3 := fun z => h3 (by rw [z]; rfl)
    have hF4 := hF.wf e16
    have hset := hF4.set ⟨hc.1, by omega⟩ hff
    rw [zgF_e, zpF_e]
    have w5 : Wf o (L.length : Int) (zsg G o 15 0) G (zss G4 o 16 0 (bOr (zsg G4 o 16 0) (bShl 1 c))) := w4'.ss ho (by omega)
    have s5 : ∀ j i, j ≠ 16 → zsg (zss G4 o 16 0 (bOr (zsg G4 o 16 0) (bShl 1 c))) o j i = zsg G4 o j i := fun j i h => by rw [zsg_ss, if_neg (by omega)]
    have s16 : zsg (zss G4 o 16 0 (bOr (zsg G4 o 16 0) (bShl 1 c))) o 16 0 = bOr (zsg G4 o 16 0) (bShl 1 c) := by rw [zsg_ss, if_pos ⟨rfl, rfl, rfl⟩]
    generalize zss G4 o 16 0 (bOr (zsg G4 o 16 0) (bShl 1 c)) = G5 at w5 s5 s16
    obtain ⟨LB, b1, b2, b3, b4⟩ := cor1.child (K' := G5) hM (by omega) (by omega) hq (s5 9 0 (by omega)) (s5 10 0 (by omega)) (fun j i h => s5 j i (by omega))
    have hK5 : KL o G5 (stp (nl D eng e) 1 :: e) := by
      have ek : kel (stp (nl D eng e) 1 :: e) = kel e := by
        show kel e ++ (if (nl D eng e).1 = 5 then [((nl D eng e).2.2.1, (-1 : Int), ((1 : Nat) : Int))] else if (nl D eng e).1 = 4 then [((nl D eng e).2.2.1, (nl D eng e).2.1, ((1 : Nat) : Int))] else []) = kel e
        rw [if_neg (by omega), if_neg (by omega), List.append_nil]
      unfold KL
      rw [ek]
      exact hK.wf w5 (by rw [s5 15 0 (by omega)]; exact e15)
    refine hch h3 G5 LB _ ⟨hC.fr w5.1 (by unfold tob at ho; omega), hK5, ⟨by rw [s16]; exact hset.1, fun n n0 n8 => ?_⟩, ?_, b1, n1, ?_, b2⟩ (fun r6 G6 hBR6 => ?_)
    · rw [s16, hset.2.1 n n0 n8]
      show _ = (ff e n || (decide ((nl D eng e).1 = 3) && decide ((nl D eng e).2.1 = n) && decide (0 < ((1 : Nat) : Int))))
      rw [l1, l2]; simp
    · rw [w5.2.1 2 0 (by omega)]; exact h2
    · show (if (nl D eng e).1 = 3 ∧ ((1 : Nat) : Int) = 0 then (0, (nl D eng e).2.1, 0, 0) else if (nl D eng e).1 = 3 ∧ D 26 (nl D eng e).2.1 = 3 then (1, (nl D eng e).2.1, 0, 0) else lab D eng (stp (nl D eng e) 1 :: e)) = lab D eng (stp (nl D eng e) 1 :: e)
      rw [if_neg (by omega), l2, if_neg (fun z => h3 z.2)]
    · obtain ⟨w6, f15, f16, _⟩ := id hBR6
      refine ⟨⟨by omega, by omega⟩, by omega, by omega, ?_⟩
      dsimp only
      rw [zgF_e, zpF_e, zsg_ss, if_neg (by omega), f16, s16, hset.2.2]
      refine fin 0 G G _ ((((w5.trans w6 (by omega) (by rw [s5 15 0 (by omega), e15]; exact Int.le_refl _)).ss ho (j := 6) (by omega)).ss ho (j := 16) (by omega))) ?_ ?_ (b4 r6 G6 _ _ hBR6 ⟨fun j i hj => ?_, fun i hi2 => ?_, fun i hi2 => ?_, ?_, ?_⟩ ?_ (fun j hj => ?_))
      · rw [zsg_ss, if_neg (by omega), zsg_ss, if_neg (by omega), f15, s5 15 0 (by omega), e15]
      · rw [zsg_ss, if_pos ⟨rfl, rfl, rfl⟩, e16]
      · rw [zsg_ss, if_neg (by omega), zsg_ss, if_neg (by omega)]
      · rw [zsg_ss, if_neg (by omega), zsg_ss, if_neg (by omega)]
      · rw [zsg_ss, if_neg (by omega), zsg_ss, if_neg (by omega)]
      · rw [zsg_ss, if_neg (by omega), zsg_ss, if_neg (by omega)]
      · rw [zsg_ss, if_neg (by omega), zsg_ss, if_neg (by omega)]
      · rw [zsg_ss, if_neg (by omega), zsg_ss, if_neg (by omega), w6.2.2.2.1 7 _ (by omega) (by omega), s5 7 _ (by omega), e7]
      · rw [zsg_ss, if_neg (by omega), zsg_ss]
        by_cases hj1 : j = 1
        · rw [if_pos hj1, if_pos ⟨rfl, rfl, by omega⟩]
        · rw [if_neg hj1, if_neg (by omega)]
  · have h3 : D 26 c = 3 := by
      have := Decidable.of_not_not h3
      injection this with z; injection z with z; omega
    obtain ⟨LB, b1, b2, b3, b4⟩ := cor1.child (K' := G4) hM (by omega) (by omega) hq rfl rfl (fun _ _ _ => rfl)
    have nlB : nl D eng (stp (nl D eng e) 1 :: e) = (1, c, 0, 0) := by
      show (if (nl D eng e).1 = 3 ∧ ((1 : Nat) : Int) = 0 then (0, (nl D eng e).2.1, 0, 0) else if (nl D eng e).1 = 3 ∧ D 26 (nl D eng e).2.1 = 3 then (1, (nl D eng e).2.1, 0, 0) else lab D eng (stp (nl D eng e) 1 :: e)) = (1, c, 0, 0)
      rw [if_neg (by omega), l2, if_pos ⟨l1, h3⟩]
    refine ⟨⟨by omega, by omega⟩, w4_end ho w4'.1.2.1 b1 n1 b2 (by rw [nlB]; exact ⟨rfl, rfl, rfl, rfl⟩) (fun r6 G6 hBR6 => ⟨by omega, by omega, ?_⟩)⟩
    obtain ⟨w6, f15, f16, _⟩ := id hBR6
    refine fin 0 G G _ (((w4'.trans w6 (by omega) (by rw [e15]; exact Int.le_refl _)).ss ho (j := 6) (by omega))) ?_ ?_ (b4 r6 G6 _ _ hBR6 ⟨fun j i hj => ?_, fun i hi2 => ?_, fun i hi2 => ?_, ?_, ?_⟩ ?_ (fun j hj => ?_))
    · rw [zsg_ss, if_neg (by omega), f15, e15]
    · rw [zsg_ss, if_neg (by omega), f16, e16]
    · rw [zsg_ss, if_neg (by omega)]
    · rw [zsg_ss, if_neg (by omega)]
    · rw [zsg_ss, if_neg (by omega)]
    · rw [zsg_ss, if_neg (by omega)]
    · rw [zsg_ss, if_neg (by omega)]
    · rw [zsg_ss, if_neg (by omega), w6.2.2.2.1 7 _ (by omega) (by omega), e7]
    · rw [zsg_ss]
      by_cases hj1 : j = 1
      · rw [if_pos hj1, if_pos ⟨rfl, rfl, by omega⟩]
      · rw [if_neg hj1, if_neg (by omega)]
