/-! COMPONENT: guards and branches of a tree -/
set_option maxRecDepth 100000
/-- a node is built -/
def BOK (D : ZD) (eng : Int) (o : Nat) (d : Nat) (e : PT) : Prop := ∀ (G : ZG) (L : List PT) (Q : Int → ZG → Prop), Pre D eng o G L e → (∀ r G', BR D eng o G L e r G' → Q r G') → vX4_build d o G Q
theorem hs_tb : ∀ a : Fin 256, ∀ n : Fin 8, hs (a.val : Int) (n.val : Int) = a.val.testBit n.val := by decide +kernel
theorem clr_tb : ∀ a : Fin 256, ∀ n : Fin 8, a.val.testBit n.val = false → (a.val ||| 2 ^ n.val) - 2 ^ n.val = a.val := by decide +kernel
theorem FK.set {o : Nat} {G : ZG} {e : PT} {c : Int} (h : FK o G e) (hc : 0 ≤ c ∧ c < 8) (hf : ff e c = false) : (0 ≤ bOr (zsg G o 16 0) (bShl 1 c) ∧ bOr (zsg G o 16 0) (bShl 1 c) ≤ 255) ∧ (∀ n, 0 ≤ n → n < 8 → hs (bOr (zsg G o 16 0) (bShl 1 c)) n = (ff e n || decide (c = n))) ∧ bAnd (bOr (zsg G o 16 0) (bShl 1 c)) (bXor (bShl 1 c) (-1)) = zsg G o 16 0 := by
  obtain ⟨⟨x0, x1⟩, hx⟩ := h
  have hb := bits_set ⟨(zsg G o 16 0).toNat, by omega⟩ ⟨c.toNat, by omega⟩
  dsimp only at hb
  rw [show (((zsg G o 16 0).toNat : Nat) : Int) = zsg G o 16 0 by omega, show ((c.toNat : Nat) : Int) = c by omega] at hb
  have hlt : (zsg G o 16 0).toNat ||| 2 ^ c.toNat < 256 := Nat.or_lt_two_pow (n := 8) (by omega) (Nat.pow_lt_pow_right (by omega) (by omega))
  have tb : ∀ n, 0 ≤ n → n < 8 → (zsg G o 16 0).toNat.testBit n.toNat = ff e n := fun n n0 n8 => by
    have := hs_tb ⟨(zsg G o 16 0).toNat, by omega⟩ ⟨n.toNat, by omega⟩
    dsimp only at this
    rw [show (((zsg G o 16 0).toNat : Nat) : Int) = zsg G o 16 0 by omega, show ((n.toNat : Nat) : Int) = n by omega, hx n n0 n8] at this
    exact this.symm
  rw [hb]
  refine ⟨⟨by omega, by omega⟩, fun n n0 n8 => ?_, ?_⟩
  · have := hs_tb ⟨_, hlt⟩ ⟨n.toNat, by omega⟩
    dsimp only at this
    rw [show ((n.toNat : Nat) : Int) = n by omega] at this
    rw [this, Nat.testBit_or, tb n n0 n8, Nat.testBit_two_pow]
    congr 1
    by_cases h : c = n
    · rw [decide_eq_true h, decide_eq_true (by omega)]
    · rw [decide_eq_false h, decide_eq_false (by omega)]
  · have hcl := bits_clr ⟨_, hlt⟩ ⟨c.toNat, by omega⟩
    dsimp only at hcl
    rw [show ((c.toNat : Nat) : Int) = c by omega, Nat.testBit_or, Nat.testBit_two_pow, decide_eq_true rfl, Bool.or_true, if_pos rfl] at hcl
    have := clr_tb ⟨(zsg G o 16 0).toNat, by omega⟩ ⟨c.toNat, by omega⟩ (by rw [← hf]; exact tb c hc.1 hc.2)
    dsimp only at this
    rw [this] at hcl
    rw [hcl]
    omega
theorem w4_branch {D : ZD} {eng : Int} {o : Nat} {G : ZG} {L : List PT} {e : PT} {p0 p1 : Int} {d : Nat} {Q : Int → ZG → Prop} (ho : tob o) (hM : MI D) (hP : Pre D eng o G L e) (hk : ((nl D eng e).1 = 5 ∧ p0 = 0) ∨ ((nl D eng e).1 = 4 ∧ p0 = 1)) (h1 : p1 = (nl D eng e).2.2.2) (h17 : zsg G o 17 0 = (nl D eng e).2.2.1) (h18 : zsg G o 18 0 = (nl D eng e).2.1)
    (hch : ∀ k : Nat, (k : Int) < (nl D eng e).2.2.2 → BOK D eng o d (stp (nl D eng e) k :: e)) (hQ : ∀ r G', BR D eng o G L e r G' → Q r G') : vX4_branch (d + 1) o p0 p1 G Q := by
  obtain ⟨hC, hK, hF, h2, hB, hN, hlab, hq⟩ := hP
  have h10 := nl_10 hM hN
  rw [← h1] at h10
  have hlen := isN_len hM hN
  have hkl := kel_len e
  rw [vX4_branch_s]
  unfold bX4_branch
  rw [zgF_e, zgF_e, h17, h18]
  refine w4_node ho hC.1 hB hN (fun z => hq e z (List.suffix_refl e)) (fun r G1 w h15 h16 _ hst => ?_)
  have hm := hK.1
  have start : Cor D eng o L e 0 0 G1 ∧ (Lrg D eng o G1 ∨ (r = (L.length : Int) ∧ L.length ≤ 499 ∧ zsg G o 10 0 = 0)) := by
    rcases hst with h | ⟨h0, hr, hn, r3, r4, r5, r7⟩
    · exact ⟨Or.inl h, Or.inl h⟩
    · have hl2 := hn.2.2.1
      rw [List.length_append, List.length_singleton] at hl2
      subst hr
      refine ⟨Or.inr ⟨[], by rw [List.append_nil]; exact hn, ?_, r4, r5, r7, fun j hj => by omega, List.Pairwise.nil, (fun q hq => by cases hq), fun i q hi hiq => ?_⟩, Or.inr ⟨rfl, by omega, h0⟩⟩
      · rw [r3]; unfold ck
        rcases hk with ⟨a, b⟩ | ⟨a, b⟩
        · rw [a, b, if_neg (by omega)]; rfl
        · rw [a, b, if_neg (by omega)]; rfl
      · have := (List.getElem?_eq_some_iff.mp hiq).1
        rw [List.append_nil, List.length_append, List.length_singleton] at this
        omega
  refine zl2_of (fun a K => ∃ k : Nat, a = (k : Int) ∧ (k : Int) ≤ p1 ∧ Wf o (L.length : Int) (zsg G o 15 0) G K ∧ zsg K o 15 0 = zsg G o 15 0 ∧ zsg K o 16 0 = zsg G o 16 0 ∧ Cor D eng o L e k k K ∧ (Lrg D eng o K ∨ (r = (L.length : Int) ∧ L.length ≤ 499 ∧ zsg G o 10 0 = 0))) (fun a _ => (p1 - a).toNat) (fun P a K hI hPP => ?_) ⟨0, rfl, h10.1, w, h15, h16, start⟩
  obtain ⟨k, rfl, k1, wK, k15, k16, hCor, hst⟩ := hI
  dsimp only [zjn]
  have large : Lrg D eng o K → Q r K := fun h => hQ r K ⟨wK, k15, k16, Or.inl h⟩
  refine zbr_i (fun hi => ?_) (fun hi => ?_)
  · rcases hst with h | ⟨hr, hl, h0⟩
    · exact large h
    · have ek : p1 = (k : Int) := by omega
      subst hr
      refine hQ _ K (Cor.fin (k := k) (by rw [← h1, ek]; exact hCor) hM hN (by rw [← h1, ek]) h0 wK k15 k16)
  · rw [zgF_e]
    refine zbr_i (fun hf => ?_) (fun hf => ?_)
    · rcases hCor with h | ⟨T, hn, _⟩
      · exact large h
      · exact absurd hn.1 hf
    · have hf := Decidable.of_not_not hf
      rcases hst with h | ⟨hr, hl, h0⟩
      · rw [h.1] at hf; omega
      · subst hr
        have hCK := hC.fr wK.1 (by unfold tob at ho; omega)
        have hKK := hK.wf wK k15
        rw [zgF_e, k15, hm]
        refine zaS_i (by omega) (by omega) ?_
        rw [zgF_e, zsg_ss, if_neg (by omega), k15, hm]
        have go : ∀ v, v = (if (nl D eng e).1 = 5 then -1 else (nl D eng e).2.1) → zaS (zss K o 12 ((kel e).length : Int) (nl D eng e).2.2.1) o 13 600 ((kel e).length : Int) v fun (G3 : ZG) => zgF G3 o 15 fun (x7 : Int) => zaS G3 o 14 600 x7 (k : Int) fun (G4 : ZG) => zgF G4 o 15 fun (x8 : Int) => zpF G4 o 15 (w32 (x8 + 1)) fun (G5 : ZG) => vX4_build d o G5 fun (x9 : Int) (G6 : ZG) => zgF G6 o 15 fun (x10 : Int) => zpF G6 o 15 (w32 (x10 - 1)) fun (G7 : ZG) => zin 500 (L.length : Int) ∧ zxS G7 o 6 (L.length : Int) (k : Int) x9 fun (G8 : ZG) => zaL G8 o 7 500 (L.length : Int) fun (x12 : Int) => zaS G8 o 7 500 (L.length : Int) (w32 (x12 + 1)) fun (G9 : ZG) => zlt1 (w32 ((k : Int) + 1)) fun (x13 : Int) => P x13 G9 := fun v hv => by
          refine zaS_i (by omega) (by omega) ?_
          rw [zgF_e, zsg_ss, if_neg (by omega), zsg_ss, if_neg (by omega), k15, hm]
          refine zaS_i (by omega) (by omega) ?_
          rw [zgF_e, zsg_ss, if_neg (by omega), zsg_ss, if_neg (by omega), zsg_ss, if_neg (by omega), k15, hm, zpF_e, w32_eq (by omega) (by omega)]
          have w5 := ((((Wf.refl (o := o) (L.length : Int) (zsg G o 15 0) wK.1.2.1).ss ho (j := 12) (i := ((kel e).length : Int)) (v := (nl D eng e).2.2.1) (by omega)).ss ho (j := 13) (i := ((kel e).length : Int)) (v := v) (by omega)).ss ho (j := 14) (i := ((kel e).length : Int)) (v := (k : Int)) (by omega)).ss ho (j := 15) (i := 0) (v := ((kel e).length : Int) + 1) (by omega)
          have s5 : ∀ j i, (3 ≤ j ∧ j ≤ 7) ∨ j = 9 ∨ j = 10 ∨ j = 16 → zsg (zss (zss (zss (zss K o 12 ((kel e).length : Int) (nl D eng e).2.2.1) o 13 ((kel e).length : Int) v) o 14 ((kel e).length : Int) (k : Int)) o 15 0 (((kel e).length : Int) + 1)) o j i = zsg K o j i := fun j i h => by
            rw [zsg_ss, if_neg (by omega), zsg_ss, if_neg (by omega), zsg_ss, if_neg (by omega), zsg_ss, if_neg (by omega)]
          have hK5 : KL o (zss (zss (zss (zss K o 12 ((kel e).length : Int) (nl D eng e).2.2.1) o 13 ((kel e).length : Int) v) o 14 ((kel e).length : Int) (k : Int)) o 15 0 (((kel e).length : Int) + 1)) (stp (nl D eng e) k :: e) := by
            have ek : kel (stp (nl D eng e) k :: e) = kel e ++ [((nl D eng e).2.2.1, v, (k : Int))] := by
              rw [hv]
              show kel e ++ (if (nl D eng e).1 = 5 then [((nl D eng e).2.2.1, (-1 : Int), (k : Int))] else if (nl D eng e).1 = 4 then [((nl D eng e).2.2.1, (nl D eng e).2.1, (k : Int))] else []) = _
              rcases hk with ⟨a, _⟩ | ⟨a, _⟩
              · rw [if_pos a, if_pos a]
              · rw [if_neg (by omega), if_pos a, if_neg (by omega)]
            refine ⟨?_, ?_, fun i x hx => ?_⟩
            · rw [zsg_ss, if_pos ⟨rfl, rfl, rfl⟩, ek, List.length_append]; rfl
            · rw [ek, List.length_append, List.length_singleton]; omega
            · rw [ek] at hx
              by_cases hi2 : i < (kel e).length
              · rw [List.getElem?_append_left hi2] at hx
                obtain ⟨a1, a2, a3⟩ := hKK.2.2 i x hx
                refine ⟨?_, ?_, ?_⟩
                · rw [zsg_ss, if_neg (by omega), zsg_ss, if_neg (by omega), zsg_ss, if_neg (by omega), zsg_ss, if_neg (by omega)]; exact a1
                · rw [zsg_ss, if_neg (by omega), zsg_ss, if_neg (by omega), zsg_ss, if_neg (by omega), zsg_ss, if_neg (by omega)]; exact a2
                · rw [zsg_ss, if_neg (by omega), zsg_ss, if_neg (by omega), zsg_ss, if_neg (by omega), zsg_ss, if_neg (by omega)]; exact a3
              · have hlt := (List.getElem?_eq_some_iff.mp hx).1
                rw [List.length_append, List.length_singleton] at hlt
                have : i = (kel e).length := by omega
                subst this
                rw [List.getElem?_append_right (Nat.le_refl _), Nat.sub_self] at hx
                have := (Option.some.inj hx).symm
                subst this
                refine ⟨?_, ?_, ?_⟩
                · rw [zsg_ss, if_neg (by omega), zsg_ss, if_neg (by omega), zsg_ss, if_neg (by omega), zsg_ss, if_pos ⟨rfl, rfl, rfl⟩]
                · rw [zsg_ss, if_neg (by omega), zsg_ss, if_neg (by omega), zsg_ss, if_pos ⟨rfl, rfl, rfl⟩]
                · rw [zsg_ss, if_neg (by omega), zsg_ss, if_pos ⟨rfl, rfl, rfl⟩]
          have m5 : zsg (zss (zss (zss (zss K o 12 ((kel e).length : Int) (nl D eng e).2.2.1) o 13 ((kel e).length : Int) v) o 14 ((kel e).length : Int) (k : Int)) o 15 0 (((kel e).length : Int) + 1)) o 15 0 = ((kel e).length : Int) + 1 := by rw [zsg_ss, if_pos ⟨rfl, rfl, rfl⟩]
          generalize zss (zss (zss (zss K o 12 ((kel e).length : Int) (nl D eng e).2.2.1) o 13 ((kel e).length : Int) v) o 14 ((kel e).length : Int) (k : Int)) o 15 0 (((kel e).length : Int) + 1) = G5 at w5 s5 hK5 m5
          obtain ⟨L1, b1, b2, b3, b4⟩ := hCor.child (K' := G5) hM hl (by omega) hq (s5 9 0 (by omega)) (s5 10 0 (by omega)) (fun j i h => s5 j i (by omega))
          have hT7 : zsg K o 7 (L.length : Int) = (k : Int) := by
            rcases hCor with h | ⟨T, _, _, _, _, r7, _⟩
            · rw [h.1] at hf; omega
            · exact r7
          have hkN : (k : Int) < (nl D eng e).2.2.2 := by omega
          refine hch k hkN G5 L1 _ ⟨hCK.fr w5.1 (by unfold tob at ho; omega), hK5, ?_, ?_, b1, stp_isN hN hkN, ?_, b2⟩ (fun x9 G6 hBR => ?_)
          · have f5 : FK o G5 e := (hF.wf k16).wf (s5 16 0 (by omega))
            refine ⟨f5.1, fun c c0 c8 => ?_⟩
            rw [f5.2 c c0 c8]
            show ff e c = (ff e c || (decide ((nl D eng e).1 = 3) && decide ((nl D eng e).2.1 = c) && decide (0 < (k : Int))))
            rw [decide_eq_false (show ¬ (nl D eng e).1 = 3 by omega)]; simp
          · rw [w5.2.1 2 0 (by omega), wK.2.1 2 0 (by omega)]; exact h2
          · show (if (nl D eng e).1 = 3 ∧ (k : Int) = 0 then (0, (nl D eng e).2.1, 0, 0) else if (nl D eng e).1 = 3 ∧ D 26 (nl D eng e).2.1 = 3 then (1, (nl D eng e).2.1, 0, 0) else lab D eng (stp (nl D eng e) k :: e)) = lab D eng (stp (nl D eng e) k :: e)
            rw [if_neg (by omega), if_neg (by omega)]
          · obtain ⟨w6, c15, c16, c3⟩ := id hBR
            have c15' : zsg G6 o 15 0 = ((kel e).length : Int) + 1 := by rw [c15, m5]
            rw [zgF_e, c15', zpF_e, w32_eq (by omega) (by omega), show ((kel e).length : Int) + 1 - 1 = ((kel e).length : Int) by omega]
            refine ⟨⟨by omega, by omega⟩, ⟨by omega, by omega, ?_⟩⟩
            refine zaL_i (by omega) (by omega) ?_
            rw [zsg_ss, if_neg (by omega), zsg_ss, if_neg (by omega)]
            have h7 : zsg G6 o 7 (L.length : Int) = (k : Int) := by rw [w6.2.2.2.1 7 _ (by omega) (by omega), s5 7 _ (by omega)]; exact hT7
            rw [h7, w32_eq (by omega) (by omega)]
            refine zaS_i (by omega) (by omega) ?_
            rw [zlt1_e]
            have wG := ((((wK.trans w5 (Int.le_refl _) (Int.le_refl _)).trans w6 (by omega) (by rw [m5, hm]; omega)).ss ho (j := 15) (i := 0) (v := ((kel e).length : Int)) (by omega)).ss ho (j := 6) (i := 10 * (L.length : Int) + (k : Int)) (v := x9) (by omega)).ss ho (j := 7) (i := (L.length : Int)) (v := (k : Int) + 1) (by omega)
            refine hPP _ _ ⟨k + 1, by push_cast; rfl, by push_cast; omega, wG, ?_, ?_, ?_, Or.inr ⟨rfl, hl, h0⟩⟩ (by omega)
            · rw [zsg_ss, if_neg (by omega), zsg_ss, if_neg (by omega), zsg_ss, if_pos ⟨rfl, rfl, rfl⟩, hm]
            · rw [zsg_ss, if_neg (by omega), zsg_ss, if_neg (by omega), zsg_ss, if_neg (by omega), c16, s5 16 0 (by omega), k16]
            · refine b4 x9 G6 _ _ hBR ⟨fun j i hj => ?_, fun i hi2 => ?_, fun i hi2 => ?_, ?_, ?_⟩ ?_ (fun j hj => ?_)
              · rw [zsg_ss, if_neg (by omega), zsg_ss, if_neg (by omega), zsg_ss, if_neg (by omega)]
              · rw [zsg_ss, if_neg (by omega), zsg_ss, if_neg (by omega), zsg_ss, if_neg (by omega)]
              · rw [zsg_ss, if_neg (by omega), zsg_ss, if_neg (by omega), zsg_ss, if_neg (by omega)]
              · rw [zsg_ss, if_neg (by omega), zsg_ss, if_neg (by omega), zsg_ss, if_neg (by omega)]
              · rw [zsg_ss, if_neg (by omega), zsg_ss, if_neg (by omega), zsg_ss, if_neg (by omega)]
              · rw [zsg_ss, if_pos ⟨rfl, rfl, rfl⟩]; push_cast; rfl
              · rw [zsg_ss, if_neg (by omega), zsg_ss]
                by_cases hjk : j = k
                · rw [if_pos hjk, if_pos ⟨rfl, rfl, by omega⟩]
                · rw [if_neg hjk, if_neg (by omega), zsg_ss, if_neg (by omega)]
        rcases hk with ⟨a, b⟩ | ⟨a, b⟩
        · rw [zbr_pos (by omega)]; exact go _ (by rw [if_pos a])
        · rw [zbr_neg (by omega)]; exact go _ (by rw [if_neg (by omega)])
