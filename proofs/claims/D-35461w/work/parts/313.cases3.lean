/-! COMPONENT: cases merged -/
set_option maxRecDepth 100000
def mrS (n c : Int) (i : Int) : Int := if i ≤ c then i else if i < n - 1 then i + 1 else i
def mrg (D : ZD) (c col e : Int) : ZD := up (up (reR D (D 23 0 - 1) (mrS (D 23 0) c)) 24 (3 * c + col) e) 29 c 0
theorem mrg_o {D : ZD} {c col e : Int} {j : Nat} (h : j < 23 ∨ 29 < j) : mrg D c col e j = D j := by
  unfold mrg; rw [up_ne (by omega), up_ne (by omega), reR_o h]
theorem mrg_23 {D : ZD} {c col e : Int} : mrg D c col e 23 0 = D 23 0 - 1 := by
  unfold mrg; rw [up_ne (by omega), up_ne (by omega)]; rfl
theorem mrg_24 {D : ZD} {c col e i k : Int} (h0 : 0 ≤ k) (h3 : k < 3) (c0 : 0 ≤ col) (c3 : col < 3) : mrg D c col e 24 (3 * i + k) = if i = c ∧ k = col then e else D 24 (3 * mrS (D 23 0) c i + k) := by
  unfold mrg; rw [up_ne (by omega), up_at, reR_24 h0 h3]
  by_cases h1 : i = c ∧ k = col
  · rw [if_pos h1, if_pos (by omega)]
  · rw [if_neg h1, if_neg (by omega)]
theorem mrg_l {D : ZD} {c col e i : Int} {j : Nat} (h : 25 ≤ j ∧ j ≤ 28) : mrg D c col e j i = D j (mrS (D 23 0) c i) := by
  unfold mrg; rw [up_ne (by omega), up_ne (by omega), reR_l (by omega)]
theorem mrg_29 {D : ZD} {c col e i : Int} : mrg D c col e 29 i = if i = c then 0 else D 29 (mrS (D 23 0) c i) := by
  unfold mrg; rw [up_at, up_ne (by omega), reR_l (by omega)]
def mrCan (D : ZD) (c col : Int) : Prop := (D 26 c = -1 ∧ D 26 (c + 1) = -1 ∧ D 25 c = D 25 (c + 1)) ∧ (∀ k, 0 ≤ k → k < D 21 0 → k ≠ col → D 24 (3 * c + k) = D 24 (3 * (c + 1) + k)) ∧
  D 18 (D 24 (3 * c + col)) = 0 ∧ D 18 (D 24 (3 * (c + 1) + col)) = 0 ∧ altb D (D 24 (3 * c + col)) (D 24 (3 * (c + 1) + col)) = true ∧ D 9 0 < 60
theorem k1_merge {G : ZG} {D : ZD} {c col : Int} {X : Nat → ZG → Prop} {Q : Int → ZG → Prop} (hC : CD G D) (hM : MI D)
    (hX0 : ¬ ((0 ≤ c ∧ c ≤ D 23 0 - 2) ∧ 0 ≤ col ∧ col < D 21 0) → X 0 G) (hX2 : (0 ≤ c ∧ c ≤ D 23 0 - 2) ∧ 0 ≤ col ∧ col < D 21 0 → ¬ mrCan D c col → X 2 G)
    (hQ : (0 ≤ c ∧ c ≤ D 23 0 - 2) ∧ 0 ≤ col ∧ col < D 21 0 → mrCan D c col → ∀ G', Fr [9, 10, 2, 3, 4] G G' → Chg G' →
      CD G' (mrg (addP D (eiv D (D 24 (3 * c + col)) (D 24 (3 * (c + 1) + col))) (D 24 (3 * c + col)) (D 24 (3 * (c + 1) + col)) (-1)) c col (D 9 0)) → Q (D 23 0 - 1) G') : vX1_merge c col G X Q := by
  have hS := hC.1
  obtain ⟨td, pa, pf, hL, hP⟩ := hC.2.2.2.1
  obtain ⟨ka, kb, hLc, hcc⟩ := hC.2.2.2.2.2.2.1
  have m9 : 0 ≤ D 9 0 ∧ D 9 0 ≤ 60 := ⟨hM.2.2.1.1, hM.2.2.1.2.1⟩
  have m21 : 0 ≤ D 21 0 ∧ D 21 0 ≤ 3 := ⟨hM.2.2.2.2.1.1, hM.2.2.2.2.1.2.1⟩
  have m23 : 0 ≤ D 23 0 ∧ D 23 0 ≤ 8 := ⟨hM.2.2.2.2.1.2.2.2.1, hM.2.2.2.2.1.2.2.2.2.1⟩
  have hkk := hC.2.2.2.2.2.1
  have e10 : zsg G 10 2 0 = D 23 0 := by rw [hLc.1, refs_len]; omega
  unfold vX1_merge
  rw [eJ2_size, e10, eX1_inRange, eX1_reqI, w32_eq (by omega) (by omega)]
  by_cases hcr : 0 ≤ c ∧ c ≤ D 23 0 - 2
  case neg => rw [if_neg (by simp; omega)]; exact hX0 (fun z => hcr z.1)
  rw [if_pos (by simp; omega)]
  refine sX1_requireColumn hM hkk (fun q => hX0 (fun z => q z.2)) (fun hcol => ?_)
  have hh := And.intro hcr hcol
  have row1 : CRow G D (ka c.toNat) (kb c.toNat) c := by
    have := hcc.2 c.toNat (by omega)
    rw [show ((c.toNat : Nat) : Int) = c by omega] at this; exact this
  have row2 : CRow G D (ka (c + 1).toNat) (kb (c + 1).toNat) (c + 1) := by
    have := hcc.2 (c + 1).toNat (by omega)
    rw [show (((c + 1).toNat : Nat) : Int) = c + 1 by omega] at this; exact this
  obtain ⟨⟨nm, th, hk1, -⟩, hkb1⟩ := id row1
  obtain ⟨⟨nm2, th2, hk2, -⟩, hkb2⟩ := id row2
  have cw1 := hM.2.2.2.2.1.2.2.2.2.2.2 c hcr.1 (by omega)
  have cw2 := hM.2.2.2.2.1.2.2.2.2.2.2 (c + 1) (by omega) (by omega)
  have how1 := cw1.1 col hcol.1 hcol.2
  have how2 := cw2.1 col hcol.1 hcol.2
  refine sJ2_get hLc hcr.1 (refs_get hcr.1 (by omega)) ⟨zca_i hk1, ?_⟩
  rw [w32_eq (x := c + 1) (by omega) (by omega)]
  refine sJ2_get hLc (by omega) (refs_get (by omega) (by omega)) ⟨zca_i hk2, ?_⟩
  rw [zdR_e hk1 rfl]
  generalize hga : D 24 (3 * c + col) = a at *
  generalize hgb : D 24 (3 * (c + 1) + col) = b at *
  have pwa := hM.2.2.1.2.2 a how1.1 how1.2.1
  have pwb := hM.2.2.1.2.2 b how2.1 how2.2.1
  dsimp only [zjn]
  have main : ∀ z : Int, ((z = 1 ∧ D 26 c = -1 ∧ D 26 (c + 1) = -1 ∧ D 25 c = D 25 (c + 1)) ∨ (z = 0 ∧ ¬ mrCan D c col)) → zl2 (fun (P86 : Int → Int → Prop) (a86_5 : Int) (a86_6 : Int) => zgF G 0 5 fun (x6 : Int) => zbr (x6 ≤ a86_6) (zdR G (some (.inl (ka c.toNat))) 16 0 fun (x7 : ZR) => zeI G x7 col fun (x8 : Int) => vX1_told x8 G fun (x9 : ZR) => zdR G (some (.inl (ka (c + 1).toNat))) 16 0 fun (x10 : ZR) => zeI G x10 col fun (x11 : Int) => vX1_told x11 G fun (x12 : ZR) => zbr (a86_5 = 0) (vX1_requireState 0 G X fun (_ : Unit) => vX1_addEither x9 x12 G X fun (x13 : Int) (G1 : ZG) => znw G1 (.inr (.inr (16, zdf 16))) fun (x14 : ZR) (G2 : ZG) => zdR G2 (some (.inl (ka c.toNat))) 16 0 fun (x15 : ZR) => vX1_with x15 col x13 G2 fun (x16 : ZR) (G3 : ZG) => zdI G3 (some (.inl (ka c.toNat))) 16 1 fun (x17 : Int) => znn x14 ∧ vX16_init x14 x16 x17 G3 fun (G4 : ZG) => vJ2_set 10 c x14 G4 fun (x19 : ZR) (G5 : ZG) => vJ2_remove 10 (c + 1) G5 fun (x20 : ZR) (G6 : ZG) => vX1_changed G6 fun (G7 : ZG) => vJ2_size 10 G7 fun (x21 : Int) => Q x21 G7) (zisO G x9 9 ∧ vX9_isPure x9 G fun (x23 : Int) => zbr (x23 = 0) (vX1_requireState 0 G X fun (_ : Unit) => vX1_addEither x9 x12 G X fun (x13 : Int) (G1 : ZG) => znw G1 (.inr (.inr (16, zdf 16))) fun (x14 : ZR) (G2 : ZG) => zdR G2 (some (.inl (ka c.toNat))) 16 0 fun (x15 : ZR) => vX1_with x15 col x13 G2 fun (x16 : ZR) (G3 : ZG) => zdI G3 (some (.inl (ka c.toNat))) 16 1 fun (x17 : Int) => znn x14 ∧ vX16_init x14 x16 x17 G3 fun (G4 : ZG) => vJ2_set 10 c x14 G4 fun (x19 : ZR) (G5 : ZG) => vJ2_remove 10 (c + 1) G5 fun (x20 : ZR) (G6 : ZG) => vX1_changed G6 fun (G7 : ZG) => vJ2_size 10 G7 fun (x21 : Int) => Q x21 G7) (zisO G x12 9 ∧ vX9_isPure x12 G fun (x25 : Int) => zbr (x25 = 0) (vX1_requireState 0 G X fun (_ : Unit) => vX1_addEither x9 x12 G X fun (x13 : Int) (G1 : ZG) => znw G1 (.inr (.inr (16, zdf 16))) fun (x14 : ZR) (G2 : ZG) => zdR G2 (some (.inl (ka c.toNat))) 16 0 fun (x15 : ZR) => vX1_with x15 col x13 G2 fun (x16 : ZR) (G3 : ZG) => zdI G3 (some (.inl (ka c.toNat))) 16 1 fun (x17 : Int) => znn x14 ∧ vX16_init x14 x16 x17 G3 fun (G4 : ZG) => vJ2_set 10 c x14 G4 fun (x19 : ZR) (G5 : ZG) => vJ2_remove 10 (c + 1) G5 fun (x20 : ZR) (G6 : ZG) => vX1_changed G6 fun (G7 : ZG) => vJ2_size 10 G7 fun (x21 : Int) => Q x21 G7) (vX1_canBeEither x9 x12 G fun (x26 : Int) => zbr (x26 = 0) (vX1_requireState 0 G X fun (_ : Unit) => vX1_addEither x9 x12 G X fun (x13 : Int) (G1 : ZG) => znw G1 (.inr (.inr (16, zdf 16))) fun (x14 : ZR) (G2 : ZG) => zdR G2 (some (.inl (ka c.toNat))) 16 0 fun (x15 : ZR) => vX1_with x15 col x13 G2 fun (x16 : ZR) (G3 : ZG) => zdI G3 (some (.inl (ka c.toNat))) 16 1 fun (x17 : Int) => znn x14 ∧ vX16_init x14 x16 x17 G3 fun (G4 : ZG) => vJ2_set 10 c x14 G4 fun (x19 : ZR) (G5 : ZG) => vJ2_remove 10 (c + 1) G5 fun (x20 : ZR) (G6 : ZG) => vX1_changed G6 fun (G7 : ZG) => vJ2_size 10 G7 fun (x21 : Int) => Q x21 G7) (vJ2_size 9 G fun (x27 : Int) => zbr (60 ≤ x27) (vX1_requireState 0 G X fun (_ : Unit) => vX1_addEither x9 x12 G X fun (x13 : Int) (G1 : ZG) => znw G1 (.inr (.inr (16, zdf 16))) fun (x14 : ZR) (G2 : ZG) => zdR G2 (some (.inl (ka c.toNat))) 16 0 fun (x15 : ZR) => vX1_with x15 col x13 G2 fun (x16 : ZR) (G3 : ZG) => zdI G3 (some (.inl (ka c.toNat))) 16 1 fun (x17 : Int) => znn x14 ∧ vX16_init x14 x16 x17 G3 fun (G4 : ZG) => vJ2_set 10 c x14 G4 fun (x19 : ZR) (G5 : ZG) => vJ2_remove 10 (c + 1) G5 fun (x20 : ZR) (G6 : ZG) => vX1_changed G6 fun (G7 : ZG) => vJ2_size 10 G7 fun (x21 : Int) => Q x21 G7) (vX1_requireState 1 G X fun (_ : Unit) => vX1_addEither x9 x12 G X fun (x13 : Int) (G1 : ZG) => znw G1 (.inr (.inr (16, zdf 16))) fun (x14 : ZR) (G2 : ZG) => zdR G2 (some (.inl (ka c.toNat))) 16 0 fun (x15 : ZR) => vX1_with x15 col x13 G2 fun (x16 : ZR) (G3 : ZG) => zdI G3 (some (.inl (ka c.toNat))) 16 1 fun (x17 : Int) => znn x14 ∧ vX16_init x14 x16 x17 G3 fun (G4 : ZG) => vJ2_set 10 c x14 G4 fun (x19 : ZR) (G5 : ZG) => vJ2_remove 10 (c + 1) G5 fun (x20 : ZR) (G6 : ZG) => vX1_changed G6 fun (G7 : ZG) => vJ2_size 10 G7 fun (x21 : Int) => Q x21 G7)))))) (zbr (a86_5 = 0) (zlt1 (w32 (a86_6 + 1)) fun (x28 : Int) => P86 0 x28) (zbr (a86_6 = col) (zlt1 (w32 (a86_6 + 1)) fun (x28 : Int) => P86 1 x28) (zdR G (some (.inl (ka c.toNat))) 16 0 fun (x29 : ZR) => zeI G x29 a86_6 fun (x30 : Int) => zdR G (some (.inl (ka (c + 1).toNat))) 16 0 fun (x31 : ZR) => zeI G x31 a86_6 fun (x32 : Int) => zbr (x30 ≠ x32) (zlt1 (w32 (a86_6 + 1)) fun (x28 : Int) => P86 0 x28) (zlt1 (w32 (a86_6 + 1)) fun (x28 : Int) => P86 1 x28))))) z 0 := by
    intro z hz
    refine zl2_of (fun z k => 0 ≤ k ∧ k ≤ D 21 0 ∧ ((z = 1 ∧ (D 26 c = -1 ∧ D 26 (c + 1) = -1 ∧ D 25 c = D 25 (c + 1)) ∧ ∀ j, 0 ≤ j → j < k → j ≠ col → D 24 (3 * c + j) = D 24 (3 * (c + 1) + j)) ∨ (z = 0 ∧ ¬ mrCan D c col))) (fun _ k => (D 21 0 - k).toNat) (fun P z k hI hPP => ?_) ⟨by omega, m21.1, ?_⟩
    · obtain ⟨k0, k1, hz⟩ := hI
      rw [zgF_e, hkk.1]
      refine zbr_i (fun hk => ?_) (fun hk => ?_)
      · rw [zdR_e hk1 rfl]
        refine zeI_i hkb1.1 hcol.1 (ints_get hcol.1 hcol.2) ?_
        rw [hga]
        refine sX1_told hL hP how1.1 how1.2.1 (fun t1 => ?_)
        rw [zdR_e hk2 rfl]
        refine zeI_i hkb2.1 hcol.1 (ints_get hcol.1 hcol.2) ?_
        rw [hgb]
        refine sX1_told hL hP how2.1 how2.2.1 (fun t2 => ?_)
        rcases hz with ⟨rfl, hg3, hz⟩ | ⟨rfl, hno⟩
        · rw [zbr_neg (by omega)]
          refine ⟨zisO_i t1.1, ?_⟩
          rw [Tl.pure t1 pwa.2.2.2.2.2.1]
          refine zbr_i (fun h => ?_) (fun hp1 => ⟨zisO_i t2.1, ?_⟩)
          · rw [reqS0]
            refine hX2 hh (fun q => ?_)
            have q1 := q.2.2.1
            rw [hga] at q1; omega
          · rw [Tl.pure t2 pwb.2.2.2.2.2.1]
            refine zbr_i (fun h => ?_) (fun hp2 => ?_)
            · rw [reqS0]
              refine hX2 hh (fun q => ?_)
              have q1 := q.2.2.2.1
              rw [hgb] at q1; omega
            · refine sX1_canBeEither t1 t2 pwa.2.2.2.1 pwb.2.2.2.1 ?_
              refine zbr_i (fun h => ?_) (fun halt => ?_)
              · rw [reqS0]
                refine hX2 hh (fun q => ?_)
                have q1 := q.2.2.2.2.1
                rw [hga, hgb] at q1
                rw [q1] at h; cases h
              · have halt : altb D a b = true := by
                  cases hq : altb D a b with
                  | true => rfl
                  | false => rw [hq] at halt; exact absurd rfl halt
                rw [eJ2_size, e9sz hM hL]
                refine zbr_i (fun h => ?_) (fun h60 => ?_)
                · rw [reqS0]
                  exact hX2 hh (fun q => by have := q.2.2.2.2.2; omega)
                · have u1 := pwa.2.2.2.2.2.1
                  have u2 := pwb.2.2.2.2.2.1
                  have hcan : mrCan D c col := ⟨hg3, fun j j0 j1 j2 => hz j j0 (by omega) j2, by rw [hga]; omega, by rw [hgb]; omega, by rw [hga, hgb]; exact halt, by omega⟩
                  have hsz : D 16 a + D 16 b < 40 := by unfold altb at halt; simp at halt; omega
                  rw [reqS1]
                  refine sX1_addEither hC hM hL hP ⟨how1.1, how1.2.1⟩ ⟨how2.1, how2.2.1⟩ hsz (fun q => by omega) (fun _ G1 f1 hC1 x hx => ?_)
                  have hS1 := hC1.1
                  -- the new case
                  have f2' := (Fr.refl [] hS1).new hS1 (c := .inr (.inr (16, zdf 16))) hx
                  have f2 := f1.trans (f2'.mono (S' := [9]) (by simp))
                  dsimp only
                  rw [zdR_e (f2.2.2.2.2.1 (by simp) _ _ hk1 rfl) rfl]
                  refine sX1_with (p := D 9 0) (f2.hk hkb1) hcol.1 hcol.2 m21.2 (fun y hy => ?_)
                  have hxy : x ≠ y := fun q => by subst q; rw [zsj_eq] at hy; cases hy
                  have f3' := f2'.new hS1 (c := .inl (0, ints (D 21 0) fun k => if k = col then D 9 0 else D 24 (3 * c + k))) hy
                  have f3 := f1.trans (f3'.mono (S' := [9]) (by simp))
                  have hy3 := f3'.hi (by simp) hS1 (f2'.1.old hy) (zsj_eq _ _ _) (imm_int (t := 0) (l := ints (D 21 0) fun k => if k = col then D 9 0 else D 24 (3 * c + k)))
                  have hx3 : zsj (zsc (zsc G1 x (.inr (.inr (16, zdf 16)))) y (.inl (0, ints (D 21 0) fun k => if k = col then D 9 0 else D 24 (3 * c + k)))) x = some (.inr (.inr (16, zdf 16))) := by rw [zsj_ne hxy]; exact zsj_eq _ _ _
                  rw [zdI_e (f3.2.2.2.2.1 (by simp) _ _ hk1 rfl) rfl]
                  generalize zsc (zsc G1 x (.inr (.inr (16, zdf 16)))) y (.inl (0, ints (D 21 0) fun k => if k = col then D 9 0 else D 24 (3 * c + k))) = K3 at f3 f3' hy3 hx3
                  refine ⟨⟨x, rfl⟩, sX16_init hx3 ?_⟩
                  have f4' := f3'.fresh hS1 (c := kcel y (D 25 c)) hx (fun c' e => by rw [hx3] at e; cases e; rfl)
                  have hx4 : zsj (zsc K3 x (kcel y (D 25 c))) x = some (kcel y (D 25 c)) := zsj_eq _ _ _
                  have hy4 : HI (zsc K3 x (kcel y (D 25 c))) y (.inl (0, ints (D 21 0) fun k => if k = col then D 9 0 else D 24 (3 * c + k))) := ⟨by rw [zsj_ne (Ne.symm hxy)]; exact hy3.1, hy3.2.1, fun q => hy3.2.2 q⟩
                  show vJ2_set 10 c (some (.inl x)) (zsc K3 x (kcel y (D 25 c))) _
                  generalize zsc K3 x (kcel y (D 25 c)) = K4 at f4' hx4 hy4
                  have f4 := f1.trans (f4'.mono (S' := [9]) (by simp))
                  have hLc4 := f4.lst ⟨by omega, by omega⟩ (by simp) hLc
                  have hzk : ∀ {S : List Nat} {K : ZG}, Fr S G K → 16 ∉ S → ∀ i : Nat, (i : Int) < D 23 0 → zel K 3 (some (.inl (ka i))) := fun f hs i hi => by
                    obtain ⟨nm, th, g1, -⟩ := (hcc.2 i hi).1
                    exact zel_o3 (f.2.2.2.2.1 hs _ _ g1 rfl)
                  refine sJ2_set hLc4 hcr.1 (refs_get hcr.1 (by omega)) (zel_o3 hx4) (fun K5 lf5 hL5 => ?_)
                  rw [refs_set] at hL5
                  have f5' := lf5.fr hL5 ⟨by omega, by omega⟩ f4.2.1
                  have f5 := (f4.mono (S' := [9, 10]) (by simp)).trans (f5'.mono (S' := [9, 10]) (by simp))
                  have hx5 := f5'.2.2.2.2.1 (by simp) _ _ hx4 rfl
                  have hy5 := f5'.hk hy4
                  refine sJ2_remove hL5 (by rw [refs_len]; omega) (by omega) (refs_get (by omega) (by omega)) (fun q hq => ?_) (fun K6 lf6 hL6 => ?_)
                  · obtain ⟨i, hi, rfl⟩ := refs_mem hq
                    by_cases hic : i = c.toNat
                    · rw [if_pos hic]; exact zel_o3 hx5
                    · rw [if_neg hic]; exact hzk f5 (by simp) i hi
                  · rw [refs_del (by omega)] at hL6
                    have f6' := lf6.fr hL6 ⟨by omega, by omega⟩ f5.2.1
                    have f7 := ((f5.trans (f6'.mono (S' := [9, 10]) (by simp))).mono (S' := [9, 10, 2, 3, 4]) (by simp)).chg (by simp) (by simp) (by simp)
                    have f71 := (((f4'.mono (S' := [10, 2, 3, 4]) (by simp)).trans (f5'.mono (S' := [10, 2, 3, 4]) (by simp))).trans (f6'.mono (S' := [10, 2, 3, 4]) (by simp))).chg (by simp) (by simp) (by simp)
                    rw [eX1_changed, eJ2_size, (hL6.chg ⟨by omega, by omega⟩).1, refs_len, show (((D 23 0 - 1).toNat : Nat) : Int) = D 23 0 - 1 by omega]
                    have hx7 : zsj (zss (zss (zss K6 2 11 0 0) 3 11 0 0) 4 2 0 0) x = _ := f6'.2.2.2.2.1 (by simp) _ _ hx5 rfl
                    have hy7 : HI (zss (zss (zss K6 2 11 0 0) 3 11 0 0) 4 2 0 0) y _ := f6'.hk hy5
                    have hL7 := hL6.chg ⟨by omega, by omega⟩
                    have hchg := Chg.of K6
                    generalize zss (zss (zss K6 2 11 0 0) 3 11 0 0) 4 2 0 0 = K7 at f7 f71 hx7 hy7 hL7 hchg
                    have hne : ∀ i : Nat, (i : Int) < D 23 0 → ka i ≠ x := fun i hi e => by
                      obtain ⟨nm, th, g1, -⟩ := (hcc.2 i hi).1
                      rw [e, f1.1.old hx] at g1; cases g1
                    have e23 : addP D (eiv D a b) a b (-1) 23 = D 23 := addP_o (by omega)
                    have e21 : addP D (eiv D a b) a b (-1) 21 = D 21 := addP_o (by omega)
                    have hQ' := hQ hh hcan K7 f7 hchg
                    refine hQ' (hC1.of10 f71 ⟨_, fun k => if k < (c + 1).toNat then (if k = c.toNat then y else kb k) else kb (k + 1), by rw [mrg_23, e23]; exact hL7, ?_, ?_⟩ (fun j hj => mrg_o hj))
                    · intro i j hi hj e
                      rw [mrg_23, e23] at hi hj
                      by_cases i1 : i < (c + 1).toNat <;> by_cases j1 : j < (c + 1).toNat
                      · rw [if_pos i1, if_pos j1] at e
                        by_cases i2 : i = c.toNat <;> by_cases j2 : j = c.toNat
                        · rw [i2, j2]
                        · rw [if_pos i2, if_neg j2] at e; exact absurd e.symm (hne j (by omega))
                        · rw [if_neg i2, if_pos j2] at e; exact absurd e (hne i (by omega))
                        · rw [if_neg i2, if_neg j2] at e; exact hcc.1 i j (by omega) (by omega) e
                      · rw [if_pos i1, if_neg j1] at e
                        exfalso
                        by_cases i2 : i = c.toNat
                        · rw [if_pos i2, if_neg (by omega)] at e; exact hne _ (by omega) e.symm
                        · rw [if_neg i2, if_neg (by omega)] at e
                          have := hcc.1 _ _ (by omega) (by omega) e; omega
                      · rw [if_neg i1, if_pos j1] at e
                        exfalso
                        by_cases j2 : j = c.toNat
                        · rw [if_pos j2, if_neg (by omega)] at e; exact hne _ (by omega) e
                        · rw [if_neg j2, if_neg (by omega)] at e
                          have := hcc.1 _ _ (by omega) (by omega) e; omega
                      · rw [if_neg i1, if_neg j1, if_neg (by omega), if_neg (by omega)] at e
                        have := hcc.1 _ _ (by omega) (by omega) e; omega
                    · intro i hi
                      rw [mrg_23, e23] at hi
                      have e21' : mrg (addP D (eiv D a b) a b (-1)) c col (D 9 0) 21 0 = D 21 0 := by rw [mrg_o (by omega), e21]
                      have ej : ∀ {j : Nat}, 19 < j → addP D (eiv D a b) a b (-1) j = D j := fun h => addP_o (by omega)
                      have hold : ∀ (i' : Nat) (ii : Int), (i' : Int) < D 23 0 → ii ≠ c → mrS (D 23 0) c ii = i' → CRow K7 (mrg (addP D (eiv D a b) a b (-1)) c col (D 9 0)) (ka i') (kb i') ii := by
                        intro i' ii hi' n1 hs
                        have hrow : CRow K7 D (ka i') (kb i') i' := CRow.fr (S := [9, 10, 2, 3, 4]) (hcc.2 i' hi') f7 (by simp)
                        refine hrow.eq m21.2 e21' (fun k k0 k1 => ?_) (by rw [mrg_l (by omega), e23, hs, ej (by omega)]) (by rw [mrg_l (by omega), e23, hs, ej (by omega)]) (fun _ => ⟨by rw [mrg_l (by omega), e23, hs, ej (by omega)], by rw [mrg_l (by omega), e23, hs, ej (by omega)]⟩) (by rw [mrg_29, if_neg n1, e23, hs, ej (by omega)])
                        rw [mrg_24 k0 k1 hcol.1 (by omega), if_neg (by omega), e23, hs, ej (by omega)]
                      dsimp only
                      by_cases i1 : i < (c + 1).toNat
                      · rw [if_pos i1, if_pos i1]
                        by_cases i2 : i = c.toNat
                        · rw [if_pos i2, if_pos i2]
                          have ei : (i : Int) = c := by omega
                          have es : mrS (D 23 0) c i = c := by unfold mrS; rw [if_pos (by omega)]; exact ei
                          refine CRow.new hx7 hy7 e21' (fun k k0 k1 => ?_) (by rw [mrg_l (by omega), e23, es, ej (by omega)]) (by rw [mrg_l (by omega), e23, es, ej (by omega)]; exact hg3.1) (by rw [mrg_29, if_pos ei])
                          rw [mrg_24 k0 (by omega) hcol.1 (by omega), e23, es, ej (by omega)]
                          by_cases hkc : k = col
                          · rw [if_pos ⟨ei, hkc⟩, if_pos hkc]
                          · rw [if_neg (by omega), if_neg hkc]
                        · rw [if_neg i2, if_neg i2]
                          exact hold i i (by omega) (by omega) (by unfold mrS; rw [if_pos (by omega)])
                      · rw [if_neg i1, if_neg i1, if_neg (by omega)]
                        exact hold (i + 1) i (by omega) (by omega) (by unfold mrS; rw [if_neg (by omega), if_pos (by omega)]; omega)
        · rw [zbr_pos rfl, reqS0]; exact hX2 hh hno
      · rcases hz with ⟨rfl, hg3, hz⟩ | ⟨rfl, hno⟩
        · rw [zbr_neg (by omega)]
          refine zbr_i (fun hkc => ?_) (fun hkc => ?_)
          · rw [zlt1_e, w32_eq (by omega) (by omega)]
            exact hPP _ _ ⟨by omega, by omega, Or.inl ⟨rfl, hg3, fun j j0 j1 j2 => hz j j0 (by omega) j2⟩⟩ (by omega)
          · rw [zdR_e hk1 rfl]
            refine zeI_i hkb1.1 k0 (ints_get k0 (by omega)) ?_
            rw [zdR_e hk2 rfl]
            refine zeI_i hkb2.1 k0 (ints_get k0 (by omega)) ?_
            refine zbr_i (fun hd => ?_) (fun hd => ?_)
            · rw [zlt1_e, w32_eq (by omega) (by omega)]
              exact hPP _ _ ⟨by omega, by omega, Or.inr ⟨rfl, fun q => hd (q.2.1 k k0 (by omega) hkc)⟩⟩ (by omega)
            · rw [zlt1_e, w32_eq (by omega) (by omega)]
              refine hPP _ _ ⟨by omega, by omega, Or.inl ⟨rfl, hg3, fun j j0 j1 j2 => ?_⟩⟩ (by omega)
              by_cases hjk : j = k
              · rw [hjk]; exact Decidable.of_not_not hd
              · exact hz j j0 (by omega) j2
        · rw [zbr_pos rfl, zlt1_e, w32_eq (by omega) (by omega)]
          exact hPP _ _ ⟨by omega, by omega, Or.inr ⟨rfl, hno⟩⟩ (by omega)
    · rcases hz with ⟨rfl, hg⟩ | hz
      · exact Or.inl ⟨rfl, hg, fun j j0 j1 => by omega⟩
      · exact Or.inr hz
  refine zbr_i (fun h => ?_) (fun h => ?_)
  · exact main 0 (Or.inr ⟨rfl, fun q => h (grf_none.mpr q.1.1)⟩)
  · rw [zdR_e hk2 rfl]
    refine zbr_i (fun h2 => ?_) (fun h2 => ?_)
    · exact main 0 (Or.inr ⟨rfl, fun q => h2 (grf_none.mpr q.1.2.1)⟩)
    · rw [zdI_e hk1 rfl, zdI_e hk2 rfl]
      refine zbr_i (fun h3 => ?_) (fun h3 => ?_)
      · exact main 0 (Or.inr ⟨rfl, fun q => h3 q.1.2.2⟩)
      · exact main 1 (Or.inl ⟨rfl, grf_none.mp (Decidable.of_not_not h), grf_none.mp (Decidable.of_not_not h2), Decidable.of_not_not h3⟩)
