/-! COMPONENT: the automaton is built -/
set_option maxRecDepth 100000
/-- the codes of a case: from a to b -/
def ImC (D : ZD) (I : Int → Int → Int → Int → Int → Prop) (M : Int → Int) (c a b : Int) : Prop := ∃ m, ImL (fun n p x y => I n p x y b) (cols D c) a m ∧ a ≤ m ∧ (m - a) % 5 = 0 ∧ M m = 6 ∧ M (m + 1) = c ∧ M (m + 4) = b ∧ b = m + 5
/-- the codes of cases, one behind the other -/
def Prg (D : ZD) (I : (Int → Int) → Int → Int → Int → Int → Int → Prop) (M : Int → Int) (L : List Int) (a b : Int) : Prop := ImL (fun c _ a b => ImC D (I M) M c a b) (L.map fun c => (c, 0)) a b
theorem ImC_le {D : ZD} {I : Int → Int → Int → Int → Int → Prop} {M : Int → Int} {c a b : Int} (h : ImC D I M c a b) : a ≤ b ∧ (b - a) % 5 = 0 := by
  obtain ⟨m, _, h1, h2, _, _, _, h3⟩ := h
  omega
theorem csl_take {D : ZD} {i : Int} (i0 : 0 ≤ i) (i1 : i < D 23 0) : (csl D).take (i + 1).toNat = (csl D).take i.toNat ++ [i] := by
  rw [show (i + 1).toNat = i.toNat + 1 by omega]
  have h : (csl D)[i.toNat]? = some i := by
    unfold csl
    rw [List.getElem?_map, List.getElem?_range (by omega)]
    show some ((i.toNat : Nat) : Int) = _
    rw [show ((i.toNat : Nat) : Int) = i by omega]
  rw [List.take_add_one, h]; rfl
theorem ImC_same {D : ZD} {I : (Int → Int) → Int → Int → Int → Int → Int → Prop} {M M' : Int → Int} {c a b : Int} (hle : ∀ M n p a b fl, I M n p a b fl → a ≤ b ∧ (b - a) % 5 = 0) (ich : ∀ n p, Ich (fun M a b fl => I M n p a b fl)) (a0 : 0 ≤ a) (he : ∀ i, a ≤ i → i < b → M' i = M i) (h : ImC D (I M) M c a b) : ImC D (I M') M' c a b := by
  obtain ⟨m, h1, h2, h3, h4, h5, h6, h7⟩ := h
  refine ⟨m, ?_, h2, h3, by rw [he m h2 (by omega), h4], by rw [he _ (by omega) (by omega), h5], by rw [he _ (by omega) (by omega), h6], h7⟩
  exact ImL_ch (lo := a) (hi := m) (fun e _ x y z => hle M e.1 e.2 x y b z) (fun e _ x y z1 z2 z3 z4 => (ich e.1 e.2).same (by omega) (hle M e.1 e.2 x y b z4).2 (fun i i0 i1 => he i (by omega) (by omega)) z4) (Int.le_refl _) (by omega) (Int.le_refl _) h1
theorem ksm_le {g : Int → Nat} {b : Nat} : ∀ {m : Nat}, (∀ i : Nat, i < m → g i ≤ b) → ksm g m ≤ m * b
  | 0, _ => by simp [ksm]
  | m + 1, h => by
    have := ksm_le (m := m) fun i hi => h i (by omega)
    have h2 := h m (by omega)
    show ksm g m + g m ≤ (m + 1) * b
    rw [Nat.succ_mul]; omega
theorem ksm_st {g : Int → Nat} {i : Int} (h : 0 ≤ i) : ksm g (i + 1).toNat = ksm g i.toNat + g i := by
  rw [show (i + 1).toNat = i.toNat + 1 by omega]
  show ksm g i.toNat + g ((i.toNat : Nat) : Int) = _
  rw [show ((i.toNat : Nat) : Int) = i by omega]
def kC (D : ZD) (kw : Int → Nat) (c : Int) : Nat := ksm (fun k => kw (D 24 (3 * c + k))) (D 21 0).toNat + 1
def jC (D : ZD) (jw : Int → Nat) (c : Int) : Nat := ksm (fun k => jw (D 24 (3 * c + k))) (D 21 0).toNat
theorem w5_build {G : ZG} {D : ZD} {I : (Int → Int) → Int → Int → Int → Int → Int → Prop} {kw jw : Int → Nat} {N m : Int} {M : Int → Int} {td pa pf : Nat → Nat} {ka kb : Nat → Nat} {Q : ZG → Prop} (hM : MI D) (hS : Sep G) (hL : Lst G 9 (refs (D 9 0) td)) (hP : CPo G D td pa pf) (hk : CIk G D) (hLc : Lst G 10 (refs (D 23 0) ka)) (hcc : CCo G D ka kb)
    (hle : ∀ M n p a b fl, I M n p a b fl → a ≤ b ∧ (b - a) % 5 = 0) (ich : ∀ n p, Ich (fun M a b fl => I M n p a b fl))
    (hW : ∀ c, 0 ≤ c → c < D 23 0 → ∀ i, 0 ≤ i → i < D 21 0 → Wr G (vX5_write 90 (some (.inl (pa (D 24 (3 * c + i)).toNat))) (i + 1)) (kw (D 24 (3 * c + i))) (jw (D 24 (3 * c + i))) (fun M a b fl => I M (D 24 (3 * c + i)) (i + 1) a b fl))
    (hkw : ∀ n, 0 ≤ n → n < D 9 0 → kw n ≤ 262) (hjw : ∀ n, 0 ≤ n → n < D 9 0 → jw n ≤ 40) (hA : Am G N m M) (hN : gN N)
    (hQ : ∀ G' M' e, Fr [4] G G' → 0 ≤ e → e + 5 ≤ gr N (e + 5) → gN (gr N (e + 5)) → Am G' (gr N (e + 5)) (e + 5) M' → Prg D I M' (csl D) 0 e → M' e = 8 → Q G') :
    zpF G 4 2 1 fun (G1 : ZG) => zpF G1 4 1 0 fun (G2 : ZG) => zl4 (fun (P19 : Int → ZG → Nat → Nat → Prop) (a19_1 : Int) (K19 : ZG) (kc ks : Nat) => vJ2_size 10 K19 fun (x2 : Int) => zbr (x2 ≤ a19_1) (∃ k3 n3 : Nat, (kc + k3 ≤ 1000 ∧ ks + n3 ≤ 70000) ∧ vX5_put 8 0 0 0 k3 n3 K19 fun (x4 : Int) (G3 : ZG) => Q G3) (zgF K19 4 1 fun (x5 : Int) => zl4 (fun (P40 : Int → ZG → Nat → Nat → Prop) (a40_3 : Int) (K40 : ZG) (kc ks : Nat) => zgF K40 0 5 fun (x6 : Int) => zbr (x6 ≤ a40_3) (∃ k7 n7 : Nat, (kc + k7 ≤ 1000 ∧ ks + n7 ≤ 70000) ∧ vX5_put 6 a19_1 0 0 k7 n7 K40 fun (x8 : Int) (G4 : ZG) => zgF G4 4 1 fun (x9 : Int) => vX5_lead x5 x9 G4 fun (G5 : ZG) => zlt1 (w32 (a19_1 + 1)) fun (x10 : Int) => P19 x10 G5 (kc + k7) (ks + n7)) (vJ2_get 10 a19_1 K40 fun (x11 : ZR) => zca K40 x11 16 ∧ zdR K40 x11 16 0 fun (x12 : ZR) => zeI K40 x12 a40_3 fun (x13 : Int) => vX1_told x13 K40 fun (x14 : ZR) => zisO K40 x14 9 ∧ vX9_pattern x14 K40 fun (x16 : ZR) => ∃ k17 n17 : Nat, (kc + k17 ≤ 1000 ∧ ks + n17 ≤ 70000) ∧ vX5_write 90 x16 (w32 (a40_3 + 1)) k17 n17 K40 fun (G6 : ZG) => zlt1 (w32 (a40_3 + 1)) fun (x18 : Int) => P40 x18 G6 (kc + k17) (ks + n17))) 0 K19 kc ks)) 0 G2 0 0 := by
  have m21 : 0 ≤ D 21 0 ∧ D 21 0 ≤ 3 := ⟨hM.2.2.2.2.1.1, hM.2.2.2.2.1.2.1⟩
  have m23 : 0 ≤ D 23 0 ∧ D 23 0 ≤ 8 := ⟨hM.2.2.2.2.1.2.2.2.1, hM.2.2.2.2.1.2.2.2.2.1⟩
  have N2 := gN2 hN
  have hcw : ∀ c, 0 ≤ c → c < D 23 0 → CW D c := fun c h0 h1 => hM.2.2.2.2.1.2.2.2.2.2.2 c h0 h1
  -- bounds
  have bk : ∀ c, 0 ≤ c → c < D 23 0 → kC D kw c ≤ 787 := fun c h0 h1 => by
    have := ksm_le (g := fun k => kw (D 24 (3 * c + k))) (b := 262) (m := (D 21 0).toNat) (fun i hi => by
      have how := (hcw c h0 h1).1 i (by omega) (by omega)
      exact hkw _ how.1 how.2.1)
    have h3 := Nat.mul_le_mul_right 262 (show (D 21 0).toNat ≤ 3 by omega)
    unfold kC; omega
  have bj : ∀ c, 0 ≤ c → c < D 23 0 → jC D jw c ≤ 120 := fun c h0 h1 => by
    have := ksm_le (g := fun k => jw (D 24 (3 * c + k))) (b := 40) (m := (D 21 0).toNat) (fun i hi => by
      have how := (hcw c h0 h1).1 i (by omega) (by omega)
      exact hjw _ how.1 how.2.1)
    have h3 := Nat.mul_le_mul_right 40 (show (D 21 0).toNat ≤ 3 by omega)
    unfold jC; omega
  have tk : ksm (kC D kw) (D 23 0).toNat ≤ 6296 := by
    have := ksm_le (g := kC D kw) (b := 787) (m := (D 23 0).toNat) (fun i hi => bk i (by omega) (by omega))
    have h3 := Nat.mul_le_mul_right 787 (show (D 23 0).toNat ≤ 8 by omega)
    omega
  have tj : ksm (jC D jw) (D 23 0).toNat ≤ 960 := by
    have := ksm_le (g := jC D jw) (b := 120) (m := (D 23 0).toNat) (fun i hi => bj i (by omega) (by omega))
    have h3 := Nat.mul_le_mul_right 120 (show (D 23 0).toNat ≤ 8 by omega)
    omega
  have gc4 : ∀ x, gc N x ≤ 4 := fun x => by unfold gc; repeat' split
                                            all_goals omega
  have gs6 : ∀ x, x ≤ 32000 → gs N x ≤ 60000 := fun x hx => by
    have := gN2 (gr_gN hN hx)
    unfold gs; omega
  rw [zpF_e, zpF_e]
  have f0 : Fr [4] G (zss (zss G 4 2 0 1) 4 1 0 0) := ((Fr.refl [4] hS).ss _ _ _ (by simp) (by omega)).ss _ _ _ (by simp) (by omega)
  have a0 : Am (zss (zss G 4 2 0 1) 4 1 0 0) N 0 M := by
    obtain ⟨a, l, hc, hj, hN', hm, hMM⟩ := hA
    exact ⟨a, l, hc, hj, hN', by rw [zsg_ss, if_pos ⟨rfl, rfl, rfl⟩], hMM⟩
  generalize zss (zss G 4 2 0 1) 4 1 0 0 = G2 at f0 a0
  refine zl4_of (fun c K kc ks => 0 ≤ c ∧ c ≤ D 23 0 ∧ Fr [4] G K ∧ kc = gc N (5 * (ksm (kC D kw) c.toNat : Int)) + ksm (jC D jw) c.toNat ∧ ks = gs N (5 * (ksm (kC D kw) c.toNat : Int)) + 4 * ksm (jC D jw) c.toNat ∧ ∃ M', Am K (gr N (5 * (ksm (kC D kw) c.toNat : Int))) (5 * (ksm (kC D kw) c.toNat : Int)) M' ∧ Prg D I M' ((csl D).take c.toNat) 0 (5 * (ksm (kC D kw) c.toNat : Int))) (fun c _ _ _ => (D 23 0 - c).toNat) (fun P c K kc ks hI hPP => ?_) ⟨by omega, m23.1, f0, ?_, ?_, M, ?_, rfl⟩
  · obtain ⟨c0, c1, f, hkc, hks, M', am, pg⟩ := hI
    have hLK := f.lst ⟨by omega, by omega⟩ (by simp) hLc
    rw [eJ2_size, hLK.1, refs_len, show (((D 23 0).toNat : Nat) : Int) = D 23 0 by omega]
    have lk := ksm_mono (g := kC D kw) (show c.toNat ≤ (D 23 0).toNat by omega)
    have lj := ksm_mono (g := jC D jw) (show c.toNat ≤ (D 23 0).toNat by omega)
    refine zbr_i (fun hi => ?_) (fun hi => ?_)
    · have : c = D 23 0 := by omega
      subst this
      have e : (csl D).take (D 23 0).toNat = csl D := List.take_of_length_le (by unfold csl; rw [List.length_map, List.length_range]; omega)
      rw [e] at pg
      generalize hq : 5 * (ksm (kC D kw) (D 23 0).toNat : Int) = q at *
      have x1 : q ≤ 32000 := by omega
      have x2 : q + 5 ≤ 32000 := by omega
      have cc := gc_gc N2.1 (show q ≤ q + 5 by omega) x2
      have ss := gs_gs N2.1 (show q ≤ q + 5 by omega) x2
      have rr := gr_gr N2.1 (show q ≤ q + 5 by omega) x2
      have g1 := gr_ge N2.1 x1
      have g2 := gr_ge N2.1 x2
      have c4 := gc4 (q + 5)
      have s6 := gs6 (q + 5) x2
      refine ⟨gc (gr N q) (q + 5), gs (gr N q) (q + 5), ⟨by omega, by omega⟩, w5_put hS f am (gr_gN hN x1) (by omega) (by omega) (by omega) (Nat.le_refl _) (Nat.le_refl _) (fun G4 M4 f4 a4 b4 v0 v1 v2 v3 v4 kp4 => ?_)⟩
      rw [rr] at a4
      refine hQ G4 M4 q f4 (by omega) g2.1 (gr_gN hN x2) a4 ?_ v0
      exact ImL_ch (lo := 0) (hi := q) (fun e _ x y z => ImC_le z) (fun e _ x y z1 z2 z3 z4 => ImC_same hle ich (by omega) (fun i i0 i1 => b4 i (by omega)) z4) (Int.le_refl _) (by omega) (Int.le_refl _) pg
    · rw [zgF_e, am.m]
      have hcd : c < D 23 0 := by omega
      have lk1 := ksm_mono (g := kC D kw) (show (c + 1).toNat ≤ (D 23 0).toNat by omega)
      have lj1 := ksm_mono (g := jC D jw) (show (c + 1).toNat ≤ (D 23 0).toNat by omega)
      have ek := ksm_st (g := kC D kw) c0
      have ej := ksm_st (g := jC D jw) c0
      have hcwc := hcw c c0 hcd
      have hkC : kC D kw c = ksm (fun k => kw (D 24 (3 * c + k))) (D 21 0).toNat + 1 := rfl
      have hjC : jC D jw c = ksm (fun k => jw (D 24 (3 * c + k))) (D 21 0).toNat := rfl
      have eq : 5 * (ksm (kC D kw) (c + 1).toNat : Int) = 5 * (ksm (kC D kw) c.toNat : Int) + 5 * (ksm (fun k => kw (D 24 (3 * c + k))) (D 21 0).toNat : Int) + 5 := by rw [ek, hkC]; push_cast; omega
      have lq : 5 * (ksm (kC D kw) (c + 1).toNat : Int) ≤ 31480 := by omega
      have lJ : ksm (jC D jw) (c + 1).toNat ≤ 960 := by omega
      rw [hjC] at ej
      rw [eq] at lq
      rw [ej] at lJ
      clear hkC hjC ek lk1 lj1 lk lj
      have hPP' := hPP
      have hq0 : 0 ≤ 5 * (ksm (kC D kw) c.toNat : Int) := by omega
      have hrow : CRow G D (ka c.toNat) (kb c.toNat) c := by
        have := hcc.2 c.toNat (by omega)
        rw [show ((c.toNat : Nat) : Int) = c by omega] at this
        exact this
      generalize hq : 5 * (ksm (kC D kw) c.toNat : Int) = q at *
      have x1 : q ≤ 32000 := by omega
      refine zl4_of (fun k K2 kc ks => 0 ≤ k ∧ k ≤ D 21 0 ∧ Fr [4] G K2 ∧ kc = gc N (q + 5 * (ksm (fun k => kw (D 24 (3 * c + k))) k.toNat : Int)) + (ksm (jC D jw) c.toNat + ksm (fun k => jw (D 24 (3 * c + k))) k.toNat) ∧ ks = gs N (q + 5 * (ksm (fun k => kw (D 24 (3 * c + k))) k.toNat : Int)) + 4 * (ksm (jC D jw) c.toNat + ksm (fun k => jw (D 24 (3 * c + k))) k.toNat) ∧ ∃ M2, Am K2 (gr N (q + 5 * (ksm (fun k => kw (D 24 (3 * c + k))) k.toNat : Int))) (q + 5 * (ksm (fun k => kw (D 24 (3 * c + k))) k.toNat : Int)) M2 ∧ (∀ i, i < q → M2 i = M' i) ∧ ImL (fun n p x y => I M2 n p x y (-1)) ((cols D c).take k.toNat) q (q + 5 * (ksm (fun k => kw (D 24 (3 * c + k))) k.toNat : Int))) (fun k _ _ _ => (D 21 0 - k).toNat) (fun P2 k K2 kc2 ks2 hI2 hPP2 => ?_) ⟨by omega, m21.1, f, ?_, ?_, M', ?_, fun _ _ => rfl, ?_⟩
      · obtain ⟨k0, k1, f2, hkc2, hks2, M2, am2, lo2, im2⟩ := hI2
        rw [zgF_e, f2.g (by simp), hk.1]
        have uk := ksm_mono (g := fun k => kw (D 24 (3 * c + k))) (show k.toNat ≤ (D 21 0).toNat by omega)
        have uj := ksm_mono (g := fun k => jw (D 24 (3 * c + k))) (show k.toNat ≤ (D 21 0).toNat by omega)
        refine zbr_i (fun hi2 => ?_) (fun hi2 => ?_)
        · have : k = D 21 0 := by omega
          subst this
          have e : (cols D c).take (D 21 0).toNat = cols D c := List.take_of_length_le (by rw [cols_len]; omega)
          rw [e] at im2
          generalize hr : q + 5 * (ksm (fun k => kw (D 24 (3 * c + k))) (D 21 0).toNat : Int) = r at *
          have y1 : r ≤ 32000 := by omega
          have y2 : r + 5 ≤ 32000 := by omega
          have cc := gc_gc N2.1 (show r ≤ r + 5 by omega) y2
          have ss := gs_gs N2.1 (show r ≤ r + 5 by omega) y2
          have rr := gr_gr N2.1 (show r ≤ r + 5 by omega) y2
          have g1 := gr_ge N2.1 y1
          have g2 := gr_ge N2.1 y2
          have c4 := gc4 (r + 5)
          have s6 := gs6 (r + 5) y2
          refine ⟨gc (gr N r) (r + 5), gs (gr N r) (r + 5), ⟨by omega, by omega⟩, w5_put hS f2 am2 (gr_gN hN y1) (by omega) (by omega) (by omega) (Nat.le_refl _) (Nat.le_refl _) (fun G4 M4 f4 a4 b4 v0 v1 v2 v3 v4 kp4 => ?_)⟩
          rw [rr] at a4
          rw [zgF_e, a4.m]
          refine w5_lead f4 a4 hq0 (by omega) (by omega) g2.1 (gN2 (gr_gN hN y2)).2 (fun G5 f5 a5 kp5 => ?_)
          rw [zlt1_e, w32_eq (by omega) (by omega)]
          have chd : Chd M4 (ld M4 q (r + 5) (r + 5)) q (r + 5) (r + 5) := Chd.led (by omega)
          have hld : ∀ i, i < q → ld M4 q (r + 5) (r + 5) i = M4 i := fun i hi => by unfold ld; rw [if_neg (by omega)]
          have w0 := chd r (by omega) (by omega) (by omega)
          have w4 := chd.slot (i := r) (fl := -1) (by omega) (by omega) (by omega) v4 (by omega)
          rw [sg_m] at w4
          have im4 : ImL (fun n p x y => I (ld M4 q (r + 5) (r + 5)) n p x y (r + 5)) (cols D c) q r := by
            refine ImL_ch (lo := q) (hi := r) (fun e _ x y z => hle M2 e.1 e.2 x y (-1) z) (fun e _ x y z1 z2 z3 z4 => ?_) (Int.le_refl _) (by omega) (Int.le_refl _) im2
            have s1 := (ich e.1 e.2).same (M' := M4) (by omega) (hle M2 e.1 e.2 x y (-1) z4).2 (fun i i0 i1 => b4 i (by omega)) z4
            have s2 := ich e.1 e.2 M4 _ q (r + 5) (r + 5) x y (-1) chd (by omega) z1 z2 (by omega) s1
            rw [sg_m] at s2
            exact s2
          generalize ld M4 q (r + 5) (r + 5) = M5 at a5 hld w0 w4 im4
          refine hPP' _ _ _ _ ⟨by omega, by omega, f5, by rw [eq, ej]; omega, by rw [eq, ej]; omega, M5, by rw [eq]; exact a5, ?_⟩ (by omega)
          unfold Prg
          rw [eq, csl_take c0 hcd, List.map_append]
          refine ImL_snoc (x := q) ?_ ⟨r, im4, by omega, by omega, by rw [w0.1, v0], by rw [w0.2.1, v1], w4, rfl⟩
          exact ImL_ch (lo := 0) (hi := q) (fun e _ x y z => ImC_le z) (fun e _ x y z1 z2 z3 z4 => ImC_same hle ich (by omega) (fun i i0 i1 => by rw [hld i (by omega), b4 i (by omega), lo2 i (by omega)]) z4) (Int.le_refl _) (by omega) (Int.le_refl _) pg
        · have hkd : k < D 21 0 := by omega
          have uk1 := ksm_mono (g := fun k => kw (D 24 (3 * c + k))) (show (k + 1).toNat ≤ (D 21 0).toNat by omega)
          have uj1 := ksm_mono (g := fun k => jw (D 24 (3 * c + k))) (show (k + 1).toNat ≤ (D 21 0).toNat by omega)
          have vk := ksm_st (g := fun k => kw (D 24 (3 * c + k))) k0
          have vj := ksm_st (g := fun k => jw (D 24 (3 * c + k))) k0
          obtain ⟨⟨nm0, th0, hk1, -⟩, hkb⟩ := id hrow
          have hkk := f2.2.2.2.2.1 (by simp) _ _ hk1 rfl
          have how := hcwc.1 k k0 hkd
          refine sJ2_get (f2.lst ⟨by omega, by omega⟩ (by simp) hLc) c0 (refs_get c0 hcd) ?_
          refine ⟨zca_i hkk, ?_⟩
          rw [zdR_e hkk rfl]
          refine zeI_i (f2.hk hkb).1 k0 (ints_get k0 hkd) ?_
          refine sX1_told (f2.lst ⟨by omega, by omega⟩ (by simp) hL) (hP.fr f2 (fun _ _ => rfl)) how.1 how.2.1 (fun htl => ⟨zisO_i htl.1, ?_⟩)
          rw [Tl.pat htl, w32_eq (by omega) (by omega)]
          have hWk := hW c c0 hcd k k0 hkd
          have e1 : q + 5 * (ksm (fun k => kw (D 24 (3 * c + k))) (k + 1).toNat : Int) = q + 5 * (ksm (fun k => kw (D 24 (3 * c + k))) k.toNat : Int) + 5 * (kw (D 24 (3 * c + k)) : Int) := by rw [vk]; push_cast; omega
          have z1 : q + 5 * (ksm (fun k => kw (D 24 (3 * c + k))) (k + 1).toNat : Int) ≤ 32000 := by omega
          rw [e1] at z1
          have z2 : ksm (jC D jw) c.toNat + ksm (fun k => jw (D 24 (3 * c + k))) (k + 1).toNat ≤ 960 := by omega
          rw [vj] at z2
          have hPP3 := hPP2
          generalize hr : q + 5 * (ksm (fun k => kw (D 24 (3 * c + k))) k.toNat : Int) = r at *
          have y0 : q ≤ r := by omega
          have y1 : r ≤ 32000 := by omega
          have cc := gc_gc N2.1 (show r ≤ r + 5 * (kw (D 24 (3 * c + k)) : Int) by omega) z1
          have ss := gs_gs N2.1 (show r ≤ r + 5 * (kw (D 24 (3 * c + k)) : Int) by omega) z1
          have rr := gr_gr N2.1 (show r ≤ r + 5 * (kw (D 24 (3 * c + k)) : Int) by omega) z1
          have g1 := gr_ge N2.1 y1
          have c4 := gc4 (r + 5 * (kw (D 24 (3 * c + k)) : Int))
          have s6 := gs6 (r + 5 * (kw (D 24 (3 * c + k)) : Int)) z1
          refine ⟨gc (gr N r) (r + 5 * (kw (D 24 (3 * c + k)) : Int)) + jw (D 24 (3 * c + k)), gs (gr N r) (r + 5 * (kw (D 24 (3 * c + k)) : Int)) + 4 * jw (D 24 (3 * c + k)), ⟨by omega, by omega⟩, ?_⟩
          refine hWk K2 (gr N r) r M2 _ _ _ f2 am2 (gr_gN hN y1) (by omega) (by omega) z1 (Nat.le_refl _) (Nat.le_refl _) (fun G4 M4 f4 a4 b4 im4 kp4 => ?_)
          rw [rr] at a4
          rw [zlt1_e]
          refine hPP3 _ _ _ _ ⟨by omega, by omega, f4, by rw [e1, vj]; omega, by rw [e1, vj]; omega, M4, by rw [e1]; exact a4, fun i hi => by rw [b4 i (by omega), lo2 i hi], ?_⟩ (by omega)
          have tk2 : (cols D c).take (k + 1).toNat = (cols D c).take k.toNat ++ [(D 24 (3 * c + k), k + 1)] := by
            rw [cols_p, prow_take k0 hkd, show 5 * 0 + 0 + k + 1 = k + 1 by omega]
          rw [e1, tk2]
          refine ImL_snoc ?_ im4
          exact ImL_ch (lo := q) (hi := r) (fun e _ x y z => hle M2 e.1 e.2 x y (-1) z) (fun e _ x y w1 w2 w3 w4 => (ich e.1 e.2).same (by omega) (hle M2 e.1 e.2 x y (-1) w4).2 (fun i i0 i1 => b4 i (by omega)) w4) (Int.le_refl _) (by omega) (Int.le_refl _) im2
      · show kc = gc N (q + 5 * ((0 : Nat) : Int)) + (ksm (jC D jw) c.toNat + 0)
        rw [show q + 5 * ((0 : Nat) : Int) = q by omega]; exact hkc
      · show ks = gs N (q + 5 * ((0 : Nat) : Int)) + 4 * (ksm (jC D jw) c.toNat + 0)
        rw [show q + 5 * ((0 : Nat) : Int) = q by omega]; exact hks
      · show Am K (gr N (q + 5 * ((0 : Nat) : Int))) (q + 5 * ((0 : Nat) : Int)) M'
        rw [show q + 5 * ((0 : Nat) : Int) = q by omega]; exact am
      · show q = q + 5 * ((0 : Nat) : Int)
        omega
  · show 0 = gc N (5 * ((0 : Nat) : Int)) + 0
    unfold gc; rw [if_pos (by omega)]
  · show 0 = gs N (5 * ((0 : Nat) : Int)) + 4 * 0
    unfold gs gr; rw [if_pos (by omega)]; omega
  · show Am G2 (gr N (5 * ((0 : Nat) : Int))) (5 * ((0 : Nat) : Int)) M
    unfold gr; rw [if_pos (by omega)]; exact a0
