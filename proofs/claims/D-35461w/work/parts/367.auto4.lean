/-! COMPONENT: codes are written: alternatives, what a view gave -/
set_option maxRecDepth 100000
theorem gc_le {N x y : Int} (h0 : 2000 ≤ N) (hxy : x ≤ y) (hy : y ≤ 32000) : gc N x ≤ gc N y := by have := gc_gc h0 hxy hy; omega
theorem gs_le {N x y : Int} (h0 : 2000 ≤ N) (hxy : x ≤ y) (hy : y ≤ 32000) : gs N x ≤ gs N y := by have := gs_gs h0 hxy hy; omega
theorem gN2 {N : Int} (h : gN N) : 2000 ≤ N ∧ N ≤ 32000 := by unfold gN at h; omega
theorem sg_same {fl : Int} : sg fl (-1) = fl := by unfold sg; split <;> omega
/-- k codes are written from m on: as I tells, with the arrays that they need -/
def Wr (G0 : ZG) (W : Nat → Nat → ZG → (ZG → Prop) → Prop) (k j : Nat) (I : (Int → Int) → Int → Int → Int → Prop) : Prop :=
  ∀ (G : ZG) (N m : Int) (M : Int → Int) (mc ms : Nat) (Q : ZG → Prop), Fr [4] G0 G → Am G N m M → gN N → 0 ≤ m → m ≤ N → m + 5 * (k : Int) ≤ 32000 → gc N (m + 5 * (k : Int)) + j ≤ mc → gs N (m + 5 * (k : Int)) + 4 * j ≤ ms →
    (∀ G' M', Fr [4] G0 G' → Am G' (gr N (m + 5 * (k : Int))) (m + 5 * (k : Int)) M' → (∀ i, i < m → M' i = M i) → I M' m (m + 5 * (k : Int)) (-1) → Kp G G' → Q G') → W mc ms G Q
/-- what is told of codes stays where other codes are written or led -/
def Ich (I : (Int → Int) → Int → Int → Int → Prop) : Prop := ∀ (M M' : Int → Int) (lo hi t a b fl : Int), Chd M M' lo hi t → 0 ≤ a → lo ≤ a → (a - lo) % 5 = 0 → b ≤ hi → I M a b fl → I M' a b (sg fl t)
theorem Ich.same {I : (Int → Int) → Int → Int → Int → Prop} (h : Ich I) {M M' : Int → Int} {a b fl : Int} (a0 : 0 ≤ a) (h5 : (b - a) % 5 = 0) (e : ∀ i, a ≤ i → i < b → M' i = M i) (hI : I M a b fl) : I M' a b fl := by
  have := h M M' a b (-1) a b fl (Chd.same e h5) a0 (Int.le_refl _) (by omega) (Int.le_refl _) hI
  rw [sg_same] at this
  exact this
def txtOr (W : ZR → Nat → Nat → ZG → (ZG → Prop) → Prop) (p0 : ZR) (mc ms : Nat) (G : ZG) (Q : ZG → Prop) : Prop := zgF G 4 1 fun (x15 : Int) => zisO G p0 13 ∧ vX13_first p0 G fun (x17 : ZR) => ∃ k18 n18 : Nat, (0 + k18 ≤ mc ∧ 0 + n18 ≤ ms) ∧ W x17 k18 n18 G fun (G4 : ZG) => ∃ k19 n19 : Nat, ((0 + k18) + k19 ≤ mc ∧ (0 + n18) + n19 ≤ ms) ∧ vX5_put 5 0 0 0 k19 n19 G4 fun (x20 : Int) (G5 : ZG) => zgF G5 4 1 fun (x21 : Int) => vX5_lead x15 x21 G5 fun (G6 : ZG) => zisO G6 p0 13 ∧ vX13_second p0 G6 fun (x23 : ZR) => ∃ k24 n24 : Nat, (((0 + k18) + k19) + k24 ≤ mc ∧ ((0 + n18) + n19) + n24 ≤ ms) ∧ W x23 k24 n24 G6 fun (G7 : ZG) => zgU G7 4 0 fun (x25 : ZR) => zgF G7 4 1 fun (x26 : Int) => zeS G7 x25 (w32 (x20 + 4)) x26 fun (G8 : ZG) => Q G8
def ImO (I1 I2 : (Int → Int) → Int → Int → Int → Prop) (M : Int → Int) (a b fl : Int) : Prop := ∃ m, I1 M a m (m + 5) ∧ a ≤ m ∧ M m = 5 ∧ M (m + 4) = b ∧ I2 M (m + 5) b fl
theorem w5_or {G0 : ZG} {W : ZR → Nat → Nat → ZG → (ZG → Prop) → Prop} {a x y : Nat} {k1 k2 j1 j2 : Nat} {I1 I2 : (Int → Int) → Int → Int → Int → Prop} (hS : Sep G0) (hc0 : HI G0 a (.inr (.inr (13, [.inr (some (.inl x)), .inr (some (.inl y))])))) (i1 : Ich I1) (i2 : Ich I2)
    (h1 : Wr G0 (W (some (.inl x))) k1 j1 I1) (h2 : Wr G0 (W (some (.inl y))) k2 j2 I2) : Wr G0 (txtOr W (some (.inl a))) (k1 + 1 + k2) (j1 + j2) (ImO I1 I2) := by
  intro G N m M mc ms Q hF hA hN m0 m1 m2 hmc hms hQ
  have N2 := gN2 hN
  have ek : m + 5 * ((k1 + 1 + k2 : Nat) : Int) = m + 5 * (k1 : Int) + 5 + 5 * (k2 : Int) := by push_cast; omega
  rw [ek] at m2 hmc hms hQ
  generalize hm1 : m + 5 * (k1 : Int) = q1 at *
  generalize hm2 : q1 + 5 + 5 * (k2 : Int) = q2 at *
  have g1 := gr_ge N2.1 (show q1 ≤ 32000 by omega)
  have g2 := gr_ge N2.1 (show q1 + 5 ≤ 32000 by omega)
  have g3 := gr_ge N2.1 (show q2 ≤ 32000 by omega)
  have c1 := gc_gc N2.1 (show q1 ≤ q1 + 5 by omega) (by omega)
  have c2 := gc_gc N2.1 (show q1 + 5 ≤ q2 by omega) (by omega)
  have s1 := gs_gs N2.1 (show q1 ≤ q1 + 5 by omega) (by omega)
  have s2 := gs_gs N2.1 (show q1 + 5 ≤ q2 by omega) (by omega)
  have r1 := gr_gr N2.1 (show q1 ≤ q1 + 5 by omega) (by omega)
  have r2 := gr_gr N2.1 (show q1 + 5 ≤ q2 by omega) (by omega)
  have hc := (hF.hk hc0).1
  unfold txtOr
  rw [zgF_e, hA.m]
  refine ⟨zisO_i hc, ?_⟩
  unfold vX13_first
  rw [zdR_e hc rfl]
  refine ⟨gc N q1 + j1, gs N q1 + 4 * j1, ⟨by omega, by omega⟩, ?_⟩
  refine h1 G N m M _ _ _ hF hA hN m0 m1 (by omega) (by rw [hm1]; omega) (by rw [hm1]; omega) (fun G1 M1 f1 a1 b1 w1 kp1 => ?_)
  rw [hm1] at a1 w1
  refine ⟨gc (gr N q1) (q1 + 5), gs (gr N q1) (q1 + 5), ⟨by omega, by omega⟩, ?_⟩
  refine w5_put hS f1 a1 (gr_gN hN (by omega)) (by omega) (by omega) (by omega) (Nat.le_refl _) (Nat.le_refl _) (fun G2 M2 f2 a2 b2 v0 _ _ _ _ kp2 => ?_)
  rw [r1] at a2
  rw [zgF_e, a2.m]
  refine w5_lead f2 a2 m0 (by omega) (by omega) (by omega) (gN2 (gr_gN hN (show q1 + 5 ≤ 32000 by omega))).2 (fun G3 f3 a3 kp3 => ?_)
  have hld : ∀ i, i < m → ld M2 m (q1 + 5) (q1 + 5) i = M2 i := fun i hi => by unfold ld; rw [if_neg (by omega)]
  have hld1 : ld M2 m (q1 + 5) (q1 + 5) q1 = 5 := by unfold ld; rw [if_neg (by omega), v0]
  have chl : Chd M2 (ld M2 m (q1 + 5) (q1 + 5)) m (q1 + 5) (q1 + 5) := Chd.led (by omega)
  have w2 : I1 M2 m q1 (-1) := i1.same m0 (by omega) (fun i _ hi => b2 i hi) w1
  have w3 := i1 M2 _ m (q1 + 5) (q1 + 5) m q1 (-1) chl m0 (Int.le_refl _) (by omega) (by omega) w2
  rw [sg_m] at w3
  generalize ld M2 m (q1 + 5) (q1 + 5) = M3 at a3 hld hld1 w3
  have hc3 := (f3.hk hc0).1
  refine ⟨zisO_i hc3, ?_⟩
  unfold vX13_second
  rw [zdR_e hc3 rfl]
  refine ⟨gc (gr N (q1 + 5)) q2 + j2, gs (gr N (q1 + 5)) q2 + 4 * j2, ⟨by omega, by omega⟩, ?_⟩
  refine h2 G3 (gr N (q1 + 5)) (q1 + 5) M3 _ _ _ f3 a3 (gr_gN hN (by omega)) (by omega) (by omega) (by omega) (by rw [hm2]; omega) (by rw [hm2]; omega) (fun G4 M4 f4 a4 b4 w4 kp4 => ?_)
  rw [hm2, r2] at a4
  rw [hm2] at w4
  rw [zgU_e, zgF_e, a4.m, w32_eq (x := q1 + 4) (by omega) (by omega)]
  refine a4.set f4 (by omega) (by omega) _ (fun G5 f5 a5 kp5 => ?_)
  refine hQ G5 _ f5 a5 (fun i hi => ?_) ⟨q1, ?_, by omega, ?_, if_pos rfl, ?_⟩ ((((kp1.trans kp2).trans kp3).trans kp4).trans kp5)
  · rw [if_neg (by omega), b4 i (by omega), hld i hi, b2 i (by omega), b1 i hi]
  · exact i1.same m0 (by omega) (fun i q0 hi => by rw [if_neg (by omega), b4 i (by omega)]) w3
  · dsimp only
    rw [if_neg (by omega), b4 q1 (by omega), hld1]
  · exact i2.same (by omega) (by omega) (fun i q0 hi => by rw [if_neg (by omega)]) w4
def kG (D : ZD) : Nat → Int → Nat
  | 0, _ => 0
  | f + 1, n => if D 10 n = 4 then kG D f (prt D n 0) + 1 + kG D f (prt D n 1) else if D 10 n = 2 then 1 else 0
theorem kG_s (D : ZD) (f : Nat) (n : Int) : kG D (f + 1) n = if D 10 n = 4 then kG D f (prt D n 0) + 1 + kG D f (prt D n 1) else if D 10 n = 2 then 1 else 0 := rfl
theorem ImG_s {D : ZD} {M : Int → Int} {f : Nat} {n a b fl : Int} : ImG D M (f + 1) n a b fl = (if D 10 n = 4 then ∃ m, ImG D M f (prt D n 0) a m (m + 5) ∧ a ≤ m ∧ M m = 5 ∧ M (m + 4) = b ∧ ImG D M f (prt D n 1) (m + 5) b fl
    else if D 10 n = 2 then M a = 4 ∧ M (a + 1) = D 11 n ∧ M (a + 2) = D 12 n ∧ M (a + 4) = fl ∧ b = a + 5 else b = a) := rfl
theorem ImG_ich {D : ZD} {f : Nat} {n : Int} : Ich (fun M a b fl => ImG D M f n a b fl) := fun M M' lo hi t a b fl hC a0 ha h5 hb h => ImG_ch hC a0 ha h5 hb h
/-- one code -/
theorem w5_put1 {G0 : ZG} (hS : Sep G0) {p0 p1 p2 p3 : Int} {G : ZG} {N m : Int} {M : Int → Int} {mc ms : Nat} {Q : Int → ZG → Prop} (hF : Fr [4] G0 G) (hA : Am G N m M) (hN : gN N) (m0 : 0 ≤ m) (m1 : m ≤ N) (m2 : m + 5 ≤ 32000) (hmc : gc N (m + 5) ≤ mc) (hms : gs N (m + 5) ≤ ms)
    (hQ : ∀ G' M', Fr [4] G0 G' → Am G' (gr N (m + 5)) (m + 5) M' → (∀ i, i < m → M' i = M i) → M' m = p0 → M' (m + 1) = p1 → M' (m + 2) = p2 → M' (m + 3) = p3 → M' (m + 4) = -1 → Kp G G' → Q m G') : vX5_put p0 p1 p2 p3 mc ms G Q := w5_put hS hF hA hN m0 m1 m2 hmc hms hQ
theorem w5_given {G0 : ZG} {D : ZD} {td pa pf : Nat → Nat} (hM : MIp D) (hS : Sep G0) (hP : CPo G0 D td pa pf) : ∀ (f : Nat) (n : Int) (dd : Nat), 0 ≤ n → n < D 9 0 → D 19 n = 1 → D 16 n ≤ f → f ≤ dd → Wr G0 (vX5_writeGiven dd (some (.inl (pa n.toNat)))) (kG D f n) 0 (fun M a b fl => ImG D M f n a b fl) := by
  intro f
  induction f with
  | zero =>
    intro n dd h0 h1 hb hs
    have := (hM.2.2 n h0 h1).2.2.2.1
    omega
  | succ f ih =>
    intro n dd h0 h1 hb hs hdd G N m M mc ms Q hF hA hN m0 m1 m2 hmc hms hQ
    obtain ⟨dd, rfl⟩ : ∃ d', dd = d' + 1 := ⟨dd - 1, by omega⟩
    have hpw := hM.2.2 n h0 h1
    have en : ((n.toNat : Nat) : Int) = n := by omega
    have hc0 := (hP.2 n.toNat (by omega)).2.1
    have hc := hF.hk hc0
    have hform := bare_f hpw hb
    have hk := kG_s D f n
    rw [hk] at m2 hmc hms hQ
    rw [vX5_writeGiven_s]
    unfold bX5_writeGiven
    refine pcell_k (f := 2) (by rw [en]; exact hpw) hc (by omega) ?_
    rw [en]
    dsimp only [zjn]
    by_cases h2 : D 10 n = 2
    · rw [if_neg (by omega), if_pos h2] at m2 hmc hms hQ
      rw [show m + 5 * ((1 : Nat) : Int) = m + 5 by omega] at m2 hmc hms hQ
      rw [zbr_bbt (decide_eq_true h2)]
      rw [pcell2 (by rw [en]; exact h2), en] at hc
      refine ⟨zca_i hc.1, zisO_i hc.1, ?_⟩
      unfold vX11_from
      rw [zdI_e hc.1 rfl]
      refine ⟨zisO_i hc.1, ?_⟩
      unfold vX11_to
      rw [zdI_e hc.1 rfl]
      refine ⟨gc N (m + 5), gs N (m + 5), ⟨by omega, by omega⟩, w5_put hS hF hA hN m0 m1 (by omega) (Nat.le_refl _) (Nat.le_refl _) (fun G' M' f' a' b' v0 v1 v2 v3 v4 kp => ?_)⟩
      refine hQ G' M' f' a' b' ?_ kp
      dsimp only
      rw [ImG_s, if_neg (by omega), if_pos h2]
      exact ⟨v0, v1, v2, v4, rfl⟩
    · rw [zbr_bbf (decide_eq_false h2)]
      refine pcell_k (f := 4) (by rw [en]; exact hpw) hc (by omega) ?_
      rw [en]
      by_cases h4 : D 10 n = 4
      · rw [if_pos h4] at m2 hmc hms hQ
        rw [zbr_bbt (decide_eq_true h4)]
        rw [cls13 (by rw [en]; exact h4), en] at hc hc0
        have c1 := hpw.2.2.2.2.2.2.2.2.2.2.2.2.2.2.2.1 h4
        have b01 := c1.2.2.2.2.2.2 hb
        have q0 := pch hM h0 h1 (k := 0) (by omega) (by omega) (by omega)
        have q1 := pch hM h0 h1 (k := 1) (by omega) (by omega) (by omega)
        refine ⟨zca_i hc.1, ?_⟩
        have key := w5_or (W := fun x k n G Q => vX5_writeGiven dd x k n G Q) (j1 := 0) (j2 := 0) hS hc0 ImG_ich ImG_ich (ih _ dd q0.1 q0.2.1 b01.1 (by omega) (by omega)) (ih _ dd q1.1 q1.2.1 b01.2 (by omega) (by omega))
        refine key G N m M mc ms Q hF hA hN m0 m1 m2 hmc hms (fun G' M' f' a' b' w kp => hQ G' M' f' a' b' ?_ kp)
        dsimp only
        rw [ImG_s, if_pos h4]
        exact w
      · rw [if_neg h4, if_neg h2] at m2 hmc hms hQ
        rw [zbr_bbf (decide_eq_false h4)]
        rw [show m + 5 * ((0 : Nat) : Int) = m by omega] at hQ
        have e : gr N m = N := by unfold gr; rw [if_pos m1]
        rw [e] at hQ
        refine hQ G M hF hA (fun _ _ => rfl) ?_ (Kp.refl G)
        dsimp only
        rw [ImG_s, if_neg h4, if_neg h2]
