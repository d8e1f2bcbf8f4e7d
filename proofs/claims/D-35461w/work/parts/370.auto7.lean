/-! COMPONENT: codes of a pattern are written -/
set_option maxRecDepth 100000
/-- how many codes a pattern has, how many arrays they need -/
def kW (D : ZD) : Nat → Int → Nat
  | 0, _ => 0
  | f + 1, n => if D 10 n = 1 then kW D f (prt D n 0) else if D 10 n = 2 then 1 else if D 10 n = 3 then 1 + ((chl D n).map (kW D f)).sum else if D 10 n = 4 then kW D f (prt D n 0) + 1 + kW D f (prt D n 1) else if D 10 n = 5 then 1 + kG D 40 (prt D n 0)
    else if D 10 n = 6 then 1 + (if D 12 n = 2 then (4 - D 11 n).toNat * (2 + ((chl D n).map (kW D f)).sum) else ((chl D n).map (kW D f)).sum) else 0
def jW (D : ZD) : Nat → Int → Nat
  | 0, _ => 0
  | f + 1, n => if D 10 n = 1 then jW D f (prt D n 0) else if D 10 n = 2 then 0 else if D 10 n = 3 then ((chl D n).map (jW D f)).sum else if D 10 n = 4 then jW D f (prt D n 0) + jW D f (prt D n 1) else if D 10 n = 5 then 0
    else if D 10 n = 6 then (if D 12 n = 2 then 1 + (4 - D 11 n).toNat * ((chl D n).map (jW D f)).sum else ((chl D n).map (jW D f)).sum) else 0
theorem kW_s (D : ZD) (f : Nat) (n : Int) : kW D (f + 1) n = if D 10 n = 1 then kW D f (prt D n 0) else if D 10 n = 2 then 1 else if D 10 n = 3 then 1 + ((chl D n).map (kW D f)).sum else if D 10 n = 4 then kW D f (prt D n 0) + 1 + kW D f (prt D n 1) else if D 10 n = 5 then 1 + kG D 40 (prt D n 0)
    else if D 10 n = 6 then 1 + (if D 12 n = 2 then (4 - D 11 n).toNat * (2 + ((chl D n).map (kW D f)).sum) else ((chl D n).map (kW D f)).sum) else 0 := rfl
theorem jW_s (D : ZD) (f : Nat) (n : Int) : jW D (f + 1) n = if D 10 n = 1 then jW D f (prt D n 0) else if D 10 n = 2 then 0 else if D 10 n = 3 then ((chl D n).map (jW D f)).sum else if D 10 n = 4 then jW D f (prt D n 0) + jW D f (prt D n 1) else if D 10 n = 5 then 0
    else if D 10 n = 6 then (if D 12 n = 2 then 1 + (4 - D 11 n).toNat * ((chl D n).map (jW D f)).sum else ((chl D n).map (jW D f)).sum) else 0 := rfl
theorem Imp_s {D : ZD} {M : Int → Int} {f : Nat} {n p a b fl : Int} : Imp D M (f + 1) n p a b fl = (if D 10 n = 1 then Imp D M f (prt D n 0) p a b fl
    else if D 10 n = 2 then M a = 0 ∧ M (a + 1) = p ∧ M (a + 2) = D 11 n ∧ M (a + 3) = D 12 n ∧ M (a + 4) = fl ∧ b = a + 5
    else if D 10 n = 3 then M a = 1 ∧ M (a + 1) = p ∧ M (a + 2) = D 11 n % 4 ∧ M (a + 4) = fl ∧ ImL (fun n p a b => Imp D M f n p a b fl) (chs D n p 0) (a + 5) b
    else if D 10 n = 4 then ∃ m, Imp D M f (prt D n 0) p a m (m + 5) ∧ a ≤ m ∧ M m = 5 ∧ M (m + 4) = b ∧ Imp D M f (prt D n 1) p (m + 5) b fl
    else if D 10 n = 5 then M a = 3 ∧ M (a + 1) = D 11 n ∧ M (a + 2) = p ∧ ImG D M 40 (prt D n 0) (a + 5) b fl
    else if D 10 n = 6 then M a = 2 ∧ M (a + 1) = p ∧ M (a + 2) = D 11 n ∧ M (a + 3) = (if D 12 n = 0 then D 11 n else 3) ∧ M (a + 4) = fl ∧
      (if D 12 n = 2 then ImB D M (fun n p a b => Imp D M f n p a b fl) n p b (4 - D 11 n).toNat (a + 5) else ImL (fun n p a b => Imp D M f n p a b fl) (chs D n p 0) (a + 5) b)
    else b = a) := rfl
theorem Imp_ich {D : ZD} {f : Nat} {n p : Int} : Ich (fun M a b fl => Imp D M f n p a b fl) := fun M M' lo hi t a b fl hC a0 ha h5 hb h => Imp_ch hC a0 ha h5 hb h
theorem Wr.eq {G0 : ZG} {W W' : Nat → Nat → ZG → (ZG → Prop) → Prop} {k k' j j' : Nat} {I I' : (Int → Int) → Int → Int → Int → Prop} (h : Wr G0 W k j I) (hW : ∀ mc ms G Q, Fr [4] G0 G → W mc ms G Q → W' mc ms G Q) (ek : k' = k) (ej : j' = j) (hI : ∀ M a b fl, I M a b fl → I' M a b fl) : Wr G0 W' k' j' I' := by
  subst ek ej
  intro G N m M mc ms Q hF hA hN m0 m1 m2 hmc hms hQ
  exact hW _ _ _ _ hF (h G N m M mc ms Q hF hA hN m0 m1 m2 hmc hms (fun G' M' f' a' b' im kp => hQ G' M' f' a' b' (hI _ _ _ _ im) kp))
/-- nothing is written -/
theorem Wr.nil {G0 : ZG} {W : Nat → Nat → ZG → (ZG → Prop) → Prop} {I : (Int → Int) → Int → Int → Int → Prop} (hW : ∀ mc ms G Q, Fr [4] G0 G → Q G → W mc ms G Q) (hI : ∀ M a fl, I M a a fl) : Wr G0 W 0 0 I := by
  intro G N m M mc ms Q hF hA hN m0 m1 m2 hmc hms hQ
  refine hW _ _ _ _ hF ?_
  rw [show m + 5 * ((0 : Nat) : Int) = m by omega] at hQ
  have e : gr N m = N := by unfold gr; rw [if_pos m1]
  rw [e] at hQ
  exact hQ G M hF hA (fun _ _ => rfl) (hI M m (-1)) (Kp.refl G)
/-- one code is written -/
theorem Wr.one {G0 : ZG} {W : Nat → Nat → ZG → (ZG → Prop) → Prop} {I : (Int → Int) → Int → Int → Int → Prop} {p0 p1 p2 p3 : Int} (hS : Sep G0) (hW : ∀ mc ms G Q, Fr [4] G0 G → (∀ mc' ms', mc' ≤ mc → ms' ≤ ms → vX5_put p0 p1 p2 p3 mc' ms' G (fun _ G' => Q G') → W mc ms G Q))
    (hI : ∀ M a fl, M a = p0 → M (a + 1) = p1 → M (a + 2) = p2 → M (a + 3) = p3 → M (a + 4) = fl → I M a (a + 5) fl) : Wr G0 W 1 0 I := by
  intro G N m M mc ms Q hF hA hN m0 m1 m2 hmc hms hQ
  rw [show m + 5 * ((1 : Nat) : Int) = m + 5 by omega] at m2 hmc hms hQ
  refine hW mc ms G Q hF (gc N (m + 5)) (gs N (m + 5)) (by omega) (by omega) ?_
  exact w5_put hS hF hA hN m0 m1 (by omega) (Nat.le_refl _) (Nat.le_refl _) (fun G' M' f' a' b' v0 v1 v2 v3 v4 kp => hQ G' M' f' a' b' (hI _ _ _ v0 v1 v2 v3 v4) kp)
/-- one code, then others -/
theorem Wr.cons {G0 : ZG} {W W2 : Nat → Nat → ZG → (ZG → Prop) → Prop} {k j : Nat} {I I2 : (Int → Int) → Int → Int → Int → Prop} {p0 p1 p2 p3 : Int} (hS : Sep G0) (h2 : Wr G0 W2 k j I2)
    (hW : ∀ mc ms G Q, Fr [4] G0 G → ∃ Q1 : Nat → Nat → Int → ZG → Prop, ((∃ k29 n29 : Nat, (0 + k29 ≤ mc ∧ 0 + n29 ≤ ms) ∧ vX5_put p0 p1 p2 p3 k29 n29 G (Q1 k29 n29)) → W mc ms G Q) ∧ ∀ k29 n29 x G9, Fr [4] G0 G9 → (∃ k33 n33 : Nat, ((0 + k29) + k33 ≤ mc ∧ (0 + n29) + n33 ≤ ms) ∧ W2 k33 n33 G9 Q) → Q1 k29 n29 x G9)
    (hI : ∀ M a b, M a = p0 → M (a + 1) = p1 → M (a + 2) = p2 → M (a + 3) = p3 → M (a + 4) = -1 → I2 M (a + 5) b (-1) → I M a b (-1)) : Wr G0 W (1 + k) j I := by
  intro G N m M mc ms Q hF hA hN m0 m1 m2 hmc hms hQ
  have N2 := gN2 hN
  have ek : m + 5 + 5 * (k : Int) = m + 5 * ((1 + k : Nat) : Int) := by push_cast; omega
  have e5 : m + 5 ≤ m + 5 * ((1 + k : Nat) : Int) := by omega
  have cc := gc_gc N2.1 e5 m2
  have ss := gs_gs N2.1 e5 m2
  have rr := gr_gr N2.1 e5 m2
  have g1 := gr_ge N2.1 (show m + 5 ≤ 32000 by omega)
  obtain ⟨Q1, hW1, hW2⟩ := hW mc ms G Q hF
  refine hW1 ⟨gc N (m + 5), gs N (m + 5), ⟨by omega, by omega⟩, w5_put hS hF hA hN m0 m1 (by omega) (Nat.le_refl _) (Nat.le_refl _) (fun G1 M1 f1 a1 b1 v0 v1 v2 v3 v4 kp1 => hW2 _ _ _ _ f1 ?_)⟩
  refine ⟨gc (gr N (m + 5)) (m + 5 * ((1 + k : Nat) : Int)) + j, gs (gr N (m + 5)) (m + 5 * ((1 + k : Nat) : Int)) + 4 * j, ⟨by omega, by omega⟩, ?_⟩
  refine h2 G1 (gr N (m + 5)) (m + 5) M1 _ _ _ f1 a1 (gr_gN hN (by omega)) (by omega) (by omega) (by omega) (by rw [ek]; omega) (by rw [ek]; omega) (fun G' M' f' a' b' im kp => ?_)
  rw [ek, rr] at a'
  rw [ek] at im
  exact hQ G' M' f' a' (fun i hi => by rw [b' i (by omega), b1 i hi]) (hI _ _ _ (by rw [b' _ (by omega), v0]) (by rw [b' _ (by omega), v1]) (by rw [b' _ (by omega), v2]) (by rw [b' _ (by omega), v3]) (by rw [b' _ (by omega), v4]) im) (kp1.trans kp)
theorem w5_write {G0 : ZG} {D : ZD} {td pa pf : Nat → Nat} (hM : MI D) (hS : Sep G0) (hP : CPo G0 D td pa pf) : ∀ (f : Nat) (n p : Int) (d dd : Nat), 0 ≤ n → n < D 9 0 → D 16 n ≤ f → p ∈ pl d → (d : Int) + D 15 n ≤ 4 → (fitk D n 4 ∧ f ≤ dd) ∨ 2 * f + 1 ≤ dd → Wr G0 (vX5_write dd (some (.inl (pa n.toNat))) p) (kW D f n) (jW D f n) (fun M a b fl => Imp D M f n p a b fl) := by
  intro f
  induction f with
  | zero =>
    intro n p d dd h0 h1 hs
    have := (hM.2.2.1.2.2 n h0 h1).2.2.2.1
    omega
  | succ f ih =>
    intro n p d dd h0 h1 hsz hp hdp hdd
    obtain ⟨dd, rfl⟩ : ∃ d', dd = d' + 1 := ⟨dd - 1, by omega⟩
    have hpw := hM.2.2.1.2.2 n h0 h1
    have m15 := hpw.2.2.1
    have hd3 : d ≤ 3 := by omega
    have hpr := apl_r p (pl_apl hd3 hp)
    have en : ((n.toNat : Nat) : Int) = n := by omega
    have hc0 := (hP.2 n.toNat (by omega)).2.1
    have hfa := (hP.2 n.toNat (by omega)).2.2
    rw [en] at hfa
    obtain ⟨hform, -, -, -, -, -, -, -, -, -, -, f0, f1, f2, f3, f4, f5, f6⟩ := id hpw
    have kS := kW_s D f n
    have jS := jW_s D f n
    generalize kW D (f + 1) n = kk at kS
    generalize jW D (f + 1) n = jj at jS
    -- the form chosen
    have pick : ∀ (c : Nat) (fm : Int), ((c = 10 ∧ fm = 1) ∨ (c = 11 ∧ fm = 2) ∨ (c = 12 ∧ fm = 3) ∨ (c = 13 ∧ fm = 4) ∨ (c = 14 ∧ fm = 5) ∨ (c = 15 ∧ fm = 6)) → ∀ (G : ZG) (A B : Prop), Fr [4] G0 G → (D 10 n = fm → B) → (D 10 n ≠ fm → A) → ziO G (some (.inl (pa n.toNat))) c fun x1 => zbr (x1 = 0) A B := fun c fm hcf G A B hF hB hA => by
      refine pcell_k (f := fm) (by rw [en]; exact hpw) (hF.hk hc0) hcf ?_
      rw [en]
      by_cases e : D 10 n = fm
      · rw [zbr_bbt (decide_eq_true e)]; exact hB e
      · rw [zbr_bbf (decide_eq_false e)]; exact hA e
    have no : ∀ {e : Prop} {P : Prop}, e → ¬ e → P := fun h g => absurd h g
    by_cases e1 : D 10 n = 1
    · have c1 := f1 e1
      rw [pcell1 (by rw [en]; exact e1), en] at hc0
      have q0 := pch hM.2.2.1 h0 h1 (k := 0) (by omega) (by omega) (by omega)
      rw [if_pos e1] at kS jS
      have key := ih (prt D n 0) p d dd q0.1 q0.2.1 (by omega) hp (by omega) (by
        rcases hdd with z | z
        · exact Or.inl ⟨by have z := z.1; unfold fitk at z ⊢; rw [← c1.2.2.2.2.2.1]; exact z, by omega⟩
        · exact Or.inr (by omega))
      subst kS jS
      intro G N m M mc ms Q hF hA hN m0 m1 m2 hmc hms hQ
      rw [vX5_write_s]
      unfold bX5_write
      dsimp only [zjn]
      refine pick 10 1 (by omega) G _ _ hF (fun _ => ?_) (fun h => no e1 h)
      have hc := (hF.hk hc0).1
      refine ⟨zca_i hc, zisO_i hc, ?_⟩
      unfold vX10_of
      rw [zdR_e hc rfl]
      refine ⟨mc, ms, ⟨by omega, by omega⟩, key G N m M mc ms Q hF hA hN m0 m1 m2 hmc hms (fun G' M' f' a' b' im kp => hQ G' M' f' a' b' ?_ kp)⟩
      dsimp only
      rw [Imp_s, if_pos e1]; exact im
    rw [if_neg e1] at kS jS
    by_cases e2 : D 10 n = 2
    · rw [pcell2 (by rw [en]; exact e2), en] at hc0
      rw [if_pos e2] at kS jS
      subst kS jS
      refine Wr.one (p0 := 0) (p1 := p) (p2 := D 11 n) (p3 := D 12 n) hS (fun mc ms G Q hF mc' ms' l1 l2 hq => ?_) (fun M a fl v0 v1 v2 v3 v4 => ?_)
      · rw [vX5_write_s]
        unfold bX5_write
        dsimp only [zjn]
        refine pick 10 1 (by omega) G _ _ hF (fun h => no h e1) (fun _ => pick 11 2 (by omega) G _ _ hF (fun _ => ?_) (fun h => no e2 h))
        have hc := (hF.hk hc0).1
        refine ⟨zca_i hc, zisO_i hc, ?_⟩
        unfold vX11_from
        rw [zdI_e hc rfl]
        refine ⟨zisO_i hc, ?_⟩
        unfold vX11_to
        rw [zdI_e hc rfl]
        exact ⟨mc', ms', ⟨by omega, by omega⟩, hq⟩
      · rw [Imp_s, if_neg e1, if_pos e2]
        exact ⟨v0, v1, v2, v3, v4, rfl⟩
    rw [if_neg e2] at kS jS
    -- parts
    have all : ∀ (cnt j : Int), 0 ≤ cnt → cnt ≤ 3 → 0 ≤ j → j ≤ 3 → (D 10 n = 3 ∨ D 10 n = 6) → chl D n = ints cnt (prt D n) → chs D n p j = prow cnt p j (prt D n) → (∀ i, 0 ≤ i → i < cnt → 0 ≤ prt D n i ∧ D 15 (prt D n i) + 1 ≤ D 15 n) → (∀ i, 0 ≤ i → i < cnt → j + i < 3) → ∀ (d2 : Nat), (∀ i, 0 ≤ i → i < cnt → (fitk D (prt D n i) 4 ∧ f ≤ d2) ∨ 2 * f + 1 ≤ d2) → Wr G0 (fun mc ms G Q => bX5_writeAll (vX5_write d2) (vX5_writeAll d2) (vX5_writeList d2) (some (.inl (pf n.toNat))) p j mc ms G Q) ((chl D n).map (kW D f)).sum ((chl D n).map (jW D f)).sum (fun M a b fl => ImL (fun n p a b => Imp D M f n p a b fl) (chs D n p j) a b) := by
      intro cnt j c0 c3 j0 j3 h36 hcl hcs hpt hji d2 hfi
      have hfa' := hfa h36
      rw [hcl] at hfa'
      have key := w5_all (W := vX5_write d2) (I := fun M n p a b fl => Imp D M f n p a b fl) (pr := prt D n) (k := fun i => kW D f (prt D n i)) (jn := fun i => jW D f (prt D n i)) hS hfa' c0 c3 (p := p) (j := j) (by omega) (by omega) (fun M n p a b fl h => Imp_le h) (fun n p => Imp_ich) (fun i i0 i1 => by
        have qi := pch hM.2.2.1 h0 h1 (k := i) i0 (by omega) (by have := (hpt i i0 i1).1; omega)
        have hc := hpt i i0 i1
        have hpl : 5 * p + j + i + 1 ∈ pl (d + 1) := by
          have := pl_s (d := d) (q := p) (j := j + i) hp (by omega) (hji i i0 i1)
          rw [show 5 * p + (j + i) + 1 = 5 * p + j + i + 1 by omega] at this
          exact this
        exact ih (prt D n i) _ (d + 1) d2 qi.1 qi.2.1 (by omega) hpl (by omega) (by
          rcases hfi i i0 i1 with z | z
          · exact Or.inl ⟨z.1, by omega⟩
          · exact Or.inr (by omega)))
      refine key.eq (fun mc ms G Q _ h => h) ?_ ?_ (fun M a b fl h => ?_)
      · rw [hcl]
        have := ksm_ints (kW D f) (prt D n) cnt.toNat
        rw [show ((cnt.toNat : Nat) : Int) = cnt by omega] at this
        exact this
      · rw [hcl]
        have := ksm_ints (jW D f) (prt D n) cnt.toNat
        rw [show ((cnt.toNat : Nat) : Int) = cnt by omega] at this
        exact this
      · rw [hcs]; exact h
    by_cases e3 : D 10 n = 3
    · rw [if_pos e3] at kS jS
      have c3 := f3 e3
      rw [pcell3 (by rw [en]; exact e3), en] at hc0
      have e44 : 4 * (D 11 n / 4) + D 11 n % 4 = D 11 n := by omega
      have m2 := (hM.1 (D 11 n / 4) (by omega) (by omega)).2.2 (D 11 n % 4) (by omega) c3.2.2.1
      rw [e44] at m2
      have hck := c3.2.2.2.2.2
      have hnf : ¬ fitk D n 4 := fun z => by unfold fitk at z; omega
      have hdd2 := hdd.resolve_left (fun z => hnf z.1)
      obtain ⟨d2, rfl⟩ : ∃ d2, dd = d2 + 1 := ⟨dd - 1, by omega⟩
      have key := all (D 2 (D 11 n)) 0 m2.1 m2.2.1 (by omega) (by omega) (Or.inl e3) (chl_mk m2.1 m2.2.1 (fun i i0 i1 => ((hck i i0 (by omega)).1 i1).1) (fun i i0 i1 => (hck i (by omega) i1).2 i0)) (chs_mk m2.1 m2.2.1 (fun i i0 i1 => ((hck i i0 (by omega)).1 i1).1) (fun i i0 i1 => (hck i (by omega) i1).2 i0)) (fun i i0 i1 => ⟨((hck i i0 (by omega)).1 i1).1, ((hck i i0 (by omega)).1 i1).2.2⟩) (fun i i0 i1 => by omega) d2 (fun i i0 i1 => Or.inr (by omega))
      subst kS jS
      refine Wr.cons (p0 := 1) (p1 := p) (p2 := D 11 n % 4) (p3 := 0) hS key (fun mc ms G Q hF => ⟨fun k29 n29 _ G9 => zisO G9 (some (.inl (pa n.toNat))) 12 ∧ vX12_fields (some (.inl (pa n.toNat))) G9 fun (x32 : ZR) => ∃ k33 n33 : Nat, ((0 + k29) + k33 ≤ mc ∧ (0 + n29) + n33 ≤ ms) ∧ vX5_writeAll (d2 + 1) x32 p 0 k33 n33 G9 fun (G10 : ZG) => Q G10, fun hq => ?_, ?_⟩) (fun M a b v0 v1 v2 v3 v4 im => ?_)
      · rw [vX5_write_s]
        unfold bX5_write
        dsimp only [zjn]
        refine pick 10 1 (by omega) G _ _ hF (fun h => no h e1) (fun _ => pick 11 2 (by omega) G _ _ hF (fun h => no h e2) (fun _ => pick 12 3 (by omega) G _ _ hF (fun _ => ?_) (fun h => no e3 h)))
        have hc := (hF.hk hc0).1
        refine ⟨zca_i hc, zisO_i hc, ?_⟩
        unfold vX12_constructor
        rw [zdI_e hc rfl]
        exact hq
      · intro k29 n29 x G9 f9 hq
        have hc := (f9.hk hc0).1
        refine ⟨zisO_i hc, ?_⟩
        unfold vX12_fields
        rw [zdR_e hc rfl]
        obtain ⟨k3, n3, hb, hq⟩ := hq
        exact ⟨k3, n3, hb, hq⟩
      · rw [Imp_s, if_neg e1, if_neg e2, if_pos e3]
        exact ⟨v0, v1, v2, v4, im⟩
    rw [if_neg e3] at kS jS
    by_cases e4 : D 10 n = 4
    · rw [if_pos e4] at kS jS
      have c4 := f4 e4
      rw [cls13 (by rw [en]; exact e4), en] at hc0
      have q0 := pch hM.2.2.1 h0 h1 (k := 0) (by omega) (by omega) (by omega)
      have q1 := pch hM.2.2.1 h0 h1 (k := 1) (by omega) (by omega) (by omega)
      have hd : ∀ x, (fitk D n 4 → fitk D x 4) → (fitk D x 4 ∧ f ≤ dd) ∨ 2 * f + 1 ≤ dd := fun x hx => by
        rcases hdd with z | z
        · exact Or.inl ⟨hx z.1, by omega⟩
        · exact Or.inr (by omega)
      have key := w5_or (W := fun x k n G Q => vX5_write dd x p k n G Q) hS hc0 (Imp_ich (D := D) (f := f) (n := prt D n 0) (p := p)) (Imp_ich (D := D) (f := f) (n := prt D n 1) (p := p)) (ih _ p d dd q0.1 q0.2.1 (by omega) hp (by omega) (hd _ (fun z => (c4.2.2.2.2.2.1 4 z).1))) (ih _ p d dd q1.1 q1.2.1 (by omega) hp (by omega) (hd _ (fun z => (c4.2.2.2.2.2.1 4 z).2)))
      subst kS jS
      intro G N m M mc ms Q hF hA hN m0 m1 m2 hmc hms hQ
      rw [vX5_write_s]
      unfold bX5_write
      dsimp only [zjn]
      refine pick 10 1 (by omega) G _ _ hF (fun h => no h e1) (fun _ => pick 11 2 (by omega) G _ _ hF (fun h => no h e2) (fun _ => pick 12 3 (by omega) G _ _ hF (fun h => no h e3) (fun _ => pick 13 4 (by omega) G _ _ hF (fun _ => ?_) (fun h => no e4 h))))
      have hc := (hF.hk hc0).1
      refine ⟨zca_i hc, ?_⟩
      refine key G N m M mc ms Q hF hA hN m0 m1 m2 hmc hms (fun G' M' f' a' b' im kp => hQ G' M' f' a' b' ?_ kp)
      dsimp only
      rw [Imp_s, if_neg e1, if_neg e2, if_neg e3, if_pos e4]; exact im
    rw [if_neg e4] at kS jS
    by_cases e5 : D 10 n = 5
    · rw [if_pos e5] at kS jS
      have c5 := f5 e5
      rw [pcell5 (by rw [en]; exact e5), en] at hc0
      have q0 := pch hM.2.2.1 h0 h1 (k := 0) (by omega) (by omega) (by omega)
      have h40 := (hM.2.2.1.2.2 _ q0.1 q0.2.1).2.2.2.1
      have key := w5_given hM.2.2.1 hS hP 40 (prt D n 0) 45 q0.1 q0.2.1 c5.2.2.2.2.2.1 (by omega) (by omega)
      subst kS jS
      refine Wr.cons (p0 := 3) (p1 := D 11 n) (p2 := p) (p3 := 0) hS key (fun mc ms G Q hF => ⟨fun k10 n10 _ G2 => zisO G2 (some (.inl (pa n.toNat))) 14 ∧ vX14_of (some (.inl (pa n.toNat))) G2 fun (x13 : ZR) => ∃ k14 n14 : Nat, ((0 + k10) + k14 ≤ mc ∧ (0 + n10) + n14 ≤ ms) ∧ vX5_writeGiven 45 x13 k14 n14 G2 fun (G3 : ZG) => Q G3, fun hq => ?_, ?_⟩) (fun M a b v0 v1 v2 v3 v4 im => ?_)
      · rw [vX5_write_s]
        unfold bX5_write
        dsimp only [zjn]
        refine pick 10 1 (by omega) G _ _ hF (fun h => no h e1) (fun _ => pick 11 2 (by omega) G _ _ hF (fun h => no h e2) (fun _ => pick 12 3 (by omega) G _ _ hF (fun h => no h e3) (fun _ => pick 13 4 (by omega) G _ _ hF (fun h => no h e4) (fun _ => pick 14 5 (by omega) G _ _ hF (fun _ => ?_) (fun h => no e5 h)))))
        have hc := (hF.hk hc0).1
        refine ⟨zca_i hc, zisO_i hc, ?_⟩
        unfold vX14_view
        rw [zdI_e hc rfl]
        exact hq
      · intro k29 n29 x G9 f9 hq
        have hc := (f9.hk hc0).1
        refine ⟨zisO_i hc, ?_⟩
        unfold vX14_of
        rw [zdR_e hc rfl]
        obtain ⟨k3, n3, hb, hq⟩ := hq
        exact ⟨k3, n3, hb, hq⟩
      · rw [Imp_s, if_neg e1, if_neg e2, if_neg e3, if_neg e4, if_pos e5]
        exact ⟨v0, v1, v2, im⟩
    rw [if_neg e5] at kS jS
    by_cases e6 : D 10 n = 6
    · rw [if_pos e6] at kS jS
      have c6 := f6 e6
      rw [pcell6 (by rw [en]; exact e6), en] at hc0
      have hck := c6.2.2.2.2.2.2
      have hnf : ¬ fitk D n 4 := fun z => by unfold fitk at z; omega
      have hdd2 := hdd.resolve_left (fun z => hnf z.1)
      have hcl := chl_mk (D := D) (n := n) c6.1 (by omega) (fun i i0 i1 => ((hck i i0 (by omega)).1 i1).1) (fun i i0 i1 => (hck i (by omega) i1).2 i0)
      have hcs : ∀ j, chs D n p j = prow (D 11 n) p j (prt D n) := fun j => chs_mk c6.1 (by omega) (fun i i0 i1 => ((hck i i0 (by omega)).1 i1).1) (fun i i0 i1 => (hck i (by omega) i1).2 i0)
      have hfa' := hfa (Or.inr e6)
      have hlen : (((chl D n).map fun (q : Int) => (some (.inl (pa q.toNat)) : ZR)).length : Int) = D 11 n := by rw [hcl, List.length_map, ints_len]; omega
      obtain ⟨d2, rfl⟩ : ∃ d2, dd = d2 + 2 := ⟨dd - 2, by omega⟩
      subst kS jS
      refine Wr.eq (w5_list (D := D) (n := n) (p := p) (W := vX5_write (d2 + 1)) (WA := vX5_writeAll (d2 + 1)) (WL := vX5_writeList (d2 + 1)) (I := fun M n p a b fl => Imp D M f n p a b fl) (kS := ((chl D n).map (kW D f)).sum) (jS := ((chl D n).map (jW D f)).sum) hS hc0 hfa' hlen c6.1 c6.2.1 (fun M n p a b fl h => Imp_le h) (fun n p => Imp_ich) (fun j j0 j3 => ?_)) ?_ rfl rfl ?_
      · exact all (D 11 n) j c6.1 (by omega) j0 (by omega) (Or.inr e6) hcl (hcs j) (fun i i0 i1 => ⟨((hck i i0 (by omega)).1 i1).1, ((hck i i0 (by omega)).1 i1).2.2⟩) (fun i i0 i1 => by omega) d2 (fun i i0 i1 => Or.inl ⟨((hck i i0 (by omega)).1 i1).2.1, by omega⟩)
      · intro mc ms G Q hF hq
        rw [vX5_write_s]
        unfold bX5_write
        dsimp only [zjn]
        refine pick 10 1 (by omega) G _ _ hF (fun h => no h e1) (fun _ => pick 11 2 (by omega) G _ _ hF (fun h => no h e2) (fun _ => pick 12 3 (by omega) G _ _ hF (fun h => no h e3) (fun _ => pick 13 4 (by omega) G _ _ hF (fun h => no h e4) (fun _ => pick 14 5 (by omega) G _ _ hF (fun h => no h e5) (fun _ => pick 15 6 (by omega) G _ _ hF (fun _ => ?_) (fun h => no e6 h))))))
        have hc := (hF.hk hc0).1
        refine ⟨zca_i hc, mc, ms, ⟨by omega, by omega⟩, ?_⟩
        rw [vX5_writeList_s]
        exact hq
      · intro M a b fl im
        rw [Imp_s, if_neg e1, if_neg e2, if_neg e3, if_neg e4, if_neg e5, if_pos e6]
        exact im
    rw [if_neg e6] at kS jS
    subst kS jS
    refine Wr.nil (fun mc ms G Q hF hq => ?_) (fun M a fl => ?_)
    · rw [vX5_write_s]
      unfold bX5_write
      dsimp only [zjn]
      exact pick 10 1 (by omega) G _ _ hF (fun h => no h e1) (fun _ => pick 11 2 (by omega) G _ _ hF (fun h => no h e2) (fun _ => pick 12 3 (by omega) G _ _ hF (fun h => no h e3) (fun _ => pick 13 4 (by omega) G _ _ hF (fun h => no h e4) (fun _ => pick 14 5 (by omega) G _ _ hF (fun h => no h e5) (fun _ => pick 15 6 (by omega) G _ _ hF (fun h => no h e6) (fun _ => hq))))))
    · rw [Imp_s, if_neg e1, if_neg e2, if_neg e3, if_neg e4, if_neg e5, if_neg e6]
