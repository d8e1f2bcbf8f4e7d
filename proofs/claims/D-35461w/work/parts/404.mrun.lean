/-! REFERENCE: a run, whole -/
set_option maxRecDepth 100000
/-- a run, from its values on -/
def txtM (p a b c : Int) (Q : Int → ZG → Prop) (H : ZG) : Prop := zl2 (fun (P232 : Int → ZG → Prop) (a232_8 : Int) (K232 : ZG) => zgF K232 5 21 fun (x4 : Int) => zbr (x4 ≤ a232_8) (zpF K232 5 47 0 fun (G2 : ZG) => zpF G2 5 48 0 fun (G3 : ZG) => zjn (fun (z289_0 : Int) (H289 : ZG) => Q z289_0 H289) fun J289 => zbr (p < 2) (vX6_runPlain G3 fun (x5 : Int) (G4 : ZG) => J289 x5 G4) (vX6_runTree G3 fun (x6 : Int) (G5 : ZG) => J289 x6 G5)) (vX6_pick a b c a232_8 fun (x7 : Int) => zaS K232 5 46 3 a232_8 x7 fun (G6 : ZG) => zlt1 (w32 (a232_8 + 1)) fun (x8 : Int) => P232 x8 G6)) 0 H
/-- what is kept of the reference's tree -/
def MTI (G : ZG) (D : ZD) : Prop := ∀ eng, (eng = 2 ∨ eng = 3) → zsg G 5 54 0 = eng → TM D eng G
theorem MTI.of {G G' : ZG} {D : ZD} (h : MTI G D) (hj : ∀ j, 54 ≤ j → j ≤ 62 → zsg G' 5 j = zsg G 5 j) : MTI G' D := fun eng he h54 => by
  rw [hj 54 (by omega) (by omega)] at h54
  exact (h eng he h54).of (fun j j1 j2 => hj j (by omega) j2)
theorem w6_run2 {K : ZG} {D : ZD} {p a b c : Int} {Q : Int → ZG → Prop} (hM : MI D) (hL : LIN D) (hK : ∀ j, 1 ≤ j → j ≤ 29 → zsg K 5 j = D j) (hT : MTI K D) (hg : GV D (pk a b c)) (hp : 0 ≤ p ∧ p ≤ 3) (hB : 2 ≤ p → ∃ L, TT D p K L (L.length : Int)) (h0 : zsg K 5 0 0 = 0)
    (hQ : ∀ s cs bd, Out D p (pk a b c) s cs bd → ∀ G', Mo K G' → RnD D (zsg G' 5) s cs bd (decide (¬ (cs ≠ -1 ∧ gd D (pk a b c) bd cs = 2))) → MTI G' D → zsg G' 5 0 0 = 0 → RI s → inR s.1 → Q (if cs = -1 then -1 else if gd D (pk a b c) bd cs = 2 then -2 else D 25 cs) G') : txtM p a b c Q K := by
  have m21 : 0 ≤ D 21 0 ∧ D 21 0 ≤ 3 := ⟨hM.2.2.2.2.1.1, hM.2.2.2.2.1.2.1⟩
  unfold txtM
  refine zl2_of (fun i H => 0 ≤ i ∧ i ≤ D 21 0 ∧ Mo K H ∧ (∀ j, j ≠ 46 → zsg H 5 j = zsg K 5 j) ∧ ∀ k, 0 ≤ k → k < i → zsg H 5 46 k = pk a b c k) (fun i _ => (D 21 0 - i).toNat) (fun P i H hI hPP => ?_) ⟨by omega, m21.1, Mo.refl K, fun _ _ => rfl, fun k k0 k1 => by omega⟩
  obtain ⟨i0, i1, mo, hH, hv⟩ := hI
  rw [zgF_e, hH 21 (by omega), hK 21 (by omega) (by omega)]
  refine zbr_i (fun hi => ?_) (fun hi => ?_)
  · have ei : i = D 21 0 := by omega
    subst ei
    rw [zpF_e, zpF_e]
    have mo3 : Mo K (zss (zss H 5 47 0 0) 5 48 0 0) := (mo.ss _ _ _).ss _ _ _
    have h3 : ∀ j, j ≠ 46 → j ≠ 47 → j ≠ 48 → zsg (zss (zss H 5 47 0 0) 5 48 0 0) 5 j = zsg K 5 j := fun j j1 j2 j3 => by rw [z5_ne j3, z5_ne j2, hH j j1]
    have h46 : ∀ i, 0 ≤ i → i < D 21 0 → zsg (zss (zss H 5 47 0 0) 5 48 0 0) 5 46 i = pk a b c i := fun i i0 i1 => by rw [z5_ne (by omega), z5_ne (by omega)]; exact hv i i0 i1
    have h47 : zsg (zss (zss H 5 47 0 0) 5 48 0 0) 5 47 0 = 0 := by rw [z5_ne (by omega), zsg_ss, if_pos ⟨rfl, rfl, rfl⟩]
    have h48 : zsg (zss (zss H 5 47 0 0) 5 48 0 0) 5 48 0 = 0 := by rw [zsg_ss, if_pos ⟨rfl, rfl, rfl⟩]
    generalize zss (zss H 5 47 0 0) 5 48 0 0 = B at mo3 h3 h46 h47 h48
    have hKB : ∀ j, 1 ≤ j → j ≤ 29 → zsg B 5 j = D j := fun j j1 j2 => by rw [h3 j (by omega) (by omega) (by omega), hK j j1 j2]
    have hR : Rr B ((0, []) : RS) := ⟨h48, fun k x hx => by simp at hx, List.nodup_nil, fun x hx => by cases hx⟩
    have r0 : inR ((0, []) : RS).1 := by show inR 0; unfold inR; omega
    dsimp only [zjn]
    have fin : ∀ (G' : ZG) (s : RS) (cs : Int) (bd : Int → Int) (tk : Bool), Rn D B G' s cs bd tk → tk = decide (¬ (cs ≠ -1 ∧ gd D (pk a b c) bd cs = 2)) → Out D p (pk a b c) s cs bd → ∀ r, r = (if cs = -1 then -1 else if gd D (pk a b c) bd cs = 2 then -2 else D 25 cs) → Q r G' := fun G' s cs bd tk hRn htk hO r hr => by
      rw [hr]
      subst htk
      exact hQ s cs bd hO G' (mo3.trans hRn.1) (hRn.D hKB) (hT.of (fun j j1 j2 => by rw [hRn.2.1 j (by omega) (by omega) (by omega), h3 j (by omega) (by omega) (by omega)])) (by rw [hRn.2.1 0 (by omega) (by omega) (by omega), h3 0 (by omega) (by omega) (by omega)]; exact h0) hRn.2.2.1.2.2 hRn.2.2.2.2.1
    have t1 : ∀ bd, true = decide (¬ ((-1 : Int) ≠ -1 ∧ gd D (pk a b c) bd (-1) = 2)) := fun bd => by
      have : ¬ ((-1 : Int) ≠ -1 ∧ gd D (pk a b c) bd (-1) = 2) := fun z => z.1 rfl
      rw [decide_eq_true this]
    have t2 : ∀ cs bd, 0 ≤ cs → decide (gd D (pk a b c) bd cs ≠ 2) = decide (¬ (cs ≠ -1 ∧ gd D (pk a b c) bd cs = 2)) := fun cs bd h => by
      by_cases z : gd D (pk a b c) bd cs = 2
      · rw [decide_eq_false (fun y => y z), decide_eq_false (fun y => y ⟨by omega, z⟩)]
      · have hne : ¬ (cs ≠ -1 ∧ gd D (pk a b c) bd cs = 2) := fun y => z y.2
        rw [decide_eq_true hne, decide_eq_true z]
    refine zbr_i (fun h2 => ?_) (fun h2 => ?_)
    · refine w6_plain hM hL hg hKB h46 hR h47 r0 (fun hs G' bd hRn => ?_) (fun cs bd hs hcs G' hRn => ?_)
      · exact fin G' _ (-1) bd true hRn (t1 bd) (Or.inl ⟨h2, rfl, Or.inl ⟨rfl, hs⟩⟩) _ (by rw [if_pos rfl])
      · exact fin G' _ cs bd _ hRn (t2 cs bd hcs.1) (Or.inl ⟨h2, rfl, Or.inr ⟨hcs, hs⟩⟩) _ (if_neg (show ¬ cs = -1 by omega)).symm
    · obtain ⟨L, hTT⟩ := hB (by omega)
      have hTB : TT D p B L (L.length : Int) := hTT.of (fun j j1 j2 => h3 j (by omega) (by omega) (by omega))
      refine w6_runTree hM hL hg hKB h46 hR h47 hTB (WI.start rfl r0) (fun hn G' bd hRn => ?_) (fun hn G' cs bd hce hcs hpp hbd hRn => ?_)
      · exact fin G' _ (-1) bd true hRn (t1 bd) (Or.inr ⟨by omega, rfl, Or.inl ⟨rfl, hn⟩⟩) _ (by rw [if_pos rfl])
      · exact fin G' _ cs bd _ hRn (t2 cs bd hcs.1) (Or.inr ⟨by omega, rfl, Or.inr ⟨hcs, hn, hce, hbd⟩⟩) _ (if_neg (show ¬ cs = -1 by omega)).symm
  · rw [eX6_pick]
    refine zaS_i i0 (by omega) ?_
    rw [zlt1_e, w32_eq (by omega) (by omega)]
    refine hPP _ _ ⟨by omega, by omega, mo.ss _ _ _, fun j j1 => by rw [z5_ne j1, hH j j1], fun k k0 k1 => ?_⟩ (by omega)
    rw [zsg_ss]
    by_cases hki : k = i
    · rw [if_pos ⟨rfl, rfl, hki⟩, hki]
    · rw [if_neg (by omega)]; exact hv k k0 (by omega)
/-- refused, or the run -/
def txtR (p a b c : Int) (Q : Int → ZG → Prop) (H : ZG) (r : Int) : Prop := vX6_refused r H fun (x3 : Int) (G1 : ZG) => zbr (x3 = 0) (txtM p a b c Q G1) (Q 0 G1)
def txtE (p a b c z5 z6 : Int) (Q : Int → ZG → Prop) (H : ZG) (z : Int) : Prop := zbr (z5 ≠ 0) (zbr (z6 ≠ 0) (zbr (z = 0) (txtR p a b c Q H 3) (txtR p a b c Q H 0)) (txtR p a b c Q H 2)) (txtR p a b c Q H 1)
/-- what was found of the values; then the run -/
def txtT (p a b c z5 z6 : Int) (Q : Int → ZG → Prop) (H : ZG) : Prop := zgF H 5 21 fun (x2 : Int) => zbr (x2 ≤ 0) (txtE p a b c z5 z6 Q H 0) (zbr (z5 = 0) (txtE p a b c z5 z6 Q H 1) (zbr (z6 = 0) (txtE p a b c z5 z6 Q H 1) (zbr (p < 2) (txtE p a b c z5 z6 Q H 1) (zgF H 5 55 fun (x9 : Int) => zbr (x9 ≠ 0) (txtE p a b c z5 z6 Q H 0) (txtE p a b c z5 z6 Q H 1)))))
theorem w6_R {p a b c r : Int} {Q : Int → ZG → Prop} {H : ZG} (r1 : r ≠ 0 → Q 0 (zss H 5 0 0 r)) (r2 : r = 0 → txtM p a b c Q (zss H 5 0 0 0)) : txtR p a b c Q H r := by
  unfold txtR
  rw [eX6_refused]
  by_cases hr : r = 0
  · rw [decide_eq_false (fun z => z hr), hr]
    exact zbr_i (fun _ => r2 hr) (fun z => absurd rfl z)
  · rw [decide_eq_true hr]
    exact zbr_i (fun z => absurd z (by show (1 : Int) ≠ 0; omega)) (fun _ => r1 hr)
theorem w6_runT {p a b c z5 z6 : Int} {Q : Int → ZG → Prop} {H : ZG} (h5 : z5 = 0 ∨ z5 = 1) (h6 : z6 = 0 ∨ z6 = 1) (c1 : z5 = 0 → Q 0 (zss H 5 0 0 1)) (c2 : z5 = 1 → z6 = 0 → Q 0 (zss H 5 0 0 2)) (c3 : z5 = 1 → z6 = 1 → (zsg H 5 21 0 ≤ 0 ∨ (2 ≤ p ∧ zsg H 5 55 0 ≠ 0)) → Q 0 (zss H 5 0 0 3)) (c4 : z5 = 1 → z6 = 1 → 0 < zsg H 5 21 0 → (p < 2 ∨ zsg H 5 55 0 = 0) → txtM p a b c Q (zss H 5 0 0 0)) : txtT p a b c z5 z6 Q H := by
  have n1 : (1 : Int) ≠ 0 := by omega
  have n2 : (2 : Int) ≠ 0 := by omega
  have n3 : (3 : Int) ≠ 0 := by omega
  have E : ∀ z, (z5 = 1 → z6 = 1 → z = 0 → Q 0 (zss H 5 0 0 3)) → (z5 = 1 → z6 = 1 → z ≠ 0 → txtM p a b c Q (zss H 5 0 0 0)) → txtE p a b c z5 z6 Q H z := fun z e1 e2 => by
    unfold txtE
    refine zbr_i (fun g5 => zbr_i (fun g6 => zbr_i (fun gz => ?_) (fun gz => ?_)) (fun g6 => ?_)) (fun g5 => ?_)
    · exact w6_R (fun _ => e1 (h5.resolve_left g5) (h6.resolve_left g6) gz) (fun y => absurd y n3)
    · exact w6_R (fun y => absurd rfl y) (fun _ => e2 (h5.resolve_left g5) (h6.resolve_left g6) gz)
    · exact w6_R (fun _ => c2 (h5.resolve_left g5) (Decidable.of_not_not g6)) (fun y => absurd y n2)
    · exact w6_R (fun _ => c1 (Decidable.of_not_not g5)) (fun y => absurd y n1)
  unfold txtT
  rw [zgF_e]
  refine zbr_i (fun h21 => ?_) (fun h21 => ?_)
  · exact E 0 (fun a b _ => c3 a b (Or.inl h21)) (fun _ _ y => absurd rfl y)
  · refine zbr_i (fun g5 => ?_) (fun g5 => ?_)
    · exact E 1 (fun _ _ y => absurd y n1) (fun y => absurd (y.symm.trans g5) n1)
    · refine zbr_i (fun g6 => ?_) (fun g6 => ?_)
      · exact E 1 (fun _ _ y => absurd y n1) (fun _ y => absurd (y.symm.trans g6) n1)
      · refine zbr_i (fun g2 => ?_) (fun g2 => ?_)
        · exact E 1 (fun _ _ y => absurd y n1) (fun a b _ => c4 a b (Int.not_le.mp h21) (Or.inl g2))
        · rw [zgF_e]
          refine zbr_i (fun g55 => ?_) (fun g55 => ?_)
          · exact E 0 (fun a b _ => c3 a b (Or.inr ⟨Int.not_lt.mp g2, g55⟩)) (fun _ _ y => absurd rfl y)
          · exact E 1 (fun _ _ y => absurd y n1) (fun a b _ => c4 a b (Int.not_le.mp h21) (Or.inr (Decidable.of_not_not g55)))
theorem k6_run {G : ZG} {D : ZD} {p a b c : Int} {Q : Int → ZG → Prop} (hM : MI D) (hL : LIN D) (hK : ∀ j, 1 ≤ j → j ≤ 29 → zsg G 5 j = D j) (hT : MTI G D) (h47 : inR (zsg G 5 47 0))
    (h1 : ¬ ((0 ≤ p ∧ p ≤ 3) ∧ rpI (D 21 0) (D 4 0) a b c) → Q 0 (zss G 5 0 0 1))
    (h2 : (0 ≤ p ∧ p ≤ 3) ∧ rpI (D 21 0) (D 4 0) a b c → ¬ (rpN (D 21 0) a b c ∧ rKd D a b c) → Q 0 (zss G 5 0 0 2))
    (h3 : (0 ≤ p ∧ p ≤ 3) ∧ rpI (D 21 0) (D 4 0) a b c → rpN (D 21 0) a b c ∧ rKd D a b c → ¬ (0 < D 21 0 ∧ (p < 2 ∨ ¬ Big D p)) → ∀ G', FB G G' → MTI G' D → Q 0 (zss G' 5 0 0 3))
    (hQ : (0 ≤ p ∧ p ≤ 3) ∧ rpI (D 21 0) (D 4 0) a b c → rpN (D 21 0) a b c ∧ rKd D a b c → 0 < D 21 0 ∧ (p < 2 ∨ ¬ Big D p) → ∀ s cs bd, Out D p (pk a b c) s cs bd → ∀ G', Mo G G' → RnD D (zsg G' 5) s cs bd (decide (¬ (cs ≠ -1 ∧ gd D (pk a b c) bd cs = 2))) → MTI G' D → zsg G' 5 0 0 = 0 → RI s → inR s.1 → Q (if cs = -1 then -1 else if gd D (pk a b c) bd cs = 2 then -2 else D 25 cs) G') : vX6_run p a b c G Q := by
  have m21 : 0 ≤ D 21 0 ∧ D 21 0 ≤ 3 := ⟨hM.2.2.2.2.1.1, hM.2.2.2.2.1.2.1⟩
  have m4 : 0 ≤ D 4 0 ∧ D 4 0 ≤ 40 := ⟨hM.2.1.1, hM.2.1.2.1⟩
  unfold vX6_run
  rw [eX6_in]
  refine zl3_of (fun z5 z6 k => 0 ≤ k ∧ k ≤ 3 ∧ ((z5 = 1 ∧ (0 ≤ p ∧ p ≤ 3) ∧ ∀ j, 0 ≤ j → j < k → j < D 21 0 → 0 ≤ pk a b c j ∧ pk a b c j < D 4 0) ∨ (z5 = 0 ∧ ¬ ((0 ≤ p ∧ p ≤ 3) ∧ rpI (D 21 0) (D 4 0) a b c))) ∧ ((z6 = 1 ∧ ∀ j, 0 ≤ j → j < k → (D 21 0 ≤ j → pk a b c j = -1) ∧ (j < D 21 0 → (0 ≤ pk a b c j ∧ pk a b c j < D 4 0) ∧ D 5 (pk a b c j) = D 22 j)) ∨ (z6 = 0 ∧ (rpI (D 21 0) (D 4 0) a b c → ¬ (rpN (D 21 0) a b c ∧ rKd D a b c))))) (fun _ _ k => (3 - k).toNat) (fun P z5 z6 k hI hPP => ?_) ⟨by omega, by omega, ?_, Or.inl ⟨rfl, fun j j0 j1 => by omega⟩⟩
  · obtain ⟨k0, k1, hz5, hz6⟩ := hI
    refine zbr_i (fun hk => ?_) (fun hk => ?_)
    · have e3 : k = 3 := by omega
      subst e3
      have c5 : z5 = 1 → (0 ≤ p ∧ p ≤ 3) ∧ rpI (D 21 0) (D 4 0) a b c := fun h => by
        rcases hz5 with ⟨_, hp, hh⟩ | ⟨z, _⟩
        · exact ⟨hp, fun j j0 j1 => hh j j0 (by omega) j1⟩
        · omega
      have c6 : z6 = 1 → rpN (D 21 0) a b c ∧ rKd D a b c := fun h => by
        rcases hz6 with ⟨_, hh⟩ | ⟨z, _⟩
        · exact ⟨fun j j0 j1 => (hh j (by omega) j1).1 j0, fun j j0 j1 => ((hh j j0 (by omega)).2 j1).2⟩
        · omega
      have z5r : z5 = 0 ∨ z5 = 1 := hz5.elim (fun z => Or.inr z.1) (fun z => Or.inl z.1)
      have z6r : z6 = 0 ∨ z6 = 1 := hz6.elim (fun z => Or.inr z.1) (fun z => Or.inl z.1)
      have b1 : z5 = 0 → Q 0 (zss G 5 0 0 1) := fun h => h1 (hz5.resolve_left (fun z => by omega)).2
      have b2 : z5 = 1 → z6 = 0 → Q 0 (zss G 5 0 0 2) := fun h h' => h2 (c5 h) ((hz6.resolve_left (fun z => by omega)).2 (c5 h).2)
      have go : ∀ H, Mo G H → (∀ j, j ≤ 29 → zsg H 5 j = zsg G 5 j) → MTI H D → z5 = 1 → z6 = 1 → 0 < D 21 0 → (2 ≤ p → ∃ L, TT D p H L (L.length : Int)) → txtM p a b c Q (zss H 5 0 0 0) := fun H mo hH hTH g5 g6 h21 hTT => by
        have hok := c5 g5
        have hok2 := c6 g6
        have hB : p < 2 ∨ ¬ Big D p := by
          by_cases h2 : p < 2
          · exact Or.inl h2
          · obtain ⟨L, hT⟩ := hTT (by omega)
            exact Or.inr (enu_m hT).big
        refine w6_run2 hM hL (fun j j1 j2 => by rw [z5_ne (by omega), hH j j2, hK j j1 j2]) (hTH.of (fun j j1 j2 => by rw [z5_ne (by omega)])) (fun k k0 k1 => ⟨(hok.2 k k0 k1).1, (hok.2 k k0 k1).2, hok2.2 k k0 k1⟩) hok.1 (fun h2 => ?_) (by rw [zsg_ss, if_pos ⟨rfl, rfl, rfl⟩]) (fun s cs bd hO G' mo' hR hT' h0 hRI hin => hQ hok hok2 ⟨h21, hB⟩ s cs bd hO G' ((mo.ss _ _ _).trans mo') hR hT' h0 hRI hin)
        obtain ⟨L, hT⟩ := hTT h2
        exact ⟨L, hT.of (fun j j1 j2 => by rw [z5_ne (by omega)])⟩
      show zbr (z5 = 0) (txtT p a b c z5 z6 Q G) (zbr (z6 = 0) (txtT p a b c z5 z6 Q G) (zgF G 5 21 fun x10 => zbr (x10 ≤ 0) (txtT p a b c z5 z6 Q G) (zbr (p < 2) (txtT p a b c z5 z6 Q G) (vX6_build p G fun G7 => txtT p a b c z5 z6 Q G7))))
      have e21 : zsg G 5 21 0 = D 21 0 := by rw [hK 21 (by omega) (by omega)]
      refine zbr_i (fun g5 => ?_) (fun g5 => ?_)
      · exact w6_runT z5r z6r b1 b2 (fun y => by omega) (fun y => by omega)
      refine zbr_i (fun g6 => ?_) (fun g6 => ?_)
      · exact w6_runT z5r z6r b1 b2 (fun _ y => by omega) (fun _ y => by omega)
      rw [zgF_e, e21]
      refine zbr_i (fun g21 => ?_) (fun g21 => ?_)
      · exact w6_runT z5r z6r b1 b2 (fun y y' _ => h3 (c5 y) (c6 y') (fun z => by omega) G (FB.refl G) hT) (fun _ _ y => by omega)
      refine zbr_i (fun g2 => ?_) (fun g2 => ?_)
      · exact w6_runT z5r z6r b1 b2 (fun y y' z => by omega) (fun y y' _ _ => go G (Mo.refl G) (fun _ _ => rfl) hT y y' (by omega) (fun z => by omega))
      · have hp := (c5 (by omega)).1
        refine w6_build hM hL hK h47 (fun h => hT p (by omega) h) (fun K' fK k54 hTM => ?_)
        have kT : MTI K' D := fun eng he h54 => by
          rw [k54] at h54
          rw [← h54]; exact hTM
        have f29 : ∀ j, j ≤ 29 → zsg K' 5 j = zsg G 5 j := fun j hj => fK.2 j (by omega) (by omega) (by omega)
        refine w6_runT z5r z6r (fun y => by omega) (fun _ y => by omega) (fun y y' z => ?_) (fun y y' _ z => ?_)
        · rcases hTM with ⟨k55, hBig, _⟩ | ⟨k55, L, hTT⟩
          · exact h3 (c5 y) (c6 y') (fun q => q.2.elim (fun q => by omega) (fun q => q hBig)) K' fK kT
          · exfalso
            have := f29 21 (by omega)
            rw [this, e21] at z
            omega
        · rcases hTM with ⟨k55, hBig, _⟩ | ⟨k55, L, hTT⟩
          · omega
          · exact go K' fK.1 f29 kT y y' (by omega) (fun _ => ⟨L, hTT⟩)
    · rw [eX6_pick, zgF_e, hK 4 (by omega) (by omega), w32_eq (by omega) (by omega), eX6_in]
      have next : ∀ y5 y6, ((y5 = 1 ∧ (0 ≤ p ∧ p ≤ 3) ∧ ∀ j, 0 ≤ j → j < k + 1 → j < D 21 0 → 0 ≤ pk a b c j ∧ pk a b c j < D 4 0) ∨ (y5 = 0 ∧ ¬ ((0 ≤ p ∧ p ≤ 3) ∧ rpI (D 21 0) (D 4 0) a b c))) → ((y6 = 1 ∧ ∀ j, 0 ≤ j → j < k + 1 → (D 21 0 ≤ j → pk a b c j = -1) ∧ (j < D 21 0 → (0 ≤ pk a b c j ∧ pk a b c j < D 4 0) ∧ D 5 (pk a b c j) = D 22 j)) ∨ (y6 = 0 ∧ (rpI (D 21 0) (D 4 0) a b c → ¬ (rpN (D 21 0) a b c ∧ rKd D a b c)))) → zlt1 (w32 (k + 1)) fun x14 => P y5 y6 x14 := fun y5 y6 g5 g6 => by
        rw [zlt1_e, w32_eq (by omega) (by omega)]
        exact hPP _ _ _ ⟨by omega, by omega, g5, g6⟩ (by omega)
      have hin : ∀ {A B : Prop}, ((0 ≤ pk a b c k ∧ pk a b c k < D 4 0) → B) → (¬ (0 ≤ pk a b c k ∧ pk a b c k < D 4 0) → A) → zbr (bb (decide (0 ≤ pk a b c k) && decide (pk a b c k ≤ D 4 0 - 1)) = 0) A B := fun h1 h2 => by
        by_cases hh : 0 ≤ pk a b c k ∧ pk a b c k < D 4 0
        · rw [decide_eq_true hh.1, decide_eq_true (show pk a b c k ≤ D 4 0 - 1 by omega)]
          exact zbr_i (fun z => by cases z) (fun _ => h1 hh)
        · have : (decide (0 ≤ pk a b c k) && decide (pk a b c k ≤ D 4 0 - 1)) = false := by simp; omega
          rw [this]
          exact zbr_i (fun _ => h2 hh) (fun z => absurd rfl z)
      dsimp only [zjn]
      have six : ∀ y5, ((y5 = 1 ∧ (0 ≤ p ∧ p ≤ 3) ∧ ∀ j, 0 ≤ j → j < k + 1 → j < D 21 0 → 0 ≤ pk a b c j ∧ pk a b c j < D 4 0) ∨ (y5 = 0 ∧ ¬ ((0 ≤ p ∧ p ≤ 3) ∧ rpI (D 21 0) (D 4 0) a b c))) → zbr (z6 = 0) (zlt1 (w32 (k + 1)) fun x14 => P y5 0 x14) (zgF G 5 21 fun x15 => zbr (x15 ≤ k) (zbr (pk a b c k ≠ -1) (zlt1 (w32 (k + 1)) fun x14 => P y5 0 x14) (zlt1 (w32 (k + 1)) fun x14 => P y5 1 x14)) (zbr (bb (decide (0 ≤ pk a b c k) && decide (pk a b c k ≤ D 4 0 - 1)) = 0) (zlt1 (w32 (k + 1)) fun x14 => P y5 0 x14) (zaL G 5 5 40 (pk a b c k) fun x16 => zaL G 5 22 3 k fun x17 => zbr (x16 ≠ x17) (zlt1 (w32 (k + 1)) fun x14 => P y5 0 x14) (zlt1 (w32 (k + 1)) fun x14 => P y5 1 x14)))) := fun y5 g5 => by
        refine zbr_i (fun g6 => next y5 0 g5 (Or.inr ⟨rfl, (hz6.resolve_left (fun z => by omega)).2⟩)) (fun g6 => ?_)
        have hz := (hz6.resolve_right (fun z => g6 z.1)).2
        rw [zgF_e, hK 21 (by omega) (by omega)]
        refine zbr_i (fun hk21 => zbr_i (fun hn => next y5 0 g5 (Or.inr ⟨rfl, fun _ q => hn (q.1 k hk21 (by omega))⟩)) (fun hn => next y5 1 g5 (Or.inl ⟨rfl, fun j j0 j1 => ?_⟩))) (fun hk21 => hin (fun hh => ?_) (fun hh => next y5 0 g5 (Or.inr ⟨rfl, fun q _ => hh (q k k0 (by omega))⟩)))
        · by_cases hjk : j = k
          · subst hjk; exact ⟨fun _ => Decidable.of_not_not hn, fun z => by omega⟩
          · exact hz j j0 (by omega)
        · refine zaL_i hh.1 (by omega) (zaL_i k0 (by omega) ?_)
          rw [hK 5 (by omega) (by omega), hK 22 (by omega) (by omega)]
          refine zbr_i (fun hn => next y5 0 g5 (Or.inr ⟨rfl, fun _ q => hn (q.2 k k0 (by omega))⟩)) (fun hn => next y5 1 g5 (Or.inl ⟨rfl, fun j j0 j1 => ?_⟩))
          by_cases hjk : j = k
          · subst hjk; exact ⟨fun z => by omega, fun _ => ⟨hh, Decidable.of_not_not hn⟩⟩
          · exact hz j j0 (by omega)
      refine zbr_i (fun g5 => six 0 (Or.inr ⟨rfl, (hz5.resolve_left (fun z => by omega)).2⟩)) (fun g5 => ?_)
      have hz := (hz5.resolve_right (fun z => g5 z.1)).2
      rw [zgF_e, hK 21 (by omega) (by omega)]
      refine zbr_i (fun hk21 => six 1 (Or.inl ⟨rfl, hz.1, fun j j0 j1 j2 => hz.2 j j0 (by omega) j2⟩)) (fun hk21 => hin (fun hh => six 1 (Or.inl ⟨rfl, hz.1, fun j j0 j1 j2 => ?_⟩)) (fun hh => six 0 (Or.inr ⟨rfl, fun q => hh (q.2 k k0 (by omega))⟩)))
      by_cases hjk : j = k
      · rw [hjk]; exact hh
      · exact hz.2 j j0 (by omega) j2
  · by_cases hp : 0 ≤ p ∧ p ≤ 3
    · exact Or.inl ⟨by rw [decide_eq_true hp.1, decide_eq_true hp.2]; rfl, hp, fun j j0 j1 => by omega⟩
    · refine Or.inr ⟨?_, fun z => hp z.1⟩
      rw [show (decide (0 ≤ p) && decide (p ≤ 3)) = false by simp; omega]; rfl
