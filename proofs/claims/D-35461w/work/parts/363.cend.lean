/-! COMPONENT: names of a case known to match; the end of a run -/
set_option maxRecDepth 100000
/-- the data after a run: the looking s, the case c (-1: none), its names, whether it is counted -/
def RnD (D D' : ZD) (s : RS) (c : Int) (bd : Int → Int) (tk : Bool) : Prop := (∀ j, 1 ≤ j → j ≤ 28 → D' j = D j) ∧ D' 47 0 = s.1 ∧ D' 48 0 = (s.2.length : Int) ∧ (∀ (k : Nat) x, s.2[k]? = some x → D' 49 k = x.1 ∧ D' 50 k = x.2.1 ∧ D' 51 k = x.2.2) ∧ D' 52 0 = c ∧ (c ≠ -1 → ∀ n, 0 ≤ n → n < 6 → D' 53 n = bd n) ∧ ∀ i, 0 ≤ i → i < D 23 0 → D' 29 i = if tk = true ∧ i = c then w32 (D 29 i + 1) else D 29 i
theorem Rn.D {D : ZD} {G G' : ZG} {s : RS} {c : Int} {bd : Int → Int} {tk : Bool} (h : Rn D G G' s c bd tk) (hK : ∀ j, 1 ≤ j → j ≤ 29 → zsg G 5 j = D j) : RnD D (zsg G' 5) s c bd tk :=
  ⟨fun j j1 j2 => by rw [h.2.1 j (by omega) (by omega) (by omega), hK j j1 (by omega)], h.2.2.2.1, h.2.2.1.1, h.2.2.1.2.1, h.2.2.2.2.2.1, h.2.2.2.2.2.2.1, h.2.2.2.2.2.2.2⟩
theorem Ru.cnt {D : ZD} {g : Int → Int} {b : Bool} {G0 G : ZG} {s : RS} {bd : Int → Int} (h : Ru D g b G0 G s bd) (b' : Bool) : Ru D g b' G0 (zss G 1 8 0 (bb b')) s bd := by
  obtain ⟨h1, h2, h3, h4, h5, h6, h7, h8, h9⟩ := h
  refine ⟨h1.ss _ _ _ (by simp) (by omega), fun i i0 i1 => ?_, ?_, ?_, ?_, fun k x hx => ?_, fun i i0 i1 => ?_, h8, h9⟩
  · rw [zsg_ss, if_neg (by omega)]; exact h2 i i0 i1
  · rw [zsg_ss, if_neg (by omega)]; exact h3
  · rw [zsg_ss, if_neg (by omega)]; exact h4
  · rw [zsg_ss, if_pos ⟨rfl, rfl, rfl⟩]
  · rw [zsg_ss, zsg_ss, zsg_ss, if_neg (by omega), if_neg (by omega), if_neg (by omega)]; exact h6 k x hx
  · rw [zsg_ss, if_neg (by omega)]; exact h7 i i0 i1
/-- the log has all views that the case needs: nothing is run anew, nothing counted -/
theorem rmc_bind {D : ZD} {g : Int → Int} {c : Int} {s : RS} (h : (pca D (hd D g) (fn s.2) c).1 ≠ 2) : (rmc D g false c s).1 = (pca D (hd D g) (fn s.2) c).1 ∧ (rmc D g false c s).2.1 = s ∧ (rmc D g false c s).2.2 = (pca D (hd D g) (fn s.2) c).2.2 := by
  have := mca_sim (D := D) (A := rA D g false) (V := rV D g) (C := tick false) (a := hd D g) (w := fn s.2) (I := fun t : RS => t = s) (fun p k t ht _ => ⟨rfl, by show tick false t = s; rw [ht]; rfl⟩) (fun v p t ht hw => by
    subst ht
    unfold fn at hw ⊢
    unfold rV
    cases hf : fnd t.2 v p with
    | none => rw [hf] at hw; exact absurd rfl hw
    | some x => exact ⟨rfl, rfl⟩) (fun t ht => by subst ht; rfl) (s := s) rfl h
  unfold rmc
  exact ⟨this.1, this.2.2, this.2.1⟩
theorem w1_binds {G0 G : ZG} {D : ZD} {g : Int → Int} {s : RS} {bd : Int → Int} {a kbx : Nat} {c : Int} {Q : ZG → Prop} (hC : CDx G0 D) (hM : MI D) (hg : GV D g) (hc : 0 ≤ c ∧ c < D 23 0) (hr : CRow G0 D a kbx c) (hR : Ru D g true G0 G s bd) (hp : (pca D (hd D g) (fn s.2) c).1 = 1)
    (hQ : ∀ G', Ru D g true G0 G' s (pca D (hd D g) (fn s.2) c).2.2 → Q G') : vX3_binds (some (.inl a)) G Q := by
  unfold vX3_binds
  rw [zpF_e]
  have hR1 : Ru D g false G0 (zss G 1 8 0 0) s bd := hR.cnt false
  refine w1_clear hR1 (fun G2 hR2 => ?_)
  refine w1_case hC hM hg hc hr hR2 (fun G3 hR3 => ?_)
  rw [zpF_e]
  have hR3 : Ru D g false G0 G3 (rmc D g false c s).2.1 (rmc D g false c s).2.2 := hR3
  have e := rmc_bind (D := D) (g := g) (c := c) (s := s) (by omega)
  rw [e.2.1, e.2.2] at hR3
  exact hQ _ (hR3.cnt true)
theorem CDx.latest {G0 H : ZG} {D : ZD} (h : CDx G0 D) (f : Fr [1] G0 H) (c : Int) : CDx (zss H 0 11 0 c) D ∧ Fr [0, 1] G0 (zss H 0 11 0 c) := by
  obtain ⟨hS, hCt, hCv, hCp, hCw, hCk, hCc⟩ := h
  have f2 : Fr [0, 1] G0 (zss H 0 11 0 c) := (f.mono (by simp)).ss _ _ _ (by simp) (by omega)
  refine ⟨⟨f2.2.1, hCt.fr f2 (by simp) rfl rfl rfl, hCv.fr f2 (by simp) (fun _ _ => rfl), hCp.fr f2 (by simp) (fun _ _ => rfl), fun v hv => ?_, ⟨?_, fun k k0 k1 => ?_⟩, hCc.fr f2 (by simp) (fun _ _ => rfl)⟩, f2⟩
  · obtain ⟨a, h1, h2⟩ := hCw v hv
    exact ⟨a, by rw [zsr_ss, f.r (by simp)]; exact h1, f2.hk h2⟩
  · rw [zsg_ss, if_neg (by omega), f.g (by simp)]; exact hCk.1
  · rw [zsg_ss, if_neg (by omega), f.g (by simp)]; exact hCk.2 k k0 k1
theorem Ru.base {D : ZD} {g : Int → Int} {b : Bool} {G0 H : ZG} {s : RS} {bd : Int → Int} (h : Ru D g b G0 H s bd) (c : Int) (hS : Sep (zss H 0 11 0 c)) : Ru D g b (zss H 0 11 0 c) (zss H 0 11 0 c) s bd := by
  obtain ⟨h1, h2, h3, h4, h5, h6, h7, h8, h9⟩ := h
  refine ⟨Fr.refl _ hS, fun i i0 i1 => ?_, ?_, ?_, ?_, fun k x hx => ?_, fun i i0 i1 => ?_, h8, h9⟩
  · rw [zsg_ss, if_neg (by omega)]; exact h2 i i0 i1
  · rw [zsg_ss, if_neg (by omega)]; exact h3
  · rw [zsg_ss, if_neg (by omega)]; exact h4
  · rw [zsg_ss, if_neg (by omega)]; exact h5
  · rw [zsg_ss, zsg_ss, zsg_ss, if_neg (by omega), if_neg (by omega), if_neg (by omega)]; exact h6 k x hx
  · rw [zsg_ss, if_neg (by omega)]; exact h7 i i0 i1
/-- the picture at the end -/
theorem CD.ran {B K : ZG} {D D' : ZD} {g : Int → Int} {s : RS} {c : Int} {bd : Int → Int} {tk : Bool} {K' : ZG} {ka kb : Nat → Nat} (hC : CDx B D) (hL : Lst B 10 (refs (D 23 0) ka)) (hcc : CCo B D ka kb) (hR : Ru D g true B K s bd) (hB : zsg B 0 11 0 = c) (hD : RnD D D' s c bd tk) (f : Fr [1, 16] B K')
    (h1 : ∀ j i, zsg K' 1 j i = zsg K 1 j i) (hc : ∀ i : Nat, (i : Int) < D 23 0 → ∃ nm th, zsj K' (ka i) = some (.inr (.inr (16, [.inr (some (.inl (kb i))), .inl (D 25 i), .inr (grf (D 26 i)), .inl nm, .inl th, .inl (D' 29 i)]))) ∧ (D 26 i ≠ -1 → nm = D 27 i ∧ th = D 28 i)) : CD K' D' := by
  obtain ⟨hS, hCt, hCv, hCp, hCw, hCk, hCc⟩ := hC
  obtain ⟨d1, d2, d3, d4, d5, d6, d7⟩ := hD
  obtain ⟨r1, r2, r3, r4, r5, r6, r7, r8, r9⟩ := hR
  refine ⟨f.2.1, hCt.fr f (by simp) (d1 1 (by omega) (by omega)) (d1 2 (by omega) (by omega)) (d1 3 (by omega) (by omega)), hCv.fr f (by simp) (fun j hj => d1 j (by omega) (by omega)), hCp.fr f (by simp) (fun j hj => d1 j (by omega) (by omega)), hCw.fr f (by simp) (d1 20 (by omega) (by omega)), hCk.fr f (by simp) (d1 21 (by omega) (by omega)) (d1 22 (by omega) (by omega)), ⟨ka, kb, ?_, ?_, fun i hi => ?_⟩, ⟨?_, ?_, fun k k0 k1 => ?_, ?_, fun hn n n0 n1 => ?_⟩⟩
  · rw [d1 23 (by omega) (by omega)]; exact f.lst ⟨by omega, by omega⟩ (by simp) hL
  · rw [d1 23 (by omega) (by omega)]; exact hcc.1
  · rw [d1 23 (by omega) (by omega)] at hi
    rw [d1 25 (by omega) (by omega), d1 26 (by omega) (by omega), d1 27 (by omega) (by omega), d1 28 (by omega) (by omega), d1 21 (by omega) (by omega), d1 24 (by omega) (by omega)]
    exact ⟨hc i hi, f.hk (hcc.2 i hi).2⟩
  · rw [h1, r3, d3]
  · rw [h1, r4, d2]
  · rw [d3] at k1
    obtain ⟨x, hx⟩ : ∃ x, s.2[k.toNat]? = some x := ⟨_, List.getElem?_eq_getElem (by omega)⟩
    have a := r6 _ x hx
    have b := d4 _ x hx
    rw [show ((k.toNat : Nat) : Int) = k by omega] at a b
    rw [h1, h1, h1, a.1, a.2.1, a.2.2, b.1, b.2.1, b.2.2]; exact ⟨rfl, rfl, rfl⟩
  · rw [f.g (by simp), hB, d5]
  · rw [d5] at hn
    rw [h1, r7 n n0 n1, d6 hn n n0 n1]
/-- the end of a run, from what was found -/
theorem w1_fin {G0 H : ZG} {D : ZD} {g : Int → Int} {s : RS} {bd0 : Int → Int} {c : Int} {Q : Int → ZG → Prop} (hC : CDx G0 D) (hM : MI D) (hg : GV D g) (hR : Ru D g true G0 H s bd0) (hc : c = -1 ∨ ((0 ≤ c ∧ c < D 23 0) ∧ (pca D (hd D g) (fn s.2) c).1 = 1))
    (hQ0 : c = -1 → ∀ G', Fr [0, 1, 16] G0 G' → (∀ D' bd, RnD D D' s (-1) bd true → CD G' D') → Q (-1) G')
    (hQ1 : c ≠ -1 → ∀ bd, bd = (pca D (hd D g) (fn s.2) c).2.2 → ∀ G', Fr [0, 1, 16] G0 G' → (∀ D', RnD D D' s c bd (decide (gd D g bd c ≠ 2)) → CD G' D') → Q (if gd D g bd c = 2 then -2 else D 25 c) G') :
    zpF H 0 11 c fun (G8 : ZG) => vX2_clearNamesR G8 fun (G9 : ZG) => zgF G9 0 11 fun (x9 : Int) => zbr (x9 ≠ (-1)) (zgF G9 0 11 fun (x10 : Int) => vJ2_get 10 x10 G9 fun (x11 : ZR) => zca G9 x11 16 ∧ vX3_binds x11 G9 fun (G10 : ZG) => vX3_guards x11 G10 fun (x12 : Int) => zbr (x12 ≠ 2) (zdI G10 x11 16 5 fun (x13 : Int) => zdP G10 x11 16 5 (.inl (w32 (x13 + 1))) fun (G11 : ZG) => zdI G11 x11 16 1 fun (x14 : Int) => Q x14 G11) (Q (-2) G10)) (Q (-1) G9) := by
  rw [zpF_e]
  obtain ⟨hC8, f8⟩ := hC.latest hR.1 c
  have hR8 := hR.base c hC8.1
  have h11 : zsg (zss H 0 11 0 c) 0 11 0 = c := by rw [zsg_ss, if_pos ⟨rfl, rfl, rfl⟩]
  generalize zss H 0 11 0 c = B at hC8 f8 hR8 h11
  obtain ⟨ka, kb, hLc, hcc⟩ := hC8.2.2.2.2.2.2
  have fB : ∀ {K : ZG}, Fr [1, 16] B K → Fr [0, 1, 16] G0 K := fun f => (f8.mono (by simp)).trans (f.mono (by simp))
  refine w1_clear hR8 (fun G9 hR9 => ?_)
  rw [zgF_e, hR9.1.g (by simp), h11]
  refine zbr_i (fun hn => ?_) (fun hn => ?_)
  · obtain ⟨hc, hp⟩ := hc.resolve_left hn
    have hrow : CRow B D (ka c.toNat) (kb c.toNat) c := by
      have := hcc.2 c.toNat (by omega)
      rw [show ((c.toNat : Nat) : Int) = c by omega] at this
      exact this
    rw [zgF_e, hR9.1.g (by simp), h11]
    refine sJ2_get (hR9.1.lst ⟨by omega, by omega⟩ (by simp) hLc) hc.1 (refs_get hc.1 hc.2) ?_
    obtain ⟨⟨nm0, th0, hk1, hnt⟩, hkb⟩ := id hrow
    have hkk := hR9.1.2.2.2.2.1 (by simp) _ _ hk1 rfl
    refine ⟨zca_i hkk, w1_binds hC8 hM hg hc hrow hR9 hp (fun G10 hR10 => ?_)⟩
    have hb := rmc_bind (D := D) (g := g) (c := c) (s := s) (by omega)
    have q1 := hQ1 hn _ rfl
    have hbd : D 26 c ≠ -1 → tpx D g (pca D (hd D g) (fn s.2) c).2.2 (D 27 c) := fun h26 => by
      have hcw := (hM.2.2.2.2.1.2.2.2.2.2.2 c hc.1 hc.2).2.2.2.2.2.1 h26
      have := mca_b (b := false) (s := s) hM hg hc ⟨hcw.1, hcw.2.1⟩ (by rw [← hp]; exact hb.1) hcw.2.2.2.2
      change tpx D g (rmc D g false c s).2.2 (D 27 c) at this
      rw [hb.2.2] at this
      exact this
    generalize (pca D (hd D g) (fn s.2) c).2.2 = bd at hR10 hbd q1
    refine w1_guards hC8 hM hg hc hrow hR10 hbd ?_
    have hk10 := hR10.1.2.2.2.2.1 (by simp) _ _ hk1 rfl
    have f10 : Fr [1, 16] B G10 := hR10.1.mono (by simp)
    have rows : ∀ i : Nat, (i : Int) < D 23 0 → ∃ nm th, zsj G10 (ka i) = some (.inr (.inr (16, [.inr (some (.inl (kb i))), .inl (D 25 i), .inr (grf (D 26 i)), .inl nm, .inl th, .inl (D 29 i)]))) ∧ (D 26 i ≠ -1 → nm = D 27 i ∧ th = D 28 i) := fun i hi => by
      obtain ⟨⟨nm, th, g1, g2⟩, -⟩ := hcc.2 i hi
      exact ⟨nm, th, hR10.1.2.2.2.2.1 (by simp) _ _ g1 rfl, g2⟩
    refine zbr_i (fun h2 => ?_) (fun h2 => ?_)
    · rw [zdI_e hk10 rfl]
      refine zdP_i hk10 ?_
      rw [zdI_e (zsj_eq _ _ _) rfl]
      have f11 := f10.cas hC8.1 (fs' := [.inr (some (.inl (kb c.toNat))), .inl (D 25 c), .inr (grf (D 26 c)), .inl nm0, .inl th0, .inl (w32 (D 29 c + 1))]) (by simp) hk10
      rw [if_neg h2, decide_eq_true h2] at q1
      refine q1 _ (fB f11) (fun D' hD => ?_)
      refine CD.ran hC8 hLc hcc hR10 h11 hD f11 (fun j i => rfl) (fun i hi => ?_)
      obtain ⟨nm, th, g1, g2⟩ := rows i hi
      have e29 := hD.2.2.2.2.2.2 i (by omega) hi
      by_cases hic : i = c.toNat
      · subst hic
        have ec : ((c.toNat : Nat) : Int) = c := by omega
        rw [ec] at e29 g2 ⊢
        rw [if_pos ⟨rfl, rfl⟩] at e29
        rw [e29]
        exact ⟨nm0, th0, zsj_eq _ _ _, hnt⟩
      · rw [if_neg (fun z => hic (by omega))] at e29
        rw [e29]
        exact ⟨nm, th, by rw [zsj_ne (fun e => hic (hcc.1 i c.toNat hi (by omega) e))]; exact g1, g2⟩
    · have h2 := Decidable.of_not_not h2
      rw [if_pos h2, decide_eq_false (fun z => z h2)] at q1
      refine q1 _ (fB f10) (fun D' hD => ?_)
      refine CD.ran hC8 hLc hcc hR10 h11 hD f10 (fun j i => rfl) (fun i hi => ?_)
      have e29 := hD.2.2.2.2.2.2 i (by omega) hi
      rw [if_neg (fun z => by cases z.1)] at e29
      rw [e29]
      exact rows i hi
  · have hn' : c = -1 := Decidable.of_not_not hn
    refine hQ0 hn' G9 (fB (hR9.1.mono (by simp))) (fun D' bd hD => ?_)
    have hD2 : RnD D D' s c (fun _ => -1) true := by
      rw [hn']
      exact ⟨hD.1, hD.2.1, hD.2.2.1, hD.2.2.2.1, hD.2.2.2.2.1, fun h => absurd rfl h, hD.2.2.2.2.2.2⟩
    refine CD.ran hC8 hLc hcc hR9 h11 hD2 (hR9.1.mono (by simp)) (fun j i => rfl) (fun i hi => ?_)
    have e29 := hD.2.2.2.2.2.2 i (by omega) hi
    rw [if_neg (fun z => by have := z.2; omega)] at e29
    rw [e29]
    obtain ⟨⟨nm, th, g1, g2⟩, -⟩ := hcc.2 i hi
    exact ⟨nm, th, hR9.1.2.2.2.2.1 (by simp) _ _ g1 rfl, g2⟩
