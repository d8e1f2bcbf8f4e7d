/-! COMPONENT: cases added, split, merged -/
set_option maxRecDepth 100000
theorem refs_set {n : Int} {f : Nat → Nat} {i : Nat} {x : Nat} : (refs n f).set i (some (.inl x)) = refs n (fun k => if k = i then x else f k) := by
  refine List.ext_getElem (by simp [refs_len]) (fun k h1 h2 => ?_)
  simp only [refs, List.getElem_set, List.getElem_map, List.getElem_range]
  by_cases h : k = i
  · rw [if_pos h.symm, if_pos h]
  · rw [if_neg (Ne.symm h), if_neg h]
theorem refs_ins {n : Int} {f : Nat → Nat} {i : Nat} {x : Nat} (hn : 0 ≤ n) (hi : (i : Int) ≤ n) : (refs n f).take i ++ some (.inl x) :: (refs n f).drop i = refs (n + 1) (fun k => if k < i then f k else if k = i then x else f (k - 1)) := by
  refine List.ext_getElem (by simp [refs_len]; omega) (fun k h1 h2 => ?_)
  have hlen : ((refs n f).take i).length = i := by rw [List.length_take, refs_len]; omega
  rw [List.getElem_append]
  simp only [hlen]
  by_cases h : k < i
  · rw [dif_pos h]
    simp only [refs, List.getElem_take, List.getElem_map, List.getElem_range, if_pos h]
  · rw [dif_neg h]
    by_cases h2 : k = i
    · subst h2
      simp only [refs, Nat.sub_self, List.getElem_cons_zero, List.getElem_map, List.getElem_range]
      rw [if_neg h, if_pos trivial]
    · obtain ⟨d, hd⟩ : ∃ d, k - i = d + 1 := ⟨k - i - 1, by omega⟩
      simp only [hd, List.getElem_cons_succ, List.getElem_drop, refs, List.getElem_map, List.getElem_range]
      rw [if_neg h, if_neg h2, show i + d = k - 1 by omega]
theorem refs_del {n : Int} {f : Nat → Nat} {i : Nat} (hi : (i : Int) < n) : (refs n f).eraseIdx i = refs (n - 1) (fun k => if k < i then f k else f (k + 1)) := by
  refine List.ext_getElem (by rw [List.length_eraseIdx, refs_len, refs_len, if_pos (by omega)]; omega) (fun k h1 h2 => ?_)
  rw [List.getElem_eraseIdx]
  by_cases h : k < i
  · rw [dif_pos h]; simp only [refs, List.getElem_map, List.getElem_range, if_pos h]
  · rw [dif_neg h]; simp only [refs, List.getElem_map, List.getElem_range, if_neg h]
theorem ints_set {n : Int} {f : Int → Int} {i x : Int} (h0 : 0 ≤ i) : (ints n f).set i.toNat x = ints n (fun k => if k = i then x else f k) := by
  refine List.ext_getElem (by simp [ints_len]) (fun k h1 h2 => ?_)
  simp only [ints, List.getElem_set, List.getElem_map, List.getElem_range]
  by_cases h : i.toNat = k
  · rw [if_pos h, if_pos (by omega)]
  · rw [if_neg h, if_neg (by omega)]
/-- a case's cells -/
def CRow (G : ZG) (D : ZD) (a b : Nat) (i : Int) : Prop :=
  (∃ nm th, zsj G a = some (.inr (.inr (16, [.inr (some (.inl b)), .inl (D 25 i), .inr (grf (D 26 i)), .inl nm, .inl th, .inl (D 29 i)]))) ∧ (D 26 i ≠ -1 → nm = D 27 i ∧ th = D 28 i)) ∧
  HI G b (.inl (0, ints (D 21 0) fun k => D 24 (3 * i + k)))
theorem CRow.eq {G : ZG} {D D' : ZD} {a b : Nat} {i i' : Int} (h : CRow G D a b i) (h3 : D 21 0 ≤ 3) (e21 : D' 21 0 = D 21 0) (e24 : ∀ k, 0 ≤ k → k < 3 → D' 24 (3 * i' + k) = D 24 (3 * i + k)) (e25 : D' 25 i' = D 25 i) (e26 : D' 26 i' = D 26 i) (e27 : D 26 i ≠ -1 → D' 27 i' = D 27 i ∧ D' 28 i' = D 28 i) (e29 : D' 29 i' = D 29 i) : CRow G D' a b i' := by
  obtain ⟨⟨nm, th, h1, h2⟩, h3'⟩ := h
  unfold CRow
  rw [e21, e25, e26, e29]
  refine ⟨⟨nm, th, h1, fun q => ?_⟩, ?_⟩
  · have := e27 q; rw [this.1, this.2]; exact h2 q
  · rw [ints_congr (f := fun k => D 24 (3 * i + k)) (fun k k0 k1 => e24 k k0 (by omega))]; exact h3'
theorem CRow.fr {S : List Nat} {G G' : ZG} {D : ZD} {a b : Nat} {i : Int} (h : CRow G D a b i) (f : Fr S G G') (hs : 16 ∉ S) : CRow G' D a b i := by
  obtain ⟨⟨nm, th, h1, h2⟩, h3⟩ := h
  exact ⟨⟨nm, th, f.2.2.2.2.1 hs _ _ h1 rfl, h2⟩, f.hk h3⟩
/-- a new case's object -/
theorem sX16_init {G : ZG} {a : Nat} {p0 : ZR} {p1 : Int} (hj : zsj G a = some (.inr (.inr (16, zdf 16)))) {Q : ZG → Prop} (h : Q (zsc G a (.inr (.inr (16, [.inr p0, .inl p1, .inr none, .inl 0, .inl 0, .inl 0]))))) : vX16_init (some (.inl a)) p0 p1 G Q := by
  rw [zdf16] at hj
  refine ⟨⟨a, rfl⟩, ?_⟩
  refine zdP_i hj ?_
  refine zdP_i (zsj_eq _ _ _) ?_
  rw [zsc_zsc]
  exact h
def addK (D : ZD) (a b c r : Int) : ZD := fun j i =>
  if j = 23 ∧ i = 0 then D 23 0 + 1
  else if j = 24 then (if i = 3 * D 23 0 + 2 then c else if i = 3 * D 23 0 + 1 then b else if i = 3 * D 23 0 then a else D 24 i)
  else if j = 25 ∧ i = D 23 0 then r else if j = 26 ∧ i = D 23 0 then -1 else if j = 29 ∧ i = D 23 0 then 0 else D j i
theorem addK_o {D : ZD} {a b c r : Int} {j : Nat} (h : j ≠ 23 ∧ j ≠ 24 ∧ j ≠ 25 ∧ j ≠ 26 ∧ j ≠ 29) : addK D a b c r j = D j := by
  funext i; unfold addK; rw [if_neg (by omega), if_neg (by omega), if_neg (by omega), if_neg (by omega), if_neg (by omega)]
theorem addK_23 {D : ZD} {a b c r : Int} : addK D a b c r 23 0 = D 23 0 + 1 := rfl
theorem addK_24n {D : ZD} {a b c r k : Int} (h0 : 0 ≤ k) (h3 : k < 3) : addK D a b c r 24 (3 * D 23 0 + k) = pk a b c k := by
  unfold addK
  rw [if_neg (by omega), if_pos rfl]
  have h : k = 0 ∨ k = 1 ∨ k = 2 := by omega
  rcases h with rfl | rfl | rfl
  · rw [if_neg (by omega), if_neg (by omega), if_pos (by omega)]; rfl
  · rw [if_neg (by omega), if_pos (by omega)]; rfl
  · rw [if_pos (by omega)]; rfl
theorem addK_24l {D : ZD} {a b c r k i : Int} (h0 : 0 ≤ k) (h3 : k < 3) (hi : i ≠ D 23 0) : addK D a b c r 24 (3 * i + k) = D 24 (3 * i + k) := by
  unfold addK
  rw [if_neg (by omega), if_pos rfl, if_neg (by omega), if_neg (by omega), if_neg (by omega)]
theorem addK_l {D : ZD} {a b c r : Int} {j : Nat} {i : Int} (h : 25 ≤ j) (hi : i ≠ D 23 0) : addK D a b c r j i = D j i := by
  unfold addK; rw [if_neg (by omega), if_neg (by omega), if_neg (by omega), if_neg (by omega), if_neg (by omega)]
theorem Lst.chg {G : ZG} {o : Nat} {L : List ZR} (h : Lst G o L) (ho : isl o) : Lst (zss (zss (zss G 2 11 0 0) 3 11 0 0) 4 2 0 0) o L := by
  refine ⟨?_, h.2⟩
  have := ho.1
  rw [zsg_ss, if_neg (by omega), zsg_ss, if_neg (by omega), zsg_ss, if_neg (by omega)]; exact h.1
/-- all but the cases, behind a change of the list of cases -/
theorem CD.of10 {G G' : ZG} {D D' : ZD} (h : CD G D) (f : Fr [10, 2, 3, 4] G G') (hc : CIc G' D') (e : ∀ j, (j < 23 ∨ 29 < j) → D' j = D j) : CD G' D' := by
  obtain ⟨h0, h1, h2, h3, h4, h5, h6, h7⟩ := h
  exact ⟨f.2.1, h1.fr f (by simp) (e 1 (by omega)) (e 2 (by omega)) (e 3 (by omega)), h2.fr f (by simp) (fun j hj => e j (by omega)), h3.fr f (by simp) (fun j hj => e j (by omega)), h4.fr f (by simp) (e 20 (by omega)), h5.fr f (by simp) (e 21 (by omega)) (e 22 (by omega)), hc, h7.fr f (by simp) (fun j hj => e j (by omega))⟩
def cOk2 (D : ZD) (a b c r : Int) : Prop := rpN (D 21 0) a b c ∧ (0 ≤ r ∧ r ≤ 99) ∧ pfit D (D 22) (D 21 0) a b c
theorem k1_add {G : ZG} {D : ZD} {a b c r : Int} {X : Nat → ZG → Prop} {Q : Int → ZG → Prop} (hC : CD G D) (hM : MI D)
    (hX0 : ¬ rpI (D 21 0) (D 9 0) a b c → ∀ G', Fr [] G G' → X 0 G') (hX1 : rpI (D 21 0) (D 9 0) a b c → ¬ cOk2 D a b c r → ∀ G', Fr [] G G' → X 1 G')
    (hX2 : rpI (D 21 0) (D 9 0) a b c → cOk2 D a b c r → ¬ (0 < D 21 0 ∧ D 23 0 < 8) → ∀ G', Fr [] G G' → X 2 G')
    (hQ : rpI (D 21 0) (D 9 0) a b c → cOk2 D a b c r → (0 < D 21 0 ∧ D 23 0 < 8) → ∀ G', Fr [10, 2, 3, 4] G G' → Chg G' → CD G' (addK D a b c r) → Q (D 23 0) G') : vX1_add a b c r G X Q := by
  have hS := hC.1
  obtain ⟨td, pa, pf, hL, hP⟩ := hC.2.2.2.1
  obtain ⟨ka, kb, hLc, hcc⟩ := hC.2.2.2.2.2.2.1
  have m9 : 0 ≤ D 9 0 ∧ D 9 0 ≤ 60 := ⟨hM.2.2.1.1, hM.2.2.1.2.1⟩
  have m21 : 0 ≤ D 21 0 ∧ D 21 0 ≤ 3 := ⟨hM.2.2.2.2.1.1, hM.2.2.2.2.1.2.1⟩
  have m23 : 0 ≤ D 23 0 ∧ D 23 0 ≤ 8 := ⟨hM.2.2.2.2.1.2.2.2.1, hM.2.2.2.2.1.2.2.2.2.1⟩
  have hk := hC.2.2.2.2.2.1
  unfold vX1_add
  rw [zgF_e, eJ2_size, e9sz hM hL, hk.1]
  generalize hm : D 21 0 = m at *
  have hk0 : zsg G 0 5 0 = m := hk.1.trans hm
  refine sX1_requireParts m21.1 m21.2 m9.1 (by omega) hS (fun q K f => hX0 q K f) (fun q1 q2 K f => hX1 q1 (fun z => q2 (hm ▸ z.1)) K f) (fun hI hN K1 f1 => ?_)
  rw [eX1_inRange, zgF_e, f1.g (by simp), hk0]
  refine sX1_firstOf m21.1 m21.2 (fun y hy => ?_)
  have f2 := f1.new hS (c := .inl (0, ints m (pk a b c))) hy
  have hy2 := f2.hi (by simp) hS (f1.1.old hy) (zsj_eq _ _ _) (imm_int (t := 0) (l := ints m (pk a b c)))
  generalize zsc K1 y (.inl (0, ints m (pk a b c))) = K2 at f2 hy2
  have hL2 := f2.lst ⟨by omega, by omega⟩ (by simp) hL
  have hP2' := hP.fr f2 (D' := D) (fun _ _ => rfl)
  have hk2 : zsg K2 0 5 0 = m := by rw [f2.g (by simp), hk0]
  refine zl3_of (fun ft nm k => 0 ≤ k ∧ k ≤ m ∧ ((ft = 1 ∧ nm = nmo D a b c k.toNat ∧ (0 ≤ r ∧ r ≤ 99) ∧ ∀ j, 0 ≤ j → j < k → fitk D (pk a b c j) (D 22 j) ∧ bAnd (D 17 (pk a b c j)) (nmo D a b c j.toNat) = 0) ∨ (ft = 0 ∧ ¬ cOk2 D a b c r))) (fun _ _ k => (m - k).toNat) (fun P ft nm k hJ hPP => ?_) ⟨by omega, m21.1, ?_⟩
  · obtain ⟨k0, k1, hJ⟩ := hJ
    rw [zgF_e, hk2]
    dsimp only [zjn]
    have hfin : (ft = 0 ∨ m ≤ k) → vX1_requireArgument ft K2 X fun (_ : Unit) => zgF K2 0 5 fun x7 => zbr (x7 ≤ 0) (vX1_requireState 0 K2 X fun (_ : Unit) => znw K2 (.inr (.inr (16, zdf 16))) fun (x8 : ZR) (G3 : ZG) => znn x8 ∧ vX16_init x8 (some (.inl y)) r G3 fun (G4 : ZG) => vJ2_add 10 x8 G4 fun (x10 : Int) (G5 : ZG) => vX1_changed G5 fun (G6 : ZG) => vJ2_size 10 G6 fun (x11 : Int) => Q (w32 (x11 - 1)) G6) (vJ2_size 10 K2 fun (x12 : Int) => zbr (8 ≤ x12) (vX1_requireState 0 K2 X fun (_ : Unit) => znw K2 (.inr (.inr (16, zdf 16))) fun (x8 : ZR) (G3 : ZG) => znn x8 ∧ vX16_init x8 (some (.inl y)) r G3 fun (G4 : ZG) => vJ2_add 10 x8 G4 fun (x10 : Int) (G5 : ZG) => vX1_changed G5 fun (G6 : ZG) => vJ2_size 10 G6 fun (x11 : Int) => Q (w32 (x11 - 1)) G6) (vX1_requireState 1 K2 X fun (_ : Unit) => znw K2 (.inr (.inr (16, zdf 16))) fun (x8 : ZR) (G3 : ZG) => znn x8 ∧ vX16_init x8 (some (.inl y)) r G3 fun (G4 : ZG) => vJ2_add 10 x8 G4 fun (x10 : Int) (G5 : ZG) => vX1_changed G5 fun (G6 : ZG) => vJ2_size 10 G6 fun (x11 : Int) => Q (w32 (x11 - 1)) G6)) := by
      intro hex
      rcases hJ with ⟨rfl, rfl, hr, hJ⟩ | ⟨rfl, hno⟩
      · have e : k = m := by omega
        subst e
        have hok : cOk2 D a b c r := ⟨by rw [hm]; exact hN, hr, by rw [hm]; exact hJ⟩
        rw [reqA1, zgF_e, hk2, reqS0]
        refine zbr_i (fun h => hX2 hI hok (by omega) _ f2) (fun h => ?_)
        have hLc2 := f2.lst ⟨by omega, by omega⟩ (by simp) hLc
        have e10 : zsg K2 10 2 0 = D 23 0 := by rw [hLc2.1, refs_len]; omega
        rw [eJ2_size, e10]
        refine zbr_i (fun h2 => hX2 hI hok (by omega) _ f2) (fun h2 => ?_)
        rw [reqS1]
        intro x hx
        refine ⟨⟨x, rfl⟩, sX16_init (zsj_eq _ _ _) ?_⟩
        rw [zsc_zsc]
        have f3 := f2.new hS (c := .inr (.inr (16, [.inr (some (.inl y)), .inl r, .inr none, .inl 0, .inl 0, .inl 0]))) hx
        have hx3 : zsj (zsc K2 x (.inr (.inr (16, [.inr (some (.inl y)), .inl r, .inr none, .inl 0, .inl 0, .inl 0])))) x = _ := zsj_eq _ _ _
        have hnewx := f2.1.old hx
        have hy3 := ((Fr.refl [] f2.2.1).new f2.2.1 (c := .inr (.inr (16, [.inr (some (.inl y)), .inl r, .inr none, .inl 0, .inl 0, .inl 0]))) hx).hk hy2
        generalize zsc K2 x (.inr (.inr (16, [.inr (some (.inl y)), .inl r, .inr none, .inl 0, .inl 0, .inl 0]))) = K3 at f3 hx3 hy3
        refine sAppend f3.2.1 ⟨by omega, by omega⟩ (f3.lst ⟨by omega, by omega⟩ (by simp) hLc) m23.1 (by omega) (fun i hi => ?_) (zel_o3 hx3) (fun K4 f4 hL4 => ?_)
        · obtain ⟨nm, th, g1, -⟩ := (hcc.2 i hi).1
          exact zel_o3 (f3.2.2.2.2.1 (by simp) _ _ g1 rfl)
        · have f5 := ((f3.mono (S' := [10, 2, 3, 4]) (by simp)).trans (f4.mono (S' := [10, 2, 3, 4]) (by simp))).chg (by simp) (by simp) (by simp)
          have f34 := (f3.mono (S' := [10]) (by simp)).trans f4
          rw [eX1_changed, eJ2_size, (hL4.chg ⟨by omega, by omega⟩).1, refs_len, w32_eq (by omega) (by omega), show (((D 23 0 + 1).toNat : Nat) : Int) - 1 = D 23 0 by omega]
          refine hQ hI hok (by omega) _ f5 (Chg.of _) (hC.of10 f5 ⟨snoc (D 23 0) ka x, snoc (D 23 0) kb y, by rw [addK_23]; exact hL4.chg ⟨by omega, by omega⟩, ?_, ?_⟩ (fun j hj => addK_o (by omega)))
          · intro i j hi hj e
            rw [addK_23] at hi hj
            have hne : ∀ i : Nat, (i : Int) < D 23 0 → ka i ≠ x := fun i hi e => by
              obtain ⟨nm, th, g1, -⟩ := (hcc.2 i hi).1
              rw [e, hnewx] at g1; cases g1
            by_cases hi2 : i = (D 23 0).toNat <;> by_cases hj2 : j = (D 23 0).toNat
            · rw [hi2, hj2]
            · rw [hi2, snoc_at, snoc_lt (by omega)] at e; exact absurd e.symm (hne j (by omega))
            · rw [hj2, snoc_at, snoc_lt (by omega)] at e; exact absurd e (hne i (by omega))
            · rw [snoc_lt (by omega), snoc_lt (by omega)] at e; exact hcc.1 i j (by omega) (by omega) e
          · intro i hi
            rw [addK_23] at hi
            by_cases hi2 : i = (D 23 0).toNat
            · subst hi2
              have e9 : (((D 23 0).toNat : Nat) : Int) = D 23 0 := by omega
              rw [snoc_at, snoc_at, e9]
              refine ⟨⟨0, 0, ?_, fun q => ?_⟩, ?_⟩
              · have := f4.2.2.2.2.1 (by simp) _ _ hx3 rfl
                have e25 : addK D a b c r 25 (D 23 0) = r := by unfold addK; rw [if_neg (by omega), if_neg (by omega), if_pos ⟨rfl, rfl⟩]
                have e26 : addK D a b c r 26 (D 23 0) = -1 := by unfold addK; rw [if_neg (by omega), if_neg (by omega), if_neg (by omega), if_pos ⟨rfl, rfl⟩]
                have e29 : addK D a b c r 29 (D 23 0) = 0 := by unfold addK; rw [if_neg (by omega), if_neg (by omega), if_neg (by omega), if_neg (by omega), if_pos ⟨rfl, rfl⟩]
                rw [e25, e26, e29]
                exact this
              · exfalso; apply q
                unfold addK; rw [if_neg (by omega), if_neg (by omega), if_neg (by omega), if_pos ⟨rfl, rfl⟩]
              · rw [addK_o (j := 21) (by omega), hm, ints_congr (f := pk a b c) (fun j j0 j1 => addK_24n j0 (by omega))]
                exact f4.hk hy3
            · have hi3 : (i : Int) < D 23 0 := by omega
              rw [snoc_lt hi3, snoc_lt hi3]
              have hrow : CRow (zss (zss (zss K4 2 11 0 0) 3 11 0 0) 4 2 0 0) D (ka i) (kb i) i := CRow.fr (S := [10, 2, 3, 4]) (hcc.2 i hi3) f5 (by simp)
              exact hrow.eq (by omega) (by rw [addK_o (by omega)]) (fun k k0 k1 => addK_24l k0 k1 (by omega)) (addK_l (by omega) (by omega)) (addK_l (by omega) (by omega)) (fun _ => ⟨addK_l (by omega) (by omega), addK_l (by omega) (by omega)⟩) (addK_l (by omega) (by omega))
      · rw [reqA0]; exact hX1 hI hno _ f2
    refine zbr_i (fun h => hfin (Or.inr h)) (fun h => zbr_i (fun h2 => hfin (Or.inl h2)) (fun h2 => ?_))
    rcases hJ with ⟨rfl, rfl, hr, hJ⟩ | ⟨rfl, hno⟩
    · have hIk := hI k k0 (by omega)
      refine zeI_i hy2.1 k0 (ints_get k0 (by omega)) ?_
      refine sX1_told hL2 hP2' hIk.1 hIk.2 (fun ht => ?_)
      refine ⟨k0, by omega, zisO_i ht.1, ?_⟩
      rw [f2.g (by simp), hk.2 k k0 (by omega), Tl.fits ht]
      have ek : (k + 1).toNat = k.toNat + 1 := by omega
      have ek2 : ((k.toNat : Nat) : Int) = k := by omega
      have fin : ∀ z : Int, (z = 1 → fitk D (pk a b c k) (D 22 k) ∧ bAnd (D 17 (pk a b c k)) (nmo D a b c k.toNat) = 0) → (z = 0 → ¬ cOk2 D a b c r) → (z = 0 ∨ z = 1) → zeI K2 (some (.inl y)) k fun x18 => vX1_told x18 K2 fun x19 => zisO K2 x19 9 ∧ vX9_names x19 K2 fun x21 => zlt1 (bOr (nmo D a b c k.toNat) x21) fun x22 => zlt1 (w32 (k + 1)) fun x23 => P z x22 x23 := by
        intro z hz1 hz0 hz
        refine zeI_i hy2.1 k0 (ints_get k0 (by omega)) ?_
        refine sX1_told hL2 hP2' hIk.1 hIk.2 (fun ht => ⟨zisO_i ht.1, ?_⟩)
        rw [Tl.names ht, zlt1_e, zlt1_e, w32_eq (by omega) (by omega)]
        refine hPP _ _ _ ⟨by omega, by omega, ?_⟩ (by omega)
        rcases hz with rfl | rfl
        · exact Or.inr ⟨rfl, hz0 rfl⟩
        · refine Or.inl ⟨rfl, ?_, hr, fun j j0 j1 => ?_⟩
          · rw [ek]; simp only [nmo]; rw [ek2]
          · by_cases hjk : j = k
            · rw [hjk]; exact hz1 rfl
            · exact hJ j j0 (by omega)
      refine zbr_i (fun h3 => fin 0 (fun q => by cases q) (fun _ q => ?_) (Or.inl rfl)) (fun h3 => ?_)
      · rw [bb0] at h3
        have := (q.2.2 k k0 (by rw [hm]; omega)).1
        rw [← fkb_iff, h3] at this; cases this
      · refine zeI_i hy2.1 k0 (ints_get k0 (by omega)) ?_
        refine sX1_told hL2 hP2' hIk.1 hIk.2 (fun ht => ⟨zisO_i ht.1, ?_⟩)
        rw [Tl.names ht]
        refine zbr_i (fun h4 => fin 0 (fun q => by cases q) (fun _ q => h4 (q.2.2 k k0 (by rw [hm]; omega)).2) (Or.inl rfl)) (fun h4 => fin 1 (fun _ => ⟨?_, Decidable.of_not_not h4⟩) (fun q => by cases q) (Or.inr rfl))
        rw [← fkb_iff]
        cases hh : fkb D (pk a b c k) (D 22 k) with
        | true => rfl
        | false => rw [hh] at h3; exact absurd rfl h3
    · exact absurd rfl h2
  · by_cases hr : 0 ≤ r ∧ r ≤ 99
    · exact Or.inl ⟨by rw [decide_eq_true hr.1, decide_eq_true hr.2]; rfl, rfl, hr, fun j _ _ => by omega⟩
    · refine Or.inr ⟨?_, fun q => hr q.2.1⟩
      by_cases h0 : 0 ≤ r
      · rw [decide_eq_true h0, decide_eq_false (by omega)]; rfl
      · rw [decide_eq_false h0]; rfl
