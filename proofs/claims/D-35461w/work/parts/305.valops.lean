/-! COMPONENT: values and constructors -/
set_option maxRecDepth 100000
theorem CD.of8 {G G' : ZG} {D D' : ZD} (h : CD G D) (f : Fr [8] G G') (hv : CIv G' D') (e : ∀ j, j < 4 ∨ 8 < j → D' j = D j) : CD G' D' := by
  obtain ⟨h0, h1, h2, h3, h4, h5, h6, h7⟩ := h
  exact ⟨f.2.1, h1.fr f (by simp) (e 1 (by omega)) (e 2 (by omega)) (e 3 (by omega)), hv, h3.fr f (by simp) (fun j hj => e j (by omega)), h4.fr f (by simp) (e 20 (by omega)), h5.fr f (by simp) (e 21 (by omega)) (e 22 (by omega)), h6.fr f (by simp) (fun j hj => e j (by omega)), h7.fr f (by simp) (fun j hj => e j (by omega))⟩
theorem CD.of {G G' : ZG} {D : ZD} (h : CD G D) (f : Fr [] G G') : CD G' D := by
  obtain ⟨h0, h1, h2, h3, h4, h5, h6, h7⟩ := h
  exact ⟨f.2.1, h1.fr f (by simp) rfl rfl rfl, h2.fr f (by simp) (fun _ _ => rfl), h3.fr f (by simp) (fun j hj => rfl), h4.fr f (by simp) rfl, h5.fr f (by simp) rfl rfl, h6.fr f (by simp) (fun j hj => rfl), h7.fr f (by simp) (fun j hj => rfl)⟩
theorem vn_le {D : ZD} (hM : MI D) {i : Int} (h0 : 0 ≤ i) (h1 : i < D 4 0) : 0 ≤ vn D i ∧ vn D i ≤ 3 := by
  have hv := hM.2.1.2.2 i h0 h1
  obtain ⟨a1, a2, -, -, a3, a4, a5⟩ := hv
  unfold vn
  by_cases h4 : D 5 i = 4
  · rw [if_pos h4]; omega
  · rw [if_neg h4]
    by_cases h5 : D 5 i = 5
    · rw [if_pos h5]; have := a4 h5; omega
    · rw [if_neg h5]
      have b := a5 (by omega)
      have c := (hM.1 (D 5 i) a1 (by omega)).2.2 (D 6 i) b.1 b.2.1
      exact ⟨c.1, c.2.1⟩
/-- a value's cells made and added: what is left of it is the list -/
theorem vAdd {G : ZG} {D : ZD} (hC : CD G D) (hM : MI D) {k h a b c m : Int} {x y : Nat} {K : ZG} {X : Nat → ZG → Prop} {Q : Int → ZG → Prop} (hF : Fr [] G K)
    (hx : HI K x (.inr (.inr (7, [.inl k, .inl h, .inr (some (.inl y)), .inl m])))) (hy : HI K y (.inl (0, ints (if k = 4 then 0 else if k = 5 then h else D 2 (4 * k + h)) (pk a b c)))) (hn2 : (if k = 4 then 0 else if k = 5 then h else D 2 (4 * k + h)) ≤ 3)
    (hX : D 4 0 = 40 → X 2 K) (hQ : D 4 0 < 40 → ∀ G', Fr [8] G G' → CD G' (addV D k h a b c m) → Q (D 4 0) G') : vX1_addValue (some (.inl x)) K X Q := by
  have hK := hC.of hF
  obtain ⟨va, vb, hL, hv⟩ := hK.2.2.1
  have m4 := hM.2.1
  refine sX1_addValue hF.2.1 hL m4.1 m4.2.1 (fun k hk => zel_o3 (hv k hk).1.1) (zel_o3 hx.1) hX (fun hlt G' f hL' => ?_)
  refine hQ hlt G' ((hF.mono (by simp)).trans f) ?_
  refine hK.of8 f (CIv.add m4.1 (fun i hi => ⟨f.hk (hv i hi).1, f.hk (hv i hi).2⟩) (fun i i0 i1 => (vn_le hM i0 i1).2) hL' (f.hk hx) (f.hk hy) hn2) (fun j hj => addV_o hj)
theorem k1_num {G : ZG} {D : ZD} {n : Int} {X : Nat → ZG → Prop} {Q : Int → ZG → Prop} (hC : CD G D) (hM : MI D)
    (hA : ¬ (0 ≤ n ∧ n ≤ 9) → X 1 G) (hX : 0 ≤ n ∧ n ≤ 9 → D 4 0 = 40 → ∀ G', Fr [] G G' → X 2 G')
    (hQ : 0 ≤ n ∧ n ≤ 9 → D 4 0 < 40 → ∀ G', Fr [8] G G' → CD G' (addV D 4 n 0 0 0 n) → Q (D 4 0) G') : vX1_num n G X Q := by
  have hS := hC.1
  simp only [vX1_num, eX1_inRange, eX1_reqA, eX1_row]
  by_cases h : 0 ≤ n ∧ n ≤ 9
  · rw [if_pos (by simp; omega)]
    intro x hx
    refine ⟨by omega, by omega, fun y hy => ⟨⟨x, rfl⟩, ?_⟩⟩
    have hxy : x ≠ y := fun q => by subst q; rw [zsj_eq] at hy; cases hy
    have hy0 : zsj G y = none := by rw [← zsj_ne (Ne.symm hxy)]; exact hy
    refine sX7_init (by rw [zsj_ne hxy]; exact zsj_eq _ _ _) ?_
    have f1 := (Fr.refl [] hS).new hS (c := .inr (.inr (7, zdf 7))) hx
    have f2 := f1.new hS (c := .inl (0, List.replicate (0 : Int).toNat 0)) hy
    have f3 := f2.fresh hS (c := .inr (.inr (7, [.inl 4, .inl n, .inr (some (.inl y)), .inl n]))) hx (fun c' e => by rw [zsj_ne hxy, zsj_eq] at e; cases e; rfl)
    refine vAdd hC hM (a := 0) (b := 0) (c := 0) f3 (f3.hi (by simp) hS hx (zsj_eq _ _ _) (imm_obj (by omega))) (f3.hi (by simp) hS hy0 (by rw [zsj_ne (Ne.symm hxy)]; exact zsj_eq _ _ _) imm_int) (by simp) (fun q => hX h q _ f3) (fun q G' f c => hQ h q G' f c)
  · rw [if_neg (by simp; omega)]
    exact hA h
/-- the numbers of a sequence -/
def seqOk (n a b c : Int) : Prop := (0 ≤ n ∧ n ≤ 3) ∧ ∀ k, 0 ≤ k → k < 3 → 0 ≤ pk a b c k ∧ pk a b c k ≤ if k < n then 9 else 0
theorem seqOk_iff {n a b c : Int} : seqOk n a b c ↔ (0 ≤ n ∧ n ≤ 3) ∧ (0 ≤ a ∧ a ≤ if 0 < n then 9 else 0) ∧ (0 ≤ b ∧ b ≤ if 1 < n then 9 else 0) ∧ (0 ≤ c ∧ c ≤ if 2 < n then 9 else 0) := by
  constructor
  · intro h
    exact ⟨h.1, h.2 0 (by omega) (by omega), h.2 1 (by omega) (by omega), h.2 2 (by omega) (by omega)⟩
  · intro h
    refine ⟨h.1, fun k k0 k3 => ?_⟩
    have : k = 0 ∨ k = 1 ∨ k = 2 := by omega
    rcases this with rfl | rfl | rfl
    · exact h.2.1
    · exact h.2.2.1
    · exact h.2.2.2
theorem zbr_le1 {n k : Int} {J : Int → Prop} : zbr (n ≤ k) (J 0) (J 1) = J (bb (decide (k < n))) := by
  by_cases h : n ≤ k
  · rw [zbr_pos h, decide_eq_false (by omega)]; rfl
  · rw [zbr_neg h, decide_eq_true (by omega)]; rfl
theorem k1_seq {G : ZG} {D : ZD} {n a b c : Int} {X : Nat → ZG → Prop} {Q : Int → ZG → Prop} (hC : CD G D) (hM : MI D)
    (hA : ¬ seqOk n a b c → X 1 G) (hX : seqOk n a b c → D 4 0 = 40 → ∀ G', Fr [] G G' → X 2 G')
    (hQ : seqOk n a b c → D 4 0 < 40 → ∀ G', Fr [8] G G' → CD G' (addV D 5 n a b c (3 * n + a + b + c)) → Q (D 4 0) G') : vX1_seq n a b c G X Q := by
  have hS := hC.1
  rw [seqOk_iff] at hA hX hQ
  simp only [vX1_seq, eX1_inRange, zjn_e, zbr_le1, eX1_isNumberOf, reqA0, reqA1, bb0, zbr_or, Bool.and_eq_false_iff, decide_eq_false_iff_not]
  refine zbr_i (fun h => hA (fun q => ?_)) (fun h => ?_)
  · obtain ⟨q0, q1, q2, q3⟩ := q
    split at q1 <;> split at q2 <;> split at q3 <;> simp_all <;> omega
  · have h : (0 ≤ n ∧ n ≤ 3) ∧ (0 ≤ a ∧ a ≤ if 0 < n then 9 else 0) ∧ (0 ≤ b ∧ b ≤ if 1 < n then 9 else 0) ∧ (0 ≤ c ∧ c ≤ if 2 < n then 9 else 0) := by
      split <;> split <;> split <;> simp_all <;> omega
    intro x hx
    have r1 : 0 ≤ a ∧ a ≤ 9 := by have := h.2.1; split at this <;> omega
    have r2 : 0 ≤ b ∧ b ≤ 9 := by have := h.2.2.1; split at this <;> omega
    have r3 : 0 ≤ c ∧ c ≤ 9 := by have := h.2.2.2; split at this <;> omega
    rw [w32_eq (x := 3 * n) (by omega) (by omega), w32_eq (x := 3 * n + a) (by omega) (by omega), w32_eq (x := 3 * n + a + b) (by omega) (by omega), w32_eq (x := 3 * n + a + b + c) (by omega) (by omega)]
    refine sX1_firstOf h.1.1 h.1.2 (fun y hy => ⟨⟨x, rfl⟩, ?_⟩)
    have hxy : x ≠ y := fun q => by subst q; rw [zsj_eq] at hy; cases hy
    have hy0 : zsj G y = none := by rw [← zsj_ne (Ne.symm hxy)]; exact hy
    refine sX7_init (by rw [zsj_ne hxy]; exact zsj_eq _ _ _) ?_
    have f1 := (Fr.refl [] hS).new hS (c := .inr (.inr (7, zdf 7))) hx
    have f2 := f1.new hS (c := .inl (0, ints n (pk a b c))) hy
    have f3 := f2.fresh hS (c := .inr (.inr (7, [.inl 5, .inl n, .inr (some (.inl y)), .inl (3 * n + a + b + c)]))) hx (fun c' e => by rw [zsj_ne hxy, zsj_eq] at e; cases e; rfl)
    refine vAdd hC hM (a := a) (b := b) (c := c) f3 (f3.hi (by simp) hS hx (zsj_eq _ _ _) (imm_obj (by omega))) (f3.hi (by simp) hS hy0 (by rw [zsj_ne (Ne.symm hxy)]; exact zsj_eq _ _ _) imm_int) (by simp; omega) (fun q => hX h q _ f3) (fun q G' f c => hQ h q G' f c)
/-- a list of a type -/
theorem sX1_fieldsOf {G : ZG} {D : ZD} {t c : Int} {X : Nat → ZG → Prop} {Q : ZR → Prop} (hC : CIt G D) (hM : MI D)
    (hX : ¬ (0 ≤ t ∧ t ≤ 3 ∧ 0 ≤ c ∧ c < D 1 t) → X 0 G) (hQ : 0 ≤ t ∧ t ≤ 3 ∧ 0 ≤ c ∧ c < D 1 t → ∀ a, HI G a (.inl (0, ints (D 2 (4 * t + c)) fun k => D 3 (3 * (4 * t + c) + k))) → Q (some (.inl a))) : vX1_fieldsOf t c G X Q := by
  simp only [vX1_fieldsOf, eX1_inRange, eX1_reqI]
  by_cases ht : 0 ≤ t ∧ t ≤ 3
  · rw [if_pos (by simp; omega)]
    have hg : ∀ {Q : ZR → Prop}, Q (some (.inr (11 + t.toNat))) → vJ2_get 7 t G Q := by
      intro Q h
      refine sJ2_get hC.1 (x := some (.inr (11 + t.toNat))) ht.1 ?_ h
      have : t = 0 ∨ t = 1 ∨ t = 2 ∨ t = 3 := by omega
      rcases this with rfl | rfl | rfl | rfl <;> rfl
    have hcl : tCls (11 + t.toNat) = 2 := by
      have : t = 0 ∨ t = 1 ∨ t = 2 ∨ t = 3 := by omega
      rcases this with rfl | rfl | rfl | rfl <;> rfl
    obtain ⟨ta, hL, hH⟩ := hC.2 t.toNat (by omega)
    rw [show ((t.toNat : Nat) : Int) = t by omega] at hL hH
    have m1 := hM.1 t ht.1 (by omega)
    refine hg ⟨_, rfl, hcl, ?_⟩
    dsimp only
    rw [eJ2_size, hL.1, refs_len, w32_eq (by omega) (by omega)]
    by_cases hc : 0 ≤ c ∧ c < D 1 t
    · rw [if_pos (by simp; omega)]
      refine hg ⟨_, rfl, hcl, ?_⟩
      refine sJ2_get hL hc.1 (refs_get hc.1 hc.2) ?_
      have hh := hH c.toNat (by omega)
      rw [show ((c.toNat : Nat) : Int) = c by omega] at hh
      exact ⟨⟨_, _, rfl, hh.1⟩, hQ ⟨ht.1, ht.2, hc.1, hc.2⟩ _ hh⟩
    · rw [if_neg (by simp; omega)]
      exact hX (by omega)
  · rw [if_neg (by simp; omega)]
    exact hX (by omega)
def dsm (D : ZD) (a b d : Int) : Nat → Int
  | 0 => 0
  | k + 1 => dsm D a b d k + ((k : Int) + 1) * D 8 (pk a b d k)
theorem dsm_le {D : ZD} {a b d : Int} {n : Nat} (hn : n ≤ 3) (h : ∀ j : Int, 0 ≤ j → j < n → 0 ≤ D 8 (pk a b d j) ∧ D 8 (pk a b d j) ≤ 96) : 0 ≤ dsm D a b d n ∧ dsm D a b d n ≤ 576 := by
  have hh : n = 0 ∨ n = 1 ∨ n = 2 ∨ n = 3 := by omega
  rcases hh with rfl | rfl | rfl | rfl
  · simp [dsm]
  · have h0 := h 0 (by omega) (by omega)
    simp [dsm]; omega
  · have h0 := h 0 (by omega) (by omega)
    have h1 := h 1 (by omega) (by omega)
    simp [dsm]; omega
  · have h0 := h 0 (by omega) (by omega)
    have h1 := h 1 (by omega) (by omega)
    have h2 := h 2 (by omega) (by omega)
    simp [dsm]; omega
def dOk1 (D : ZD) (t c a b d : Int) : Prop := (0 ≤ t ∧ t ≤ 3 ∧ 0 ≤ c ∧ c < D 1 t) ∧ rpI (D 2 (4 * t + c)) (D 4 0) a b d
def dOk2 (D : ZD) (t c a b d : Int) : Prop := rpN (D 2 (4 * t + c)) a b d ∧ ∀ k, 0 ≤ k → k < D 2 (4 * t + c) → D 5 (pk a b d k) = D 3 (3 * (4 * t + c) + k)
theorem k1_data {G : ZG} {D : ZD} {t c a b d : Int} {X : Nat → ZG → Prop} {Q : Int → ZG → Prop} (hC : CD G D) (hM : MI D)
    (hX0 : ¬ dOk1 D t c a b d → ∀ G', Fr [] G G' → X 0 G') (hX1 : dOk1 D t c a b d → ¬ dOk2 D t c a b d → ∀ G', Fr [] G G' → X 1 G')
    (hX2 : dOk1 D t c a b d → dOk2 D t c a b d → D 4 0 = 40 → ∀ G', Fr [] G G' → X 2 G')
    (hQ : dOk1 D t c a b d → dOk2 D t c a b d → D 4 0 < 40 → ∀ G', Fr [8] G G' → CD G' (addV D t c a b d ((5 * c + dsm D a b d (D 2 (4 * t + c)).toNat) % 97)) → Q (D 4 0) G') :
    vX1_data t c a b d 60 600 G X Q := by
  have hS := hC.1
  obtain ⟨va, vb, hL, hv⟩ := hC.2.2.1
  have e8 : zsg G 8 2 0 = D 4 0 := by rw [hL.1, refs_len]; have := hM.2.1.1; omega
  have m4 := hM.2.1
  refine ⟨by omega, ?_⟩
  refine sX1_fieldsOf hC.2.1 hM (fun q => hX0 (fun z => q z.1) G (Fr.refl _ hS)) (fun hok fa hfa => ?_)
  have m1 := hM.1 t hok.1 (by omega)
  have m2 := m1.2.2 c hok.2.2.1 hok.2.2.2
  generalize hnf : D 2 (4 * t + c) = nf at *
  refine zeN_i hfa.1 ?_
  rw [ints_len, eJ2_size, e8, show ((nf.toNat : Nat) : Int) = nf by omega]
  refine ⟨6, 30, by omega, ?_⟩
  refine sX1_requireParts m2.1 m2.2.1 m4.1 (by have := m4.2.1; omega) hS (fun q K f => hX0 (fun z => q (hnf ▸ z.2)) K f) (fun q1 q2 K f => hX1 ⟨hok, by rw [hnf]; exact q1⟩ (fun z => q2 (hnf ▸ z.1)) K f) (fun hI hN K1 f1 => ?_)
  refine zeN_i (f1.hk hfa).1 ?_
  rw [ints_len, show ((nf.toNat : Nat) : Int) = nf by omega]
  refine ⟨by omega, ?_⟩
  refine sX1_firstOf m2.1 m2.2.1 (fun y hy => ?_)
  have hok1 : dOk1 D t c a b d := ⟨hok, by rw [hnf]; exact hI⟩
  have f2 := f1.new hS (c := .inl (0, ints nf (pk a b d))) hy
  have hy2 := f2.hi (by simp) hS (f1.1.old hy) (zsj_eq _ _ _) (imm_int (t := 0) (l := ints nf (pk a b d)))
  generalize hK2 : zsc K1 y (.inl (0, ints nf (pk a b d))) = K2 at f2 hy2
  have hfa2 := f2.hk hfa
  have hL2 := f2.lst (o := 8) ⟨by omega, by omega⟩ (by simp) hL
  rw [zlt1_e, w32_eq (by omega) (by omega)]
  have hm8 : ∀ j : Int, 0 ≤ j → j < nf → 0 ≤ D 8 (pk a b d j) ∧ D 8 (pk a b d j) ≤ 96 := fun j j0 j1 => by
    have := m4.2.2 _ (hI j j0 j1).1 (hI j j0 j1).2
    exact ⟨this.2.2.1, this.2.2.2.1⟩
  refine zl5_of (fun s k K kc ks => K = K2 ∧ 0 ≤ k ∧ k ≤ nf ∧ s = 5 * c + dsm D a b d k.toNat ∧ kc = 9 + k.toNat ∧ ks = 45 + 6 * k.toNat ∧ ∀ j, 0 ≤ j → j < k → D 5 (pk a b d j) = D 3 (3 * (4 * t + c) + j)) (fun _ k _ _ _ => (nf - k).toNat) (fun P s k K kc ks hJ hP => ?_) ⟨rfl, by omega, m2.1, by simp [dsm], by simp, by simp, fun j _ _ => by omega⟩
  obtain ⟨rfl, k0, k1, rfl, ekc, eks, hJ⟩ := hJ
  have hb := dsm_le (D := D) (a := a) (b := b) (d := d) (n := k.toNat) (by omega) (fun j j0 j1 => hm8 j j0 (by omega))
  refine zeN_i hy2.1 ?_
  rw [ints_len, show ((nf.toNat : Nat) : Int) = nf by omega]
  by_cases hk : nf ≤ k
  · rw [zbr_pos hk]
    have ek : k = nf := by omega
    subst ek
    have hok2 : dOk2 D t c a b d := ⟨by rw [hnf]; exact hN, by rw [hnf]; exact hJ⟩
    refine ⟨by omega, fun x hx => ⟨by unfold zn0; omega, ⟨x, rfl⟩, ?_⟩⟩
    rw [dRem_nn (by unfold inR; omega) (by omega) (by omega) (by omega)]
    refine sX7_init (zsj_eq _ _ _) ?_
    rw [zsc_zsc]
    refine ⟨by omega, ?_⟩
    have hxy : y ≠ x := fun q => by subst q; rw [hy2.1] at hx; cases hx
    have f3 := f2.new hS (c := .inr (.inr (7, [.inl t, .inl c, .inr (some (.inl y)), .inl ((5 * c + dsm D a b d k.toNat) % 97)]))) hx
    have ekn : (if t = 4 then 0 else if t = 5 then c else D 2 (4 * t + c)) = k := by rw [if_neg (by omega), if_neg (by omega), hnf]
    refine vAdd hC hM (a := a) (b := b) (c := d) f3 (f3.hi (by simp) hS (f2.1.old hx) (zsj_eq _ _ _) (imm_obj (by omega))) (by rw [ekn]; exact ((Fr.refl [] f2.2.1).new f2.2.1 hx).hk hy2) (by rw [ekn]; omega) (fun q => hX2 hok1 hok2 q _ f3) (fun q G' f c => hQ hok1 hok2 q G' f c)
  · rw [zbr_neg hk]
    have hIk := hI k k0 (by omega)
    have hvk := hv (pk a b d k).toNat (by omega)
    rw [show (((pk a b d k).toNat : Nat) : Int) = pk a b d k by omega] at hvk
    have hvk1 := f2.hk hvk.1
    refine zeI_i hy2.1 k0 (ints_get k0 (by omega)) ?_
    refine sJ2_get hL2 hIk.1 (refs_get hIk.1 hIk.2) ?_
    refine ⟨zca_i hvk1.1, zisO_i hvk1.1, ?_⟩
    simp only [vX7_kind]
    rw [zdI_e hvk1.1 rfl]
    refine zeI_i hfa2.1 k0 (ints_get k0 (by omega)) ?_
    rw [zjn_e]
    by_cases hq : D 5 (pk a b d k) = D 3 (3 * (4 * t + c) + k)
    · rw [zbr_neg (fun z => z hq)]
      dsimp only
      rw [reqA1]
      refine ⟨by omega, ?_⟩
      refine zeI_i hy2.1 k0 (ints_get k0 (by omega)) ?_
      refine sJ2_get hL2 hIk.1 (refs_get hIk.1 hIk.2) ?_
      refine ⟨zca_i hvk1.1, zisO_i hvk1.1, ?_⟩
      simp only [vX7_measure]
      rw [zdI_e hvk1.1 rfl, zlt1_e, zlt1_e]
      have h8 := hm8 k k0 (by omega)
      have hstep : w32 (5 * c + dsm D a b d k.toNat + w32 (w32 (k + 1) * D 8 (pk a b d k))) = 5 * c + dsm D a b d (k + 1).toNat := by
        have : k = 0 ∨ k = 1 ∨ k = 2 := by omega
        rw [show (k + 1).toNat = k.toNat + 1 by omega]
        simp only [dsm]
        rw [show ((k.toNat : Nat) : Int) = k by omega]
        rcases this with rfl | rfl | rfl <;> (rw [w32_eq (x := _ + 1) (by omega) (by omega), w32_eq (x := _ * _) (by omega) (by omega), w32_eq (by omega) (by omega)]; omega)
      rw [hstep, w32_eq (by omega) (by omega)]
      refine hP _ _ _ _ _ ⟨rfl, by omega, by omega, rfl, by omega, by omega, fun j j0 j1 => ?_⟩ (by omega)
      by_cases hjk : j = k
      · rw [hjk]; exact hq
      · exact hJ j j0 (by omega)
    · rw [zbr_pos hq]
      dsimp only
      rw [reqA0]
      exact ⟨by omega, hX1 hok1 (fun z => hq (z.2 k k0 (by rw [hnf]; omega))) _ f2⟩
/-- a constructor's kinds -/
def kOk (n a b c : Int) : Prop := (0 ≤ n ∧ n ≤ 3) ∧ ∀ k, 0 ≤ k → k < 3 → if k < n then 0 ≤ pk a b c k ∧ pk a b c k ≤ 5 else pk a b c k = 0
theorem kOk_iff {n a b c : Int} : kOk n a b c ↔ (0 ≤ n ∧ n ≤ 3) ∧ (if 0 < n then 0 ≤ a ∧ a ≤ 5 else a = 0) ∧ (if 1 < n then 0 ≤ b ∧ b ≤ 5 else b = 0) ∧ (if 2 < n then 0 ≤ c ∧ c ≤ 5 else c = 0) := by
  constructor
  · intro h
    exact ⟨h.1, h.2 0 (by omega) (by omega), h.2 1 (by omega) (by omega), h.2 2 (by omega) (by omega)⟩
  · intro h
    refine ⟨h.1, fun k k0 k3 => ?_⟩
    have : k = 0 ∨ k = 1 ∨ k = 2 := by omega
    rcases this with rfl | rfl | rfl
    · exact h.2.1
    · exact h.2.2.1
    · exact h.2.2.2
def addC (D : ZD) (t n a b c : Int) : ZD := up (up (up (up (up D 2 (4 * t + D 1 t) n) 3 (3 * (4 * t + D 1 t)) a) 3 (3 * (4 * t + D 1 t) + 1) b) 3 (3 * (4 * t + D 1 t) + 2) c) 1 t (D 1 t + 1)
theorem addC_o {D : ZD} {t n a b c : Int} {j : Nat} (hj : j ≠ 1 ∧ j ≠ 2 ∧ j ≠ 3) : addC D t n a b c j = D j := by
  unfold addC
  rw [up_ne (by omega), up_ne (by omega), up_ne (by omega), up_ne (by omega), up_ne (by omega)]
theorem addC_1 {D : ZD} {t n a b c i : Int} : addC D t n a b c 1 i = if i = t then D 1 t + 1 else D 1 i := by
  unfold addC; rw [up_at, up_ne (by omega), up_ne (by omega), up_ne (by omega), up_ne (by omega)]
theorem addC_2 {D : ZD} {t n a b c i : Int} : addC D t n a b c 2 i = if i = 4 * t + D 1 t then n else D 2 i := by
  unfold addC; rw [up_ne (by omega), up_ne (by omega), up_ne (by omega), up_ne (by omega), up_at]
theorem addC_3 {D : ZD} {t n a b c i : Int} : addC D t n a b c 3 i = if i = 3 * (4 * t + D 1 t) + 2 then c else if i = 3 * (4 * t + D 1 t) + 1 then b else if i = 3 * (4 * t + D 1 t) then a else D 3 i := by
  unfold addC; rw [up_ne (by omega), up_at, up_at, up_at, up_ne (by omega)]
theorem addC_3n {D : ZD} {t n a b c j : Int} (h0 : 0 ≤ j) (h3 : j < 3) : addC D t n a b c 3 (3 * (4 * t + D 1 t) + j) = pk a b c j := by
  rw [addC_3]
  have h : j = 0 ∨ j = 1 ∨ j = 2 := by omega
  rcases h with rfl | rfl | rfl
  · rw [if_neg (by omega), if_neg (by omega), if_pos (by omega)]; rfl
  · rw [if_neg (by omega), if_pos (by omega)]; rfl
  · rw [if_pos (by omega)]; rfl
theorem addC_3o {D : ZD} {t n a b c i j : Int} (h : i ≠ 4 * t + D 1 t) (h0 : 0 ≤ j) (h3 : j < 3) : addC D t n a b c 3 (3 * i + j) = D 3 (3 * i + j) := by
  rw [addC_3, if_neg (by omega), if_neg (by omega), if_neg (by omega)]
theorem eX1_changed (G : ZG) (Q : ZG → Prop) : vX1_changed G Q = Q (zss (zss (zss G 2 11 0 0) 3 11 0 0) 4 2 0 0) := rfl
theorem Fr.chg {S : List Nat} {G K : ZG} (h : Fr S G K) (h2 : 2 ∈ S) (h3 : 3 ∈ S) (h4 : 4 ∈ S) : Fr S G (zss (zss (zss K 2 11 0 0) 3 11 0 0) 4 2 0 0) :=
  ((h.ss 11 0 0 h2 (by omega)).ss 11 0 0 h3 (by omega)).ss 2 0 0 h4 (by omega)
/-- what is kept of trees and codes is thrown away -/
def Chg (G : ZG) : Prop := zsg G 2 11 0 = 0 ∧ zsg G 3 11 0 = 0 ∧ zsg G 4 2 0 = 0
theorem Chg.of (K : ZG) : Chg (zss (zss (zss K 2 11 0 0) 3 11 0 0) 4 2 0 0) := by
  refine ⟨?_, ?_, ?_⟩ <;> simp [zsg_ss]
theorem k1_constructor {G : ZG} {D : ZD} {t n a b c : Int} {X : Nat → ZG → Prop} {Q : Int → ZG → Prop} (hC : CD G D) (hM : MI D)
    (hX0 : ¬ (0 ≤ t ∧ t ≤ 3) → X 0 G) (hX1 : 0 ≤ t ∧ t ≤ 3 → ¬ kOk n a b c → X 1 G) (hX2 : 0 ≤ t ∧ t ≤ 3 → kOk n a b c → D 1 t = 4 → X 2 G)
    (hQ : 0 ≤ t ∧ t ≤ 3 → kOk n a b c → D 1 t < 4 → ∀ G', Fr [11, 12, 13, 14, 2, 3, 4] G G' → Chg G' → CD G' (addC D t n a b c) → Q (D 1 t) G') :
    vX1_constructor t n a b c G X Q := by
  have hS := hC.1
  simp only [vX1_constructor, eX1_inRange, eX1_reqI, zjn_e, zbr_le1, eX1_isKindOf, reqA0, reqA1, bb0, zbr_or, Bool.and_eq_false_iff, decide_eq_false_iff_not]
  by_cases ht : 0 ≤ t ∧ t ≤ 3
  · rw [if_pos (by simp; omega)]
    rw [kOk_iff] at hX1 hX2 hQ
    refine zbr_i (fun h => hX1 ht (fun q => ?_)) (fun h => ?_)
    · obtain ⟨q0, q1, q2, q3⟩ := q
      simp only [kn] at h
      split at q1 <;> split at q2 <;> split at q3 <;> simp_all <;> omega
    · have h : (0 ≤ n ∧ n ≤ 3) ∧ (if 0 < n then 0 ≤ a ∧ a ≤ 5 else a = 0) ∧ (if 1 < n then 0 ≤ b ∧ b ≤ 5 else b = 0) ∧ (if 2 < n then 0 ≤ c ∧ c ≤ 5 else c = 0) := by
        simp only [kn] at h
        split <;> split <;> split <;> simp_all <;> omega
      have hg : ∀ {K : ZG} {Q : ZR → Prop}, Lst K 7 [some (.inr 11), some (.inr 12), some (.inr 13), some (.inr 14)] → Q (some (.inr (11 + t.toNat))) → vJ2_get 7 t K Q := by
        intro K Q hL h
        refine sJ2_get hL (x := some (.inr (11 + t.toNat))) ht.1 ?_ h
        have : t = 0 ∨ t = 1 ∨ t = 2 ∨ t = 3 := by omega
        rcases this with rfl | rfl | rfl | rfl <;> rfl
      have hcl : tCls (11 + t.toNat) = 2 := by
        have : t = 0 ∨ t = 1 ∨ t = 2 ∨ t = 3 := by omega
        rcases this with rfl | rfl | rfl | rfl <;> rfl
      obtain ⟨ta, hL, hH⟩ := hC.2.1.2 t.toNat (by omega)
      rw [show ((t.toNat : Nat) : Int) = t by omega] at hL hH
      have m1 := hM.1 t ht.1 (by omega)
      refine hg hC.2.1.1 ⟨_, rfl, hcl, ?_⟩
      dsimp only
      have esz : zsg G (11 + t.toNat) 2 0 = D 1 t := by rw [hL.1, refs_len]; omega
      rw [eJ2_size, esz, eX1_reqS]
      by_cases h4 : 4 ≤ D 1 t
      · rw [if_neg (by simp; omega)]; exact hX2 ht h (by omega)
      · rw [if_pos (by simp; omega)]
        refine hg hC.2.1.1 ⟨_, rfl, hcl, ?_⟩
        dsimp only
        refine sX1_firstOf h.1.1 h.1.2 (fun y hy => ?_)
        have f1 := (Fr.refl [11, 12, 13, 14, 2, 3, 4] hS).new hS (c := .inl (0, ints n (pk a b c))) hy
        have f0 := (Fr.refl [] hS).new hS (c := .inl (0, ints n (pk a b c))) hy
        have hy1 := f0.hi (by simp) hS hy (zsj_eq _ _ _) (imm_int (t := 0) (l := ints n (pk a b c)))
        generalize hK1 : zsc G y (.inl (0, ints n (pk a b c))) = K1 at f0 f1 hy1
        have hisl : isl (11 + t.toNat) := ⟨by omega, by omega⟩
        have hL1 := f0.lst hisl (by simp) hL
        refine sAppend f0.2.1 hisl hL1 m1.1 (by omega) (fun k hk => zel_i3 (f0.hk (hH k hk)).1) (zel_i3 hy1.1) (fun K2 f2 hL2 => ?_)
        have hmem : 11 + t.toNat ∈ ([11, 12, 13, 14, 2, 3, 4] : List Nat) := by
          have : t = 0 ∨ t = 1 ∨ t = 2 ∨ t = 3 := by omega
          rcases this with rfl | rfl | rfl | rfl <;> simp
        have f3 := f1.trans (f2.mono (S' := [11, 12, 13, 14, 2, 3, 4]) (fun o ho => by rw [List.mem_singleton.mp ho]; exact hmem))
        have f4 := f3.chg (by simp) (by simp) (by simp)
        rw [eX1_changed]
        have hL3 : ∀ o, isl o → ∀ L, Lst K2 o L → Lst (zss (zss (zss K2 2 11 0 0) 3 11 0 0) 4 2 0 0) o L := fun o ho L hh => by
          refine ⟨?_, hh.2⟩
          have := ho.1
          rw [zsg_ss, if_neg (by omega), zsg_ss, if_neg (by omega), zsg_ss, if_neg (by omega)]; exact hh.1
        have hchg := Chg.of K2
        generalize hK4 : zss (zss (zss K2 2 11 0 0) 3 11 0 0) 4 2 0 0 = K4 at f4 hL3 hchg
        have hL4 := hL3 _ hisl _ hL2
        have h7 : Lst K4 7 [some (.inr 11), some (.inr 12), some (.inr 13), some (.inr 14)] := f4.lst ⟨by omega, by omega⟩ (by simp) hC.2.1.1
        refine hg h7 ⟨_, rfl, hcl, ?_⟩
        dsimp only
        rw [eJ2_size, hL4.1, refs_len, w32_eq (by omega) (by omega), show (((D 1 t + 1).toNat : Nat) : Int) - 1 = D 1 t by omega]
        refine hQ ht h (by omega) K4 f4 hchg ?_
        obtain ⟨h0, h1, h2, h3, h4, h5, h6, h7'⟩ := hC
        refine ⟨f4.2.1, ⟨h7, fun u hu => ?_⟩, ?_, h3.fr f4 (by simp) (fun j hj => addC_o (by omega)), h4.fr f4 (by simp) (addC_o (by omega)), h5.fr f4 (by simp) (addC_o (by omega)) (addC_o (by omega)), h6.fr f4 (by simp) (fun j hj => addC_o (by omega)), h7'.fr f4 (by simp) (fun j hj => addC_o (by omega))⟩
        · by_cases hut : u = t.toNat
          · subst hut
            rw [show ((t.toNat : Nat) : Int) = t by omega]
            refine ⟨snoc (D 1 t) ta y, by rw [addC_1, if_pos rfl]; exact hL4, fun e he => ?_⟩
            rw [addC_1, if_pos rfl] at he
            by_cases hee : e = (D 1 t).toNat
            · subst hee
              rw [snoc_at, show (((D 1 t).toNat : Nat) : Int) = D 1 t by omega, addC_2, if_pos rfl, ints_congr (f := pk a b c) (fun j j0 j1 => addC_3n j0 (by omega))]
              have := f2.hk hy1
              exact ⟨by rw [← hK4]; exact this.1, this.2.1, by rw [← hK4]; exact this.2.2⟩
            · rw [snoc_lt (by omega), addC_2, if_neg (by omega)]
              have hm := (m1.2.2 e (by omega) (by omega))
              rw [ints_congr (f := fun k => D 3 (3 * (4 * t + e) + k)) (fun j j0 j1 => addC_3o (by omega) j0 (by omega))]
              exact f4.hk (hH e (by omega))
          · obtain ⟨tb, hLb, hHb⟩ := h1.2 u hu
            have mu := hM.1 u (by omega) (by omega)
            refine ⟨tb, ?_, fun e he => ?_⟩
            · rw [addC_1, if_neg (by omega)]
              refine hL3 _ ⟨by omega, by omega⟩ _ (f2.lst ⟨by omega, by omega⟩ (by simp; omega) (f0.lst ⟨by omega, by omega⟩ (by simp) hLb))
            · rw [addC_1, if_neg (by omega)] at he
              have hm := (mu.2.2 e (by omega) he)
              rw [addC_2, if_neg (by omega), ints_congr (f := fun k => D 3 (3 * (4 * u + e) + k)) (fun j j0 j1 => addC_3o (by omega) j0 (by omega))]
              exact f4.hk (hHb e he)
        · obtain ⟨va, vb, hv1, hv2⟩ := h2
          refine ⟨va, vb, by rw [addC_o (by omega)]; exact f4.lst ⟨by omega, by omega⟩ (by simp) hv1, fun i hi => ?_⟩
          rw [addC_o (by omega)] at hi
          have hvw := hM.2.1.2.2 i (by omega) hi
          have ev : vn (addC D t n a b c) i = vn D i := by
            unfold vn
            rw [addC_o (j := 5) (by omega), addC_o (j := 6) (by omega), addC_2]
            by_cases e4 : D 5 i = 4
            · rw [if_pos e4, if_pos e4]
            · rw [if_neg e4, if_neg e4]
              by_cases e5 : D 5 i = 5
              · rw [if_pos e5, if_pos e5]
              · rw [if_neg e5, if_neg e5]
                have a5 := hvw.2.2.2.2.2.2 (by have := hvw.2.1; omega)
                have a6 := hM.1 (D 5 i) hvw.1 (by have := hvw.2.1; omega)
                by_cases e6 : D 5 i = t
                · rw [e6] at a5 ⊢; rw [if_neg (by omega)]
                · rw [if_neg (by omega)]
          rw [ev, addC_o (j := 5) (by omega), addC_o (j := 6) (by omega), addC_o (j := 7) (by omega), addC_o (j := 8) (by omega)]
          exact ⟨f4.hk (hv2 i hi).1, f4.hk (hv2 i hi).2⟩
  · rw [if_neg (by simp; omega)]
    exact hX0 ht
