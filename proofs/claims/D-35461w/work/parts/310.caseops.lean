/-! COMPONENT: views, the start of a match, cases -/
set_option maxRecDepth 100000
theorem Fr.su {S : List Nat} {G K : ZG} (h : Fr S G K) {o : Nat} (j : Nat) (i : Int) (r : ZR) (ho : o ∈ S) (hl : o < 7) (h4' : o ≠ 4) : Fr S G (zsu K o j i r) := by
  obtain ⟨h1, h2, h3, h4, h5, h6⟩ := h
  have e4 : zsr (zsu K o j i r) 4 0 0 = zsr K 4 0 0 := by rw [zsr_su, if_neg (by omega)]
  have el : ∀ o', isl o' → zsr (zsu K o j i r) o' 1 0 = zsr K o' 1 0 := fun o' ho' => by rw [zsr_su, if_neg (by have := ho'.1; omega)]
  refine ⟨⟨h1.1, fun a c e => ?_⟩, ⟨fun o1 o2 a i1 i2 e1 e2 => ?_, fun o1 a i1 e1 => ?_, fun a e => ?_⟩, fun o' q j' i' => ⟨(h3 o' q j' i').1, ?_⟩, fun o' q1 q2 L hL => ?_, h5, fun q a e => h6 q a e⟩
  · obtain ⟨e1, e2, e3⟩ := h1.2 a c e
    exact ⟨e1, e2, fun q => e3 (by unfold cod at q ⊢; rw [← e4]; exact q)⟩
  · rw [el _ i1] at e1; rw [el _ i2] at e2; exact h2.1 _ _ a i1 i2 e1 e2
  · rw [el _ i1] at e1; exact h2.2.1 _ a i1 e1
  · exact h2.2.2 a (by unfold cod at e ⊢; rw [← e4]; exact e)
  · rw [zsr_su, if_neg (fun z => q (by rw [z.1]; exact ho))]; exact (h3 o' q j' i').2
  · have := h4 o' q1 q2 L hL
    exact ⟨this.1, by rw [el _ q1]; exact this.2⟩
def wOk (a b c m : Int) : Prop := (-9 ≤ a ∧ a ≤ 9) ∧ (-9 ≤ b ∧ b ≤ 9) ∧ (-9 ≤ c ∧ c ≤ 9) ∧ 1 ≤ m ∧ m ≤ 10
def addW (D : ZD) (v a b c m : Int) : ZD := up (up (up (up D 20 (4 * v) a) 20 (4 * v + 1) b) 20 (4 * v + 2) c) 20 (4 * v + 3) m
theorem addW_o {D : ZD} {v a b c m : Int} {j : Nat} (h : j ≠ 20) : addW D v a b c m j = D j := by
  unfold addW; rw [up_ne h, up_ne h, up_ne h, up_ne h]
theorem addW_20 {D : ZD} {v a b c m i : Int} : addW D v a b c m 20 i = if i = 4 * v + 3 then m else if i = 4 * v + 2 then c else if i = 4 * v + 1 then b else if i = 4 * v then a else D 20 i := by
  unfold addW; rw [up_at, up_at, up_at, up_at]
theorem k1_setView {G : ZG} {D : ZD} {v a b c m : Int} {X : Nat → ZG → Prop} {Q : Int → ZG → Prop} (hC : CD G D)
    (hX0 : ¬ (0 ≤ v ∧ v ≤ 2) → X 0 G) (hX1 : 0 ≤ v ∧ v ≤ 2 → ¬ wOk a b c m → X 1 G)
    (hQ : 0 ≤ v ∧ v ≤ 2 → wOk a b c m → ∀ G', Fr [0, 2, 3, 4] G G' → zsg G' 0 = zsg G 0 → Chg G' → CD G' (addW D v a b c m) → Q (D 20 (4 * v + 3)) G') : vX1_setView v a b c m G X Q := by
  have hS := hC.1
  simp only [vX1_setView, eX1_inRange, eX1_reqI, zjn_e, reqA0, reqA1, bb0, zbr_or, Bool.and_eq_false_iff, decide_eq_false_iff_not]
  by_cases hv : 0 ≤ v ∧ v ≤ 2
  · rw [if_pos (by simp; omega)]
    unfold wOk at hX1 hQ
    refine zbr_i (fun h => hX1 hv (by omega)) (fun h => ?_)
    obtain ⟨w, hw1, hw2⟩ := hC.2.2.2.2.1 v.toNat (by omega)
    rw [show ((v.toNat : Nat) : Int) = v by omega] at hw1 hw2
    refine ⟨hv.1, by omega, ?_⟩
    rw [hw1]
    refine zeI_i hw2.1 (by omega) (x := D 20 (4 * v + 3)) rfl ?_
    refine ⟨by omega, by omega, fun y hy => ?_⟩
    refine zeS_i (zsj_eq _ _ _) (by omega) (by simp) ?_
    refine zeS_i (zsj_eq _ _ _) (by omega) (by simp) ?_
    refine zeS_i (zsj_eq _ _ _) (by omega) (by simp) ?_
    refine zeS_i (zsj_eq _ _ _) (by omega) (by simp) ?_
    rw [zsc_zsc, zsc_zsc, zsc_zsc, zsc_zsc, eX1_row]
    show zuS (zsc G y (.inl (0, [a, b, c, m]))) 0 3 3 v _ _
    refine ⟨hv.1, by omega, ⟨y, _, rfl, zsj_eq _ _ _⟩, ?_⟩
    have f1 := (Fr.refl [0, 2, 3, 4] hS).new hS (c := .inl (0, [a, b, c, m])) hy
    have f0 := (Fr.refl [] hS).new hS (c := .inl (0, [a, b, c, m])) hy
    have hy1 := f0.hi (by simp) hS hy (zsj_eq _ _ _) (imm_int (t := 0) (l := [a, b, c, m]))
    have f2 := f1.su 3 v (some (.inl y)) (o := 0) (by simp) (by omega) (by omega)
    have f3 := f2.chg (by simp) (by simp) (by simp)
    dsimp only
    rw [eX1_changed]
    have hg : zsg (zss (zss (zss (zsu (zsc G y (.inl (0, [a, b, c, m]))) 0 3 v (some (.inl y))) 2 11 0 0) 3 11 0 0) 4 2 0 0) 0 = zsg G 0 := by
      funext j i
      rw [zsg_ss, if_neg (by omega), zsg_ss, if_neg (by omega), zsg_ss, if_neg (by omega)]; rfl
    have hr : ∀ u : Nat, zsr (zss (zss (zss (zsu (zsc G y (.inl (0, [a, b, c, m]))) 0 3 v (some (.inl y))) 2 11 0 0) 3 11 0 0) 4 2 0 0) 0 3 u = if (u : Int) = v then some (.inl y) else zsr G 0 3 u := by
      intro u
      show zsr (zsu (zsc G y (.inl (0, [a, b, c, m]))) 0 3 v (some (.inl y))) 0 3 u = _
      rw [zsr_su]
      by_cases hu : (u : Int) = v
      · rw [if_pos ⟨rfl, rfl, hu⟩, if_pos hu]
      · rw [if_neg (fun z => hu z.2.2), if_neg hu]; rfl
    refine hQ hv (by omega) _ f3 hg (Chg.of _) ?_
    have hy3 : HI (zss (zss (zss (zsu (zsc G y (.inl (0, [a, b, c, m]))) 0 3 v (some (.inl y))) 2 11 0 0) 3 11 0 0) 4 2 0 0) y (.inl (0, [a, b, c, m])) := ⟨hy1.1, hy1.2.1, fun q => hy1.2.2 (by
      unfold cod at q ⊢
      have : zsr (zsu (zsc G y (.inl (0, [a, b, c, m]))) 0 3 v (some (.inl y))) 4 0 0 = some (.inl y) := q
      rw [zsr_su, if_neg (by omega)] at this; exact this)⟩
    generalize zss (zss (zss (zsu (zsc G y (.inl (0, [a, b, c, m]))) 0 3 v (some (.inl y))) 2 11 0 0) 3 11 0 0) 4 2 0 0 = K at f3 hg hr hy3
    obtain ⟨h0, h1, h2, h3, h4, h5, h6, h7⟩ := hC
    refine ⟨f3.2.1, h1.fr f3 (by simp) (addW_o (by omega)) (addW_o (by omega)) (addW_o (by omega)), h2.fr f3 (by simp) (fun j hj => addW_o (by omega)), h3.fr f3 (by simp) (fun j hj => addW_o (by omega)), fun u hu => ?_, ⟨?_, fun k k0 k1 => ?_⟩, h6.fr f3 (by simp) (fun j hj => addW_o (by omega)), ?_⟩
    · rw [hr]
      by_cases huv : (u : Int) = v
      · rw [if_pos huv, huv]
        refine ⟨y, rfl, ?_⟩
        rw [addW_20, addW_20, addW_20, addW_20, if_neg (by omega), if_neg (by omega), if_neg (by omega), if_pos rfl, if_neg (by omega), if_neg (by omega), if_pos rfl, if_neg (by omega), if_pos rfl, if_pos rfl]
        exact hy3
      · rw [if_neg huv]
        obtain ⟨z, hz1, hz2⟩ := h4 u hu
        refine ⟨z, hz1, ?_⟩
        have hh := f3.hk hz2
        rw [addW_20, addW_20, addW_20, addW_20, if_neg (by omega), if_neg (by omega), if_neg (by omega), if_neg (by omega), if_neg (by omega), if_neg (by omega), if_neg (by omega), if_neg (by omega), if_neg (by omega), if_neg (by omega), if_neg (by omega), if_neg (by omega), if_neg (by omega), if_neg (by omega), if_neg (by omega), if_neg (by omega)]
        exact hh
    · rw [hg, addW_o (by omega)]; exact h5.1
    · rw [hg, addW_o (by omega)]; exact h5.2 k k0 k1
    · unfold CIr at *
      rw [addW_o (by omega), addW_o (by omega), addW_o (by omega), addW_o (by omega), addW_o (by omega), addW_o (by omega), addW_o (by omega), hg, f3.g (by simp), f3.g (by simp)]
      refine ⟨h7.1, h7.2.1, fun k k0 k1 => ?_, h7.2.2.2.1, fun q n n0 n1 => ?_⟩
      · rw [f3.g (by simp), f3.g (by simp), f3.g (by simp)]; exact h7.2.2.1 k k0 k1
      · rw [f3.g (by simp)]; exact h7.2.2.2.2 q n n0 n1
  · rw [if_neg (by simp; omega)]
    exact hX0 hv
/-- the places of the names, none -/
def zclr (G : ZG) (o : Nat) : ZG := (fun o' j i => if o' = o ∧ j = 0 ∧ 0 ≤ i ∧ i < 6 then -1 else G.1 o' j i, G.2)
theorem zclr_g (G : ZG) (o o' j : Nat) (i : Int) : zsg (zclr G o) o' j i = if o' = o ∧ j = 0 ∧ 0 ≤ i ∧ i < 6 then -1 else zsg G o' j i := rfl
theorem sX2_clearNamesR {G : ZG} {Q : ZG → Prop} (hQ : Q (zclr G 1)) : vX2_clearNamesR G Q := by
  unfold vX2_clearNamesR
  refine zl2_of (fun k K => 0 ≤ k ∧ k ≤ 6 ∧ K = (fun o' j i => if o' = 1 ∧ j = 0 ∧ 0 ≤ i ∧ i < k then -1 else G.1 o' j i, G.2)) (fun k _ => (6 - k).toNat) (fun P k K hI hP => ?_) ⟨by omega, by omega, ?_⟩
  · obtain ⟨k0, k1, rfl⟩ := hI
    by_cases h : 6 ≤ k
    · rw [zbr_pos h]
      have : k = 6 := by omega
      subst this; exact hQ
    · rw [zbr_neg h]
      refine ⟨k0, by omega, ?_⟩
      dsimp only
      rw [zlt1_e, w32_eq (by omega) (by omega)]
      refine hP _ _ ⟨by omega, by omega, ?_⟩ (by omega)
      unfold zss
      refine Prod.ext (funext fun o' => funext fun j => funext fun i => ?_) rfl
      show (if o' = 1 ∧ j = 0 ∧ i = k then (-1 : Int) else if o' = 1 ∧ j = 0 ∧ 0 ≤ i ∧ i < k then -1 else G.1 o' j i) = if o' = 1 ∧ j = 0 ∧ 0 ≤ i ∧ i < k + 1 then -1 else G.1 o' j i
      by_cases h1 : o' = 1 ∧ j = 0 ∧ i = k
      · rw [if_pos h1, if_pos (by omega)]
      · rw [if_neg h1]
        by_cases h2 : o' = 1 ∧ j = 0 ∧ 0 ≤ i ∧ i < k
        · rw [if_pos h2, if_pos (by omega)]
        · rw [if_neg h2, if_neg (by omega)]
  · refine Prod.ext (funext fun o' => funext fun j => funext fun i => ?_) rfl
    rw [show G.1 o' j i = (if o' = 1 ∧ j = 0 ∧ 0 ≤ i ∧ i < (0 : Int) then -1 else G.1 o' j i) by rw [if_neg (by omega)]]
theorem Fr.clr {S : List Nat} {G K : ZG} (h : Fr S G K) {o : Nat} (ho : o ∈ S) (hl : o < 7) : Fr S G (zclr K o) := by
  obtain ⟨h1, h2, h3, h4, h5, h6⟩ := h
  refine ⟨h1, h2, fun o' q j' i' => ⟨?_, (h3 o' q j' i').2⟩, fun o' q1 q2 L hL => ?_, h5, h6⟩
  · rw [zclr_g, if_neg (fun z => q (by rw [z.1]; exact ho))]; exact (h3 o' q j' i').1
  · have := h4 o' q1 q2 L hL
    refine ⟨?_, this.2⟩
    rw [zclr_g, if_neg (fun z => by have := q1.1; omega)]; exact this.1
def addB (D : ZD) (n a b c : Int) : ZD := up (up (up (up (up (up (up (up D 21 0 n) 22 0 a) 22 1 b) 22 2 c) 23 0 0) 47 0 0) 48 0 0) 52 0 (-1)
theorem addB_o {D : ZD} {n a b c : Int} {j : Nat} (h : j ≠ 21 ∧ j ≠ 22 ∧ j ≠ 23 ∧ j ≠ 47 ∧ j ≠ 48 ∧ j ≠ 52) : addB D n a b c j = D j := by
  unfold addB; rw [up_ne (by omega), up_ne (by omega), up_ne (by omega), up_ne (by omega), up_ne (by omega), up_ne (by omega), up_ne (by omega), up_ne (by omega)]
theorem addB_22 {D : ZD} {n a b c i : Int} (h0 : 0 ≤ i) (h3 : i < 3) : addB D n a b c 22 i = pk a b c i := by
  unfold addB
  rw [up_ne (by omega), up_ne (by omega), up_ne (by omega), up_ne (by omega), up_at, up_at, up_at]
  have : i = 0 ∨ i = 1 ∨ i = 2 := by omega
  rcases this with rfl | rfl | rfl
  · rw [if_neg (by omega), if_neg (by omega), if_pos rfl]; rfl
  · rw [if_neg (by omega), if_pos rfl]; rfl
  · rw [if_pos rfl]; rfl
/-- how many columns and their kinds -/
def bOk (n a b c : Int) : Prop := (1 ≤ n ∧ n ≤ 3) ∧ ∀ k, 0 ≤ k → k < 3 → if k < n then 0 ≤ pk a b c k ∧ pk a b c k ≤ 5 else pk a b c k = 0
theorem bOk_iff {n a b c : Int} : bOk n a b c ↔ (1 ≤ n ∧ n ≤ 3) ∧ (0 ≤ a ∧ a ≤ 5) ∧ (if 1 < n then 0 ≤ b ∧ b ≤ 5 else b = 0) ∧ (if 2 < n then 0 ≤ c ∧ c ≤ 5 else c = 0) := by
  constructor
  · intro h
    have h0 := h.2 0 (by omega) (by omega)
    rw [if_pos (by have := h.1; omega)] at h0
    exact ⟨h.1, h0, h.2 1 (by omega) (by omega), h.2 2 (by omega) (by omega)⟩
  · intro h
    refine ⟨h.1, fun k k0 k3 => ?_⟩
    have : k = 0 ∨ k = 1 ∨ k = 2 := by omega
    rcases this with rfl | rfl | rfl
    · rw [if_pos (by have := h.1; omega)]; exact h.2.1
    · exact h.2.2.1
    · exact h.2.2.2
theorem k1_begin {G : ZG} {D : ZD} {n a b c : Int} {X : Nat → ZG → Prop} {Q : Int → ZG → Prop} (hC : CD G D) (hM : MI D)
    (hX1 : ¬ bOk n a b c → X 1 G)
    (hQ : bOk n a b c → ∀ G', Fr [0, 1, 10, 2, 3, 4] G G' → Chg G' → CD G' (addB D n a b c) → Q (D 23 0) G') : vX1_begin n a b c G X Q := by
  have hS := hC.1
  rw [bOk_iff] at hX1 hQ
  simp only [vX1_begin, eX1_inRange, zjn_e, zbr_le1, eX1_isKindOf, reqA0, reqA1, bb0, zbr_or, Bool.and_eq_false_iff, decide_eq_false_iff_not]
  refine zbr_i (fun h => hX1 (fun q => ?_)) (fun h => ?_)
  · obtain ⟨q0, q1, q2, q3⟩ := q
    simp only [kn] at h
    split at q2 <;> split at q3 <;> simp_all <;> omega
  · have h : (1 ≤ n ∧ n ≤ 3) ∧ (0 ≤ a ∧ a ≤ 5) ∧ (if 1 < n then 0 ≤ b ∧ b ≤ 5 else b = 0) ∧ (if 2 < n then 0 ≤ c ∧ c ≤ 5 else c = 0) := by
      simp only [kn] at h
      split <;> split <;> simp_all <;> omega
    obtain ⟨ka, kb, hL, hc⟩ := hC.2.2.2.2.2.2.1
    have m23 : 0 ≤ D 23 0 ∧ D 23 0 ≤ 8 := ⟨hM.2.2.2.2.1.2.2.2.1, hM.2.2.2.2.1.2.2.2.2.1⟩
    have e10 : zsg G 10 2 0 = D 23 0 := by rw [hL.1, refs_len]; omega
    rw [eJ2_size, e10]
    refine sJ2_clear hL (by rw [refs_len]; omega) (fun K lf hK => ?_)
    have f1 := (lf.fr hK ⟨by omega, by omega⟩ hS).mono (S' := [0, 1, 10, 2, 3, 4]) (by simp)
    refine ⟨by omega, by omega, ⟨by omega, by omega, ⟨by omega, by omega, ?_⟩⟩⟩
    show vX3_begin _ _
    refine sX2_clearNamesR ?_
    dsimp only
    rw [eX1_changed]
    have f2 := ((((((((((f1.ss 5 0 n (o := 0) (by simp) (by omega)).ss 4 0 a (o := 0) (by simp) (by omega)).ss 4 1 b (o := 0) (by simp) (by omega)).ss 4 2 c (o := 0) (by simp) (by omega)).ss 11 0 (-1) (o := 0) (by simp) (by omega)).ss 6 0 0 (o := 1) (by simp) (by omega)).ss 7 0 0 (o := 1) (by simp) (by omega)).ss 8 0 1 (o := 1) (by simp) (by omega)).clr (o := 1) (by simp) (by omega)).chg (by simp) (by simp) (by simp))
    refine hQ h _ f2 (Chg.of _) ?_
    have g0 : ∀ j i, zsg (zss (zss (zss (zclr (zss (zss (zss (zss (zss (zss (zss (zss K 0 5 0 n) 0 4 0 a) 0 4 1 b) 0 4 2 c) 0 11 0 (-1)) 1 6 0 0) 1 7 0 0) 1 8 0 1) 1) 2 11 0 0) 3 11 0 0) 4 2 0 0) 0 j i = if j = 11 ∧ i = 0 then -1 else if j = 4 ∧ i = 2 then c else if j = 4 ∧ i = 1 then b else if j = 4 ∧ i = 0 then a else if j = 5 ∧ i = 0 then n else zsg K 0 j i := by
      intro j i
      simp only [zsg_ss, zclr_g]
      simp
    have g1 : ∀ j i, zsg (zss (zss (zss (zclr (zss (zss (zss (zss (zss (zss (zss (zss K 0 5 0 n) 0 4 0 a) 0 4 1 b) 0 4 2 c) 0 11 0 (-1)) 1 6 0 0) 1 7 0 0) 1 8 0 1) 1) 2 11 0 0) 3 11 0 0) 4 2 0 0) 1 j i = if j = 0 ∧ 0 ≤ i ∧ i < 6 then -1 else if j = 8 ∧ i = 0 then 1 else if j = 7 ∧ i = 0 then 0 else if j = 6 ∧ i = 0 then 0 else zsg K 1 j i := by
      intro j i
      simp only [zsg_ss, zclr_g]
      simp
    have hL10 : Lst (zss (zss (zss (zclr (zss (zss (zss (zss (zss (zss (zss (zss K 0 5 0 n) 0 4 0 a) 0 4 1 b) 0 4 2 c) 0 11 0 (-1)) 1 6 0 0) 1 7 0 0) 1 8 0 1) 1) 2 11 0 0) 3 11 0 0) 4 2 0 0) 10 [] := by
      refine ⟨?_, hK.2⟩
      simp only [zsg_ss, zclr_g]
      simp
      exact hK.1
    have r0 : ∀ v : Nat, zsr (zss (zss (zss (zclr (zss (zss (zss (zss (zss (zss (zss (zss K 0 5 0 n) 0 4 0 a) 0 4 1 b) 0 4 2 c) 0 11 0 (-1)) 1 6 0 0) 1 7 0 0) 1 8 0 1) 1) 2 11 0 0) 3 11 0 0) 4 2 0 0) 0 3 v = zsr G 0 3 v := fun v => lf.2.1 0 3 v (fun e => absurd e (by omega))
    generalize zss (zss (zss (zclr (zss (zss (zss (zss (zss (zss (zss (zss K 0 5 0 n) 0 4 0 a) 0 4 1 b) 0 4 2 c) 0 11 0 (-1)) 1 6 0 0) 1 7 0 0) 1 8 0 1) 1) 2 11 0 0) 3 11 0 0) 4 2 0 0 = K2 at f2 g0 g1 hL10 r0
    obtain ⟨h0, h1, h2, h3, h4, h5, h6, h7⟩ := hC
    have e23 : addB D n a b c 23 0 = 0 := by unfold addB; rw [up_ne (by omega), up_ne (by omega), up_ne (by omega), up_eq]
    have e21 : addB D n a b c 21 0 = n := by unfold addB; rw [up_ne (by omega), up_ne (by omega), up_ne (by omega), up_ne (by omega), up_ne (by omega), up_ne (by omega), up_ne (by omega), up_eq]
    have e47 : addB D n a b c 47 0 = 0 := by unfold addB; rw [up_ne (by omega), up_ne (by omega), up_eq]
    have e48 : addB D n a b c 48 0 = 0 := by unfold addB; rw [up_ne (by omega), up_eq]
    have e52 : addB D n a b c 52 0 = -1 := by unfold addB; rw [up_eq]
    refine ⟨f2.2.1, h1.fr f2 (by simp) (addB_o (by omega)) (addB_o (by omega)) (addB_o (by omega)), h2.fr f2 (by simp) (fun j hj => addB_o (by omega)), h3.fr f2 (by simp) (fun j hj => addB_o (by omega)), fun v hv => ?_, ⟨?_, fun k k0 k1 => ?_⟩, ⟨ka, kb, by rw [e23]; exact hL10, fun i j hi => by rw [e23] at hi; omega, fun i hi => by rw [e23] at hi; omega⟩, ?_⟩
    · obtain ⟨z, z1, z2⟩ := h4 v hv
      rw [r0, addB_o (by omega)]
      exact ⟨z, z1, f2.hk z2⟩
    · rw [g0, e21]; simp
    · rw [addB_22 k0 k1, g0]
      have : k = 0 ∨ k = 1 ∨ k = 2 := by omega
      rcases this with rfl | rfl | rfl <;> simp [pk]
    · unfold CIr
      rw [e47, e48, e52, g0, g1, g1]
      refine ⟨by simp, by simp, fun k k0 k1 => by omega, by simp, fun q => absurd rfl q⟩
