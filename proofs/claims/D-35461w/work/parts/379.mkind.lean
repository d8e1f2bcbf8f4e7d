/-! REFERENCE: the kind of a place, by what is known -/
set_option maxRecDepth 100000
theorem pl_up {d : Nat} {p : Int} (h : p ∈ pl (d + 1)) : (p - 1) / 5 ∈ pl d ∧ 3 < p ∧ 0 ≤ (p - 1) % 5 ∧ (p - 1) % 5 < 3 := by
  unfold pl at h
  obtain ⟨q, hq, hm⟩ := List.mem_flatMap.mp h
  have q1 := pl_p q hq
  have hc : p = 5 * q + 1 ∨ p = 5 * q + 2 ∨ p = 5 * q + 3 := by simpa using hm
  have e : (p - 1) / 5 = q := by omega
  rw [e]
  exact ⟨hq, by omega, by omega, by omega⟩
theorem pl_0 {p : Int} (h : p ∈ pl 0) : 1 ≤ p ∧ p ≤ 3 := by
  have : p = 1 ∨ p = 2 ∨ p = 3 := by simpa [pl] using h
  omega
theorem anc_pl {d : Nat} {p : Int} (h : p ∈ pl d) : ∀ i, i ≤ d → anc p i ∈ pl (d - i) := by
  intro i
  induction i with
  | zero => intro _; exact h
  | succ i ih =>
    intro hi
    have := ih (by omega)
    rw [show d - i = (d - (i + 1)) + 1 by omega] at this
    exact (pl_up this).1
theorem w6_wayP {G : ZG} {d : Nat} {p : Int} {Q : Int → ZG → Prop} (hd3 : d ≤ 3) (h : p ∈ pl d)
    (hQ : ∀ G', Mo G G' → (∀ j, j ≠ 45 → zsg G' 5 j = zsg G 5 j) → (∀ i : Nat, i < d → zsg G' 5 45 i = (anc p i - 1) % 5) → zsg G' 5 45 d = anc p d - 1 → Q d G') : vX6_wayTo p G Q := by
  unfold vX6_wayTo
  refine zl3_of (fun (n at' : Int) (K : ZG) => ∃ i : Nat, n = (i : Int) ∧ i ≤ d ∧ at' = anc p i ∧ Mo G K ∧ (∀ j, j ≠ 45 → zsg K 5 j = zsg G 5 j) ∧ ∀ j : Nat, j < i → zsg K 5 45 j = (anc p j - 1) % 5) (fun (n : Int) _ _ => ((d : Int) - n).toNat) (fun P n at' K hI hPP => ?_) ⟨0, rfl, by omega, rfl, Mo.refl G, fun _ _ => rfl, fun j hj => by omega⟩
  obtain ⟨i, rfl, hi, rfl, mo, hK, hw⟩ := hI
  have h' := anc_pl h i hi
  have hr := apl_r _ (pl_apl (by omega) h')
  rw [w32_eq (by omega) (by omega)]
  refine zbr_i (fun h3 => ?_) (fun h3 => ?_)
  · have hid : i = d := by
      refine Decidable.byContradiction fun hn => ?_
      rw [show d - i = (d - (i + 1)) + 1 by omega] at h'
      have := (pl_up h').2.1
      omega
    subst hid
    refine zaS_i (by omega) (by omega) ?_
    refine hQ _ (mo.ss _ _ _) (fun j hj => by rw [z5_ne hj, hK j hj]) (fun j hj => ?_) ?_
    · rw [zsg_ss, if_neg (by omega)]; exact hw j hj
    · rw [zsg_ss, if_pos ⟨rfl, rfl, rfl⟩]
  · have hid : i < d := by
      refine Decidable.byContradiction fun hn => ?_
      rw [show d - i = 0 by omega] at h'
      have := pl_0 h'
      omega
    refine ⟨by unfold zn0; omega, ?_⟩
    rw [dRem_nn (by unfold inR; omega) (by omega) (by omega) (by omega), dDiv_nn (by unfold inR; omega) (by omega) (by omega) (by omega)]
    refine zaS_i (by omega) (by omega) ?_
    rw [zlt1_e, w32_eq (by omega) (by omega)]
    refine ⟨by unfold zn0; omega, ?_⟩
    rw [zlt1_e]
    refine hPP _ _ _ ⟨i + 1, by omega, by omega, rfl, mo.ss _ _ _, fun j hj => by rw [z5_ne hj, hK j hj], fun j hj => ?_⟩ (by omega)
    by_cases hji : j = i
    · subst hji
      rw [zsg_ss, if_pos ⟨rfl, rfl, rfl⟩]
    · rw [zsg_ss, if_neg (by omega)]; exact hw j (by omega)
theorem vp_anc {D : ZD} {e : PT} {d : Nat} {p : Int} (h : vp D e d p) : ∀ i, i ≤ d → vp D e (d - i) (anc p i) := by
  intro i
  induction i with
  | zero => intro _; exact h
  | succ i ih =>
    intro hi
    have := ih (by omega)
    rw [show d - i = (d - (i + 1)) + 1 by omega] at this
    exact this.1
theorem w6_kindOf {D : ZD} {e : PT} {d : Nat} {p : Int} {K0 : ZG} {Q : Int → ZG → Prop} (hM : MI D) (hP : PI D e) (hv : ∀ st ∈ e, 0 ≤ st.2.2.2 ∧ st.2.2.2 ≤ 9) (hN : Nd K0 e (zsg K0 5 41 0)) (hK : ∀ j, 1 ≤ j → j ≤ 29 → zsg K0 5 j = D j) (h40 : zsg K0 5 40 0 = 0) (hd3 : d ≤ 3) (hp : vp D e d p)
    (hQ : ∀ K', Mo K0 K' → (∀ j, j ≠ 45 → zsg K' 5 j = zsg K0 5 j) → Q (kd D e 8 p) K') : vX6_kindOf p K0 Q := by
  have m21 : D 21 0 ≤ 3 := hM.2.2.2.2.1.2.1
  have hpl := (vp_r hM hP d p (by omega) hp).1
  unfold vX6_kindOf
  refine w6_wayP hd3 hpl (fun K mo hKK hw hwd => ?_)
  refine zaL_i (by omega) (by omega) ?_
  have h0 := vp_anc hp d (by omega)
  rw [show d - d = 0 by omega] at h0
  have hc : 1 ≤ anc p d ∧ anc p d ≤ D 21 0 := h0
  rw [hwd]
  refine zaL_i (by omega) (by omega) ?_
  refine zaL_i (by omega) (by omega) ?_
  rw [hKK 22 (by omega), hK 22 (by omega) (by omega), hwd, zlt1_e, w32_eq (by omega) (by omega), zlt1_e, w32_eq (by omega) (by omega)]
  refine zl4_of (fun (kind at' i : Int) (J : ZG) => ∃ m : Nat, i = (m : Int) - 1 ∧ m ≤ d ∧ at' = anc p m ∧ kind = kd D e 8 (anc p m) ∧ J = K) (fun _ _ i _ => (i + 1).toNat) (fun P kind at' i J hI hPP => ?_) ⟨d, rfl, Nat.le_refl _, by omega, ?_, rfl⟩
  · obtain ⟨m, rfl, hm, rfl, rfl, rfl⟩ := hI
    match m, hm, hPP with
    | 0, hm, hPP =>
      refine zbr_i (fun _ => ?_) (fun z => absurd (by omega) z)
      exact hQ J mo hKK
    | m + 1, hm, hPP =>
      refine zbr_i (fun z => absurd z (by push_cast; omega)) (fun _ => ?_)
      have ei : ((m + 1 : Nat) : Int) - 1 = (m : Int) := by push_cast; omega
      rw [ei]
      have hv1 := vp_anc hp m (by omega)
      rw [show d - m = (d - (m + 1)) + 1 by omega] at hv1
      have hr1 := vp_r hM hP _ _ (by omega) hv1
      have hpl1 := pl_up hr1.1
      obtain ⟨hq, g1, g2, g3, g4⟩ := hv1
      have hr := vp_r hM hP _ _ (by omega) hq
      have hpr := apl_r _ (pl_apl (by omega) hr.1)
      have hpr0 := apl_r _ (pl_apl (by omega) hr1.1)
      refine zaL_i (by omega) (by omega) ?_
      rw [hw m (by omega)]
      have eN : Nd J e (zsg J 5 41 0) := by
        rw [hKK 41 (by omega)]; exact hN.of (fun j j1 j2 => hKK j (by omega))
      refine w6_factT eN hv (by rw [hKK 40 (by omega), h40]) (by rw [anc_s]; omega) ?_
      rw [anc_s, if_neg g1]
      dsimp only [zjn]
      have fin : ∀ y, y = kd D e 8 (anc p m) → zlt1 (w32 (w32 (w32 (5 * ((anc p m - 1) / 5)) + (anc p m - 1) % 5) + 1)) fun (x9 : Int) => zlt1 (w32 ((m : Int) + -1)) fun (x10 : Int) => P y x9 x10 J := fun y hy => by
        rw [w32_eq (x := 5 * ((anc p m - 1) / 5)) (by omega) (by omega), w32_eq (x := 5 * ((anc p m - 1) / 5) + (anc p m - 1) % 5) (by omega) (by omega), zlt1_e, w32_eq (x := 5 * ((anc p m - 1) / 5) + (anc p m - 1) % 5 + 1) (by omega) (by omega), zlt1_e, w32_eq (by omega) (by omega)]
        refine hPP _ _ _ _ ⟨m, by omega, by omega, by omega, hy, rfl⟩ (by omega)
      have ek : kd D e 8 (anc p m) = if kd D e 8 ((anc p m - 1) / 5) = 5 then 4 else D 3 (3 * (4 * kd D e 8 ((anc p m - 1) / 5) + fa e ((anc p m - 1) / 5)) + (anc p m - 1) % 5) := by
        rw [kd_s, if_neg (by omega), hr.2.2 7 (by omega)]
      obtain ⟨_, _, _, b1, b2⟩ := hP _ g1
      refine zbr_i (fun h5 => ?_) (fun h5 => fin _ (by rw [ek, if_pos (Decidable.of_not_not h5)]))
      have h44 : kd D e 8 ((anc p m - 1) / 5) < 4 := by omega
      rw [ways_t h44] at b2
      have t4 := (hM.1 _ hr.2.1.1 h44)
      rw [w32_eq (x := 4 * kd D e 8 ((anc p m - 1) / 5)) (by omega) (by omega), w32_eq (x := 4 * kd D e 8 ((anc p m - 1) / 5) + fa e ((anc p m - 1) / 5)) (by omega) (by omega), w32_eq (x := 3 * (4 * kd D e 8 ((anc p m - 1) / 5) + fa e ((anc p m - 1) / 5))) (by omega) (by omega), w32_eq (x := 3 * (4 * kd D e 8 ((anc p m - 1) / 5) + fa e ((anc p m - 1) / 5)) + (anc p m - 1) % 5) (by omega) (by omega)]
      refine zaL_i (by omega) (by omega) ?_
      rw [hKK 3 (by omega), hK 3 (by omega) (by omega)]
      exact fin _ (by rw [ek, if_neg h5])
  · rw [kd_s, if_pos (by omega)]
