/-! REFERENCE: the stack of the matching -/
set_option maxRecDepth 100000
/-- what is laid, the uppermost last -/
def sth (K : ZG) (t : Int) : List (Int × Int) := (List.range t.toNat).map fun (j : Nat) => (zsg K 5 32 (j : Int), zsg K 5 33 (j : Int))
theorem sth_pop (K : ZG) {t : Int} (h : 0 ≤ t) : sth K (t + 1) = sth K t ++ [(zsg K 5 32 t, zsg K 5 33 t)] := by
  unfold sth
  rw [show (t + 1).toNat = t.toNat + 1 by omega, List.range_succ, List.map_append]
  simp only [List.map_cons, List.map_nil]
  rw [show ((t.toNat : Nat) : Int) = t by omega]
theorem sth_len (K : ZG) {t : Int} (h : 0 ≤ t) : ((sth K t).length : Int) = t := by unfold sth; rw [List.length_map, List.length_range]; omega
theorem sth_congr {K K' : ZG} {t : Int} (h : ∀ j, 0 ≤ j → j < t → zsg K' 5 32 j = zsg K 5 32 j ∧ zsg K' 5 33 j = zsg K 5 33 j) : sth K' t = sth K t := by
  unfold sth
  refine List.map_congr_left (fun j hj => ?_)
  have hj := List.mem_range.mp hj
  rw [(h j (by omega) (by omega)).1, (h j (by omega) (by omega)).2]
theorem w6_lay {K : ZG} {t a p : Int} {Q : ZG → Prop} (ht : zsg K 5 34 0 = t) (t0 : 0 ≤ t) (t1 : t < 256)
    (hQ : ∀ K', Mo K K' → (∀ j, j ≠ 32 → j ≠ 33 → j ≠ 34 → zsg K' 5 j = zsg K 5 j) → zsg K' 5 34 0 = t + 1 → (∀ u, 0 ≤ u → u ≤ t → sth K' u = sth K u) → sth K' (t + 1) = sth K t ++ [(a, p)] → Q K') : vX6_push a p K Q := by
  unfold vX6_push
  rw [zgF_e, ht]
  refine zaS_i t0 (by omega) ?_
  rw [zgF_e, z5_ne (by omega), ht]
  refine zaS_i t0 (by omega) ?_
  rw [zgF_e, z5_ne (by omega), z5_ne (by omega), ht, zpF_e, w32_eq (by omega) (by omega)]
  have hc : ∀ u, 0 ≤ u → u ≤ t → sth (zss (zss (zss K 5 32 t a) 5 33 t p) 5 34 0 (t + 1)) u = sth K u := fun u u0 u1 => sth_congr (fun j j0 j1 => by
    rw [zsg_ss, zsg_ss, zsg_ss, zsg_ss, zsg_ss, zsg_ss, if_neg (by omega), if_neg (by omega), if_neg (by omega), if_neg (by omega), if_neg (by omega), if_neg (by omega)]; exact ⟨rfl, rfl⟩)
  refine hQ _ ((((Mo.refl K).ss _ _ _).ss _ _ _).ss _ _ _) (fun j j1 j2 j3 => by rw [z5_ne j3, z5_ne j2, z5_ne j1]) (by rw [zsg_ss, if_pos ⟨rfl, rfl, rfl⟩]) hc ?_
  rw [sth_pop _ t0, hc t t0 (by omega), zsg_ss, zsg_ss, zsg_ss, zsg_ss, zsg_ss, if_neg (by omega), if_neg (by omega), if_pos ⟨rfl, rfl, rfl⟩, if_neg (by omega), if_pos ⟨rfl, rfl, rfl⟩]
theorem w6_fit {G : ZG} {D : ZD} {n x : Int} {Q : Int → Prop} (h0 : 0 ≤ n) (h1 : n < 60) (hK : ∀ j, 1 ≤ j → j ≤ 29 → zsg G 5 j = D j) (hQ : Q (bb (fitl D n x))) : vX6_fitsLength n x G Q := by
  unfold vX6_fitsLength
  unfold fitl at hQ
  refine zaL_i h0 (by omega) ?_
  rw [hK 12 (by omega) (by omega)]
  dsimp only [zjn]
  refine zbr_i (fun h12 => ?_) (fun h12 => ?_)
  · rw [if_neg h12] at hQ
    refine zaL_i h0 (by omega) ?_
    rw [hK 11 (by omega) (by omega)]
    refine zbr_i (fun hx => ?_) (fun hx => ?_)
    · rw [decide_eq_false (by omega)] at hQ; exact hQ
    · rw [decide_eq_true (by omega)] at hQ; exact hQ
  · rw [if_pos (Decidable.of_not_not h12)] at hQ
    refine zaL_i h0 (by omega) ?_
    rw [hK 11 (by omega) (by omega)]
    refine zbr_i (fun hx => ?_) (fun hx => ?_)
    · rw [decide_eq_false hx] at hQ; exact hQ
    · rw [decide_eq_true (Decidable.of_not_not hx)] at hQ; exact hQ
/-- whether a fact is right for a pattern -/
def rgt (D : ZD) (n x : Int) : Bool := if D 10 n = 2 then decide (D 11 n ≤ x) && decide (x ≤ D 12 n) else if D 10 n = 3 then decide (x = D 11 n % 4) else fitl D n x
theorem w6_right {G : ZG} {D : ZD} {n x : Int} {Q : Int → Prop} (hM : MIp D) (h0 : 0 ≤ n) (h1 : n < D 9 0) (hK : ∀ j, 1 ≤ j → j ≤ 29 → zsg G 5 j = D j) (hQ : Q (bb (rgt D n x))) : vX6_isRight n x G Q := by
  have m9 := hM.2.1
  have hpw := hM.2.2 n h0 h1
  unfold vX6_isRight
  unfold rgt at hQ
  refine zaL_i h0 (by omega) ?_
  rw [hK 10 (by omega) (by omega)]
  dsimp only [zjn]
  refine zbr_i (fun h2 => ?_) (fun h2 => ?_)
  · rw [if_neg h2] at hQ
    refine zaL_i h0 (by omega) ?_
    rw [hK 10 (by omega) (by omega)]
    refine zbr_i (fun h3 => ?_) (fun h3 => ?_)
    · rw [if_neg h3] at hQ
      exact w6_fit h0 (by omega) hK hQ
    · have h3 := Decidable.of_not_not h3
      rw [if_pos h3] at hQ
      have c3 := hpw.2.2.2.2.2.2.2.2.2.2.2.2.2.2.1 h3
      refine zaL_i h0 (by omega) ?_
      rw [hK 11 (by omega) (by omega), dRem_nn (by unfold inR; omega) (by omega) (by omega) (by omega)]
      refine ⟨by unfold zn0; omega, zbr_i (fun hx => ?_) (fun hx => ?_)⟩
      · rw [decide_eq_false hx] at hQ; exact hQ
      · rw [decide_eq_true (Decidable.of_not_not hx)] at hQ; exact hQ
  · rw [if_pos (Decidable.of_not_not h2)] at hQ
    refine zaL_i h0 (by omega) ?_
    refine zaL_i h0 (by omega) ?_
    rw [hK 11 (by omega) (by omega), hK 12 (by omega) (by omega), eX6_in]
    exact hQ
