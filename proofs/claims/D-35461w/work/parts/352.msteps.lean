/-! REFERENCE: steps of the matching -/
set_option maxRecDepth 100000
theorem w6_stepAny {G : ZG} {D : ZD} {n p : Int} {Q : Int → ZG → Prop} (h0 : 0 ≤ n) (h1 : n < 60) (hK : ∀ j, 1 ≤ j → j ≤ 29 → zsg G 5 j = D j) (e0 : D 10 n = 0) (hQ : Q 0 G) : vX6_matches n p G Q := by
  unfold vX6_matches
  refine zaL_i h0 (by omega) ?_
  rw [hK 10 (by omega) (by omega), zbr_pos e0]; exact hQ
theorem w6_stepName {G : ZG} {D : ZD} {n p t : Int} {Q : Int → ZG → Prop} (h0 : 0 ≤ n) (h1 : n < 60) (hK : ∀ j, 1 ≤ j → j ≤ 29 → zsg G 5 j = D j) (e1 : D 10 n = 1) (hx : 0 ≤ D 11 n ∧ D 11 n ≤ 5) (ht : zsg G 5 34 0 = t) (t0 : 0 ≤ t) (t1 : t < 256)
    (hQ : ∀ K', Mo G K' → (∀ j, j ≠ 32 → j ≠ 33 → j ≠ 34 → j ≠ 39 → zsg K' 5 j = zsg G 5 j) → (∀ i, zsg K' 5 39 i = if i = D 11 n then p else zsg G 5 39 i) → zsg K' 5 34 0 = t + 1 → (∀ u, 0 ≤ u → u ≤ t → sth K' u = sth G u) → sth K' (t + 1) = sth G t ++ [(prt D n 0, p)] → Q 0 K') : vX6_matches n p G Q := by
  unfold vX6_matches
  refine zaL_i h0 (by omega) ?_
  rw [hK 10 (by omega) (by omega), zbr_neg (by omega), zbr_pos e1]
  refine zaL_i h0 (by omega) ?_
  rw [hK 11 (by omega) (by omega)]
  refine zaS_i hx.1 (by omega) ?_
  rw [w32_eq (by omega) (by omega)]
  refine zaL_i (by omega) (by omega) ?_
  rw [z5_ne (by omega), hK 13 (by omega) (by omega)]
  have hc : ∀ u, 0 ≤ u → sth (zss G 5 39 (D 11 n) p) u = sth G u := fun u u0 => sth_congr (fun j j0 j1 => by
    rw [zsg_ss, zsg_ss, if_neg (by omega), if_neg (by omega)]; exact ⟨rfl, rfl⟩)
  refine w6_lay (t := t) (by rw [z5_ne (by omega), ht]) t0 t1 (fun K' mo' hK' ht' hu' hs' => ?_)
  refine hQ K' (((Mo.refl G).ss _ _ _).trans mo') (fun j j1 j2 j3 j4 => by rw [hK' j j1 j2 j3, z5_ne j4]) (fun i => by rw [hK' 39 (by omega) (by omega) (by omega), z5_eq]) ht' (fun u u0 u1 => by rw [hu' u u0 u1, hc u u0]) ?_
  rw [hs', hc t t0, show 3 * n = 3 * n + 0 by omega]; rfl
