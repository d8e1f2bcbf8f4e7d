/-! REFERENCE: steps of the matching, alternatives -/
set_option maxRecDepth 100000
theorem w6_stepEither {G : ZG} {D : ZD} {n p t m : Int} {Q : Int → ZG → Prop} (h0 : 0 ≤ n) (h1 : n < 60) (hK : ∀ j, 1 ≤ j → j ≤ 29 → zsg G 5 j = D j) (e4 : D 10 n = 4) (ht : zsg G 5 34 0 = t) (t0 : 0 ≤ t) (t1 : t < 254) (hm : zsg G 5 38 0 = m) (m0 : 0 ≤ m) (m1 : m < 64)
    (hQ : ∀ K', Mo G K' → (∀ j, j < 32 ∨ 38 < j → zsg K' 5 j = zsg G 5 j) → zsg K' 5 38 0 = m + 1 → (∀ i, zsg K' 5 35 i = if i = m then t else zsg G 5 35 i) → (∀ i, zsg K' 5 36 i = if i = m then prt D n 1 else zsg G 5 36 i) → (∀ i, zsg K' 5 37 i = if i = m then p else zsg G 5 37 i) → zsg K' 5 34 0 = t + 2 → (∀ u, 0 ≤ u → u ≤ t → sth K' u = sth G u) → sth K' (t + 2) = sth G t ++ [(-1, 0), (prt D n 0, p)] → Q 0 K') : vX6_matches n p G Q := by
  unfold vX6_matches
  refine zaL_i h0 (by omega) ?_
  rw [hK 10 (by omega) (by omega), zbr_neg (by omega), zbr_neg (by omega), zbr_pos e4, zgF_e, zgF_e, hm, ht]
  refine zaS_i m0 (by omega) ?_
  rw [zgF_e, w32_eq (x := 3 * n) (by omega) (by omega), w32_eq (x := 3 * n + 1) (by omega) (by omega)]
  refine zaL_i (by omega) (by omega) ?_
  rw [show zsg (zss G 5 35 m t) 5 38 0 = m by rw [z5_ne (by omega), hm], show zsg (zss G 5 35 m t) 5 13 (3 * n + 1) = prt D n 1 by rw [z5_ne (by omega), hK 13 (by omega) (by omega)]; rfl]
  refine zaS_i m0 (by omega) ?_
  rw [zgF_e, show zsg (zss (zss G 5 35 m t) 5 36 m (prt D n 1)) 5 38 0 = m by rw [z5_ne (by omega), z5_ne (by omega), hm]]
  refine zaS_i m0 (by omega) ?_
  rw [zgF_e, zpF_e, show zsg (zss (zss (zss G 5 35 m t) 5 36 m (prt D n 1)) 5 37 m p) 5 38 0 = m by rw [z5_ne (by omega), z5_ne (by omega), z5_ne (by omega), hm], w32_eq (x := m + 1) (by omega) (by omega)]
  have mo : Mo G (zss (zss (zss (zss G 5 35 m t) 5 36 m (prt D n 1)) 5 37 m p) 5 38 0 (m + 1)) := (((((Mo.refl G).ss _ _ _).ss _ _ _).ss _ _ _).ss _ _ _)
  have g34 : zsg (zss (zss (zss (zss G 5 35 m t) 5 36 m (prt D n 1)) 5 37 m p) 5 38 0 (m + 1)) 5 34 0 = t := by rw [z5_ne (by omega), z5_ne (by omega), z5_ne (by omega), z5_ne (by omega), ht]
  have g38 : zsg (zss (zss (zss (zss G 5 35 m t) 5 36 m (prt D n 1)) 5 37 m p) 5 38 0 (m + 1)) 5 38 0 = m + 1 := by rw [zsg_ss, if_pos ⟨rfl, rfl, rfl⟩]
  have g35 : ∀ i, zsg (zss (zss (zss (zss G 5 35 m t) 5 36 m (prt D n 1)) 5 37 m p) 5 38 0 (m + 1)) 5 35 i = if i = m then t else zsg G 5 35 i := fun i => by rw [z5_ne (by omega), z5_ne (by omega), z5_ne (by omega), z5_eq]
  have g36 : ∀ i, zsg (zss (zss (zss (zss G 5 35 m t) 5 36 m (prt D n 1)) 5 37 m p) 5 38 0 (m + 1)) 5 36 i = if i = m then prt D n 1 else zsg G 5 36 i := fun i => by rw [z5_ne (by omega), z5_ne (by omega), z5_eq]; dsimp only; rw [z5_ne (by omega)]
  have g37 : ∀ i, zsg (zss (zss (zss (zss G 5 35 m t) 5 36 m (prt D n 1)) 5 37 m p) 5 38 0 (m + 1)) 5 37 i = if i = m then p else zsg G 5 37 i := fun i => by rw [z5_ne (by omega), z5_eq]; dsimp only; rw [z5_ne (by omega), z5_ne (by omega)]
  have go : ∀ j, j < 35 ∨ 38 < j → zsg (zss (zss (zss (zss G 5 35 m t) 5 36 m (prt D n 1)) 5 37 m p) 5 38 0 (m + 1)) 5 j = zsg G 5 j := fun j hj => by rw [z5_ne (by omega), z5_ne (by omega), z5_ne (by omega), z5_ne (by omega)]
  generalize zss (zss (zss (zss G 5 35 m t) 5 36 m (prt D n 1)) 5 37 m p) 5 38 0 (m + 1) = H at mo g34 g38 g35 g36 g37 go
  have hc : ∀ u, 0 ≤ u → sth H u = sth G u := fun u u0 => sth_congr (fun j j0 j1 => by rw [go 32 (by omega), go 33 (by omega)]; exact ⟨rfl, rfl⟩)
  refine w6_lay (t := t) g34 t0 (by omega) (fun K1 mo1 hK1 ht1 hu1 hs1 => ?_)
  refine zaL_i (by omega) (by omega) ?_
  rw [hK1 13 (by omega) (by omega) (by omega), go 13 (by omega), hK 13 (by omega) (by omega)]
  refine w6_lay (t := t + 1) ht1 (by omega) (by omega) (fun K2 mo2 hK2 ht2 hu2 hs2 => ?_)
  refine hQ K2 ((mo.trans mo1).trans mo2) (fun j hj => by rw [hK2 j (by omega) (by omega) (by omega), hK1 j (by omega) (by omega) (by omega), go j (by omega)]) (by rw [hK2 38 (by omega) (by omega) (by omega), hK1 38 (by omega) (by omega) (by omega), g38]) (fun i => by rw [hK2 35 (by omega) (by omega) (by omega), hK1 35 (by omega) (by omega) (by omega), g35]) (fun i => by rw [hK2 36 (by omega) (by omega) (by omega), hK1 36 (by omega) (by omega) (by omega), g36]) (fun i => by rw [hK2 37 (by omega) (by omega) (by omega), hK1 37 (by omega) (by omega) (by omega), g37]) (by omega) (fun u u0 u1 => by rw [hu2 u u0 (by omega), hu1 u u0 u1, hc u u0]) ?_
  rw [show t + 2 = t + 1 + 1 by omega, hs2, hs1, hc t t0, List.append_assoc, show 3 * n = 3 * n + 0 by omega]; rfl
