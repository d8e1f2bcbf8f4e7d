/-! REFERENCE: turning to a second alternative; facts in a run -/
set_option maxRecDepth 100000
theorem w6_turns0 {K : ZG} {Q : Int → ZG → Prop} (hm : zsg K 5 38 0 = 0) (hQ : Q 0 K) : vX6_turns K Q := by
  unfold vX6_turns
  rw [zgF_e, hm, zbr_neg (by omega)]; exact hQ
theorem w6_turns1 {K : ZG} {m t : Int} {Q : Int → ZG → Prop} (hm : zsg K 5 38 0 = m) (m1 : 1 ≤ m) (m64 : m ≤ 64) (ht : zsg K 5 35 (m - 1) = t) (t0 : 0 ≤ t) (t1 : t < 256)
    (hQ : ∀ K', Mo K K' → (∀ j, j ≠ 32 → j ≠ 33 → j ≠ 34 → j ≠ 38 → zsg K' 5 j = zsg K 5 j) → zsg K' 5 38 0 = m - 1 → zsg K' 5 34 0 = t + 1 → (∀ u, 0 ≤ u → u ≤ t → sth K' u = sth K u) → sth K' (t + 1) = sth K t ++ [(zsg K 5 36 (m - 1), zsg K 5 37 (m - 1))] → Q 1 K') : vX6_turns K Q := by
  unfold vX6_turns
  rw [zgF_e, hm, zbr_pos (by omega), zgF_e, hm, zpF_e, w32_eq (by omega) (by omega), zgF_e]
  rw [show zsg (zss K 5 38 0 (m - 1)) 5 38 0 = m - 1 by rw [zsg_ss, if_pos ⟨rfl, rfl, rfl⟩]]
  refine zaL_i (by omega) (by omega) ?_
  have e38 : zsg (zss (zss K 5 38 0 (m - 1)) 5 34 0 t) 5 38 0 = m - 1 := by rw [z5_ne (by omega), zsg_ss, if_pos ⟨rfl, rfl, rfl⟩]
  have e36 : zsg (zss (zss K 5 38 0 (m - 1)) 5 34 0 t) 5 36 (m - 1) = zsg K 5 36 (m - 1) := by rw [z5_ne (by omega), z5_ne (by omega)]
  have e37 : zsg (zss (zss K 5 38 0 (m - 1)) 5 34 0 t) 5 37 (m - 1) = zsg K 5 37 (m - 1) := by rw [z5_ne (by omega), z5_ne (by omega)]
  rw [z5_ne (by omega), ht, zpF_e, zgF_e, e38]
  refine zaL_i (by omega) (by omega) ?_
  rw [zgF_e, e38]
  refine zaL_i (by omega) (by omega) ?_
  rw [e36, e37]
  have mo : Mo K (zss (zss K 5 38 0 (m - 1)) 5 34 0 t) := ((Mo.refl K).ss _ _ _).ss _ _ _
  have hc : ∀ u, 0 ≤ u → sth (zss (zss K 5 38 0 (m - 1)) 5 34 0 t) u = sth K u := fun u u0 => sth_congr (fun j j0 j1 => by
    rw [zsg_ss, zsg_ss, zsg_ss, zsg_ss, if_neg (by omega), if_neg (by omega), if_neg (by omega), if_neg (by omega)]; exact ⟨rfl, rfl⟩)
  refine w6_lay (t := t) (by rw [zsg_ss, if_pos ⟨rfl, rfl, rfl⟩]) t0 t1 (fun K' mo' hK' ht' hu' hs' => ?_)
  refine hQ K' (mo.trans mo') (fun j j1 j2 j3 j4 => by rw [hK' j j1 j2 j3, z5_ne j3, z5_ne j4]) ?_ ht' (fun u u0 u1 => by rw [hu' u u0 u1, hc u u0]) (by rw [hs', hc t t0])
  rw [hK' 38 (by omega) (by omega) (by omega), z5_ne (by omega), zsg_ss, if_pos ⟨rfl, rfl, rfl⟩]
theorem w6_factV {G : ZG} {x : Int} {Q : Int → ZG → Prop} (h0 : 0 ≤ x) (h1 : x ≤ 1000) (hQ : Q x G) : vX6_factAt (-1 - x) G Q := by
  unfold vX6_factAt
  rw [zbr_neg (by omega), w32_eq (by omega) (by omega), show -1 - (-1 - x) = x by omega]; exact hQ
theorem w6_factR {G : ZG} {D : ZD} {g : Int → Int} {d : Nat} {p k : Int} {Q : Int → ZG → Prop} (hM : MI D) (hg : GV D g) (hd3 : d ≤ 3) (h : tp D g d p k) (hK : ∀ j, 1 ≤ j → j ≤ 29 → zsg G 5 j = D j) (hgv : ∀ i, 0 ≤ i → i < D 21 0 → zsg G 5 46 i = g i) (h40 : zsg G 5 40 0 ≠ 0)
    (hQ : ∀ G', Mo G G' → (∀ j, j ≠ 45 → zsg G' 5 j = zsg G 5 j) → Q (hd D g p) G') : vX6_factAt p G Q := by
  have hr := apl_r _ (pl_apl hd3 (tp_vl hM hg _ _ _ (by omega) h).2.1)
  unfold vX6_factAt
  rw [zbr_pos (by omega), zgF_e, zbr_neg h40]
  exact w6_head hM hg hd3 h hK hgv hQ
