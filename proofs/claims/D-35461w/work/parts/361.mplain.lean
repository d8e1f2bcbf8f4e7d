/-! REFERENCE: guards; plain runs -/
set_option maxRecDepth 100000
theorem w6_guarded {D : ZD} {g bd : Int → Int} {G : ZG} {c : Int} {Q : Int → ZG → Prop} (hM : MI D) (hg : GV D g) (hc : 0 ≤ c ∧ c < D 23 0) (h26 : D 26 c ≠ -1) (hK : ∀ j, 1 ≤ j → j ≤ 29 → zsg G 5 j = D j) (h46 : ∀ i, 0 ≤ i → i < D 21 0 → zsg G 5 46 i = g i) (h39 : ∀ x, 0 ≤ x → x ≤ 5 → zsg G 5 39 x = bd x) (hb : tpx D g bd (D 27 c))
    (hQ : ∀ G', Mo G G' → (∀ j, j ≠ 45 → zsg G' 5 j = zsg G 5 j) → Q (gd D g bd c) G') : vX6_guarded c G Q := by
  have m23 : D 23 0 ≤ 8 := hM.2.2.2.2.1.2.2.2.2.1
  have hcw := hM.2.2.2.2.1.2.2.2.2.2.2 c hc.1 hc.2
  have hr1 := hcw.2.2.2.1
  have hr2 := hcw.2.2.2.2.1
  have hr3 := hcw.2.2.2.2.2.1 h26
  obtain ⟨d, k, hd3, hp⟩ := hb
  unfold vX6_guarded
  refine zaL_i hc.1 (by omega) ?_
  rw [hK 27 (by omega) (by omega)]
  refine zaL_i hr3.1 (by omega) ?_
  rw [h39 _ hr3.1 (by omega)]
  refine w6_head hM hg hd3 hp hK h46 (fun G' mo hG' => ?_)
  have q := hQ G' mo hG'
  unfold gd at q
  rw [if_neg h26] at q
  refine zaL_i hc.1 (by omega) ?_
  refine zaL_i hc.1 (by omega) ?_
  rw [hG' 28 (by omega), hG' 26 (by omega), hK 28 (by omega) (by omega), hK 26 (by omega) (by omega)]
  dsimp only [zjn]
  generalize hd D g (bd (D 27 c)) = a at q
  have hcs : D 26 c = 0 ∨ D 26 c = 1 ∨ D 26 c = 2 ∨ D 26 c = 3 := by omega
  rcases hcs with e | e | e | e
  · rw [if_pos e] at q
    rw [e, zbr_neg (by omega)]
    refine zbr_i (fun h => ?_) (fun h => ?_)
    · rw [if_neg (by omega)] at q
      rw [zbr_pos rfl, zbr_pos (by omega)]; exact q
    · rw [if_pos (by omega)] at q
      rw [zbr_neg (by omega)]; exact q
  · rw [if_neg (by omega), if_pos e] at q
    rw [e, zbr_pos (by omega), zbr_neg (by omega)]
    refine zbr_i (fun h => ?_) (fun h => ?_)
    · rw [if_neg h] at q
      rw [zbr_pos rfl, zbr_pos (by omega)]; exact q
    · rw [if_pos (Decidable.of_not_not h)] at q
      rw [zbr_neg (by omega)]; exact q
  · rw [if_neg (by omega), if_neg (by omega), if_pos e] at q
    rw [e, zbr_pos (by omega), zbr_pos (by omega), zbr_neg (by omega)]
    refine zbr_i (fun h => ?_) (fun h => ?_)
    · rw [if_neg (by omega)] at q
      rw [zbr_pos rfl, zbr_pos (by omega)]; exact q
    · rw [if_pos (by omega)] at q
      rw [zbr_neg (by omega)]; exact q
  · rw [if_neg (by omega), if_neg (by omega), if_neg (by omega)] at q
    rw [e, zbr_pos (by omega), zbr_pos (by omega), zbr_pos (by omega)]
    refine zbr_i (fun h => ?_) (fun h => ?_)
    · rw [if_pos h] at q
      rw [zbr_pos rfl, zbr_neg (by omega)]; exact q
    · rw [if_neg h] at q
      rw [zbr_neg (by omega)]; exact q
theorem Rn_of {D : ZD} {K0 G K K' : ZG} {s : RS} {c r : Int} {bd : Int → Int} (h0 : Mo G K0) (h0j : ∀ j, j ≠ 40 → zsg K0 5 j = zsg G 5 j) (hI : IvR K0 K s) (mo : Mo K K') (hj : ∀ j, j ≠ 29 → j ≠ 52 → j ≠ 53 → zsg K' 5 j = zsg K 5 j) (h52 : zsg K' 5 52 0 = c) (h53 : c ≠ -1 → ∀ n, 0 ≤ n → n < 6 → zsg K' 5 53 n = zsg K 5 39 n) (hb : c ≠ -1 → ∀ n, 0 ≤ n → n < 6 → zsg K 5 39 n = bd n)
    (h29 : ∀ i, 0 ≤ i → i < D 23 0 → zsg K' 5 29 i = if decide (r = 0) = true ∧ i = c then w32 (D 29 i + 1) else D 29 i) : Rn D G K' s c bd (decide (r = 0)) := by
  obtain ⟨h1, h2, h3, h4, h5⟩ := hI
  refine ⟨(h0.trans h1).trans mo, fun j j1 j2 j3 => by rw [hj j j2 (by omega) (by omega), h2 j (by omega) (by omega) (by omega), h0j j (by omega)], h3.of rfl (fun j j1 j2 => hj j (by omega) (by omega) (by omega)), by rw [hj 47 (by omega) (by omega) (by omega), h4], h5, h52, fun hn n n0 n1 => by rw [h53 hn n n0 n1, hb hn n n0 n1], h29⟩
theorem w6_plain {D : ZD} {g : Int → Int} {G : ZG} {s : RS} {Q : Int → ZG → Prop} (hM : MI D) (hL : LIN D) (hg : GV D g) (hK : ∀ j, 1 ≤ j → j ≤ 29 → zsg G 5 j = D j) (h46 : ∀ i, 0 ≤ i → i < D 21 0 → zsg G 5 46 i = g i) (hR : Rr G s) (h47 : zsg G 5 47 0 = s.1) (hs : inR s.1)
    (hQ0 : (plain D g (csl D) s).1 = none → ∀ G' bd, Rn D G G' (plain D g (csl D) s).2 (-1) bd true → Q (-1) G')
    (hQ1 : ∀ c bd, (plain D g (csl D) s).1 = some (c, bd) → 0 ≤ c ∧ c < D 23 0 → ∀ G', Rn D G G' (plain D g (csl D) s).2 c bd (decide (gd D g bd c ≠ 2)) → Q (if gd D g bd c = 2 then -2 else D 25 c) G') : vX6_runPlain G Q := by
  have m23 : 0 ≤ D 23 0 ∧ D 23 0 ≤ 8 := ⟨hM.2.2.2.2.1.2.2.2.1, hM.2.2.2.2.1.2.2.2.2.1⟩
  have m21 : 0 ≤ D 21 0 ∧ D 21 0 ≤ 3 := ⟨hM.2.2.2.2.1.1, hM.2.2.2.2.1.2.1⟩
  unfold vX6_runPlain
  rw [zpF_e]
  have h0 : Mo G (zss G 5 40 0 1) := (Mo.refl G).ss _ _ _
  have h0j : ∀ j, j ≠ 40 → zsg (zss G 5 40 0 1) 5 j = zsg G 5 j := fun j hj => by rw [z5_ne hj]
  have h40 : zsg (zss G 5 40 0 1) 5 40 0 = 1 := by rw [zsg_ss, if_pos ⟨rfl, rfl, rfl⟩]
  generalize zss G 5 40 0 1 = K0 at h0 h0j h40
  have E := ME_real (K0 := K0) hM hg (fun j j1 j2 => by rw [h0j j (by omega), hK j j1 j2]) h40 (fun i i0 i1 => by rw [h0j 46 (by omega), h46 i i0 i1])
  have hT : ∀ i, 0 ≤ i → i < D 21 0 → tp D g 0 (i + 1) (D 22 i) := fun i i0 i1 => ⟨by omega, by omega, by congr 1; omega⟩
  have hI0 : IvR K0 K0 s := ⟨Mo.refl K0, fun _ _ _ _ => rfl, hR.of rfl (fun j j1 j2 => h0j j (by omega)), by rw [h0j 47 (by omega), h47], hs⟩
  generalize hA : plain D g (csl D) s = A at hQ0 hQ1
  refine zl2_of (fun i K => 0 ≤ i ∧ i ≤ D 23 0 ∧ ∃ s', IvR K0 K s' ∧ plain D g ((csl D).drop i.toNat) s' = A) (fun i _ => (D 23 0 - i).toNat) (fun P i K hI hPP => ?_) ⟨by omega, m23.1, s, hI0, hA⟩
  obtain ⟨i0, i1, s', hI', ht⟩ := hI
  rw [zgF_e, E.dt hI' 23 (by omega) (by omega)]
  refine zbr_i (fun hi => ?_) (fun hi => ?_)
  · rw [csl_end hi] at ht
    subst ht
    refine w6_end hM (Or.inl rfl) (E.dt hI') (fun G' mo hj h52 h53 h29 => ?_)
    rw [if_pos rfl]
    exact hQ0 rfl G' (fun _ => -1) (Rn_of (r := 0) h0 h0j hI' mo hj h52 h53 (fun h => absurd rfl h) h29)
  · rw [csl_drop i0 (by omega), plain_s] at ht
    have hc : 0 ≤ i ∧ i < D 23 0 := ⟨i0, by omega⟩
    dsimp only [zjn]
    have step : ∀ K', IvR K0 K' (rmc D g true i s').2.1 → ¬ ((rmc D g true i s').1 = 1 ∧ gd D g (rmc D g true i s').2.2 i ≠ 1) → zlt1 (w32 (i + 1)) fun x4 => P x4 K' := fun K' hK' hn => by
      rw [if_neg hn] at ht
      rw [zlt1_e, w32_eq (by omega) (by omega)]
      exact hPP _ _ ⟨by omega, by omega, _, hK', ht⟩ (by omega)
    refine w6_try E hM hL hT hI' hc (fun h1 K' hIK h39 => ?_) (fun h1 K' hIK => ?_) (fun h1 K' _ hf => hf.elim)
    · have h1 : (rmc D g true i s').1 = 1 := h1
      have hIK : IvR K0 K' (rmc D g true i s').2.1 := hIK
      have h39 : ∀ x, 0 ≤ x → x ≤ 5 → zsg K' 5 39 x = (rmc D g true i s').2.2 x := h39
      rw [zbr_neg (by omega)]
      refine zaL_i i0 (by omega) ?_
      rw [E.dt hIK 26 (by omega) (by omega)]
      refine zbr_i (fun h26 => ?_) (fun h26 => ?_)
      · have hcw := (hM.2.2.2.2.1.2.2.2.2.2.2 i i0 (by omega)).2.2.2.2.2.1 h26
        have htp : tpx D g (rmc D g true i s').2.2 (D 27 i) := mca_b hM hg hc ⟨hcw.1, hcw.2.1⟩ h1 hcw.2.2.2.2
        refine w6_guarded hM hg hc h26 (E.dt hIK) (fun j j0 j1 => by rw [hIK.2.1 46 (by omega) (by omega) (by omega), h0j 46 (by omega), h46 j j0 j1]) h39 htp (fun G' mo hG' => ?_)
        have hIG : IvR K0 G' (rmc D g true i s').2.1 := E.st hIK mo (fun j j1 j2 => hG' j (by omega))
        refine zbr_i (fun hg1 => step G' hIG (fun z => z.2 hg1)) (fun hg1 => ?_)
        rw [if_pos ⟨h1, hg1⟩] at ht
        subst ht
        refine zbr_i (fun hg2 => ?_) (fun hg2 => ?_)
        · refine w6_end hM (Or.inr hc) (E.dt hIG) (fun G2 mo2 hj h52 h53 h29 => ?_)
          have q := hQ1 i (rmc D g true i s').2.2 rfl hc G2
          rw [if_neg hg2, decide_eq_true hg2] at q
          rw [if_neg (by omega), if_pos rfl]
          exact q (Rn_of (r := 0) h0 h0j hIG mo2 hj h52 h53 (fun _ n n0 n1 => by rw [hG' 39 (by omega), h39 n n0 (by omega)]) h29)
        · have hg2 := Decidable.of_not_not hg2
          refine w6_end hM (Or.inr hc) (E.dt hIG) (fun G2 mo2 hj h52 h53 h29 => ?_)
          have q := hQ1 i (rmc D g true i s').2.2 rfl hc G2
          rw [if_pos hg2, decide_eq_false (fun z => z hg2)] at q
          rw [if_neg (by omega), if_neg (by omega)]
          exact q (Rn_of (r := 1) h0 h0j hIG mo2 hj h52 h53 (fun _ n n0 n1 => by rw [hG' 39 (by omega), h39 n n0 (by omega)]) h29)
      · have h26 := Decidable.of_not_not h26
        have g0 : gd D g (rmc D g true i s').2.2 i = 0 := by unfold gd; rw [if_pos h26]
        rw [if_pos ⟨h1, by omega⟩] at ht
        subst ht
        rw [zbr_neg (by omega), zbr_pos (by omega)]
        refine w6_end hM (Or.inr hc) (E.dt hIK) (fun G2 mo2 hj h52 h53 h29 => ?_)
        have q := hQ1 i (rmc D g true i s').2.2 rfl hc G2
        rw [if_neg (by omega), decide_eq_true (by omega)] at q
        rw [if_neg (by omega), if_pos rfl]
        exact q (Rn_of (r := 0) h0 h0j hIK mo2 hj h52 h53 (fun _ n n0 n1 => h39 n n0 (by omega)) h29)
    · have h1 : (rmc D g true i s').1 = 0 := h1
      rw [zbr_pos (by omega)]
      exact step K' hIK (fun z => by have := z.1; omega)
