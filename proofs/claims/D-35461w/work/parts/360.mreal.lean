/-! REFERENCE: cases tried in a run; plain runs -/
set_option maxRecDepth 100000
/-- a run of the reference under way -/
def IvR (K0 K : ZG) (s : RS) : Prop := Mo K0 K ∧ (∀ j, ¬ (32 ≤ j ∧ j ≤ 39) → ¬ (42 ≤ j ∧ j ≤ 45) → ¬ (47 ≤ j ∧ j ≤ 51) → zsg K 5 j = zsg K0 5 j) ∧ Rr K s ∧ zsg K 5 47 0 = s.1 ∧ inR s.1
theorem Rr.of {K K' : ZG} {s s' : RS} (h : Rr K s) (e : s'.2 = s.2) (hK : ∀ j, 48 ≤ j → j ≤ 51 → zsg K' 5 j = zsg K 5 j) : Rr K' s' := by
  obtain ⟨h1, h2, h3⟩ := h
  unfold Rr RI
  rw [e, hK 48 (by omega) (by omega), hK 49 (by omega) (by omega), hK 50 (by omega) (by omega), hK 51 (by omega) (by omega)]
  exact ⟨h1, h2, h3⟩
theorem tick_t (s : RS) : tick true s = (w32 (s.1 + 1), s.2) := rfl
theorem IvR.tick {K0 K : ZG} {s : RS} (h : IvR K0 K s) : IvR K0 (zss K 5 47 0 (w32 (zsg K 5 47 0 + bb true))) (tick true s) := by
  obtain ⟨h1, h2, h3, h4, h5⟩ := h
  refine ⟨h1.ss _ _ _, fun j j1 j2 j3 => by rw [z5_ne (by omega), h2 j j1 j2 j3], h3.of rfl (fun j j1 j2 => by rw [z5_ne (by omega)]), ?_, inR_w _⟩
  rw [zsg_ss, if_pos ⟨rfl, rfl, rfl⟩, h4]; rfl
theorem ME_real {D : ZD} {g : Int → Int} {K0 : ZG} (hM : MI D) (hg : GV D g) (hK : ∀ j, 1 ≤ j → j ≤ 29 → zsg K0 5 j = D j) (h40 : zsg K0 5 40 0 = 1) (h46 : ∀ i, 0 ≤ i → i < D 21 0 → zsg K0 5 46 i = g i) : ME D (rA D g true) (rV D g) (tick true) (IvR K0) (fun _ _ => False) (tp D g) true := by
  have dt : ∀ {K s}, IvR K0 K s → ∀ j, 1 ≤ j → j ≤ 29 → zsg K 5 j = D j := fun h j j1 j2 => by rw [h.2.1 j (by omega) (by omega) (by omega), hK j j1 j2]
  have d46 : ∀ {K s}, IvR K0 K s → ∀ i, 0 ≤ i → i < D 21 0 → zsg K 5 46 i = g i := fun h i i0 i1 => by rw [h.2.1 46 (by omega) (by omega) (by omega), h46 i i0 i1]
  have d40 : ∀ {K s}, IvR K0 K s → zsg K 5 40 0 = 1 := fun h => by rw [h.2.1 40 (by omega) (by omega) (by omega), h40]
  have tr : ∀ {d p k}, tp D g d p k → d ≤ 3 → p ∈ pl d := fun h hd => (tp_vl hM hg _ _ _ (by omega) h).2.1
  have nn : ∀ {d p k} (s : RS), tp D g d p k → d ≤ 3 → (rA D g true p k s).1 ≠ -1 := fun s h h3 => by
    have := hd_r hM hg (by omega) h
    show hd D g _ ≠ -1
    omega
  refine ⟨dt, fun h => d40 h, fun h mo hj => ?_, tr, fun s h h3 => ?_, fun h hp hd hQ => ?_, fun h hp hd ha => absurd ha (nn _ hp hd), fun h hp hd ha => h.tick, fun h => h.tick, fun h hp hd hv hQ => ?_, fun {H K s d v p k} h hp hd hv ha => ?_, fun hp hd h0 h1 e3 hf he i0 i1 => tp_mk hM hg h0 h1 e3 hd hp hf he i0 i1, fun hp hd h0 h1 e6 hf hn he i0 i1 => tp_ls hM hg h0 h1 e6 hd hp hf he i0 i1⟩
  · obtain ⟨h1, h2, h3, h4, h5⟩ := h
    refine ⟨h1.trans mo, fun j j1 j2 j3 => by rw [hj j j1 j2, h2 j j1 j2 j3], h3.of rfl (fun j j1 j2 => hj j (by omega) (by omega)), ?_, h5⟩
    rw [hj 47 (by omega) (by omega), h4]
  · have := hd_r hM hg (by omega) h
    show -1 ≤ hd D g _ ∧ hd D g _ ≤ 9 ∧ (_ → hd D g _ ≤ 3)
    exact ⟨by omega, by omega, this.2.2.2.2.2⟩
  · refine w6_factR hM hg hd hp (dt h) (d46 h) (by rw [d40 h]; omega) (fun K' mo hK' => ?_)
    have := hQ K' mo hK'
    rw [if_neg (nn _ hp hd)] at this
    exact this
  · have hRI := rV_RI (D := D) (g := g) hM h.2.2.1.2.2 hv (pl_apl hd (tr hp hd))
    refine w6_gave hM hg hd hp hv (dt h) (d46 h) (by rw [d40 h]; omega) h.2.2.1 (fun K' mo hK' hR => ?_)
    have := hQ ⟨by omega, by omega⟩ K' mo hK' ⟨h.1.trans mo, fun j j1 j2 j3 => by rw [hK' j (by omega) (by omega), h.2.1 j j1 j2 j3], hR, ?_, ?_⟩
    · rw [if_neg (by omega)] at this
      exact this
    · rw [hK' 47 (by omega) (by omega), h.2.2.2.1]
      unfold rV; split <;> rfl
    · have e : ∀ s : RS, ∀ v p, (rV D g v p s).2.1 = s.1 := fun s v p => by unfold rV; split <;> rfl
      rw [e]; exact h.2.2.2.2
  · have hRI := rV_RI (D := D) (g := g) hM h.2.2.1.2.2 hv (pl_apl hd (tr hp hd))
    omega
/-- how a run ends: the looking at s, the case c (-1: none), its names, whether it is counted -/
def Rn (D : ZD) (G G' : ZG) (s : RS) (c : Int) (bd : Int → Int) (tk : Bool) : Prop :=
  Mo G G' ∧ (∀ j, ¬ (32 ≤ j ∧ j ≤ 45) → j ≠ 29 → ¬ (47 ≤ j ∧ j ≤ 53) → zsg G' 5 j = zsg G 5 j) ∧ Rr G' s ∧ zsg G' 5 47 0 = s.1 ∧ inR s.1 ∧ zsg G' 5 52 0 = c ∧ (c ≠ -1 → ∀ n, 0 ≤ n → n < 6 → zsg G' 5 53 n = bd n) ∧ ∀ i, 0 ≤ i → i < D 23 0 → zsg G' 5 29 i = if tk = true ∧ i = c then w32 (D 29 i + 1) else D 29 i
theorem w6_end {D : ZD} {G : ZG} {c r : Int} {Q : Int → ZG → Prop} (hM : MI D) (hc : c = -1 ∨ (0 ≤ c ∧ c < D 23 0)) (hK : ∀ j, 1 ≤ j → j ≤ 29 → zsg G 5 j = D j)
    (hQ : ∀ G', Mo G G' → (∀ j, j ≠ 29 → j ≠ 52 → j ≠ 53 → zsg G' 5 j = zsg G 5 j) → zsg G' 5 52 0 = c → (c ≠ -1 → ∀ n, 0 ≤ n → n < 6 → zsg G' 5 53 n = zsg G 5 39 n) → (∀ i, 0 ≤ i → i < D 23 0 → zsg G' 5 29 i = if decide (r = 0) = true ∧ i = c then w32 (D 29 i + 1) else D 29 i) → Q (if c = -1 then -1 else if r = 0 then D 25 c else -2) G') : vX6_end c r G Q := by
  have m23 : D 23 0 ≤ 8 := hM.2.2.2.2.1.2.2.2.2.1
  unfold vX6_end
  rw [zpF_e]
  refine zl2_of (fun i K => 0 ≤ i ∧ i ≤ 6 ∧ Mo G K ∧ (∀ j, j ≠ 52 → j ≠ 53 → zsg K 5 j = zsg G 5 j) ∧ zsg K 5 52 0 = c ∧ (c ≠ -1 → ∀ n, 0 ≤ n → n < i → zsg K 5 53 n = zsg G 5 39 n)) (fun i _ => (6 - i).toNat) (fun P i K hI hPP => ?_) ⟨by omega, by omega, (Mo.refl G).ss _ _ _, fun j j1 j2 => by rw [z5_ne (by omega)], by rw [zsg_ss, if_pos ⟨rfl, rfl, rfl⟩], fun _ n n0 n1 => by omega⟩
  obtain ⟨i0, i6, mo, hKK, k52, k53⟩ := hI
  dsimp only [zjn]
  refine zbr_i (fun hi => ?_) (fun hi => ?_)
  · have hb : c ≠ -1 → ∀ n, 0 ≤ n → n < 6 → zsg K 5 53 n = zsg G 5 39 n := fun h n n0 n1 => k53 h n n0 (by omega)
    clear hPP k53
    have fin : ∀ (K' : ZG), Mo G K' → (∀ j, j ≠ 29 → j ≠ 52 → j ≠ 53 → zsg K' 5 j = zsg G 5 j) → zsg K' 5 52 0 = c → zsg K' 5 53 = zsg K 5 53 → (∀ i, 0 ≤ i → i < D 23 0 → zsg K' 5 29 i = if decide (r = 0) = true ∧ i = c then w32 (D 29 i + 1) else D 29 i) → zbr (c ≠ -1) (zbr (r = 0) (zaL K' 5 25 8 c fun (x2 : Int) => Q x2 K') (Q (-2) K')) (Q (-1) K') := fun K' mo' hK' k52' k53' k29' => by
      have q := hQ K' mo' hK' k52' (fun h n n0 n1 => by rw [k53', hb h n n0 n1]) k29'
      refine zbr_i (fun h => ?_) (fun h => ?_)
      · rw [if_neg h] at q
        have hc2 := hc.resolve_left h
        refine zbr_i (fun hr => ?_) (fun hr => ?_)
        · rw [if_pos hr] at q
          refine zaL_i hc2.1 (by omega) ?_
          rw [hK' 25 (by omega) (by omega) (by omega), hK 25 (by omega) (by omega)]; exact q
        · rw [if_neg hr] at q; exact q
      · rw [if_pos (Decidable.of_not_not h)] at q; exact q
    have st : ∀ z y, z = (if c = -1 then 0 else c) → y = (if c = -1 then 0 else if r = 0 then (1 : Int) else 0) → zaS K 5 29 8 z (w32 (zsg K 5 29 z + y)) fun (G2 : ZG) => zbr (c ≠ -1) (zbr (r = 0) (zaL G2 5 25 8 c fun (x2 : Int) => Q x2 G2) (Q (-2) G2)) (Q (-1) G2) := fun z y hz hy => by
      refine zaS_i (by rw [hz]; split <;> omega) (by rw [hz]; split <;> omega) ?_
      refine fin _ (mo.ss _ _ _) (fun j j1 j2 j3 => by rw [z5_ne j1, hKK j j2 j3]) (by rw [z5_ne (by omega), k52]) (by rw [z5_ne (by omega)]) (fun i i0 i1 => ?_)
      rw [z5_eq]
      dsimp only
      rw [hKK 29 (by omega) (by omega), hK 29 (by omega) (by omega)]
      have hi29 := (hM.2.2.2.2.1.2.2.2.2.2.2 i i0 i1).2.2.2.2.2.2
      by_cases h1 : c = -1
      · rw [if_pos h1] at hz hy
        subst hz hy
        rw [if_neg (show ¬ (decide (r = 0) = true ∧ i = c) by omega)]
        by_cases h2 : i = 0
        · rw [if_pos h2, Int.add_zero, ← h2, w32_id hi29]
        · rw [if_neg h2]
      · rw [if_neg h1] at hz hy
        subst hz
        by_cases h2 : i = z
        · subst h2
          rw [if_pos rfl]
          by_cases hr : r = 0
          · rw [if_pos hr] at hy
            subst hy
            rw [if_pos ⟨decide_eq_true hr, rfl⟩]
          · rw [if_neg hr] at hy
            subst hy
            rw [if_neg (fun z => hr (of_decide_eq_true z.1)), Int.add_zero, w32_id hi29]
        · rw [if_neg h2, if_neg (fun z => h2 z.2)]
    refine zbr_i (fun h => ?_) (fun h => ?_)
    · have hc2 := hc.resolve_left h
      refine zaL_i hc2.1 (by omega) (zbr_i (fun h2 => absurd h2 h) (fun _ => zbr_i (fun hr => ?_) (fun hr => ?_)))
      · exact st c 1 (by rw [if_neg h]) (by rw [if_neg h, if_pos hr])
      · exact st c 0 (by rw [if_neg h]) (by rw [if_neg h, if_neg hr])
    · have h := Decidable.of_not_not h
      refine zaL_i (by omega) (by omega) (zbr_i (fun _ => ?_) (fun h2 => absurd h h2))
      exact st 0 0 (by rw [if_pos h]) (by rw [if_pos h])
  · refine zbr_i (fun h => ?_) (fun h => ?_)
    · refine zaL_i i0 (by omega) (zaS_i i0 (by omega) ?_)
      rw [zlt1_e, w32_eq (by omega) (by omega)]
      refine hPP _ _ ⟨by omega, by omega, mo.ss _ _ _, fun j j1 j2 => by rw [z5_ne j2, hKK j j1 j2], by rw [z5_ne (by omega), k52], fun h2 n n0 n1 => ?_⟩ (by omega)
      rw [z5_eq]
      dsimp only
      by_cases hn : n = i
      · rw [if_pos hn, hKK 39 (by omega) (by omega), hn]
      · rw [if_neg hn]; exact k53 h2 n n0 (by omega)
    · refine zaS_i i0 (by omega) ?_
      rw [zlt1_e, w32_eq (by omega) (by omega)]
      exact hPP _ _ ⟨by omega, by omega, mo.ss _ _ _, fun j j1 j2 => by rw [z5_ne j2, hKK j j1 j2], by rw [z5_ne (by omega), k52], fun h2 => absurd h2 h⟩ (by omega)
