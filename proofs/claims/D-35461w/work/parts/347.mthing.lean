/-! REFERENCE: what is at a place of a run -/
set_option maxRecDepth 100000
def anc (p : Int) : Nat → Int
  | 0 => p
  | i + 1 => (anc p i - 1) / 5
theorem anc_s (p : Int) (i : Nat) : anc p (i + 1) = (anc p i - 1) / 5 := rfl
theorem tp_anc {D : ZD} {g : Int → Int} {d : Nat} {p k : Int} (hM : MI D) (hg : GV D g) (hd : d ≤ 7) (h : tp D g d p k) : ∀ i, i ≤ d → ∃ k', tp D g (d - i) (anc p i) k' := by
  intro i
  induction i with
  | zero => intro _; exact ⟨k, h⟩
  | succ i ih =>
    intro hi
    obtain ⟨k', h'⟩ := ih (by omega)
    rw [show d - i = (d - (i + 1)) + 1 by omega] at h'
    obtain ⟨q, j, kq, e, j0, j1, hq, hk4, hk⟩ := h'
    have ht := (tp_vl hM hg _ q kq (by omega) hq).1
    have hv : 0 ≤ vl D g 8 q ∧ vl D g 8 q < D 4 0 := by
      rcases ht with ht | ht
      · exact absurd ht.1 hk4
      · exact ⟨ht.1, ht.2.1⟩
    have := vn_3 hM hv.1 hv.2
    refine ⟨kq, ?_⟩
    rw [anc_s, e, show (5 * q + j + 1 - 1) / 5 = q by omega]
    exact hq
/-- a place that is not a column, and what it is in -/
theorem tp_up {D : ZD} {g : Int → Int} {d : Nat} {p k : Int} (hM : MI D) (hg : GV D g) (hd : d + 1 ≤ 7) (h : tp D g (d + 1) p k) :
    3 < p ∧ 0 ≤ (p - 1) % 5 ∧ (p - 1) % 5 < 3 ∧ 0 ≤ vl D g 8 ((p - 1) / 5) ∧ vl D g 8 ((p - 1) / 5) < D 4 0 ∧ vl D g 8 p = (if D 5 (vl D g 8 ((p - 1) / 5)) = 5 then -1 - D 7 (3 * vl D g 8 ((p - 1) / 5) + (p - 1) % 5) else D 7 (3 * vl D g 8 ((p - 1) / 5) + (p - 1) % 5)) ∧ (D 5 (vl D g 8 ((p - 1) / 5)) = 5 → 0 ≤ D 7 (3 * vl D g 8 ((p - 1) / 5) + (p - 1) % 5) ∧ D 7 (3 * vl D g 8 ((p - 1) / 5) + (p - 1) % 5) ≤ 9) := by
  obtain ⟨q, j, kq, e, j0, j1, hq, hk4, hk⟩ := id h
  obtain ⟨ht, hp, hf⟩ := tp_vl hM hg _ q kq (by omega) hq
  have q1 := pl_p q hp
  have hv : 0 ≤ vl D g 8 q ∧ vl D g 8 q < D 4 0 ∧ D 5 (vl D g 8 q) = kq := by
    rcases ht with ht | ht
    · exact absurd ht.1 hk4
    · exact ht
  have h3 := vn_3 hM hv.1 hv.2.1
  have e1 : (p - 1) / 5 = q := by omega
  have e2 : (p - 1) % 5 = j := by omega
  have es := vl_s D g 7 p
  rw [if_neg (by omega), e1, e2, hf 7 (by omega)] at es
  rw [e1, e2]
  refine ⟨by omega, j0, by omega, hv.1, hv.2.1, es, fun h5 => ?_⟩
  have hvw := hM.2.1.2.2 _ hv.1 hv.2.1
  refine (hvw.2.2.2.2.2.1 h5).2.2 j j0 ?_
  unfold vn at j1
  rw [if_neg (by omega), if_pos h5] at j1
  exact j1
theorem w6_way {G : ZG} {D : ZD} {g : Int → Int} {d : Nat} {p k : Int} {Q : Int → ZG → Prop} (hM : MI D) (hg : GV D g) (hd3 : d ≤ 3) (h : tp D g d p k)
    (hQ : ∀ G', Mo G G' → (∀ j, j ≠ 45 → zsg G' 5 j = zsg G 5 j) → (∀ i : Nat, i < d → zsg G' 5 45 i = (anc p i - 1) % 5) → zsg G' 5 45 d = anc p d - 1 → Q d G') : vX6_wayTo p G Q := by
  have m21 : 0 ≤ D 21 0 ∧ D 21 0 ≤ 3 := ⟨hM.2.2.2.2.1.1, hM.2.2.2.2.1.2.1⟩
  unfold vX6_wayTo
  refine zl3_of (fun (n at' : Int) (K : ZG) => ∃ i : Nat, n = (i : Int) ∧ i ≤ d ∧ at' = anc p i ∧ Mo G K ∧ (∀ j, j ≠ 45 → zsg K 5 j = zsg G 5 j) ∧ ∀ j : Nat, j < i → zsg K 5 45 j = (anc p j - 1) % 5) (fun (n : Int) _ _ => ((d : Int) - n).toNat) (fun P n at' K hI hPP => ?_) ⟨0, rfl, by omega, rfl, Mo.refl G, fun _ _ => rfl, fun j hj => by omega⟩
  obtain ⟨i, rfl, hi, rfl, mo, hK, hw⟩ := hI
  obtain ⟨k', h'⟩ := tp_anc hM hg (by omega) h i hi
  have hr := apl_r _ (pl_apl (by omega) (tp_vl hM hg _ _ _ (by omega) h').2.1)
  rw [w32_eq (by omega) (by omega)]
  refine zbr_i (fun h3 => ?_) (fun h3 => ?_)
  · have hid : i = d := by
      refine Decidable.byContradiction fun hn => ?_
      rw [show d - i = (d - (i + 1)) + 1 by omega] at h'
      have := tp_up hM hg (by omega) h'
      omega
    subst hid
    refine zaS_i (by omega) (by omega) ?_
    refine hQ _ (mo.ss _ _ _) (fun j hj => by rw [z5_ne hj, hK j hj]) (fun j hj => ?_) ?_
    · rw [zsg_ss, if_neg (by omega)]; exact hw j hj
    · rw [zsg_ss, if_pos ⟨rfl, rfl, rfl⟩]
  · have hid : i < d := by
      refine Decidable.byContradiction fun hn => ?_
      rw [show d - i = 0 by omega] at h'
      have := h'.2.1
      omega
    refine ⟨by unfold zn0; omega, ?_⟩
    rw [dRem_nn (by unfold inR; omega) (by omega) (by omega) (by omega), dDiv_nn (by unfold inR; omega) (by omega) (by omega) (by omega)]
    refine zaS_i (by omega) (by omega) ?_
    rw [zlt1_e, w32_eq (by omega) (by omega)]
    refine ⟨by unfold zn0; omega, ?_⟩
    rw [zlt1_e]
    refine hPP _ _ _ ⟨i + 1, by omega, by omega, rfl, mo.ss _ _ _, fun j hj => by rw [z5_ne hj, hK j hj], fun j hj => ?_⟩ (by omega)
    by_cases hji : j = i
    · subst hji
      rw [zsg_ss, if_pos ⟨rfl, rfl, rfl⟩]
    · rw [zsg_ss, if_neg (by omega)]; exact hw j (by omega)
theorem w6_value {G : ZG} {D : ZD} {g : Int → Int} {d : Nat} {p k : Int} {Q : Int → ZG → Prop} (hM : MI D) (hg : GV D g) (hd3 : d ≤ 3) (h : tp D g d p k) (hK : ∀ j, 1 ≤ j → j ≤ 29 → zsg G 5 j = D j) (hgv : ∀ i, 0 ≤ i → i < D 21 0 → zsg G 5 46 i = g i)
    (hQ : ∀ G', Mo G G' → (∀ j, j ≠ 45 → zsg G' 5 j = zsg G 5 j) → Q (vl D g 8 p) G') : vX6_valueAt p G Q := by
  have m21 : 0 ≤ D 21 0 ∧ D 21 0 ≤ 3 := ⟨hM.2.2.2.2.1.1, hM.2.2.2.2.1.2.1⟩
  have m4 := hM.2.1.2.1
  unfold vX6_valueAt
  refine w6_way hM hg hd3 h (fun K mo hKK hw hd => ?_)
  refine zaL_i (by omega) (by omega) ?_
  rw [hd]
  obtain ⟨k0, h0⟩ := tp_anc hM hg (by omega) h d (by omega)
  rw [show d - d = 0 by omega] at h0
  have hc : 1 ≤ anc p d ∧ anc p d ≤ D 21 0 := ⟨h0.1, h0.2.1⟩
  refine zaL_i (by omega) (by omega) ?_
  rw [hKK 46 (by omega), hgv _ (by omega) (by omega), zlt1_e, w32_eq (by omega) (by omega)]
  refine zl2_of (fun (own i : Int) => ∃ m : Nat, i = (m : Int) - 1 ∧ m ≤ d ∧ own = vl D g 8 (anc p m)) (fun _ i => (i + 1).toNat) (fun P own i hI hPP => ?_) ⟨d, rfl, by omega, by rw [vl_s, if_pos (by omega)]⟩
  obtain ⟨m, rfl, hm, rfl⟩ := hI
  refine zbr_i (fun hn => ?_) (fun hn => ?_)
  · have : m = 0 := by omega
    subst this
    exact hQ K mo hKK
  · obtain ⟨m, rfl⟩ : ∃ m', m = m' + 1 := ⟨m - 1, by omega⟩
    obtain ⟨k', h'⟩ := tp_anc hM hg (by omega) h m (by omega)
    rw [show d - m = (d - (m + 1)) + 1 by omega] at h'
    have u := tp_up hM hg (by omega) h'
    rw [← anc_s] at u
    refine zaL_i (by omega) (by omega) ?_
    rw [show ((m + 1 : Nat) : Int) - 1 = (m : Int) by omega, hw m (by omega)]
    rw [w32_eq (x := 3 * vl D g 8 (anc p (m + 1))) (by omega) (by omega), w32_eq (by omega) (by omega)]
    refine zaL_i (by omega) (by omega) ?_
    refine zaL_i (by omega) (by omega) ?_
    rw [hKK 7 (by omega), hK 7 (by omega) (by omega), hKK 5 (by omega), hK 5 (by omega) (by omega)]
    dsimp only [zjn]
    have fin : ∀ y, y = vl D g 8 (anc p m) → zlt1 (w32 ((m : Int) + (-1))) fun x8 => P y x8 := fun y hy => by
      rw [zlt1_e, w32_eq (by omega) (by omega)]
      exact hPP _ _ ⟨m, by omega, by omega, hy⟩ (by omega)
    refine zbr_i (fun h5 => fin _ ?_) (fun h5 => fin _ ?_)
    · rw [u.2.2.2.2.2.1, if_neg h5]
    · have h5 := Decidable.of_not_not h5
      have := u.2.2.2.2.2.2 h5
      rw [u.2.2.2.2.2.1, if_pos h5, w32_eq (by omega) (by omega)]
theorem w6_head {G : ZG} {D : ZD} {g : Int → Int} {d : Nat} {p k : Int} {Q : Int → ZG → Prop} (hM : MI D) (hg : GV D g) (hd3 : d ≤ 3) (h : tp D g d p k) (hK : ∀ j, 1 ≤ j → j ≤ 29 → zsg G 5 j = D j) (hgv : ∀ i, 0 ≤ i → i < D 21 0 → zsg G 5 46 i = g i)
    (hQ : ∀ G', Mo G G' → (∀ j, j ≠ 45 → zsg G' 5 j = zsg G 5 j) → Q (hd D g p) G') : vX6_headAt p G Q := by
  have m4 := hM.2.1.2.1
  unfold vX6_headAt
  refine w6_value hM hg hd3 h hK hgv (fun K mo hKK => ?_)
  have ht := (tp_vl hM hg d p k (by omega) h).1
  have q := hQ K mo hKK
  unfold hd at q
  dsimp only [zjn]
  rcases ht with ⟨e, h1, h2⟩ | ⟨h1, h2, h3⟩
  · rw [if_pos h2] at q
    rw [zbr_neg (by omega), w32_eq (by omega) (by omega)]; exact q
  · rw [if_neg (by omega)] at q
    rw [zbr_pos h1]
    refine zaL_i h1 (by omega) ?_
    rw [hKK 6 (by omega), hK 6 (by omega) (by omega)]; exact q
theorem w6_measure {G : ZG} {D : ZD} {g : Int → Int} {d : Nat} {p k : Int} {Q : Int → ZG → Prop} (hM : MI D) (hg : GV D g) (hd3 : d ≤ 3) (h : tp D g d p k) (hK : ∀ j, 1 ≤ j → j ≤ 29 → zsg G 5 j = D j) (hgv : ∀ i, 0 ≤ i → i < D 21 0 → zsg G 5 46 i = g i)
    (hQ : ∀ G', Mo G G' → (∀ j, j ≠ 45 → zsg G' 5 j = zsg G 5 j) → Q (ms D g p) G') : vX6_measureAt p G Q := by
  have m4 := hM.2.1.2.1
  unfold vX6_measureAt
  refine w6_value hM hg hd3 h hK hgv (fun K mo hKK => ?_)
  have ht := (tp_vl hM hg d p k (by omega) h).1
  have q := hQ K mo hKK
  unfold ms at q
  dsimp only [zjn]
  rcases ht with ⟨e, h1, h2⟩ | ⟨h1, h2, h3⟩
  · rw [if_pos h2] at q
    rw [zbr_neg (by omega), w32_eq (by omega) (by omega)]; exact q
  · rw [if_neg (by omega)] at q
    rw [zbr_pos h1]
    refine zaL_i h1 (by omega) ?_
    rw [hKK 8 (by omega), hK 8 (by omega) (by omega)]; exact q
