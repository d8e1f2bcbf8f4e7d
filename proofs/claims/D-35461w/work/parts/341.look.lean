/-! COMPONENT: what is at a place of a run -/
set_option maxRecDepth 100000
/-- a run under way -/
def Ru (D : ZD) (g : Int → Int) (b : Bool) (G0 G : ZG) (s : RS) (bd : Int → Int) : Prop :=
  Fr [1] G0 G ∧ (∀ i, 0 ≤ i → i < D 21 0 → zsg G 1 2 i = g i) ∧ zsg G 1 6 0 = (s.2.length : Int) ∧ zsg G 1 7 0 = s.1 ∧ zsg G 1 8 0 = bb b ∧
  (∀ (k : Nat) x, s.2[k]? = some x → zsg G 1 3 k = x.1 ∧ zsg G 1 4 k = x.2.1 ∧ zsg G 1 5 k = x.2.2) ∧ (∀ i, 0 ≤ i → i < 6 → zsg G 1 0 i = bd i) ∧ RI s ∧ inR s.1
def enc (x : Int) : Int := if x < 0 then 1000 + (-1 - x) else x
theorem vcell {G : ZG} {D : ZD} {va vb : Nat → Nat} {v : Int} (hL : Lst G 8 (refs (D 4 0) va)) (hV : ∀ i : Nat, (i : Int) < D 4 0 → HI G (va i) (.inr (.inr (7, [.inl (D 5 i), .inl (D 6 i), .inr (some (.inl (vb i))), .inl (D 8 i)]))) ∧ HI G (vb i) (.inl (0, ints (vn D i) fun k => D 7 (3 * i + k)))) (h0 : 0 ≤ v) (h1 : v < D 4 0) {Q : ZR → Prop}
    (hQ : zsj G (va v.toNat) = some (.inr (.inr (7, [.inl (D 5 v), .inl (D 6 v), .inr (some (.inl (vb v.toNat))), .inl (D 8 v)]))) → zsj G (vb v.toNat) = some (.inl (0, ints (vn D v) fun k => D 7 (3 * v + k))) → Q (some (.inl (va v.toNat)))) : vJ2_get 8 v G Q := by
  have h := hV v.toNat (by omega)
  rw [show ((v.toNat : Nat) : Int) = v by omega] at h
  exact sJ2_get hL h0 (refs_get h0 h1) (hQ h.1.1 h.2.1)
theorem w1_thing {G : ZG} {D : ZD} {g : Int → Int} (hM : MI D) (hg : GV D g) (hC : CIv G D) (hv : ∀ i, 0 ≤ i → i < D 21 0 → zsg G 1 2 i = g i) : ∀ (d : Nat) (p k : Int) (f : Nat) (Q : Int → Prop), d ≤ 3 → d < f → tp D g d p k → Q (enc (vl D g 8 p)) → vX3_thing f p G Q := by
  have m21 : 0 ≤ D 21 0 ∧ D 21 0 ≤ 3 := ⟨hM.2.2.2.2.1.1, hM.2.2.2.2.1.2.1⟩
  obtain ⟨va, vb, hL, hV⟩ := id hC
  intro d
  induction d with
  | zero =>
    intro p k f Q _ hf h hQ
    obtain ⟨f, rfl⟩ : ∃ f', f = f' + 1 := ⟨f - 1, by omega⟩
    obtain ⟨h1, h2, h3⟩ := h
    rw [vX3_thing_s]
    unfold bX3_thing
    refine zbr_i (fun q => by omega) (fun _ => ?_)
    rw [w32_eq (by omega) (by omega)]
    refine zaL_i (by omega) (by omega) ?_
    rw [hv _ (by omega) (by omega)]
    have hgp := hg (p - 1) (by omega) (by omega)
    rw [vl_s, if_pos (by omega)] at hQ
    unfold enc at hQ
    rw [if_neg (by omega)] at hQ
    exact hQ
  | succ d ih =>
    intro p k f Q hd hf h hQ
    obtain ⟨f, rfl⟩ : ∃ f', f = f' + 1 := ⟨f - 1, by omega⟩
    obtain ⟨q, j, kq, rfl, j0, j1, hq, hk4, hk⟩ := h
    obtain ⟨ht, hp, hff⟩ := tp_vl hM hg d q kq (by omega) hq
    have q1 := apl_r q (pl_apl (by omega) hp)
    have hvv : 0 ≤ vl D g 8 q ∧ vl D g 8 q < D 4 0 ∧ D 5 (vl D g 8 q) = kq := by
      rcases ht with ht | ht
      · exact absurd ht.1 hk4
      · exact ht
    have h3 := vn_3 hM hvv.1 hvv.2.1
    have hvw := hM.2.1.2.2 _ hvv.1 hvv.2.1
    rw [vX3_thing_s]
    unfold bX3_thing
    refine zbr_i (fun _ => ⟨by unfold zn0; omega, ?_⟩) (fun q => by omega)
    rw [dDiv_nn (by unfold inR; omega) (by omega) (by omega) (by omega), show (5 * q + j + 1) / 5 = q by omega]
    refine ih q kq f _ (by omega) (by omega) hq ?_
    rw [vl_s, if_neg (by omega), show (5 * q + j + 1 - 1) / 5 = q by omega, show (5 * q + j + 1 - 1) % 5 = j by omega, hff 7 (by omega)] at hQ
    generalize vl D g 8 q = v at *
    rw [show enc v = v by unfold enc; rw [if_neg (by omega)]]
    refine vcell hL hV hvv.1 hvv.2.1 (fun e1 e2 => ?_)
    refine ⟨zca_i e1, zisO_i e1, ?_⟩
    unfold vX7_parts
    rw [zdR_e e1 rfl]
    refine ⟨by unfold zn0; omega, ?_⟩
    rw [dRem_nn (by unfold inR; omega) (by omega) (by omega) (by omega), show (5 * q + j + 1) % 5 = j + 1 by omega, w32_eq (by omega) (by omega), show j + 1 - 1 = j by omega]
    refine zeI_i e2 j0 (ints_get j0 j1) ⟨zisO_i e1, ?_⟩
    unfold vX7_kind
    rw [zdI_e e1 rfl]
    dsimp only [zjn]
    unfold vn at j1
    refine zbr_i (fun h5 => ?_) (fun h5 => ?_)
    · rw [if_neg h5] at hQ
      rw [if_neg (by omega), if_neg h5] at j1
      have := (hvw.2.2.2.2.2.2 (by have := hvw.1; have := hvw.2.1; omega)).2.2 j j0 j1
      unfold enc at hQ
      rw [if_neg (by omega)] at hQ
      exact hQ
    · have h5 := Decidable.of_not_not h5
      rw [if_pos h5] at hQ
      rw [if_neg (by omega), if_pos h5] at j1
      have := (hvw.2.2.2.2.2.1 h5).2.2 j j0 j1
      unfold enc at hQ
      rw [if_pos (by omega)] at hQ
      rw [w32_eq (by omega) (by omega)]
      have e : 1000 + (-1 - (-1 - D 7 (3 * v + j))) = 1000 + D 7 (3 * v + j) := by omega
      rw [e] at hQ
      exact hQ
theorem w1_look {G : ZG} {D : ZD} {g : Int → Int} {d : Nat} {p k : Int} {Q : Int → Prop} (hM : MI D) (hg : GV D g) (hC : CIv G D) (hv : ∀ i, 0 ≤ i → i < D 21 0 → zsg G 1 2 i = g i) (hd3 : d ≤ 3) (h : tp D g d p k) (hQ : Q (hd D g p)) : vX3_look p G Q := by
  obtain ⟨va, vb, hL, hV⟩ := id hC
  have m4 := hM.2.1.2.1
  unfold vX3_look
  refine w1_thing hM hg hC hv d p k 8 _ hd3 (by omega) h ?_
  have ht := (tp_vl hM hg d p k (by omega) h).1
  unfold hd at hQ
  generalize vl D g 8 p = v at *
  dsimp only [zjn]
  unfold enc
  rcases ht with ⟨e, h1, h2⟩ | ⟨h1, h2, h3⟩
  · rw [if_pos h2] at hQ ⊢
    rw [zbr_neg (by omega), w32_eq (by omega) (by omega), show 1000 + (-1 - v) - 1000 = -1 - v by omega]
    exact hQ
  · rw [if_neg (by omega)] at hQ ⊢
    rw [zbr_pos (by omega)]
    refine vcell hL hV h1 h2 (fun e1 e2 => ⟨zca_i e1, zisO_i e1, ?_⟩)
    unfold vX7_first
    rw [zdI_e e1 rfl]; exact hQ
theorem w1_number {G : ZG} {D : ZD} {g : Int → Int} {d : Nat} {p k : Int} {Q : Int → Prop} (hM : MI D) (hg : GV D g) (hC : CIv G D) (hv : ∀ i, 0 ≤ i → i < D 21 0 → zsg G 1 2 i = g i) (hd3 : d ≤ 3) (h : tp D g d p k) (hQ : Q (hd D g p)) : vX3_numberAt p G Q :=
  w1_look (G := G) hM hg hC hv hd3 h hQ
theorem w1_measure {G : ZG} {D : ZD} {g : Int → Int} {d : Nat} {p k : Int} {Q : Int → Prop} (hM : MI D) (hg : GV D g) (hC : CIv G D) (hv : ∀ i, 0 ≤ i → i < D 21 0 → zsg G 1 2 i = g i) (hd3 : d ≤ 3) (h : tp D g d p k) (hQ : Q (ms D g p)) : vX3_measureAt p G Q := by
  obtain ⟨va, vb, hL, hV⟩ := id hC
  have m4 := hM.2.1.2.1
  unfold vX3_measureAt
  refine w1_thing hM hg hC hv d p k 8 _ hd3 (by omega) h ?_
  have ht := (tp_vl hM hg d p k (by omega) h).1
  unfold ms at hQ
  generalize vl D g 8 p = v at *
  dsimp only [zjn]
  unfold enc
  rcases ht with ⟨e, h1, h2⟩ | ⟨h1, h2, h3⟩
  · rw [if_pos h2] at hQ ⊢
    rw [zbr_neg (by omega), w32_eq (by omega) (by omega), show 1000 + (-1 - v) - 1000 = -1 - v by omega]
    exact hQ
  · rw [if_neg (by omega)] at hQ ⊢
    rw [zbr_pos (by omega)]
    refine vcell hL hV h1 h2 (fun e1 e2 => ⟨zca_i e1, zisO_i e1, ?_⟩)
    unfold vX7_measure
    rw [zdI_e e1 rfl]; exact hQ
theorem Ru_tick {D : ZD} {g : Int → Int} {b : Bool} {G0 G : ZG} {s : RS} {bd : Int → Int} (h : Ru D g b G0 G s bd) : Ru D g b G0 (zss G 1 7 0 (w32 (s.1 + bb b))) (tick b s) bd := by
  obtain ⟨h1, h2, h3, h4, h5, h6, h7, h8, h9⟩ := h
  have e2 : (Tk : RS) → Tk = tick b s → Tk.2 = s.2 ∧ Tk.1 = w32 (s.1 + bb b) := by
    rintro _ rfl
    unfold tick
    cases b with
    | false =>
      refine ⟨rfl, ?_⟩
      have : w32 (s.1 + bb false) = s.1 := by
        show w32 (s.1 + 0) = s.1
        rw [Int.add_zero]; exact w32_id h9
      exact this.symm
    | true => exact ⟨rfl, rfl⟩
  obtain ⟨et2, et1⟩ := e2 _ rfl
  unfold Ru
  rw [et2, et1]
  refine ⟨h1.ss _ _ _ (by simp) (by omega), fun i i0 i1 => ?_, ?_, ?_, ?_, fun k x hx => ?_, fun i i0 i1 => ?_, ?_, inR_w _⟩
  · rw [zsg_ss, if_neg (by omega)]; exact h2 i i0 i1
  · rw [zsg_ss, if_neg (by omega)]; exact h3
  · rw [zsg_ss, if_pos ⟨rfl, rfl, rfl⟩]
  · rw [zsg_ss, if_neg (by omega)]; exact h5
  · rw [zsg_ss, zsg_ss, zsg_ss, if_neg (by omega), if_neg (by omega), if_neg (by omega)]; exact h6 k x hx
  · rw [zsg_ss, if_neg (by omega)]; exact h7 i i0 i1
  · unfold RI at h8 ⊢; rw [et2]; exact h8
theorem w1_at {G0 G : ZG} {D : ZD} {g : Int → Int} {b : Bool} {s : RS} {bd : Int → Int} {d : Nat} {p k kk : Int} {Q : Int → ZG → Prop} (hM : MI D) (hg : GV D g) (hC : CIv G0 D) (hR : Ru D g b G0 G s bd) (hd3 : d ≤ 3) (h : tp D g d p k) (hQ : ∀ G', Ru D g b G0 G' (tick b s) bd → Q (hd D g p) G') : vX3_at p kk G Q := by
  unfold vX3_at
  rw [zgF_e, zgF_e, hR.2.2.2.1, hR.2.2.2.2.1]
  have main : zpF G 1 7 (w32 (s.1 + bb b)) fun (G1 : ZG) => vX3_look p G1 fun (x3 : Int) => Q x3 G1 := by
    rw [zpF_e]
    have hR' := Ru_tick hR
    exact w1_look hM hg (hC.fr hR'.1 (by simp) (fun _ _ => rfl)) hR'.2.1 hd3 h (hQ _ hR')
  dsimp only [zjn]
  cases b with
  | false => exact zbr_i (fun _ => main) (fun z => absurd rfl z)
  | true => exact zbr_i (fun z => by cases z) (fun _ => main)
theorem fnd_at : ∀ (l : List (Int × Int × Int)) (a : Nat) (v p : Int) (y : Int × Int × Int), l[a]? = some y → y.1 = v ∧ y.2.1 = p → (∀ j < a, ∀ y, l[j]? = some y → ¬ (y.1 = v ∧ y.2.1 = p)) → fnd l v p = some y.2.2
  | [], _, _, _, _, h, _, _ => by simp at h
  | x :: l, 0, v, p, y, h, e, _ => by
    simp only [List.getElem?_cons_zero, Option.some.injEq] at h
    subst h
    unfold fnd
    rw [List.find?_cons_of_pos (by simp [e.1, e.2])]; rfl
  | x :: l, a + 1, v, p, y, h, e, hn => by
    have h0 := hn 0 (by omega) x rfl
    have := fnd_at l a v p y (by simpa using h) e (fun j hj y hy => hn (j + 1) (by omega) y (by simpa using hy))
    unfold fnd at this ⊢
    rw [List.find?_cons_of_neg (by simp; intro q1 q2; exact h0 ⟨q1, q2⟩)]; exact this
theorem fnd_no {l : List (Int × Int × Int)} {v p : Int} (h : ∀ (j : Nat) y, l[j]? = some y → ¬ (y.1 = v ∧ y.2.1 = p)) : fnd l v p = none := by
  unfold fnd
  rw [Option.map_eq_none_iff, List.find?_eq_none]
  intro x hx
  obtain ⟨j, hj⟩ := List.mem_iff_getElem?.mp hx
  have := h j x hj
  simp
  exact fun q1 q2 => this ⟨q1, q2⟩
