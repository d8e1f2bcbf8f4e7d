/-! REFERENCE: what is missing; which cases are used -/
set_option maxRecDepth 100000
/-- what asking a tree changes -/
def FC (K K' : ZG) : Prop := Mo K K' ∧ ∀ j, j ≠ 0 → j ≠ 30 → ¬ (32 ≤ j ∧ j ≤ 45) → ¬ (54 ≤ j ∧ j ≤ 68) → zsg K' 5 j = zsg K 5 j
theorem FC.z {K K' : ZG} (h : FB K K') (v : Int) : FC K (zss K' 5 0 0 v) := ⟨h.1.ss _ _ _, fun j j0 j1 j2 j3 => by rw [z5_ne j0, h.2 j j1 j2 j3]⟩
theorem MTI.z {K : ZG} {D : ZD} (h : MTI K D) (v : Int) : MTI (zss K 5 0 0 v) D := h.of (fun j j1 j2 => by rw [z5_ne (by omega)])
theorem k6_missing {G : ZG} {D : ZD} {Q : Int → ZG → Prop} (hM : MI D) (hL : LIN D) (hK : ∀ j, 1 ≤ j → j ≤ 29 → zsg G 5 j = D j) (hT : MTI G D) (h47 : inR (zsg G 5 47 0)) (h1 : ¬ 0 < D 21 0 → Q 0 (zss G 5 0 0 1))
    (hQ : 0 < D 21 0 → ∀ r, MsA D r → ∀ G', FC G G' → MTI G' D → zsg G' 5 0 0 = 0 → Q r G') : vX6_missing G Q := by
  have m21 : 0 ≤ D 21 0 ∧ D 21 0 ≤ 3 := ⟨hM.2.2.2.2.1.1, hM.2.2.2.2.1.2.1⟩
  unfold vX6_missing
  rw [zgF_e, hK 21 (by omega) (by omega)]
  dsimp only [zjn]
  refine zbr_i (fun h => ?_) (fun h => ?_)
  · rw [eX6_refused, decide_eq_false (fun z => z rfl)]
    refine zbr_i (fun _ => ?_) (fun z => absurd rfl z)
    have e0 : zsg (zss G 5 0 0 0) 5 0 0 = 0 := by rw [zsg_ss, if_pos ⟨rfl, rfl, rfl⟩]
    have eB : ∀ j, j ≠ 0 → zsg (zss G 5 0 0 0) 5 j = zsg G 5 j := fun j hj => by rw [z5_ne hj]
    have mB : Mo G (zss G 5 0 0 0) := (Mo.refl G).ss _ _ _
    have tB := hT.z 0
    generalize zss G 5 0 0 0 = B at e0 eB mB tB
    refine w6_build (eng := 2) hM hL (fun j j1 j2 => by rw [eB j (by omega), hK j j1 j2]) (by rw [eB 47 (by omega)]; exact h47) (fun h => tB 2 (Or.inl rfl) h) (fun K fK k54 hTM => ?_)
    have q := fun r hr => hQ (by omega) r hr K ⟨mB.trans fK.1, fun j j0 j1 j2 j3 => by rw [fK.2 j j1 j2 j3, eB j j0]⟩ (fun eng he h54 => by
      rw [k54] at h54
      rw [← h54]; exact hTM) (by rw [fK.2 0 (by omega) (by omega) (by omega)]; exact e0)
    have h56 : 0 ≤ zsg K 5 56 0 ∧ zsg K 5 56 0 ≤ 500 := by
      rcases hTM with ⟨_, _, a⟩ | ⟨_, L, t1, t2, _⟩
      · exact a
      · rw [t1]; omega
    refine zl2_of (fun m i => (0 ≤ i ∧ i ≤ zsg K 5 56 0) ∧ (0 ≤ m ∧ m ≤ i) ∧ ∀ L : List PT, TT D 2 K L (L.length : Int) → m = (((L.take i.toNat).filter (fM D)).length : Int)) (fun _ i => (zsg K 5 56 0 - i).toNat) (fun P m i hI hPP => ?_) ⟨⟨by omega, by omega⟩, ⟨by omega, by omega⟩, fun L _ => by simp⟩
    obtain ⟨⟨i0, i1⟩, ⟨m0, m1⟩, hm⟩ := hI
    rw [zgF_e]
    refine zbr_i (fun hi => ?_) (fun hi => ?_)
    · rw [zgF_e]
      rcases hTM with ⟨k55, hBig, _⟩ | ⟨k55, L, hTT⟩
      · rw [k55]
        exact zbr_i (fun z => by cases z) (fun _ => q _ (Or.inl ⟨hBig, rfl⟩))
      · rw [k55]
        refine zbr_i (fun _ => ?_) (fun z => absurd rfl z)
        have e := hm L hTT
        have e2 : i.toNat = L.length := by have := hTT.1; omega
        rw [e2, List.take_length] at e
        rw [e]
        exact q _ (Or.inr ⟨L, enu_m hTT, rfl⟩)
    · refine zaL_i i0 (by omega) ?_
      have next : ∀ x, (x = 0 ∨ x = 1) → (∀ L : List PT, TT D 2 K L (L.length : Int) → ∀ q, L[i.toNat]? = some q → x = if fM D q = true then (1 : Int) else 0) → zlt1 (w32 (m + x)) fun x6 => zlt1 (w32 (i + 1)) fun x7 => P x6 x7 := fun x x01 hx => by
        rw [zlt1_e, zlt1_e, w32_eq (by omega) (by omega), w32_eq (by omega) (by omega)]
        refine hPP _ _ ⟨⟨by omega, by omega⟩, ⟨by omega, by omega⟩, fun L hTT => ?_⟩ (by omega)
        have e := hm L hTT
        have t1 := hTT.1
        obtain ⟨q, hq⟩ : ∃ q, L[i.toNat]? = some q := ⟨_, List.getElem?_eq_getElem (by omega)⟩
        have := hx L hTT q hq
        rw [show (i + 1).toNat = i.toNat + 1 by omega, take_f hq, e, this]
        split <;> push_cast <;> rfl
      have row : ∀ L : List PT, TT D 2 K L (L.length : Int) → ∀ q, L[i.toNat]? = some q → zsg K 5 58 i = (nl D 2 q).1 := fun L hTT q hq => by
        obtain ⟨t1, t2, t3, t4, t5, t6, t7⟩ := hTT
        have hl := (List.getElem?_eq_some_iff.mp hq).1
        rcases t6 _ q hq with z | z
        · have := z.1
          rw [show ((i.toNat : Nat) : Int) = i by omega] at this
          exact this
        · omega
      refine zbr_i (fun hn => next 0 (Or.inl rfl) (fun L hTT q hq => ?_)) (fun hn => next 1 (Or.inr rfl) (fun L hTT q hq => ?_))
      · unfold fM; rw [decide_eq_false (fun z => hn (by rw [row L hTT q hq, z]))]; rfl
      · unfold fM; rw [decide_eq_true (by rw [← row L hTT q hq]; exact Decidable.of_not_not hn)]; rfl
  · rw [eX6_refused, decide_eq_true (by omega)]
    exact zbr_i (fun z => by cases z) (fun _ => h1 (by have := Decidable.of_not_not h; omega))
theorem k6_isUsed {G : ZG} {D : ZD} {c : Int} {Q : Int → ZG → Prop} (hD : zsg G 5 = D) (hM : MI D) (hL : LIN D) (hT : MTI G D) (h47 : inR (D 47 0)) (h1 : ¬ (0 ≤ c ∧ c < D 23 0) → Q 0 (zss G 5 0 0 1)) (h2 : (0 ≤ c ∧ c < D 23 0) → Big D 2 → ∀ G', FB G G' → MTI G' D → Q 0 (zss G' 5 0 0 2))
    (hQ : (0 ≤ c ∧ c < D 23 0) → ¬ Big D 2 → ∀ r, UsA D c r → ∀ G', FC G G' → MTI G' D → zsg G' 5 0 0 = 0 → Q r G') : vX6_isUsed c G Q := by
  unfold vX6_isUsed
  refine w6_isCase hD hM ?_
  dsimp only [zjn]
  by_cases hc : 0 ≤ c ∧ c < D 23 0
  · rw [decide_eq_true hc]
    refine zbr_i (fun z => absurd z (by show (1 : Int) ≠ 0; omega)) (fun _ => ?_)
    refine w6_build (eng := 2) hM hL (fun j _ _ => by rw [hD]) (by rw [hD]; exact h47) (fun h => hT 2 (Or.inl rfl) h) (fun K fK k54 hTM => ?_)
    have kT : MTI K D := fun eng he h54 => by
      rw [k54] at h54
      rw [← h54]; exact hTM
    refine zbr_i (fun _ => ?_) (fun z => absurd (show bb true ≠ 0 by show (1 : Int) ≠ 0; omega) z)
    rw [zgF_e]
    rcases hTM with ⟨k55, hBig, _⟩ | ⟨k55, L, hTT⟩
    · rw [k55]
      refine zbr_i (fun z => absurd z (by omega)) (fun _ => ?_)
      rw [eX6_refused, decide_eq_true (by omega)]
      exact zbr_i (fun z => absurd z (by show (1 : Int) ≠ 0; omega)) (fun _ => h2 hc hBig K fK kT)
    · rw [k55]
      refine zbr_i (fun _ => ?_) (fun z => absurd rfl z)
      rw [eX6_refused, decide_eq_false (fun z => z rfl)]
      refine zbr_i (fun _ => ?_) (fun z => absurd rfl z)
      have hE := enu_m hTT
      have q := fun r hr => hQ hc hE.big r hr _ (FC.z fK 0) (kT.z 0) (by rw [zsg_ss, if_pos ⟨rfl, rfl, rfl⟩])
      have hj : ∀ j, j ≠ 0 → zsg (zss K 5 0 0 0) 5 j = zsg K 5 j := fun j hj => by rw [z5_ne hj]
      generalize zss K 5 0 0 0 = B at q hj
      obtain ⟨t1, t2, t3, t4, t5, t6, t7⟩ := id hTT
      refine zl2_of (fun m i => ∃ n : Nat, i = (n : Int) ∧ n ≤ L.length ∧ ((m = 1 ∧ ∃ q, isN D 2 q ∧ Us D c q) ∨ (m = 0 ∧ ∀ (j : Nat) q, j < n → L[j]? = some q → ¬ Us D c q))) (fun _ i => ((L.length : Int) - i).toNat) (fun P m i hI hPP => ?_) ⟨0, rfl, by omega, Or.inr ⟨rfl, fun j q hj => by omega⟩⟩
      obtain ⟨n, rfl, hn, hm⟩ := hI
      rw [zgF_e, hj 56 (by omega), t1]
      refine zbr_i (fun hi => ?_) (fun hi => ?_)
      · refine q m ?_
        rcases hm with ⟨rfl, h⟩ | ⟨rfl, h⟩
        · exact Or.inl ⟨rfl, h⟩
        · refine Or.inr ⟨rfl, fun ⟨q, h1, h2⟩ => ?_⟩
          obtain ⟨j, hj⟩ := List.mem_iff_getElem?.mp ((hE.2.2 q).mpr h1)
          have := (List.getElem?_eq_some_iff.mp hj).1
          exact h j q (by omega) hj h2
      · obtain ⟨w, hw⟩ : ∃ q, L[n]? = some q := ⟨_, List.getElem?_eq_getElem (by omega)⟩
        have hwN := (t5 n w hw).1
        have hDn : Dn K L n w (nl D 2 w) := by
          rcases t6 n w hw with z | z
          · exact z
          · omega
        have next : ∀ m', ((m' = 1 ∧ ∃ q, isN D 2 q ∧ Us D c q) ∨ (m' = 0 ∧ ∀ (j : Nat) q, j < n + 1 → L[j]? = some q → ¬ Us D c q)) → zlt1 (w32 ((n : Int) + 1)) fun x4 => P m' x4 := fun m' hm' => by
          rw [zlt1_e, w32_eq (by omega) (by omega)]
          exact hPP _ _ ⟨n + 1, by push_cast; rfl, by omega, hm'⟩ (by omega)
        have yes : Us D c w → zlt1 (w32 ((n : Int) + 1)) fun x4 => P 1 x4 := fun h => next 1 (Or.inl ⟨rfl, w, hwN, h⟩)
        have nope : m = 0 → ¬ Us D c w → zlt1 (w32 ((n : Int) + 1)) fun x4 => P 0 x4 := fun h h2 => by
          have hm0 := (hm.resolve_left (fun z => by omega)).2
          refine next 0 (Or.inr ⟨rfl, fun j q' hj hq' => ?_⟩)
          by_cases hjn : j = n
          · subst hjn
            rw [hw] at hq'
            rw [← Option.some.inj hq']; exact h2
          · exact hm0 j q' (by omega) hq'
        refine zbr_i (fun hm1 => next 1 (Or.inl ⟨rfl, (hm.resolve_right (fun z => hm1 z.1)).2⟩)) (fun hm0 => ?_)
        have hm0 := Decidable.of_not_not hm0
        have look : (nl D 2 w).1 = 0 ∨ (nl D 2 w).1 = 1 → zaL B 5 59 512 (n : Int) fun x6 => zbr (x6 ≠ c) (zlt1 (w32 ((n : Int) + 1)) fun x4 => P 0 x4) (zlt1 (w32 ((n : Int) + 1)) fun x4 => P 1 x4) := fun h01 => by
          refine zaL_i (by omega) (by omega) ?_
          rw [hj 59 (by omega), hDn.2.1 (by omega)]
          exact zbr_i (fun hne => nope hm0 (fun z => hne z.2)) (fun he => yes ⟨h01, Decidable.of_not_not he⟩)
        refine zaL_i (by omega) (by omega) ?_
        rw [hj 58 (by omega), hDn.1]
        refine zbr_i (fun h0 => look (Or.inl h0)) (fun h0 => ?_)
        refine zaL_i (by omega) (by omega) ?_
        rw [hj 58 (by omega), hDn.1]
        exact zbr_i (fun hn1 => nope hm0 (fun z => z.1.elim h0 hn1)) (fun h1' => look (Or.inr (Decidable.of_not_not h1')))
  · rw [decide_eq_false hc]
    refine zbr_i (fun _ => ?_) (fun z => absurd rfl z)
    refine zbr_i (fun z => absurd rfl z) (fun _ => ?_)
    rw [eX6_refused, decide_eq_true (by omega)]
    exact zbr_i (fun z => absurd z (by show (1 : Int) ≠ 0; omega)) (fun _ => h1 hc)
