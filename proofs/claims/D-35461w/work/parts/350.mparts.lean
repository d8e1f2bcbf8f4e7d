/-! REFERENCE: the parts of a pattern are laid -/
set_option maxRecDepth 100000
def prit (D : ZD) (n p j k : Int) : List (Int × Int) := if prt D n k = -1 then [] else [(prt D n k, 5 * p + j + k + 1)]
/-- what is laid before index a comes -/
def rpp (D : ZD) (n p j a : Int) : List (Int × Int) := if a = 2 then [] else if a = 1 then prit D n p j 2 else if a = 0 then prit D n p j 2 ++ prit D n p j 1 else (prit D n p j 2 ++ prit D n p j 1) ++ prit D n p j 0
theorem rpp_s {D : ZD} {n p j a : Int} (h0 : 0 ≤ a) (h2 : a ≤ 2) : rpp D n p j (a - 1) = rpp D n p j a ++ prit D n p j a := by
  have : a = 2 ∨ a = 1 ∨ a = 0 := by omega
  rcases this with rfl | rfl | rfl
  · unfold rpp; simp
  · unfold rpp; simp
  · unfold rpp; simp
theorem rpp_e {D : ZD} {n p j : Int} : rpp D n p j (-1) = (chs D n p j).reverse := by
  unfold rpp prit chs
  simp only [List.filterMap_cons, List.filterMap_nil]
  by_cases h0 : prt D n 0 = -1 <;> by_cases h1 : prt D n 1 = -1 <;> by_cases h2 : prt D n 2 = -1 <;> simp [h0, h1, h2]
theorem rpp_len {D : ZD} {n p j a : Int} : (rpp D n p j a).length ≤ 3 := by
  have : ∀ k, (prit D n p j k).length ≤ 1 := fun k => by unfold prit; split <;> simp
  have a0 := this 0
  have a1 := this 1
  have a2 := this 2
  unfold rpp
  split
  · simp
  · split
    · omega
    · split
      · rw [List.length_append]; omega
      · rw [List.length_append, List.length_append]; omega
theorem w6_parts {G : ZG} {D : ZD} {n p x t : Int} {Q : ZG → Prop} (hM : MIp D) (h0 : 0 ≤ n) (h1 : n < D 9 0) (hp : 0 ≤ p ∧ p ≤ 500) (hj : D 10 n = 6 → 0 ≤ begl D n x ∧ begl D n x ≤ 3 ∧ 0 ≤ x ∧ x ≤ 9) (hK : ∀ j, 1 ≤ j → j ≤ 29 → zsg G 5 j = D j)
    (ht : zsg G 5 34 0 = t) (t0 : 0 ≤ t) (t1 : t < 250)
    (hQ : ∀ K, Mo G K → (∀ j, j ≠ 32 → j ≠ 33 → j ≠ 34 → zsg K 5 j = zsg G 5 j) → zsg K 5 34 0 = t + (chs D n p (if D 10 n = 6 then begl D n x else 0)).length → (∀ u, 0 ≤ u → u ≤ t → sth K u = sth G u) → sth K (zsg K 5 34 0) = sth G t ++ (chs D n p (if D 10 n = 6 then begl D n x else 0)).reverse → Q K) : vX6_pushParts n p x G Q := by
  have m9 := hM.2.1
  have hpw := hM.2.2 n h0 h1
  unfold vX6_pushParts
  refine zaL_i h0 (by omega) ?_
  rw [hK 10 (by omega) (by omega)]
  dsimp only [zjn]
  have main : ∀ j, j = (if D 10 n = 6 then begl D n x else 0) → 0 ≤ j ∧ j ≤ 3 → zl2 (fun (P38 : Int → ZG → Prop) (a38_5 : Int) (K38 : ZG) => zbr (a38_5 < 0) (Q K38) (zaL K38 5 13 180 (w32 ((w32 (3 * n)) + a38_5)) fun (x2 : Int) => zbr (x2 = (-1)) (zlt1 (w32 (a38_5 + (-1))) fun (x3 : Int) => P38 x3 K38) (zaL K38 5 13 180 (w32 ((w32 (3 * n)) + a38_5)) fun (x4 : Int) => vX6_push x4 (w32 ((w32 ((w32 ((w32 (5 * p)) + j)) + a38_5)) + 1)) K38 fun (G1 : ZG) => zlt1 (w32 (a38_5 + (-1))) fun (x3 : Int) => P38 x3 G1))) 2 G := by
    intro j hje hj03
    refine zl2_of (fun a K => -1 ≤ a ∧ a ≤ 2 ∧ Mo G K ∧ (∀ j, j ≠ 32 → j ≠ 33 → j ≠ 34 → zsg K 5 j = zsg G 5 j) ∧ zsg K 5 34 0 = t + (rpp D n p j a).length ∧ (∀ u, 0 ≤ u → u ≤ t → sth K u = sth G u) ∧ sth K (zsg K 5 34 0) = sth G t ++ rpp D n p j a) (fun a _ => (a + 1).toNat) (fun P a K hI hPP => ?_) ⟨by omega, by omega, Mo.refl G, fun _ _ _ _ => rfl, by rw [ht]; show t = t + ((0 : Nat) : Int); omega, fun _ _ _ => rfl, by rw [ht]; show _ = sth G t ++ []; rw [List.append_nil]⟩
    obtain ⟨a0, a2, mo, hKK, htt, hu, hs⟩ := hI
    have hl3 := rpp_len (D := D) (n := n) (p := p) (j := j) (a := a)
    refine zbr_i (fun ha => ?_) (fun ha => ?_)
    · have : a = -1 := by omega
      subst this
      rw [rpp_e] at htt hs
      rw [List.length_reverse] at htt
      subst hje
      exact hQ K mo hKK htt hu hs
    · rw [w32_eq (x := 3 * n) (by omega) (by omega), w32_eq (x := 3 * n + a) (by omega) (by omega)]
      refine zaL_i (by omega) (by omega) ?_
      rw [hKK 13 (by omega) (by omega) (by omega), hK 13 (by omega) (by omega)]
      refine zbr_i (fun hpn => ?_) (fun hpn => ?_)
      · have e : rpp D n p j (a - 1) = rpp D n p j a := by
          rw [rpp_s (by omega) a2]; unfold prit; rw [if_pos (show prt D n a = -1 from hpn), List.append_nil]
        rw [zlt1_e, w32_eq (by omega) (by omega), show a + -1 = a - 1 by omega]
        exact hPP _ _ ⟨by omega, by omega, mo, hKK, by rw [e]; exact htt, hu, by rw [e]; exact hs⟩ (by omega)
      · refine zaL_i (by omega) (by omega) ?_
        rw [hKK 13 (by omega) (by omega) (by omega), hK 13 (by omega) (by omega)]
        rw [w32_eq (x := 5 * p) (by omega) (by omega), w32_eq (x := 5 * p + j) (by omega) (by omega), w32_eq (x := 5 * p + j + a) (by omega) (by omega), w32_eq (x := 5 * p + j + a + 1) (by omega) (by omega)]
        refine w6_lay rfl (by omega) (by omega) (fun K' mo' hK' ht' hu' hs' => ?_)
        have e : rpp D n p j (a - 1) = rpp D n p j a ++ [(prt D n a, 5 * p + j + a + 1)] := by
          rw [rpp_s (by omega) a2]; unfold prit; rw [if_neg (show ¬ prt D n a = -1 from hpn)]
        rw [zlt1_e, w32_eq (by omega) (by omega), show a + -1 = a - 1 by omega]
        refine hPP _ _ ⟨by omega, by omega, mo.trans mo', fun j j1 j2 j3 => by rw [hK' j j1 j2 j3, hKK j j1 j2 j3], ?_, fun u u0 u1 => by rw [hu' u u0 (by omega), hu u u0 u1], ?_⟩ (by omega)
        · rw [ht', htt, e, List.length_append, List.length_singleton]; omega
        · rw [ht', hs', hs, e, List.append_assoc]; rfl
  refine zbr_i (fun h6 => main 0 (by rw [if_neg h6]) (by omega)) (fun h6 => ?_)
  have h6 := Decidable.of_not_not h6
  have c6 := hpw.2.2.2.2.2.2.2.2.2.2.2.2.2.2.2.2.2 h6
  have hb := hj h6
  refine zaL_i h0 (by omega) ?_
  rw [hK 12 (by omega) (by omega)]
  refine zbr_i (fun h12 => main 0 ?_ (by omega)) (fun h12 => ?_)
  · rw [if_pos h6]; unfold begl; rw [if_neg h12]
  · refine zaL_i h0 (by omega) ?_
    have h12 := Decidable.of_not_not h12
    have e : begl D n x = x - D 11 n := by unfold begl; rw [if_pos h12]
    rw [hK 11 (by omega) (by omega), w32_eq (x := x - D 11 n) (by omega) (by omega), ← e]
    exact main _ (by rw [if_pos h6]) ⟨hb.1, hb.2.1⟩
