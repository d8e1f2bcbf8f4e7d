/-! COMPONENT: nodes that tell alike are one -/
set_option maxRecDepth 100000
/-- a node's row with the classes of those behind it -/
def Cl (o : Nat) (K : ZG) (a m : Int) (v : Nat → Int) : Prop := (0 ≤ a ∧ a < 500) ∧ (0 ≤ m ∧ m ≤ 10) ∧ zsg K o 7 a = m ∧ ∀ k : Nat, (k : Int) < m → (0 ≤ zsg K o 6 (10 * a + k) ∧ zsg K o 6 (10 * a + k) < 500) ∧ zsg K o 8 (zsg K o 6 (10 * a + k)) = v k
theorem w4_needless {o : Nat} {K : ZG} {a m : Int} {v : Nat → Int} {Q : Int → Prop} (h : Cl o K a m v) (hY : zsg K o 3 a = 0 ∧ 0 < m ∧ (∀ k : Nat, (k : Int) < m → v k = v 0) → Q 1) (hN : ¬ (zsg K o 3 a = 0 ∧ 0 < m ∧ ∀ k : Nat, (k : Int) < m → v k = v 0) → Q 0) : vX4_isNeedless o a K Q := by
  obtain ⟨⟨a0, a1⟩, ⟨m0, m1⟩, h7, h6⟩ := h
  unfold vX4_isNeedless
  dsimp only [zjn]
  have loop : ∀ z, ((z = 1 ∧ zsg K o 3 a = 0 ∧ 0 < m) ∨ (z = 0 ∧ ¬ (zsg K o 3 a = 0 ∧ 0 < m))) → zl2 (fun (P26 : Int → Int → Prop) (a26_2 : Int) (a26_3 : Int) => zaL K o 7 500 a fun (x2 : Int) => zbr (x2 ≤ a26_3) (Q a26_2) (zbr (a26_2 = 0) (Q a26_2) (zin 500 a ∧ zxL K o 6 a a26_3 fun (x4 : Int) => zaL K o 8 500 x4 fun (x5 : Int) => zin 500 a ∧ zxL K o 6 a 0 fun (x7 : Int) => zaL K o 8 500 x7 fun (x8 : Int) => zbr (x5 ≠ x8) (zlt1 (w32 (a26_3 + 1)) fun (x9 : Int) => P26 0 x9) (zlt1 (w32 (a26_3 + 1)) fun (x9 : Int) => P26 1 x9)))) z 1 := fun z hz => by
    refine zl2_of (fun z i => 1 ≤ i ∧ ((z = 1 ∧ (zsg K o 3 a = 0 ∧ 0 < m) ∧ i ≤ m ∧ ∀ k : Nat, (k : Int) < i → v k = v 0) ∨ (z = 0 ∧ ¬ (zsg K o 3 a = 0 ∧ 0 < m ∧ ∀ k : Nat, (k : Int) < m → v k = v 0)))) (fun _ i => (m - i).toNat) (fun P z i hI hPP => ?_) ⟨by omega, ?_⟩
    · obtain ⟨i0, hz⟩ := hI
      refine zaL_i a0 a1 ?_
      rw [h7]
      have out : (m ≤ i ∨ z = 0) → Q z := fun h => by
        rcases hz with ⟨rfl, hh, him, hv⟩ | ⟨rfl, hh⟩
        · exact hY ⟨hh.1, hh.2, fun k hk => hv k (by omega)⟩
        · exact hN hh
      refine zbr_i (fun hi => out (Or.inl hi)) (fun hi => zbr_i (fun h0 => out (Or.inr h0)) (fun h0 => ?_))
      obtain ⟨hh, him, hv⟩ := (hz.resolve_right (fun y => h0 y.1)).2
      obtain ⟨c1, c2⟩ := h6 i.toNat (by omega)
      obtain ⟨d1, d2⟩ := h6 0 (by omega)
      rw [show ((i.toNat : Nat) : Int) = i by omega] at c1 c2
      rw [show (((0 : Nat) : Int)) = 0 from rfl] at d1 d2
      refine ⟨⟨a0, a1⟩, by omega, by omega, zaL_i c1.1 c1.2 ⟨⟨a0, a1⟩, by omega, by omega, zaL_i d1.1 d1.2 ?_⟩⟩
      rw [c2, d2]
      have next : ∀ z', ((z' = 1 ∧ (zsg K o 3 a = 0 ∧ 0 < m) ∧ i + 1 ≤ m ∧ ∀ k : Nat, (k : Int) < i + 1 → v k = v 0) ∨ (z' = 0 ∧ ¬ (zsg K o 3 a = 0 ∧ 0 < m ∧ ∀ k : Nat, (k : Int) < m → v k = v 0))) → zlt1 (w32 (i + 1)) fun x9 => P z' x9 := fun z' hz' => by
        rw [zlt1_e, w32_eq (by omega) (by omega)]
        exact hPP _ _ ⟨by omega, hz'⟩ (by omega)
      refine zbr_i (fun hne => next 0 (Or.inr ⟨rfl, fun y => hne (y.2.2 i.toNat (by omega))⟩)) (fun he => next 1 (Or.inl ⟨rfl, hh, by omega, fun k hk => ?_⟩))
      by_cases hki : (k : Int) = i
      · rw [show k = i.toNat by omega]; exact Decidable.of_not_not he
      · exact hv k (by omega)
    · rcases hz with ⟨rfl, h1, h2⟩ | ⟨rfl, h1⟩
      · exact Or.inl ⟨rfl, ⟨h1, h2⟩, by omega, fun k hk => by rw [show k = 0 by omega]⟩
      · exact Or.inr ⟨rfl, fun y => h1 ⟨y.1, y.2.1⟩⟩
  refine zaL_i a0 a1 ?_
  refine zbr_i (fun h3 => loop 0 (Or.inr ⟨rfl, fun z => h3 z.1⟩)) (fun h3 => zaL_i a0 a1 ?_)
  rw [h7]
  exact zbr_i (fun hm => loop 0 (Or.inr ⟨rfl, fun z => by omega⟩)) (fun hm => loop 1 (Or.inl ⟨rfl, Decidable.of_not_not h3, by omega⟩))
theorem w4_alike {o : Nat} {K : ZG} {a b m m' : Int} {v v' : Nat → Int} {Q : Int → Prop} (h : Cl o K a m v) (h' : Cl o K b m' v') (hY : zsg K o 3 a = zsg K o 3 b → zsg K o 4 a = zsg K o 4 b → zsg K o 5 a = zsg K o 5 b → m = m' → (∀ k : Nat, (k : Int) < m → v k = v' k) → Q 1)
    (hN : ¬ (zsg K o 3 a = zsg K o 3 b ∧ zsg K o 4 a = zsg K o 4 b ∧ zsg K o 5 a = zsg K o 5 b ∧ m = m' ∧ ∀ k : Nat, (k : Int) < m → v k = v' k) → Q 0) : vX4_areAlike o a b K Q := by
  obtain ⟨⟨a0, a1⟩, ⟨m0, m1⟩, h7, h6⟩ := h
  obtain ⟨⟨b0, b1⟩, ⟨n0, n1⟩, g7, g6⟩ := h'
  unfold vX4_areAlike
  dsimp only [zjn]
  have loop : ∀ z, ((z = 1 ∧ zsg K o 3 a = zsg K o 3 b ∧ zsg K o 4 a = zsg K o 4 b ∧ zsg K o 5 a = zsg K o 5 b ∧ m = m') ∨ (z = 0 ∧ ¬ (zsg K o 3 a = zsg K o 3 b ∧ zsg K o 4 a = zsg K o 4 b ∧ zsg K o 5 a = zsg K o 5 b ∧ m = m'))) → zl2 (fun (P69 : Int → Int → Prop) (a69_3 : Int) (a69_4 : Int) => zaL K o 7 500 a fun (x3 : Int) => zbr (x3 ≤ a69_4) (Q a69_3) (zbr (a69_3 = 0) (Q a69_3) (zin 500 a ∧ zxL K o 6 a a69_4 fun (x5 : Int) => zaL K o 8 500 x5 fun (x6 : Int) => zin 500 b ∧ zxL K o 6 b a69_4 fun (x8 : Int) => zaL K o 8 500 x8 fun (x9 : Int) => zbr (x6 ≠ x9) (zlt1 (w32 (a69_4 + 1)) fun (x10 : Int) => P69 0 x10) (zlt1 (w32 (a69_4 + 1)) fun (x10 : Int) => P69 1 x10)))) z 0 := fun z hz => by
    refine zl2_of (fun z i => 0 ≤ i ∧ ((z = 1 ∧ (zsg K o 3 a = zsg K o 3 b ∧ zsg K o 4 a = zsg K o 4 b ∧ zsg K o 5 a = zsg K o 5 b ∧ m = m') ∧ i ≤ m ∧ ∀ k : Nat, (k : Int) < i → v k = v' k) ∨ (z = 0 ∧ ¬ (zsg K o 3 a = zsg K o 3 b ∧ zsg K o 4 a = zsg K o 4 b ∧ zsg K o 5 a = zsg K o 5 b ∧ m = m' ∧ ∀ k : Nat, (k : Int) < m → v k = v' k)))) (fun _ i => (m - i).toNat) (fun P z i hI hPP => ?_) ⟨by omega, ?_⟩
    · obtain ⟨i0, hz⟩ := hI
      refine zaL_i a0 a1 ?_
      rw [h7]
      have out : (m ≤ i ∨ z = 0) → Q z := fun h => by
        rcases hz with ⟨rfl, hh, him, hv⟩ | ⟨rfl, hh⟩
        · exact hY hh.1 hh.2.1 hh.2.2.1 hh.2.2.2 (fun k hk => hv k (by omega))
        · exact hN hh
      refine zbr_i (fun hi => out (Or.inl hi)) (fun hi => zbr_i (fun h0 => out (Or.inr h0)) (fun h0 => ?_))
      obtain ⟨hh, him, hv⟩ := (hz.resolve_right (fun y => h0 y.1)).2
      obtain ⟨c1, c2⟩ := h6 i.toNat (by omega)
      obtain ⟨d1, d2⟩ := g6 i.toNat (by omega)
      rw [show ((i.toNat : Nat) : Int) = i by omega] at c1 c2 d1 d2
      refine ⟨⟨a0, a1⟩, by omega, by omega, zaL_i c1.1 c1.2 ⟨⟨b0, b1⟩, by omega, by omega, zaL_i d1.1 d1.2 ?_⟩⟩
      rw [c2, d2]
      have next : ∀ z', ((z' = 1 ∧ (zsg K o 3 a = zsg K o 3 b ∧ zsg K o 4 a = zsg K o 4 b ∧ zsg K o 5 a = zsg K o 5 b ∧ m = m') ∧ i + 1 ≤ m ∧ ∀ k : Nat, (k : Int) < i + 1 → v k = v' k) ∨ (z' = 0 ∧ ¬ (zsg K o 3 a = zsg K o 3 b ∧ zsg K o 4 a = zsg K o 4 b ∧ zsg K o 5 a = zsg K o 5 b ∧ m = m' ∧ ∀ k : Nat, (k : Int) < m → v k = v' k))) → zlt1 (w32 (i + 1)) fun x10 => P z' x10 := fun z' hz' => by
        rw [zlt1_e, w32_eq (by omega) (by omega)]
        exact hPP _ _ ⟨by omega, hz'⟩ (by omega)
      refine zbr_i (fun hne => next 0 (Or.inr ⟨rfl, fun y => hne (y.2.2.2.2 i.toNat (by omega))⟩)) (fun he => next 1 (Or.inl ⟨rfl, hh, by omega, fun k hk => ?_⟩))
      by_cases hki : (k : Int) = i
      · rw [show k = i.toNat by omega]; exact Decidable.of_not_not he
      · exact hv k (by omega)
    · rcases hz with ⟨rfl, h1⟩ | ⟨rfl, h1⟩
      · exact Or.inl ⟨rfl, h1, by omega, fun k hk => by omega⟩
      · exact Or.inr ⟨rfl, fun y => h1 ⟨y.1, y.2.1, y.2.2.1, y.2.2.2.1⟩⟩
  refine zaL_i a0 a1 (zaL_i b0 b1 ?_)
  refine zbr_i (fun h3 => loop 0 (Or.inr ⟨rfl, fun z => h3 z.1⟩)) (fun h3 => zaL_i a0 a1 (zaL_i b0 b1 ?_))
  refine zbr_i (fun h4 => loop 0 (Or.inr ⟨rfl, fun z => h4 z.2.1⟩)) (fun h4 => zaL_i a0 a1 (zaL_i b0 b1 ?_))
  refine zbr_i (fun h5 => loop 0 (Or.inr ⟨rfl, fun z => h5 z.2.2.1⟩)) (fun h5 => zaL_i a0 a1 (zaL_i b0 b1 ?_))
  rw [h7, g7]
  exact zbr_i (fun hm => loop 0 (Or.inr ⟨rfl, fun z => hm z.2.2.2⟩)) (fun hm => loop 1 (Or.inl ⟨rfl, Decidable.of_not_not h3, Decidable.of_not_not h4, Decidable.of_not_not h5, Decidable.of_not_not hm⟩))
