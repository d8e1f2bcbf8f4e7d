/-! REFERENCE: nodes that tell alike are one -/
set_option maxRecDepth 100000
/-- a node with the classes of those behind it -/
def Cm (K : ZG) (a f m : Int) (v : Nat → Int) : Prop := (0 ≤ a ∧ a < 500) ∧ (0 ≤ m ∧ m ≤ 10) ∧ zsg K 5 62 a = m ∧ zsg K 5 61 a = f ∧ ∀ k : Nat, (k : Int) < m → (0 ≤ f + k ∧ f + k < 500) ∧ zsg K 5 63 (f + k) = v k
theorem w6_eqs {K : ZG} {a f m : Int} {v : Nat → Int} {E : Int → Prop} (h : Cm K a f m v) {g : Prop} {z : Int} (hz : (z = 1 ∧ g ∧ 0 < m) ∨ (z = 0 ∧ ¬ (g ∧ 0 < m))) (hY : g ∧ 0 < m ∧ (∀ k : Nat, (k : Int) < m → v k = v 0) → E 1) (hN : ¬ (g ∧ 0 < m ∧ ∀ k : Nat, (k : Int) < m → v k = v 0) → E 0) :
    zl2 (fun (P : Int → Int → Prop) (z : Int) (i : Int) => zaL K 5 62 512 a fun (x2 : Int) => zbr (x2 ≤ i) (E z) (zbr (z = 0) (E z) (zaL K 5 61 512 a fun (x3 : Int) => zaL K 5 63 512 (w32 (x3 + i)) fun (x4 : Int) => zaL K 5 61 512 a fun (x5 : Int) => zaL K 5 63 512 x5 fun (x6 : Int) => zbr (x4 ≠ x6) (zlt1 (w32 (i + 1)) fun (x7 : Int) => P 0 x7) (zlt1 (w32 (i + 1)) fun (x7 : Int) => P 1 x7)))) z 1 := by
  obtain ⟨⟨a0, a1⟩, ⟨m0, m1⟩, h62, h61, h63⟩ := h
  refine zl2_of (fun z i => 1 ≤ i ∧ ((z = 1 ∧ (g ∧ 0 < m) ∧ i ≤ m ∧ ∀ k : Nat, (k : Int) < i → v k = v 0) ∨ (z = 0 ∧ ¬ (g ∧ 0 < m ∧ ∀ k : Nat, (k : Int) < m → v k = v 0)))) (fun _ i => (m - i).toNat) (fun P z i hI hPP => ?_) ⟨by omega, ?_⟩
  · obtain ⟨i0, hz⟩ := hI
    refine zaL_i a0 (by omega) ?_
    rw [h62]
    have out : (m ≤ i ∨ z = 0) → E z := fun h => by
      rcases hz with ⟨rfl, hh, him, hv⟩ | ⟨rfl, hh⟩
      · exact hY ⟨hh.1, hh.2, fun k hk => hv k (by omega)⟩
      · exact hN hh
    refine zbr_i (fun hi => out (Or.inl hi)) (fun hi => zbr_i (fun h0 => out (Or.inr h0)) (fun h0 => ?_))
    obtain ⟨hh, him, hv⟩ := (hz.resolve_right (fun y => h0 y.1)).2
    obtain ⟨c1, c2⟩ := h63 i.toNat (by omega)
    obtain ⟨d1, d2⟩ := h63 0 (by omega)
    rw [show ((i.toNat : Nat) : Int) = i by omega] at c1 c2
    rw [show f + ((0 : Nat) : Int) = f by omega] at d1 d2
    refine zaL_i a0 (by omega) ?_
    rw [h61, w32_eq (by omega) (by omega)]
    refine zaL_i c1.1 (by omega) (zaL_i a0 (by omega) ?_)
    rw [h61]
    refine zaL_i d1.1 (by omega) ?_
    rw [c2, d2]
    have next : ∀ z', ((z' = 1 ∧ (g ∧ 0 < m) ∧ i + 1 ≤ m ∧ ∀ k : Nat, (k : Int) < i + 1 → v k = v 0) ∨ (z' = 0 ∧ ¬ (g ∧ 0 < m ∧ ∀ k : Nat, (k : Int) < m → v k = v 0))) → zlt1 (w32 (i + 1)) fun x9 => P z' x9 := fun z' hz' => by
      rw [zlt1_e, w32_eq (by omega) (by omega)]
      exact hPP _ _ ⟨by omega, hz'⟩ (by omega)
    refine zbr_i (fun hne => next 0 (Or.inr ⟨rfl, fun y => hne (y.2.2 i.toNat (by omega))⟩)) (fun he => next 1 (Or.inl ⟨rfl, hh, by omega, fun k hk => ?_⟩))
    by_cases hki : (k : Int) = i
    · rw [show k = i.toNat by omega]; exact Decidable.of_not_not he
    · exact hv k (by omega)
  · rcases hz with ⟨rfl, h1, h2⟩ | ⟨rfl, h1⟩
    · exact Or.inl ⟨rfl, ⟨h1, h2⟩, by omega, fun k hk => by rw [show k = 0 by omega]⟩
    · exact Or.inr ⟨rfl, fun y => h1 ⟨y.1, y.2.1⟩⟩
theorem w6_own {K : ZG} {a f m : Int} {v : Nat → Int} {Q : Int → Prop} (h : Cm K a f m v) (hY : zsg K 5 58 a = 5 ∧ 0 < m ∧ (∀ k : Nat, (k : Int) < m → v k = v 0) → Q 0) (hN : ¬ (zsg K 5 58 a = 5 ∧ 0 < m ∧ ∀ k : Nat, (k : Int) < m → v k = v 0) → Q 1) : vX6_isOwn a K Q := by
  obtain ⟨⟨a0, a1⟩, ⟨m0, m1⟩, h62, h61, h63⟩ := id h
  unfold vX6_isOwn
  dsimp only [zjn]
  have y1 : zsg K 5 58 a = 5 ∧ 0 < m ∧ (∀ k : Nat, (k : Int) < m → v k = v 0) → zbr ((1 : Int) ≠ 0) (Q 0) (Q 1) := fun y => zbr_i (fun _ => hY y) (fun z => absurd (Decidable.of_not_not z) (by omega))
  have y2 : ¬ (zsg K 5 58 a = 5 ∧ 0 < m ∧ ∀ k : Nat, (k : Int) < m → v k = v 0) → zbr ((0 : Int) ≠ 0) (Q 0) (Q 1) := fun y => zbr_i (fun z => absurd rfl z) (fun _ => hN y)
  have g0 : ¬ (zsg K 5 58 a = 5 ∧ 0 < m) → _ := fun hn => w6_eqs (E := fun z => zbr (z ≠ 0) (Q 0) (Q 1)) (g := zsg K 5 58 a = 5) (z := 0) h (Or.inr ⟨rfl, hn⟩) y1 y2
  refine zaL_i a0 (by omega) ?_
  refine zbr_i (fun h3 => g0 (fun z => h3 z.1)) (fun h3 => zaL_i a0 (by omega) ?_)
  rw [h62]
  exact zbr_i (fun hm => g0 (fun z => by omega)) (fun hm => w6_eqs (E := fun z => zbr (z ≠ 0) (Q 0) (Q 1)) (g := zsg K 5 58 a = 5) (z := 1) h (Or.inl ⟨rfl, Decidable.of_not_not h3, by omega⟩) y1 y2)
theorem w6_same {K : ZG} {a b f f' m m' : Int} {v v' : Nat → Int} {Q : Int → Prop} (h : Cm K a f m v) (h' : Cm K b f' m' v') (hY : zsg K 5 58 a = zsg K 5 58 b → (zsg K 5 58 a ≠ 2 → zsg K 5 59 a = zsg K 5 59 b) → (4 ≤ zsg K 5 58 a → zsg K 5 60 a = zsg K 5 60 b) → m = m' → (∀ k : Nat, (k : Int) < m → v k = v' k) → Q 1)
    (hN : ¬ (zsg K 5 58 a = zsg K 5 58 b ∧ (zsg K 5 58 a ≠ 2 → zsg K 5 59 a = zsg K 5 59 b) ∧ (4 ≤ zsg K 5 58 a → zsg K 5 60 a = zsg K 5 60 b) ∧ m = m' ∧ ∀ k : Nat, (k : Int) < m → v k = v' k) → Q 0) : vX6_isSame a b K Q := by
  obtain ⟨⟨a0, a1⟩, ⟨m0, m1⟩, h62, h61, h63⟩ := id h
  obtain ⟨⟨b0, b1⟩, ⟨n0, n1⟩, g62, g61, g63⟩ := id h'
  unfold vX6_isSame
  dsimp only [zjn]
  have loop : ∀ z, ((z = 1 ∧ zsg K 5 58 a = zsg K 5 58 b ∧ (zsg K 5 58 a ≠ 2 → zsg K 5 59 a = zsg K 5 59 b) ∧ (4 ≤ zsg K 5 58 a → zsg K 5 60 a = zsg K 5 60 b) ∧ m = m') ∨ (z = 0 ∧ ¬ (zsg K 5 58 a = zsg K 5 58 b ∧ (zsg K 5 58 a ≠ 2 → zsg K 5 59 a = zsg K 5 59 b) ∧ (4 ≤ zsg K 5 58 a → zsg K 5 60 a = zsg K 5 60 b) ∧ m = m'))) → zl2 (fun (P99 : Int → Int → Prop) (a99_3 : Int) (a99_4 : Int) => zaL K 5 62 512 a fun (x3 : Int) => zbr (x3 ≤ a99_4) (Q a99_3) (zbr (a99_3 = 0) (Q a99_3) (zaL K 5 61 512 a fun (x4 : Int) => zaL K 5 63 512 (w32 (x4 + a99_4)) fun (x5 : Int) => zaL K 5 61 512 b fun (x6 : Int) => zaL K 5 63 512 (w32 (x6 + a99_4)) fun (x7 : Int) => zbr (x5 ≠ x7) (zlt1 (w32 (a99_4 + 1)) fun (x8 : Int) => P99 0 x8) (zlt1 (w32 (a99_4 + 1)) fun (x8 : Int) => P99 1 x8)))) z 0 := fun z hz => by
    refine zl2_of (fun z i => 0 ≤ i ∧ ((z = 1 ∧ (zsg K 5 58 a = zsg K 5 58 b ∧ (zsg K 5 58 a ≠ 2 → zsg K 5 59 a = zsg K 5 59 b) ∧ (4 ≤ zsg K 5 58 a → zsg K 5 60 a = zsg K 5 60 b) ∧ m = m') ∧ i ≤ m ∧ ∀ k : Nat, (k : Int) < i → v k = v' k) ∨ (z = 0 ∧ ¬ (zsg K 5 58 a = zsg K 5 58 b ∧ (zsg K 5 58 a ≠ 2 → zsg K 5 59 a = zsg K 5 59 b) ∧ (4 ≤ zsg K 5 58 a → zsg K 5 60 a = zsg K 5 60 b) ∧ m = m' ∧ ∀ k : Nat, (k : Int) < m → v k = v' k)))) (fun _ i => (m - i).toNat) (fun P z i hI hPP => ?_) ⟨by omega, ?_⟩
    · obtain ⟨i0, hz⟩ := hI
      refine zaL_i a0 (by omega) ?_
      rw [h62]
      have out : (m ≤ i ∨ z = 0) → Q z := fun h => by
        rcases hz with ⟨rfl, hh, him, hv⟩ | ⟨rfl, hh⟩
        · exact hY hh.1 hh.2.1 hh.2.2.1 hh.2.2.2 (fun k hk => hv k (by omega))
        · exact hN hh
      refine zbr_i (fun hi => out (Or.inl hi)) (fun hi => zbr_i (fun h0 => out (Or.inr h0)) (fun h0 => ?_))
      obtain ⟨hh, him, hv⟩ := (hz.resolve_right (fun y => h0 y.1)).2
      obtain ⟨c1, c2⟩ := h63 i.toNat (by omega)
      obtain ⟨d1, d2⟩ := g63 i.toNat (by omega)
      rw [show ((i.toNat : Nat) : Int) = i by omega] at c1 c2 d1 d2
      refine zaL_i a0 (by omega) ?_
      rw [h61, w32_eq (x := f + i) (by omega) (by omega)]
      refine zaL_i c1.1 (by omega) (zaL_i b0 (by omega) ?_)
      rw [g61, w32_eq (x := f' + i) (by omega) (by omega)]
      refine zaL_i d1.1 (by omega) ?_
      rw [c2, d2]
      have next : ∀ z', ((z' = 1 ∧ (zsg K 5 58 a = zsg K 5 58 b ∧ (zsg K 5 58 a ≠ 2 → zsg K 5 59 a = zsg K 5 59 b) ∧ (4 ≤ zsg K 5 58 a → zsg K 5 60 a = zsg K 5 60 b) ∧ m = m') ∧ i + 1 ≤ m ∧ ∀ k : Nat, (k : Int) < i + 1 → v k = v' k) ∨ (z' = 0 ∧ ¬ (zsg K 5 58 a = zsg K 5 58 b ∧ (zsg K 5 58 a ≠ 2 → zsg K 5 59 a = zsg K 5 59 b) ∧ (4 ≤ zsg K 5 58 a → zsg K 5 60 a = zsg K 5 60 b) ∧ m = m' ∧ ∀ k : Nat, (k : Int) < m → v k = v' k))) → zlt1 (w32 (i + 1)) fun x10 => P z' x10 := fun z' hz' => by
        rw [zlt1_e, w32_eq (by omega) (by omega)]
        exact hPP _ _ ⟨by omega, hz'⟩ (by omega)
      refine zbr_i (fun hne => next 0 (Or.inr ⟨rfl, fun y => hne (y.2.2.2.2 i.toNat (by omega))⟩)) (fun he => next 1 (Or.inl ⟨rfl, hh, by omega, fun k hk => ?_⟩))
      by_cases hki : (k : Int) = i
      · rw [show k = i.toNat by omega]; exact Decidable.of_not_not he
      · exact hv k (by omega)
    · rcases hz with ⟨rfl, h1⟩ | ⟨rfl, h1⟩
      · exact Or.inl ⟨rfl, h1, by omega, fun k hk => by omega⟩
      · exact Or.inr ⟨rfl, fun y => h1 ⟨y.1, y.2.1, y.2.2.1, y.2.2.2.1⟩⟩
  have z1 : ∀ {A B : Prop}, B → zbr ((1 : Int) = 0) A B := fun h => zbr_i (fun z => absurd z (by omega)) (fun _ => h)
  have z0 : ∀ {A B : Prop}, A → zbr ((0 : Int) = 0) A B := fun h => zbr_i (fun _ => h) (fun z => absurd rfl z)
  refine zaL_i a0 (by omega) (zaL_i b0 (by omega) ?_)
  refine zbr_i (fun h3 => z0 (loop 0 (Or.inr ⟨rfl, fun z => h3 z.1⟩))) (fun h3 => zaL_i a0 (by omega) (zaL_i b0 (by omega) ?_))
  rw [h62, g62]
  have h3 := Decidable.of_not_not h3
  refine zbr_i (fun hm => z0 (loop 0 (Or.inr ⟨rfl, fun z => hm z.2.2.2⟩))) (fun hm => z1 (zaL_i a0 (by omega) ?_))
  have hm := Decidable.of_not_not hm
  have tail : (zsg K 5 58 a ≠ 2 → zsg K 5 59 a = zsg K 5 59 b) → zaL K 5 58 512 a fun (x10 : Int) => zbr (x10 < 4) (_) (zaL K 5 60 512 a fun (x11 : Int) => zaL K 5 60 512 b fun (x12 : Int) => zbr (x11 ≠ x12) (_) (_)) := fun h59 => by
    refine zaL_i a0 (by omega) ?_
    refine zbr_i (fun h4 => loop 1 (Or.inl ⟨rfl, h3, h59, fun z => by omega, hm⟩)) (fun h4 => zaL_i a0 (by omega) (zaL_i b0 (by omega) ?_))
    exact zbr_i (fun hne => loop 0 (Or.inr ⟨rfl, fun z => hne (z.2.2.1 (by omega))⟩)) (fun he => loop 1 (Or.inl ⟨rfl, h3, h59, fun _ => Decidable.of_not_not he, hm⟩))
  refine zbr_i (fun h2 => tail (fun z => absurd h2 z)) (fun h2 => zaL_i a0 (by omega) (zaL_i b0 (by omega) ?_))
  exact zbr_i (fun hne => loop 0 (Or.inr ⟨rfl, fun z => hne (z.2.1 h2)⟩)) (fun he => tail (fun _ => Decidable.of_not_not he))
