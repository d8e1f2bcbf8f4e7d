/-! COMPONENT: a pattern at a place of a run -/
set_option maxRecDepth 100000
theorem hold_s {σ : Type} (D : ZD) (C : σ → σ) (f : Nat) (n x : Int) (s : σ) : hold D C (f + 1) n x s = if D 10 n = 4 then (if (hold D C f (prt D n 0) x s).1 = true then hold D C f (prt D n 0) x s else hold D C f (prt D n 1) x (hold D C f (prt D n 0) x s).2)
    else if D 10 n = 2 then (decide (D 11 n ≤ x) && decide (x ≤ D 12 n), C s) else (true, s) := rfl
theorem pcell2 {D : ZD} {pa pf : Nat → Nat} {n : Nat} (h : D 10 n = 2) : pcell D pa pf n = .inr (.inr (11, [.inl (D 11 n), .inl (D 12 n)])) := by
  unfold pcell; rw [if_neg (by omega), if_pos h]
theorem pcell5 {D : ZD} {pa pf : Nat → Nat} {n : Nat} (h : D 10 n = 5) : pcell D pa pf n = .inr (.inr (14, [.inl (D 11 n), .inr (some (.inl (pa (prt D n 0).toNat)))])) := by
  unfold pcell; rw [if_neg (by omega), if_neg (by omega), if_neg (by omega), if_neg (by omega), if_pos h]
theorem pcell6 {D : ZD} {pa pf : Nat → Nat} {n : Nat} (h : D 10 n = 6) : pcell D pa pf n = .inr (.inr (15, [.inr (some (.inl (pf n))), .inl (D 12 n)])) := by
  unfold pcell; rw [if_neg (by omega), if_neg (by omega), if_neg (by omega), if_neg (by omega), if_neg (by omega), if_pos h]
/-- a pattern's part -/
theorem pch {D : ZD} {n k : Int} (hM : MIp D) (h0 : 0 ≤ n) (h1 : n < D 9 0) (k0 : 0 ≤ k) (k3 : k < 3) (hk : prt D n k ≠ -1) : 0 ≤ prt D n k ∧ prt D n k < D 9 0 ∧ D 16 (prt D n k) + 1 ≤ D 16 n ∧ D 15 (prt D n k) ≤ D 15 n := by
  have a := psz hM h0 h1 (chl_in k0 k3 hk)
  have b := (hM.2.2 n h0 h1).chl (chl_in k0 k3 hk)
  omega
theorem w1_range {G0 G : ZG} {D : ZD} {g : Int → Int} {b : Bool} {s : RS} {bd : Int → Int} {a : Nat} {x lo hi : Int} {Q : Int → ZG → Prop} (hR : Ru D g b G0 G s bd) (hc : HI G0 a (.inr (.inr (11, [.inl lo, .inl hi]))))
    (hQ : ∀ G', Ru D g b G0 G' (tick b s) bd → Q (bb (decide (lo ≤ x) && decide (x ≤ hi))) G') : vX3_holdsRange (some (.inl a)) x G Q := by
  unfold vX3_holdsRange
  rw [zgF_e, zgF_e, hR.2.2.2.1, hR.2.2.2.2.1]
  have main : zpF G 1 7 (w32 (s.1 + bb b)) fun (G1 : ZG) => zisO G1 (some (.inl a)) 11 ∧ vX11_holds (some (.inl a)) x G1 fun (x4 : Int) => Q x4 G1 := by
    rw [zpF_e]
    have hR' := Ru_tick hR
    have hk := (hR'.1.hk hc).1
    refine ⟨zisO_i hk, ?_⟩
    unfold vX11_holds
    rw [zdI_e hk rfl, zdI_e hk rfl, eX1_inRange]
    exact hQ _ hR'
  dsimp only [zjn]
  cases b with
  | false => exact zbr_i (fun _ => main) (fun z => absurd rfl z)
  | true => exact zbr_i (fun z => by cases z) (fun _ => main)
theorem w1_holds {G0 : ZG} {D : ZD} {g : Int → Int} {b : Bool} {bd : Int → Int} {td pa pf : Nat → Nat} {x : Int} (hM : MI D) (hP : CPo G0 D td pa pf) : ∀ (f : Nat) (n : Int) (dd : Nat) (s : RS) (G : ZG) (Q : Int → ZG → Prop), 0 ≤ n → n < D 9 0 → D 16 n ≤ f → f ≤ dd → Ru D g b G0 G s bd →
    (∀ G', Ru D g b G0 G' (hold D (tick b) f n x s).2 bd → Q (bb (hold D (tick b) f n x s).1) G') → vX2_holdsR dd (some (.inl (pa n.toNat))) x G Q := by
  intro f
  induction f with
  | zero =>
    intro n dd s G Q h0 h1 hs
    have := (hM.2.2.1.2.2 n h0 h1).2.2.2.1
    omega
  | succ f ih =>
    intro n dd s G Q h0 h1 hs hdd hR hQ
    obtain ⟨dd, rfl⟩ : ∃ d', dd = d' + 1 := ⟨dd - 1, by omega⟩
    have hpw := hM.2.2.1.2.2 n h0 h1
    have en : ((n.toNat : Nat) : Int) = n := by omega
    have hc0 := (hP.2 n.toNat (by omega)).2.1
    have hc := hR.1.hk hc0
    have hE := hold_s D (tick b) f n x s
    generalize hold D (tick b) (f + 1) n x s = R at hE hQ
    rw [vX2_holdsR_s]
    unfold bX2_holdsR
    refine pcell_k (f := 4) (by rw [en]; exact hpw) hc (by omega) ?_
    rw [en]
    dsimp only [zjn]
    by_cases h4 : D 10 n = 4
    · rw [if_pos h4] at hE
      rw [zbr_bbt (decide_eq_true h4)]
      rw [cls13 (by rw [en]; exact h4), en] at hc hc0
      have c1 := hpw.2.2.2.2.2.2.2.2.2.2.2.2.2.2.2.1 h4
      have q0 := pch hM.2.2.1 h0 h1 (k := 0) (by omega) (by omega) (by omega)
      have q1 := pch hM.2.2.1 h0 h1 (k := 1) (by omega) (by omega) (by omega)
      refine ⟨zca_i hc.1, zisO_i hc.1, ?_⟩
      unfold vX13_first
      rw [zdR_e hc.1 rfl]
      refine ih _ dd s G _ q0.1 q0.2.1 (by omega) (by omega) hR (fun G' hR' => ?_)
      cases hb : (hold D (tick b) f (prt D n 0) x s).1 with
      | true =>
        rw [if_pos hb] at hE
        subst hE
        refine zbr_i (fun _ => ?_) (fun z => absurd (show bb true ≠ 0 by simp [bb]) z)
        have := hQ G' hR'
        rw [hb] at this; exact this
      | false =>
        rw [if_neg (by rw [hb]; simp)] at hE
        subst hE
        have hc' := (hR'.1.hk hc0).1
        refine zbr_i (fun z => absurd rfl z) (fun _ => ⟨zisO_i hc', ?_⟩)
        unfold vX13_second
        rw [zdR_e hc' rfl]
        refine ih _ dd _ G' _ q1.1 q1.2.1 (by omega) (by omega) hR' (fun G2 hR2 => ?_)
        have := hQ G2 hR2
        cases hb2 : (hold D (tick b) f (prt D n 1) x (hold D (tick b) f (prt D n 0) x s).2).1 with
        | true => rw [hb2] at this; exact zbr_i (fun z => by cases z) (fun _ => this)
        | false => rw [hb2] at this; exact zbr_i (fun _ => this) (fun z => absurd rfl z)
    · rw [if_neg h4] at hE
      rw [zbr_bbf (decide_eq_false h4)]
      refine pcell_k (f := 2) (by rw [en]; exact hpw) hc (by omega) ?_
      rw [en]
      by_cases h2 : D 10 n = 2
      · rw [if_pos h2] at hE
        subst hE
        rw [zbr_bbt (decide_eq_true h2)]
        rw [pcell2 (by rw [en]; exact h2), en] at hc hc0
        refine ⟨zca_i hc.1, w1_range hR hc0 (fun G' hR' => ?_)⟩
        have := hQ G' hR'
        dsimp only at this
        cases hb : (decide (D 11 n ≤ x) && decide (x ≤ D 12 n)) with
        | true => rw [hb] at this; exact zbr_i (fun z => by cases z) (fun _ => this)
        | false => rw [hb] at this; exact zbr_i (fun _ => this) (fun z => absurd rfl z)
      · rw [if_neg h2] at hE
        subst hE
        rw [zbr_bbf (decide_eq_false h2)]
        exact hQ G hR
theorem al_s {S : Type} (M : Int → Int → S → Int × S) (c : Int × Int) (t : List (Int × Int)) (s : S) : al M (c :: t) s = if (M c.1 c.2 s).1 = 1 then al M t (M c.1 c.2 s).2 else M c.1 c.2 s := rfl
/-- parts in a row -/
def prow (m p j : Int) (pr : Int → Int) : List (Int × Int) := (List.range m.toNat).map fun (i : Nat) => (pr i, 5 * p + j + i + 1)
theorem prow_drop {m p j i : Int} {pr : Int → Int} (i0 : 0 ≤ i) (i1 : i < m) : (prow m p j pr).drop i.toNat = (pr i, 5 * p + j + i + 1) :: (prow m p j pr).drop (i + 1).toNat := by
  have hl : i.toNat < (prow m p j pr).length := by unfold prow; rw [List.length_map, List.length_range]; omega
  rw [List.drop_eq_getElem_cons hl, show (i + 1).toNat = i.toNat + 1 by omega]
  have h : (prow m p j pr)[i.toNat]? = some (pr i, 5 * p + j + i + 1) := by
    unfold prow
    rw [List.getElem?_map, List.getElem?_range (by omega)]
    show some (pr ((i.toNat : Nat) : Int), 5 * p + j + ((i.toNat : Nat) : Int) + 1) = _
    rw [show ((i.toNat : Nat) : Int) = i by omega]
  rw [(List.getElem?_eq_some_iff.mp h).2]
theorem chs_mk {D : ZD} {n m p j : Int} (h0 : 0 ≤ m) (h3 : m ≤ 3) (hlt : ∀ k, 0 ≤ k → k < m → 0 ≤ prt D n k) (hge : ∀ k, m ≤ k → k < 3 → prt D n k = -1) : chs D n p j = prow m p j (prt D n) := by
  unfold chs prow
  have h : m = 0 ∨ m = 1 ∨ m = 2 ∨ m = 3 := by omega
  simp only [List.filterMap_cons, List.filterMap_nil]
  rcases h with rfl | rfl | rfl | rfl
  · rw [if_pos (hge 0 (by omega) (by omega)), if_pos (hge 1 (by omega) (by omega)), if_pos (hge 2 (by omega) (by omega))]; rfl
  · have i0 := hlt 0 (by omega) (by omega)
    rw [if_neg (by omega), if_pos (hge 1 (by omega) (by omega)), if_pos (hge 2 (by omega) (by omega))]; rfl
  · have i0 := hlt 0 (by omega) (by omega)
    have i1 := hlt 1 (by omega) (by omega)
    rw [if_neg (by omega), if_neg (by omega), if_pos (hge 2 (by omega) (by omega))]; rfl
  · have i0 := hlt 0 (by omega) (by omega)
    have i1 := hlt 1 (by omega) (by omega)
    have i2 := hlt 2 (by omega) (by omega)
    rw [if_neg (by omega), if_neg (by omega), if_neg (by omega)]; rfl
theorem w1_all {G0 : ZG} {D : ZD} {g : Int → Int} {b : Bool} {pa : Nat → Nat} {m p j : Int} {pr : Int → Int} {a dd : Nat} (M : Int → Int → RS × (Int → Int) → Int × (RS × (Int → Int))) (hm : 0 ≤ m ∧ m ≤ 3) (hp : 0 ≤ p ∧ p ≤ 500) (hj : 0 ≤ j ∧ j ≤ 3)
    (hL : HI G0 a (.inr (.inl (4, (ints m pr).map fun n => some (.inl (pa n.toNat))))))
    (hmat : ∀ i, 0 ≤ i → i < m → ∀ (s : RS) (bd : Int → Int) (G : ZG) (Q : Int → ZG → Prop), Ru D g b G0 G s bd → (∀ G', Ru D g b G0 G' (M (pr i) (5 * p + j + i + 1) (s, bd)).2.1 (M (pr i) (5 * p + j + i + 1) (s, bd)).2.2 → Q (M (pr i) (5 * p + j + i + 1) (s, bd)).1 G') → vX2_matches_2R dd (some (.inl (pa (pr i).toNat))) (5 * p + j + i + 1) G Q)
    {s : RS} {bd : Int → Int} {G : ZG} {Q : Int → ZG → Prop} (hR : Ru D g b G0 G s bd) (hQ : ∀ G', Ru D g b G0 G' (al M (prow m p j pr) (s, bd)).2.1 (al M (prow m p j pr) (s, bd)).2.2 → Q (al M (prow m p j pr) (s, bd)).1 G') : vX2_allR (dd + 1) (some (.inl a)) p j G Q := by
  rw [vX2_allR_s]
  unfold bX2_allR
  generalize hA : al M (prow m p j pr) (s, bd) = A at hQ
  refine zl3_of (fun is i K => 0 ≤ i ∧ i ≤ m ∧ ∃ t : RS × (Int → Int), Ru D g b G0 K t.1 t.2 ∧ ((is = 1 ∧ al M ((prow m p j pr).drop i.toNat) t = A) ∨ (is ≠ 1 ∧ A = (is, t)))) (fun _ i _ => (m - i).toNat) (fun P is i K hI hPP => ?_) ⟨by omega, hm.1, (s, bd), hR, Or.inl ⟨rfl, hA⟩⟩
  obtain ⟨i0, i1, t, hR', ht⟩ := hI
  have hl := (hR'.1.hk hL).1
  refine zeN_r hl ?_
  rw [List.length_map, ints_len, show ((m.toNat : Nat) : Int) = m by omega]
  dsimp only [zjn]
  refine zbr_i (fun hi => ?_) (fun hi => ?_)
  · have e : i = m := by omega
    subst e
    rcases ht with ⟨rfl, ht⟩ | ⟨hn, ht⟩
    · rw [show (prow i p j pr).drop i.toNat = [] from List.drop_eq_nil_of_le (by unfold prow; rw [List.length_map, List.length_range]; omega)] at ht
      subst ht; exact hQ K hR'
    · subst ht; exact hQ K hR'
  · refine zbr_i (fun hn => ?_) (fun hn => ?_)
    · rcases ht with ⟨rfl, ht⟩ | ⟨_, ht⟩
      · exact absurd rfl hn
      · subst ht; exact hQ K hR'
    · have hn := Decidable.of_not_not hn
      subst hn
      rcases ht with ⟨_, ht⟩ | ⟨hz, _⟩
      · rw [prow_drop i0 (by omega), al_s] at ht
        rw [w32_eq (by omega) (by omega)]
        refine zeR_i hl i0 (map_get i0 (by omega)) ?_
        rw [eX1_field _ _ _ hp.1 (by omega) (by omega) (by omega), show 5 * p + (j + i) + 1 = 5 * p + j + i + 1 by omega]
        refine hmat i i0 (by omega) t.1 t.2 K _ hR' (fun G' hR2 => ?_)
        rw [zlt1_e, w32_eq (by omega) (by omega)]
        refine hPP _ _ _ ⟨by omega, by omega, (M (pr i) (5 * p + j + i + 1) (t.1, t.2)).2, hR2, ?_⟩ (by omega)
        by_cases h1 : (M (pr i) (5 * p + j + i + 1) (t.1, t.2)).1 = 1
        · rw [if_pos h1] at ht
          exact Or.inl ⟨h1, ht⟩
        · rw [if_neg h1] at ht
          exact Or.inr ⟨h1, ht.symm⟩
      · exact absurd rfl hz
