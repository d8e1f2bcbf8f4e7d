/-! COMPONENT: a pattern by what is known, whole -/
set_option maxRecDepth 100000
theorem w4_all {o : Nat} {G0 : ZG} {pa : Nat → Nat} {m p j : Int} {pr : Int → Int} {a dd : Nat} (M : Int → Int → TS × (Int → Int) → Int × (TS × (Int → Int))) (hm : 0 ≤ m ∧ m ≤ 3) (hp : 0 ≤ p ∧ p ≤ 500) (hj : 0 ≤ j ∧ j ≤ 3)
    (hL : HI G0 a (.inr (.inl (4, (ints m pr).map fun n => some (.inl (pa n.toNat))))))
    (hmat : ∀ i, 0 ≤ i → i < m → ∀ (s : TS × (Int → Int)) (G : ZG) (Q : Int → ZG → Prop), Tu o G0 G → (∀ G', Tu o G0 G' → ((M (pr i) (5 * p + j + i + 1) s).1 = 2 → Aq o G' (M (pr i) (5 * p + j + i + 1) s).2.1) → Q (M (pr i) (5 * p + j + i + 1) s).1 G') → vX2_matches_2T dd o (some (.inl (pa (pr i).toNat))) (5 * p + j + i + 1) G Q)
    {s : TS × (Int → Int)} {G : ZG} {Q : Int → ZG → Prop} (hR : Tu o G0 G) (hQ : ∀ G', Tu o G0 G' → ((al M (prow m p j pr) s).1 = 2 → Aq o G' (al M (prow m p j pr) s).2.1) → Q (al M (prow m p j pr) s).1 G') : vX2_allT (dd + 1) o (some (.inl a)) p j G Q := by
  rw [vX2_allT_s]
  unfold bX2_allT
  generalize hA : al M (prow m p j pr) s = A at hQ
  refine zl3_of (fun is i K => 0 ≤ i ∧ i ≤ m ∧ Tu o G0 K ∧ ∃ t : TS × (Int → Int), ((is = 1 ∧ al M ((prow m p j pr).drop i.toNat) t = A) ∨ (is ≠ 1 ∧ A = (is, t) ∧ (is = 2 → Aq o K t.1)))) (fun _ i _ => (m - i).toNat) (fun P is i K hI hPP => ?_) ⟨by omega, hm.1, hR, s, Or.inl ⟨rfl, hA⟩⟩
  obtain ⟨i0, i1, hR', t, ht⟩ := hI
  have hl := (hR'.1.hk hL).1
  refine zeN_r hl ?_
  rw [List.length_map, ints_len, show ((m.toNat : Nat) : Int) = m by omega]
  dsimp only [zjn]
  refine zbr_i (fun hi => ?_) (fun hi => ?_)
  · have e : i = m := by omega
    subst e
    rcases ht with ⟨rfl, ht⟩ | ⟨hn, ht, hq⟩
    · rw [show (prow i p j pr).drop i.toNat = [] from List.drop_eq_nil_of_le (by unfold prow; rw [List.length_map, List.length_range]; omega)] at ht
      subst ht; exact hQ K hR' (fun z => by cases z)
    · subst ht; exact hQ K hR' hq
  · refine zbr_i (fun hn => ?_) (fun hn => ?_)
    · rcases ht with ⟨rfl, ht⟩ | ⟨_, ht, hq⟩
      · exact absurd rfl hn
      · subst ht; exact hQ K hR' hq
    · have hn := Decidable.of_not_not hn
      subst hn
      rcases ht with ⟨_, ht⟩ | ⟨hz, _⟩
      · rw [prow_drop i0 (by omega), al_s] at ht
        rw [w32_eq (by omega) (by omega)]
        refine zeR_i hl i0 (map_get i0 (by omega)) ?_
        rw [eX1_field _ _ _ hp.1 (by omega) (by omega) (by omega), show 5 * p + (j + i) + 1 = 5 * p + j + i + 1 by omega]
        refine hmat i i0 (by omega) t K _ hR' (fun G' hR2 hq2 => ?_)
        rw [zlt1_e, w32_eq (by omega) (by omega)]
        refine hPP _ _ _ ⟨by omega, by omega, hR2, (M (pr i) (5 * p + j + i + 1) t).2, ?_⟩ (by omega)
        by_cases h1 : (M (pr i) (5 * p + j + i + 1) t).1 = 1
        · rw [if_pos h1] at ht
          exact Or.inl ⟨h1, ht⟩
        · rw [if_neg h1] at ht
          exact Or.inr ⟨h1, ht.symm, hq2⟩
      · exact absurd rfl hz
theorem w4_match {o : Nat} {G0 : ZG} {D : ZD} {e : PT} {td pa pf : Nat → Nat} (ho : tob o) (hM : MI D) (hPI : PI D e) (hs : stk e) (hK : KL o G0 e) (hP : CPo G0 D td pa pf) :
    ∀ (f : Nat) (n p k : Int) (d dd : Nat) (s : TS × (Int → Int)) (G : ZG) (Q : Int → ZG → Prop), 0 ≤ n → n < D 9 0 → D 16 n ≤ f → tq D e d p k → fitk D n k → (d : Int) + D 15 n ≤ 4 → 2 * f ≤ dd → Tu o G0 G →
    (∀ G', Tu o G0 G' → ((mt D (tA e) (tV e) (fun s => s) f n p s).1 = 2 → Aq o G' (mt D (tA e) (tV e) (fun s => s) f n p s).2.1) → Q (mt D (tA e) (tV e) (fun s => s) f n p s).1 G') → vX2_matches_2T dd o (some (.inl (pa n.toNat))) p G Q := by
  intro f
  induction f with
  | zero =>
    intro n p k d dd s G Q h0 h1 hsz
    have := (hM.2.2.1.2.2 n h0 h1).2.2.2.1
    omega
  | succ f ih =>
    intro n p k d dd s G Q h0 h1 hsz hp hf hdp hdd hR hQ
    obtain ⟨dd, rfl⟩ : ∃ d', dd = d' + 2 := ⟨dd - 2, by omega⟩
    have hpw := hM.2.2.1.2.2 n h0 h1
    have m15 := hpw.2.2.1
    have hd3 : d ≤ 3 := by omega
    have en : ((n.toNat : Nat) : Int) = n := by omega
    have hc0 := (hP.2 n.toNat (by omega)).2.1
    have hfa := (hP.2 n.toNat (by omega)).2.2
    have hc := hR.1.hk hc0
    have htf := tq_f hM hPI (by omega) hp
    have hpr := apl_r p (pl_apl hd3 htf.1)
    have hE := mt_s D (tA e) (tV e) (fun s => s) f n p s
    generalize mt D (tA e) (tV e) (fun s => s) (f + 1) n p s = R at hE hQ
    obtain ⟨hform, -, -, -, -, -, -, -, -, -, -, f0, f1, f2, f3, f4, f5, f6⟩ := id hpw
    rw [vX2_matches_2T_s]
    unfold bX2_matches_2T
    refine pcell_k (f := 1) (by rw [en]; exact hpw) hc (by omega) ?_
    rw [en]
    by_cases e1 : D 10 n = 1
    · rw [if_pos e1] at hE
      rw [zbr_bbt (decide_eq_true e1)]
      rw [pcell1 (by rw [en]; exact e1), en] at hc hc0
      have c1 := f1 e1
      have q0 := pch hM.2.2.1 h0 h1 (k := 0) (by omega) (by omega) (by omega)
      refine ⟨zca_i hc.1, zisO_i hc.1, ?_⟩
      unfold vX10_of
      rw [zdR_e hc.1 rfl]
      refine ih _ p k d (dd + 1) s G _ q0.1 q0.2.1 (by omega) hp ?_ (by omega) (by omega) hR (fun G' hR' hq' => ?_)
      · unfold fitk at hf ⊢; rw [← c1.2.2.2.2.2.1]; exact hf
      have hc' := (hR'.1.hk hc0).1
      refine ⟨zisO_i hc', ?_⟩
      unfold vX10_name
      rw [zdI_e hc' rfl]
      dsimp only [zjn]
      generalize mt D (tA e) (tV e) (fun s => s) f (prt D n 0) p s = T at hE hq'
      have fin : ∀ v, zaS G' o 0 6 (D 11 n) v fun G10 => Q T.1 G10 := fun v => by
        refine zaS_i c1.1 (by omega) ?_
        have t2 := hR'.ss ho (j := 0) (D 11 n) v (by omega)
        by_cases hne : T.1 = 1
        · rw [if_pos hne] at hE
          subst hE
          rw [hne]
          exact hQ _ t2 (fun z => by cases z)
        · rw [if_neg hne] at hE
          subst hE
          refine hQ _ t2 (fun z => ?_)
          obtain ⟨a1, a2, a3⟩ := hq' z
          refine ⟨?_, ?_, ?_⟩
          · rw [zsg_ss, if_neg (by omega)]; exact a1
          · rw [zsg_ss, if_neg (by omega)]; exact a2
          · rw [zsg_ss, if_neg (by omega)]; exact a3
      refine zbr_i (fun hne => ⟨zisO_i hc', ?_⟩) (fun he => fin _)
      rw [zdI_e hc' rfl]
      exact zaL_i c1.1 (by omega) (fin _)
    rw [if_neg e1] at hE
    rw [zbr_bbf (decide_eq_false e1)]
    refine pcell_k (f := 2) (by rw [en]; exact hpw) hc (by omega) ?_
    rw [en]
    by_cases e2 : D 10 n = 2
    · rw [if_pos e2] at hE
      rw [zbr_bbt (decide_eq_true e2)]
      rw [pcell2 (by rw [en]; exact e2), en] at hc hc0
      refine ⟨zca_i hc.1, w4_at (s := s.1) ho hs hK hR (fun G' hR' hq' => ?_)⟩
      have hc' := (hR'.1.hk hc0).1
      dsimp only [zjn]
      refine zbr_i (fun hn => ⟨zisO_i hc', ?_⟩) (fun hn => ?_)
      · rw [if_neg hn] at hE
        unfold vX11_holds
        rw [zdI_e hc' rfl, zdI_e hc' rfl, eX1_inRange]
        by_cases hin : D 11 n ≤ (tA e p 4 s.1).1 ∧ (tA e p 4 s.1).1 ≤ D 12 n
        · rw [if_pos hin] at hE
          subst hE
          rw [decide_eq_true hin.1, decide_eq_true hin.2]
          exact zbr_i (fun z => by cases z) (fun _ => hQ _ hR' (fun z => by cases z))
        · rw [if_neg hin] at hE
          subst hE
          exact zbr_i (fun _ => hQ _ hR' (fun z => by cases z)) (fun z => absurd (show bb (decide (D 11 n ≤ (tA e p 4 s.1).1) && decide ((tA e p 4 s.1).1 ≤ D 12 n)) = 0 by rw [bb0]; simp; omega) z)
      · have hn := Decidable.of_not_not hn
        rw [if_pos hn] at hE
        subst hE
        exact hQ _ hR' (fun _ => hq' hn)
    rw [if_neg e2] at hE
    rw [zbr_bbf (decide_eq_false e2)]
    refine pcell_k (f := 3) (by rw [en]; exact hpw) hc (by omega) ?_
    rw [en]
    by_cases e3 : D 10 n = 3
    · rw [if_pos e3] at hE
      rw [zbr_bbt (decide_eq_true e3)]
      have hfa := hfa (by rw [en]; exact Or.inl e3)
      rw [pcell3 (by rw [en]; exact e3), en] at hc hc0
      rw [en] at hfa
      have c3 := f3 e3
      have e44 : 4 * (D 11 n / 4) + D 11 n % 4 = D 11 n := by omega
      have m2 := (hM.1 (D 11 n / 4) (by omega) (by omega)).2.2 (D 11 n % 4) (by omega) c3.2.2.1
      rw [e44] at m2
      have hck := c3.2.2.2.2.2
      rw [chl_mk m2.1 m2.2.1 (fun i i0 i1 => ((hck i i0 (by omega)).1 i1).1) (fun i i0 i1 => (hck i (by omega) i1).2 i0)] at hfa
      rw [chs_mk m2.1 m2.2.1 (fun i i0 i1 => ((hck i i0 (by omega)).1 i1).1) (fun i i0 i1 => (hck i (by omega) i1).2 i0)] at hE
      refine ⟨zca_i hc.1, zisO_i hc.1, ?_⟩
      unfold vX12_type
      rw [zdI_e hc.1 rfl]
      refine w4_at (s := s.1) ho hs hK hR (fun G' hR' hq' => ?_)
      have hc' := (hR'.1.hk hc0).1
      dsimp only [zjn]
      refine zbr_i (fun hn => ⟨zisO_i hc', ?_⟩) (fun hn => ?_)
      · rw [if_neg hn] at hE
        unfold vX12_constructor
        rw [zdI_e hc' rfl]
        refine zbr_i (fun hne => ?_) (fun he => ⟨zisO_i hc', ?_⟩)
        · rw [if_neg hne] at hE
          subst hE
          exact hQ _ hR' (fun z => by cases z)
        · have he := Decidable.of_not_not he
          rw [if_pos he] at hE
          subst hE
          unfold vX12_fields
          rw [zdR_e hc' rfl]
          refine w4_all (mt D (tA e) (tV e) (fun s => s) f) ⟨m2.1, m2.2.1⟩ ⟨by omega, by omega⟩ ⟨by omega, by omega⟩ hfa (fun i i0 i1 s2 G2 Q2 hR2 hQ2 => ?_) hR' hQ
          have hci := (hck i i0 (by omega)).1 i1
          have qi := pch hM.2.2.1 h0 h1 (k := i) i0 (by omega) (by omega)
          exact ih (prt D n i) _ (D 3 (3 * D 11 n + i)) (d + 1) dd s2 G2 Q2 qi.1 qi.2.1 (by omega) (tq_mk hM hPI hd3 h0 h1 e3 hp hf he i0 i1) hci.2.1 (by omega) (by omega) hR2 hQ2
      · have hn := Decidable.of_not_not hn
        rw [if_pos hn] at hE
        subst hE
        exact hQ _ hR' (fun _ => hq' hn)
    rw [if_neg e3] at hE
    rw [zbr_bbf (decide_eq_false e3)]
    refine pcell_k (f := 4) (by rw [en]; exact hpw) hc (by omega) ?_
    rw [en]
    by_cases e4 : D 10 n = 4
    · rw [if_pos e4] at hE
      rw [zbr_bbt (decide_eq_true e4)]
      rw [cls13 (by rw [en]; exact e4), en] at hc hc0
      have c4 := f4 e4
      have q0 := pch hM.2.2.1 h0 h1 (k := 0) (by omega) (by omega) (by omega)
      have q1 := pch hM.2.2.1 h0 h1 (k := 1) (by omega) (by omega) (by omega)
      have ff := c4.2.2.2.2.2.1 k hf
      refine ⟨zca_i hc.1, zisO_i hc.1, ?_⟩
      unfold vX13_first
      rw [zdR_e hc.1 rfl]
      refine ih _ p k d (dd + 1) s G _ q0.1 q0.2.1 (by omega) hp ff.1 (by omega) (by omega) hR (fun G' hR' hq' => ?_)
      have hc' := (hR'.1.hk hc0).1
      dsimp only [zjn]
      generalize mt D (tA e) (tV e) (fun s => s) f (prt D n 0) p s = T at hE hq'
      refine zbr_i (fun hne => ?_) (fun he => ⟨zisO_i hc', ?_⟩)
      · rw [if_neg hne] at hE
        subst hE
        exact hQ _ hR' hq'
      · rw [if_pos (Decidable.of_not_not he)] at hE
        unfold vX13_second
        rw [zdR_e hc' rfl]
        subst hE
        exact ih _ p k d (dd + 1) T.2 G' _ q1.1 q1.2.1 (by omega) hp ff.2 (by omega) (by omega) hR' hQ
    rw [if_neg e4] at hE
    rw [zbr_bbf (decide_eq_false e4)]
    refine pcell_k (f := 5) (by rw [en]; exact hpw) hc (by omega) ?_
    rw [en]
    by_cases e5 : D 10 n = 5
    · rw [if_pos e5] at hE
      rw [zbr_bbt (decide_eq_true e5)]
      rw [pcell5 (by rw [en]; exact e5), en] at hc hc0
      have c5 := f5 e5
      have q0 := pch hM.2.2.1 h0 h1 (k := 0) (by omega) (by omega) (by omega)
      refine ⟨zca_i hc.1, zisO_i hc.1, ?_⟩
      unfold vX14_view
      rw [zdI_e hc.1 rfl]
      refine w4_seen (s := s.1) ho hs hK hR c5.1 (fun G' hR' hq' => ?_)
      have hc' := (hR'.1.hk hc0).1
      dsimp only [zjn]
      refine zbr_i (fun hn => ⟨zisO_i hc', ?_⟩) (fun hn => ?_)
      · rw [if_neg hn] at hE
        unfold vX14_of
        rw [zdR_e hc' rfl]
        have h40 := (hM.2.2.1.2.2 _ q0.1 q0.2.1).2.2.2.1
        refine w4_holds hM.2.2.1 hP hR' 40 _ 45 (tV e (D 11 n) p s.1).2 _ q0.1 q0.2.1 (by omega) (by omega) ?_
        subst hE
        have := hQ G' hR'
        dsimp only at this
        cases hb2 : (hold D (fun s => s) 40 (prt D n 0) (tV e (D 11 n) p s.1).1 (tV e (D 11 n) p s.1).2).1 with
        | true => rw [hb2] at this; exact zbr_i (fun z => by cases z) (fun _ => this (fun z => by cases z))
        | false => rw [hb2] at this; exact zbr_i (fun _ => this (fun z => by cases z)) (fun z => absurd rfl z)
      · have hn := Decidable.of_not_not hn
        rw [if_pos hn] at hE
        subst hE
        exact hQ _ hR' (fun _ => hq' hn)
    rw [if_neg e5] at hE
    rw [zbr_bbf (decide_eq_false e5)]
    refine pcell_k (f := 6) (by rw [en]; exact hpw) hc (by omega) ?_
    rw [en]
    by_cases e6 : D 10 n = 6
    · rw [if_pos e6] at hE
      rw [zbr_bbt (decide_eq_true e6)]
      have hfa := hfa (by rw [en]; exact Or.inr e6)
      rw [pcell6 (by rw [en]; exact e6), en] at hc hc0
      rw [en] at hfa
      have c6 := f6 e6
      have hk : k = 5 := by unfold fitk at hf; omega
      have hck := c6.2.2.2.2.2.2
      rw [chl_mk c6.1 (by omega) (fun i i0 i1 => ((hck i i0 (by omega)).1 i1).1) (fun i i0 i1 => (hck i (by omega) i1).2 i0)] at hfa
      rw [chs_mk c6.1 (by omega) (fun i i0 i1 => ((hck i i0 (by omega)).1 i1).1) (fun i i0 i1 => (hck i (by omega) i1).2 i0)] at hE
      refine ⟨zca_i hc.1, w4_at (s := s.1) ho hs hK hR (fun G' hR' hq' => ?_)⟩
      have hc' := (hR'.1.hk hc0).1
      have hfa' := (hR'.1.hk hfa).1
      dsimp only [zjn]
      have hlen : (((ints (D 11 n) (prt D n)).map fun (q : Int) => (some (.inl (pa q.toNat)) : ZR)).length : Int) = D 11 n := by rw [List.length_map, ints_len]; omega
      refine zbr_i (fun hn => ⟨zisO_i hc', ?_⟩) (fun hn => ?_)
      · rw [if_neg hn] at hE
        refine w1_fits c6.1 hc' hfa' hlen ?_
        cases hfit : fitl D n (tA e p 5 s.1).1 with
        | false =>
          rw [if_neg (by rw [hfit]; simp)] at hE
          subst hE
          exact zbr_i (fun _ => hQ _ hR' (fun z => by cases z)) (fun z => absurd rfl z)
        | true =>
          rw [if_pos hfit] at hE
          subst hE
          refine zbr_i (fun z => by cases z) (fun _ => ⟨zisO_i hc', ?_⟩)
          unfold vX15_items
          rw [zdR_e hc' rfl]
          have hbeg := begl_r hfit c6.1
          have hfr := htf.2.2.2.resolve_left hn
          rw [hk, ways_5] at hfr
          have hta : (tA e p 5 s.1).1 = fa e p := rfl
          refine ⟨zisO_i hc', w1_begin c6.1 (by omega) (by omega) hc' hfa' hlen ?_⟩
          refine w4_all (mt D (tA e) (tV e) (fun s => s) f) ⟨c6.1, by omega⟩ ⟨by omega, by omega⟩ ⟨by omega, by omega⟩ hfa (fun i i0 i1 s2 G2 Q2 hR2 hQ2 => ?_) hR' hQ
          have hci := (hck i i0 (by omega)).1 i1
          have qi := pch hM.2.2.1 h0 h1 (k := i) i0 (by omega) (by omega)
          exact ih (prt D n i) _ 4 (d + 1) dd s2 G2 Q2 qi.1 qi.2.1 (by omega) (tq_ls hM hPI hd3 h0 h1 e6 hp hf hn hfit i0 i1) hci.2.1 (by omega) (by omega) hR2 hQ2
      · have hn := Decidable.of_not_not hn
        rw [if_pos hn] at hE
        subst hE
        exact hQ _ hR' (fun _ => hq' hn)
    rw [if_neg e6] at hE
    rw [zbr_bbf (decide_eq_false e6)]
    subst hE
    exact hQ G hR (fun z => by cases z)
theorem w4_case {o : Nat} {G0 G : ZG} {D : ZD} {e : PT} {a kbx : Nat} {c : Int} {Q : Int → ZG → Prop} (ho : tob o) (hC : CDx G0 D) (hM : MI D) (hPI : PI D e) (hs : stk e) (hK : KL o G0 e) (hc : 0 ≤ c ∧ c < D 23 0) (hr : CRow G0 D a kbx c) (hR : Tu o G0 G)
    (hQ : ∀ G', Tu o G0 G' → ((tmc D e c (0, 0, 0)).1 = 2 → Aq o G' (tmc D e c (0, 0, 0)).2.1) → Q (tmc D e c (0, 0, 0)).1 G') : vX2_matchesT o (some (.inl a)) G Q := by
  have m21 : 0 ≤ D 21 0 ∧ D 21 0 ≤ 3 := ⟨hM.2.2.2.2.1.1, hM.2.2.2.2.1.2.1⟩
  have hcw := hM.2.2.2.2.1.2.2.2.2.2.2 c hc.1 hc.2
  obtain ⟨hS, hCt, hCv, ⟨td, pa, pf, hL, hP⟩, hCw, hCk, hCc⟩ := hC
  obtain ⟨⟨nm0, th0, hk1, -⟩, hkb⟩ := hr
  have hA0 : tmc D e c (0, 0, 0) = al (mt D (tA e) (tV e) (fun s => s) 40) (cols D c) ((0, 0, 0), fun _ => -1) := rfl
  rw [hA0, cols_p] at hQ
  generalize hA : al (mt D (tA e) (tV e) (fun s => s) 40) (prow (D 21 0) 0 0 fun k => D 24 (3 * c + k)) ((0, 0, 0), fun _ => -1) = A at hQ
  unfold vX2_matchesT
  refine zl3_of (fun is i K => 0 ≤ i ∧ i ≤ D 21 0 ∧ Tu o G0 K ∧ ∃ t : TS × (Int → Int), ((is = 1 ∧ al (mt D (tA e) (tV e) (fun s => s) 40) ((prow (D 21 0) 0 0 fun k => D 24 (3 * c + k)).drop i.toNat) t = A) ∨ (is ≠ 1 ∧ A = (is, t) ∧ (is = 2 → Aq o K t.1)))) (fun _ i _ => (D 21 0 - i).toNat) (fun P is i K hI hPP => ?_) ⟨by omega, m21.1, hR, _, Or.inl ⟨rfl, hA⟩⟩
  obtain ⟨i0, i1, hR', t, ht⟩ := hI
  have f := hR'.1
  have hkk := f.2.2.2.2.1 (by unfold tob at ho; simp; omega) _ _ hk1 rfl
  rw [zgF_e, f.g (by unfold tob at ho; simp; omega), hCk.1]
  dsimp only [zjn]
  refine zbr_i (fun hi => ?_) (fun hi => ?_)
  · rcases ht with ⟨rfl, ht⟩ | ⟨hn, ht, hq⟩
    · rw [show ((prow (D 21 0) 0 0 fun k => D 24 (3 * c + k)).drop i.toNat) = [] from List.drop_eq_nil_of_le (by unfold prow; rw [List.length_map, List.length_range]; omega)] at ht
      subst ht; exact hQ K hR' (fun z => by cases z)
    · subst ht; exact hQ K hR' hq
  · refine zbr_i (fun hn => ?_) (fun hn => ?_)
    · rcases ht with ⟨rfl, ht⟩ | ⟨_, ht, hq⟩
      · exact absurd rfl hn
      · subst ht; exact hQ K hR' hq
    · have hn := Decidable.of_not_not hn
      subst hn
      rcases ht with ⟨_, ht⟩ | ⟨hz, _⟩
      · rw [prow_drop i0 (by omega), al_s] at ht
        have how := hcw.1 i i0 (by omega)
        have hpw := hM.2.2.1.2.2 _ how.1 how.2.1
        have a15 := hpw.2.2.1
        have a16 := hpw.2.2.2.1
        rw [zdR_e hkk rfl]
        refine zeI_i (f.hk hkb).1 i0 (ints_get i0 (by omega)) ?_
        refine sX1_told (f.lst ⟨by omega, by omega⟩ (by unfold tob at ho; simp; omega) hL) (hP.fr f (fun _ _ => rfl)) how.1 how.2.1 (fun htl => ⟨zisO_i htl.1, ?_⟩)
        rw [Tl.pat htl, w32_eq (by omega) (by omega)]
        dsimp only at ht
        rw [show 5 * 0 + 0 + i + 1 = i + 1 by omega] at ht
        have htq : tq D e 0 (i + 1) (D 22 i) := ⟨⟨by omega, by omega⟩, by rw [kd_s, if_pos (by omega)]; congr 1; omega⟩
        refine w4_match ho hM hPI hs hK hP 40 (D 24 (3 * c + i)) (i + 1) (D 22 i) 0 90 t K _ how.1 how.2.1 (by omega) htq how.2.2 (by omega) (by omega) hR' (fun G' hR2 hq2 => ?_)
        rw [zlt1_e]
        refine hPP _ _ _ ⟨by omega, by omega, hR2, (mt D (tA e) (tV e) (fun s => s) 40 (D 24 (3 * c + i)) (i + 1) t).2, ?_⟩ (by omega)
        by_cases h1 : (mt D (tA e) (tV e) (fun s => s) 40 (D 24 (3 * c + i)) (i + 1) t).1 = 1
        · rw [if_pos h1] at ht
          exact Or.inl ⟨h1, ht⟩
        · rw [if_neg h1] at ht
          exact Or.inr ⟨h1, ht.symm, hq2⟩
      · exact absurd rfl hz
