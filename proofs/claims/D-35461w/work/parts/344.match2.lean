/-! COMPONENT: a pattern at a place of a run, whole -/
set_option maxRecDepth 100000
theorem mt_s {σ : Type} (D : ZD) (A : Int → Int → σ → Int × σ) (V : Int → Int → σ → Int × σ) (C : σ → σ) (f : Nat) (n p : Int) (s : σ × (Int → Int)) : mt D A V C (f + 1) n p s =
    if D 10 n = 1 then
      (if (mt D A V C f (prt D n 0) p s).1 = 1 then (1, ((mt D A V C f (prt D n 0) p s).2.1, fun x => if x = D 11 n then p else (mt D A V C f (prt D n 0) p s).2.2 x)) else mt D A V C f (prt D n 0) p s)
    else if D 10 n = 2 then
      (if (A p 4 s.1).1 = -1 then 2 else if D 11 n ≤ (A p 4 s.1).1 ∧ (A p 4 s.1).1 ≤ D 12 n then 1 else 0, ((A p 4 s.1).2, s.2))
    else if D 10 n = 3 then
      (if (A p (D 11 n / 4) s.1).1 = -1 then (2, ((A p (D 11 n / 4) s.1).2, s.2))
       else if (A p (D 11 n / 4) s.1).1 = D 11 n % 4 then al (mt D A V C f) (chs D n p 0) ((A p (D 11 n / 4) s.1).2, s.2)
       else (0, ((A p (D 11 n / 4) s.1).2, s.2)))
    else if D 10 n = 4 then
      (if (mt D A V C f (prt D n 0) p s).1 = 0 then mt D A V C f (prt D n 1) p (mt D A V C f (prt D n 0) p s).2 else mt D A V C f (prt D n 0) p s)
    else if D 10 n = 5 then
      (if (V (D 11 n) p s.1).1 = -1 then (2, ((V (D 11 n) p s.1).2, s.2))
       else (bb (hold D C 40 (prt D n 0) (V (D 11 n) p s.1).1 (V (D 11 n) p s.1).2).1, ((hold D C 40 (prt D n 0) (V (D 11 n) p s.1).1 (V (D 11 n) p s.1).2).2, s.2)))
    else if D 10 n = 6 then
      (if (A p 5 s.1).1 = -1 then (2, ((A p 5 s.1).2, s.2))
       else if fitl D n (A p 5 s.1).1 = true then al (mt D A V C f) (chs D n p (begl D n (A p 5 s.1).1)) ((A p 5 s.1).2, s.2)
       else (0, ((A p 5 s.1).2, s.2)))
    else (1, s) := rfl
theorem Ru_name {D : ZD} {g : Int → Int} {b : Bool} {G0 G : ZG} {s : RS} {bd bd' : Int → Int} {x v : Int} (h : Ru D g b G0 G s bd) (hb : ∀ i, 0 ≤ i → i < 6 → bd' i = if i = x then v else bd i) : Ru D g b G0 (zss G 1 0 x v) s bd' := by
  obtain ⟨h1, h2, h3, h4, h5, h6, h7, h8, h9⟩ := h
  refine ⟨h1.ss _ _ _ (by simp) (by omega), fun i i0 i1 => ?_, ?_, ?_, ?_, fun k y hy => ?_, fun i i0 i1 => ?_, h8, h9⟩
  · rw [zsg_ss, if_neg (by omega)]; exact h2 i i0 i1
  · rw [zsg_ss, if_neg (by omega)]; exact h3
  · rw [zsg_ss, if_neg (by omega)]; exact h4
  · rw [zsg_ss, if_neg (by omega)]; exact h5
  · rw [zsg_ss, zsg_ss, zsg_ss, if_neg (by omega), if_neg (by omega), if_neg (by omega)]; exact h6 k y hy
  · rw [zsg_ss, hb i i0 i1]
    by_cases h : i = x
    · rw [if_pos h, if_pos ⟨rfl, rfl, h⟩]
    · rw [if_neg h, if_neg (fun q => h q.2.2)]; exact h7 i i0 i1
theorem w1_fits {G : ZG} {D : ZD} {n x : Int} {a c k : Nat} {l : List ZR} {Q : Int → Prop} (_h : 0 ≤ D 11 n) (hc : zsj G a = some (.inr (.inr (15, [.inr (some (.inl c)), .inl (D 12 n)])))) (hl : zsj G c = some (.inr (.inl (k, l)))) (hn : (l.length : Int) = D 11 n) (hQ : Q (bb (fitl D n x))) : vX15_fits (some (.inl a)) x G Q := by
  unfold vX15_fits
  unfold fitl at hQ
  rw [zdI_e hc rfl]
  dsimp only [zjn]
  refine zbr_i (fun h12 => ?_) (fun h12 => ?_)
  · rw [if_neg h12] at hQ
    rw [zdR_e hc rfl]
    refine zeN_r hl ?_
    rw [hn]
    refine zbr_i (fun hx => ?_) (fun hx => ?_)
    · rw [decide_eq_false (by omega)] at hQ; exact hQ
    · rw [decide_eq_true (by omega)] at hQ; exact hQ
  · rw [if_pos (Decidable.of_not_not h12)] at hQ
    rw [zdR_e hc rfl]
    refine zeN_r hl ?_
    rw [hn]
    refine zbr_i (fun hx => ?_) (fun hx => ?_)
    · rw [decide_eq_false hx] at hQ; exact hQ
    · rw [decide_eq_true (Decidable.of_not_not hx)] at hQ; exact hQ
theorem w1_begin {G : ZG} {D : ZD} {n x : Int} {a c k : Nat} {l : List ZR} {Q : Int → Prop} (_h : 0 ≤ D 11 n) (_h2 : D 11 n ≤ x) (_h3 : x ≤ 3) (hc : zsj G a = some (.inr (.inr (15, [.inr (some (.inl c)), .inl (D 12 n)])))) (hl : zsj G c = some (.inr (.inl (k, l)))) (hn : (l.length : Int) = D 11 n) (hQ : Q (begl D n x)) : vX15_beginning (some (.inl a)) x G Q := by
  unfold vX15_beginning
  unfold begl at hQ
  rw [zdI_e hc rfl]
  dsimp only [zjn]
  refine zbr_i (fun h12 => ?_) (fun h12 => ?_)
  · rw [if_neg h12] at hQ; exact hQ
  · rw [if_pos (Decidable.of_not_not h12)] at hQ
    rw [zdR_e hc rfl]
    refine zeN_r hl ?_
    rw [hn, w32_eq (by omega) (by omega)]; exact hQ
theorem w1_match {G0 : ZG} {D : ZD} {g : Int → Int} {b : Bool} {td pa pf : Nat → Nat} (hM : MI D) (hg : GV D g) (hCv : CIv G0 D) (hCw : CIw G0 D) (hP : CPo G0 D td pa pf) :
    ∀ (f : Nat) (n p k : Int) (d dd : Nat) (s : RS) (bd : Int → Int) (G : ZG) (Q : Int → ZG → Prop), 0 ≤ n → n < D 9 0 → D 16 n ≤ f → tp D g d p k → fitk D n k → (d : Int) + D 15 n ≤ 4 → 2 * f ≤ dd → Ru D g b G0 G s bd →
    (∀ G', Ru D g b G0 G' (mt D (rA D g b) (rV D g) (tick b) f n p (s, bd)).2.1 (mt D (rA D g b) (rV D g) (tick b) f n p (s, bd)).2.2 → Q (mt D (rA D g b) (rV D g) (tick b) f n p (s, bd)).1 G') → vX2_matches_2R dd (some (.inl (pa n.toNat))) p G Q := by
  intro f
  induction f with
  | zero =>
    intro n p k d dd s bd G Q h0 h1 hsz
    have := (hM.2.2.1.2.2 n h0 h1).2.2.2.1
    omega
  | succ f ih =>
    intro n p k d dd s bd G Q h0 h1 hsz hp hf hdp hdd hR hQ
    obtain ⟨dd, rfl⟩ : ∃ d', dd = d' + 2 := ⟨dd - 2, by omega⟩
    have hpw := hM.2.2.1.2.2 n h0 h1
    have m15 := hpw.2.2.1
    have hd3 : d ≤ 3 := by omega
    have en : ((n.toNat : Nat) : Int) = n := by omega
    have hc0 := (hP.2 n.toNat (by omega)).2.1
    have hfa := (hP.2 n.toNat (by omega)).2.2
    have hc := hR.1.hk hc0
    have hpr := apl_r p (pl_apl hd3 (tp_vl hM hg d p k (by omega) hp).2.1)
    have hthg := (tp_vl hM hg d p k (by omega) hp).1
    have hE := mt_s D (rA D g b) (rV D g) (tick b) f n p (s, bd)
    generalize mt D (rA D g b) (rV D g) (tick b) (f + 1) n p (s, bd) = R at hE hQ
    have hh := hd_r hM hg (show d ≤ 7 by omega) hp
    obtain ⟨hform, -, -, -, -, -, -, -, -, -, -, f0, f1, f2, f3, f4, f5, f6⟩ := id hpw
    rw [vX2_matches_2R_s]
    unfold bX2_matches_2R
    refine pcell_k (f := 1) (by rw [en]; exact hpw) hc (by omega) ?_
    rw [en]
    by_cases e1 : D 10 n = 1
    · rw [if_pos e1] at hE
      rw [zbr_bbt (decide_eq_true e1)]
      rw [pcell1 (by rw [en]; exact e1), en] at hc hc0
      have c1 := f1 e1
      have q0 := pch hM.2.2.1 h0 h1 (k := 0) (by omega) (by omega) (by omega)
      refine ⟨zca_i hc.1, zisO_i hc.1, ?_⟩
      unfold vX10_of
      rw [zdR_e hc.1 rfl]
      refine ih _ p k d (dd + 1) s bd G _ q0.1 q0.2.1 (by omega) hp ?_ (by omega) (by omega) hR (fun G' hR' => ?_)
      · unfold fitk at hf ⊢; rw [← c1.2.2.2.2.2.1]; exact hf
      have hc' := (hR'.1.hk hc0).1
      refine ⟨zisO_i hc', ?_⟩
      unfold vX10_name
      rw [zdI_e hc' rfl]
      dsimp only [zjn]
      generalize mt D (rA D g b) (rV D g) (tick b) f (prt D n 0) p (s, bd) = T at hE hR'
      refine zbr_i (fun hne => ⟨zisO_i hc', ?_⟩) (fun he => ?_)
      · rw [if_neg hne] at hE
        subst hE
        rw [zdI_e hc' rfl]
        refine zaL_i c1.1 (by omega) ?_
        refine zaS_i c1.1 (by omega) ?_
        refine hQ _ (Ru_name hR' (fun i i0 i1 => ?_))
        by_cases h : i = D 11 n
        · rw [if_pos h, ← h]; exact (hR'.2.2.2.2.2.2.1 i i0 i1).symm
        · rw [if_neg h]
      · have he := Decidable.of_not_not he
        rw [if_pos he] at hE
        subst hE
        refine zaS_i c1.1 (by omega) ?_
        rw [he]
        exact hQ _ (Ru_name hR' (fun i i0 i1 => rfl))
    rw [if_neg e1] at hE
    rw [zbr_bbf (decide_eq_false e1)]
    refine pcell_k (f := 2) (by rw [en]; exact hpw) hc (by omega) ?_
    rw [en]
    by_cases e2 : D 10 n = 2
    · rw [if_pos e2] at hE
      rw [zbr_bbt (decide_eq_true e2)]
      rw [pcell2 (by rw [en]; exact e2), en] at hc hc0
      have hx : (rA D g b p 4 s).1 = hd D g p := rfl
      rw [hx, if_neg (by omega)] at hE
      refine ⟨zca_i hc.1, w1_at hM hg hCv hR hd3 hp (fun G' hR' => ?_)⟩
      have hc' := (hR'.1.hk hc0).1
      dsimp only [zjn]
      refine zbr_i (fun _ => ⟨zisO_i hc', ?_⟩) (fun z => absurd (Decidable.of_not_not z) (by omega))
      unfold vX11_holds
      rw [zdI_e hc' rfl, zdI_e hc' rfl, eX1_inRange]
      by_cases hin : D 11 n ≤ hd D g p ∧ hd D g p ≤ D 12 n
      · rw [if_pos hin] at hE
        subst hE
        rw [decide_eq_true hin.1, decide_eq_true hin.2]
        exact zbr_i (fun z => by cases z) (fun _ => hQ _ hR')
      · rw [if_neg hin] at hE
        subst hE
        exact zbr_i (fun _ => hQ _ hR') (fun z => absurd (show bb (decide (D 11 n ≤ hd D g p) && decide (hd D g p ≤ D 12 n)) = 0 by rw [bb0]; simp; omega) z)
    rw [if_neg e2] at hE
    rw [zbr_bbf (decide_eq_false e2)]
    refine pcell_k (f := 3) (by rw [en]; exact hpw) hc (by omega) ?_
    rw [en]
    by_cases e3 : D 10 n = 3
    · rw [if_pos e3] at hE
      rw [zbr_bbt (decide_eq_true e3)]
      have hfa := hfa (by rw [en]; exact Or.inl e3)
      rw [pcell3 (by rw [en]; exact e3), en] at hc hc0
      rw [en] at hfa
      have c3 := f3 e3
      have hk : k = D 11 n / 4 := by unfold fitk at hf; omega
      have hv : 0 ≤ vl D g 8 p ∧ D 5 (vl D g 8 p) = k := by
        rcases hthg with ⟨z, _, _⟩ | z
        · omega
        · exact ⟨z.1, z.2.2⟩
      have hhd : hd D g p = D 6 (vl D g 8 p) := by unfold hd; rw [if_neg (by omega)]
      have e44 : 4 * (D 11 n / 4) + D 11 n % 4 = D 11 n := by omega
      have m2 := (hM.1 (D 11 n / 4) (by omega) (by omega)).2.2 (D 11 n % 4) (by omega) c3.2.2.1
      rw [e44] at m2
      have hck := c3.2.2.2.2.2
      rw [chl_mk m2.1 m2.2.1 (fun i i0 i1 => ((hck i i0 (by omega)).1 i1).1) (fun i i0 i1 => (hck i (by omega) i1).2 i0)] at hfa
      have hx : (rA D g b p (D 11 n / 4) s).1 = hd D g p := rfl
      have hx2 : (rA D g b p (D 11 n / 4) s).2 = tick b s := rfl
      rw [hx, hx2, if_neg (by omega), chs_mk m2.1 m2.2.1 (fun i i0 i1 => ((hck i i0 (by omega)).1 i1).1) (fun i i0 i1 => (hck i (by omega) i1).2 i0)] at hE
      refine ⟨zca_i hc.1, zisO_i hc.1, ?_⟩
      unfold vX12_type
      rw [zdI_e hc.1 rfl]
      refine w1_at hM hg hCv hR hd3 hp (fun G' hR' => ?_)
      have hc' := (hR'.1.hk hc0).1
      dsimp only [zjn]
      refine zbr_i (fun _ => ⟨zisO_i hc', ?_⟩) (fun z => absurd (Decidable.of_not_not z) (by omega))
      unfold vX12_constructor
      rw [zdI_e hc' rfl]
      refine zbr_i (fun hne => ?_) (fun he => ⟨zisO_i hc', ?_⟩)
      · rw [if_neg hne] at hE
        subst hE
        exact hQ _ hR'
      · have he := Decidable.of_not_not he
        rw [if_pos he] at hE
        subst hE
        unfold vX12_fields
        rw [zdR_e hc' rfl]
        refine w1_all (mt D (rA D g b) (rV D g) (tick b) f) ⟨m2.1, m2.2.1⟩ ⟨by omega, by omega⟩ ⟨by omega, by omega⟩ hfa (fun i i0 i1 s2 bd2 G2 Q2 hR2 hQ2 => ?_) hR' hQ
        have hci := (hck i i0 (by omega)).1 i1
        have qi := pch hM.2.2.1 h0 h1 (k := i) i0 (by omega) (by omega)
        refine ih (prt D n i) _ (D 3 (3 * D 11 n + i)) (d + 1) dd s2 bd2 G2 Q2 qi.1 qi.2.1 (by omega) ⟨p, i, k, by omega, i0, ?_, hp, by omega, ?_⟩ hci.2.1 (by omega) (by omega) hR2 hQ2
        · unfold vn
          rw [hv.2, if_neg (by omega), if_neg (by omega), ← hhd, he, hk, e44]; exact i1
        · rw [if_neg (by omega), ← hhd, he, hk, e44]
    rw [if_neg e3] at hE
    rw [zbr_bbf (decide_eq_false e3)]
    refine pcell_k (f := 4) (by rw [en]; exact hpw) hc (by omega) ?_
    rw [en]
    by_cases e4 : D 10 n = 4
    · rw [if_pos e4] at hE
      rw [zbr_bbt (decide_eq_true e4)]
      rw [cls13 (by rw [en]; exact e4), en] at hc hc0
      have c4 := f4 e4
      have q0 := pch hM.2.2.1 h0 h1 (k := 0) (by omega) (by omega) (by omega)
      have q1 := pch hM.2.2.1 h0 h1 (k := 1) (by omega) (by omega) (by omega)
      have ff := c4.2.2.2.2.2.1 k hf
      refine ⟨zca_i hc.1, zisO_i hc.1, ?_⟩
      unfold vX13_first
      rw [zdR_e hc.1 rfl]
      refine ih _ p k d (dd + 1) s bd G _ q0.1 q0.2.1 (by omega) hp ff.1 (by omega) (by omega) hR (fun G' hR' => ?_)
      have hc' := (hR'.1.hk hc0).1
      dsimp only [zjn]
      generalize mt D (rA D g b) (rV D g) (tick b) f (prt D n 0) p (s, bd) = T at hE hR'
      refine zbr_i (fun hne => ?_) (fun he => ⟨zisO_i hc', ?_⟩)
      · rw [if_neg hne] at hE
        subst hE
        exact hQ _ hR'
      · rw [if_pos (Decidable.of_not_not he)] at hE
        unfold vX13_second
        rw [zdR_e hc' rfl]
        subst hE
        exact ih _ p k d (dd + 1) T.2.1 T.2.2 G' _ q1.1 q1.2.1 (by omega) hp ff.2 (by omega) (by omega) hR' hQ
    rw [if_neg e4] at hE
    rw [zbr_bbf (decide_eq_false e4)]
    refine pcell_k (f := 5) (by rw [en]; exact hpw) hc (by omega) ?_
    rw [en]
    by_cases e5 : D 10 n = 5
    · rw [if_pos e5] at hE
      rw [zbr_bbt (decide_eq_true e5)]
      rw [pcell5 (by rw [en]; exact e5), en] at hc hc0
      have c5 := f5 e5
      have q0 := pch hM.2.2.1 h0 h1 (k := 0) (by omega) (by omega) (by omega)
      have hb := rV_RI (D := D) (g := g) (v := D 11 n) (p := p) hM hR.2.2.2.2.2.2.2.1 ⟨c5.1, c5.2.1⟩ (pl_apl hd3 (tp_vl hM hg d p k (by omega) hp).2.1)
      rw [if_neg (by have : (rV D g (D 11 n) p (s, bd).1).1 = (rV D g (D 11 n) p s).1 := rfl; omega)] at hE
      refine ⟨zca_i hc.1, zisO_i hc.1, ?_⟩
      unfold vX14_view
      rw [zdI_e hc.1 rfl]
      refine w1_seen hM hg hCv hCw hR hd3 hp ⟨c5.1, c5.2.1⟩ (fun G' hR' => ?_)
      have hc' := (hR'.1.hk hc0).1
      dsimp only [zjn]
      refine zbr_i (fun _ => ⟨zisO_i hc', ?_⟩) (fun z => absurd (Decidable.of_not_not z) (by omega))
      unfold vX14_of
      rw [zdR_e hc' rfl]
      have h40 := (hM.2.2.1.2.2 _ q0.1 q0.2.1).2.2.2.1
      refine w1_holds hM hP 40 _ 45 _ G' _ q0.1 q0.2.1 (by omega) (by omega) hR' (fun G2 hR2 => ?_)
      subst hE
      have := hQ G2 hR2
      dsimp only at this
      cases hb2 : (hold D (tick b) 40 (prt D n 0) (rV D g (D 11 n) p s).1 (rV D g (D 11 n) p s).2).1 with
      | true => rw [hb2] at this; exact zbr_i (fun z => by cases z) (fun _ => this)
      | false => rw [hb2] at this; exact zbr_i (fun _ => this) (fun z => absurd rfl z)
    rw [if_neg e5] at hE
    rw [zbr_bbf (decide_eq_false e5)]
    refine pcell_k (f := 6) (by rw [en]; exact hpw) hc (by omega) ?_
    rw [en]
    by_cases e6 : D 10 n = 6
    · rw [if_pos e6] at hE
      rw [zbr_bbt (decide_eq_true e6)]
      have hfa := hfa (by rw [en]; exact Or.inr e6)
      rw [pcell6 (by rw [en]; exact e6), en] at hc hc0
      rw [en] at hfa
      have c6 := f6 e6
      have hk : k = 5 := by unfold fitk at hf; omega
      have hv : 0 ≤ vl D g 8 p ∧ D 5 (vl D g 8 p) = k := by
        rcases hthg with ⟨z, _, _⟩ | z
        · omega
        · exact ⟨z.1, z.2.2⟩
      have hhd : hd D g p = D 6 (vl D g 8 p) := by unfold hd; rw [if_neg (by omega)]
      have hl3 := hh.2.2.2.2.2 hk
      have hck := c6.2.2.2.2.2.2
      rw [chl_mk c6.1 (by omega) (fun i i0 i1 => ((hck i i0 (by omega)).1 i1).1) (fun i i0 i1 => (hck i (by omega) i1).2 i0)] at hfa
      have hx : (rA D g b p 5 s).1 = hd D g p := rfl
      have hx2 : (rA D g b p 5 s).2 = tick b s := rfl
      rw [hx, hx2, if_neg (by omega), chs_mk c6.1 (by omega) (fun i i0 i1 => ((hck i i0 (by omega)).1 i1).1) (fun i i0 i1 => (hck i (by omega) i1).2 i0)] at hE
      refine ⟨zca_i hc.1, w1_at hM hg hCv hR hd3 hp (fun G' hR' => ?_)⟩
      have hc' := (hR'.1.hk hc0).1
      have hfa' := (hR'.1.hk hfa).1
      dsimp only [zjn]
      refine zbr_i (fun _ => ⟨zisO_i hc', ?_⟩) (fun z => absurd (Decidable.of_not_not z) (by omega))
      have hlen : (((ints (D 11 n) (prt D n)).map fun (q : Int) => (some (.inl (pa q.toNat)) : ZR)).length : Int) = D 11 n := by rw [List.length_map, ints_len]; omega
      refine w1_fits c6.1 hc' hfa' hlen ?_
      cases hfit : fitl D n (hd D g p) with
      | false =>
        rw [if_neg (by rw [hfit]; simp)] at hE
        subst hE
        exact zbr_i (fun _ => hQ _ hR') (fun z => absurd rfl z)
      | true =>
        rw [if_pos hfit] at hE
        subst hE
        refine zbr_i (fun z => by cases z) (fun _ => ⟨zisO_i hc', ?_⟩)
        unfold vX15_items
        rw [zdR_e hc' rfl]
        have hfit2 : D 11 n ≤ hd D g p := by
          unfold fitl at hfit
          by_cases hz : D 12 n = 0
          · rw [if_pos hz] at hfit; have := of_decide_eq_true hfit; omega
          · rw [if_neg hz] at hfit; exact of_decide_eq_true hfit
        have hbeg : 0 ≤ begl D n (hd D g p) ∧ begl D n (hd D g p) + D 11 n ≤ hd D g p := by
          unfold begl
          by_cases hz : D 12 n = 2
          · rw [if_pos hz]; omega
          · rw [if_neg hz]; omega
        refine ⟨zisO_i hc', w1_begin c6.1 (by omega) (by omega) hc' hfa' hlen ?_⟩
        refine w1_all (mt D (rA D g b) (rV D g) (tick b) f) ⟨c6.1, by omega⟩ ⟨by omega, by omega⟩ ⟨by omega, by omega⟩ hfa (fun i i0 i1 s2 bd2 G2 Q2 hR2 hQ2 => ?_) hR' hQ
        have hci := (hck i i0 (by omega)).1 i1
        have qi := pch hM.2.2.1 h0 h1 (k := i) i0 (by omega) (by omega)
        refine ih (prt D n i) _ 4 (d + 1) dd s2 bd2 G2 Q2 qi.1 qi.2.1 (by omega) ⟨p, begl D n (hd D g p) + i, k, by omega, by omega, ?_, hp, by omega, ?_⟩ hci.2.1 (by omega) (by omega) hR2 hQ2
        · unfold vn
          rw [hv.2, if_neg (by omega), if_pos hk, ← hhd]; omega
        · rw [if_pos hk]
    rw [if_neg e6] at hE
    rw [zbr_bbf (decide_eq_false e6)]
    subst hE
    exact hQ G hR
