/-! REFERENCE: the machine computes mt -/
set_option maxRecDepth 100000
theorem w6_stepView {σ : Type} {D : ZD} {A V : Int → Int → σ → Int × σ} {C : σ → σ} {Iv As : ZG → σ → Prop} {T : Nat → Int → Int → Prop} {b : Bool} (E : ME D A V C Iv As T b) {H : ZG} {n p k t : Int} {d : Nat} {s : σ} {Q : Int → ZG → Prop} (h0 : 0 ≤ n) (h1 : n < 60) (e5 : D 10 n = 5) (hv : 0 ≤ D 11 n ∧ D 11 n ≤ 2) (hI : Iv H s) (hp : T d p k) (hd3 : d ≤ 3) (ht : zsg H 5 34 0 = t) (t0 : 0 ≤ t) (t1 : t < 240)
    (hA : (V (D 11 n) p s).1 = -1 → ∀ K', Iv K' (V (D 11 n) p s).2 → As K' (V (D 11 n) p s).2 → Q 2 K')
    (hY : ∀ x, x = (V (D 11 n) p s).1 → 0 ≤ x → x ≤ 9 → ∀ K', (∀ j, 35 ≤ j → j ≤ 39 → zsg K' 5 j = zsg H 5 j) → (∀ u, 0 ≤ u → u ≤ t → sth K' u = sth H u) → zsg K' 5 34 0 = t + 1 → sth K' (t + 1) = sth H t ++ [(prt D n 0, -1 - x)] → Iv K' (V (D 11 n) p s).2 → Q 0 K') : vX6_matches n p H Q := by
  have dt := E.dt hI
  unfold vX6_matches
  refine zaL_i h0 (by omega) ?_
  rw [dt 10 (by omega) (by omega), zbr_neg (by omega), zbr_neg (by omega), zbr_neg (by omega), zbr_pos e5]
  refine zaL_i h0 (by omega) ?_
  rw [dt 11 (by omega) (by omega)]
  refine E.gave hI hp hd3 hv (fun hr K1 mo1 hK1 hI1 => ?_)
  have dt1 := E.dt hI1
  by_cases hx : (V (D 11 n) p s).1 = -1
  · rw [if_pos hx, zbr_neg (by omega), zpF_e]
    refine zaL_i h0 (by omega) ?_
    rw [z5_ne (by omega), dt1 11 (by omega) (by omega), zpF_e, zpF_e]
    have := E.asV hI hp hd3 hv hx hI1
    exact hA hx _ this.1 this.2
  · rw [if_neg hx, zbr_pos (by omega)]
    rw [w32_eq (x := 3 * n) (by omega) (by omega)]
    refine zaL_i (by omega) (by omega) ?_
    rw [dt1 13 (by omega) (by omega), w32_eq (by omega) (by omega)]
    refine w6_lay (t := t) (by rw [hK1 34 (by omega) (by omega), ht]) t0 (by omega) (fun K2 mo2 hKK htt hu hs => ?_)
    have hs1 : ∀ u, sth K1 u = sth H u := fun u => sth_congr (fun j _ _ => by rw [hK1 32 (by omega) (by omega), hK1 33 (by omega) (by omega)]; exact ⟨rfl, rfl⟩)
    refine hY _ rfl (by omega) (by omega) K2 (fun j j0 j1 => by rw [hKK j (by omega) (by omega) (by omega), hK1 j (by omega) (by omega)]) (fun u u0 u1 => by rw [hu u u0 u1, hs1]) htt ?_ (E.st hI1 mo2 (fun j j1 j2 => hKK j (by omega) (by omega) (by omega)))
    rw [hs, hs1, show 3 * n = 3 * n + 0 by omega]; rfl
theorem mach {σ : Type} {D : ZD} {A V : Int → Int → σ → Int × σ} {C : σ → σ} {Iv As : ZG → σ → Prop} {T : Nat → Int → Int → Prop} {b : Bool} (E : ME D A V C Iv As T b) (hM : MI D) (hL : LIN D) {P : ZG → Prop} {Q : Int → ZG → Prop} (hc : ∀ K, bodyT Q P K → P K) :
    ∀ (f : Nat) (n p k : Int) (d : Nat) (s : σ) (bd : Int → Int) (K : ZG) (t m : Int), 0 ≤ n → n < D 9 0 → D 16 n ≤ f → T d p k → fitk D n k → (d : Int) + D 15 n ≤ 4 → Iv K s → zsg K 5 34 0 = t + 1 → 0 ≤ t → t + D 16 n ≤ 200 → zsg K 5 38 0 = m → 0 ≤ m → 2 * m + D 16 n ≤ 122 → sth K (t + 1) = sth K t ++ [(n, p)] →
    MC Iv As P Q (mt D A V C f n p (s, bd)) K t m (hs (D 17 n)) → P K := by
  have m9 := hM.2.2.1.2.1
  intro f
  induction f with
  | zero =>
    intro n p k d s bd K t m h0 h1 hs
    have := (hM.2.2.1.2.2 n h0 h1).2.2.2.1
    omega
  | succ f ih =>
    intro n p k d s bd K t m h0 h1 hsz hp hf hdp hI ht t0 t1 hm m0 m1 hst hMC
    have hpw := hM.2.2.1.2.2 n h0 h1
    have m15 := hpw.2.2.1
    have s1 := hpw.2.2.2.1
    have hd3 : d ≤ 3 := by omega
    have hE := mt_s D A V C f n p (s, bd)
    have hszs := szs_chs (p := p) (j := (if D 10 n = 6 then begl D n (A p k s).1 else 0)) hpw
    generalize mt D A V C (f + 1) n p (s, bd) = R at hE hMC
    have es : ∀ u, sth (zss K 5 34 0 t) u = sth K u := fun u => sth_congr (fun j _ _ => by rw [z5_ne (by omega), z5_ne (by omega)]; exact ⟨rfl, rfl⟩)
    have e34 : zsg (zss K 5 34 0 t) 5 34 0 = t := by rw [zsg_ss, if_pos ⟨rfl, rfl, rfl⟩]
    have eo : ∀ j, j ≠ 34 → zsg (zss K 5 34 0 t) 5 j = zsg K 5 j := fun j hj => by rw [z5_ne hj]
    have hI0 : Iv (zss K 5 34 0 t) s := E.st hI (Mo.s34 K t) (fun j j1 j2 => eo j (by omega))
    obtain ⟨hform, -, -, -, -, -, -, -, -, -, -, f0, f1, f2, f3, f4, f5, f6⟩ := id hpw
    by_cases e1 : D 10 n = 1
    · rw [if_pos e1] at hE
      have c1 := f1 e1
      have q0 := pch hM.2.2.1 h0 h1 (k := 0) (by omega) (by omega) (by omega)
      refine hc K (pop_pat ht t0 (by omega) hst (by omega) (w6_stepName (t := t) h0 (by omega) (E.dt hI0) e1 ⟨c1.1, c1.2.1⟩ e34 t0 (by omega) (fun K' mo hK' h39 ht' hu hs' => goJ0 ?_)))
      have hI' : Iv K' s := E.st hI0 mo (fun j j1 j2 => hK' j (by omega) (by omega) (by omega) (by omega))
      have w1 : Wk K K' t m := ⟨fun u u0 u1 => by rw [hu u u0 u1, es], fun i i0 i1 => by
        rw [hK' 35 (by omega) (by omega) (by omega) (by omega), hK' 36 (by omega) (by omega) (by omega) (by omega), hK' 37 (by omega) (by omega) (by omega) (by omega), eo 35 (by omega), eo 36 (by omega), eo 37 (by omega)]; exact ⟨rfl, rfl, rfl⟩⟩
      have b39 : ∀ x, x ≠ D 11 n → zsg K' 5 39 x = zsg K 5 39 x := fun x hx => by rw [h39, if_neg hx, eo 39 (by omega)]
      have lin := hL n h0 h1 e1
      have hsub : ∀ x, 0 ≤ x → x ≤ 5 → x ≠ D 11 n → hs (D 17 n) x = hs (D 17 (prt D n 0)) x := fun x x0 x5 hx => by
        rw [hpw.2.2.2.2.2.2.2.2.2.2.1 x x0 (by omega)]
        have e : chl D n = [prt D n 0] := by
          unfold chl
          simp only [List.filterMap_cons, List.filterMap_nil]
          rw [if_neg (by omega), if_pos c1.2.2.2.1, if_pos c1.2.2.2.2.1]
        rw [e, decide_eq_false (p := D 11 n = x) (fun z => hx z.symm)]; simp
      have hown := hs_own hpw e1 c1.1 c1.2.1
      refine ih (prt D n 0) p k d s bd K' t m q0.1 q0.2.1 (by omega) hp (by unfold fitk at hf ⊢; rw [← c1.2.2.2.2.2.1]; exact hf) (by omega) hI' ht' t0 (by omega) (by rw [hK' 38 (by omega) (by omega) (by omega) (by omega), eo 38 (by omega), hm]) m0 (by omega) (by rw [hs', hu t t0 (by omega)]) ?_
      generalize mt D A V C f (prt D n 0) p (s, bd) = R0 at hE
      refine ⟨fun g1 K2 w2 a2 b2 c2 d2 => ?_, fun g1 K2 w2 b2 c2 d2 => ?_, fun g1 => ?_⟩
      · rw [if_pos g1] at hE
        subst hE
        refine hMC.1 rfl K2 (w1.trans w2) a2 b2 c2 (fun x x0 x5 => ?_)
        rw [d2 x x0 x5]
        dsimp only
        by_cases hx : x = D 11 n
        · subst hx
          rw [if_neg (by rw [lin]; simp), if_pos hown, if_pos rfl, h39, if_pos rfl]
        · rw [if_neg hx, b39 x hx, hsub x x0 x5 hx]
      · rw [if_neg (by omega)] at hE
        subst hE
        refine hMC.2.1 g1 K2 (w1.trans w2) b2 c2 (fun x x0 x5 hx => ?_)
        have hx1 : x ≠ D 11 n := fun z => by
          subst z
          rw [hown] at hx; cases hx
        rw [hsub x x0 x5 hx1] at hx
        rw [d2 x x0 x5 hx, b39 x hx1]
      · rw [if_neg (by omega)] at hE
        subst hE
        exact hMC.2.2 g1
    rw [if_neg e1] at hE
    by_cases e2 : D 10 n = 2
    · rw [if_pos e2] at hE
      have c2 := f2 e2
      have hk : k = 4 := by unfold fitk at hf; omega
      rw [← hk] at hE
      refine hc K (pop_pat ht t0 (by omega) hst (by omega) (w6_stepHead E hM.2.2.1 h0 h1 (Or.inl e2) hI0 hp hd3 (by omega) e34 t0 (by omega) (fun ha K' hI' hAs => goJ2 ?_) (fun ha hr K' hK' hI' => goJ1 ?_) (fun L hLe ha hr K' hK' hu' ht' hs' hI' => goJ0 ?_)))
      · rw [if_pos ha] at hE
        subst hE
        exact hMC.2.2 rfl K' hI' hAs
      · have : ¬ (D 11 n ≤ (A p k s).1 ∧ (A p k s).1 ≤ D 12 n) := fun z => by
          unfold rgt at hr
          rw [if_pos e2, decide_eq_true z.1, decide_eq_true z.2] at hr; cases hr
        rw [if_neg ha, if_neg this] at hE
        subst hE
        exact hMC.2.1 rfl K' (Wk.of fun j j1 j2 j3 => by rw [hK' j j2 (by omega), eo j j1]) (by rw [hK' 38 (by omega) (by omega), eo 38 (by omega), hm]) hI' (fun x _ _ _ => by rw [hK' 39 (by omega) (by omega), eo 39 (by omega)])
      · have hL0 := chs_nil (n := n) (p := p) (j := (if D 10 n = 6 then begl D n (A p k s).1 else 0)) c2.2.2.2.2.1
        rw [hL0] at hLe
        subst hLe
        have : D 11 n ≤ (A p k s).1 ∧ (A p k s).1 ≤ D 12 n := by
          unfold rgt at hr
          rw [if_pos e2, Bool.and_eq_true] at hr
          exact ⟨of_decide_eq_true hr.1, of_decide_eq_true hr.2⟩
        rw [if_neg ha, if_pos this] at hE
        subst hE
        have hz : ∀ x, 0 ≤ x → x ≤ 5 → hs (D 17 n) x = false := fun x x0 x5 => by rw [hs_nml (p := p) (j := (if D 10 n = 6 then begl D n (A p k s).1 else 0)) hpw x0 x5 e1, hL0]; rfl
        refine hMC.1 rfl K' ⟨fun u u0 u1 => by rw [hu' u u0 u1, es], fun i i0 i1 => by
          rw [hK' 35 (by omega) (by omega), hK' 36 (by omega) (by omega), hK' 37 (by omega) (by omega), eo 35 (by omega), eo 36 (by omega), eo 37 (by omega)]; exact ⟨rfl, rfl, rfl⟩⟩ (by rw [ht']; simp) (by rw [hK' 38 (by omega) (by omega), eo 38 (by omega), hm]) hI' (fun x x0 x5 => ?_)
        rw [hK' 39 (by omega) (by omega), eo 39 (by omega)]
        exact (if_neg (show ¬ (hs (D 17 n) x = true) by rw [hz x x0 x5]; simp)).symm
    rw [if_neg e2] at hE
    -- parts behind a head
    have parts : ∀ (j : Int) (s2 : σ) (K' : ZG), D 10 n ≠ 1 → (∀ i, 0 ≤ i → i < 3 → prt D n i ≠ -1 → ∃ k', T (d + 1) (5 * p + j + i + 1) k' ∧ fitk D (prt D n i) k' ∧ D 15 (prt D n i) + 1 ≤ D 15 n) → D 16 n = 1 + szs D (chs D n p j) →
        (∀ j, 35 ≤ j → j ≤ 39 → zsg K' 5 j = zsg (zss K 5 34 0 t) 5 j) → (∀ u, 0 ≤ u → u ≤ t → sth K' u = sth (zss K 5 34 0 t) u) → zsg K' 5 34 0 = t + ((chs D n p j).length : Int) → sth K' (t + ((chs D n p j).length : Int)) = sth (zss K 5 34 0 t) t ++ (chs D n p j).reverse → Iv K' s2 →
        R = al (mt D A V C f) (chs D n p j) (s2, bd) → P K' := by
      intro j s2 K' _ hch hsz2 hK' hu' ht' hs' hI' hR
      subst hR
      have w1 : Wk K K' t m := ⟨fun u u0 u1 => by rw [hu' u u0 u1, es], fun i i0 i1 => by
          rw [hK' 35 (by omega) (by omega), hK' 36 (by omega) (by omega), hK' 37 (by omega) (by omega), eo 35 (by omega), eo 36 (by omega), eo 37 (by omega)]; exact ⟨rfl, rfl, rfl⟩⟩
      have e39 : zsg K' 5 39 = zsg K 5 39 := by rw [hK' 39 (by omega) (by omega), eo 39 (by omega)]
      refine mach_l (D := D) (As := As) (mt D A V C f) hc (chs D n p j) (fun c hc2 => ?_) (fun c hc2 x x0 x5 t2 hx => ?_) s2 bd K' t m hI' ht' t0 (by omega) (by rw [hK' 38 (by omega) (by omega), eo 38 (by omega), hm]) m0 (by omega) (by rw [hs', hu' t t0 (by omega)]) ?_
      · obtain ⟨i, i0, i3, hi, rfl⟩ := chs_mem hc2
        have qi := pch hM.2.2.1 h0 h1 i0 i3 hi
        obtain ⟨k', hk1, hk2, hk3⟩ := hch i i0 i3 hi
        refine ⟨(hM.2.2.1.2.2 _ qi.1 qi.2.1).2.2.2.1.1, fun s3 bd3 K3 t3 m3 a1 a2 a3 a4 a5 a6 a7 a8 a9 => ?_⟩
        exact ih (prt D n i) _ k' (d + 1) s3 bd3 K3 t3 m3 qi.1 qi.2.1 (by omega) hk1 hk2 (by omega) a1 a2 a3 a4 a5 a6 a7 a8 a9
      · obtain ⟨i, i0, i3, hi, rfl⟩ := chs_mem hc2
        have qi := pch hM.2.2.1 h0 h1 i0 i3 hi
        exact mt_nm hM.2.2.1 x0 x5 f _ _ t2 qi.1 qi.2.1 hx
      · refine MC.congr ⟨fun g1 K2 w2 a2 b2 c2 d2 => ?_, fun g1 K2 w2 b2 c2 d2 => ?_, hMC.2.2⟩ (fun x x0 x5 => (hs_nml (p := p) (j := j) hpw x0 x5 e1).symm)
        · exact hMC.1 g1 K2 (w1.trans w2) a2 b2 c2 (fun x x0 x5 => by rw [d2 x x0 x5, e39])
        · exact hMC.2.1 g1 K2 (w1.trans w2) b2 c2 (fun x x0 x5 hx => by rw [d2 x x0 x5 hx, e39])
    by_cases e3 : D 10 n = 3
    · rw [if_pos e3] at hE
      have c3 := f3 e3
      have hk : k = D 11 n / 4 := by unfold fitk at hf; omega
      have e44 : 4 * (D 11 n / 4) + D 11 n % 4 = D 11 n := by omega
      have m2 := (hM.1 (D 11 n / 4) (by omega) (by omega)).2.2 (D 11 n % 4) (by omega) c3.2.2.1
      rw [e44] at m2
      have hck := c3.2.2.2.2.2
      refine hc K (pop_pat ht t0 (by omega) hst (by omega) (w6_stepHead E hM.2.2.1 h0 h1 (Or.inr (Or.inl e3)) hI0 hp hd3 (by omega) e34 t0 (by omega) (fun ha K' hI' hAs => goJ2 ?_) (fun ha hr K' hK' hI' => goJ1 ?_) (fun L hLe ha hr K' hK' hu' ht' hs' hI' => goJ0 ?_)))
      · rw [← hk, if_pos ha] at hE
        subst hE
        exact hMC.2.2 rfl K' hI' hAs
      · have : ¬ ((A p k s).1 = D 11 n % 4) := fun z => by
          unfold rgt at hr
          rw [if_neg e2, if_pos e3, decide_eq_true z] at hr; cases hr
        rw [← hk, if_neg ha, if_neg this] at hE
        subst hE
        exact hMC.2.1 rfl K' (Wk.of fun j j1 j2 j3 => by rw [hK' j j2 (by omega), eo j j1]) (by rw [hK' 38 (by omega) (by omega), eo 38 (by omega), hm]) hI' (fun x _ _ _ => by rw [hK' 39 (by omega) (by omega), eo 39 (by omega)])
      · have hr2 : (A p k s).1 = D 11 n % 4 := by
          unfold rgt at hr
          rw [if_neg e2, if_pos e3] at hr
          exact of_decide_eq_true hr
        rw [← hk, if_neg ha, if_pos hr2] at hE
        rw [if_neg (by omega)] at hLe hszs
        subst hLe
        refine parts 0 (A p k s).2 K' e1 (fun i i0 i3 hi => ?_) hszs hK' hu' ht' hs' hI' hE
        have i1 : i < D 2 (D 11 n) := Decidable.byContradiction fun z => hi ((hck i i0 i3).2 (by omega))
        have hci := (hck i i0 i3).1 i1
        exact ⟨_, E.t3 (s := s) hp hd3 h0 h1 e3 hf (by rw [← hk]; exact hr2) i0 i1, hci.2.1, hci.2.2⟩
    rw [if_neg e3] at hE
    by_cases e4 : D 10 n = 4
    · rw [if_pos e4] at hE
      have c4 := f4 e4
      have q0 := pch hM.2.2.1 h0 h1 (k := 0) (by omega) (by omega) (by omega)
      have q1 := pch hM.2.2.1 h0 h1 (k := 1) (by omega) (by omega) (by omega)
      have z0 := (hM.2.2.1.2.2 _ q0.1 q0.2.1).2.2.2.1
      have z1 := (hM.2.2.1.2.2 _ q1.1 q1.2.1).2.2.2.1
      have hsz4 := pat_sz hM.2.2.1 h0 h1 e4
      have ff := c4.2.2.2.2.2.1 k hf
      refine mach_or hc (fun K3 => R.1 = 1 ∧ Iv K3 R.2.1 ∧ ∀ x, 0 ≤ x → x ≤ 5 → zsg K3 5 39 x = if hs (D 17 n) x = true then R.2.2 x else zsg K 5 39 x) (fun _ => True) (E.dt hI) h0 (by omega) e4 c4.1 c4.2.1 ht t0 (by omega) hst hm m0 (by omega) (fun K' mo hK' w1 ht' hs' hm' yes no => ?_)
      have hI' : Iv K' s := E.st hI mo (fun j j1 j2 => hK' j (by omega))
      refine ih (prt D n 0) p k d s bd K' (t + 1) (m + 1) q0.1 q0.2.1 (by omega) hp ff.1 (by omega) hI' ht' (by omega) (by omega) hm' (by omega) (by omega) hs' ?_
      rw [c4.2.2.2.1]
      generalize mt D A V C f (prt D n 0) p (s, bd) = R0 at hE
      refine ⟨fun g1 K2 w2 a2 b2 c2 d2 => ?_, fun g1 K2 w2 b2 c2 d2 => ?_, fun g1 => ?_⟩
      · rw [if_neg (by omega)] at hE
        subst hE
        refine yes K2 w2 a2 b2 (fun K3 mo3 hK3 w3 ht3 hm3 y => hMC.1 g1 K3 w3 ht3 hm3 y.2.1 y.2.2) ⟨g1, E.st c2 (((Mo.refl K2).ss _ _ _).ss _ _ _) (fun j j1 j2 => by rw [z5_ne (by omega), z5_ne (by omega)]), fun x x0 x5 => ?_⟩
        rw [z5_ne (by omega), z5_ne (by omega), d2 x x0 x5, hK' 39 (by omega)]
      · rw [if_pos g1] at hE
        refine no K2 w2 b2 (fun K3 mo3 hK3 w3 ht3 hm3 hs3 => ?_)
        have hI3 : Iv K3 R0.2.1 := E.st c2 mo3 (fun j j1 j2 => hK3 j (by omega) (by omega) (by omega) (by omega))
        have e39 : ∀ x, 0 ≤ x → x ≤ 5 → hs (D 17 n) x = false → zsg K3 5 39 x = zsg K 5 39 x := fun x x0 x5 hx => by rw [hK3 39 (by omega) (by omega) (by omega) (by omega), d2 x x0 x5 hx, hK' 39 (by omega)]
        refine ih (prt D n 1) p k d R0.2.1 R0.2.2 K3 t m q1.1 q1.2.1 (by omega) hp ff.2 (by omega) hI3 ht3 t0 (by omega) hm3 m0 (by omega) hs3 ?_
        rw [c4.2.2.2.2.1]
        have hE : R = mt D A V C f (prt D n 1) p (R0.2.1, R0.2.2) := hE
        rw [← hE]
        refine ⟨fun g2 K4 w4 a4 b4 c4' d4 => hMC.1 g2 K4 (w3.trans w4) a4 b4 c4' (fun x x0 x5 => ?_), fun g2 K4 w4 b4 c4' d4 => hMC.2.1 g2 K4 (w3.trans w4) b4 c4' (fun x x0 x5 hx => by rw [d4 x x0 x5 hx, e39 x x0 x5 hx]), hMC.2.2⟩
        rw [d4 x x0 x5]
        cases hx : hs (D 17 n) x with
        | true => rfl
        | false => exact e39 x x0 x5 hx
      · rw [if_neg (by omega)] at hE
        subst hE
        exact hMC.2.2 g1
    rw [if_neg e4] at hE
    by_cases e5 : D 10 n = 5
    · rw [if_pos e5] at hE
      have c5 := f5 e5
      have q0 := pch hM.2.2.1 h0 h1 (k := 0) (by omega) (by omega) (by omega)
      have hz : ∀ x, 0 ≤ x → x ≤ 5 → hs (D 17 n) x = false := fun x x0 x5 => by
        cases hx : hs (D 17 n) x with
        | false => rfl
        | true =>
          rcases hs_ch hpw x0 x5 hx with z | ⟨i, i0, i3, hn, hq⟩
          · exact absurd z.1 e1
          · have : i = 0 := by
              rcases (show i = 0 ∨ i = 1 ∨ i = 2 by omega) with e | e | e
              · exact e
              · subst e; exact absurd c5.2.2.2.1 hn
              · subst e; exact absurd c5.2.2.2.2.1 hn
            subst this
            have hb := (hM.2.2.1.2.2 _ q0.1 q0.2.1).2.2.2.2.2.2.2.1 c5.2.2.2.2.2.1
            rw [hb, hs_z x0 (by omega)] at hq
            cases hq
      refine hc K (pop_pat ht t0 (by omega) hst (by omega) (w6_stepView E h0 (by omega) e5 ⟨c5.1, c5.2.1⟩ hI0 hp hd3 e34 t0 (by omega) (fun ha K' hI' hAs => goJ2 ?_) (fun x hx x0 x9 K' hK' hu' ht' hs' hI' => goJ0 ?_)))
      · rw [if_pos ha] at hE
        subst hE
        exact hMC.2.2 rfl K' hI' hAs
      · have ha : (V (D 11 n) p s).1 ≠ -1 := by omega
        rw [if_neg ha] at hE
        dsimp only at hE
        rw [← hx] at hE
        have w1 : Wk K K' t m := ⟨fun u u0 u1 => by rw [hu' u u0 u1, es], fun i i0 i1 => by
          rw [hK' 35 (by omega) (by omega), hK' 36 (by omega) (by omega), hK' 37 (by omega) (by omega), eo 35 (by omega), eo 36 (by omega), eo 37 (by omega)]; exact ⟨rfl, rfl, rfl⟩⟩
        have e39 : zsg K' 5 39 = zsg K 5 39 := by rw [hK' 39 (by omega) (by omega), eo 39 (by omega)]
        have h40 := (hM.2.2.1.2.2 _ q0.1 q0.2.1).2.2.2.1
        generalize (V (D 11 n) p s).2 = s2 at hE hI'
        have key := mach_h E hM.2.2.1 hc x0 x9 40 (prt D n 0) s2 K' t m q0.1 q0.2.1 c5.2.2.2.2.2.1 (by omega) hI' ht' t0 (by omega) (by rw [hK' 38 (by omega) (by omega), eo 38 (by omega), hm]) m0 (by omega) (by rw [hs', hu' t t0 (by omega)])
        generalize hold D C 40 (prt D n 0) x s2 = hh at hE key
        subst hE
        refine key (fun hT K2 w2 ht2 hm2 hI2 h39 => hMC.1 (by show bb hh.1 = 1; rw [hT]; rfl) K2 (w1.trans w2) ht2 hm2 hI2 (fun x x0 x5 => ?_)) (fun hT K2 w2 hm2 hI2 h39 => hMC.2.1 (by show bb hh.1 = 0; rw [hT]; rfl) K2 (w1.trans w2) hm2 hI2 (fun x x0 x5 _ => by rw [h39, e39]))
        rw [h39, e39]
        exact (if_neg (show ¬ (hs (D 17 n) x = true) by rw [hz x x0 x5]; simp)).symm
    rw [if_neg e5] at hE
    by_cases e6 : D 10 n = 6
    · rw [if_pos e6] at hE
      have c6 := f6 e6
      have hck := c6.2.2.2.2.2.2
      have hk : k = 5 := by unfold fitk at hf; omega
      refine hc K (pop_pat ht t0 (by omega) hst (by omega) (w6_stepHead E hM.2.2.1 h0 h1 (Or.inr (Or.inr e6)) hI0 hp hd3 (fun _ => hk) e34 t0 (by omega) (fun ha K' hI' hAs => goJ2 ?_) (fun ha hr K' hK' hI' => goJ1 ?_) (fun L hLe ha hr K' hK' hu' ht' hs' hI' => goJ0 ?_)))
      · rw [← hk, if_pos ha] at hE
        subst hE
        exact hMC.2.2 rfl K' hI' hAs
      · have : ¬ (fitl D n (A p k s).1 = true) := fun z => by
          unfold rgt at hr
          rw [if_neg e2, if_neg e3, z] at hr; cases hr
        rw [← hk, if_neg ha, if_neg this] at hE
        subst hE
        exact hMC.2.1 rfl K' (Wk.of fun j j1 j2 j3 => by rw [hK' j j2 (by omega), eo j j1]) (by rw [hK' 38 (by omega) (by omega), eo 38 (by omega), hm]) hI' (fun x _ _ _ => by rw [hK' 39 (by omega) (by omega), eo 39 (by omega)])
      · have hr2 : fitl D n (A p k s).1 = true := by
          unfold rgt at hr
          rw [if_neg e2, if_neg e3] at hr
          exact hr
        rw [← hk, if_neg ha, if_pos hr2] at hE
        rw [if_pos e6] at hLe hszs
        subst hLe
        refine parts (begl D n (A p k s).1) (A p k s).2 K' e1 (fun i i0 i3 hi => ?_) hszs hK' hu' ht' hs' hI' hE
        have i1 : i < D 11 n := Decidable.byContradiction fun z => hi ((hck i i0 i3).2 (by omega))
        have hci := (hck i i0 i3).1 i1
        refine ⟨4, ?_, hci.2.1, hci.2.2⟩
        have e5k : A p 5 s = A p k s := by rw [hk]
        have := E.t6 (s := s) hp hd3 h0 h1 e6 hf (by rw [e5k]; exact ha) (by rw [e5k]; exact hr2) i0 i1
        rw [e5k] at this
        exact this
    rw [if_neg e6] at hE
    have e0 : D 10 n = 0 := by omega
    subst hE
    refine hc K (pop_pat ht t0 (by omega) hst (by omega) (w6_stepAny h0 (by omega) (E.dt hI0) e0 (goJ0 ?_)))
    have hz : ∀ x, 0 ≤ x → x ≤ 5 → hs (D 17 n) x = false := fun x x0 x5 => by rw [hs_nml (p := p) (j := 0) hpw x0 x5 e1, chs_nil (f0 e0)]; rfl
    refine hMC.1 rfl _ (Wk.of fun j j1 j2 j3 => eo j j1) e34 (by rw [eo 38 (by omega), hm]) hI0 (fun x x0 x5 => ?_)
    rw [eo 39 (by omega)]
    exact (if_neg (show ¬ (hs (D 17 n) x = true) by rw [hz x x0 x5]; simp)).symm
