/-! REFERENCE: the machine at a pattern of a view; heads -/
set_option maxRecDepth 100000
theorem tick_e {K : ZG} {b : Bool} {Q : ZG → Prop} (h40 : zsg K 5 40 0 = bb b) (hQ : Q (zss K 5 47 0 (w32 (zsg K 5 47 0 + bb b)))) : zgF K 5 47 fun (x17 : Int) => zgF K 5 40 fun (x18 : Int) => zjn (fun (z241_2 : Int) => zpF K 5 47 (w32 (x17 + z241_2)) fun (G16 : ZG) => Q G16) fun J241 => zbr (x18 = 0) (J241 0) (J241 1) := by
  rw [zgF_e, zgF_e, h40, zjn_e]
  cases b with
  | false => rw [zbr_pos (show bb false = 0 from rfl)]; exact hQ
  | true => rw [zbr_neg (by simp [bb])]; exact hQ
theorem bare_f {D : ZD} {q : Int} (hpw : PW D q) (h : D 19 q = 1) : D 10 q = 0 ∨ D 10 q = 2 ∨ D 10 q = 4 := by
  obtain ⟨hform, -, -, -, -, -, -, -, -, -, -, f0, f1, f2, f3, f4, f5, f6⟩ := id hpw
  have a1 := f1
  have a3 := f3
  have a5 := f5
  have a6 := f6
  by_cases e1 : D 10 q = 1
  · have := (f1 e1).2.2.2.2.2.2; omega
  by_cases e3 : D 10 q = 3
  · have := (f3 e3).2.2.2.2.1; omega
  by_cases e5 : D 10 q = 5
  · have := (f5 e5).2.2.2.2.2.2.2; omega
  by_cases e6 : D 10 q = 6
  · have := (f6 e6).2.2.2.2.2.1; omega
  omega
/-- a number that a view gave, held against a range -/
theorem w6_stepGiven {σ : Type} {D : ZD} {A V : Int → Int → σ → Int × σ} {C : σ → σ} {Iv As : ZG → σ → Prop} {T : Nat → Int → Int → Prop} {b : Bool} (E : ME D A V C Iv As T b) (hM : MIp D) {H : ZG} {n x : Int} {s : σ} {Q : Int → ZG → Prop} (h0 : 0 ≤ n) (h1 : n < D 9 0) (e2 : D 10 n = 2) (hI : Iv H s) (x0 : 0 ≤ x) (x9 : x ≤ 9)
    (hQ : ∀ K', (∀ j, j ≠ 47 → zsg K' 5 j = zsg H 5 j) → Iv K' (C s) → Q (if D 11 n ≤ x ∧ x ≤ D 12 n then 0 else 1) K') : vX6_matches n (-1 - x) H Q := by
  have m9 := hM.2.1
  have dt := E.dt hI
  unfold vX6_matches
  refine zaL_i h0 (by omega) ?_
  rw [dt 10 (by omega) (by omega), zbr_neg (by omega), zbr_neg (by omega), zbr_neg (by omega), zbr_neg (by omega)]
  refine w6_factV x0 (by omega) ?_
  unfold vX6_isAsked
  rw [zjn_e, zbr_pos (by omega)]
  dsimp only [zjn]
  rw [zbr_pos (by omega), zbr_pos rfl]
  refine tick_e (E.re hI) ?_
  have hI' := E.tkC hI
  have dt' := E.dt hI'
  have hq := hQ _ (fun j hj => by rw [z5_ne hj]) hI'
  generalize zss H 5 47 0 (w32 (zsg H 5 47 0 + bb b)) = K' at hI' dt' hq
  refine w6_right hM h0 h1 dt' ?_
  unfold rgt
  rw [if_pos e2]
  by_cases hin : D 11 n ≤ x ∧ x ≤ D 12 n
  · rw [if_pos hin] at hq
    rw [decide_eq_true hin.1, decide_eq_true hin.2, zbr_neg (by simp [bb])]
    refine zaL_i h0 (by omega) ?_
    rw [dt' 10 (by omega) (by omega), zbr_pos e2, zbr_neg (by simp [bb])]
    exact hq
  · rw [if_neg hin] at hq
    have : (decide (D 11 n ≤ x) && decide (x ≤ D 12 n)) = false := by simp; omega
    rw [this, zbr_pos (show bb false = 0 from rfl), zbr_pos (show bb false = 0 from rfl)]
    exact hq
theorem pat_sz {D : ZD} {n : Int} (hM : MIp D) (h0 : 0 ≤ n) (h1 : n < D 9 0) (e4 : D 10 n = 4) : D 16 n = 1 + (D 16 (prt D n 0) + D 16 (prt D n 1)) := by
  have hpw := hM.2.2 n h0 h1
  have c4 := hpw.2.2.2.2.2.2.2.2.2.2.2.2.2.2.2.1 e4
  have h := hpw.2.2.2.2.2.2.2.2.2.1
  have e : chl D n = [prt D n 0, prt D n 1] := by
    unfold chl
    simp only [List.filterMap_cons, List.filterMap_nil]
    rw [if_neg (by omega), if_neg (by omega), if_pos c4.2.2.1]
  rw [e] at h
  simpa using h
/-- the machine at a pattern of a view, a number that it gave in its place -/
theorem mach_h {σ : Type} {D : ZD} {A V : Int → Int → σ → Int × σ} {C : σ → σ} {Iv As : ZG → σ → Prop} {T : Nat → Int → Int → Prop} {b : Bool} (E : ME D A V C Iv As T b) (hM : MIp D) {P : ZG → Prop} {Q : Int → ZG → Prop} (hc : ∀ K, bodyT Q P K → P K) {x : Int} (x0 : 0 ≤ x) (x9 : x ≤ 9) :
    ∀ (f : Nat) (q : Int) (s : σ) (K : ZG) (t m : Int), 0 ≤ q → q < D 9 0 → D 19 q = 1 → D 16 q ≤ f → Iv K s → zsg K 5 34 0 = t + 1 → 0 ≤ t → t + D 16 q ≤ 200 → zsg K 5 38 0 = m → 0 ≤ m → 2 * m + D 16 q ≤ 122 → sth K (t + 1) = sth K t ++ [(q, -1 - x)] →
    ((hold D C f q x s).1 = true → ∀ K', Wk K K' t m → zsg K' 5 34 0 = t → zsg K' 5 38 0 = m → Iv K' (hold D C f q x s).2 → zsg K' 5 39 = zsg K 5 39 → P K') →
    ((hold D C f q x s).1 = false → ∀ K', Wk K K' t m → zsg K' 5 38 0 = m → Iv K' (hold D C f q x s).2 → zsg K' 5 39 = zsg K 5 39 → tn P Q K') → P K := by
  have m9 := hM.2.1
  intro f
  induction f with
  | zero =>
    intro q s K t m h0 h1 hb hs
    have := (hM.2.2 q h0 h1).2.2.2.1
    omega
  | succ f ih =>
    intro q s K t m h0 h1 hb hs hI ht t0 t1 hm m0 m1 hst hY hN
    have hpw := hM.2.2 q h0 h1
    have s1 := hpw.2.2.2.1
    have hf := bare_f hpw hb
    have hE := hold_s D C f q x s
    generalize hold D C (f + 1) q x s = R at hE hY hN
    have es : ∀ u, sth (zss K 5 34 0 t) u = sth K u := fun u => sth_congr (fun j _ _ => by rw [z5_ne (by omega), z5_ne (by omega)]; exact ⟨rfl, rfl⟩)
    have hI0 : Iv (zss K 5 34 0 t) s := E.st hI (Mo.s34 K t) (fun j j1 j2 => by rw [z5_ne (by omega)])
    by_cases h4 : D 10 q = 4
    · rw [if_pos h4] at hE
      have c4 := hpw.2.2.2.2.2.2.2.2.2.2.2.2.2.2.2.1 h4
      have q0 := pch hM h0 h1 (k := 0) (by omega) (by omega) (by omega)
      have q1 := pch hM h0 h1 (k := 1) (by omega) (by omega) (by omega)
      have hsz := pat_sz hM h0 h1 h4
      have z0 := (hM.2.2 _ q0.1 q0.2.1).2.2.2.1
      have z1 := (hM.2.2 _ q1.1 q1.2.1).2.2.2.1
      have b01 := c4.2.2.2.2.2.2 hb
      refine mach_or hc (fun K3 => Iv K3 R.2 ∧ zsg K3 5 39 = zsg K 5 39 ∧ R.1 = true) (fun _ => True) (E.dt hI) h0 (by omega) h4 c4.1 c4.2.1 ht t0 (by omega) hst hm m0 (by omega) (fun K' mo hK' w1 ht' hs' hm' yes no => ?_)
      have hI' : Iv K' s := E.st hI mo (fun j j1 j2 => hK' j (by omega))
      refine ih (prt D q 0) s K' (t + 1) (m + 1) q0.1 q0.2.1 b01.1 (by omega) hI' ht' (by omega) (by omega) hm' (by omega) (by omega) hs' (fun hT K2 w2 ht2 hm2 hI2 h39 => ?_) (fun hT K2 w2 hm2 hI2 h39 => ?_)
      · rw [if_pos hT] at hE
        subst hE
        refine yes K2 w2 ht2 hm2 (fun K3 mo3 hK3 w3 ht3 hm3 y => hY hT K3 w3 ht3 hm3 y.1 y.2.1) ⟨E.st hI2 (((Mo.refl K2).ss _ _ _).ss _ _ _) (fun j j1 j2 => by rw [z5_ne (by omega), z5_ne (by omega)]), ?_, hT⟩
        rw [z5_ne (by omega), z5_ne (by omega), h39, hK' 39 (by omega)]
      · rw [if_neg (by rw [hT]; simp)] at hE
        subst hE
        refine no K2 w2 hm2 (fun K3 mo3 hK3 w3 ht3 hm3 hs3 => ?_)
        have hI3 : Iv K3 (hold D C f (prt D q 0) x s).2 := E.st hI2 mo3 (fun j j1 j2 => hK3 j (by omega) (by omega) (by omega) (by omega))
        have e39 : zsg K3 5 39 = zsg K 5 39 := by rw [hK3 39 (by omega) (by omega) (by omega) (by omega), h39, hK' 39 (by omega)]
        refine ih (prt D q 1) _ K3 t m q1.1 q1.2.1 b01.2 (by omega) hI3 ht3 t0 (by omega) hm3 m0 (by omega) hs3 (fun hT2 K4 w4 ht4 hm4 hI4 h49 => ?_) (fun hT2 K4 w4 hm4 hI4 h49 => ?_)
        · exact hY hT2 K4 (w3.trans w4) ht4 hm4 hI4 (h49.trans e39)
        · exact hN hT2 K4 (w3.trans w4) hm4 hI4 (h49.trans e39)
    · rw [if_neg h4] at hE
      by_cases h2 : D 10 q = 2
      · rw [if_pos h2] at hE
        refine hc K (pop_pat ht t0 (by omega) hst (by omega) (w6_stepGiven E hM h0 h1 h2 hI0 x0 x9 (fun K' hK' hI' => ?_)))
        have w : Wk K K' t m := Wk.of fun j j1 j2 j3 => by rw [hK' j (by omega), z5_ne j1]
        by_cases hin : D 11 q ≤ x ∧ x ≤ D 12 q
        · rw [if_pos hin]
          have e : R = (true, C s) := by rw [hE, decide_eq_true hin.1, decide_eq_true hin.2]; rfl
          subst e
          exact goJ0 (hY rfl K' w (by rw [hK' 34 (by omega), zsg_ss, if_pos ⟨rfl, rfl, rfl⟩]) (by rw [hK' 38 (by omega), z5_ne (by omega), hm]) hI' (by rw [hK' 39 (by omega), z5_ne (by omega)]))
        · rw [if_neg hin]
          have e : R = (false, C s) := by
            have : (decide (D 11 q ≤ x) && decide (x ≤ D 12 q)) = false := by simp; omega
            rw [hE, this]
          subst e
          exact goJ1 (hN rfl K' w (by rw [hK' 38 (by omega), z5_ne (by omega), hm]) hI' (by rw [hK' 39 (by omega), z5_ne (by omega)]))
      · rw [if_neg h2] at hE
        subst hE
        refine hc K (pop_pat ht t0 (by omega) hst (by omega) (w6_stepAny h0 (by omega) (E.dt hI0) (by omega) (goJ0 ?_)))
        exact hY rfl _ (Wk.of fun j j1 j2 j3 => by rw [z5_ne j1]) (by rw [zsg_ss, if_pos ⟨rfl, rfl, rfl⟩]) (by rw [z5_ne (by omega), hm]) hI0 (by rw [z5_ne (by omega)])
