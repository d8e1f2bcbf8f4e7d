/-! REFERENCE: the machine at patterns at their places -/
set_option maxRecDepth 100000
/-- what is to hold behind a pattern that is looked at, for what comes behind it -/
def MC {σ : Type} (Iv As : ZG → σ → Prop) (P : ZG → Prop) (Q : Int → ZG → Prop) (R : Int × (σ × (Int → Int))) (K : ZG) (t m : Int) (nm : Int → Bool) : Prop :=
  (R.1 = 1 → ∀ K', Wk K K' t m → zsg K' 5 34 0 = t → zsg K' 5 38 0 = m → Iv K' R.2.1 → (∀ x, 0 ≤ x → x ≤ 5 → zsg K' 5 39 x = if nm x = true then R.2.2 x else zsg K 5 39 x) → P K') ∧
  (R.1 = 0 → ∀ K', Wk K K' t m → zsg K' 5 38 0 = m → Iv K' R.2.1 → (∀ x, 0 ≤ x → x ≤ 5 → nm x = false → zsg K' 5 39 x = zsg K 5 39 x) → tn P Q K') ∧
  (R.1 = 2 → ∀ K', Iv K' R.2.1 → As K' R.2.1 → Q 2 K')
theorem MC.congr {σ : Type} {Iv As : ZG → σ → Prop} {P : ZG → Prop} {Q : Int → ZG → Prop} {R : Int × (σ × (Int → Int))} {K : ZG} {t m : Int} {nm nm' : Int → Bool} (h : MC Iv As P Q R K t m nm) (e : ∀ x, 0 ≤ x → x ≤ 5 → nm' x = nm x) : MC Iv As P Q R K t m nm' :=
  ⟨fun h1 K' w a b c d => h.1 h1 K' w a b c (fun x x0 x5 => by rw [d x x0 x5, e x x0 x5]), fun h1 K' w b c d => h.2.1 h1 K' w b c (fun x x0 x5 q => d x x0 x5 (by rw [e x x0 x5]; exact q)), h.2.2⟩
theorem hs_nml {D : ZD} {n p j x : Int} (hpw : PW D n) (x0 : 0 ≤ x) (x5 : x ≤ 5) (h1 : D 10 n ≠ 1) : hs (D 17 n) x = nml D (chs D n p j) x := by
  cases h : hs (D 17 n) x with
  | true => exact (chs_nmt hpw x0 x5 h1 h).symm
  | false => exact (chs_nml (hs_nch hpw x0 x5 h).2).symm
/-- parts, the first one uppermost -/
theorem mach_l {σ : Type} {D : ZD} {Iv As : ZG → σ → Prop} {P : ZG → Prop} {Q : Int → ZG → Prop} (M : Int → Int → σ × (Int → Int) → Int × (σ × (Int → Int))) (hc : ∀ K, bodyT Q P K → P K) :
    ∀ (L : List (Int × Int)), (∀ c ∈ L, 1 ≤ D 16 c.1 ∧ ∀ (s : σ) (bd : Int → Int) (K : ZG) (t m : Int), Iv K s → zsg K 5 34 0 = t + 1 → 0 ≤ t → t + D 16 c.1 ≤ 200 → zsg K 5 38 0 = m → 0 ≤ m → 2 * m + D 16 c.1 ≤ 122 → sth K (t + 1) = sth K t ++ [c] → MC Iv As P Q (M c.1 c.2 (s, bd)) K t m (hs (D 17 c.1)) → P K) →
      (∀ c ∈ L, ∀ x, 0 ≤ x → x ≤ 5 → ∀ t : σ × (Int → Int), hs (D 17 c.1) x = false → (M c.1 c.2 t).2.2 x = t.2 x) →
      ∀ (s : σ) (bd : Int → Int) (K : ZG) (t m : Int), Iv K s → zsg K 5 34 0 = t + (L.length : Int) → 0 ≤ t → t + szs D L ≤ 200 → zsg K 5 38 0 = m → 0 ≤ m → 2 * m + szs D L ≤ 122 → sth K (t + (L.length : Int)) = sth K t ++ L.reverse → MC Iv As P Q (al M L (s, bd)) K t m (nml D L) → P K
  | [], _, _, s, bd, K, t, m, hI, ht, t0, _, hm, m0, _, _, h => by
    refine h.1 rfl K (Wk.refl K t m) ?_ hm hI (fun x _ _ => ?_)
    · rw [ht]; simp
    · rw [if_neg (by simp [nml])]
  | c :: L, hmat, hnm, s, bd, K, t, m, hI, ht, t0, t1, hm, m0, m1, hst, h => by
    obtain ⟨c1, hmc⟩ := hmat c List.mem_cons_self
    have hlen := szs_len (L := L) fun d hd => (hmat d (List.mem_cons_of_mem _ hd)).1
    rw [List.length_cons] at ht hst
    rw [szs_cons] at t1 m1
    rw [List.reverse_cons, ← List.append_assoc, show t + ((L.length + 1 : Nat) : Int) = t + (L.length : Int) + 1 by omega] at hst
    have hb := (sth_at (n := c.1) (p := c.2) (by omega) hst).1
    have e1 := al_s M c L (s, bd)
    generalize al M (c :: L) (s, bd) = R at e1 h
    refine hmc s bd K (t + L.length) m hI (by omega) (by omega) (by omega) hm m0 (by omega) (by rw [hb]; exact hst) ⟨fun h1 K' w a b c' d => ?_, fun h1 K' w b c' d => ?_, fun h1 => ?_⟩
    · rw [if_pos h1] at e1
      subst e1
      refine mach_l M hc L (fun d hd => hmat d (List.mem_cons_of_mem _ hd)) (fun d hd => hnm d (List.mem_cons_of_mem _ hd)) (M c.1 c.2 (s, bd)).2.1 (M c.1 c.2 (s, bd)).2.2 K' t m c' a t0 (by omega) b m0 (by omega) ?_ ⟨fun g1 K2 w2 a2 b2 c2 d2 => ?_, fun g1 K2 w2 b2 c2 d2 => ?_, h.2.2⟩
      · rw [w.1 (t + L.length) (by omega) (by omega), w.1 t t0 (by omega), hb]
      · refine h.1 g1 K2 ((w.mono (by omega) (by omega)).trans w2) a2 b2 c2 (fun x x0 x5 => ?_)
        rw [d2 x x0 x5, nml_cons]
        cases hl : nml D L x with
        | true => rw [if_pos rfl, Bool.or_true, if_pos rfl]
        | false =>
          rw [if_neg (by simp), Bool.or_false, d x x0 x5]
          have := al_nm (D := D) L (fun d hd t ht => hnm d (List.mem_cons_of_mem _ hd) x x0 x5 t ht) (M c.1 c.2 (s, bd)).2 hl
          rw [this]
      · refine h.2.1 g1 K2 ((w.mono (by omega) (by omega)).trans w2) b2 c2 (fun x x0 x5 hx => ?_)
        rw [nml_cons, Bool.or_eq_false_iff] at hx
        rw [d2 x x0 x5 hx.2, d x x0 x5]
        exact if_neg (show ¬ (hs (D 17 c.1) x = true) by rw [hx.1]; simp)
    · rw [if_neg (by omega)] at e1
      subst e1
      refine h.2.1 h1 K' (w.mono (by omega) (by omega)) b c' (fun x x0 x5 hx => ?_)
      rw [nml_cons, Bool.or_eq_false_iff] at hx
      exact d x x0 x5 hx.1
    · rw [if_neg (by omega)] at e1
      subst e1
      exact h.2.2 h1
theorem chs_nil {D : ZD} {n p j : Int} (h : chl D n = []) : chs D n p j = [] := by
  have := chs_fst (D := D) (n := n) (p := p) (j := j)
  rw [h] at this
  exact List.map_eq_nil_iff.mp this
/-- a head at its place -/
theorem w6_stepHead {σ : Type} {D : ZD} {A V : Int → Int → σ → Int × σ} {C : σ → σ} {Iv As : ZG → σ → Prop} {T : Nat → Int → Int → Prop} {b : Bool} (E : ME D A V C Iv As T b) (hM : MIp D) {H : ZG} {n p k t : Int} {d : Nat} {s : σ} {Q : Int → ZG → Prop} (h0 : 0 ≤ n) (h1 : n < D 9 0) (hf : D 10 n = 2 ∨ D 10 n = 3 ∨ D 10 n = 6) (hI : Iv H s) (hp : T d p k) (hd3 : d ≤ 3) (hk : D 10 n = 6 → k = 5) (ht : zsg H 5 34 0 = t) (t0 : 0 ≤ t) (t1 : t < 240)
    (hA : (A p k s).1 = -1 → ∀ K', Iv K' (A p k s).2 → As K' (A p k s).2 → Q 2 K')
    (hN : (A p k s).1 ≠ -1 → rgt D n (A p k s).1 = false → ∀ K', (∀ j, 32 ≤ j → j ≤ 39 → zsg K' 5 j = zsg H 5 j) → Iv K' (A p k s).2 → Q 1 K')
    (hY : ∀ L, L = chs D n p (if D 10 n = 6 then begl D n (A p k s).1 else 0) → (A p k s).1 ≠ -1 → rgt D n (A p k s).1 = true → ∀ K', (∀ j, 35 ≤ j → j ≤ 39 → zsg K' 5 j = zsg H 5 j) → (∀ u, 0 ≤ u → u ≤ t → sth K' u = sth H u) → zsg K' 5 34 0 = t + (L.length : Int) → sth K' (t + (L.length : Int)) = sth H t ++ L.reverse → Iv K' (A p k s).2 → Q 0 K') : vX6_matches n p H Q := by
  have m9 := hM.2.1
  have hpw := hM.2.2 n h0 h1
  have dt := E.dt hI
  have har := E.ar s hp hd3
  have hpr := apl_r _ (pl_apl hd3 (E.tr hp hd3))
  unfold vX6_matches
  refine zaL_i h0 (by omega) ?_
  rw [dt 10 (by omega) (by omega), zbr_neg (by omega), zbr_neg (by omega), zbr_neg (by omega), zbr_neg (by omega)]
  refine E.fact hI hp hd3 (fun K1 mo1 hK1 => ?_)
  have hI1 : Iv K1 s := E.st hI mo1 (fun j j1 j2 => hK1 j (by omega))
  unfold vX6_isAsked
  rw [zjn_e]
  dsimp only [zjn]
  by_cases ha : (A p k s).1 = -1
  · rw [if_pos ha, zbr_neg (by omega), zpF_e, zpF_e, zbr_neg (by omega), zbr_neg (by omega)]
    have := E.asA hI1 hp hd3 ha
    exact hA ha _ this.1 this.2
  · rw [if_neg ha, zbr_pos (by omega), zbr_pos (by omega), zbr_pos rfl]
    refine tick_e (E.re hI1) ?_
    have hI' := E.tkA hI1 hp hd3 ha
    have hK2 : ∀ j, j ≠ 45 → j ≠ 47 → zsg (zss K1 5 47 0 (w32 (zsg K1 5 47 0 + bb b))) 5 j = zsg H 5 j := fun j j1 j2 => by rw [z5_ne j2, hK1 j j1]
    generalize zss K1 5 47 0 (w32 (zsg K1 5 47 0 + bb b)) = K' at hI' hK2
    have dt' := E.dt hI'
    refine w6_right hM h0 h1 dt' ?_
    cases hr : rgt D n (A p k s).1 with
    | false =>
      rw [zbr_pos (show bb false = 0 from rfl), zbr_pos (show bb false = 0 from rfl)]
      exact hN ha hr K' (fun j j0 j1 => hK2 j (by omega) (by omega)) hI'
    | true =>
      have hs2 : ∀ u, sth K' u = sth H u := fun u => sth_congr (fun j _ _ => by rw [hK2 32 (by omega) (by omega), hK2 33 (by omega) (by omega)]; exact ⟨rfl, rfl⟩)
      rw [zbr_neg (by simp [bb])]
      refine zaL_i h0 (by omega) ?_
      rw [dt' 10 (by omega) (by omega)]
      by_cases h2 : D 10 n = 2
      · rw [zbr_pos h2, zbr_neg (by simp [bb])]
        have hn := hY [] (chs_nil (hpw.2.2.2.2.2.2.2.2.2.2.2.2.2.1 h2).2.2.2.2.1).symm ha hr K' (fun j j0 j1 => hK2 j (by omega) (by omega)) (fun u _ _ => hs2 u)
        refine hn (by rw [hK2 34 (by omega) (by omega), ht]; simp) ?_ hI'
        rw [List.length_nil, List.reverse_nil, List.append_nil, show t + ((0 : Nat) : Int) = t by omega]; exact hs2 t
      · rw [zbr_neg h2]
        refine w6_parts hM h0 h1 ⟨by omega, by omega⟩ (fun h6 => ?_) dt' (by rw [hK2 34 (by omega) (by omega), ht]) t0 (by omega) (fun K2 mo2 hKK htt hu hs => ?_)
        · have c6 := hpw.2.2.2.2.2.2.2.2.2.2.2.2.2.2.2.2.2 h6
          have hfit : fitl D n (A p k s).1 = true := by unfold rgt at hr; rw [if_neg (by omega), if_neg (by omega)] at hr; exact hr
          have := begl_r hfit c6.1
          have := har.2.2 (hk h6)
          omega
        · rw [zbr_neg (by simp [bb])]
          refine hY _ rfl ha hr K2 (fun j j0 j1 => by rw [hKK j (by omega) (by omega) (by omega), hK2 j (by omega) (by omega)]) (fun u u0 u1 => by rw [hu u u0 u1, hs2 u]) htt (by rw [← htt, hs, hs2 t]) (E.st hI' mo2 (fun j j1 j2 => hKK j (by omega) (by omega) (by omega)))
