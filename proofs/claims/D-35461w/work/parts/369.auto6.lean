/-! COMPONENT: codes of a list are written -/
set_option maxRecDepth 100000
def St (m l : Int) (k : Nat) (u : Int) : Int := m + 5 + 5 * (((u - l).toNat * (2 + k) : Nat) : Int)
theorem St_0 {m l : Int} {k : Nat} : St m l k l = m + 5 := by unfold St; rw [show (l - l).toNat = 0 by omega, Nat.zero_mul]; simp
theorem St_s {m l u : Int} {k : Nat} (h : l ≤ u) : St m l k (u + 1) = St m l k u + 10 + 5 * (k : Int) := by
  unfold St
  rw [show (u + 1 - l).toNat = (u - l).toNat + 1 by omega, Nat.succ_mul]
  generalize (u - l).toNat * (2 + k) = z
  push_cast; omega
theorem St_le {m l u v : Int} {k : Nat} (h : u ≤ v) : St m l k u ≤ St m l k v := by
  unfold St
  have := Nat.mul_le_mul_right (2 + k) (show (u - l).toNat ≤ (v - l).toNat by omega)
  omega
theorem St_lt {m l u v : Int} {k : Nat} (h0 : l ≤ u) (h : u < v) : St m l k u + 10 + 5 * (k : Int) ≤ St m l k v := by
  have := St_le (m := m) (l := l) (k := k) (show u + 1 ≤ v by omega)
  rw [St_s h0] at this
  exact this
theorem St_5 {m l u : Int} {k : Nat} : (St m l k u - m) % 5 = 0 := by unfold St; omega
/-- the codes for one length -/
def Sg (D : ZD) (M : Int → Int) (I : Int → Int → Int → Int → Prop) (n p m l : Int) (k : Nat) (u : Int) : Prop :=
  M (St m l k u) = 7 ∧ M (St m l k u + 1) = p ∧ M (St m l k u + 2) = u ∧ M (St m l k u + 4) = St m l k u + 10 + 5 * (k : Int) ∧ ImL I (chs D n p (u - D 11 n)) (St m l k u + 5) (St m l k u + 5 + 5 * (k : Int)) ∧ M (St m l k u + 5 + 5 * (k : Int)) = 5
theorem Am.other {G : ZG} {N m : Int} {M : Int → Int} (h : Am G N m M) {b : Nat} (hb : ¬ cod G b) (c : ZC) : Am (zsc G b c) N m M := by
  obtain ⟨a, l, hc, hj, hN, hm, hM⟩ := h
  exact ⟨a, l, hc, by rw [zsj_ne (fun e => hb (by rw [← e]; exact hc))]; exact hj, hN, hm, hM⟩
theorem Kp.fresh {G K : ZG} (h : Kp G K) {b : Nat} (hb : zsj G b = none) (c : ZC) : Kp G (zsc K b c) := ⟨fun x h1 h2 => by rw [zsj_ne (fun e => h2 (by rw [e]; exact hb))]; exact h.1 x h1 h2, h.2.1, fun x hx => h.2.2 x (by
    rw [zsj_sc] at hx
    by_cases e : x = b
    · rw [if_pos e] at hx; cases hx
    · rw [if_neg e] at hx; exact hx)⟩
/-- a cell of ours that is no codes -/
def Own (K : ZG) (b : Nat) (l : List Int) : Prop := ¬ cod K b ∧ zsj K b = some (.inl (0, l))
theorem Own.kp {K K' : ZG} {b : Nat} {l : List Int} (h : Own K b l) (k : Kp K K') : Own K' b l := by
  have h2 : zsj K b ≠ none := by rw [h.2]; simp
  exact ⟨fun z => (k.2.1 b z).elim h.1 h2, by rw [k.1 b h.1 h2]; exact h.2⟩
theorem Own.set {G0 K : ZG} {b : Nat} {l : List Int} (hS : Sep G0) (h : Own K b l) (hF : Fr [4] G0 K) (hb : zsj G0 b = none) {i : Int} (h0 : 0 ≤ i) (h1 : i.toNat < l.length) (v : Int) {Q : ZG → Prop} (hQ : ∀ K', K' = zsc K b (.inl (0, l.set i.toNat v)) → Fr [4] G0 K' → Own K' b (l.set i.toNat v) → Q K') : zeS K (some (.inl b)) i v Q := by
  refine zeS_i h.2 h0 h1 (hQ _ rfl (hF.fresh hS hb (fun c' e => ?_)) ⟨h.1, zsj_eq _ _ _⟩)
  rw [h.2] at e; cases e; rfl
/-- the codes of all lengths, when what is behind them is known -/
theorem ImB_of {D : ZD} {M : Int → Int} {I : Int → Int → Int → Int → Prop} {n p m l : Int} {k : Nat} (h : ∀ u, l ≤ u → u < 4 → Sg D M I n p m l k u ∧ M (St m l k u + 5 + 5 * (k : Int) + 4) = St m l k 4) : ∀ (v : Nat), l ≤ 4 - (v : Int) → ImB D M I n p (St m l k 4) v (St m l k (4 - (v : Int)))
  | 0, _ => by
    show St m l k (4 - ((0 : Nat) : Int)) = St m l k 4
    rw [show (4 : Int) - ((0 : Nat) : Int) = 4 by omega]
  | v + 1, hv => by
    have ev : (4 : Int) - ((v + 1 : Nat) : Int) = 4 - ((v : Int) + 1) := by push_cast; rfl
    have ih := ImB_of h v (by omega)
    rw [ev]
    obtain ⟨⟨s1, s2, s3, s4, s5, s6⟩, sj⟩ := h (4 - ((v : Int) + 1)) (by omega) (by omega)
    have es := St_s (m := m) (l := l) (k := k) (u := 4 - ((v : Int) + 1)) (by omega)
    rw [show (4 : Int) - ((v : Int) + 1) + 1 = 4 - (v : Int) by omega] at es
    refine ⟨St m l k (4 - ((v : Int) + 1)) + 5 + 5 * (k : Int), s1, s2, s3, by rw [s4]; omega, s5, by omega, s6, sj, ?_⟩
    rw [show St m l k (4 - ((v : Int) + 1)) + 5 + 5 * (k : Int) + 5 = St m l k (4 - (v : Int)) by omega]
    exact ih
/-- the jumps behind the lengths are led to the end -/
theorem w5_jumps {G0 G1 : ZG} {N m l : Int} {k b : Nat} {M : Int → Int} {js : List Int} {kc0 ks0 : Nat} {Q : ZG → Prop} (hF : Fr [4] G0 G1) (hA : Am G1 N (St m l k 4) M) (m0 : 0 ≤ m) (l0 : 0 ≤ l) (l4 : l ≤ 4) (hN : St m l k 4 ≤ N) (hN2 : N ≤ 32000) (ho : Own G1 b js) (hjs : ∀ u, l ≤ u → u < 4 → js[u.toNat]? = some (St m l k u + 5 + 5 * (k : Int)))
    (hQ : ∀ G' M', Fr [4] G0 G' → Am G' N (St m l k 4) M' → (∀ i, (∀ u, l ≤ u → u < 4 → i ≠ St m l k u + 5 + 5 * (k : Int) + 4) → M' i = M i) → (∀ u, l ≤ u → u < 4 → M' (St m l k u + 5 + 5 * (k : Int) + 4) = St m l k 4) → Kp G1 G' → Q G') :
    zl4 (fun (P121 : Int → ZG → Nat → Nat → Prop) (a121_5 : Int) (K121 : ZG) (kc ks : Nat) => zbr (3 < a121_5) (Q K121) (zgU K121 4 0 fun (x11 : ZR) => zeI K121 (some (.inl b)) a121_5 fun (x12 : Int) => zgF K121 4 1 fun (x13 : Int) => zeS K121 x11 (w32 (x12 + 4)) x13 fun (G3 : ZG) => zlt1 (w32 (a121_5 + 1)) fun (x14 : Int) => P121 x14 G3 kc ks)) l G1 kc0 ks0 := by
  refine zl4_of (fun u K _ _ => l ≤ u ∧ u ≤ 4 ∧ Fr [4] G0 K ∧ Own K b js ∧ Kp G1 K ∧ ∃ M', Am K N (St m l k 4) M' ∧ (∀ i, (∀ v, l ≤ v → v < u → i ≠ St m l k v + 5 + 5 * (k : Int) + 4) → M' i = M i) ∧ (∀ v, l ≤ v → v < u → M' (St m l k v + 5 + 5 * (k : Int) + 4) = St m l k 4)) (fun u _ _ _ => (4 - u).toNat) (fun P u K kc ks hI hPP => ?_) ⟨by omega, l4, hF, ho, Kp.refl G1, M, hA, fun _ _ => rfl, fun v v0 v1 => by omega⟩
  obtain ⟨u0, u4, f, ow, kp, M', am, h1, h2⟩ := hI
  refine zbr_i (fun hu => ?_) (fun hu => ?_)
  · have : u = 4 := by omega
    subst this
    exact hQ K M' f am h1 h2 kp
  · have hs := hjs u u0 (by omega)
    have hlt := St_lt (m := m) (k := k) u0 (show u < 4 by omega)
    have hge : m + 5 ≤ St m l k u := by unfold St; omega
    rw [zgU_e]
    refine zeI_i ow.2 (by omega) hs ?_
    rw [zgF_e, am.m, w32_eq (x := St m l k u + 5 + 5 * (k : Int) + 4) (by omega) (by omega)]
    refine am.set f (by omega) (by omega) _ (fun G' f' am' kp' => ?_)
    rw [zlt1_e, w32_eq (by omega) (by omega)]
    refine hPP _ _ _ _ ⟨by omega, by omega, f', ow.kp kp', kp.trans kp', _, am', fun i hi => ?_, fun v v0 v1 => ?_⟩ (by omega)
    · rw [if_neg (hi u u0 (by omega)), h1 i (fun v v0 v1 => hi v v0 (by omega))]
    · by_cases e : v = u
      · subst e; rw [if_pos rfl]
      · have := St_lt (m := m) (k := k) v0 (show v < u by omega)
        rw [if_neg (by omega), h2 v v0 (by omega)]
theorem w5_lens {G0 G1 : ZG} {D : ZD} {W : ZR → Int → Nat → Nat → ZG → (ZG → Prop) → Prop} {WA : ZR → Int → Int → Nat → Nat → ZG → (ZG → Prop) → Prop} {I : (Int → Int) → Int → Int → Int → Int → Int → Prop} {a c : Nat} {l0 : List ZR} {n p N m : Int} {M : Int → Int} {kS jS : Nat} {mc ms kc0 ks0 : Nat} {Q : ZG → Prop} (hS : Sep G0)
    (hc0 : HI G0 a (.inr (.inr (15, [.inr (some (.inl c)), .inl (D 12 n)])))) (hl0 : HI G0 c (.inr (.inl (4, l0)))) (hlen : (l0.length : Int) = D 11 n) (r0 : 0 ≤ D 11 n) (r2 : D 11 n ≤ 2) (h12 : D 12 n = 2)
    (hle : ∀ M n p a b fl, I M n p a b fl → a ≤ b ∧ (b - a) % 5 = 0) (ich : ∀ n p, Ich (fun M a b fl => I M n p a b fl))
    (hAll : ∀ j, 0 ≤ j → j ≤ 3 - D 11 n → Wr G0 (WA (some (.inl c)) p j) kS jS (fun M a b fl => ImL (fun n p a b => I M n p a b fl) (chs D n p j) a b))
    (hF : Fr [4] G0 G1) (hN : gN N) (m0 : 0 ≤ m) (hA : Am G1 (gr N (m + 5)) (m + 5) M) (m2 : St m (D 11 n) kS 4 ≤ 32000) (hkc : kc0 = gc N (m + 5) + 1) (hks : ks0 = gs N (m + 5) + 4) (hmc : gc N (St m (D 11 n) kS 4) + (1 + (4 - D 11 n).toNat * jS) ≤ mc) (hms : gs N (St m (D 11 n) kS 4) + 4 * (1 + (4 - D 11 n).toNat * jS) ≤ ms)
    (hQ : ∀ G' M', Fr [4] G0 G' → Am G' (gr N (St m (D 11 n) kS 4)) (St m (D 11 n) kS 4) M' → (∀ i, i < m + 5 → M' i = M i) → ImB D M' (fun n p a b => I M' n p a b (-1)) n p (St m (D 11 n) kS 4) (4 - D 11 n).toNat (m + 5) → Kp G1 G' → Q G') :
    znI0 G1 0 4 4 fun (x10 : ZR) (G2 : ZG) => zl4 (fun (P53 : Int → ZG → Nat → Nat → Prop) (a53_5 : Int) (K53 : ZG) (kc ks : Nat) => zbr (3 < a53_5) (zl4 (fun (P121 : Int → ZG → Nat → Nat → Prop) (a121_5 : Int) (K121 : ZG) (kc ks : Nat) => zbr (3 < a121_5) (Q K121) (zgU K121 4 0 fun (x11 : ZR) => zeI K121 x10 a121_5 fun (x12 : Int) => zgF K121 4 1 fun (x13 : Int) => zeS K121 x11 (w32 (x12 + 4)) x13 fun (G3 : ZG) => zlt1 (w32 (a121_5 + 1)) fun (x14 : Int) => P121 x14 G3 kc ks)) (D 11 n) K53 kc ks) (∃ k15 n15 : Nat, (kc + k15 ≤ mc ∧ ks + n15 ≤ ms) ∧ vX5_put 7 p a53_5 0 k15 n15 K53 fun (x16 : Int) (G4 : ZG) => zisO G4 (some (.inl a)) 15 ∧ vX15_items (some (.inl a)) G4 fun (x18 : ZR) => zisO G4 (some (.inl a)) 15 ∧ vX15_beginning (some (.inl a)) a53_5 G4 fun (x20 : Int) => ∃ k21 n21 : Nat, ((kc + k15) + k21 ≤ mc ∧ (ks + n15) + n21 ≤ ms) ∧ WA x18 p x20 k21 n21 G4 fun (G5 : ZG) => ∃ k22 n22 : Nat, (((kc + k15) + k21) + k22 ≤ mc ∧ ((ks + n15) + n21) + n22 ≤ ms) ∧ vX5_put 5 0 0 0 k22 n22 G5 fun (x23 : Int) (G6 : ZG) => zeS G6 x10 a53_5 x23 fun (G7 : ZG) => zgU G7 4 0 fun (x24 : ZR) => zgF G7 4 1 fun (x25 : Int) => zeS G7 x24 (w32 (x16 + 4)) x25 fun (G8 : ZG) => zlt1 (w32 (a53_5 + 1)) fun (x26 : Int) => P53 x26 G8 (((kc + k15) + k21) + k22) (((ks + n15) + n21) + n22))) (D 11 n) G2 kc0 ks0 := by
  have N2 := gN2 hN
  have hlL : ∀ (M : Int → Int) (fl : Int) (L : List (Int × Int)) (x y : Int), ImL (fun n p a b => I M n p a b fl) L x y → x ≤ y ∧ (y - x) % 5 = 0 := fun M fl L x y h => ImL_le (fun e _ x y z => hle M e.1 e.2 x y fl z) h
  have sameL : ∀ (M M' : Int → Int) (fl : Int) (L : List (Int × Int)) (x y : Int), 0 ≤ x → (∀ i, x ≤ i → i < y → M' i = M i) → ImL (fun n p a b => I M n p a b fl) L x y → ImL (fun n p a b => I M' n p a b fl) L x y := fun M M' fl L x y x0 he h => by
    refine ImL_ch (lo := x) (hi := y) (fun e _ x y z => hle M e.1 e.2 x y fl z) (fun e _ u v z1 z2 z3 z4 => (ich e.1 e.2).same (by omega) (hle M e.1 e.2 u v fl z4).2 (fun i i0 i1 => he i (by omega) (by omega)) z4) (Int.le_refl _) (by omega) (Int.le_refl _) h
  have sameS : ∀ (M M' : Int → Int) (u : Int), D 11 n ≤ u → (∀ i, St m (D 11 n) kS u ≤ i → i < St m (D 11 n) kS u + 5 + 5 * (kS : Int) + 4 → M' i = M i) → Sg D M (fun n p a b => I M n p a b (-1)) n p m (D 11 n) kS u → Sg D M' (fun n p a b => I M' n p a b (-1)) n p m (D 11 n) kS u := fun M M' u hu he h => by
    obtain ⟨h1, h2, h3, h4, h5, h6⟩ := h
    have hge : m + 5 ≤ St m (D 11 n) kS u := by unfold St; omega
    exact ⟨by rw [he _ (by omega) (by omega), h1], by rw [he _ (by omega) (by omega), h2], by rw [he _ (by omega) (by omega), h3], by rw [he _ (by omega) (by omega), h4], sameL M M' (-1) _ _ _ (by omega) (fun i i0 i1 => he i (by omega) (by omega)) h5, by rw [he _ (by omega) (by omega), h6]⟩
  refine ⟨by omega, by omega, fun b hb => ?_⟩
  have f2 : Fr [4] G0 (zsc G1 b (.inl (0, List.replicate (4 : Int).toNat 0))) := hF.new hS hb
  have hb0 : zsj G0 b = none := hF.1.old hb
  have ncb : ¬ cod G1 b := fun z => by
    obtain ⟨l, hl⟩ := hF.2.1.2.2 b z
    rw [hb] at hl; cases hl
  refine zl4_of (fun u K kc ks => D 11 n ≤ u ∧ u ≤ 4 ∧ Fr [4] G0 K ∧ kc = gc N (St m (D 11 n) kS u) + 1 + (u - D 11 n).toNat * jS ∧ ks = gs N (St m (D 11 n) kS u) + 4 + 4 * ((u - D 11 n).toNat * jS) ∧ Kp G1 K ∧ ∃ M' js, Own K b js ∧ js.length = 4 ∧ Am K (gr N (St m (D 11 n) kS u)) (St m (D 11 n) kS u) M' ∧ (∀ i, i < m + 5 → M' i = M i) ∧ (∀ v, D 11 n ≤ v → v < u → Sg D M' (fun n p a b => I M' n p a b (-1)) n p m (D 11 n) kS v ∧ js[v.toNat]? = some (St m (D 11 n) kS v + 5 + 5 * (kS : Int)))) (fun u _ _ _ => (4 - u).toNat) (fun P u K kc ks hI hPP => ?_) ⟨by omega, by omega, f2, ?_, ?_, (Kp.refl G1).fresh hb _, M, _, ⟨ncb, zsj_eq _ _ _⟩, ?_, ?_, fun _ _ => rfl, fun v v0 v1 => by omega⟩
  · obtain ⟨u0, u4, f, hkc', hks', kp, M', js, ow, hj4, am, lo, hs⟩ := hI
    refine zbr_i (fun hu => ?_) (fun hu => ?_)
    · have : u = 4 := by omega
      subst this
      have g4 := gr_ge N2.1 m2
      refine w5_jumps f am m0 r0 (by omega) g4.1 (gN2 (gr_gN hN m2)).2 ow (fun v v0 v1 => (hs v v0 v1).2) (fun G' M2 f' am' e1 e2 kp' => ?_)
      have ev := ImB_of (D := D) (M := M2) (I := fun n p a b => I M2 n p a b (-1)) (n := n) (p := p) (m := m) (l := D 11 n) (k := kS) (fun v v0 v1 => ⟨sameS M' M2 v v0 (fun i i0 i1 => e1 i (fun w w0 w1 => ?_)) (hs v v0 v1).1, e2 v v0 v1⟩) (4 - D 11 n).toNat (by omega)
      · rw [show (4 : Int) - ((4 - D 11 n).toNat : Int) = D 11 n by omega, St_0] at ev
        refine hQ G' M2 f' am' (fun i hi => ?_) ev (kp.trans kp')
        rw [e1 i (fun w w0 w1 => by have : m + 5 ≤ St m (D 11 n) kS w := by unfold St; omega
                                    omega), lo i hi]
      · by_cases hwv : w < v
        · have := St_lt (m := m) (k := kS) w0 hwv
          omega
        · have := St_le (m := m) (l := D 11 n) (k := kS) (show v ≤ w by omega)
          omega
    · have es := St_s (m := m) (k := kS) u0
      have hge : m + 5 ≤ St m (D 11 n) kS u := by unfold St; omega
      have hlt := St_le (m := m) (l := D 11 n) (k := kS) (show u + 1 ≤ 4 by omega)
      have ej : (u + 1 - D 11 n).toNat * jS = (u - D 11 n).toNat * jS + jS := by rw [show (u + 1 - D 11 n).toNat = (u - D 11 n).toNat + 1 by omega, Nat.succ_mul]
      have ej4 := Nat.mul_le_mul_right jS (show (u + 1 - D 11 n).toNat ≤ (4 - D 11 n).toNat by omega)
      have b1 := gc_le N2.1 hlt m2
      have b2 := gs_le N2.1 hlt m2
      rw [es] at b1 b2
      rw [ej] at ej4
      generalize (u - D 11 n).toNat * jS = uj at *
      generalize (4 - D 11 n).toNat * jS = vj at *
      have hs' := hs
      generalize hq : St m (D 11 n) kS u = q at *
      have x1 : q ≤ 32000 := by omega
      have x2 : q + 5 ≤ 32000 := by omega
      have x3 : q + 5 + 5 * (kS : Int) ≤ 32000 := by omega
      have x4 : q + 10 + 5 * (kS : Int) ≤ 32000 := by omega
      have x5 : q + 5 + 5 * (kS : Int) + 5 = q + 10 + 5 * (kS : Int) := by omega
      have c1 := gc_gc N2.1 (show q ≤ q + 5 by omega) x2
      have c2 := gc_gc N2.1 (show q + 5 ≤ q + 5 + 5 * (kS : Int) by omega) x3
      have c3 := gc_gc N2.1 (show q + 5 + 5 * (kS : Int) ≤ q + 10 + 5 * (kS : Int) by omega) x4
      have s1 := gs_gs N2.1 (show q ≤ q + 5 by omega) x2
      have s2 := gs_gs N2.1 (show q + 5 ≤ q + 5 + 5 * (kS : Int) by omega) x3
      have s3 := gs_gs N2.1 (show q + 5 + 5 * (kS : Int) ≤ q + 10 + 5 * (kS : Int) by omega) x4
      have r1 := gr_gr N2.1 (show q ≤ q + 5 by omega) x2
      have r2 := gr_gr N2.1 (show q + 5 ≤ q + 5 + 5 * (kS : Int) by omega) x3
      have r3 := gr_gr N2.1 (show q + 5 + 5 * (kS : Int) ≤ q + 10 + 5 * (kS : Int) by omega) x4
      have y1 := gr_ge N2.1 x1
      have y2 := gr_ge N2.1 x2
      have y3 := gr_ge N2.1 x3
      have y4 := gr_ge N2.1 x4
      refine ⟨gc (gr N q) (q + 5), gs (gr N q) (q + 5), ⟨by omega, by omega⟩, w5_put hS f am (gr_gN hN x1) (by omega) (by omega) (by omega) (Nat.le_refl _) (Nat.le_refl _) (fun G4 M4 f4 a4 b4 v0 v1 v2 v3 v4 kp4 => ?_)⟩
      rw [r1] at a4
      have hc4 := (f4.hk hc0).1
      refine ⟨zisO_i hc4, ?_⟩
      unfold vX15_items
      rw [zdR_e hc4 rfl]
      refine ⟨zisO_i hc4, w1_begin (D := D) (n := n) r0 u0 (by omega) hc4 (f4.hk hl0).1 hlen ?_⟩
      have eb : begl D n u = u - D 11 n := by unfold begl; rw [if_pos h12]
      rw [eb]
      refine ⟨gc (gr N (q + 5)) (q + 5 + 5 * (kS : Int)) + jS, gs (gr N (q + 5)) (q + 5 + 5 * (kS : Int)) + 4 * jS, ⟨by omega, by omega⟩, ?_⟩
      refine hAll (u - D 11 n) (by omega) (by omega) G4 (gr N (q + 5)) (q + 5) M4 _ _ _ f4 a4 (gr_gN hN x2) (by omega) (by omega) (by omega) (Nat.le_refl _) (Nat.le_refl _) (fun G5 M5 f5 a5 b5 w5 kp5 => ?_)
      rw [r2] at a5
      refine ⟨gc (gr N (q + 5 + 5 * (kS : Int))) (q + 10 + 5 * (kS : Int)), gs (gr N (q + 5 + 5 * (kS : Int))) (q + 10 + 5 * (kS : Int)), ⟨by omega, by omega⟩, w5_put hS f5 a5 (gr_gN hN x3) (by omega) (by omega) (by omega) (by rw [x5]; exact Nat.le_refl _) (by rw [x5]; exact Nat.le_refl _) (fun G6 M6 f6 a6 b6 j0 _ _ _ _ kp6 => ?_)⟩
      rw [x5, r3] at a6
      have ow6 := ((ow.kp kp4).kp kp5).kp kp6
      refine ow6.set hS f6 hb0 (by omega) (by omega) _ (fun G7 e7 f7 ow7 => ?_)
      have a7 : Am G7 (gr N (q + 10 + 5 * (kS : Int))) (q + 10 + 5 * (kS : Int)) M6 := by rw [e7]; exact a6.other ow6.1 _
      have kp7 : Kp G1 G7 := by rw [e7]; exact ((kp.trans kp4).trans (kp5.trans kp6)).fresh hb _
      rw [zgU_e, zgF_e, a7.m, w32_eq (x := q + 4) (by omega) (by omega)]
      refine a7.set f7 (by omega) (by omega) _ (fun G8 f8 a8 kp8 => ?_)
      rw [zlt1_e, w32_eq (by omega) (by omega)]
      refine hPP _ _ _ _ ⟨by omega, by omega, f8, by rw [es, ej]; omega, by rw [es, ej]; omega, kp7.trans kp8, _, _, ow7.kp kp8, by rw [List.length_set]; exact hj4, by rw [es]; exact a8, fun i hi => ?_, fun v v0' v1' => ⟨?_, ?_⟩⟩ (by omega)
      · rw [if_neg (by omega), b6 i (by omega), b5 i (by omega), b4 i (by omega), lo i hi]
      · by_cases hv : v = u
        · subst hv
          unfold Sg
          rw [hq]
          dsimp only
          refine ⟨?_, ?_, ?_, ?_, ?_, ?_⟩
          · rw [if_neg (by omega), b6 _ (by omega), b5 _ (by omega), v0]
          · rw [if_neg (by omega), b6 _ (by omega), b5 _ (by omega), v1]
          · rw [if_neg (by omega), b6 _ (by omega), b5 _ (by omega), v2]
          · rw [if_pos rfl]
          · exact sameL M5 _ (-1) _ _ _ (by omega) (fun i i0 i1 => by rw [if_neg (by omega), b6 i (by omega)]) w5
          · rw [if_neg (by omega), j0]
        · have hvu : v < u := by omega
          have := St_lt (m := m) (k := kS) v0' hvu
          rw [hq] at this
          refine sameS M' _ v v0' (fun i i0 i1 => ?_) (hs' v v0' hvu).1
          rw [if_neg (by omega), b6 i (by omega), b5 i (by omega), b4 i (by omega)]
      · rw [List.getElem?_set]
        by_cases hv : v = u
        · subst hv
          rw [if_pos rfl, if_pos (by omega), hq]
        · rw [if_neg (by omega)]
          exact (hs' v v0' (by omega)).2
  · rw [St_0, show (D 11 n - D 11 n).toNat = 0 by omega, Nat.zero_mul]; exact hkc
  · rw [St_0, show (D 11 n - D 11 n).toNat = 0 by omega, Nat.zero_mul]; exact hks
  · rw [List.length_replicate]; rfl
  · rw [St_0]; exact hA.other ncb _
theorem w5_list {G0 : ZG} {D : ZD} {W : ZR → Int → Nat → Nat → ZG → (ZG → Prop) → Prop} {WA : ZR → Int → Int → Nat → Nat → ZG → (ZG → Prop) → Prop} {WL : ZR → Int → Nat → Nat → ZG → (ZG → Prop) → Prop} {I : (Int → Int) → Int → Int → Int → Int → Int → Prop} {a c : Nat} {l0 : List ZR} {n p : Int} {kS jS : Nat} (hS : Sep G0)
    (hc0 : HI G0 a (.inr (.inr (15, [.inr (some (.inl c)), .inl (D 12 n)])))) (hl0 : HI G0 c (.inr (.inl (4, l0)))) (hlen : (l0.length : Int) = D 11 n) (r0 : 0 ≤ D 11 n) (r2 : D 11 n ≤ 2)
    (hle : ∀ M n p a b fl, I M n p a b fl → a ≤ b ∧ (b - a) % 5 = 0) (ich : ∀ n p, Ich (fun M a b fl => I M n p a b fl))
    (hAll : ∀ j, 0 ≤ j → j ≤ 3 - D 11 n → Wr G0 (WA (some (.inl c)) p j) kS jS (fun M a b fl => ImL (fun n p a b => I M n p a b fl) (chs D n p j) a b)) :
    Wr G0 (bX5_writeList W WA WL (some (.inl a)) p) (1 + if D 12 n = 2 then (4 - D 11 n).toNat * (2 + kS) else kS) (if D 12 n = 2 then 1 + (4 - D 11 n).toNat * jS else jS)
      (fun M a b fl => M a = 2 ∧ M (a + 1) = p ∧ M (a + 2) = D 11 n ∧ M (a + 3) = (if D 12 n = 0 then D 11 n else 3) ∧ M (a + 4) = fl ∧ (if D 12 n = 2 then ImB D M (fun n p a b => I M n p a b fl) n p b (4 - D 11 n).toNat (a + 5) else ImL (fun n p a b => I M n p a b fl) (chs D n p 0) (a + 5) b)) := by
  intro G N m M mc ms Q hF hA hN m0 m1 m2 hmc hms hQ
  have N2 := gN2 hN
  have hc := (hF.hk hc0).1
  have hl := (hF.hk hl0).1
  have e5 : m + 5 ≤ m + 5 * ((1 + (if D 12 n = 2 then (4 - D 11 n).toNat * (2 + kS) else kS) : Nat) : Int) := by omega
  have bc := gc_le N2.1 e5 m2
  have bs := gs_le N2.1 e5 m2
  have g1 := gr_ge N2.1 (show m + 5 ≤ 32000 by omega)
  unfold bX5_writeList
  refine ⟨zisO_i hc, ?_⟩
  unfold vX15_items
  rw [zdR_e hc rfl]
  refine zeN_r hl ⟨zisO_i hc, ?_⟩
  unfold vX15_rest
  rw [zdI_e hc rfl, hlen]
  dsimp only [zjn]
  refine zbr_i (fun hz => ?_) (fun hz => ?_)
  · refine ⟨gc N (m + 5), gs N (m + 5), ⟨by omega, by omega⟩, w5_put hS hF hA hN m0 m1 (by omega) (Nat.le_refl _) (Nat.le_refl _) (fun G1 M1 f1 a1 b1 v0 v1 v2 v3 v4 kp1 => ?_)⟩
    have hc1 := (f1.hk hc0).1
    refine ⟨zisO_i hc1, ?_⟩
    rw [zdI_e hc1 rfl]
    refine zbr_i (fun h2 => ?_) (fun h2 => ?_)
    · rw [if_pos h2] at m2 hmc hms hQ bc bs e5
      rw [if_pos h2] at hmc hms
      have e4 : m + 5 * ((1 + (4 - D 11 n).toNat * (2 + kS) : Nat) : Int) = St m (D 11 n) kS 4 := by
        unfold St
        generalize (4 - D 11 n).toNat * (2 + kS) = z
        push_cast; omega
      rw [e4] at m2 hmc hms hQ bc bs e5
      refine ⟨⟨by omega, by omega⟩, ?_⟩
      refine w5_lens (D := D) (n := n) (W := W) hS hc0 hl0 hlen r0 r2 h2 hle ich hAll f1 hN m0 a1 m2 (by omega) (by omega) hmc hms (fun G' M' f' a' b' im kp => ?_)
      refine hQ G' M' f' a' (fun i hi => by rw [b' i (by omega), b1 i hi]) ?_ (kp1.trans kp)
      refine ⟨by rw [b' _ (by omega), v0], by rw [b' _ (by omega), v1], by rw [b' _ (by omega), v2], by rw [b' _ (by omega), v3, if_neg hz], by rw [b' _ (by omega), v4], ?_⟩
      rw [if_pos h2]
      exact im
    · rw [if_neg h2] at m2 hmc hms hQ bc bs e5
      rw [if_neg h2] at hmc hms
      refine ⟨zisO_i hc1, ?_⟩
      rw [zdR_e hc1 rfl]
      have ek : m + 5 + 5 * (kS : Int) = m + 5 * ((1 + kS : Nat) : Int) := by push_cast; omega
      have cc := gc_gc N2.1 e5 m2
      have ss := gs_gs N2.1 e5 m2
      have rr := gr_gr N2.1 e5 m2
      refine ⟨gc (gr N (m + 5)) (m + 5 * ((1 + kS : Nat) : Int)) + jS, gs (gr N (m + 5)) (m + 5 * ((1 + kS : Nat) : Int)) + 4 * jS, ⟨by omega, by omega⟩, ?_⟩
      refine hAll 0 (by omega) (by omega) G1 (gr N (m + 5)) (m + 5) M1 _ _ _ f1 a1 (gr_gN hN (by omega)) (by omega) (by omega) (by omega) (by rw [ek]; omega) (by rw [ek]; omega) (fun G' M' f' a' b' im kp => ?_)
      rw [ek, rr] at a'
      rw [ek] at im
      refine hQ G' M' f' a' (fun i hi => by rw [b' i (by omega), b1 i hi]) ?_ (kp1.trans kp)
      refine ⟨by rw [b' _ (by omega), v0], by rw [b' _ (by omega), v1], by rw [b' _ (by omega), v2], by rw [b' _ (by omega), v3, if_neg hz], by rw [b' _ (by omega), v4], ?_⟩
      rw [if_neg h2]
      exact im
  · have hz := Decidable.of_not_not hz
    refine ⟨gc N (m + 5), gs N (m + 5), ⟨by omega, by omega⟩, w5_put hS hF hA hN m0 m1 (by omega) (Nat.le_refl _) (Nat.le_refl _) (fun G1 M1 f1 a1 b1 v0 v1 v2 v3 v4 kp1 => ?_)⟩
    have hc1 := (f1.hk hc0).1
    refine ⟨zisO_i hc1, ?_⟩
    rw [zdI_e hc1 rfl, zbr_neg (by omega)]
    rw [if_neg (show ¬ D 12 n = 2 by omega)] at m2 hmc hms hQ bc bs e5
    rw [if_neg (show ¬ D 12 n = 2 by omega)] at hmc hms
    refine ⟨zisO_i hc1, ?_⟩
    rw [zdR_e hc1 rfl]
    have ek : m + 5 + 5 * (kS : Int) = m + 5 * ((1 + kS : Nat) : Int) := by push_cast; omega
    have cc := gc_gc N2.1 e5 m2
    have ss := gs_gs N2.1 e5 m2
    have rr := gr_gr N2.1 e5 m2
    refine ⟨gc (gr N (m + 5)) (m + 5 * ((1 + kS : Nat) : Int)) + jS, gs (gr N (m + 5)) (m + 5 * ((1 + kS : Nat) : Int)) + 4 * jS, ⟨by omega, by omega⟩, ?_⟩
    refine hAll 0 (by omega) (by omega) G1 (gr N (m + 5)) (m + 5) M1 _ _ _ f1 a1 (gr_gN hN (by omega)) (by omega) (by omega) (by omega) (by rw [ek]; omega) (by rw [ek]; omega) (fun G' M' f' a' b' im kp => ?_)
    rw [ek, rr] at a'
    rw [ek] at im
    refine hQ G' M' f' a' (fun i hi => by rw [b' i (by omega), b1 i hi]) ?_ (kp1.trans kp)
    refine ⟨by rw [b' _ (by omega), v0], by rw [b' _ (by omega), v1], by rw [b' _ (by omega), v2], by rw [b' _ (by omega), v3, if_pos hz], by rw [b' _ (by omega), v4], ?_⟩
    rw [if_neg (show ¬ D 12 n = 2 by omega)]
    exact im
