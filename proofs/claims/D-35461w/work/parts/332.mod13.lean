/-! REFERENCE: guards -/
set_option maxRecDepth 100000
def kf (D : ZD) (n k i : Int) : Int := if D 10 n = 3 then D 3 (3 * D 11 n + i) else if D 10 n = 6 then 4 else k
/-- numbers alone, as the reference walks -/
def nmq (D : ZD) (x : Int) : Nat → Int → Int → Bool
  | 0, _, _ => true
  | f + 1, n, k => (!(decide (D 10 n = 1) && decide (D 11 n = x)) || decide (k = 4)) && (([0, 1, 2] : List Int).all fun i => decide (prt D n i = -1) || nmq D x f (prt D n i) (kf D n k i))
theorem nmq_s (D : ZD) (x : Int) (f : Nat) (n k : Int) : nmq D x (f + 1) n k = ((!(decide (D 10 n = 1) && decide (D 11 n = x)) || decide (k = 4)) && (([0, 1, 2] : List Int).all fun i => decide (prt D n i = -1) || nmq D x f (prt D n i) (kf D n k i))) := rfl
theorem nmi_s (D : ZD) (x : Int) (f : Nat) (n k : Int) : nmi D x (f + 1) n k = (if D 10 n = 1 then (!decide (D 11 n = x) || decide (k = 4)) && nmi D x f (prt D n 0) k
    else if D 10 n = 4 then nmi D x f (prt D n 0) k && nmi D x f (prt D n 1) k
    else if D 10 n = 3 then (([0, 1, 2] : List Int).all fun i => decide (D 2 (D 11 n) ≤ i) || nmi D x f (prt D n i) (D 3 (3 * D 11 n + i)))
    else true) := rfl
theorem all3 (p : Int → Bool) : (([0, 1, 2] : List Int).all p) = (p 0 && (p 1 && p 2)) := by simp [List.all]
theorem nmq_i3 {D : ZD} {x : Int} {f : Nat} {n k : Int} (h : ∀ i, 0 ≤ i → i < 3 → (decide (prt D n i = -1) || nmq D x f (prt D n i) (kf D n k i)) = true) : (([0, 1, 2] : List Int).all fun i => decide (prt D n i = -1) || nmq D x f (prt D n i) (kf D n k i)) = true := by
  rw [all3, h 0 (by omega) (by omega), h 1 (by omega) (by omega), h 2 (by omega) (by omega)]; rfl
theorem hs_z {x : Int} (h0 : 0 ≤ x) (h1 : x < 6) : hs 0 x = false := by
  have e := bits_has ⟨0, by omega⟩ ⟨x.toNat, by omega⟩
  simp only at e
  rw [show ((x.toNat : Nat) : Int) = x by omega] at e
  rw [show (0 : Int) = ((0 : Nat) : Int) from rfl, e, Nat.zero_testBit]
theorem nmq_bare {D : ZD} {x : Int} (hM : MIp D) (x0 : 0 ≤ x) (x1 : x < 6) : ∀ (f : Nat) (n k : Int), 0 ≤ n → n < D 9 0 → hs (D 17 n) x = false → nmq D x f n k = true := by
  intro f
  induction f with
  | zero => intros; rfl
  | succ f ih =>
    intro n k h0 h1 hh
    have hpw := hM.2.2 n h0 h1
    have hc := hpw.2.2.2.2.2.2.2.2.2.2.1 x x0 x1
    rw [hh] at hc
    have hc := Bool.or_eq_false_iff.mp hc.symm
    rw [nmq_s, hc.1]
    rw [nmq_i3 (fun i i0 i3 => ?_)]
    · rfl
    · by_cases hp : prt D n i = -1
      · rw [decide_eq_true hp]; rfl
      · have hm := chl_in i0 i3 hp
        have hq := hpw.chl hm
        have := List.any_eq_false.mp hc.2 _ hm
        rw [ih _ _ hq.1 (by omega) (by simpa using this), Bool.or_true]
theorem nmq_4 {D : ZD} {x : Int} (hM : MIp D) (x0 : 0 ≤ x) (x1 : x < 6) : ∀ (f : Nat) (n : Int), 0 ≤ n → n < D 9 0 → fitk D n 4 → nmq D x f n 4 = true := by
  intro f
  induction f with
  | zero => intros; rfl
  | succ f ih =>
    intro n h0 h1 hf
    have hpw := hM.2.2 n h0 h1
    rw [nmq_s, show decide ((4 : Int) = 4) = true from rfl, Bool.or_true]
    rw [nmq_i3 (fun i i0 i3 => ?_)]
    · rfl
    · by_cases hp : prt D n i = -1
      · rw [decide_eq_true hp]; rfl
      · have hm := chl_in i0 i3 hp
        have hq := hpw.chl hm
        obtain ⟨-, -, -, -, -, -, -, -, -, -, -, f0, f1, f2, f3, f4, f5, f6⟩ := hpw
        have hform := (hM.2.2 n h0 h1).1
        have e3 : D 10 n ≠ 3 := fun e => by have := f3 e; unfold fitk at hf; omega
        have e6 : D 10 n ≠ 6 := fun e => by have := f6 e; unfold fitk at hf; omega
        have ekf : kf D n 4 i = 4 := by unfold kf; rw [if_neg e3, if_neg e6]
        rw [ekf, decide_eq_false hp, Bool.false_or]
        by_cases e0 : D 10 n = 0
        · rw [f0 e0] at hm; cases hm
        by_cases e1 : D 10 n = 1
        · have q := f1 e1
          have : i = 0 := by
            rcases (show i = 0 ∨ i = 1 ∨ i = 2 by omega) with h | h | h
            · exact h
            · subst h; exact absurd q.2.2.2.1 hp
            · subst h; exact absurd q.2.2.2.2.1 hp
          subst this
          refine ih _ hq.1 (by omega) ?_
          unfold fitk at hf ⊢; rw [← q.2.2.2.2.2.1]; exact hf
        by_cases e2 : D 10 n = 2
        · rw [(f2 e2).2.2.2.2.1] at hm; cases hm
        by_cases e4 : D 10 n = 4
        · have q := f4 e4
          have qf := q.2.2.2.2.2.1 4 hf
          refine ih _ hq.1 (by omega) ?_
          rcases (show i = 0 ∨ i = 1 ∨ i = 2 by omega) with h | h | h
          · subst h; exact qf.1
          · subst h; exact qf.2
          · subst h; exact absurd q.2.2.1 hp
        · have e5 : D 10 n = 5 := by omega
          have q := f5 e5
          have : i = 0 := by
            rcases (show i = 0 ∨ i = 1 ∨ i = 2 by omega) with h | h | h
            · exact h
            · subst h; exact absurd q.2.2.2.1 hp
            · subst h; exact absurd q.2.2.2.2.1 hp
          subst this
          have hb := (hM.2.2 _ hq.1 (by omega)).2.2.2.2.2.2.2.1 q.2.2.2.2.2.1
          exact nmq_bare hM x0 x1 f _ _ hq.1 (by omega) (by rw [hb]; exact hs_z x0 x1)
theorem chl_nil {D : ZD} {n : Int} (h : chl D n = []) {i : Int} (i0 : 0 ≤ i) (i3 : i < 3) : prt D n i = -1 := by
  by_cases hp : prt D n i = -1
  · exact hp
  · have := chl_in i0 i3 hp; rw [h] at this; cases this
theorem nmq_i {D : ZD} {x : Int} (hM : MIp D) (x0 : 0 ≤ x) (x1 : x < 6) : ∀ (f : Nat) (n k : Int), 0 ≤ n → n < D 9 0 → nmq D x f n k = nmi D x f n k := by
  intro f
  induction f with
  | zero => intros; rfl
  | succ f ih =>
    intro n k h0 h1
    have hpw := hM.2.2 n h0 h1
    have hch : ∀ i, 0 ≤ i → i < 3 → prt D n i ≠ -1 → 0 ≤ prt D n i ∧ prt D n i < D 9 0 := fun i i0 i3 hp => by
      have := hpw.chl (chl_in i0 i3 hp); omega
    have hpw0 := hpw
    obtain ⟨hform, -, -, -, -, -, -, -, -, -, -, f0, f1, f2, f3, f4, f5, f6⟩ := hpw0
    rw [nmq_s, nmi_s]
    by_cases e1 : D 10 n = 1
    · have q := f1 e1
      have hk : kf D n k 0 = k := by unfold kf; rw [if_neg (by omega), if_neg (by omega)]
      rw [if_pos e1, all3, decide_eq_true e1, q.2.2.2.1, q.2.2.2.2.1, hk, decide_eq_false (show ¬ prt D n 0 = -1 by omega), ih _ _ q.2.2.1 (hch 0 (by omega) (by omega) (by omega)).2]
      simp
    · rw [if_neg e1, decide_eq_false e1]
      by_cases e4 : D 10 n = 4
      · have q := f4 e4
        have hk : ∀ i, kf D n k i = k := fun i => by unfold kf; rw [if_neg (by omega), if_neg (by omega)]
        rw [if_pos e4, all3, q.2.2.1, hk, hk, decide_eq_false (show ¬ prt D n 0 = -1 by omega), decide_eq_false (show ¬ prt D n 1 = -1 by omega), ih _ _ q.1 (hch 0 (by omega) (by omega) (by omega)).2, ih _ _ q.2.1 (hch 1 (by omega) (by omega) (by omega)).2]
        simp
      · rw [if_neg e4]
        by_cases e3 : D 10 n = 3
        · have q := (f3 e3).2.2.2.2.2
          have hk : ∀ i, kf D n k i = D 3 (3 * D 11 n + i) := fun i => by unfold kf; rw [if_pos e3]
          rw [if_pos e3]
          have h : ∀ i, 0 ≤ i → i < 3 → (decide (prt D n i = -1) || nmq D x f (prt D n i) (kf D n k i)) = (decide (D 2 (D 11 n) ≤ i) || nmi D x f (prt D n i) (D 3 (3 * D 11 n + i))) := fun i i0 i3 => by
            rw [hk]
            by_cases hi : i < D 2 (D 11 n)
            · have hp := ((q i i0 i3).1 hi).1
              rw [decide_eq_false (show ¬ prt D n i = -1 by omega), decide_eq_false (show ¬ D 2 (D 11 n) ≤ i by omega), ih _ _ hp (hch i i0 i3 (by omega)).2]
            · rw [decide_eq_true ((q i i0 i3).2 (by omega)), decide_eq_true (show D 2 (D 11 n) ≤ i by omega)]; simp
          rw [all3, all3, h 0 (by omega) (by omega), h 1 (by omega) (by omega), h 2 (by omega) (by omega)]; simp
        · rw [if_neg e3, nmq_i3 (fun i i0 i3 => ?_)]
          · simp
          · by_cases hp : prt D n i = -1
            · rw [decide_eq_true hp]; rfl
            · rw [decide_eq_false hp, Bool.false_or]
              have hq := hch i i0 i3 hp
              by_cases e6 : D 10 n = 6
              · have q := (f6 e6).2.2.2.2.2.2 i i0 i3
                have hk : kf D n k i = 4 := by unfold kf; rw [if_neg e3, if_pos e6]
                rw [hk]
                have hi : i < D 11 n := Decidable.byContradiction fun h => hp (q.2 (by omega))
                exact nmq_4 hM x0 x1 f _ hq.1 hq.2 (q.1 hi).2.1
              · have hk : kf D n k i = k := by unfold kf; rw [if_neg e3, if_neg e6]
                rw [hk]
                have hcn : D 10 n = 0 ∨ D 10 n = 2 ∨ D 10 n = 5 := by omega
                rcases hcn with e | e | e
                · exact absurd (chl_nil (f0 e) i0 i3) hp
                · exact absurd (chl_nil (f2 e).2.2.2.2.1 i0 i3) hp
                · have q := f5 e
                  have : i = 0 := by
                    rcases (show i = 0 ∨ i = 1 ∨ i = 2 by omega) with h | h | h
                    · exact h
                    · subst h; exact absurd q.2.2.2.1 hp
                    · subst h; exact absurd q.2.2.2.2.1 hp
                  subst this
                  have hb := (hM.2.2 _ hq.1 hq.2).2.2.2.2.2.2.2.1 q.2.2.2.2.2.1
                  exact nmq_bare hM x0 x1 f _ _ hq.1 hq.2 (by rw [hb]; exact hs_z x0 x1)
theorem nmq_f {D : ZD} {x : Int} (hM : MIp D) : ∀ (f : Nat) (n k : Int), 0 ≤ n → n < D 9 0 → D 16 n ≤ f → nmq D x (f + 1) n k = nmq D x f n k := by
  intro f
  induction f with
  | zero => intro n k h0 h1 hs; have := (hM.2.2 n h0 h1).2.2.2.1; omega
  | succ f ih =>
    intro n k h0 h1 hs
    rw [nmq_s, nmq_s]
    have h : ∀ i, 0 ≤ i → i < 3 → (decide (prt D n i = -1) || nmq D x (f + 1) (prt D n i) (kf D n k i)) = (decide (prt D n i = -1) || nmq D x f (prt D n i) (kf D n k i)) := fun i i0 i3 => by
      by_cases hp : prt D n i = -1
      · rw [decide_eq_true hp]; rfl
      · have := psz hM h0 h1 (chl_in i0 i3 hp)
        rw [ih _ _ this.1 (by omega) (by omega)]
    rw [all3, all3, h 0 (by omega) (by omega), h 1 (by omega) (by omega), h 2 (by omega) (by omega)]
/-! the stack -/
def stl (K : ZG) (t : Int) : List (Int × Int) := (List.range t.toNat).map fun (j : Nat) => (zsg K 5 30 (j : Int), zsg K 5 31 (j : Int))
theorem stl_len (K : ZG) {t : Int} (h : 0 ≤ t) : ((stl K t).length : Int) = t := by unfold stl; rw [List.length_map, List.length_range]; omega
theorem stl_pop (K : ZG) {t : Int} (h : 0 ≤ t) : stl K (t + 1) = stl K t ++ [(zsg K 5 30 t, zsg K 5 31 t)] := by
  unfold stl
  rw [show (t + 1).toNat = t.toNat + 1 by omega, List.range_succ, List.map_append]
  simp only [List.map_cons, List.map_nil]
  rw [show ((t.toNat : Nat) : Int) = t by omega]
theorem stl_congr {K K' : ZG} {t : Int} (h : ∀ j, 0 ≤ j → j < t → zsg K' 5 30 j = zsg K 5 30 j ∧ zsg K' 5 31 j = zsg K 5 31 j) : stl K' t = stl K t := by
  unfold stl
  refine List.map_congr_left (fun j hj => ?_)
  have hj := List.mem_range.mp hj
  rw [(h j (by omega) (by omega)).1, (h j (by omega) (by omega)).2]
theorem stl_push {K : ZG} {t a b : Int} (h : 0 ≤ t) : stl (zss (zss K 5 30 t a) 5 31 t b) (t + 1) = stl K t ++ [(a, b)] := by
  rw [stl_pop _ h, stl_congr (K := K) (fun j j0 j1 => ?_)]
  · rw [zsg_ss, zsg_ss, if_neg (by omega), if_pos ⟨rfl, rfl, rfl⟩, zsg_ss, if_pos ⟨rfl, rfl, rfl⟩]
  · rw [zsg_ss, zsg_ss, zsg_ss, zsg_ss, if_neg (by omega), if_neg (by omega), if_neg (by omega), if_neg (by omega)]; exact ⟨rfl, rfl⟩
def chp (D : ZD) (n k : Int) : Nat → List (Int × Int)
  | 0 => []
  | i + 1 => chp D n k i ++ (if prt D n i = -1 then [] else [(prt D n i, kf D n k i)])
theorem chp_len (D : ZD) (n k : Int) : ∀ i, (chp D n k i).length ≤ i
  | 0 => Nat.le_refl _
  | i + 1 => by
    have := chp_len D n k i
    show (chp D n k i ++ (if prt D n i = -1 then [] else [(prt D n i, kf D n k i)])).length ≤ _
    rw [List.length_append]; split <;> simp <;> omega
theorem chp_3 (D : ZD) (n k : Int) : chp D n k 3 = (if prt D n 0 = -1 then [] else [(prt D n 0, kf D n k 0)]) ++ ((if prt D n 1 = -1 then [] else [(prt D n 1, kf D n k 1)]) ++ (if prt D n 2 = -1 then [] else [(prt D n 2, kf D n k 2)])) := by
  show (([] ++ _) ++ _) ++ _ = _
  rw [List.nil_append, List.append_assoc]; rfl
theorem chp_fst (D : ZD) (n k : Int) : (chp D n k 3).map (fun e => e.1) = chl D n := by
  rw [chp_3, chl_e]
  by_cases h0 : prt D n 0 = -1 <;> by_cases h1 : prt D n 1 = -1 <;> by_cases h2 : prt D n 2 = -1 <;> simp [h0, h1, h2]
theorem chp_all (D : ZD) (n k x : Int) (f : Nat) : ((chp D n k 3).all fun e => nmq D x f e.1 e.2) = (([0, 1, 2] : List Int).all fun i => decide (prt D n i = -1) || nmq D x f (prt D n i) (kf D n k i)) := by
  rw [chp_3, all3]
  by_cases h0 : prt D n 0 = -1 <;> by_cases h1 : prt D n 1 = -1 <;> by_cases h2 : prt D n 2 = -1 <;> simp [h0, h1, h2]
theorem stl_le {D : ZD} {l : List (Int × Int)} (h : ∀ e ∈ l, 1 ≤ D 16 e.1) : (l.length : Int) ≤ (l.map fun e => D 16 e.1).sum := by
  induction l with
  | nil => simp
  | cons e l ih =>
    have h1 := h e List.mem_cons_self
    have h2 := ih (fun q hq => h q (List.mem_cons_of_mem _ hq))
    simp only [List.map_cons, List.sum_cons, List.length_cons]
    omega
theorem w6_push {K : ZG} {D : ZD} {n k s y1 y2 : Int} (P : Int → Int → Int → ZG → Prop) (hK : ∀ j, j ≠ 30 → j ≠ 31 → zsg K 5 j = D j) (hM : MIp D) (h0 : 0 ≤ n) (h1 : n < D 9 0) (s0 : 0 ≤ s) (s1 : s < 250)
    (hP : ∀ t' K', 0 ≤ t' → stl K' t' = stl K s ++ chp D n k 3 → Mo K K' → (∀ j, j ≠ 30 → j ≠ 31 → zsg K' 5 j = D j) → P t' y1 y2 K') :
    zl3 (fun (P154 : Int → Int → ZG → Prop) (a154_3 : Int) (a154_9 : Int) (K154 : ZG) => zbr (3 ≤ a154_9) (P a154_3 y1 y2 K154) (zaL K154 5 13 180 (w32 ((w32 (3 * n)) + a154_9)) fun (x6 : Int) => zjn (fun (y246_3 : Int) (H246 : ZG) => zlt1 (w32 (a154_9 + 1)) fun (x7 : Int) => P154 y246_3 x7 H246) fun J246 => zbr (x6 = (-1)) (J246 a154_3 K154) (zaS K154 5 30 256 a154_3 x6 fun (G1 : ZG) => zaL G1 5 10 60 n fun (x8 : Int) => zjn (fun (z242_2 : Int) => zaS G1 5 31 256 a154_3 z242_2 fun (G2 : ZG) => zlt1 (w32 (a154_3 + 1)) fun (x9 : Int) => J246 x9 G2) fun J242 => zbr (x8 ≠ 3) (zaL G1 5 10 60 n fun (x10 : Int) => zbr (x10 ≠ 6) (J242 k) (J242 4)) (zaL G1 5 11 60 n fun (x11 : Int) => zaL G1 5 3 48 (w32 ((w32 (3 * x11)) + a154_9)) fun (x12 : Int) => J242 x12)))) s 0 K := by
  have hpw := hM.2.2 n h0 h1
  have m9 := hM.2.1
  refine zl3_of (fun t i K' => 0 ≤ i ∧ i ≤ 3 ∧ s ≤ t ∧ t ≤ s + i ∧ stl K' t = stl K s ++ chp D n k i.toNat ∧ Mo K K' ∧ (∀ j, j ≠ 30 → j ≠ 31 → zsg K' 5 j = D j)) (fun _ i _ => (3 - i).toNat) (fun P2 t i K' hI hPP => ?_) ⟨by omega, by omega, by omega, by omega, by show _ = stl K s ++ []; rw [List.append_nil], Mo.refl K, hK⟩
  obtain ⟨i0, i1, t0, t1, hl, mo, hK'⟩ := hI
  refine zbr_i (fun hi => ?_) (fun hi => ?_)
  · have : i = 3 := by omega
    subst this
    exact hP _ _ (by omega) hl mo hK'
  · rw [w32_eq (x := 3 * n) (by omega) (by omega), w32_eq (x := 3 * n + i) (by omega) (by omega)]
    refine zaL_i (by omega) (by omega) ?_
    rw [hK' 13 (by omega) (by omega)]
    dsimp only [zjn]
    have eni : ((i.toNat : Nat) : Int) = i := by omega
    have ens : (i + 1).toNat = i.toNat + 1 := by omega
    have hcs : chp D n k (i.toNat + 1) = chp D n k i.toNat ++ (if prt D n i = -1 then [] else [(prt D n i, kf D n k i)]) := by
      show chp D n k i.toNat ++ (if prt D n ((i.toNat : Nat) : Int) = -1 then [] else [(prt D n ((i.toNat : Nat) : Int), kf D n k ((i.toNat : Nat) : Int))]) = _
      rw [eni]
    refine zbr_i (fun hp => ?_) (fun hp => ?_)
    · rw [zlt1_e, w32_eq (by omega) (by omega)]
      refine hPP _ _ _ ⟨by omega, by omega, by omega, by omega, ?_, mo, hK'⟩ (by omega)
      rw [ens, hcs, if_pos (show prt D n i = -1 from hp), List.append_nil]; exact hl
    · refine zaS_i (by omega) (by omega) ?_
      refine zaL_i h0 (by omega) ?_
      rw [z5_ne (by omega), hK' 10 (by omega) (by omega)]
      have fin : ∀ y, y = kf D n k i → zaS (zss K' 5 30 t (D 13 (3 * n + i))) 5 31 256 t y fun (G2 : ZG) => zlt1 (w32 (t + 1)) fun (x9 : Int) => zlt1 (w32 (i + 1)) fun (x7 : Int) => P2 x9 x7 G2 := by
        rintro y rfl
        refine zaS_i (by omega) (by omega) ?_
        rw [zlt1_e, zlt1_e, w32_eq (x := t + 1) (by omega) (by omega), w32_eq (x := i + 1) (by omega) (by omega)]
        refine hPP _ _ _ ⟨by omega, by omega, by omega, by omega, ?_, (mo.ss _ _ _).ss _ _ _, fun j j1 j2 => by rw [z5_ne j2, z5_ne j1, hK' j j1 j2]⟩ (by omega)
        rw [stl_push (by omega), hl, ens, hcs, if_neg (show ¬ prt D n i = -1 from hp), List.append_assoc]; rfl
      refine zbr_i (fun h3 => ?_) (fun h3 => ?_)
      · refine zaL_i h0 (by omega) ?_
        rw [z5_ne (by omega), hK' 10 (by omega) (by omega)]
        refine zbr_i (fun h6 => fin _ ?_) (fun h6 => fin _ ?_)
        · unfold kf; rw [if_neg h3, if_neg h6]
        · unfold kf; rw [if_neg h3, if_pos (Decidable.of_not_not h6)]
      · have h3 := Decidable.of_not_not h3
        have q := hpw.2.2.2.2.2.2.2.2.2.2.2.2.2.2.1 h3
        refine zaL_i h0 (by omega) ?_
        rw [z5_ne (by omega), hK' 11 (by omega) (by omega), w32_eq (x := 3 * D 11 n) (by omega) (by omega), w32_eq (x := 3 * D 11 n + i) (by omega) (by omega)]
        refine zaL_i (by omega) (by omega) ?_
        rw [z5_ne (by omega), hK' 3 (by omega) (by omega)]
        refine fin _ ?_
        unfold kf; rw [if_pos h3]
theorem bool1 : ∀ B b A C : Bool, ((B || b) || (A || C)) = (B || (A || (b || C))) := by decide
theorem bool2 : ∀ B b A C : Bool, ((B && b) && (A && C)) = (B && (A && (b && C))) := by decide
theorem nmq_c {D : ZD} {x n k : Int} {f : Nat} (hM : MIp D) (h0 : 0 ≤ n) (h1 : n < D 9 0) (hs : D 16 n ≤ f + 1) : nmq D x (f + 1) n k = ((!(decide (D 10 n = 1) && decide (D 11 n = x)) || decide (k = 4)) && ((chp D n k 3).all fun e => nmq D x (f + 1) e.1 e.2)) := by
  have hst : ∀ e ∈ chp D n k 3, nmq D x (f + 1) e.1 e.2 = nmq D x f e.1 e.2 := fun e he => by
    have hm : e.1 ∈ chl D n := by rw [← chp_fst D n k]; exact List.mem_map.mpr ⟨e, he, rfl⟩
    have := psz hM h0 h1 hm
    exact nmq_f hM f _ _ this.1 (by omega) (by omega)
  have : ((chp D n k 3).all fun e => nmq D x (f + 1) e.1 e.2) = ((chp D n k 3).all fun e => nmq D x f e.1 e.2) := by
    rw [Bool.eq_iff_iff, List.all_eq_true, List.all_eq_true]
    exact forall_congr' fun e => forall_congr' fun he => by rw [hst e he]
  rw [this, nmq_s, ← chp_all]
theorem w6_binds {G : ZG} {D : ZD} {c x : Int} {Q : Int → ZG → Prop} (hD : zsg G 5 = D) (hM : MI D) (hc : 0 ≤ c ∧ c < D 23 0) (hx : 0 ≤ x ∧ x ≤ 5)
    (hQ : ∀ G', Mo G G' → (∀ j, j ≠ 30 → j ≠ 31 → zsg G' 5 j = D j) → Q (bb (nmc D x c)) G') : vX6_bindsNumber c x G Q := by
  have m21 : 0 ≤ D 21 0 ∧ D 21 0 ≤ 3 := ⟨hM.2.2.2.2.1.1, hM.2.2.2.2.1.2.1⟩
  have m23 : 0 ≤ D 23 0 ∧ D 23 0 ≤ 8 := ⟨hM.2.2.2.2.1.2.2.2.1, hM.2.2.2.2.1.2.2.2.2.1⟩
  have m9 : 0 ≤ D 9 0 ∧ D 9 0 ≤ 60 := ⟨hM.2.2.1.1, hM.2.2.1.2.1⟩
  have hcw := hM.2.2.2.2.1.2.2.2.2.2.2 c hc.1 hc.2
  unfold vX6_bindsNumber
  refine zl3_of (fun t k K => t = k ∧ 0 ≤ k ∧ k ≤ D 21 0 ∧ Mo G K ∧ (∀ j, j ≠ 30 → j ≠ 31 → zsg K 5 j = D j) ∧ stl K k = (List.range k.toNat).map fun (j : Nat) => (D 24 (3 * c + j), D 22 j)) (fun _ k _ => (D 21 0 - k).toNat) (fun P t k K hI hPP => ?_) ⟨rfl, by omega, m21.1, Mo.refl G, fun j _ _ => by rw [hD], rfl⟩
  obtain ⟨rfl, k0, k1, mo, hK, hl⟩ := hI
  rw [zgF_e, hK 21 (by omega) (by omega)]
  refine zbr_i (fun hk => ?_) (fun hk => ?_)
  · have e : t = D 21 0 := by omega
    refine zl4_of (fun t b z K => ∃ B Z, b = bb B ∧ z = bb Z ∧ 0 ≤ t ∧ Mo G K ∧ (∀ j, j ≠ 30 → j ≠ 31 → zsg K 5 j = D j) ∧ (∀ e ∈ stl K t, 0 ≤ e.1 ∧ e.1 < D 9 0) ∧ ((stl K t).map fun e => D 16 e.1).sum ≤ 120
      ∧ (B || (stl K t).any fun e => hs (D 17 e.1) x) = ((List.range (D 21 0).toNat).any fun (k : Nat) => hs (D 17 (D 24 (3 * c + k))) x)
      ∧ (Z && (stl K t).all fun e => nmq D x 45 e.1 e.2) = ((List.range (D 21 0).toNat).all fun (k : Nat) => nmi D x 45 (D 24 (3 * c + k)) (D 22 k))) (fun t _ _ K => ((stl K t).map fun e => D 16 e.1).sum.toNat) (fun P t b z K hI hPP => ?_) ⟨false, true, rfl, rfl, k0, mo, hK, ?_, ?_, ?_, ?_⟩
    · obtain ⟨B, Z, rfl, rfl, t0, mo, hK, hv, hsum, hB, hZ⟩ := hI
      refine zbr_i (fun ht => ?_) (fun ht => ?_)
      · have e0 : t = 0 := by omega
        subst e0
        have hfin : nmc D x c = (Z && B) := by
          unfold nmc
          rw [← hB, ← hZ, show stl K 0 = [] from rfl]
          simp
        have q := hQ K mo hK
        rw [hfin] at q
        dsimp only [zjn]
        cases B with
        | false => rw [Bool.and_false] at q; exact zbr_i (fun _ => q) (fun z => absurd rfl z)
        | true =>
          rw [Bool.and_true] at q
          refine zbr_i (fun z => by cases z) (fun _ => ?_)
          cases Z with
          | false => exact zbr_i (fun _ => q) (fun z => absurd rfl z)
          | true => exact zbr_i (fun z => by cases z) (fun _ => q)
      · obtain ⟨s, rfl⟩ : ∃ s, t = s + 1 := ⟨t - 1, by omega⟩
        have s0 : 0 ≤ s := by omega
        rw [stl_pop K s0] at hv hsum hB hZ
        have hnv := hv _ (List.mem_append_right _ List.mem_cons_self)
        have hle := stl_le (D := D) (l := stl K s) (fun e he => by
          have := hv e (List.mem_append_left _ he)
          exact (hM.2.2.1.2.2 _ this.1 this.2).2.2.2.1.1)
        rw [stl_len K s0] at hle
        rw [List.map_append, List.sum_append] at hsum
        simp only [List.map_cons, List.map_nil, List.sum_cons, List.sum_nil] at hsum
        rw [List.any_append] at hB
        rw [List.all_append] at hZ
        simp only [List.any_cons, List.any_nil, Bool.or_false] at hB
        simp only [List.all_cons, List.all_nil, Bool.and_true] at hZ
        have hmu : ((stl K (s + 1)).map fun e => D 16 e.1).sum = ((stl K s).map fun e => D 16 e.1).sum + D 16 (zsg K 5 30 s) := by
          rw [stl_pop K s0, List.map_append, List.sum_append]; simp
        simp only at hnv
        have hpw := hM.2.2.1.2.2 _ hnv.1 hnv.2
        have hszn := hpw.2.2.2.1
        rw [zlt1_e, w32_eq (x := s + 1 + -1) (by omega) (by omega), show s + 1 + -1 = s by omega]
        refine zaL_i s0 (by omega) ?_
        refine zaL_i s0 (by omega) ?_
        generalize zsg K 5 30 s = n at hnv hpw hszn hB hZ hmu hsum
        generalize zsg K 5 31 s = kk at hB hZ
        refine zaL_i hnv.1 (by omega) ?_
        rw [hK 10 (by omega) (by omega)]
        dsimp only [zjn]
        have hhs := hpw.2.2.2.2.2.2.2.2.2.2.1 x hx.1 (by omega)
        have hqs : nmq D x 45 n kk = ((!(decide (D 10 n = 1) && decide (D 11 n = x)) || decide (kk = 4)) && ((chp D n kk 3).all fun e => nmq D x 45 e.1 e.2)) := by
          exact nmq_c hM.2.2.1 hnv.1 hnv.2 (f := 44) (by omega)
        have hsz : ((chp D n kk 3).map fun e => D 16 e.1).sum + 1 = D 16 n := by
          have := hpw.2.2.2.2.2.2.2.2.2.1
          rw [← chp_fst D n kk, List.map_map] at this
          rw [this]
          have : ((fun p => D 16 p) ∘ fun (e : Int × Int) => e.1) = fun e => D 16 e.1 := rfl
          rw [this]; omega
        have hany : ((chl D n).any fun p => hs (D 17 p) x) = (chp D n kk 3).any fun e => hs (D 17 e.1) x := by
          rw [← chp_fst D n kk, List.any_map]; rfl
        rw [hany] at hhs
        have hin : ∀ e ∈ chp D n kk 3, 0 ≤ e.1 ∧ e.1 < D 9 0 := fun e he => by
          have hm : e.1 ∈ chl D n := by rw [← chp_fst D n kk]; exact List.mem_map.mpr ⟨e, he, rfl⟩
          have := psz hM.2.2.1 hnv.1 hnv.2 hm
          omega
        have core : ∀ (b : Bool), b = (decide (D 10 n = 1) && decide (D 11 n = x)) → ∀ t' K', 0 ≤ t' → stl K' t' = stl K s ++ chp D n kk 3 → Mo K K' → (∀ j, j ≠ 30 → j ≠ 31 → zsg K' 5 j = D j) → P t' (bb (B || b)) (bb (Z && (!b || decide (kk = 4)))) K' := by
          intro b hb t' K' ht' hl' mo' hK'
          have hsum' : ((stl K' t').map fun e => D 16 e.1).sum + 1 = ((stl K s).map fun e => D 16 e.1).sum + D 16 n := by
            rw [hl', List.map_append, List.sum_append]; omega
          have hnn : 0 ≤ ((stl K' t').map fun e => D 16 e.1).sum := by
            have := stl_le (D := D) (l := stl K' t') (fun e he => by
              rw [hl'] at he
              rcases List.mem_append.mp he with he | he
              · have := hv e (List.mem_append_left _ he)
                exact (hM.2.2.1.2.2 _ this.1 this.2).2.2.2.1.1
              · have := hin e he
                exact (hM.2.2.1.2.2 _ this.1 this.2).2.2.2.1.1)
            omega
          refine hPP _ _ _ _ ⟨_, _, rfl, rfl, ht', mo.trans mo', hK', ?_, by omega, ?_, ?_⟩ (by rw [hmu]; omega)
          · intro e he
            rw [hl'] at he
            rcases List.mem_append.mp he with he | he
            · exact hv e (List.mem_append_left _ he)
            · exact hin e he
          · rw [hl', List.any_append, ← hB, hhs, hb]
            exact bool1 _ _ _ _
          · rw [hl', List.all_append, ← hZ, hqs, hb]
            exact bool2 _ _ _ _
        have fin : ∀ (b : Bool), b = (decide (D 10 n = 1) && decide (D 11 n = x)) → ∀ y1 y2, y1 = bb (B || b) → y2 = bb (Z && (!b || decide (kk = 4))) → _ := fun b hb y1 y2 h1 h2 =>
          w6_push (K := K) (D := D) (n := n) (k := kk) (s := s) (y1 := y1) (y2 := y2) P hK hM.2.2.1 hnv.1 hnv.2 s0 (by omega) (fun t' K' a1 a2 a3 a4 => by rw [h1, h2]; exact core b hb t' K' a1 a2 a3 a4)
        refine zbr_i (fun h1 => ?_) (fun h1 => ?_)
        · have hb : false = (decide (D 10 n = 1) && decide (D 11 n = x)) := by rw [decide_eq_false h1]; rfl
          cases B with
          | true =>
            refine zbr_i (fun _ => ?_) (fun z => absurd (show bb true ≠ 0 by simp [bb]) z)
            cases Z with
            | false => exact zbr_i (fun _ => fin false hb _ _ rfl rfl) (fun z => absurd rfl z)
            | true => exact zbr_i (fun z => by cases z) (fun _ => zbr_i (fun _ => fin false hb _ _ rfl rfl) (fun z => absurd rfl z))
          | false =>
            refine zbr_i (fun z => absurd rfl z) (fun _ => zbr_i (fun _ => ?_) (fun z => absurd rfl z))
            cases Z with
            | false => exact zbr_i (fun _ => fin false hb _ _ rfl rfl) (fun z => absurd rfl z)
            | true => exact zbr_i (fun z => by cases z) (fun _ => zbr_i (fun _ => fin false hb _ _ rfl rfl) (fun z => absurd rfl z))
        · have h1 := Decidable.of_not_not h1
          refine zaL_i hnv.1 (by omega) ?_
          rw [hK 11 (by omega) (by omega)]
          refine zbr_i (fun h2 => ?_) (fun h2 => ?_)
          · have hb : false = (decide (D 10 n = 1) && decide (D 11 n = x)) := by rw [decide_eq_false h2, Bool.and_false]
            cases B with
            | true =>
              refine zbr_i (fun _ => ?_) (fun z => absurd (show bb true ≠ 0 by simp [bb]) z)
              cases Z with
              | false => exact zbr_i (fun _ => fin false hb _ _ rfl rfl) (fun z => absurd rfl z)
              | true => exact zbr_i (fun z => by cases z) (fun _ => zbr_i (fun _ => fin false hb _ _ rfl rfl) (fun z => absurd rfl z))
            | false =>
              refine zbr_i (fun z => absurd rfl z) (fun _ => zbr_i (fun _ => ?_) (fun z => absurd rfl z))
              cases Z with
              | false => exact zbr_i (fun _ => fin false hb _ _ rfl rfl) (fun z => absurd rfl z)
              | true => exact zbr_i (fun z => by cases z) (fun _ => zbr_i (fun _ => fin false hb _ _ rfl rfl) (fun z => absurd rfl z))
          · have h2 := Decidable.of_not_not h2
            have hb : true = (decide (D 10 n = 1) && decide (D 11 n = x)) := by rw [decide_eq_true h1, decide_eq_true h2]; rfl
            have hy : (1 : Int) = bb (B || true) := by rw [Bool.or_true]; rfl
            cases B with
            | true =>
              refine zbr_i (fun _ => ?_) (fun z => absurd (show bb true ≠ 0 by simp [bb]) z)
              cases Z with
              | false => exact zbr_i (fun _ => fin true hb _ _ hy rfl) (fun z => absurd rfl z)
              | true =>
                refine zbr_i (fun z => by cases z) (fun _ => zbr_i (fun z => by cases z) (fun _ => zbr_i (fun h4 => fin true hb _ _ hy ?_) (fun h4 => fin true hb _ _ hy ?_)))
                · rw [decide_eq_false h4]; rfl
                · rw [decide_eq_true (Decidable.of_not_not h4)]; rfl
            | false =>
              refine zbr_i (fun z => absurd rfl z) (fun _ => zbr_i (fun z => by cases z) (fun _ => ?_))
              cases Z with
              | false => exact zbr_i (fun _ => fin true hb _ _ hy rfl) (fun z => absurd rfl z)
              | true =>
                refine zbr_i (fun z => by cases z) (fun _ => zbr_i (fun z => by cases z) (fun _ => zbr_i (fun h4 => fin true hb _ _ hy ?_) (fun h4 => fin true hb _ _ hy ?_)))
                · rw [decide_eq_false h4]; rfl
                · rw [decide_eq_true (Decidable.of_not_not h4)]; rfl
    · rw [hl]
      intro e he
      obtain ⟨j, hj, rfl⟩ := List.mem_map.mp he
      have hj := List.mem_range.mp hj
      have := hcw.1 j (by omega) (by omega)
      exact ⟨this.1, this.2.1⟩
    · rw [hl, List.map_map]
      have : ∀ m : Nat, (m : Int) ≤ D 21 0 → ((List.range m).map ((fun e => D 16 e.1) ∘ fun (j : Nat) => (D 24 (3 * c + j), D 22 j))).sum ≤ 40 * m := by
        intro m
        induction m with
        | zero => intro _; simp
        | succ m ih =>
          intro hm
          rw [List.range_succ, List.map_append, List.sum_append]
          have h1 := ih (by omega)
          have h2 := hcw.1 m (by omega) (by omega)
          have h3 := (hM.2.2.1.2.2 _ h2.1 h2.2.1).2.2.2.1
          simp only [List.map_cons, List.map_nil, List.sum_cons, List.sum_nil, Function.comp]
          omega
      have := this t.toNat (by omega)
      omega
    · rw [hl, Bool.false_or, List.any_map, e]; rfl
    · rw [hl, Bool.true_and, List.all_map, e]
      rw [Bool.eq_iff_iff, List.all_eq_true, List.all_eq_true]
      refine forall_congr' fun j => forall_congr' fun hj => ?_
      have hj := List.mem_range.mp hj
      have := hcw.1 j (by omega) (by omega)
      show nmq D x 45 _ _ = true ↔ _
      rw [nmq_i hM.2.2.1 hx.1 (by omega) _ _ _ this.1 this.2.1]
  · have hcol := hcw.1 t k0 (by omega)
    rw [w32_eq (x := 3 * c) (by omega) (by omega), w32_eq (x := 3 * c + t) (by omega) (by omega)]
    refine zaL_i (by omega) (by omega) ?_
    rw [hK 24 (by omega) (by omega)]
    refine zaS_i k0 (by omega) ?_
    refine zaL_i k0 (by omega) ?_
    rw [z5_ne (by omega), hK 22 (by omega) (by omega)]
    refine zaS_i k0 (by omega) ?_
    rw [zlt1_e, zlt1_e, w32_eq (by omega) (by omega)]
    refine hPP _ _ _ ⟨rfl, by omega, by omega, (mo.ss _ _ _).ss _ _ _, fun j j1 j2 => by rw [z5_ne j2, z5_ne j1, hK j j1 j2], ?_⟩ (by omega)
    rw [stl_push k0, hl, show (t + 1).toNat = t.toNat + 1 by omega, List.range_succ, List.map_append]
    simp only [List.map_cons, List.map_nil]
    rw [show ((t.toNat : Nat) : Int) = t by omega]
