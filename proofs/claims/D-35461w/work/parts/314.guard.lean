/-! COMPONENT: guards -/
set_option maxRecDepth 100000
/-- whether a name is bound to numbers alone in a pattern where things of a kind are -/
def nmi (D : ZD) (x : Int) : Nat → Int → Int → Bool
  | 0, _, _ => true
  | f + 1, n, k =>
    if D 10 n = 1 then (!decide (D 11 n = x) || decide (k = 4)) && nmi D x f (prt D n 0) k
    else if D 10 n = 4 then nmi D x f (prt D n 0) k && nmi D x f (prt D n 1) k
    else if D 10 n = 3 then (([0, 1, 2] : List Int).all fun i => decide (D 2 (D 11 n) ≤ i) || nmi D x f (prt D n i) (D 3 (3 * D 11 n + i)))
    else true
theorem psz {D : ZD} {n p : Int} (hM : MIp D) (h0 : 0 ≤ n) (h1 : n < D 9 0) (hp : p ∈ chl D n) : 0 ≤ p ∧ p < n ∧ D 16 p + 1 ≤ D 16 n ∧ 1 ≤ D 16 p := by
  have hpw := hM.2.2 n h0 h1
  have hc := hpw.chl hp
  have hs := hpw.2.2.2.2.2.2.2.2.2.1
  have hall : ∀ l : List Int, (∀ q ∈ l, 0 ≤ q ∧ q < n) → p ∈ l → D 16 p ≤ (l.map fun p => D 16 p).sum := by
    intro l
    induction l with
    | nil => intro _ h; cases h
    | cons q l ih =>
      intro hl hm
      simp only [List.map_cons, List.sum_cons]
      have hpos : ∀ l : List Int, (∀ q ∈ l, 0 ≤ q ∧ q < n) → 0 ≤ (l.map fun p => D 16 p).sum := by
        intro l
        induction l with
        | nil => intro _; simp
        | cons q l ih2 =>
          intro hl
          simp only [List.map_cons, List.sum_cons]
          have h1 := ih2 (fun r hr => hl r (List.mem_cons_of_mem _ hr))
          have h2 := hl q List.mem_cons_self
          have h3 := (hM.2.2 q h2.1 (by omega)).2.2.2.1
          omega
      rcases List.mem_cons.mp hm with rfl | hm2
      · have := hpos l (fun r hr => hl r (List.mem_cons_of_mem _ hr)); omega
      · have h1 := ih (fun r hr => hl r (List.mem_cons_of_mem _ hr)) hm2
        have h2 := hl q List.mem_cons_self
        have h3 := (hM.2.2 q h2.1 (by omega)).2.2.2.1
        omega
  have := hall (chl D n) (fun q hq => by have := hpw.chl hq; omega) hp
  have h4 := (hM.2.2 p hc.1 (by omega)).2.2.2.1
  omega
theorem chl_in {D : ZD} {n k : Int} (h0 : 0 ≤ k) (h3 : k < 3) (h : prt D n k ≠ -1) : prt D n k ∈ chl D n := by
  unfold chl
  rw [List.mem_filterMap]
  refine ⟨k, ?_, by rw [if_neg h]⟩
  have : k = 0 ∨ k = 1 ∨ k = 2 := by omega
  rcases this with rfl | rfl | rfl <;> simp
theorem zbr_bbt {b : Bool} {A B : Prop} (h : b = true) : zbr (bb b = 0) A B = B := by subst h; exact zbr_neg (by simp [bb])
theorem zbr_bbf {b : Bool} {A B : Prop} (h : b = false) : zbr (bb b = 0) A B = A := by subst h; exact zbr_pos rfl
theorem pcell3 {D : ZD} {pa pf : Nat → Nat} {n : Nat} (h : D 10 n = 3) : pcell D pa pf n = .inr (.inr (12, [.inl (D 11 n / 4), .inl (D 11 n % 4), .inr (some (.inl (pf n)))])) := by
  unfold pcell; rw [if_neg (by omega), if_neg (by omega), if_pos h]
theorem pcell1 {D : ZD} {pa pf : Nat → Nat} {n : Nat} (h : D 10 n = 1) : pcell D pa pf n = .inr (.inr (10, [.inl (D 11 n), .inr (some (.inl (pa (prt D n 0).toNat)))])) := by
  unfold pcell; rw [if_pos h]
/-- the array of the parts of a constructor's pattern -/
theorem chl_mk {D : ZD} {n m : Int} (h0 : 0 ≤ m) (h3 : m ≤ 3) (hlt : ∀ k, 0 ≤ k → k < m → 0 ≤ prt D n k) (hge : ∀ k, m ≤ k → k < 3 → prt D n k = -1) : chl D n = ints m (prt D n) := by
  rw [chl_e]
  have h : m = 0 ∨ m = 1 ∨ m = 2 ∨ m = 3 := by omega
  rcases h with rfl | rfl | rfl | rfl
  · rw [if_pos (hge 0 (by omega) (by omega)), if_pos (hge 1 (by omega) (by omega)), if_pos (hge 2 (by omega) (by omega))]; rfl
  · have i0 := hlt 0 (by omega) (by omega)
    rw [if_neg (by omega), if_pos (hge 1 (by omega) (by omega)), if_pos (hge 2 (by omega) (by omega))]; rfl
  · have i0 := hlt 0 (by omega) (by omega)
    have i1 := hlt 1 (by omega) (by omega)
    rw [if_neg (by omega), if_neg (by omega), if_pos (hge 2 (by omega) (by omega))]; rfl
  · have i0 := hlt 0 (by omega) (by omega)
    have i1 := hlt 1 (by omega) (by omega)
    have i2 := hlt 2 (by omega) (by omega)
    rw [if_neg (by omega), if_neg (by omega), if_neg (by omega)]; rfl
theorem map_get {m k : Int} {f : Int → Int} {g : Int → ZR} (h0 : 0 ≤ k) (h1 : k < m) : ((ints m f).map g)[k.toNat]? = some (g (f k)) := by
  rw [List.getElem?_map, ints_get h0 h1]; rfl
theorem w1_isNumberIn_2 {G : ZG} {D : ZD} {td pa pf : Nat → Nat} (hC : CIt G D) (hM : MI D) (hP : CPo G D td pa pf) (x : Int) : ∀ (f : Nat) (n k : Int) (Q : Int → Prop), 0 ≤ n → n < D 9 0 → D 16 n ≤ f → Q (bb (nmi D x f n k)) → vX1_isNumberIn_2 f (some (.inl (pa n.toNat))) x k G Q := by
  intro f
  induction f with
  | zero =>
    intro n k Q h0 h1 hs hQ
    have := (hM.2.2.1.2.2 n h0 h1).2.2.2.1
    omega
  | succ f ih =>
    intro n k Q h0 h1 hs hQ
    have hpw := hM.2.2.1.2.2 n h0 h1
    have en : ((n.toNat : Nat) : Int) = n := by omega
    have hpo := (hP.2 n.toNat (by omega)).2.1
    have hch : ∀ i, 0 ≤ i → i < 3 → prt D n i ≠ -1 → 0 ≤ prt D n i ∧ prt D n i < D 9 0 ∧ D 16 (prt D n i) ≤ f := fun i i0 i3 hi => by
      have := psz hM.2.2.1 h0 h1 (chl_in i0 i3 hi); omega
    rw [vX1_isNumberIn_2_s]
    unfold bX1_isNumberIn_2
    simp only [nmi] at hQ
    refine pcell_k (f := 1) (by rw [en]; exact hpw) hpo (by omega) ?_
    rw [en]
    by_cases h1' : D 10 n = 1
    · rw [zbr_bbt (decide_eq_true h1')]
      rw [if_pos h1'] at hQ
      rw [pcell1 (by rw [en]; exact h1'), en] at hpo
      have c1 := hpw.2.2.2.2.2.2.2.2.2.2.2.2.1 h1'
      have c0 := hch 0 (by omega) (by omega) (by omega)
      refine ⟨zca_i hpo.1, zisO_i hpo.1, ?_⟩
      unfold vX10_name
      rw [zdI_e hpo.1 rfl]
      dsimp only [zjn]
      have goon : nmi D x f (prt D n 0) k = (decide True && nmi D x f (prt D n 0) k) := by simp
      have hrec : Q (bb (nmi D x f (prt D n 0) k)) → zisO G (some (.inl (pa n.toNat))) 10 ∧ vX10_of (some (.inl (pa n.toNat))) G fun x27 => vX1_isNumberIn_2 f x27 x k G fun x28 => zbr (x28 = 0) (Q 0) (Q 1) := by
        intro hq
        refine ⟨zisO_i hpo.1, ?_⟩
        unfold vX10_of
        rw [zdR_e hpo.1 rfl]
        refine ih _ _ _ c0.1 c0.2.1 c0.2.2 ?_
        cases hb : nmi D x f (prt D n 0) k with
        | true => rw [hb] at hq; exact zbr_i (fun z => by cases z) (fun _ => hq)
        | false => rw [hb] at hq; exact zbr_i (fun _ => hq) (fun z => absurd rfl z)
      refine zbr_i (fun hne => hrec ?_) (fun he => ?_)
      · rw [decide_eq_false hne] at hQ; simpa using hQ
      · have he := Decidable.of_not_not he
        refine zbr_i (fun hk => ?_) (fun hk => hrec ?_)
        · rw [decide_eq_true he, decide_eq_false hk] at hQ; simpa [bb] using hQ
        · rw [decide_eq_true (Decidable.of_not_not hk)] at hQ; simpa using hQ
    · rw [zbr_bbf (decide_eq_false h1')]
      rw [if_neg h1'] at hQ
      refine pcell_k (f := 4) (by rw [en]; exact hpw) hpo (by omega) ?_
      rw [en]
      by_cases h4 : D 10 n = 4
      · rw [zbr_bbt (decide_eq_true h4)]
        rw [if_pos h4] at hQ
        rw [cls13 (by rw [en]; exact h4), en] at hpo
        have c1 := hpw.2.2.2.2.2.2.2.2.2.2.2.2.2.2.2.1 h4
        have c0 := hch 0 (by omega) (by omega) (by omega)
        have c2 := hch 1 (by omega) (by omega) (by omega)
        refine ⟨zca_i hpo.1, zisO_i hpo.1, ?_⟩
        unfold vX13_first
        rw [zdR_e hpo.1 rfl]
        refine ih _ _ _ c0.1 c0.2.1 c0.2.2 ?_
        dsimp only [zjn]
        cases hb : nmi D x f (prt D n 0) k with
        | false => rw [hb] at hQ; exact zbr_i (fun _ => hQ) (fun z => absurd rfl z)
        | true =>
          rw [hb] at hQ
          refine zbr_i (fun z => by cases z) (fun _ => ⟨zisO_i hpo.1, ?_⟩)
          unfold vX13_second
          rw [zdR_e hpo.1 rfl]
          refine ih _ _ _ c2.1 c2.2.1 c2.2.2 ?_
          cases hb2 : nmi D x f (prt D n 1) k with
          | false => rw [hb2] at hQ; exact zbr_i (fun _ => hQ) (fun z => absurd rfl z)
          | true => rw [hb2] at hQ; exact zbr_i (fun z => by cases z) (fun _ => hQ)
      · rw [zbr_bbf (decide_eq_false h4)]
        rw [if_neg h4] at hQ
        refine pcell_k (f := 3) (by rw [en]; exact hpw) hpo (by omega) ?_
        rw [en]
        dsimp only [zjn]
        by_cases h3 : D 10 n = 3
        · rw [zbr_bbt (decide_eq_true h3)]
          rw [if_pos h3] at hQ
          have hfa := (hP.2 n.toNat (by omega)).2.2 (by rw [en]; exact Or.inl h3)
          rw [pcell3 (by rw [en]; exact h3), en] at hpo
          rw [en] at hfa
          have c3 := hpw.2.2.2.2.2.2.2.2.2.2.2.2.2.2.1 h3
          refine ⟨zca_i hpo.1, zisO_i hpo.1, ?_⟩
          unfold vX12_type
          rw [zdI_e hpo.1 rfl]
          have ht : 0 ≤ D 11 n / 4 ∧ D 11 n / 4 ≤ 3 := by omega
          have e4 : 4 * (D 11 n / 4) + D 11 n % 4 = D 11 n := by omega
          obtain ⟨ta, hLt, hH⟩ := hC.2 (D 11 n / 4).toNat (by omega)
          rw [show (((D 11 n / 4).toNat : Nat) : Int) = D 11 n / 4 by omega] at hLt hH
          have hg : (([some (.inr 11), some (.inr 12), some (.inr 13), some (.inr 14)] : List ZR))[(D 11 n / 4).toNat]? = some (some (.inr (11 + (D 11 n / 4).toNat))) := by
            have : D 11 n / 4 = 0 ∨ D 11 n / 4 = 1 ∨ D 11 n / 4 = 2 ∨ D 11 n / 4 = 3 := by omega
            rcases this with e | e | e | e <;> rw [e] <;> rfl
          have hcl : tCls (11 + (D 11 n / 4).toNat) = 2 := by
            have : D 11 n / 4 = 0 ∨ D 11 n / 4 = 1 ∨ D 11 n / 4 = 2 ∨ D 11 n / 4 = 3 := by omega
            rcases this with e | e | e | e <;> rw [e] <;> rfl
          refine sJ2_get hC.1 ht.1 hg ⟨_, rfl, hcl, zisO_i hpo.1, ?_⟩
          unfold vX12_constructor
          rw [zdI_e hpo.1 rfl]
          have hcr : 0 ≤ D 11 n % 4 ∧ D 11 n % 4 < D 1 (D 11 n / 4) := ⟨by omega, c3.2.2.1⟩
          refine sJ2_get hLt hcr.1 (refs_get hcr.1 hcr.2) ?_
          have hh := hH (D 11 n % 4).toNat (by omega)
          rw [show (((D 11 n % 4).toNat : Nat) : Int) = D 11 n % 4 by omega, e4] at hh
          have m2 := (hM.1 (D 11 n / 4) ht.1 (by omega)).2.2 (D 11 n % 4) hcr.1 hcr.2
          rw [e4] at m2
          refine ⟨⟨_, _, rfl, hh.1⟩, ?_⟩
          have hck := c3.2.2.2.2.2
          rw [chl_mk m2.1 m2.2.1 (fun i i0 i1 => ((hck i i0 (by omega)).1 i1).1) (fun i i0 i1 => (hck i (by omega) i1).2 i0)] at hfa
          refine zl2_of (fun z i => 0 ≤ i ∧ i ≤ D 2 (D 11 n) ∧ ((z = 1 ∧ ∀ j, 0 ≤ j → j < i → nmi D x f (prt D n j) (D 3 (3 * D 11 n + j)) = true) ∨ (z = 0 ∧ ∃ j, 0 ≤ j ∧ j < D 2 (D 11 n) ∧ nmi D x f (prt D n j) (D 3 (3 * D 11 n + j)) = false))) (fun _ i => (D 2 (D 11 n) - i).toNat) (fun P z i hI hPP => ?_) ⟨by omega, m2.1, Or.inl ⟨rfl, fun j _ _ => by omega⟩⟩
          obtain ⟨i0, i1, hz⟩ := hI
          refine zeN_i hh.1 ?_
          rw [ints_len, show (((D 2 (D 11 n)).toNat : Nat) : Int) = D 2 (D 11 n) by omega]
          refine zbr_i (fun hi => ?_) (fun hi => ?_)
          · rcases hz with ⟨rfl, hz⟩ | ⟨rfl, j, j0, j1, hj⟩
            · rw [show (([0, 1, 2] : List Int).all fun i => decide (D 2 (D 11 n) ≤ i) || nmi D x f (prt D n i) (D 3 (3 * D 11 n + i))) = true from List.all_eq_true.mpr (fun q hq => by
                by_cases hqn : D 2 (D 11 n) ≤ q
                · rw [decide_eq_true hqn]; rfl
                · rw [hz q (by simp at hq; omega) (by omega), Bool.or_true])] at hQ
              exact hQ
            · rw [show (([0, 1, 2] : List Int).all fun i => decide (D 2 (D 11 n) ≤ i) || nmi D x f (prt D n i) (D 3 (3 * D 11 n + i))) = false from by
                rw [List.all_eq_false]
                refine ⟨j, ?_, ?_⟩
                · have : j = 0 ∨ j = 1 ∨ j = 2 := by omega
                  rcases this with rfl | rfl | rfl <;> simp
                · rw [hj, decide_eq_false (by omega)]; simp] at hQ
              exact hQ
          · have step : ∀ u : Int, ((u = 1 ∧ ∀ j, 0 ≤ j → j < i + 1 → nmi D x f (prt D n j) (D 3 (3 * D 11 n + j)) = true) ∨ (u = 0 ∧ ∃ j, 0 ≤ j ∧ j < D 2 (D 11 n) ∧ nmi D x f (prt D n j) (D 3 (3 * D 11 n + j)) = false)) → zlt1 (w32 (i + 1)) fun x12 => P u x12 := by
              intro u hu
              rw [zlt1_e, w32_eq (by omega) (by omega)]
              exact hPP _ _ ⟨by omega, by omega, hu⟩ (by omega)
            rcases hz with ⟨rfl, hz⟩ | ⟨rfl, hz⟩
            · rw [zbr_neg (by omega)]
              refine ⟨zisO_i hpo.1, ?_⟩
              unfold vX12_fields
              rw [zdR_e hpo.1 rfl]
              have hpi := (hck i i0 (by omega)).1 (by omega)
              refine zeR_i hfa.1 i0 (map_get i0 (by omega)) ?_
              refine zeI_i hh.1 i0 (ints_get i0 (by omega)) ?_
              have ci := hch i i0 (by omega) (by omega)
              refine ih _ _ _ ci.1 ci.2.1 ci.2.2 ?_
              cases hb : nmi D x f (prt D n i) (D 3 (3 * D 11 n + i)) with
              | false => exact zbr_i (fun _ => step 0 (Or.inr ⟨rfl, i, i0, by omega, hb⟩)) (fun z => absurd rfl z)
              | true =>
                refine zbr_i (fun z => by cases z) (fun _ => step 1 (Or.inl ⟨rfl, fun j j0 j1 => ?_⟩))
                by_cases hji : j = i
                · rw [hji]; exact hb
                · exact hz j j0 (by omega)
            · rw [zbr_pos rfl]
              exact step 0 (Or.inr ⟨rfl, hz⟩)
        · rw [zbr_bbf (decide_eq_false h3)]
          rw [if_neg h3] at hQ
          exact hQ
/-- whether a case binds a name, and to numbers alone -/
def nmc (D : ZD) (x c : Int) : Bool := ((List.range (D 21 0).toNat).all fun (k : Nat) => nmi D x 45 (D 24 (3 * c + k)) (D 22 k)) && ((List.range (D 21 0).toNat).any fun (k : Nat) => hs (D 17 (D 24 (3 * c + k))) x)
theorem hs_or {a b x : Int} (ha : 0 ≤ a ∧ a ≤ 63) (hb : 0 ≤ b ∧ b ≤ 63) (hx : 0 ≤ x ∧ x ≤ 5) : hs (bOr a b) x = (hs a x || hs b x) ∧ 0 ≤ bOr a b ∧ bOr a b ≤ 63 := by
  have e1 := bits_or ⟨a.toNat, by omega⟩ ⟨b.toNat, by omega⟩
  have e2 := bits_has ⟨a.toNat, by omega⟩ ⟨x.toNat, by omega⟩
  have e3 := bits_has ⟨b.toNat, by omega⟩ ⟨x.toNat, by omega⟩
  have hlt : a.toNat ||| b.toNat < 2 ^ 6 := Nat.or_lt_two_pow (by omega) (by omega)
  have e4 := bits_has ⟨a.toNat ||| b.toNat, by omega⟩ ⟨x.toNat, by omega⟩
  simp only at e1 e2 e3 e4
  rw [show ((a.toNat : Nat) : Int) = a by omega] at e1 e2
  rw [show ((b.toNat : Nat) : Int) = b by omega] at e1 e3
  rw [show ((x.toNat : Nat) : Int) = x by omega] at e2 e3 e4
  rw [e1, e4, e2, e3, Nat.testBit_or]
  exact ⟨rfl, by omega, by omega⟩
theorem hs_0 {x : Int} (hx : 0 ≤ x ∧ x ≤ 5) : hs 0 x = false := by
  have e := bits_has ⟨0, by omega⟩ ⟨x.toNat, by omega⟩
  simp only at e
  rw [show ((x.toNat : Nat) : Int) = x by omega] at e
  rw [show (0 : Int) = ((0 : Nat) : Int) from rfl, e, Nat.zero_testBit]
theorem w1_isNumberIn {G : ZG} {D : ZD} {td pa pf : Nat → Nat} {a b : Nat} {c x : Int} {Q : Int → Prop} (hC : CIt G D) (hk : CIk G D) (hM : MI D) (hL : Lst G 9 (refs (D 9 0) td)) (hP : CPo G D td pa pf) (hc : 0 ≤ c ∧ c < D 23 0) (hr : CRow G D a b c) (hx : 0 ≤ x ∧ x ≤ 5) (hQ : Q (bb (nmc D x c))) : vX1_isNumberIn (some (.inl a)) x G Q := by
  have m21 : 0 ≤ D 21 0 ∧ D 21 0 ≤ 3 := ⟨hM.2.2.2.2.1.1, hM.2.2.2.2.1.2.1⟩
  have hcw := hM.2.2.2.2.1.2.2.2.2.2.2 c hc.1 hc.2
  obtain ⟨⟨nm0, th0, hk1, -⟩, hkb⟩ := id hr
  unfold vX1_isNumberIn
  refine zl3_of (fun nm is k => 0 ≤ k ∧ k ≤ D 21 0 ∧ (0 ≤ nm ∧ nm ≤ 63) ∧ hs nm x = ((List.range k.toNat).any fun (k : Nat) => hs (D 17 (D 24 (3 * c + k))) x) ∧ is = bb ((List.range k.toNat).all fun (k : Nat) => nmi D x 45 (D 24 (3 * c + k)) (D 22 k))) (fun _ _ k => (D 21 0 - k).toNat) (fun P nm is k hI hPP => ?_) ⟨by omega, m21.1, by omega, hs_0 hx, rfl⟩
  obtain ⟨k0, k1, hnm, hh, rfl⟩ := hI
  rw [zgF_e, hk.1]
  dsimp only [zjn]
  refine zbr_i (fun hkm => ?_) (fun hkm => ?_)
  · have e : k = D 21 0 := by omega
    unfold nmc at hQ
    rw [← e, ← hh] at hQ
    cases hb : ((List.range k.toNat).all fun (k : Nat) => nmi D x 45 (D 24 (3 * c + k)) (D 22 k)) with
    | false => rw [hb] at hQ; exact zbr_i (fun _ => hQ) (fun z => absurd rfl z)
    | true =>
      rw [hb] at hQ
      refine zbr_i (fun z => by cases z) (fun _ => ?_)
      rw [eX1_has]
      cases hb2 : hs nm x with
      | false => rw [hb2] at hQ; exact zbr_i (fun _ => hQ) (fun z => absurd rfl z)
      | true => rw [hb2] at hQ; exact zbr_i (fun z => by cases z) (fun _ => hQ)
  · have how := hcw.1 k k0 (by omega)
    have hpw := hM.2.2.1.2.2 _ how.1 how.2.1
    have ek : (k + 1).toNat = k.toNat + 1 := by omega
    have ek2 : ((k.toNat : Nat) : Int) = k := by omega
    rw [zdR_e hk1 rfl]
    refine zeI_i hkb.1 k0 (ints_get k0 (by omega)) ?_
    refine sX1_told hL hP how.1 how.2.1 (fun ht => ⟨zisO_i ht.1, ?_⟩)
    rw [Tl.names ht, zlt1_e]
    have hor := hs_or hnm hpw.2.2.2.2.1 hx
    have step : ∀ b : Bool, b = (((List.range k.toNat).all fun (k : Nat) => nmi D x 45 (D 24 (3 * c + k)) (D 22 k)) && nmi D x 45 (D 24 (3 * c + k)) (D 22 k)) → zlt1 (w32 (k + 1)) fun x9 => P (bOr nm (D 17 (D 24 (3 * c + k)))) (bb b) x9 := by
      rintro b rfl
      rw [zlt1_e, w32_eq (by omega) (by omega)]
      refine hPP _ _ _ ⟨by omega, by omega, hor.2, ?_, ?_⟩ (by omega)
      · rw [hor.1, ek, List.range_succ, List.any_append, hh]
        simp only [List.any_cons, List.any_nil, Bool.or_false]
        rw [ek2]
      · rw [ek, List.range_succ, List.all_append]
        simp only [List.all_cons, List.all_nil, Bool.and_true]
        rw [ek2]
    cases hb : ((List.range k.toNat).all fun (k : Nat) => nmi D x 45 (D 24 (3 * c + k)) (D 22 k)) with
    | false => exact zbr_i (fun _ => step false (by rw [hb]; rfl)) (fun z => absurd rfl z)
    | true =>
      refine zbr_i (fun z => by cases z) (fun _ => ?_)
      rw [zdR_e hk1 rfl]
      refine zeI_i hkb.1 k0 (ints_get k0 (by omega)) ?_
      refine sX1_told hL hP how.1 how.2.1 (fun ht => ⟨zisO_i ht.1, ?_⟩)
      rw [Tl.pat ht]
      refine ⟨k0, by omega, ?_⟩
      rw [hk.2 k k0 (by omega)]
      refine w1_isNumberIn_2 hC hM hP x 45 _ _ _ how.1 how.2.1 (by have := hpw.2.2.2.1; omega) ?_
      cases hb2 : nmi D x 45 (D 24 (3 * c + k)) (D 22 k) with
      | false => exact zbr_i (fun _ => step false (by rw [hb, hb2]; rfl)) (fun z => absurd rfl z)
      | true => exact zbr_i (fun z => by cases z) (fun _ => step true (by rw [hb, hb2]; rfl))
/-- a case's object is written -/
theorem Fr.cas {S : List Nat} {G K : ZG} (h : Fr S G K) (hs : Sep G) {a : Nat} {fs fs' : List ZF} (h16 : 16 ∈ S) (hj : zsj K a = some (.inr (.inr (16, fs)))) : Fr S G (zsc K a (.inr (.inr (16, fs')))) := by
  obtain ⟨h1, h2, h3, h4, h5, h6⟩ := h
  refine ⟨⟨fun b c e => ?_, fun b c e => ?_⟩, ⟨h2.1, fun o b ho e => ?_, fun b e => ?_⟩, h3, fun o' q1 q2 L hL => ?_, fun q => absurd h16 q, fun q b e => ?_⟩
  · obtain ⟨c', e1, e2⟩ := h1.1 b c e
    rw [zsj_sc]
    by_cases q : b = a
    · rw [if_pos q]; subst q; rw [hj] at e1; cases e1; exact ⟨_, rfl, e2⟩
    · rw [if_neg q]; exact ⟨c', e1, e2⟩
  · obtain ⟨e1, e2, e3⟩ := h1.2 b c e
    refine ⟨?_, e2, e3⟩
    rw [zsj_ne (fun q => by subst q; rw [hj] at e1; cases e1; exact e2.2 rfl)]; exact e1
  · obtain ⟨l, hl⟩ := h2.2.1 o b ho e
    exact ⟨l, by rw [zsj_ne (fun q => by subst q; rw [hj] at hl; cases hl)]; exact hl⟩
  · obtain ⟨l, hl⟩ := h2.2.2 b e
    exact ⟨l, by rw [zsj_ne (fun q => by subst q; rw [hj] at hl; cases hl)]; exact hl⟩
  · have := h4 o' q1 q2 L hL
    refine ⟨this.1, ?_⟩
    rcases this.2 with ⟨e, e2⟩ | ⟨b, r, e1, e2, e3⟩
    · exact Or.inl ⟨e, e2⟩
    · exact Or.inr ⟨b, r, e1, by rw [zsj_ne (fun q => by subst q; rw [hj] at e2; cases e2)]; exact e2, e3⟩
  · rw [← h6 q b e]
    refine zsj_ne (fun z => ?_)
    subst z
    obtain ⟨l, hl⟩ := h2.2.2 b (by unfold cod at e ⊢; rw [(h3 4 q 0 0).2]; exact e)
    rw [hj] at hl; cases hl
def gOk1 (D : ZD) (c g nm : Int) : Prop := (0 ≤ c ∧ c < D 23 0) ∧ (-1 ≤ g ∧ g ≤ 3) ∧ 0 ≤ nm ∧ nm ≤ 5
def gOk2 (D : ZD) (c g nm th : Int) : Prop := (0 ≤ th ∧ th ≤ 9) ∧ (if g = -1 then nm = 0 else nmc D nm c = true)
def addG (D : ZD) (c g nm th : Int) : ZD := up (up (up D 26 c g) 27 c nm) 28 c th
theorem addG_o {D : ZD} {c g nm th : Int} {j : Nat} (h : j < 26 ∨ 28 < j) : addG D c g nm th j = D j := by
  unfold addG; rw [up_ne (by omega), up_ne (by omega), up_ne (by omega)]
theorem addG_26 {D : ZD} {c g nm th i : Int} : addG D c g nm th 26 i = if i = c then g else D 26 i := by
  unfold addG; rw [up_ne (by omega), up_ne (by omega), up_at]
theorem addG_27 {D : ZD} {c g nm th i : Int} : addG D c g nm th 27 i = if i = c then nm else D 27 i := by
  unfold addG; rw [up_ne (by omega), up_at, up_ne (by omega)]
theorem addG_28 {D : ZD} {c g nm th i : Int} : addG D c g nm th 28 i = if i = c then th else D 28 i := by
  unfold addG; rw [up_at, up_ne (by omega), up_ne (by omega)]
theorem k1_guard {G : ZG} {D : ZD} {c g nm th : Int} {X : Nat → ZG → Prop} {Q : Int → ZG → Prop} (hC : CD G D) (hM : MI D)
    (hX0 : ¬ gOk1 D c g nm → X 0 G) (hX1 : gOk1 D c g nm → ¬ gOk2 D c g nm th → X 1 G)
    (hQ : gOk1 D c g nm → gOk2 D c g nm th → ∀ G', Fr [16, 2, 3, 4] G G' → Chg G' → CD G' (addG D c g nm th) → Q (D 26 c) G') : vX1_guard c g nm th G X Q := by
  have hS := hC.1
  obtain ⟨td, pa, pf, hL, hP⟩ := hC.2.2.2.1
  obtain ⟨ka, kb, hLc, hcc⟩ := hC.2.2.2.2.2.2.1
  unfold vX1_guard
  refine sX1_caseAt hM hLc hcc (fun q => hX0 (fun z => q z.1)) (fun hcr hrow => ?_)
  have hcw := hM.2.2.2.2.1.2.2.2.2.2.2 c hcr.1 hcr.2
  rw [eX1_inRange]
  dsimp only [zjn]
  refine zbr_i (fun h => ?_) (fun h => ?_)
  · rw [reqI0]
    refine hX0 (fun z => ?_)
    rw [decide_eq_true z.2.1.1, decide_eq_true z.2.1.2] at h; cases h
  rw [eX1_inRange]
  refine zbr_i (fun h2 => ?_) (fun h2 => ?_)
  · rw [reqI0]
    refine hX0 (fun z => ?_)
    rw [decide_eq_true z.2.2.1, decide_eq_true z.2.2.2] at h2; cases h2
  have hg : -1 ≤ g ∧ g ≤ 3 := by
    rw [bb0] at h; simp at h; omega
  have hnm : 0 ≤ nm ∧ nm ≤ 5 := by
    rw [bb0] at h2; simp at h2; omega
  have hok1 : gOk1 D c g nm := ⟨hcr, hg, hnm⟩
  rw [reqI1, eX1_inRange]
  have bad : ¬ gOk2 D c g nm th → vX1_requireArgument 0 G X fun (_ : Unit) => zdR G (some (.inl (ka c.toNat))) 16 2 fun (x4 : ZR) => zbr (x4 ≠ none) (zdR G (some (.inl (ka c.toNat))) 16 2 fun (x7 : ZR) => zord x7 fun (x8 : Int) => zbr (g ≠ (-1)) (vX17_values G fun (x5 : ZR) (G5 : ZG) => zeR G5 x5 g fun (x6 : ZR) => zdP G5 (some (.inl (ka c.toNat))) 16 2 (.inr x6) fun (G1 : ZG) => zdP G1 (some (.inl (ka c.toNat))) 16 3 (.inl nm) fun (G2 : ZG) => zdP G2 (some (.inl (ka c.toNat))) 16 4 (.inl th) fun (G3 : ZG) => vX1_changed G3 fun (G4 : ZG) => Q x8 G4) (zdP G (some (.inl (ka c.toNat))) 16 2 (.inr none) fun (G1 : ZG) => zdP G1 (some (.inl (ka c.toNat))) 16 3 (.inl nm) fun (G2 : ZG) => zdP G2 (some (.inl (ka c.toNat))) 16 4 (.inl th) fun (G3 : ZG) => vX1_changed G3 fun (G4 : ZG) => Q x8 G4)) (zbr (g ≠ (-1)) (vX17_values G fun (x5 : ZR) (G5 : ZG) => zeR G5 x5 g fun (x6 : ZR) => zdP G5 (some (.inl (ka c.toNat))) 16 2 (.inr x6) fun (G1 : ZG) => zdP G1 (some (.inl (ka c.toNat))) 16 3 (.inl nm) fun (G2 : ZG) => zdP G2 (some (.inl (ka c.toNat))) 16 4 (.inl th) fun (G3 : ZG) => vX1_changed G3 fun (G4 : ZG) => Q (-1) G4) (zdP G (some (.inl (ka c.toNat))) 16 2 (.inr none) fun (G1 : ZG) => zdP G1 (some (.inl (ka c.toNat))) 16 3 (.inl nm) fun (G2 : ZG) => zdP G2 (some (.inl (ka c.toNat))) 16 4 (.inl th) fun (G3 : ZG) => vX1_changed G3 fun (G4 : ZG) => Q (-1) G4)) := by
    intro hno
    rw [reqA0]; exact hX1 hok1 hno
  have good : gOk2 D c g nm th → vX1_requireArgument 1 G X fun (_ : Unit) => zdR G (some (.inl (ka c.toNat))) 16 2 fun (x4 : ZR) => zbr (x4 ≠ none) (zdR G (some (.inl (ka c.toNat))) 16 2 fun (x7 : ZR) => zord x7 fun (x8 : Int) => zbr (g ≠ (-1)) (vX17_values G fun (x5 : ZR) (G5 : ZG) => zeR G5 x5 g fun (x6 : ZR) => zdP G5 (some (.inl (ka c.toNat))) 16 2 (.inr x6) fun (G1 : ZG) => zdP G1 (some (.inl (ka c.toNat))) 16 3 (.inl nm) fun (G2 : ZG) => zdP G2 (some (.inl (ka c.toNat))) 16 4 (.inl th) fun (G3 : ZG) => vX1_changed G3 fun (G4 : ZG) => Q x8 G4) (zdP G (some (.inl (ka c.toNat))) 16 2 (.inr none) fun (G1 : ZG) => zdP G1 (some (.inl (ka c.toNat))) 16 3 (.inl nm) fun (G2 : ZG) => zdP G2 (some (.inl (ka c.toNat))) 16 4 (.inl th) fun (G3 : ZG) => vX1_changed G3 fun (G4 : ZG) => Q x8 G4)) (zbr (g ≠ (-1)) (vX17_values G fun (x5 : ZR) (G5 : ZG) => zeR G5 x5 g fun (x6 : ZR) => zdP G5 (some (.inl (ka c.toNat))) 16 2 (.inr x6) fun (G1 : ZG) => zdP G1 (some (.inl (ka c.toNat))) 16 3 (.inl nm) fun (G2 : ZG) => zdP G2 (some (.inl (ka c.toNat))) 16 4 (.inl th) fun (G3 : ZG) => vX1_changed G3 fun (G4 : ZG) => Q (-1) G4) (zdP G (some (.inl (ka c.toNat))) 16 2 (.inr none) fun (G1 : ZG) => zdP G1 (some (.inl (ka c.toNat))) 16 3 (.inl nm) fun (G2 : ZG) => zdP G2 (some (.inl (ka c.toNat))) 16 4 (.inl th) fun (G3 : ZG) => vX1_changed G3 fun (G4 : ZG) => Q (-1) G4)) := by
    intro hok2
    rw [reqA1]
    obtain ⟨⟨nm0, th0, hk1, -⟩, hkb⟩ := id hrow
    rw [zdR_e hk1 rfl]
    have wr : ∀ (K : ZG) (v : Int), Fr [] G K → v = D 26 c → zdP K (some (.inl (ka c.toNat))) 16 2 (.inr (grf g)) fun (G1 : ZG) => zdP G1 (some (.inl (ka c.toNat))) 16 3 (.inl nm) fun (G2 : ZG) => zdP G2 (some (.inl (ka c.toNat))) 16 4 (.inl th) fun (G3 : ZG) => vX1_changed G3 fun (G4 : ZG) => Q v G4 := by
      rintro K v f rfl
      have hkK := f.2.2.2.2.1 (by simp) _ _ hk1 rfl
      refine zdP_i hkK ?_
      refine zdP_i (zsj_eq _ _ _) ?_
      refine zdP_i (zsj_eq _ _ _) ?_
      rw [zsc_zsc, zsc_zsc, eX1_changed]
      show Q (D 26 c) (zss (zss (zss (zsc K (ka c.toNat) (.inr (.inr (16, [.inr (some (.inl (kb c.toNat))), .inl (D 25 c), .inr (grf g), .inl nm, .inl th, .inl (D 29 c)])))) 2 11 0 0) 3 11 0 0) 4 2 0 0)
      have f1 := (f.mono (S' := [16, 2, 3, 4]) (by simp)).cas hS (fs' := [.inr (some (.inl (kb c.toNat))), .inl (D 25 c), .inr (grf g), .inl nm, .inl th, .inl (D 29 c)]) (by simp) hkK
      have f2 := f1.chg (by simp) (by simp) (by simp)
      have hzz : ∀ b, zsj (zss (zss (zss (zsc K (ka c.toNat) (.inr (.inr (16, [.inr (some (.inl (kb c.toNat))), .inl (D 25 c), .inr (grf g), .inl nm, .inl th, .inl (D 29 c)])))) 2 11 0 0) 3 11 0 0) 4 2 0 0) b = if b = ka c.toNat then some (.inr (.inr (16, [.inr (some (.inl (kb c.toNat))), .inl (D 25 c), .inr (grf g), .inl nm, .inl th, .inl (D 29 c)]))) else zsj K b := fun b => zsj_sc _ _ _ _
      have hch := Chg.of (zsc K (ka c.toNat) (.inr (.inr (16, [.inr (some (.inl (kb c.toNat))), .inl (D 25 c), .inr (grf g), .inl nm, .inl th, .inl (D 29 c)]))))
      generalize zss (zss (zss (zsc K (ka c.toNat) (.inr (.inr (16, [.inr (some (.inl (kb c.toNat))), .inl (D 25 c), .inr (grf g), .inl nm, .inl th, .inl (D 29 c)])))) 2 11 0 0) 3 11 0 0) 4 2 0 0 = K2 at f2 hzz hch
      obtain ⟨h0, h1, h2, h3, h4, h5, h6, h7⟩ := hC
      refine hQ hok1 hok2 K2 f2 hch ⟨f2.2.1, h1.fr f2 (by simp) (addG_o (by omega)) (addG_o (by omega)) (addG_o (by omega)), h2.fr f2 (by simp) (fun j hj => addG_o (by omega)), h3.fr f2 (by simp) (fun j hj => addG_o (by omega)), h4.fr f2 (by simp) (addG_o (by omega)), h5.fr f2 (by simp) (addG_o (by omega)) (addG_o (by omega)), ⟨ka, kb, by rw [addG_o (by omega)]; exact f2.lst ⟨by omega, by omega⟩ (by simp) hLc, by rw [addG_o (j := 23) (by omega)]; exact hcc.1, fun i hi => ?_⟩, h7.fr f2 (by simp) (fun j hj => addG_o (by omega))⟩
      rw [addG_o (j := 23) (by omega)] at hi
      rw [addG_o (j := 25) (by omega), addG_o (j := 29) (by omega), addG_o (j := 21) (by omega), addG_o (j := 24) (by omega), addG_26, addG_27, addG_28]
      by_cases hic : i = c.toNat
      · subst hic
        have ec : ((c.toNat : Nat) : Int) = c := by omega
        rw [ec, if_pos rfl, if_pos rfl, if_pos rfl]
        exact ⟨⟨nm, th, by rw [hzz, if_pos rfl], fun _ => ⟨rfl, rfl⟩⟩, f2.hk hkb⟩
      · rw [if_neg (by omega), if_neg (by omega), if_neg (by omega)]
        obtain ⟨⟨nm1, th1, g1, g2⟩, g3⟩ := hcc.2 i hi
        refine ⟨⟨nm1, th1, ?_, g2⟩, f2.hk g3⟩
        rw [hzz, if_neg (fun e => hic (hcc.1 i c.toNat hi (by omega) e))]
        exact f.2.2.2.2.1 (by simp) _ _ g1 rfl
    have wr2 : ∀ v : Int, v = D 26 c → zbr (g ≠ (-1)) (vX17_values G fun (x5 : ZR) (G5 : ZG) => zeR G5 x5 g fun (x6 : ZR) => zdP G5 (some (.inl (ka c.toNat))) 16 2 (.inr x6) fun (G1 : ZG) => zdP G1 (some (.inl (ka c.toNat))) 16 3 (.inl nm) fun (G2 : ZG) => zdP G2 (some (.inl (ka c.toNat))) 16 4 (.inl th) fun (G3 : ZG) => vX1_changed G3 fun (G4 : ZG) => Q v G4) (zdP G (some (.inl (ka c.toNat))) 16 2 (.inr none) fun (G1 : ZG) => zdP G1 (some (.inl (ka c.toNat))) 16 3 (.inl nm) fun (G2 : ZG) => zdP G2 (some (.inl (ka c.toNat))) 16 4 (.inl th) fun (G3 : ZG) => vX1_changed G3 fun (G4 : ZG) => Q v G4) := by
      intro v hv
      refine zbr_i (fun hgn => ?_) (fun hgn => ?_)
      · intro x hx
        refine ⟨⟨x, _, rfl, zsj_eq _ _ _⟩, ?_⟩
        have f1 := (Fr.refl [] hS).new hS (c := .inr (.inl (6, [some (.inr 20), some (.inr 21), some (.inr 22), some (.inr 23)]))) hx
        refine zeR_i (zsj_eq _ _ _) (by omega) (x := grf g) ?_ (wr _ v f1 hv)
        unfold grf
        rw [if_neg hgn]
        have : g = 0 ∨ g = 1 ∨ g = 2 ∨ g = 3 := by omega
        rcases this with rfl | rfl | rfl | rfl <;> rfl
      · have := wr G v (Fr.refl _ hS) hv
        rw [show grf g = none from grf_none.mpr (Decidable.of_not_not hgn)] at this
        exact this
    refine zbr_i (fun hn => ?_) (fun hn => ?_)
    · rw [zdR_e hk1 rfl]
      have h26 : D 26 c ≠ -1 := fun e => hn (grf_none.mpr e)
      have hrange := hcw.2.2.2.1
      have hrange2 := hcw.2.2.2.2.1
      refine ⟨(D 26 c).toNat, by omega, ?_, wr2 _ (by omega)⟩
      unfold grf; rw [if_neg h26]
    · exact wr2 _ (grf_none.mp (Decidable.of_not_not hn)).symm
  refine zbr_i (fun h3 => bad (fun z => ?_)) (fun h3 => ?_)
  · rw [decide_eq_true z.1.1, decide_eq_true z.1.2] at h3; cases h3
  · have hth : 0 ≤ th ∧ th ≤ 9 := by
      rw [bb0] at h3; simp at h3; omega
    refine zbr_i (fun hgn => ?_) (fun hgn => ?_)
    · refine w1_isNumberIn hC.2.1 hC.2.2.2.2.2.1 hM hL hP hcr hrow hnm ?_
      cases hb : nmc D nm c with
      | false => exact zbr_i (fun _ => bad (fun z => by have := z.2; rw [if_neg hgn, hb] at this; cases this)) (fun z => absurd rfl z)
      | true => exact zbr_i (fun z => by cases z) (fun _ => good ⟨hth, by rw [if_neg hgn]; exact hb⟩)
    · have hgn := Decidable.of_not_not hgn
      refine zbr_i (fun hn0 => bad (fun z => by have := z.2; rw [if_pos hgn] at this; exact hn0 this)) (fun hn0 => good ⟨hth, by rw [if_pos hgn]; exact Decidable.of_not_not hn0⟩)
/-! what is told of the latest run -/
theorem k1_tests {G : ZG} {D : ZD} {Q : Int → Prop} (hC : CD G D) (hQ : Q (D 47 0)) : vX1_tests G Q := by
  unfold vX1_tests
  rw [zgF_e, hC.2.2.2.2.2.2.2.2.1]; exact hQ
theorem k1_views {G : ZG} {D : ZD} {Q : Int → Prop} (hC : CD G D) (hQ : Q (D 48 0)) : vX1_views G Q := by
  unfold vX1_views
  rw [zgF_e, hC.2.2.2.2.2.2.2.1]; exact hQ
theorem k1_viewAt {G : ZG} {D : ZD} {i : Int} {X : Nat → ZG → Prop} {Q : Int → Prop} (hC : CD G D) (hM : MI D) (hX : ¬ (0 ≤ i ∧ i < D 48 0) → X 0 G) (hQ : 0 ≤ i ∧ i < D 48 0 → Q (100000 * D 49 i + 10 * D 50 i + D 51 i)) : vX1_viewAt i G X Q := by
  have hr := hC.2.2.2.2.2.2.2
  have m := hM.2.2.2.2.2
  have m1 := m.1
  have m2 := m.2.1
  unfold vX1_viewAt
  rw [zgF_e, hr.1, eX1_inRange, eX1_reqI, w32_eq (by omega) (by omega)]
  by_cases h : 0 ≤ i ∧ i < D 48 0
  · rw [if_pos (by simp; omega)]
    have h3 := hr.2.2.1 i h.1 h.2
    have b := m.2.2.1 i h.1 h.2
    refine ⟨h.1, by omega, h.1, by omega, h.1, by omega, ?_⟩
    rw [h3.1, h3.2.1, h3.2.2]
    have := hQ h
    rw [w32_eq (x := 100000 * D 49 i) (by omega) (by omega), w32_eq (x := 10 * D 50 i) (by omega) (by omega), w32_eq (x := 100000 * D 49 i + 10 * D 50 i) (by omega) (by omega)]
    dsimp only
    rw [w32_eq (x := 100000 * D 49 i + 10 * D 50 i + D 51 i) (by omega) (by omega)]
    exact this
  · rw [if_neg (by simp; omega)]; exact hX h
theorem k1_bound {G : ZG} {D : ZD} {i : Int} {X : Nat → ZG → Prop} {Q : Int → Prop} (hC : CD G D) (hX : ¬ (0 ≤ i ∧ i ≤ 5) → X 0 G) (hQ : 0 ≤ i ∧ i ≤ 5 → Q (if D 52 0 = -1 then -1 else D 53 i)) : vX1_bound i G X Q := by
  have hr := hC.2.2.2.2.2.2.2
  unfold vX1_bound
  rw [eX1_inRange, eX1_reqI]
  by_cases h : 0 ≤ i ∧ i ≤ 5
  · rw [if_pos (by simp; omega), zgF_e, hr.2.2.2.1]
    have hQ := hQ h
    dsimp only [zjn]
    refine zbr_i (fun hn => ⟨h.1, by omega, ?_⟩) (fun hn => ?_)
    · rw [if_neg hn] at hQ
      rw [hr.2.2.2.2 hn i h.1 (by omega)]; exact hQ
    · rw [if_pos (Decidable.of_not_not hn)] at hQ; exact hQ
  · rw [if_neg (by simp; omega)]; exact hX h
theorem k1_taken {G : ZG} {D : ZD} {c : Int} {X : Nat → ZG → Prop} {Q : Int → Prop} (hC : CD G D) (hM : MI D) (hX : ¬ (0 ≤ c ∧ c < D 23 0) → X 0 G) (hQ : 0 ≤ c ∧ c < D 23 0 → Q (D 29 c)) : vX1_taken c G X Q := by
  obtain ⟨ka, kb, hLc, hcc⟩ := hC.2.2.2.2.2.2.1
  refine sX1_caseAt hM hLc hcc hX (fun hcr hrow => ?_)
  obtain ⟨⟨nm0, th0, hk1, -⟩, hkb⟩ := id hrow
  rw [zdI_e hk1 rfl]; exact hQ hcr
