/-! COMPONENT: what cases need -/
set_option maxRecDepth 100000
/-- a tree of ours, but for what is asked and what is needed -/
def Vu (o : Nat) (G0 G : ZG) : Prop := Fr [o] G0 G ∧ (∀ j i, j ≠ 0 → (j < 17 ∨ 23 < j) → zsg G o j i = zsg G0 o j i) ∧ ∀ j i, zsr G o j i = zsr G0 o j i
theorem Vu.refl {o : Nat} {G : ZG} (hS : Sep G) : Vu o G G := ⟨Fr.refl _ hS, fun _ _ _ _ => rfl, fun _ _ => rfl⟩
theorem Vu.ss {o : Nat} {G0 G : ZG} (h : Vu o G0 G) (ho : tob o) {j : Nat} (i v : Int) (hj : j = 0 ∨ (17 ≤ j ∧ j ≤ 23)) : Vu o G0 (zss G o j i v) := by
  refine ⟨h.1.ss _ _ _ (by simp) (by unfold tob at ho; omega), fun j' i' j1 j2 => ?_, fun j' i' => by rw [zsr_ss]; exact h.2.2 j' i'⟩
  rw [zsg_ss, if_neg (by omega)]; exact h.2.1 j' i' j1 j2
theorem Vu.tu {o : Nat} {G0 K G : ZG} (h : Vu o G0 K) (t : Tu o K G) : Vu o G0 G :=
  ⟨h.1.trans t.1, fun j i j0 j1 => (t.2.1 j i j0 (by omega) (by omega) (by omega)).trans (h.2.1 j i j0 j1), fun j i => (t.2.2 j i).trans (h.2.2 j i)⟩
theorem KL.vu {o : Nat} {G0 G : ZG} {e : PT} (h : KL o G0 e) (t : Vu o G0 G) : KL o G e := by
  obtain ⟨h1, h2, h3⟩ := h
  refine ⟨by rw [t.2.1 15 0 (by omega) (by omega)]; exact h1, h2, fun k x hx => ?_⟩
  rw [t.2.1 12 k (by omega) (by omega), t.2.1 13 k (by omega) (by omega), t.2.1 14 k (by omega) (by omega)]
  exact h3 k x hx
theorem CDx.fr {o : Nat} {G G' : ZG} {D : ZD} (h : CDx G D) (f : Fr [o] G G') (ho : o = 1 ∨ o = 2 ∨ o = 3 ∨ o = 4) : CDx G' D := by
  obtain ⟨h1, h2, h3, h4, h5, h6, h7⟩ := h
  have n : ∀ x : Nat, x ≠ 1 → x ≠ 2 → x ≠ 3 → x ≠ 4 → x ∉ [o] := fun x a b c d z => by
    rw [List.mem_singleton] at z; omega
  exact ⟨f.2.1, h2.fr f ⟨n 7 (by omega) (by omega) (by omega) (by omega), n 11 (by omega) (by omega) (by omega) (by omega), n 12 (by omega) (by omega) (by omega) (by omega), n 13 (by omega) (by omega) (by omega) (by omega), n 14 (by omega) (by omega) (by omega) (by omega)⟩ rfl rfl rfl,
    h3.fr f (n 8 (by omega) (by omega) (by omega) (by omega)) (fun _ _ => rfl), h4.fr f (n 9 (by omega) (by omega) (by omega) (by omega)) (fun _ _ => rfl), h5.fr f (n 0 (by omega) (by omega) (by omega) (by omega)) rfl, h6.fr f (n 0 (by omega) (by omega) (by omega) (by omega)) rfl rfl,
    h7.fr f ⟨n 10 (by omega) (by omega) (by omega) (by omega), n 16 (by omega) (by omega) (by omega) (by omega)⟩ (fun _ _ => rfl)⟩
/-- the table of what is needed: of a place its cases, as bits -/
def NB (D : ZD) (e : PT) (o : Nat) (G : ZG) (m : Int → Nat) : Prop := ∃ L : List Int, L.Nodup ∧ (∀ q, q ∈ L ↔ 0 < m q) ∧ (∀ q ∈ L, q ∈ apl ∧ m q < 256) ∧ zsg G o 23 0 = (L.length : Int) ∧ ∀ (k : Nat) q, L[k]? = some q → zsg G o 20 k = q ∧ zsg G o 21 k = kd D e 8 q ∧ zsg G o 22 k = (m q : Int)
theorem NB.tu {D : ZD} {e : PT} {o : Nat} {G G' : ZG} {m : Int → Nat} (h : NB D e o G m) (t : Tu o G G') : NB D e o G' m := by
  obtain ⟨L, h1, h2, h3, h4, h5⟩ := h
  refine ⟨L, h1, h2, h3, by rw [t.2.1 23 0 (by omega) (by omega) (by omega) (by omega)]; exact h4, fun k q hk => ?_⟩
  rw [t.2.1 20 k (by omega) (by omega) (by omega) (by omega), t.2.1 21 k (by omega) (by omega) (by omega) (by omega), t.2.1 22 k (by omega) (by omega) (by omega) (by omega)]
  exact h5 k q hk
/-- a case is added at places -/
def orp (m : Int → Nat) (c : Nat) (S : List Int) : Int → Nat := fun q => if q ∈ S then m q ||| 2 ^ c else m q
theorem orp_nil (m : Int → Nat) (c : Nat) : orp m c [] = m := funext fun q => by unfold orp; rw [if_neg (by simp)]
theorem orp_app (m : Int → Nat) (c : Nat) (S T : List Int) : orp (orp m c S) c T = orp m c (S ++ T) := funext fun q => by
  unfold orp
  by_cases h1 : q ∈ S
  · rw [if_pos h1, if_pos (List.mem_append_left _ h1)]
    by_cases h2 : q ∈ T
    · rw [if_pos h2, Nat.or_assoc, Nat.or_self]
    · rw [if_neg h2]
  · rw [if_neg h1]
    by_cases h2 : q ∈ T
    · rw [if_pos h2, if_pos (List.mem_append_right _ h2)]
    · rw [if_neg h2, if_neg (fun z => (List.mem_append.mp z).elim h1 h2)]
theorem or_pos {a c : Nat} : 0 < a ||| 2 ^ c := by
  have h : 2 ^ c ≤ a ||| 2 ^ c := Nat.right_le_or
  have := Nat.two_pow_pos c
  omega
theorem w4_needs {D : ZD} {e : PT} {o : Nat} {G0 G : ZG} {m : Int → Nat} {p k c : Int} {Q : ZG → Prop} (ho : tob o) (t : Vu o G0 G) (h : NB D e o G m) (hp : p ∈ apl) (hkd : k = kd D e 8 p) (hc : 0 ≤ c ∧ c < 8)
    (hQ : ∀ G', Vu o G0 G' → NB D e o G' (orp m c.toNat [p]) → Q G') : vX4_needs o p k c G Q := by
  obtain ⟨L, h1, h2, h3, h4, h5⟩ := h
  have hlen : L.length ≤ 120 := by
    have := nd_le L apl h1 (fun q hq => (h3 q hq).1)
    rw [apl_len] at this; exact this
  have fin : ∀ (a : Int) (H : ZG), Vu o G0 H → (∃ L' : List Int, L'.Nodup ∧ (∀ q, q ∈ L' ↔ (q = p ∨ 0 < m q)) ∧ (∀ q ∈ L', q ∈ apl ∧ m q < 256) ∧ zsg H o 23 0 = (L'.length : Int) ∧ L'.length ≤ 121 ∧ 0 ≤ a ∧ L'[a.toNat]? = some p ∧ ∀ (k : Nat) q, L'[k]? = some q → zsg H o 20 k = q ∧ zsg H o 21 k = kd D e 8 q ∧ zsg H o 22 k = (m q : Int)) → zaL H o 22 600 a fun (x3 : Int) => zaS H o 22 600 a (bOr x3 (bShl 1 c)) fun (G1 : ZG) => Q G1 := by
    intro a H tH hL'
    obtain ⟨L', l1, l2, l3, l4, l6, a0, la, l5⟩ := hL'
    have al : a.toNat < L'.length := (List.getElem?_eq_some_iff.mp la).1
    have hr := l5 a.toNat p la
    have hm := (l3 p (List.mem_iff_getElem?.mpr ⟨_, la⟩)).2
    rw [show ((a.toNat : Nat) : Int) = a by omega] at hr
    refine zaL_i a0 (by omega) (zaS_i a0 (by omega) ?_)
    have hb := bits_set ⟨m p, hm⟩ ⟨c.toNat, by omega⟩
    dsimp only at hb
    rw [show ((c.toNat : Nat) : Int) = c by omega] at hb
    rw [hr.2.2, hb]
    refine hQ _ (tH.ss ho _ _ (by omega)) ⟨L', l1, fun q => ?_, fun q hq => ⟨(l3 q hq).1, ?_⟩, ?_, fun k q hk => ?_⟩
    · rw [l2]
      unfold orp
      by_cases hq : q = p
      · rw [if_pos (by simp [hq])]; exact ⟨fun _ => or_pos, fun _ => Or.inl hq⟩
      · rw [if_neg (by simp [hq])]; exact ⟨fun z => z.resolve_left hq, Or.inr⟩
    · unfold orp
      have hm := (l3 q hq).2
      split
      · exact Nat.or_lt_two_pow (n := 8) hm (Nat.pow_lt_pow_right (by omega) (by omega))
      · exact hm
    · rw [zsg_ss, if_neg (by omega)]; exact l4
    · have hk5 := l5 k q hk
      rw [zsg_ss, zsg_ss, if_neg (by omega), if_neg (by omega)]
      refine ⟨hk5.1, hk5.2.1, ?_⟩
      unfold orp
      by_cases hq : q = p
      · have hka : k = a.toNat := nd_inj L' l1 k a.toNat q hk (by rw [hq]; exact la)
        rw [if_pos (by simp [hq]), zsg_ss, if_pos ⟨rfl, rfl, by omega⟩, hq]
      · have hka : (k : Int) ≠ a := fun z => hq (by
          have : k = a.toNat := by omega
          rw [this, la] at hk
          exact (Option.some.inj hk).symm)
        rw [if_neg (by simp [hq]), zsg_ss, if_neg (by omega)]; exact hk5.2.2
  unfold vX4_needs
  refine zl1_of (fun a => 0 ≤ a ∧ a ≤ (L.length : Int) ∧ ∀ (j : Nat), (j : Int) < a → L[j]? ≠ some p) (fun a => ((L.length : Int) - a).toNat) (fun P a hI hPP => ?_) ⟨by omega, by omega, fun j hj => by omega⟩
  obtain ⟨a0, a1, hno⟩ := hI
  rw [zgF_e, zgF_e, h4]
  dsimp only [zjn]
  have found : L[a.toNat]? = some p → zbr (a ≠ (L.length : Int)) (zaL G o 22 600 a fun (x3 : Int) => zaS G o 22 600 a (bOr x3 (bShl 1 c)) fun (G1 : ZG) => Q G1) (zaS G o 20 600 a p fun (G2 : ZG) => zaS G2 o 21 600 a k fun (G3 : ZG) => zaS G3 o 22 600 a 0 fun (G4 : ZG) => zgF G4 o 23 fun (x4 : Int) => zpF G4 o 23 (w32 (x4 + 1)) fun (G5 : ZG) => zaL G5 o 22 600 a fun (x3 : Int) => zaS G5 o 22 600 a (bOr x3 (bShl 1 c)) fun (G1 : ZG) => Q G1) := fun ha => by
    have al := (List.getElem?_eq_some_iff.mp ha).1
    have hpL : p ∈ L := List.mem_iff_getElem?.mpr ⟨_, ha⟩
    refine zbr_i (fun _ => fin a G t ⟨L, h1, fun q => ?_, h3, h4, by omega, a0, ha, h5⟩) (fun z => absurd (Decidable.of_not_not z) (by omega))
    rw [h2]
    refine ⟨Or.inr, fun z => ?_⟩
    rcases z with z | z
    · rw [z]; exact (h2 p).mp hpL
    · exact z
  refine zbr_i (fun hk2 => ?_) (fun hk2 => ?_)
  · have ea : a = (L.length : Int) := by omega
    have hnp : p ∉ L := fun z => by
      obtain ⟨j, hj⟩ := List.mem_iff_getElem?.mp z
      have := (List.getElem?_eq_some_iff.mp hj).1
      exact hno j (by omega) hj
    have hm0 : m p = 0 := by
      have := (not_congr (h2 p)).mp hnp
      omega
    refine zbr_i (fun z => absurd ea z) (fun _ => ?_)
    refine zaS_i a0 (by omega) (zaS_i a0 (by omega) (zaS_i a0 (by omega) ?_))
    rw [zgF_e, zpF_e, zsg_ss, if_neg (by omega), zsg_ss, if_neg (by omega), zsg_ss, if_neg (by omega), h4, w32_eq (by omega) (by omega)]
    have hnd : (L ++ [p]).Nodup := by
      rw [List.nodup_append]
      refine ⟨h1, by simp, fun x hx y hy e => ?_⟩
      rw [List.mem_singleton] at hy
      subst e; subst hy
      exact hnp hx
    refine fin a _ ((((t.ss ho _ _ (by omega)).ss ho _ _ (by omega)).ss ho _ _ (by omega)).ss ho _ _ (by omega)) ⟨L ++ [p], hnd, fun q => ?_, fun q hq => ?_, ?_, ?_, a0, ?_, fun k2 q hk => ?_⟩
    · rw [List.mem_append, List.mem_singleton, h2]
      exact Or.comm
    · rcases List.mem_append.mp hq with hq | hq
      · exact h3 q hq
      · rw [List.mem_singleton] at hq; rw [hq, hm0]; exact ⟨hp, by omega⟩
    · rw [zsg_ss, if_pos ⟨rfl, rfl, rfl⟩, List.length_append]; simp
    · rw [List.length_append]; simp; omega
    · rw [show a.toNat = L.length by omega, List.getElem?_append_right (Nat.le_refl _), Nat.sub_self]; rfl
    · by_cases hkl : k2 < L.length
      · rw [List.getElem?_append_left hkl] at hk
        have := h5 k2 q hk
        refine ⟨?_, ?_, ?_⟩
        · rw [zsg_ss, if_neg (by omega), zsg_ss, if_neg (by omega), zsg_ss, if_neg (by omega), zsg_ss, if_neg (by omega)]; exact this.1
        · rw [zsg_ss, if_neg (by omega), zsg_ss, if_neg (by omega), zsg_ss, if_neg (by omega), zsg_ss, if_neg (by omega)]; exact this.2.1
        · rw [zsg_ss, if_neg (by omega), zsg_ss, if_neg (by omega), zsg_ss, if_neg (by omega), zsg_ss, if_neg (by omega)]; exact this.2.2
      · have hkl2 : k2 = L.length := by
          have := (List.getElem?_eq_some_iff.mp hk).1
          rw [List.length_append, List.length_singleton] at this
          omega
        subst hkl2
        rw [List.getElem?_append_right (Nat.le_refl _), Nat.sub_self] at hk
        simp only [List.getElem?_cons_zero, Option.some.injEq] at hk
        subst hk
        refine ⟨?_, ?_, ?_⟩
        · rw [zsg_ss, if_neg (by omega), zsg_ss, if_neg (by omega), zsg_ss, if_neg (by omega), zsg_ss, if_pos ⟨rfl, rfl, by omega⟩]
        · rw [zsg_ss, if_neg (by omega), zsg_ss, if_neg (by omega), zsg_ss, if_pos ⟨rfl, rfl, by omega⟩]; exact hkd
        · rw [zsg_ss, if_neg (by omega), zsg_ss, if_pos ⟨rfl, rfl, by omega⟩, hm0]; rfl
  · refine zaL_i a0 (by omega) ?_
    obtain ⟨y, hy⟩ : ∃ y, L[a.toNat]? = some y := ⟨_, List.getElem?_eq_getElem (by omega)⟩
    have q := h5 _ y hy
    rw [show ((a.toNat : Nat) : Int) = a by omega] at q
    rw [q.1]
    refine zbr_i (fun hn => found (by rw [hy, hn])) (fun hn => ?_)
    rw [zlt1_e, w32_eq (by omega) (by omega)]
    refine hPP _ ⟨by omega, by omega, fun j hj z => ?_⟩ (by omega)
    by_cases hja : (j : Int) = a
    · have : j = a.toNat := by omega
      subst this
      rw [hy] at z
      exact hn (Option.some.inj z)
    · exact hno j (by omega) z
theorem w4_needAll {D : ZD} {e : PT} {o : Nat} {G0 : ZG} {pa : Nat → Nat} {m p j c : Int} {pr : Int → Int} {a dd : Nat} (N : Int → Int → List Int) (hm : 0 ≤ m ∧ m ≤ 3) (hp : 0 ≤ p ∧ p ≤ 500) (hj : 0 ≤ j ∧ j ≤ 3)
    (hL : HI G0 a (.inr (.inl (4, (ints m pr).map fun n => some (.inl (pa n.toNat))))))
    (hneed : ∀ i, 0 ≤ i → i < m → ∀ (b : Int → Nat) (G : ZG) (Q : ZG → Prop), Vu o G0 G → NB D e o G b → (∀ G', Vu o G0 G' → NB D e o G' (orp b c.toNat (N (pr i) (5 * p + j + i + 1))) → Q G') → vX4_need dd o (some (.inl (pa (pr i).toNat))) (5 * p + j + i + 1) c G Q)
    {b : Int → Nat} {G : ZG} {Q : ZG → Prop} (t : Vu o G0 G) (hb : NB D e o G b) (hQ : ∀ G', Vu o G0 G' → NB D e o G' (orp b c.toNat ((prow m p j pr).flatMap fun x => N x.1 x.2)) → Q G') : vX4_needAll (dd + 1) o (some (.inl a)) p j c G Q := by
  rw [vX4_needAll_s]
  unfold bX4_needAll
  generalize hA : orp b c.toNat ((prow m p j pr).flatMap fun x => N x.1 x.2) = A at hQ
  refine zl2_of (fun i K => 0 ≤ i ∧ i ≤ m ∧ Vu o G0 K ∧ ∃ b', NB D e o K b' ∧ orp b' c.toNat (((prow m p j pr).drop i.toNat).flatMap fun x => N x.1 x.2) = A) (fun i _ => (m - i).toNat) (fun P i K hI hPP => ?_) ⟨by omega, hm.1, t, b, hb, hA⟩
  obtain ⟨i0, i1, t', b', hb', hA'⟩ := hI
  have hl := (t'.1.hk hL).1
  refine zeN_r hl ?_
  rw [List.length_map, ints_len, show ((m.toNat : Nat) : Int) = m by omega]
  refine zbr_i (fun hi => ?_) (fun hi => ?_)
  · have e : i = m := by omega
    subst e
    rw [show (prow i p j pr).drop i.toNat = [] from List.drop_eq_nil_of_le (by unfold prow; rw [List.length_map, List.length_range]; omega)] at hA'
    rw [List.flatMap_nil, orp_nil] at hA'
    subst hA'
    exact hQ K t' hb'
  · rw [w32_eq (by omega) (by omega)]
    refine zeR_i hl i0 (map_get i0 (by omega)) ?_
    rw [eX1_field _ _ _ hp.1 (by omega) (by omega) (by omega), show 5 * p + (j + i) + 1 = 5 * p + j + i + 1 by omega]
    refine hneed i i0 (by omega) b' K _ t' hb' (fun G' t2 hb2 => ?_)
    rw [zlt1_e, w32_eq (by omega) (by omega)]
    refine hPP _ _ ⟨by omega, by omega, t2, _, hb2, ?_⟩ (by omega)
    rw [orp_app, ← hA', prow_drop i0 (by omega), List.flatMap_cons]
theorem w4_need {o : Nat} {G0 : ZG} {D : ZD} {e : PT} {td pa pf : Nat → Nat} {c : Int} (ho : tob o) (hM : MI D) (hPI : PI D e) (hs : stk e) (hK : KL o G0 e) (hP : CPo G0 D td pa pf) (hc8 : 0 ≤ c ∧ c < 8) :
    ∀ (f : Nat) (n p k : Int) (d dd : Nat) (b : Int → Nat) (G : ZG) (Q : ZG → Prop), 0 ≤ n → n < D 9 0 → D 16 n ≤ f → tq D e d p k → fitk D n k → (d : Int) + D 15 n ≤ 4 → 2 * f ≤ dd → Vu o G0 G → NB D e o G b →
    (∀ G', Vu o G0 G' → NB D e o G' (orp b c.toNat (ndl D e f n p)) → Q G') → vX4_need dd o (some (.inl (pa n.toNat))) p c G Q := by
  intro f
  induction f with
  | zero =>
    intro n p k d dd b G Q h0 h1 hsz
    have := (hM.2.2.1.2.2 n h0 h1).2.2.2.1
    omega
  | succ f ih =>
    intro n p k d dd b G Q h0 h1 hsz hp hf hdp hdd hR hB hQ
    obtain ⟨dd, rfl⟩ : ∃ d', dd = d' + 2 := ⟨dd - 2, by omega⟩
    have hpw := hM.2.2.1.2.2 n h0 h1
    have m15 := hpw.2.2.1
    have hd3 : d ≤ 3 := by omega
    have en : ((n.toNat : Nat) : Int) = n := by omega
    have hc0 := (hP.2 n.toNat (by omega)).2.1
    have hfa := (hP.2 n.toNat (by omega)).2.2
    have hc := hR.1.hk hc0
    have htf := tq_f hM hPI (by omega) hp
    have hap := pl_apl hd3 htf.1
    have hpr := apl_r p hap
    have hE := ndl_s D e f n p
    obtain ⟨hform, -, -, -, -, -, -, -, -, -, -, f0, f1, f2, f3, f4, f5, f6⟩ := id hpw
    rw [hE] at hQ
    rw [vX4_need_s]
    unfold bX4_need
    refine w4_known (hK.vu hR) ?_
    have ef : (lko (kel e) (-1) p).getD (-1) = fa e p := by
      rcases lko_fa hs p with ⟨h1, h2⟩ | ⟨x, x0, h1, h2⟩
      · rw [h1, h2]; rfl
      · rw [h1, h2]; rfl
    rw [ef]
    dsimp only [zjn]
    refine pcell_k (f := 1) (by rw [en]; exact hpw) hc (by omega) ?_
    rw [en]
    by_cases e1 : D 10 n = 1
    · rw [if_pos e1] at hQ
      rw [zbr_bbt (decide_eq_true e1)]
      rw [pcell1 (by rw [en]; exact e1), en] at hc hc0
      have c1 := f1 e1
      have q0 := pch hM.2.2.1 h0 h1 (k := 0) (by omega) (by omega) (by omega)
      refine ⟨zca_i hc.1, zisO_i hc.1, ?_⟩
      unfold vX10_of
      rw [zdR_e hc.1 rfl]
      exact ih _ p k d (dd + 1) b G _ q0.1 q0.2.1 (by omega) hp (by unfold fitk at hf ⊢; rw [← c1.2.2.2.2.2.1]; exact hf) (by omega) (by omega) hR hB hQ
    rw [if_neg e1] at hQ
    rw [zbr_bbf (decide_eq_false e1)]
    refine pcell_k (f := 4) (by rw [en]; exact hpw) hc (by omega) ?_
    rw [en]
    by_cases e4 : D 10 n = 4
    · rw [if_pos e4] at hQ
      rw [zbr_bbt (decide_eq_true e4)]
      rw [cls13 (by rw [en]; exact e4), en] at hc hc0
      have c4 := f4 e4
      have q0 := pch hM.2.2.1 h0 h1 (k := 0) (by omega) (by omega) (by omega)
      have q1 := pch hM.2.2.1 h0 h1 (k := 1) (by omega) (by omega) (by omega)
      have ff := c4.2.2.2.2.2.1 k hf
      refine ⟨zca_i hc.1, zisO_i hc.1, ?_⟩
      unfold vX13_first
      rw [zdR_e hc.1 rfl]
      refine ih _ p k d (dd + 1) b G _ q0.1 q0.2.1 (by omega) hp ff.1 (by omega) (by omega) hR hB (fun G' hR' hB' => ?_)
      have hc' := (hR'.1.hk hc0).1
      refine ⟨zisO_i hc', ?_⟩
      unfold vX13_second
      rw [zdR_e hc' rfl]
      refine ih _ p k d (dd + 1) _ G' _ q1.1 q1.2.1 (by omega) hp ff.2 (by omega) (by omega) hR' hB' (fun G2 hR2 hB2 => ?_)
      rw [orp_app] at hB2
      exact hQ G2 hR2 hB2
    rw [if_neg e4] at hQ
    rw [zbr_bbf (decide_eq_false e4)]
    have go2 : ∀ Q', Q' (bb (decide (D 10 n = 2))) → ziO G (some (.inl (pa n.toNat))) 11 Q' := fun Q' h => pcell_k (f := 2) (by rw [en]; exact hpw) hc (by omega) (by rw [en]; exact h)
    have go3 : ∀ Q', Q' (bb (decide (D 10 n = 3))) → ziO G (some (.inl (pa n.toNat))) 12 Q' := fun Q' h => pcell_k (f := 3) (by rw [en]; exact hpw) hc (by omega) (by rw [en]; exact h)
    have go6 : ∀ Q', Q' (bb (decide (D 10 n = 6))) → ziO G (some (.inl (pa n.toNat))) 15 Q' := fun Q' h => pcell_k (f := 6) (by rw [en]; exact hpw) hc (by omega) (by rw [en]; exact h)
    refine go2 _ ?_
    by_cases e2 : D 10 n = 2
    · rw [if_pos e2] at hQ
      rw [zbr_bbt (decide_eq_true e2)]
      have hk : (4 : Int) = k := by unfold fitk at hf; have := f2 e2; omega
      refine zbr_i (fun hn => ?_) (fun hn => ?_)
      · rw [if_neg hn, orp_nil] at hQ
        refine go3 _ ?_
        rw [zbr_bbf (decide_eq_false (by omega))]
        refine go6 _ ?_
        rw [zbr_bbf (decide_eq_false (by omega))]
        refine go3 _ ?_
        rw [zbr_bbf (decide_eq_false (by omega))]
        refine go6 _ ?_
        rw [zbr_bbf (decide_eq_false (by omega))]
        exact hQ G hR hB
      · rw [if_pos (Decidable.of_not_not hn)] at hQ
        exact w4_needs ho hR hB hap (hk.trans hp.2.symm) hc8 hQ
    rw [if_neg e2] at hQ
    rw [zbr_bbf (decide_eq_false e2)]
    refine go3 _ ?_
    by_cases e3 : D 10 n = 3
    · rw [if_pos e3] at hQ
      rw [zbr_bbt (decide_eq_true e3)]
      have hfa := hfa (by rw [en]; exact Or.inl e3)
      have hck3 := hc
      rw [pcell3 (by rw [en]; exact e3), en] at hck3
      rw [en] at hfa
      have c3 := f3 e3
      have hk : D 11 n / 4 = k := by unfold fitk at hf; omega
      have e44 : 4 * (D 11 n / 4) + D 11 n % 4 = D 11 n := by omega
      have m2 := (hM.1 (D 11 n / 4) (by omega) (by omega)).2.2 (D 11 n % 4) (by omega) c3.2.2.1
      rw [e44] at m2
      have hck := c3.2.2.2.2.2
      rw [chl_mk m2.1 m2.2.1 (fun i i0 i1 => ((hck i i0 (by omega)).1 i1).1) (fun i i0 i1 => (hck i (by omega) i1).2 i0)] at hfa
      rw [chs_mk m2.1 m2.2.1 (fun i i0 i1 => ((hck i i0 (by omega)).1 i1).1) (fun i i0 i1 => (hck i (by omega) i1).2 i0)] at hQ
      refine ⟨zca_i hck3.1, ?_⟩
      refine zbr_i (fun hn => ?_) (fun hn => ?_)
      · rw [if_neg hn] at hQ
        refine go6 _ ?_
        rw [zbr_bbf (decide_eq_false (by omega))]
        refine go3 _ ?_
        rw [zbr_bbt (decide_eq_true e3)]
        refine ⟨zca_i hck3.1, zisO_i hck3.1, ?_⟩
        unfold vX12_constructor
        rw [zdI_e hck3.1 rfl]
        refine zbr_i (fun hne => ?_) (fun he => ⟨zisO_i hck3.1, ?_⟩)
        · rw [if_neg hne, orp_nil] at hQ
          refine go6 _ ?_
          rw [zbr_bbf (decide_eq_false (by omega))]
          exact hQ G hR hB
        · have he := Decidable.of_not_not he
          rw [if_pos he] at hQ
          unfold vX12_fields
          rw [zdR_e hck3.1 rfl]
          refine w4_needAll (ndl D e f) ⟨m2.1, m2.2.1⟩ ⟨by omega, by omega⟩ ⟨by omega, by omega⟩ hfa (fun i i0 i1 b2 G2 Q2 hR2 hB2 hQ2 => ?_) hR hB hQ
          have hci := (hck i i0 (by omega)).1 i1
          have qi := pch hM.2.2.1 h0 h1 (k := i) i0 (by omega) (by omega)
          exact ih (prt D n i) _ (D 3 (3 * D 11 n + i)) (d + 1) dd b2 G2 Q2 qi.1 qi.2.1 (by omega) (tq_mk hM hPI hd3 h0 h1 e3 hp hf he i0 i1) hci.2.1 (by omega) (by omega) hR2 hB2 hQ2
      · rw [if_pos (Decidable.of_not_not hn)] at hQ
        refine ⟨zisO_i hck3.1, ?_⟩
        unfold vX12_type
        rw [zdI_e hck3.1 rfl]
        exact w4_needs ho hR hB hap (hk.trans hp.2.symm) hc8 hQ
    rw [if_neg e3] at hQ
    rw [zbr_bbf (decide_eq_false e3)]
    refine go6 _ ?_
    by_cases e6 : D 10 n = 6
    · rw [if_pos e6] at hQ
      rw [zbr_bbt (decide_eq_true e6)]
      have hfa := hfa (by rw [en]; exact Or.inr e6)
      have hck6 := hc
      rw [pcell6 (by rw [en]; exact e6), en] at hck6
      rw [en] at hfa
      have c6 := f6 e6
      have hk : (5 : Int) = k := by unfold fitk at hf; omega
      have hck := c6.2.2.2.2.2.2
      rw [chl_mk c6.1 (by omega) (fun i i0 i1 => ((hck i i0 (by omega)).1 i1).1) (fun i i0 i1 => (hck i (by omega) i1).2 i0)] at hfa
      rw [chs_mk c6.1 (by omega) (fun i i0 i1 => ((hck i i0 (by omega)).1 i1).1) (fun i i0 i1 => (hck i (by omega) i1).2 i0)] at hQ
      have hlen : (((ints (D 11 n) (prt D n)).map fun (q : Int) => (some (.inl (pa q.toNat)) : ZR)).length : Int) = D 11 n := by rw [List.length_map, ints_len]; omega
      have hfa' := (hR.1.hk hfa).1
      refine zbr_i (fun hn => ?_) (fun hn => ?_)
      · rw [if_neg hn] at hQ
        refine go3 _ ?_
        rw [zbr_bbf (decide_eq_false (by omega))]
        refine go6 _ ?_
        rw [zbr_bbt (decide_eq_true e6)]
        refine ⟨zca_i hck6.1, zisO_i hck6.1, w1_fits c6.1 hck6.1 hfa' hlen ?_⟩
        cases hfit : fitl D n (fa e p) with
        | false =>
          rw [if_neg (by rw [hfit]; simp), orp_nil] at hQ
          exact zbr_i (fun _ => hQ _ hR hB) (fun z => absurd rfl z)
        | true =>
          rw [if_pos hfit] at hQ
          refine zbr_i (fun z => by cases z) (fun _ => ⟨zisO_i hck6.1, ?_⟩)
          unfold vX15_items
          rw [zdR_e hck6.1 rfl]
          have hbeg := begl_r hfit c6.1
          have hfr := htf.2.2.2.resolve_left hn
          rw [← hk, ways_5] at hfr
          refine ⟨zisO_i hck6.1, w1_begin c6.1 (by omega) (by omega) hck6.1 hfa' hlen ?_⟩
          refine w4_needAll (ndl D e f) ⟨c6.1, by omega⟩ ⟨by omega, by omega⟩ ⟨by omega, by omega⟩ hfa (fun i i0 i1 b2 G2 Q2 hR2 hB2 hQ2 => ?_) hR hB hQ
          have hci := (hck i i0 (by omega)).1 i1
          have qi := pch hM.2.2.1 h0 h1 (k := i) i0 (by omega) (by omega)
          exact ih (prt D n i) _ 4 (d + 1) dd b2 G2 Q2 qi.1 qi.2.1 (by omega) (tq_ls hM hPI hd3 h0 h1 e6 hp hf hn hfit i0 i1) hci.2.1 (by omega) (by omega) hR2 hB2 hQ2
      · rw [if_pos (Decidable.of_not_not hn)] at hQ
        exact w4_needs ho hR hB hap (hk.trans hp.2.symm) hc8 hQ
    rw [if_neg e6, orp_nil] at hQ
    rw [zbr_bbf (decide_eq_false e6)]
    refine go3 _ ?_
    rw [zbr_bbf (decide_eq_false (by omega))]
    refine go6 _ ?_
    rw [zbr_bbf (decide_eq_false (by omega))]
    exact hQ G hR hB
