/-! COMPONENT: the place that most cases need -/
set_option maxRecDepth 100000
def bcn (p0 : Int) : Int :=
  let x1 := w32 (p0 - (bAnd (bUshr p0 1) 1431655765))
  let x2 := w32 ((bAnd x1 858993459) + (bAnd (bUshr x1 2) 858993459))
  let x3 := bAnd (w32 (x2 + (bUshr x2 4))) 252645135
  let x4 := w32 (x3 + (bUshr x3 8))
  bAnd (w32 (x4 + (bUshr x4 16))) 63
theorem bcn_e (p0 : Int) (Q : Int → Prop) : vJ22_bitCount p0 Q = Q (bcn p0) := by
  unfold vJ22_bitCount bcn
  simp only [zlt1_e]
/-- how many bits -/
def pcn (a : Nat) : Nat := ((List.range 8).filter fun i => a.testBit i).length
theorem bcn_p : ∀ a : Fin 256, bcn (a.val : Int) = (pcn a.val : Int) := by decide +kernel
theorem pcn_or : ∀ c : Fin 8, ∀ a : Fin 256, a.val < 2 ^ c.val → pcn (a.val ||| 2 ^ c.val) = pcn a.val + 1 := by decide +kernel
/-- the cases up to one that need a place, as bits -/
def mkm (D : ZD) (e : PT) : Nat → Int → Nat
  | 0, _ => 0
  | c + 1, q => if elig D e (c : Int) = true ∧ q ∈ ndc D e (c : Int) then mkm D e c q ||| 2 ^ c else mkm D e c q
theorem mkm_lt (D : ZD) (e : PT) (q : Int) : ∀ c, mkm D e c q < 2 ^ c
  | 0 => Nat.one_pos
  | c + 1 => by
    have ih := mkm_lt D e q c
    have h2 : (2 : Nat) ^ (c + 1) = 2 ^ c * 2 := Nat.pow_succ 2 c
    have e1 : mkm D e (c + 1) q = if elig D e (c : Int) = true ∧ q ∈ ndc D e (c : Int) then mkm D e c q ||| 2 ^ c else mkm D e c q := rfl
    rw [e1]
    split
    · refine Nat.or_lt_two_pow (by omega) (Nat.pow_lt_pow_right (by omega) (by omega))
    · omega
theorem mkm_cnt (D : ZD) (e : PT) (q : Int) : ∀ c, c ≤ 8 → pcn (mkm D e c q) = (((List.range c).map fun (k : Nat) => (k : Int)).filter fun x => elig D e x && (ndc D e x).contains q).length
  | 0, _ => by
    show pcn 0 = 0
    decide
  | c + 1, h => by
    have ih := mkm_cnt D e q c (by omega)
    have hlt := mkm_lt D e q c
    have h8 : (2 : Nat) ^ c ≤ 2 ^ 7 := Nat.pow_le_pow_right (by omega) (by omega)
    have e1 : mkm D e (c + 1) q = if elig D e (c : Int) = true ∧ q ∈ ndc D e (c : Int) then mkm D e c q ||| 2 ^ c else mkm D e c q := rfl
    rw [e1, List.range_succ, List.map_append, List.filter_append, List.length_append, ← ih]
    simp only [List.map_cons, List.map_nil]
    by_cases hc : elig D e (c : Int) = true ∧ q ∈ ndc D e (c : Int)
    · rw [if_pos hc, List.filter_cons_of_pos (by rw [hc.1, Bool.true_and]; exact List.contains_iff_mem.mpr hc.2), List.filter_nil]
      exact pcn_or ⟨c, by omega⟩ ⟨mkm D e c q, by omega⟩ hlt
    · rw [if_neg hc, List.filter_cons_of_neg (fun z => hc (by
        rw [Bool.and_eq_true] at z
        exact ⟨z.1, List.contains_iff_mem.mp z.2⟩)), List.filter_nil]
      rfl
theorem mkm_pos {D : ZD} {e : PT} {c : Nat} {q : Int} (h : c ≤ 8) (h2 : (((List.range c).map fun (k : Nat) => (k : Int)).filter fun x => elig D e x && (ndc D e x).contains q).length ≠ 0) : 0 < mkm D e c q := by
  have := mkm_cnt D e q c h
  by_cases hz : mkm D e c q = 0
  · rw [hz] at this
    have : pcn 0 = 0 := by decide
    omega
  · omega
/-- what failed is marked -/
def FK (o : Nat) (G : ZG) (e : PT) : Prop := (0 ≤ zsg G o 16 0 ∧ zsg G o 16 0 ≤ 255) ∧ ∀ c, 0 ≤ c → c < 8 → hs (zsg G o 16 0) c = ff e c
theorem w4_most {D : ZD} {e : PT} {o : Nat} {G0 G : ZG} {Q : ZG → Prop} (ho : tob o) (hC : CDx G0 D) (hM : MI D) (hPI : PI D e) (hs : stk e) (hK : KL o G0 e) (hF : FK o G0 e) (t : Vu o G0 G) (hne : allp D e ≠ [])
    (hQ : ∀ G', Vu o G0 G' → zsg G' o 17 0 = best D e → zsg G' o 18 0 = kd D e 8 (best D e) → zsg G' o 19 0 = 0 → Q G') : vX4_mostNeeded o G Q := by
  have m21 : 0 ≤ D 21 0 ∧ D 21 0 ≤ 3 := ⟨hM.2.2.2.2.1.1, hM.2.2.2.2.1.2.1⟩
  have m23 : 0 ≤ D 23 0 ∧ D 23 0 ≤ 8 := ⟨hM.2.2.2.2.1.2.2.2.1, hM.2.2.2.2.1.2.2.2.2.1⟩
  obtain ⟨hS, hCt, hCv, ⟨td, pa, pf, hLp, hP⟩, hCw, hCk, ⟨ka, kb, hLc, hcc⟩⟩ := id hC
  have no1 : ∀ x : Nat, x = 0 ∨ 4 < x → x ∉ [o] := fun x h z => by
    rw [List.mem_singleton] at z; unfold tob at ho; omega
  unfold vX4_mostNeeded
  rw [zpF_e]
  have t1 : Vu o G0 (zss G o 23 0 0) := t.ss ho _ _ (by omega)
  have nb1 : NB D e o (zss G o 23 0 0) (mkm D e (0 : Int).toNat) := ⟨[], List.nodup_nil, fun q => ⟨fun z => (by cases z), fun z => absurd z (Nat.lt_irrefl 0)⟩, (fun q hq => by cases hq), by rw [zsg_ss, if_pos ⟨rfl, rfl, rfl⟩]; rfl, fun k q hk => by simp at hk⟩
  generalize zss G o 23 0 0 = G1 at t1 nb1
  refine zl2_of (fun c K => 0 ≤ c ∧ c ≤ D 23 0 ∧ Vu o G0 K ∧ NB D e o K (mkm D e c.toNat)) (fun c _ => (D 23 0 - c).toNat) (fun P c K hI hPP => ?_) ⟨by omega, m23.1, t1, nb1⟩
  obtain ⟨c0, c1, tK, hB⟩ := hI
  have hLK := tK.1.lst ⟨by omega, by omega⟩ (no1 10 (by omega)) hLc
  rw [eJ2_size, hLK.1, refs_len, show (((D 23 0).toNat : Nat) : Int) = D 23 0 by omega]
  refine zbr_i (fun hi => ?_) (fun hi => ?_)
  · have ec : c = D 23 0 := by omega
    subst ec
    have hcnt : ∀ q, pcn (mkm D e (D 23 0).toNat q) = cntp D e q := fun q => mkm_cnt D e q _ (by omega)
    have hlt : ∀ q, mkm D e (D 23 0).toNat q < 256 := fun q => Nat.lt_of_lt_of_le (mkm_lt D e q _) (show 2 ^ (D 23 0).toNat ≤ 2 ^ 8 from Nat.pow_le_pow_right (by omega) (by omega))
    obtain ⟨L, l1, l2, l3, l4, l5⟩ := hB
    have hmem : ∀ q, q ∈ L ↔ q ∈ allp D e := fun q => by
      rw [l2, ← cntp_pos, ← hcnt]
      constructor
      · intro h
        refine Nat.pos_of_ne_zero fun z => ?_
        rw [hcnt] at z
        have hno : ¬ 0 < cntp D e q := by omega
        have key : ∀ c, c ≤ (D 23 0).toNat → mkm D e c q = 0 := fun c => by
          induction c with
          | zero => intro _; rfl
          | succ c ih =>
            intro hc
            have e1 : mkm D e (c + 1) q = if elig D e (c : Int) = true ∧ q ∈ ndc D e (c : Int) then mkm D e c q ||| 2 ^ c else mkm D e c q := rfl
            rw [e1, if_neg (fun y => hno (by
              unfold cntp
              rw [List.length_pos_iff_exists_mem]
              refine ⟨(c : Int), List.mem_filter.mpr ⟨?_, ?_⟩⟩
              · unfold csl
                exact List.mem_map.mpr ⟨c, List.mem_range.mpr (by omega), rfl⟩
              · rw [y.1, Bool.true_and]; exact List.contains_iff_mem.mpr y.2))]
            exact ih (by omega)
        have := key _ (Nat.le_refl _)
        omega
      · intro h
        refine Nat.pos_of_ne_zero fun z => ?_
        rw [z] at h
        have : pcn 0 = 0 := by decide
        omega
    have hL0 : 0 < L.length := by
      rw [List.length_pos_iff_exists_mem]
      obtain ⟨y, hy⟩ := List.exists_mem_of_ne_nil _ hne
      exact ⟨y, (hmem y).mpr hy⟩
    have hLen : L.length ≤ 120 := by
      have := nd_le L apl l1 (fun q hq => (l3 q hq).1)
      rw [apl_len] at this; exact this
    obtain ⟨y0, hy0⟩ : ∃ y, L[0]? = some y := ⟨_, List.getElem?_eq_getElem hL0⟩
    refine zl2_of (fun b k => 1 ≤ k ∧ k ≤ (L.length : Int) ∧ 0 ≤ b ∧ ∃ y, L[b.toNat]? = some y ∧ ∀ (j : Nat) q, (j : Int) < k → L[j]? = some q → cntp D e q < cntp D e y ∨ (cntp D e q = cntp D e y ∧ y ≤ q)) (fun _ k => ((L.length : Int) - k).toNat) (fun P2 b k hI hPP2 => ?_) ⟨by omega, by omega, by omega, y0, hy0, fun j q hj hq => ?_⟩
    · obtain ⟨k0, k1, b0, y, hy, hbest⟩ := hI
      have hbl := (List.getElem?_eq_some_iff.mp hy).1
      have hyr := l5 _ y hy
      rw [show ((b.toNat : Nat) : Int) = b by omega] at hyr
      rw [zgF_e, l4]
      refine zbr_i (fun hk => ?_) (fun hk => ?_)
      · have hb : best D e = y := by
          refine Bst.uniq (argb_best (w := cntp D e) (allp D e) hne) ⟨(hmem y).mp (List.mem_iff_getElem?.mpr ⟨_, hy⟩), fun q hq => ?_⟩
          obtain ⟨j, hj⟩ := List.mem_iff_getElem?.mp ((hmem q).mpr hq)
          have := (List.getElem?_eq_some_iff.mp hj).1
          exact hbest j q (by omega) hj
        refine zaL_i b0 (by omega) ?_
        rw [hyr.1, zpF_e]
        refine zaL_i b0 (by omega) ?_
        rw [zpF_e, zpF_e, zsg_ss, if_neg (by omega), hyr.2.1]
        refine hQ _ (((tK.ss ho _ _ (by omega)).ss ho _ _ (by omega)).ss ho _ _ (by omega)) ?_ ?_ ?_
        · rw [zsg_ss, if_neg (by omega), zsg_ss, if_neg (by omega), zsg_ss, if_pos ⟨rfl, rfl, rfl⟩, hb]
        · rw [zsg_ss, if_neg (by omega), zsg_ss, if_pos ⟨rfl, rfl, rfl⟩, hb]
        · rw [zsg_ss, if_pos ⟨rfl, rfl, rfl⟩]
      · obtain ⟨x, hx⟩ : ∃ x, L[k.toNat]? = some x := ⟨_, List.getElem?_eq_getElem (by omega)⟩
        have hxr := l5 _ x hx
        rw [show ((k.toNat : Nat) : Int) = k by omega] at hxr
        have cx := bcn_p ⟨_, hlt x⟩
        have cy := bcn_p ⟨_, hlt y⟩
        dsimp only at cx cy
        rw [hcnt] at cx cy
        have bx : cntp D e x ≤ 8 := by
          have := List.length_filter_le (fun c => elig D e c && (ndc D e c).contains x) (csl D)
          have e2 : (csl D).length = (D 23 0).toNat := by unfold csl; rw [List.length_map, List.length_range]
          unfold cntp; omega
        have bY : cntp D e y ≤ 8 := by
          have := List.length_filter_le (fun c => elig D e c && (ndc D e c).contains y) (csl D)
          have e2 : (csl D).length = (D 23 0).toNat := by unfold csl; rw [List.length_map, List.length_range]
          unfold cntp; omega
        refine zaL_i (by omega) (by omega) ?_
        rw [bcn_e, hxr.2.2, cx]
        refine zaL_i b0 (by omega) ?_
        rw [bcn_e, hyr.2.2, cy, zlt1_e, show w32 ((cntp D e x : Int) - (cntp D e y : Int)) = (cntp D e x : Int) - (cntp D e y : Int) from w32_eq (by omega) (by omega)]
        dsimp only [zjn]
        have new : (cntp D e y < cntp D e x ∨ (cntp D e y = cntp D e x ∧ x ≤ y)) → zlt1 (w32 (k + 1)) fun x10 => P2 k x10 := fun h => by
          rw [zlt1_e, w32_eq (by omega) (by omega)]
          refine hPP2 _ _ ⟨by omega, by omega, by omega, x, hx, fun j q hj hq => ?_⟩ (by omega)
          by_cases hjk : (j : Int) = k
          · have : j = k.toNat := by omega
            subst this
            rw [hx] at hq
            have := Option.some.inj hq
            subst this
            exact Or.inr ⟨rfl, Int.le_refl _⟩
          · have := hbest j q (by omega) hq
            omega
        have old : (cntp D e x < cntp D e y ∨ (cntp D e x = cntp D e y ∧ y ≤ x)) → zlt1 (w32 (k + 1)) fun x10 => P2 b x10 := fun h => by
          rw [zlt1_e, w32_eq (by omega) (by omega)]
          refine hPP2 _ _ ⟨by omega, by omega, b0, y, hy, fun j q hj hq => ?_⟩ (by omega)
          by_cases hjk : (j : Int) = k
          · have : j = k.toNat := by omega
            subst this
            rw [hx] at hq
            have := Option.some.inj hq
            subst this
            exact h
          · exact hbest j q (by omega) hq
        refine zbr_i (fun hp => new (Or.inl (by omega))) (fun hp => ?_)
        refine zbr_i (fun hn => old (Or.inl (by omega))) (fun hn => ?_)
        have hn := Decidable.of_not_not hn
        refine zaL_i (by omega) (by omega) ?_
        rw [hxr.1]
        refine zaL_i b0 (by omega) ?_
        rw [hyr.1]
        exact zbr_i (fun hle => old (Or.inr ⟨by omega, hle⟩)) (fun hle => new (Or.inr ⟨by omega, by omega⟩))
    · have : j = 0 := by omega
      subst this
      rw [hy0] at hq
      have := Option.some.inj hq
      subst this
      exact Or.inr ⟨rfl, Int.le_refl _⟩
  · rw [zgF_e, tK.2.1 16 0 (by omega) (by omega), eX1_has, hF.2 c c0 (by omega)]
    have eS : (c + 1).toNat = c.toNat + 1 := by omega
    have ec : ((c.toNat : Nat) : Int) = c := by omega
    have eM : mkm D e (c + 1).toNat = fun q => if elig D e c = true ∧ q ∈ ndc D e c then mkm D e c.toNat q ||| 2 ^ c.toNat else mkm D e c.toNat q := by
      rw [eS]
      funext q
      have e1 : mkm D e (c.toNat + 1) q = if elig D e ((c.toNat : Nat) : Int) = true ∧ q ∈ ndc D e ((c.toNat : Nat) : Int) then mkm D e c.toNat q ||| 2 ^ c.toNat else mkm D e c.toNat q := rfl
      rw [e1, ec]
    have skip : elig D e c ≠ true → ∀ H, Vu o G0 H → NB D e o H (mkm D e c.toNat) → zlt1 (w32 (c + 1)) fun x15 => P x15 H := fun hn H tH hH => by
      rw [zlt1_e, w32_eq (by omega) (by omega)]
      refine hPP _ _ ⟨by omega, by omega, tH, ?_⟩ (by omega)
      rw [eM, show (fun q => if elig D e c = true ∧ q ∈ ndc D e c then mkm D e c.toNat q ||| 2 ^ c.toNat else mkm D e c.toNat q) = mkm D e c.toNat from funext fun q => if_neg (fun z => hn z.1)]
      exact hH
    dsimp only [zjn]
    cases hff : ff e c with
    | true =>
      refine zbr_i (fun _ => skip (by unfold elig; rw [hff]; simp) K tK hB) (fun z => absurd (show bb true ≠ 0 by simp [bb]) z)
    | false =>
      refine zbr_i (fun z => absurd rfl z) (fun _ => ?_)
      have hrow : CRow G0 D (ka c.toNat) (kb c.toNat) c := by
        have := hcc.2 c.toNat (by omega)
        rw [show ((c.toNat : Nat) : Int) = c by omega] at this
        exact this
      have hrowK := hrow.fr tK.1 (no1 16 (by omega))
      obtain ⟨⟨nm0, th0, hk1, hnt⟩, hkb⟩ := id hrowK
      refine sJ2_get hLK c0 (refs_get c0 (by omega)) ?_
      refine ⟨zca_i hk1, w4_case ho (hC.fr tK.1 (by unfold tob at ho; omega)) hM hPI hs (hK.vu tK) ⟨c0, by omega⟩ hrowK (Tu.refl tK.1.2.1) (fun G' tu _ => ?_)⟩
      have tG := tK.tu tu
      have hBG := hB.tu tu
      refine zbr_i (fun hz => skip (by unfold elig; rw [hff, hz]; simp) G' tG hBG) (fun hz => ?_)
      have hel : elig D e c = true := by unfold elig; rw [hff, decide_eq_true hz]; rfl
      have hcols : ∀ b, orp b c.toNat ((prow (D 21 0) 0 0 fun k => D 24 (3 * c + k)).flatMap fun x => ndl D e 40 x.1 x.2) = orp b c.toNat (ndc D e c) := fun b => by
        unfold ndc; rw [cols_p]
      refine zl2_of (fun i H => 0 ≤ i ∧ i ≤ D 21 0 ∧ Vu o G0 H ∧ ∃ b, NB D e o H b ∧ orp b c.toNat (((prow (D 21 0) 0 0 fun k => D 24 (3 * c + k)).drop i.toNat).flatMap fun x => ndl D e 40 x.1 x.2) = mkm D e (c + 1).toNat) (fun i _ => (D 21 0 - i).toNat) (fun P2 i H hI hPP2 => ?_) ⟨by omega, m21.1, tG, _, hBG, ?_⟩
      · obtain ⟨i0, i1, tH, b, hbH, hbe⟩ := hI
        rw [zgF_e, tH.1.g (no1 0 (by omega)), hCk.1]
        refine zbr_i (fun hi2 => ?_) (fun hi2 => ?_)
        · rw [show ((prow (D 21 0) 0 0 fun k => D 24 (3 * c + k)).drop i.toNat) = [] from List.drop_eq_nil_of_le (by unfold prow; rw [List.length_map, List.length_range]; omega), List.flatMap_nil, orp_nil] at hbe
          rw [zlt1_e, w32_eq (by omega) (by omega)]
          exact hPP _ _ ⟨by omega, by omega, tH, by rw [← hbe]; exact hbH⟩ (by omega)
        · have hLH := tH.1.lst ⟨by omega, by omega⟩ (no1 10 (by omega)) hLc
          have hrowH := hrow.fr tH.1 (no1 16 (by omega))
          obtain ⟨⟨nm1, th1, hk2, hnt2⟩, hkb2⟩ := id hrowH
          have how := hM.2.2.2.2.1.2.2.2.2.2.2 c c0 (by omega) |>.1 i i0 (by omega)
          have hpw := hM.2.2.1.2.2 _ how.1 how.2.1
          have a15 := hpw.2.2.1
          have a16 := hpw.2.2.2.1
          refine sJ2_get hLH c0 (refs_get c0 (by omega)) ?_
          refine ⟨zca_i hk2, ?_⟩
          rw [zdR_e hk2 rfl]
          refine zeI_i hkb2.1 i0 (ints_get i0 (by omega)) ?_
          refine sX1_told (tH.1.lst ⟨by omega, by omega⟩ (no1 9 (by omega)) hLp) (hP.fr tH.1 (fun _ _ => rfl)) how.1 how.2.1 (fun htl => ⟨zisO_i htl.1, ?_⟩)
          rw [Tl.pat htl, w32_eq (by omega) (by omega)]
          have htq : tq D e 0 (i + 1) (D 22 i) := ⟨⟨by omega, by omega⟩, by rw [kd_s, if_pos (by omega)]; congr 1; omega⟩
          refine w4_need ho hM hPI hs hK hP ⟨c0, by omega⟩ 40 (D 24 (3 * c + i)) (i + 1) (D 22 i) 0 90 b H _ how.1 how.2.1 (by omega) htq how.2.2 (by omega) (by omega) tH hbH (fun G2 t2 hb2 => ?_)
          rw [zlt1_e]
          refine hPP2 _ _ ⟨by omega, by omega, t2, _, hb2, ?_⟩ (by omega)
          rw [orp_app, ← hbe, prow_drop i0 (by omega), List.flatMap_cons]
          dsimp only
          rw [show 5 * 0 + 0 + i + 1 = i + 1 by omega]
      · show orp _ _ (((prow (D 21 0) 0 0 fun k => D 24 (3 * c + k))).flatMap fun x => ndl D e 40 x.1 x.2) = _
        rw [hcols, eM]
        funext q
        unfold orp
        by_cases hq : q ∈ ndc D e c
        · rw [if_pos hq, if_pos ⟨hel, hq⟩]
        · rw [if_neg hq, if_neg (fun z => hq z.2)]
