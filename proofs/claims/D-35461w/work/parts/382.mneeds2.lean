/-! REFERENCE: all that a case needs, gone through -/
set_option maxRecDepth 100000
def ne_nL (P46 : Int → ZG → Prop) (x2 x3 x4 x5 z185_0 z217_0 : Int) (H138 : ZG) : Prop := zl3 (fun (P222 : Int → Int → ZG → Prop) (a222_2 : Int) (a222_10 : Int) (K222 : ZG) => zjn (fun (_ : Unit) => P46 a222_2 K222) fun J309 => zbr (3 ≤ a222_10) (J309 ()) (zbr (z185_0 = 0) (J309 ()) (zaL K222 5 13 180 (w32 ((w32 (3 * x3)) + a222_10)) fun (x6 : Int) => zjn (fun (y303_2 : Int) (H303 : ZG) => zlt1 (w32 (a222_10 + 1)) fun (x7 : Int) => P222 y303_2 x7 H303) fun J303 => zbr (x6 = (-1)) (J303 a222_2 K222) (zaL K222 5 13 180 (w32 ((w32 (3 * x3)) + a222_10)) fun (x8 : Int) => zaS K222 5 30 256 a222_2 x8 fun (G1 : ZG) => zjn (fun (z299_2 : Int) => zaS G1 5 68 256 a222_2 z299_2 fun (G2 : ZG) => zlt1 (w32 (a222_2 + 1)) fun (x9 : Int) => J303 x9 G2) fun J299 => zjn (fun (_ : Unit) => J299 x4) fun J282 => zbr (x5 = 1) (J282 ()) (zbr (x5 ≠ 4) (J299 (w32 ((w32 ((w32 ((w32 (5 * x4)) + z217_0)) + a222_10)) + 1))) (J282 ())))))) x2 0 H138
def ne_nS (P46 : Int → ZG → Prop) (x2 x3 x4 x5 fact z185_0 : Int) (H138 : ZG) : Prop := zbr (x5 ≠ 6) (ne_nL P46 x2 x3 x4 x5 z185_0 0 H138) (zaL H138 5 12 60 x3 fun (x10 : Int) => zbr (x10 ≠ 2) (ne_nL P46 x2 x3 x4 x5 z185_0 0 H138) (zaL H138 5 11 60 x3 fun (x11 : Int) => ne_nL P46 x2 x3 x4 x5 z185_0 (w32 (fact - x11)) H138))
def ne_nG (P46 : Int → ZG → Prop) (x2 x3 x4 x5 fact : Int) (H138 : ZG) : Prop := zbr (x5 = 1) (ne_nS P46 x2 x3 x4 x5 fact 1 H138) (zbr (x5 = 4) (ne_nS P46 x2 x3 x4 x5 fact 1 H138) (zbr (x5 = 3) (zbr (fact = (-9)) (ne_nS P46 x2 x3 x4 x5 fact 0 H138) (vX6_isRight x3 fact H138 fun (x12 : Int) => zbr (x12 = 0) (ne_nS P46 x2 x3 x4 x5 fact 0 H138) (ne_nS P46 x2 x3 x4 x5 fact 1 H138))) (zbr (x5 ≠ 6) (ne_nS P46 x2 x3 x4 x5 fact 0 H138) (zbr (fact = (-9)) (ne_nS P46 x2 x3 x4 x5 fact 0 H138) (vX6_isRight x3 fact H138 fun (x12 : Int) => zbr (x12 = 0) (ne_nS P46 x2 x3 x4 x5 fact 0 H138) (ne_nS P46 x2 x3 x4 x5 fact 1 H138))))))
def ne_nH (P46 : Int → ZG → Prop) (x2 x3 x4 x5 p0 z100_0 : Int) (fact : Int) (H117 : ZG) : Prop := zbr (z100_0 = 0) (ne_nG P46 x2 x3 x4 x5 fact H117) (zbr (fact ≠ (-9)) (ne_nG P46 x2 x3 x4 x5 fact H117) (vX6_need x4 p0 H117 fun (G3 : ZG) => ne_nG P46 x2 x3 x4 x5 fact G3))
def ne_nI (P46 : Int → ZG → Prop) (x2 x3 x4 x5 p0 z100_0 : Int) (K46 : ZG) : Prop := zbr (z100_0 = 0) (ne_nH P46 x2 x3 x4 x5 p0 z100_0 0 K46) (vX6_factAt x4 K46 fun (x13 : Int) (G4 : ZG) => ne_nH P46 x2 x3 x4 x5 p0 z100_0 x13 G4)
def ne_nJ (P46 : Int → ZG → Prop) (x2 x3 x4 x5 p0 : Int) (K46 : ZG) : Prop := zbr (x5 = 2) (ne_nI P46 x2 x3 x4 x5 p0 1 K46) (zbr (x5 = 3) (ne_nI P46 x2 x3 x4 x5 p0 1 K46) (zbr (x5 ≠ 6) (ne_nI P46 x2 x3 x4 x5 p0 0 K46) (ne_nI P46 x2 x3 x4 x5 p0 1 K46)))
def ne_nBody (p0 : Int) (Q : ZG → Prop) (P46 : Int → ZG → Prop) (a46_2 : Int) (K46 : ZG) : Prop := zbr (a46_2 ≤ 0) (Q K46) (zlt1 (w32 (a46_2 + (-1))) fun (x2 : Int) => zaL K46 5 30 256 x2 fun (x3 : Int) => zaL K46 5 68 256 x2 fun (x4 : Int) => zaL K46 5 10 60 x3 fun (x5 : Int) => ne_nJ P46 x2 x3 x4 x5 p0 K46)
theorem needsOf_e (p0 : Int) (G : ZG) (Q : ZG → Prop) : vX6_needsOf p0 G Q = zl3 (fun (P4 : Int → Int → ZG → Prop) (a4_2 : Int) (a4_3 : Int) (K4 : ZG) => zgF K4 5 21 fun (x1 : Int) => zbr (x1 ≤ a4_3) (zl2 (ne_nBody p0 Q) a4_2 K4) (zaL K4 5 24 24 (w32 ((w32 (3 * p0)) + a4_3)) fun (x14 : Int) => zaS K4 5 30 256 a4_2 x14 fun (G5 : ZG) => zaS G5 5 68 256 a4_2 (w32 (a4_3 + 1)) fun (G6 : ZG) => zlt1 (w32 (a4_2 + 1)) fun (x15 : Int) => zlt1 (w32 (a4_3 + 1)) fun (x16 : Int) => P4 x15 x16 G6)) 0 0 G := rfl
theorem ne_nL0 {P : Int → ZG → Prop} {x2 x3 x4 x5 sk : Int} {H : ZG} (h : P x2 H) : ne_nL P x2 x3 x4 x5 0 sk H := by
  unfold ne_nL
  intro P2 hc
  refine hc _ _ _ ?_
  dsimp only [zjn]
  rw [zbr_neg (by omega), zbr_pos rfl]; exact h
theorem ne_nS0 {P : Int → ZG → Prop} {x2 x3 x4 x5 fact : Int} {H : ZG} (h0 : 0 ≤ x3) (h1 : x3 < 60) (h : P x2 H) : ne_nS P x2 x3 x4 x5 fact 0 H := by
  unfold ne_nS
  exact zbr_i (fun _ => ne_nL0 h) (fun _ => zaL_i h0 (by omega) (zbr_i (fun _ => ne_nL0 h) (fun _ => zaL_i h0 (by omega) (ne_nL0 h))))
def cS (cnt : Int → Int) (S : List Int) (q : Int) : Int := cnt q + (if q ∈ S then 1 else 0)
def lS (las : Int → Int) (c : Int) (S : List Int) (q : Int) : Int := if q ∈ S then c else las q
theorem cS_cons {cnt las : Int → Int} {c p : Int} {S : List Int} (hl : ∀ q, las q ≠ c) : (fun q => if q = p then cS cnt S p + (if lS las c S p = c then 0 else 1) else cS cnt S q) = cS cnt (p :: S) := by
  funext q
  unfold cS lS
  by_cases hq : q = p
  · subst hq
    rw [if_pos rfl]
    by_cases hm : q ∈ S
    · rw [if_pos hm, if_pos hm, if_pos rfl, if_pos (List.mem_cons_self)]; omega
    · rw [if_neg hm, if_neg hm, if_neg (hl q), if_pos (List.mem_cons_self)]; omega
  · rw [if_neg hq]
    by_cases hm : q ∈ S
    · rw [if_pos hm, if_pos (List.mem_cons_of_mem _ hm)]
    · rw [if_neg hm, if_neg (fun z => by
        rcases List.mem_cons.mp z with z | z
        · exact hq z
        · exact hm z)]
theorem lS_cons {las : Int → Int} {c p : Int} {S : List Int} : (fun q => if q = p then c else lS las c S q) = lS las c (p :: S) := by
  funext q
  unfold lS
  by_cases hq : q = p
  · rw [if_pos hq, if_pos (by rw [hq]; exact List.mem_cons_self)]
  · rw [if_neg hq]
    by_cases hm : q ∈ S
    · rw [if_pos hm, if_pos (List.mem_cons_of_mem _ hm)]
    · rw [if_neg hm, if_neg (fun z => by
        rcases List.mem_cons.mp z with z | z
        · exact hq z
        · exact hm z)]
theorem cS_congr {cnt las : Int → Int} {c : Int} {S S' : List Int} (h : ∀ q, q ∈ S ↔ q ∈ S') : cS cnt S = cS cnt S' ∧ lS las c S = lS las c S' := by
  constructor
  · funext q; unfold cS
    by_cases hm : q ∈ S
    · rw [if_pos hm, if_pos ((h q).mp hm)]
    · rw [if_neg hm, if_neg (fun z => hm ((h q).mpr z))]
  · funext q; unfold lS
    by_cases hm : q ∈ S
    · rw [if_pos hm, if_pos ((h q).mp hm)]
    · rw [if_neg hm, if_neg (fun z => hm ((h q).mpr z))]
theorem szs_app (D : ZD) (L M : List (Int × Int)) : szs D (L ++ M) = szs D L + szs D M := by unfold szs; rw [List.map_append, List.sum_append]
theorem w6_needsOf {D : ZD} {e : PT} {c : Int} {cnt las : Int → Int} {K0 : ZG} {Q : ZG → Prop} (hM : MI D) (hP : PI D e) (hv : ∀ st ∈ e, 0 ≤ st.2.2.2 ∧ st.2.2.2 ≤ 9) (hN : Nd K0 e (zsg K0 5 41 0)) (hK : ∀ j, 1 ≤ j → j ≤ 29 → zsg K0 5 j = D j) (h40 : zsg K0 5 40 0 = 0) (hc : 0 ≤ c ∧ c < D 23 0) (hT : NT K0 cnt las) (hcnt : ∀ q, 0 ≤ cnt q ∧ cnt q ≤ 50) (hz : ∀ q, cnt q = 0 → las q = -1) (hl : ∀ q, las q ≠ c)
    (hQ : ∀ K', Mo K0 K' → (∀ j, j ≠ 30 → j ≠ 68 → ¬ (64 ≤ j ∧ j ≤ 67) → zsg K' 5 j = zsg K0 5 j) → NT K' (cS cnt (ndc D e c)) (lS las c (ndc D e c)) → Q K') : vX6_needsOf c K0 Q := by
  have m21 : 0 ≤ D 21 0 ∧ D 21 0 ≤ 3 := ⟨hM.2.2.2.2.1.1, hM.2.2.2.2.1.2.1⟩
  have m23 : D 23 0 ≤ 8 := hM.2.2.2.2.1.2.2.2.2.1
  have m9 := hM.2.2.1.2.1
  have hcw := hM.2.2.2.2.1.2.2.2.2.2.2 c hc.1 hc.2
  rw [needsOf_e]
  refine zl3_of (fun n k K => 0 ≤ k ∧ k ≤ D 21 0 ∧ n = k ∧ Mo K0 K ∧ (∀ j, j ≠ 30 → j ≠ 68 → zsg K 5 j = zsg K0 5 j) ∧ stn K n = (cols D c).take k.toNat) (fun _ k _ => (D 21 0 - k).toNat) (fun P n k K hI hPP => ?_) ⟨by omega, m21.1, rfl, Mo.refl K0, fun _ _ _ => rfl, rfl⟩
  obtain ⟨k0, k1, rfl, mo, hKK, hst⟩ := hI
  rw [zgF_e, hKK 21 (by omega) (by omega), hK 21 (by omega) (by omega)]
  refine zbr_i (fun hk => ?_) (fun hk => ?_)
  · have : n = D 21 0 := by omega
    subst this
    rw [show (cols D c).take (D 21 0).toNat = cols D c from List.take_of_length_le (by rw [cols_len]; omega)] at hst
    have hlen := cols_len D c
    have hpat : ∀ x ∈ cols D c, ∃ (d : Nat) (k : Int), 0 ≤ x.1 ∧ x.1 < D 9 0 ∧ tq D e d x.2 k ∧ fitk D x.1 k ∧ (d : Int) + D 15 x.1 ≤ 4 := fun x hx => by
      obtain ⟨i, i0, i1, _, h0, h1, ht, hf, hd⟩ := cols_tq (e := e) hM hc hx
      exact ⟨0, _, h0, h1, ht, hf, by omega⟩
    have hsz := szs_le (D := D) (L := cols D c) fun x hx => by
      obtain ⟨d, k, h0, h1, _⟩ := hpat x hx
      exact (hM.2.2.1.2.2 _ h0 h1).2.2.2.1.2
    refine zl2_of (fun n K => ∃ (W : List (Int × Int)) (S : List Int), n = (W.length : Int) ∧ szs D W ≤ 120 ∧ Mo K0 K ∧ (∀ j, j ≠ 30 → j ≠ 68 → ¬ (64 ≤ j ∧ j ≤ 67) → zsg K 5 j = zsg K0 5 j) ∧ stn K n = W ∧ (∀ x ∈ W, ∃ (d : Nat) (k : Int), 0 ≤ x.1 ∧ x.1 < D 9 0 ∧ tq D e d x.2 k ∧ fitk D x.1 k ∧ (d : Int) + D 15 x.1 ≤ 4) ∧ NT K (cS cnt S) (lS las c S) ∧ (∀ q, q ∈ ndc D e c ↔ (q ∈ S ∨ ∃ x ∈ W, q ∈ ndl D e 40 x.1 x.2))) (fun n K => (szs D (stn K n)).toNat) (fun P n K hI hPP => ?_) ⟨cols D c, [], by omega, by omega, mo, fun j j1 j2 _ => hKK j j1 j2, hst, hpat, ?_, fun q => ?_⟩
    · obtain ⟨W, S, rfl, hW, mo, hKK, hs, hty, hNT, hset⟩ := hI
      unfold ne_nBody
      refine zbr_i (fun hn => ?_) (fun hn => ?_)
      · have : W = [] := List.eq_nil_of_length_eq_zero (by omega)
        subst this
        have hset2 : ∀ q, q ∈ S ↔ q ∈ ndc D e c := fun q => by rw [hset]; simp
        have := cS_congr (cnt := cnt) (las := las) (c := c) hset2
        rw [this.1, this.2] at hNT
        exact hQ K mo hKK hNT
      · obtain ⟨W', ⟨m, p⟩, rfl⟩ : ∃ W' x, W = W' ++ [x] := ⟨W.dropLast, W.getLast (fun z => hn (by rw [z]; simp)), (List.dropLast_concat_getLast _).symm⟩
        have hsl : ∀ L : List (Int × Int), (∀ x ∈ L, ∃ (d : Nat) (k : Int), 0 ≤ x.1 ∧ x.1 < D 9 0 ∧ tq D e d x.2 k ∧ fitk D x.1 k ∧ (d : Int) + D 15 x.1 ≤ 4) → (L.length : Int) ≤ szs D L := fun L hL => szs_len fun x hx => by
          obtain ⟨d, k, h0, h1, _⟩ := hL x hx
          exact (hM.2.2.1.2.2 _ h0 h1).2.2.2.1.1
        have hl0 := hsl W' (fun x hx => hty x (List.mem_append_left _ hx))
        have hW2 := hW
        rw [szs_app] at hW2
        have e1 : szs D [(m, p)] = D 16 m := by unfold szs; simp
        rw [e1] at hW2
        obtain ⟨d, k, h0, h1, ht, hf, hd⟩ := hty (m, p) (List.mem_append_right _ (List.mem_singleton.mpr rfl))
        dsimp only at h0 h1 ht hf hd
        have hpw := hM.2.2.1.2.2 m h0 h1
        have a16 := hpw.2.2.2.1
        have a15 := hpw.2.2.1
        have hd3 : d ≤ 3 := by omega
        have hq := tq_f hM hP (by omega) ht
        have hpr := apl_r _ (pl_apl hd3 hq.1)
        have hln : ((W' ++ [(m, p)]).length : Int) = (W'.length : Int) + 1 := by rw [List.length_append, List.length_singleton]; push_cast; rfl
        rw [hln] at hs hn ⊢
        have hpop := stn_pop K (show (0 : Int) ≤ (W'.length : Int) by omega)
        rw [hs] at hpop
        have hinj := List.append_inj' hpop rfl
        have hcell := hinj.2
        simp only [List.cons.injEq, Prod.mk.injEq, and_true] at hcell
        have hW'eq := hinj.1
        rw [zlt1_e, w32_eq (by omega) (by omega), show (W'.length : Int) + 1 + -1 = (W'.length : Int) by omega]
        refine zaL_i (by omega) (by omega) (zaL_i (by omega) (by omega) ?_)
        rw [← hcell.1, ← hcell.2]
        refine zaL_i h0 (by omega) ?_
        rw [hKK 10 (by omega) (by omega) (by omega), hK 10 (by omega) (by omega)]
        have hKD : ∀ (H : ZG), (∀ j, j ≠ 30 → j ≠ 68 → ¬ (64 ≤ j ∧ j ≤ 67) → zsg H 5 j = zsg K0 5 j) → ∀ j, 1 ≤ j → j ≤ 29 → zsg H 5 j = D j := fun H hH j j1 j2 => by rw [hH j (by omega) (by omega) (by omega), hK j j1 j2]
        have hmu : ∀ (x : Int × Int), (szs D (W' ++ [x])) = szs D W' + D 16 x.1 := fun x => by rw [szs_app]; congr 1; unfold szs; simp
        -- going on without parts
        have stop : ∀ (H : ZG) (S' : List Int), Mo K0 H → (∀ j, j ≠ 30 → j ≠ 68 → ¬ (64 ≤ j ∧ j ≤ 67) → zsg H 5 j = zsg K0 5 j) → (∀ u, stn H u = stn K u) → NT H (cS cnt S') (lS las c S') → (∀ q, (q ∈ S ∨ q ∈ ndl D e 40 m p) ↔ q ∈ S') → P (W'.length : Int) H := fun H S' mo' hH hst' hNT' hS' => by
          refine hPP _ _ ⟨W', S', rfl, by omega, mo', hH, by rw [hst', ← hW'eq], fun x hx => hty x (List.mem_append_left _ hx), hNT', fun q => ?_⟩ ?_
          · rw [hset, ← hS']
            constructor
            · rintro (z | ⟨x, hx, hq⟩)
              · exact Or.inl (Or.inl z)
              · rcases List.mem_append.mp hx with hx | hx
                · exact Or.inr ⟨x, hx, hq⟩
                · rw [List.mem_singleton] at hx; subst hx; exact Or.inl (Or.inr hq)
            · rintro ((z | z) | ⟨x, hx, hq⟩)
              · exact Or.inl z
              · exact Or.inr ⟨_, List.mem_append_right _ (List.mem_singleton.mpr rfl), z⟩
              · exact Or.inr ⟨x, List.mem_append_left _ hx, hq⟩
          · rw [hst', ← hW'eq, hln, hs, hmu]
            dsimp only
            omega
        -- the parts are laid
        have goon : ∀ (pf : Int → Int) (skip : Int), (∀ k, 0 ≤ k → k < 3 → prt D m k ≠ -1 → pf k = if D 10 m = 1 ∨ D 10 m = 4 then p else w32 (w32 (w32 (w32 (5 * p) + skip) + k) + 1)) → (∀ x ∈ npl D m pf, ∃ (d : Nat) (k : Int), 0 ≤ x.1 ∧ x.1 < D 9 0 ∧ tq D e d x.2 k ∧ fitk D x.1 k ∧ (d : Int) + D 15 x.1 ≤ 4) → (∀ q, q ∈ ndl D e 40 m p ↔ ∃ x ∈ npl D m pf, q ∈ ndl D e 40 x.1 x.2) → ne_nL P (W'.length : Int) m p (D 10 m) 1 skip K := fun pf skip hpf hty2 hnd => by
          have hsz2 := szs_npl (pf := pf) hpw
          refine w6_npush (D := D) (pf := pf) (W := W') h0 (by omega) (hKD K hKK) (by omega) (by omega) hW'eq.symm (by omega) hpf (fun G' mo' hG' hst' => ?_)
          refine hPP _ _ ⟨W' ++ npl D m pf, S, by rw [List.length_append]; push_cast; rfl, by rw [szs_app]; omega, mo.trans mo', fun j j1 j2 j3 => by rw [hG' j j1 j2, hKK j j1 j2 j3], hst', fun x hx => ?_, hNT.of (fun j j1 j2 => hG' j (by omega) (by omega)), fun q => ?_⟩ ?_
          · rcases List.mem_append.mp hx with hx | hx
            · exact hty x (List.mem_append_left _ hx)
            · exact hty2 x hx
          · rw [hset]
            constructor
            · rintro (z | ⟨x, hx, hq⟩)
              · exact Or.inl z
              · rcases List.mem_append.mp hx with hx | hx
                · exact Or.inr ⟨x, List.mem_append_left _ hx, hq⟩
                · rw [List.mem_singleton] at hx
                  subst hx
                  obtain ⟨y, hy, hq⟩ := (hnd q).mp hq
                  exact Or.inr ⟨y, List.mem_append_right _ hy, hq⟩
            · rintro (z | ⟨x, hx, hq⟩)
              · exact Or.inl z
              · rcases List.mem_append.mp hx with hx | hx
                · exact Or.inr ⟨x, List.mem_append_left _ hx, hq⟩
                · exact Or.inr ⟨(m, p), List.mem_append_right _ (List.mem_singleton.mpr rfl), (hnd q).mpr ⟨x, hx, hq⟩⟩
          · rw [hst', hln, hs, szs_app, hmu]
            dsimp only
            omega
        have dec : ∀ f n p, 0 ≤ n → n < D 9 0 → D 16 n ≤ 39 → f = 39 → ndl D e f n p = ndl D e 40 n p := fun f n p n0 n1 hs hf => by
          subst hf; exact ndl_f hM.2.2.1 39 40 n p n0 n1 (by omega) (by omega)
        have ens : ∀ f, f = 39 → ndl D e 40 m p = ndl D e (f + 1) m p := fun f hf => by subst hf; rfl
        have hnd0 := fun f (hf : f = 39) => (ens f hf).trans (ndl_s D e f m p)
        obtain ⟨hform, -, -, -, -, -, -, -, -, -, -, f0, f1, f2, f3, f4, f5, f6⟩ := id hpw
        have eN : Nd K e (zsg K 5 41 0) := by
          rw [hKK 41 (by omega) (by omega) (by omega)]; exact hN.of (fun j j1 j2 => hKK j (by omega) (by omega) (by omega))
        have k40 : zsg K 5 40 0 = 0 := by rw [hKK 40 (by omega) (by omega) (by omega), h40]
        have pin : p ∈ apl := pl_apl hd3 hq.1
        -- the place itself is needed
        have own : (D 10 m = 2 ∨ D 10 m = 3 ∨ D 10 m = 6) → (∀ f, f = 39 → ndl D e 40 m p = [p]) → fa e p = -1 → (vX6_need p c K fun (G3 : ZG) => ne_nG P (W'.length : Int) m p (D 10 m) (-9) G3) := fun hh hone hfa => by
          have hfin : ∀ K', P (W'.length : Int) K' → ne_nG P (W'.length : Int) m p (D 10 m) (-9) K' := fun K' st => by
            unfold ne_nG
            rw [zbr_neg (by omega), zbr_neg (by omega)]
            refine zbr_i (fun _ => ?_) (fun _ => zbr_i (fun _ => ne_nS0 h0 (by omega) st) (fun _ => ?_))
            · rw [zbr_pos rfl]; exact ne_nS0 h0 (by omega) st
            · rw [zbr_pos rfl]; exact ne_nS0 h0 (by omega) st
          have hcs : ∀ q, 0 ≤ cS cnt S q ∧ cS cnt S q ≤ 100 := fun q => by
            have := hcnt q
            unfold cS; split <;> omega
          refine w6_need hNT pin hcs (fun hc0 => ?_) hc.1 (fun K' mo' hK' hNT' => ?_)
          · have := hcnt p
            unfold cS at hc0
            unfold lS
            by_cases hm : p ∈ S
            · rw [if_pos hm] at hc0; omega
            · rw [if_neg hm] at hc0 ⊢; exact hz p (by omega)
          · rw [cS_cons hl, lS_cons] at hNT'
            have st := stop K' (p :: S) (mo.trans mo') (fun j j1 j2 j3 => by rw [hK' j j3, hKK j j1 j2 j3]) (fun u => stn_congr (fun j _ _ => by rw [hK' 30 (by omega), hK' 68 (by omega)]; exact ⟨rfl, rfl⟩)) hNT' (fun q => by
              rw [hone 39 rfl, List.mem_singleton, List.mem_cons]
              exact Or.comm)
            exact hfin K' st
        have stay : ∀ (fact : Int) (b : Prop), ndl D e 40 m p = [] → ne_nS P (W'.length : Int) m p (D 10 m) fact 0 K := fun fact b hnil => ne_nS0 h0 (by omega) (stop K S mo hKK (fun _ => rfl) hNT (fun q => by rw [hnil]; simp))
        have n4 : ∀ {A : Prop} {B : Prop}, A → zbr ((1 : Int) = 0) B A := fun h => zbr_i (fun z => absurd z (by omega)) (fun _ => h)
        by_cases e1 : D 10 m = 1
        · have c1 := f1 e1
          have q0 := pch hM.2.2.1 h0 h1 (k := 0) (by omega) (by omega) (by omega)
          have en : npl D m (fun _ => p) = [(prt D m 0, p)] := by
            unfold npl
            simp only [List.filterMap_cons, List.filterMap_nil]
            rw [if_neg (by omega), if_pos c1.2.2.2.1, if_pos c1.2.2.2.2.1]
          have g := goon (fun _ => p) 0 (fun k _ _ _ => by rw [if_pos (Or.inl e1)]) (fun x hx => by
            rw [en, List.mem_singleton] at hx
            subst hx
            exact ⟨d, k, q0.1, q0.2.1, ht, by unfold fitk at hf ⊢; rw [← c1.2.2.2.2.2.1]; exact hf, by dsimp only; omega⟩) (fun q => by
            rw [hnd0 39 rfl, if_pos e1, dec 39 _ p q0.1 q0.2.1 (by omega) rfl, en]
            simp)
          unfold ne_nJ ne_nI ne_nH ne_nG ne_nS
          rw [zbr_neg (by omega), zbr_neg (by omega), zbr_pos (by omega), zbr_pos rfl, zbr_pos rfl, zbr_pos e1, zbr_pos (by omega)]
          exact g
        by_cases e4 : D 10 m = 4
        · have c4 := f4 e4
          have q0 := pch hM.2.2.1 h0 h1 (k := 0) (by omega) (by omega) (by omega)
          have q1 := pch hM.2.2.1 h0 h1 (k := 1) (by omega) (by omega) (by omega)
          have ff' := c4.2.2.2.2.2.1 k hf
          have en : npl D m (fun _ => p) = [(prt D m 0, p), (prt D m 1, p)] := by
            unfold npl
            simp only [List.filterMap_cons, List.filterMap_nil]
            rw [if_neg (by omega), if_neg (by omega), if_pos c4.2.2.1]
          have g := goon (fun _ => p) 0 (fun k _ _ _ => by rw [if_pos (Or.inr e4)]) (fun x hx => by
            rw [en] at hx
            rcases List.mem_cons.mp hx with hx | hx
            · subst hx; exact ⟨d, k, q0.1, q0.2.1, ht, ff'.1, by dsimp only; omega⟩
            · rw [List.mem_singleton] at hx
              subst hx; exact ⟨d, k, q1.1, q1.2.1, ht, ff'.2, by dsimp only; omega⟩) (fun q => by
            rw [hnd0 39 rfl, if_neg e1, if_pos e4, dec 39 _ p q0.1 q0.2.1 (by omega) rfl, dec 39 _ p q1.1 q1.2.1 (by omega) rfl, en]
            simp)
          unfold ne_nJ ne_nI ne_nH ne_nG ne_nS
          rw [zbr_neg (by omega), zbr_neg (by omega), zbr_pos (by omega), zbr_pos rfl, zbr_pos rfl, zbr_neg (by omega), zbr_pos e4, zbr_pos (by omega)]
          exact g
        have nnd := hnd0 39 rfl
        rw [if_neg e1, if_neg e4] at nnd
        -- heads
        have head : (D 10 m = 2 ∨ D 10 m = 3 ∨ D 10 m = 6) → (fa e p = -1 → ndl D e 40 m p = [p]) → (fa e p ≠ -1 → ne_nG P (W'.length : Int) m p (D 10 m) (fa e p) K) → ne_nJ P (W'.length : Int) m p (D 10 m) c K := fun hh hone hgo => by
          have main : ne_nI P (W'.length : Int) m p (D 10 m) c 1 K := by
            unfold ne_nI
            refine n4 (w6_factT eN hv k40 (by omega) ?_)
            unfold ne_nH
            refine n4 ?_
            by_cases hfa : fa e p = -1
            · rw [if_pos hfa, zbr_neg (by omega)]
              exact own hh (fun f hf => hone hfa) hfa
            · have := fa_v hv p
              rw [if_neg hfa, zbr_pos (by omega)]
              exact hgo hfa
          unfold ne_nJ
          rcases hh with z | z | z
          · rw [zbr_pos z]; exact main
          · rw [zbr_neg (by omega), zbr_pos z]; exact main
          · rw [zbr_neg (by omega), zbr_neg (by omega), zbr_neg (by omega)]; exact main
        by_cases e2 : D 10 m = 2
        · rw [if_pos e2] at nnd
          refine head (Or.inl e2) (fun z => by rw [nnd, if_pos z]) (fun z => ?_)
          rw [if_neg z] at nnd
          unfold ne_nG
          rw [zbr_neg (by omega), zbr_neg (by omega), zbr_neg (by omega), zbr_pos (by omega)]
          exact stay _ True nnd
        rw [if_neg e2] at nnd
        have nskip : ∀ j k, 0 ≤ j → j ≤ 9 → 0 ≤ k → k < 3 → w32 (w32 (w32 (w32 (5 * p) + j) + k) + 1) = 5 * p + j + k + 1 := fun j k j0 j9 k0 k3 => by
          rw [w32_eq (x := 5 * p) (by omega) (by omega), w32_eq (x := 5 * p + j) (by omega) (by omega), w32_eq (x := 5 * p + j + k) (by omega) (by omega), w32_eq (by omega) (by omega)]
        have goc : ∀ j, 0 ≤ j → j ≤ 9 → ndl D e 40 m p = (chs D m p j).flatMap (fun x => ndl D e 39 x.1 x.2) → (∀ i, 0 ≤ i → i < 3 → prt D m i ≠ -1 → ∃ k', tq D e (d + 1) (5 * p + j + i + 1) k' ∧ fitk D (prt D m i) k' ∧ D 15 (prt D m i) + 1 ≤ D 15 m) → ne_nL P (W'.length : Int) m p (D 10 m) 1 j K := fun j j0 j9 hn2 hch => by
          refine goon (fun k => 5 * p + j + k + 1) j (fun k k0 k3 _ => by rw [if_neg (by omega), nskip j k j0 j9 k0 k3]) (fun x hx => ?_) (fun q => ?_)
          · rw [npl_chs] at hx
            obtain ⟨i, i0, i3, hi, rfl⟩ := chs_mem hx
            have qi := pch hM.2.2.1 h0 h1 i0 i3 hi
            obtain ⟨k', hk1, hk2, hk3⟩ := hch i i0 i3 hi
            exact ⟨d + 1, k', qi.1, qi.2.1, hk1, hk2, by push_cast; omega⟩
          · rw [npl_chs, hn2, List.mem_flatMap]
            constructor
            · rintro ⟨x, hx, hq⟩
              obtain ⟨i, i0, i3, hi, rfl⟩ := chs_mem hx
              have qi := pch hM.2.2.1 h0 h1 i0 i3 hi
              exact ⟨_, hx, by rw [← dec 39 _ _ qi.1 qi.2.1 (by omega) rfl]; exact hq⟩
            · rintro ⟨x, hx, hq⟩
              obtain ⟨i, i0, i3, hi, rfl⟩ := chs_mem hx
              have qi := pch hM.2.2.1 h0 h1 i0 i3 hi
              exact ⟨_, hx, by rw [dec 39 _ _ qi.1 qi.2.1 (by omega) rfl]; exact hq⟩
        by_cases e3 : D 10 m = 3
        · rw [if_pos e3] at nnd
          have c3 := f3 e3
          have hck := c3.2.2.2.2.2
          refine head (Or.inr (Or.inl e3)) (fun z => by rw [nnd, if_pos z]) (fun z => ?_)
          rw [if_neg z] at nnd
          have := fa_v hv p
          unfold ne_nG
          rw [zbr_neg (by omega), zbr_neg (by omega), zbr_pos e3, zbr_neg (by omega)]
          refine w6_right hM.2.2.1 h0 h1 (hKD K hKK) ?_
          unfold rgt
          rw [if_neg e2, if_pos e3]
          by_cases hr : fa e p = D 11 m % 4
          · rw [if_pos hr] at nnd
            rw [decide_eq_true hr, zbr_neg (by simp [bb])]
            unfold ne_nS
            rw [zbr_pos (by omega)]
            refine goc 0 (by omega) (by omega) nnd (fun i i0 i3 hi => ?_)
            have i1 : i < D 2 (D 11 m) := Decidable.byContradiction fun z => hi ((hck i i0 i3).2 (by omega))
            have hci := (hck i i0 i3).1 i1
            exact ⟨_, tq_mk hM hP hd3 h0 h1 e3 ht hf hr i0 i1, hci.2.1, hci.2.2⟩
          · rw [if_neg hr] at nnd
            rw [decide_eq_false hr, zbr_pos (show bb false = 0 from rfl)]
            exact stay _ True nnd
        rw [if_neg e3] at nnd
        by_cases e6 : D 10 m = 6
        · rw [if_pos e6] at nnd
          have c6 := f6 e6
          have hck := c6.2.2.2.2.2.2
          refine head (Or.inr (Or.inr e6)) (fun z => by rw [nnd, if_pos z]) (fun z => ?_)
          rw [if_neg z] at nnd
          have := fa_v hv p
          unfold ne_nG
          rw [zbr_neg (by omega), zbr_neg (by omega), zbr_neg (by omega), zbr_neg (by omega), zbr_neg (by omega)]
          refine w6_right hM.2.2.1 h0 h1 (hKD K hKK) ?_
          unfold rgt
          rw [if_neg e2, if_neg e3]
          cases hfit : fitl D m (fa e p) with
          | true =>
            rw [if_pos hfit] at nnd
            rw [zbr_neg (by simp [bb])]
            have hb := begl_r hfit c6.1
            have hfr := hq.2.2.2.resolve_left z
            have hw := ways_le hM hq.2.1 hq.2.2.1
            have hty2 : ∀ i, 0 ≤ i → i < 3 → prt D m i ≠ -1 → ∃ k', tq D e (d + 1) (5 * p + begl D m (fa e p) + i + 1) k' ∧ fitk D (prt D m i) k' ∧ D 15 (prt D m i) + 1 ≤ D 15 m := fun i i0 i3 hi => by
              have i1 : i < D 11 m := Decidable.byContradiction fun z => hi ((hck i i0 i3).2 (by omega))
              have hci := (hck i i0 i3).1 i1
              exact ⟨4, tq_ls hM hP hd3 h0 h1 e6 ht hf z hfit i0 i1, hci.2.1, hci.2.2⟩
            unfold ne_nS
            rw [zbr_neg (by omega)]
            refine zaL_i h0 (by omega) ?_
            rw [hKD K hKK 12 (by omega) (by omega)]
            refine zbr_i (fun h12 => ?_) (fun h12 => ?_)
            · have eb : begl D m (fa e p) = 0 := by unfold begl; rw [if_neg h12]
              rw [eb] at nnd hty2
              exact goc 0 (by omega) (by omega) nnd hty2
            · refine zaL_i h0 (by omega) ?_
              have eb : begl D m (fa e p) = fa e p - D 11 m := by unfold begl; rw [if_pos (Decidable.of_not_not h12)]
              rw [eb] at nnd hty2 hb
              rw [hKD K hKK 11 (by omega) (by omega), w32_eq (by omega) (by omega)]
              exact goc _ (by omega) (by omega) nnd hty2
          | false =>
            rw [if_neg (by rw [hfit]; simp)] at nnd
            rw [zbr_pos (show bb false = 0 from rfl)]
            exact stay _ True nnd
        rw [if_neg e6] at nnd
        unfold ne_nJ ne_nI ne_nH ne_nG
        rw [zbr_neg (by omega), zbr_neg (by omega), zbr_pos (by omega), zbr_pos rfl, zbr_pos rfl, zbr_neg (by omega), zbr_neg (by omega), zbr_neg (by omega), zbr_pos (by omega)]
        exact stay _ True nnd
    · have e : cS cnt [] = cnt := by funext q; unfold cS; simp
      have e2 : lS las c [] = las := by funext q; unfold lS; simp
      rw [e, e2]
      exact hT.of (fun j j1 j2 => hKK j (by omega) (by omega))
    · unfold ndc
      rw [List.mem_flatMap]
      simp
  · rw [w32_eq (x := 3 * c) (by omega) (by omega), w32_eq (x := 3 * c + n) (by omega) (by omega), w32_eq (x := n + 1) (by omega) (by omega)]
    refine zaL_i (by omega) (by omega) ?_
    rw [hKK 24 (by omega) (by omega), hK 24 (by omega) (by omega)]
    refine zaS_i k0 (by omega) (zaS_i k0 (by omega) ?_)
    rw [zlt1_e, zlt1_e]
    refine hPP _ _ _ ⟨by omega, by omega, rfl, (mo.ss _ _ _).ss _ _ _, fun j j1 j2 => by rw [z5_ne j2, z5_ne j1, hKK j j1 j2], ?_⟩ (by omega)
    rw [stn_push k0, hst, cols_p, prow_take k0 (by omega), show 5 * 0 + 0 + n + 1 = n + 1 by omega]
