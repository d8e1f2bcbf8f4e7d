/-! REFERENCE: patterns -/
set_option maxRecDepth 100000
theorem z5_ne {K : ZG} {j j' : Nat} {i v : Int} (h : j' ≠ j) : zsg (zss K 5 j i v) 5 j' = zsg K 5 j' := by rw [zss5, up_ne h]
theorem z5_eq {K : ZG} {j : Nat} {i v : Int} : zsg (zss K 5 j i v) 5 j = fun i' => if i' = i then v else zsg K 5 j i' := by
  rw [zss5]; funext i'; rw [up_at]
/-- a part that may be none -/
def op (D : ZD) (p : Int) : Prop := p = -1 ∨ (0 ≤ p ∧ p < D 9 0)
def szp (D : ZD) (p : Int) : Int := if p = -1 then 0 else D 16 p
theorem szp_b {D : ZD} (hM : MI D) {p : Int} (h : op D p) : 0 ≤ szp D p ∧ szp D p ≤ 40 := by
  unfold szp
  rcases h with rfl | h
  · rw [if_pos rfl]; omega
  · rw [if_neg (by omega)]; have := (hM.2.2.1.2.2 p h.1 h.2).2.2.2.1; omega
theorem w6_sizeOf {K : ZG} {D : ZD} {a b c : Int} {Q : Int → Prop} (hM : MI D) (h16 : ∀ p, p < D 9 0 → zsg K 5 16 p = D 16 p) (ha : op D a) (hb : op D b) (hc : op D c) (hQ : Q (1 + szp D a + szp D b + szp D c)) : vX6_sizeOf a b c K Q := by
  have m9 : 0 ≤ D 9 0 ∧ D 9 0 ≤ 60 := ⟨hM.2.2.1.1, hM.2.2.1.2.1⟩
  have sa := szp_b hM ha
  have sb := szp_b hM hb
  have sc := szp_b hM hc
  have get : ∀ {p : Int} {Q : Int → Prop}, op D p → Q (szp D p) → zbr (p ≠ -1) (zaL K 5 16 60 p Q) (Q 0) := by
    intro p Q hp hq
    refine zbr_i (fun h => ?_) (fun h => ?_)
    · have hp : 0 ≤ p ∧ p < D 9 0 := by rcases hp with q | q; exact absurd q h; exact q
      refine zaL_i hp.1 (by omega) ?_
      rw [h16 p hp.2]; unfold szp at hq; rw [if_neg h] at hq; exact hq
    · unfold szp at hq; rw [if_pos (Decidable.of_not_not h)] at hq; exact hq
  unfold vX6_sizeOf
  dsimp only [zjn]
  refine get ha (get hb (get hc ?_))
  rw [w32_eq (x := 1 + szp D a) (by omega) (by omega), w32_eq (x := 1 + szp D a + szp D b) (by omega) (by omega), w32_eq (by omega) (by omega)]
  exact hQ
def nmr (D : ZD) (n0 a b c : Int) : Nat → Int
  | 0 => n0
  | k + 1 => if pk a b c k = -1 then nmr D n0 a b c k else bOr (nmr D n0 a b c k) (D 17 (pk a b c k))
def hvr (D : ZD) (n0 a b c : Int) : Nat → Int
  | 0 => n0
  | k + 1 => if pk a b c k = -1 then hvr D n0 a b c k else if hvr D n0 a b c k ≠ 0 ∨ D 18 (pk a b c k) ≠ 0 then 1 else 0
def bar (D : ZD) (n0 a b c : Int) : Nat → Int
  | 0 => n0
  | k + 1 => if pk a b c k = -1 then bar D n0 a b c k else if bar D n0 a b c k ≠ 0 ∧ D 19 (pk a b c k) ≠ 0 then 1 else 0
def der (D : ZD) (a b c : Int) : Nat → Int
  | 0 => 0
  | k + 1 => if pk a b c k = -1 then der D a b c k else if D 15 (pk a b c k) ≤ der D a b c k then der D a b c k else D 15 (pk a b c k)
def mpv (D : ZD) (form head rest a b c kind : Int) : Nat → Int :=
  pv form head rest kind (der D a b c 3 + if form = 1 ∨ form = 4 ∨ form = 5 then 0 else 1) (1 + szp D a + szp D b + szp D c) (nmr D (if form = 1 then bShl 1 head else 0) a b c 3) (hvr D (if form = 5 then 1 else 0) a b c 3) (bar D (if form = 1 ∨ form = 5 ∨ form = 3 ∨ form = 6 then 0 else 1) a b c 3)
theorem der_b {D : ZD} (hM : MI D) {a b c : Int} (ho : ∀ k, 0 ≤ k → k < 3 → op D (pk a b c k)) (n : Nat) (hn : n ≤ 3) : 0 ≤ der D a b c n ∧ der D a b c n ≤ 4 := by
  induction n with
  | zero => simp [der]
  | succ n ih =>
    have := ih (by omega)
    simp only [der]
    split
    · exact this
    · next h =>
      have hp : 0 ≤ pk a b c n ∧ pk a b c n < D 9 0 := by rcases ho n (by omega) (by omega) with q | q; exact absurd q h; exact q
      have := (hM.2.2.1.2.2 _ hp.1 hp.2).2.2.1
      split <;> omega
theorem zjn_ne {K : Type} {k : K → Prop} {x y : K} {a b : Int} : zjn k (fun J => zbr (a ≠ b) (J x) (J y)) = k (if a = b then y else x) := by
  by_cases h : a = b
  · rw [if_pos h, zjn, zbr_neg (fun q => q h)]
  · rw [if_neg h, zjn, zbr_pos h]
theorem zjn_4 {k : Int → Prop} {f : Int} : zjn k (fun J107 => zjn (fun (_ : Unit) => J107 0) fun J106 => zbr (f = 1) (J106 ()) (zbr (f = 5) (J106 ()) (zbr (f = 3) (J106 ()) (zbr (f = 6) (J106 ()) (J107 1))))) = k (if f = 1 ∨ f = 5 ∨ f = 3 ∨ f = 6 then 0 else 1) := by
  simp only [zjn, zbr_or]
  by_cases h : f = 1 ∨ f = 5 ∨ f = 3 ∨ f = 6
  · rw [if_pos h, zbr_pos h]
  · rw [if_neg h, zbr_neg h]
theorem s6_pattern {G : ZG} {D : ZD} {form head rest a b c kind : Int} {Q : Int → ZG → Prop} (hM : MI D) (hD : ∀ j, j ≠ 0 → zsg G 5 j = D j) (h60 : D 9 0 < 60) (ho : ∀ k, 0 ≤ k → k < 3 → op D (pk a b c k))
    (hQ : ∀ G', Mo G G' → zsg G' 5 0 = zsg G 5 0 → (∀ j, j ≠ 0 → zsg G' 5 j = addP D (mpv D form head rest a b c kind) a b c j) → Q (D 9 0) G') : vX6_pattern form head rest a b c kind G Q := by
  have m9 : 0 ≤ D 9 0 := hM.2.2.1.1
  have e9 : zsg G 5 9 0 = D 9 0 := by rw [hD 9 (by omega)]
  generalize hown : D 9 0 = own at *
  unfold vX6_pattern
  rw [zgF_e, e9]
  refine zaS_i m9 (by omega) ?_
  refine zaS_i m9 (by omega) ?_
  refine zaS_i m9 (by omega) ?_
  refine zaS_i m9 (by omega) ?_
  have mo1 : Mo G (zss (zss (zss (zss G 5 10 own form) 5 11 own head) 5 12 own rest) 5 14 own kind) := ((((Mo.refl G).ss _ _ _).ss _ _ _).ss _ _ _).ss _ _ _
  have q0 : ∀ j, j ≠ 0 → j ≠ 10 → j ≠ 11 → j ≠ 12 → j ≠ 14 → zsg (zss (zss (zss (zss G 5 10 own form) 5 11 own head) 5 12 own rest) 5 14 own kind) 5 j = D j := fun j h0 h1 h2 h3 h4 => by
    rw [z5_ne h4, z5_ne h3, z5_ne h2, z5_ne h1, hD j h0]
  have q00 : zsg (zss (zss (zss (zss G 5 10 own form) 5 11 own head) 5 12 own rest) 5 14 own kind) 5 0 = zsg G 5 0 := by rw [z5_ne (by omega), z5_ne (by omega), z5_ne (by omega), z5_ne (by omega)]
  have q10 : zsg (zss (zss (zss (zss G 5 10 own form) 5 11 own head) 5 12 own rest) 5 14 own kind) 5 10 = fun i => if i = own then form else D 10 i := by
    rw [z5_ne (by omega), z5_ne (by omega), z5_ne (by omega), z5_eq, hD 10 (by omega)]
  have q11 : zsg (zss (zss (zss (zss G 5 10 own form) 5 11 own head) 5 12 own rest) 5 14 own kind) 5 11 = fun i => if i = own then head else D 11 i := by
    rw [z5_ne (by omega), z5_ne (by omega), z5_eq, z5_ne (by omega), hD 11 (by omega)]
  have q12 : zsg (zss (zss (zss (zss G 5 10 own form) 5 11 own head) 5 12 own rest) 5 14 own kind) 5 12 = fun i => if i = own then rest else D 12 i := by
    rw [z5_ne (by omega), z5_eq, z5_ne (by omega), z5_ne (by omega), hD 12 (by omega)]
  have q14 : zsg (zss (zss (zss (zss G 5 10 own form) 5 11 own head) 5 12 own rest) 5 14 own kind) 5 14 = fun i => if i = own then kind else D 14 i := by
    rw [z5_eq, z5_ne (by omega), z5_ne (by omega), z5_ne (by omega), hD 14 (by omega)]
  generalize zss (zss (zss (zss G 5 10 own form) 5 11 own head) 5 12 own rest) 5 14 own kind = K1 at mo1 q0 q00 q10 q11 q12 q14
  rw [zjn_ne]
  refine zaS_i m9 (by omega) ?_
  rw [zjn_ne]
  refine zaS_i m9 (by omega) ?_
  rw [zjn_4]
  refine zaS_i m9 (by omega) ?_
  refine zaS_i m9 (by omega) ?_
  have mo2 : Mo G (zss (zss (zss (zss K1 5 17 own (if form = 1 then bShl 1 head else 0)) 5 18 own (if form = 5 then 1 else 0)) 5 19 own (if form = 1 ∨ form = 5 ∨ form = 3 ∨ form = 6 then 0 else 1)) 5 15 own 0) := (((mo1.ss _ _ _).ss _ _ _).ss _ _ _).ss _ _ _
  have w0 : ∀ j, j ≠ 17 → j ≠ 18 → j ≠ 19 → j ≠ 15 → zsg (zss (zss (zss (zss K1 5 17 own (if form = 1 then bShl 1 head else 0)) 5 18 own (if form = 5 then 1 else 0)) 5 19 own (if form = 1 ∨ form = 5 ∨ form = 3 ∨ form = 6 then 0 else 1)) 5 15 own 0) 5 j = zsg K1 5 j := fun j h1 h2 h3 h4 => by
    rw [z5_ne h4, z5_ne h3, z5_ne h2, z5_ne h1]
  have w15 : zsg (zss (zss (zss (zss K1 5 17 own (if form = 1 then bShl 1 head else 0)) 5 18 own (if form = 5 then 1 else 0)) 5 19 own (if form = 1 ∨ form = 5 ∨ form = 3 ∨ form = 6 then 0 else 1)) 5 15 own 0) 5 15 = fun i => if i = own then 0 else D 15 i := by
    rw [z5_eq, z5_ne (by omega), z5_ne (by omega), z5_ne (by omega), q0 15 (by omega) (by omega) (by omega) (by omega) (by omega)]
  have w17 : zsg (zss (zss (zss (zss K1 5 17 own (if form = 1 then bShl 1 head else 0)) 5 18 own (if form = 5 then 1 else 0)) 5 19 own (if form = 1 ∨ form = 5 ∨ form = 3 ∨ form = 6 then 0 else 1)) 5 15 own 0) 5 17 = fun i => if i = own then (if form = 1 then bShl 1 head else 0) else D 17 i := by
    rw [z5_ne (by omega), z5_ne (by omega), z5_ne (by omega), z5_eq, q0 17 (by omega) (by omega) (by omega) (by omega) (by omega)]
  have w18 : zsg (zss (zss (zss (zss K1 5 17 own (if form = 1 then bShl 1 head else 0)) 5 18 own (if form = 5 then 1 else 0)) 5 19 own (if form = 1 ∨ form = 5 ∨ form = 3 ∨ form = 6 then 0 else 1)) 5 15 own 0) 5 18 = fun i => if i = own then (if form = 5 then 1 else 0) else D 18 i := by
    rw [z5_ne (by omega), z5_ne (by omega), z5_eq, z5_ne (by omega), q0 18 (by omega) (by omega) (by omega) (by omega) (by omega)]
  have w19 : zsg (zss (zss (zss (zss K1 5 17 own (if form = 1 then bShl 1 head else 0)) 5 18 own (if form = 5 then 1 else 0)) 5 19 own (if form = 1 ∨ form = 5 ∨ form = 3 ∨ form = 6 then 0 else 1)) 5 15 own 0) 5 19 = fun i => if i = own then (if form = 1 ∨ form = 5 ∨ form = 3 ∨ form = 6 then 0 else 1) else D 19 i := by
    rw [z5_ne (by omega), z5_eq, z5_ne (by omega), z5_ne (by omega), q0 19 (by omega) (by omega) (by omega) (by omega) (by omega)]
  generalize zss (zss (zss (zss K1 5 17 own (if form = 1 then bShl 1 head else 0)) 5 18 own (if form = 5 then 1 else 0)) 5 19 own (if form = 1 ∨ form = 5 ∨ form = 3 ∨ form = 6 then 0 else 1)) 5 15 own 0 = K2 at mo2 w0 w15 w17 w18 w19
  refine zl2_of (fun k K => 0 ≤ k ∧ k ≤ 3 ∧ Mo G K ∧ (∀ j, j ≠ 13 → j ≠ 15 → j ≠ 17 → j ≠ 18 → j ≠ 19 → zsg K 5 j = zsg K2 5 j) ∧ (zsg K 5 13 = fun i => if 3 * own ≤ i ∧ i < 3 * own + k then pk a b c (i - 3 * own) else D 13 i) ∧
    (zsg K 5 15 = fun i => if i = own then der D a b c k.toNat else D 15 i) ∧ (zsg K 5 17 = fun i => if i = own then nmr D (if form = 1 then bShl 1 head else 0) a b c k.toNat else D 17 i) ∧
    (zsg K 5 18 = fun i => if i = own then hvr D (if form = 5 then 1 else 0) a b c k.toNat else D 18 i) ∧ (zsg K 5 19 = fun i => if i = own then bar D (if form = 1 ∨ form = 5 ∨ form = 3 ∨ form = 6 then 0 else 1) a b c k.toNat else D 19 i)) (fun k _ => (3 - k).toNat) (fun P k K hI hPP => ?_) ⟨by omega, by omega, mo2, fun j _ _ _ _ _ => rfl, ?_, w15, w17, w18, w19⟩
  · obtain ⟨k0, k1, mo, i0, i13, i15, i17, i18, i19⟩ := hI
    refine zbr_i (fun hk => ?_) (fun hk => ?_)
    · -- the end
      have ek : k = 3 := by omega
      subst ek
      rw [show (3 : Int).toNat = 3 from rfl] at i15 i17 i18 i19
      dsimp only [zjn]
      have fin : ∀ z : Int, z = (if form = 1 ∨ form = 4 ∨ form = 5 then 1 else 0) → zaL K 5 15 60 own fun (x2 : Int) => zbr (z = 0) (zaS K 5 15 60 own (w32 (x2 + 1)) fun (G9 : ZG) => vX6_sizeOf a b c G9 fun (x3 : Int) => zaS G9 5 16 60 own x3 fun (G10 : ZG) => zgF G10 5 9 fun (x4 : Int) => zpF G10 5 9 (w32 (x4 + 1)) fun (G11 : ZG) => Q own G11) (zaS K 5 15 60 own (w32 (x2 + 0)) fun (G9 : ZG) => vX6_sizeOf a b c G9 fun (x3 : Int) => zaS G9 5 16 60 own x3 fun (G10 : ZG) => zgF G10 5 9 fun (x4 : Int) => zpF G10 5 9 (w32 (x4 + 1)) fun (G11 : ZG) => Q own G11) := by
        intro z hz
        refine zaL_i m9 (by omega) ?_
        have hd := der_b hM (a := a) (b := b) (c := c) ho 3 (by omega)
        rw [i15]
        dsimp only
        rw [if_pos rfl]
        have fin2 : ∀ w : Int, w = der D a b c 3 + (if form = 1 ∨ form = 4 ∨ form = 5 then 0 else 1) → zaS K 5 15 60 own w fun (G9 : ZG) => vX6_sizeOf a b c G9 fun (x3 : Int) => zaS G9 5 16 60 own x3 fun (G10 : ZG) => zgF G10 5 9 fun (x4 : Int) => zpF G10 5 9 (w32 (x4 + 1)) fun (G11 : ZG) => Q own G11 := by
          intro w hw
          refine zaS_i m9 (by omega) ?_
          have ea := ho 0 (by omega) (by omega)
          have eb := ho 1 (by omega) (by omega)
          have ec := ho 2 (by omega) (by omega)
          refine w6_sizeOf hM (fun p hp => ?_) ea eb ec ?_
          · rw [z5_ne (by omega), i0 16 (by omega) (by omega) (by omega) (by omega) (by omega), w0 16 (by omega) (by omega) (by omega) (by omega), q0 16 (by omega) (by omega) (by omega) (by omega) (by omega)]
          · refine zaS_i m9 (by omega) ?_
            rw [zgF_e, zpF_e, z5_ne (by omega), z5_ne (by omega), i0 9 (by omega) (by omega) (by omega) (by omega) (by omega), w0 9 (by omega) (by omega) (by omega) (by omega), q0 9 (by omega) (by omega) (by omega) (by omega) (by omega), hown, w32_eq (by omega) (by omega)]
            refine hQ _ (((mo.ss _ _ _).ss _ _ _).ss _ _ _) ?_ (fun j hj => ?_)
            · rw [z5_ne (by omega), z5_ne (by omega), z5_ne (by omega), i0 0 (by omega) (by omega) (by omega) (by omega) (by omega), w0 0 (by omega) (by omega) (by omega) (by omega), q00]
            · by_cases j9 : j = 9
              · subst j9
                rw [z5_eq, z5_ne (by omega), z5_ne (by omega), i0 9 (by omega) (by omega) (by omega) (by omega) (by omega), w0 9 (by omega) (by omega) (by omega) (by omega), q0 9 (by omega) (by omega) (by omega) (by omega) (by omega)]
                rw [addP_f9, hown]
              · rw [z5_ne j9]
                by_cases j16 : j = 16
                · subst j16
                  rw [z5_eq, z5_ne (by omega), i0 16 (by omega) (by omega) (by omega) (by omega) (by omega), w0 16 (by omega) (by omega) (by omega) (by omega), q0 16 (by omega) (by omega) (by omega) (by omega) (by omega)]
                  rw [addP_fj (by omega), hown]; rfl
                · rw [z5_ne j16]
                  by_cases j15 : j = 15
                  · subst j15
                    rw [z5_eq, i15]
                    rw [addP_fj (by omega), hown]
                    funext i
                    dsimp only
                    by_cases hi : i = own
                    · rw [if_pos hi, if_pos hi, hw]; rfl
                    · rw [if_neg hi, if_neg hi, if_neg hi]
                  · rw [z5_ne j15]
                    by_cases j13 : j = 13
                    · subst j13
                      rw [i13]
                      rw [addP_f13, hown]
                      funext i
                      by_cases h0 : i = 3 * own
                      · rw [if_pos (by omega), if_neg (by omega), if_neg (by omega), if_pos h0, h0, show 3 * own - 3 * own = 0 by omega]; rfl
                      · by_cases h1 : i = 3 * own + 1
                        · rw [if_pos (by omega), if_neg (by omega), if_pos h1, h1, show 3 * own + 1 - 3 * own = 1 by omega]; rfl
                        · by_cases h2 : i = 3 * own + 2
                          · rw [if_pos (by omega), if_pos h2, h2, show 3 * own + 2 - 3 * own = 2 by omega]; rfl
                          · rw [if_neg (by omega), if_neg h2, if_neg h1, if_neg h0]
                    · have hjj : ∀ (f : Int → Int), (10 ≤ j ∧ j ≤ 19) → (f = fun i => if i = own then mpv D form head rest a b c kind j else D j i) → f = addP D (mpv D form head rest a b c kind) a b c j := by
                        rintro f hj2 rfl
                        rw [addP_fj ⟨hj2.1, hj2.2, j13⟩, hown]
                      by_cases j17 : j = 17
                      · subst j17; exact hjj _ (by omega) i17
                      · by_cases j18 : j = 18
                        · subst j18; exact hjj _ (by omega) i18
                        · by_cases j19 : j = 19
                          · subst j19; exact hjj _ (by omega) i19
                          · rw [i0 j j13 j15 j17 j18 j19, w0 j j17 j18 j19 j15]
                            by_cases j10 : j = 10
                            · subst j10; exact hjj _ (by omega) q10
                            · by_cases j11 : j = 11
                              · subst j11; exact hjj _ (by omega) q11
                              · by_cases j12 : j = 12
                                · subst j12; exact hjj _ (by omega) q12
                                · by_cases j14 : j = 14
                                  · subst j14; exact hjj _ (by omega) q14
                                  · rw [q0 j hj j10 j11 j12 j14, addP_o (by omega)]
        refine zbr_i (fun h => fin2 _ ?_) (fun h => fin2 _ ?_)
        · rw [w32_eq (by omega) (by omega)]
          by_cases hf : form = 1 ∨ form = 4 ∨ form = 5
          · rw [if_pos hf] at hz; omega
          · rw [if_neg hf]
        · rw [w32_eq (by omega) (by omega)]
          by_cases hf : form = 1 ∨ form = 4 ∨ form = 5
          · rw [if_pos hf]
          · rw [if_neg hf] at hz; exact absurd hz h
      refine zbr_i (fun h => fin 1 (by rw [if_pos (Or.inl h)])) (fun h => zbr_i (fun h2 => fin 1 (by rw [if_pos (Or.inr (Or.inl h2))])) (fun h2 => zbr_i (fun h3 => fin 0 (by rw [if_neg (by omega)])) (fun h3 => fin 1 (by rw [if_pos (by omega)]))))
    · rw [eX6_pick, w32_eq (x := 3 * own) (by omega) (by omega), w32_eq (x := 3 * own + k) (by omega) (by omega)]
      refine zaS_i (by omega) (by omega) ?_
      have hok := ho k k0 (by omega)
      have ek : (k + 1).toNat = k.toNat + 1 := by omega
      have ek2 : ((k.toNat : Nat) : Int) = k := by omega
      have e13 : zsg (zss K 5 13 (3 * own + k) (pk a b c k)) 5 13 = fun i => if 3 * own ≤ i ∧ i < 3 * own + (k + 1) then pk a b c (i - 3 * own) else D 13 i := by
        rw [z5_eq, i13]
        funext i
        dsimp only
        by_cases h : i = 3 * own + k
        · rw [if_pos h, if_pos (by omega), h, show 3 * own + k - 3 * own = k by omega]
        · rw [if_neg h]
          by_cases h2 : 3 * own ≤ i ∧ i < 3 * own + k
          · rw [if_pos h2, if_pos (by omega)]
          · rw [if_neg h2, if_neg (by omega)]
      have moA := mo.ss 13 (3 * own + k) (pk a b c k)
      have a0 : ∀ j, j ≠ 13 → zsg (zss K 5 13 (3 * own + k) (pk a b c k)) 5 j = zsg K 5 j := fun j h => z5_ne h
      generalize zss K 5 13 (3 * own + k) (pk a b c k) = KA at e13 moA a0
      dsimp only [zjn]
      refine zbr_i (fun hp => ?_) (fun hp => ?_)
      · rw [zlt1_e, w32_eq (by omega) (by omega)]
        refine hPP _ _ ⟨by omega, by omega, moA, fun j h1 h2 h3 h4 h5 => (a0 j h1).trans (i0 j h1 h2 h3 h4 h5), e13, ?_, ?_, ?_, ?_⟩ (by omega)
        · rw [a0 15 (by omega), i15, ek]; simp only [der]; rw [ek2, if_pos hp]
        · rw [a0 17 (by omega), i17, ek]; simp only [nmr]; rw [ek2, if_pos hp]
        · rw [a0 18 (by omega), i18, ek]; simp only [hvr]; rw [ek2, if_pos hp]
        · rw [a0 19 (by omega), i19, ek]; simp only [bar]; rw [ek2, if_pos hp]
      · have hp2 : 0 ≤ pk a b c k ∧ pk a b c k < own := by
          rcases hok with q | q
          · exact absurd q hp
          · rw [hown] at q; exact q
        refine zaL_i m9 (by omega) ?_
        rw [a0 17 (by omega), i17]
        dsimp only
        rw [if_pos rfl]
        refine zaL_i hp2.1 (by omega) ?_
        rw [a0 17 (by omega), i17]
        dsimp only
        rw [if_neg (show ¬ pk a b c k = own by omega)]
        refine zaS_i m9 (by omega) ?_
        have b17 : zsg (zss KA 5 17 own (bOr (nmr D (if form = 1 then bShl 1 head else 0) a b c k.toNat) (D 17 (pk a b c k)))) 5 17 = fun i => if i = own then nmr D (if form = 1 then bShl 1 head else 0) a b c (k + 1).toNat else D 17 i := by
          rw [z5_eq, a0 17 (by omega), i17, ek]
          simp only [nmr]
          funext i
          rw [ek2, if_neg hp]
          by_cases hi : i = own
          · rw [if_pos hi, if_pos hi]
          · rw [if_neg hi, if_neg hi, if_neg hi]
        have moB := moA.ss 17 own (bOr (nmr D (if form = 1 then bShl 1 head else 0) a b c k.toNat) (D 17 (pk a b c k)))
        have b0 : ∀ j, j ≠ 17 → zsg (zss KA 5 17 own (bOr (nmr D (if form = 1 then bShl 1 head else 0) a b c k.toNat) (D 17 (pk a b c k)))) 5 j = zsg KA 5 j := fun j h => z5_ne h
        generalize zss KA 5 17 own (bOr (nmr D (if form = 1 then bShl 1 head else 0) a b c k.toNat) (D 17 (pk a b c k))) = KB at b17 moB b0
        refine zaL_i m9 (by omega) ?_
        rw [b0 18 (by omega), a0 18 (by omega), i18]
        dsimp only
        rw [if_pos rfl]
        -- has it a view
        have stC : ∀ z : Int, z = hvr D (if form = 5 then 1 else 0) a b c (k + 1).toNat → zaS KB 5 18 60 own z fun (G14 : ZG) => zaL G14 5 19 60 own fun (x10 : Int) => zbr (x10 = 0) (zaS G14 5 19 60 own 0 fun (G15 : ZG) => zaL G15 5 15 60 (pk a b c k) fun (x11 : Int) => zaL G15 5 15 60 own fun (x12 : Int) => zbr (x11 ≤ x12) (zaL G15 5 15 60 own fun (x13 : Int) => zaS G15 5 15 60 own x13 fun (G16 : ZG) => zlt1 (w32 (k + 1)) fun (x6 : Int) => P x6 G16) (zaL G15 5 15 60 (pk a b c k) fun (x14 : Int) => zaS G15 5 15 60 own x14 fun (G16 : ZG) => zlt1 (w32 (k + 1)) fun (x6 : Int) => P x6 G16)) (zaL G14 5 19 60 (pk a b c k) fun (x15 : Int) => zbr (x15 = 0) (zaS G14 5 19 60 own 0 fun (G15 : ZG) => zaL G15 5 15 60 (pk a b c k) fun (x11 : Int) => zaL G15 5 15 60 own fun (x12 : Int) => zbr (x11 ≤ x12) (zaL G15 5 15 60 own fun (x13 : Int) => zaS G15 5 15 60 own x13 fun (G16 : ZG) => zlt1 (w32 (k + 1)) fun (x6 : Int) => P x6 G16) (zaL G15 5 15 60 (pk a b c k) fun (x14 : Int) => zaS G15 5 15 60 own x14 fun (G16 : ZG) => zlt1 (w32 (k + 1)) fun (x6 : Int) => P x6 G16)) (zaS G14 5 19 60 own 1 fun (G15 : ZG) => zaL G15 5 15 60 (pk a b c k) fun (x11 : Int) => zaL G15 5 15 60 own fun (x12 : Int) => zbr (x11 ≤ x12) (zaL G15 5 15 60 own fun (x13 : Int) => zaS G15 5 15 60 own x13 fun (G16 : ZG) => zlt1 (w32 (k + 1)) fun (x6 : Int) => P x6 G16) (zaL G15 5 15 60 (pk a b c k) fun (x14 : Int) => zaS G15 5 15 60 own x14 fun (G16 : ZG) => zlt1 (w32 (k + 1)) fun (x6 : Int) => P x6 G16))) := by
          intro z hz
          refine zaS_i m9 (by omega) ?_
          have c18 : zsg (zss KB 5 18 own z) 5 18 = fun i => if i = own then hvr D (if form = 5 then 1 else 0) a b c (k + 1).toNat else D 18 i := by
            rw [z5_eq, b0 18 (by omega), a0 18 (by omega), i18]
            funext i
            dsimp only
            by_cases hi : i = own
            · rw [if_pos hi, if_pos hi, hz]
            · rw [if_neg hi, if_neg hi, if_neg hi]
          have moC := moB.ss 18 own z
          have c0 : ∀ j, j ≠ 18 → zsg (zss KB 5 18 own z) 5 j = zsg KB 5 j := fun j h => z5_ne h
          generalize zss KB 5 18 own z = KC at c18 moC c0
          refine zaL_i m9 (by omega) ?_
          rw [c0 19 (by omega), b0 19 (by omega), a0 19 (by omega), i19]
          dsimp only
          rw [if_pos rfl]
          have stD : ∀ z : Int, z = bar D (if form = 1 ∨ form = 5 ∨ form = 3 ∨ form = 6 then 0 else 1) a b c (k + 1).toNat → zaS KC 5 19 60 own z fun (G15 : ZG) => zaL G15 5 15 60 (pk a b c k) fun (x11 : Int) => zaL G15 5 15 60 own fun (x12 : Int) => zbr (x11 ≤ x12) (zaL G15 5 15 60 own fun (x13 : Int) => zaS G15 5 15 60 own x13 fun (G16 : ZG) => zlt1 (w32 (k + 1)) fun (x6 : Int) => P x6 G16) (zaL G15 5 15 60 (pk a b c k) fun (x14 : Int) => zaS G15 5 15 60 own x14 fun (G16 : ZG) => zlt1 (w32 (k + 1)) fun (x6 : Int) => P x6 G16) := by
            intro z hz
            refine zaS_i m9 (by omega) ?_
            have d19 : zsg (zss KC 5 19 own z) 5 19 = fun i => if i = own then bar D (if form = 1 ∨ form = 5 ∨ form = 3 ∨ form = 6 then 0 else 1) a b c (k + 1).toNat else D 19 i := by
              rw [z5_eq, c0 19 (by omega), b0 19 (by omega), a0 19 (by omega), i19]
              funext i
              dsimp only
              by_cases hi : i = own
              · rw [if_pos hi, if_pos hi, hz]
              · rw [if_neg hi, if_neg hi, if_neg hi]
            have moD := moC.ss 19 own z
            have d0 : ∀ j, j ≠ 19 → zsg (zss KC 5 19 own z) 5 j = zsg KC 5 j := fun j h => z5_ne h
            generalize zss KC 5 19 own z = KD at d19 moD d0
            have d15 : zsg KD 5 15 = fun i => if i = own then der D a b c k.toNat else D 15 i := by
              rw [d0 15 (by omega), c0 15 (by omega), b0 15 (by omega), a0 15 (by omega), i15]
            have stE : ∀ w : Int, w = der D a b c (k + 1).toNat → zaS KD 5 15 60 own w fun (G16 : ZG) => zlt1 (w32 (k + 1)) fun (x6 : Int) => P x6 G16 := by
              intro w hw
              refine zaS_i m9 (by omega) ?_
              rw [zlt1_e, w32_eq (by omega) (by omega)]
              have e0 : ∀ j, j ≠ 15 → zsg (zss KD 5 15 own w) 5 j = zsg KD 5 j := fun j h => z5_ne h
              refine hPP _ _ ⟨by omega, by omega, moD.ss _ _ _, fun j h1 h2 h3 h4 h5 => ?_, ?_, ?_, ?_, ?_, ?_⟩ (by omega)
              · rw [e0 j h2, d0 j h5, c0 j h4, b0 j h3, a0 j h1]; exact i0 j h1 h2 h3 h4 h5
              · rw [e0 13 (by omega), d0 13 (by omega), c0 13 (by omega), b0 13 (by omega), e13]
              · rw [z5_eq, d15]
                funext i
                dsimp only
                by_cases hi : i = own
                · rw [if_pos hi, if_pos hi, hw]
                · rw [if_neg hi, if_neg hi, if_neg hi]
              · rw [e0 17 (by omega), d0 17 (by omega), c0 17 (by omega), b17]
              · rw [e0 18 (by omega), d0 18 (by omega), c18]
              · rw [e0 19 (by omega), d19]
            refine zaL_i hp2.1 (by omega) ?_
            refine zaL_i m9 (by omega) ?_
            rw [d15]
            dsimp only
            rw [if_neg (show ¬ pk a b c k = own by omega), if_pos rfl]
            simp only [ek, der] at stE
            rw [ek2, if_neg hp] at stE
            refine zbr_i (fun hle => ?_) (fun hle => ?_)
            · refine zaL_i m9 (by omega) ?_
              rw [d15]
              dsimp only
              rw [if_pos rfl]
              exact stE _ (by rw [if_pos hle])
            · refine zaL_i hp2.1 (by omega) ?_
              rw [d15]
              dsimp only
              rw [if_neg (show ¬ pk a b c k = own by omega)]
              exact stE _ (by rw [if_neg hle])
          simp only [ek, bar] at stD
          rw [ek2, if_neg hp] at stD
          refine zbr_i (fun h => stD 0 (by rw [if_neg (fun q => q.1 h)])) (fun h => ?_)
          refine zaL_i hp2.1 (by omega) ?_
          rw [c0 19 (by omega), b0 19 (by omega), a0 19 (by omega), i19]
          dsimp only
          rw [if_neg (show ¬ pk a b c k = own by omega)]
          refine zbr_i (fun h2 => stD 0 (by rw [if_neg (fun q => q.2 h2)])) (fun h2 => stD 1 (by rw [if_pos ⟨h, h2⟩]))
        simp only [ek, hvr] at stC
        rw [ek2, if_neg hp] at stC
        refine zbr_i (fun h => stC 1 (by rw [if_pos (Or.inl h)])) (fun h => ?_)
        refine zaL_i hp2.1 (by omega) ?_
        rw [b0 18 (by omega), a0 18 (by omega), i18]
        dsimp only
        rw [if_neg (show ¬ pk a b c k = own by omega)]
        refine zbr_i (fun h2 => stC 0 (by rw [if_neg (fun q => q.elim h (fun z => z h2))])) (fun h2 => stC 1 (by rw [if_pos (Or.inr h2)]))
  · rw [w0 13 (by omega) (by omega) (by omega) (by omega), q0 13 (by omega) (by omega) (by omega) (by omega) (by omega)]
    funext i
    rw [if_neg (by omega)]
