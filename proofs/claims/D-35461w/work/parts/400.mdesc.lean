/-! REFERENCE: a run down a tree -/
set_option maxRecDepth 100000
theorem ff_g {st : Int × Int × Int × Int} {e : PT} (h : st.1 = 3) : fa (st :: e) = fa e ∧ fv (st :: e) = fv e := by
  refine ⟨funext fun p => ?_, funext fun v => funext fun p => ?_⟩
  · rw [fa_s]
    by_cases hf : fa e p = -1
    · rw [if_pos hf, if_neg (fun z => by have := z.1; omega), hf]
    · rw [if_neg hf]
  · rw [fv_s]
    by_cases hf : fv e v p = -1
    · rw [if_pos hf, if_neg (fun z => by have := z.1; omega), hf]
    · rw [if_neg hf]
/-- a leaf's case matches by what is known -/
theorem leaf_pca {D : ZD} {eng : Int} {e : PT} (hM : MI D) (hN : isN D eng e) (h : (nl D eng e).1 = 0 ∨ (nl D eng e).1 = 1) : (pca D (fa e) (fv e) (nl D eng e).2.1).1 = 1 := by
  have hlab : nl D eng e = lab D eng e → (pca D (fa e) (fv e) (nl D eng e).2.1).1 = 1 := fun hl => by
    have hLO := lab_ok hM (isN_P hM e hN).1 eng
    rw [hl] at h ⊢
    rcases hLO with z | ⟨c, z, hc, h26, hp⟩ | ⟨c, z, hc⟩ | ⟨v, q, z, hv, hf, hd⟩ | ⟨k, q, z, hf, hd⟩
    · rw [z] at h; dsimp only at h; omega
    · rw [z]; exact hp
    · rw [z] at h; dsimp only at h; omega
    · rw [z] at h; dsimp only at h; omega
    · rw [z] at h; dsimp only at h; omega
  match e, hN, hlab with
  | [], _, hlab => exact hlab rfl
  | st :: e, hN, hlab =>
    have en : nl D eng (st :: e) = if st.1 = 3 ∧ st.2.2.2 = 0 then (0, st.2.1, 0, 0) else if st.1 = 3 ∧ D 26 st.2.1 = 3 then (1, st.2.1, 0, 0) else lab D eng (st :: e) := rfl
    have h3 : st.1 = 3 → (pca D (fa (st :: e)) (fv (st :: e)) st.2.1).1 = 1 := fun h33 => by
      obtain ⟨hN1, n1, n2, n3, n4, n5⟩ := hN
      have hLO := nl_LO hM hN1 (by omega)
      rw [(ff_g h33).1, (ff_g h33).2, ← n2]
      rcases hLO with z | ⟨c, z, _⟩ | ⟨c, z, _, _, _, hp⟩ | ⟨v, q, z, hv, hf, hd⟩ | ⟨k, q, z, hf, hd⟩
      · rw [z] at n1; dsimp only at n1; omega
      · rw [z] at n1; dsimp only at n1; omega
      · rw [z]; exact hp
      · rw [z] at n1; dsimp only at n1; omega
      · rw [z] at n1; dsimp only at n1; omega
    by_cases h1 : st.1 = 3 ∧ st.2.2.2 = 0
    · rw [en, if_pos h1]; exact h3 h1.1
    · by_cases h2 : st.1 = 3 ∧ D 26 st.2.1 = 3
      · rw [en, if_neg h1, if_pos h2]; exact h3 h2.1
      · exact hlab (by rw [en, if_neg h1, if_neg h2])
/-- a run down the reference's tree -/
def IvD (G K : ZG) (s : RS) : Prop := Mo G K ∧ (∀ j, ¬ (32 ≤ j ∧ j ≤ 45) → ¬ (47 ≤ j ∧ j ≤ 51) → zsg K 5 j = zsg G 5 j) ∧ Rr K s ∧ zsg K 5 47 0 = s.1 ∧ inR s.1
theorem IvD.of {G K H : ZG} {s : RS} (h : IvD G K s) (mo : Mo K H) (hj : ∀ j, ¬ (32 ≤ j ∧ j ≤ 45) → zsg H 5 j = zsg K 5 j) : IvD G H s := by
  obtain ⟨h1, h2, h3, h4, h5⟩ := h
  exact ⟨h1.trans mo, fun j j1 j2 => by rw [hj j j1, h2 j j1 j2], h3.of rfl (fun j j1 j2 => hj j (by omega)), by rw [hj 47 (by omega), h4], h5⟩
theorem IvD.rn {D : ZD} {G K K' : ZG} {s : RS} {c r : Int} {bd : Int → Int} (hI : IvD G K s) (mo : Mo K K') (hj : ∀ j, j ≠ 29 → j ≠ 52 → j ≠ 53 → zsg K' 5 j = zsg K 5 j) (h52 : zsg K' 5 52 0 = c) (h53 : c ≠ -1 → ∀ n, 0 ≤ n → n < 6 → zsg K' 5 53 n = zsg K 5 39 n) (hb : c ≠ -1 → ∀ n, 0 ≤ n → n < 6 → zsg K 5 39 n = bd n)
    (h29 : ∀ i, 0 ≤ i → i < D 23 0 → zsg K' 5 29 i = if decide (r = 0) = true ∧ i = c then w32 (D 29 i + 1) else D 29 i) : Rn D G K' s c bd (decide (r = 0)) := by
  obtain ⟨h1, h2, h3, h4, h5⟩ := hI
  exact ⟨h1.trans mo, fun j j1 j2 j3 => by rw [hj j j2 (by omega) (by omega), h2 j (by omega) (by omega)], h3.of rfl (fun j j1 j2 => hj j (by omega) (by omega) (by omega)), by rw [hj 47 (by omega) (by omega) (by omega), h4], h5, h52, fun hn n n0 n1 => by rw [h53 hn n n0 n1, hb hn n n0 n1], h29⟩
/-- the names of a case that matches by what is known -/
theorem w6_bindBy {D : ZD} {g : Int → Int} {eng c i : Int} {e : PT} {G K : ZG} {s : RS} {Q : ZG → Prop} (hM : MI D) (hL : LIN D) (hK : ∀ j, 1 ≤ j → j ≤ 29 → zsg G 5 j = D j) (hw : WI D eng g e s) (hI : IvD G K s) (hN : Nd G e i) (hc : 0 ≤ c ∧ c < D 23 0) (hp : (pca D (fa e) (fv e) c).1 = 1)
    (hQ : ∀ K', IvD G K' s → (∀ x, 0 ≤ x → x ≤ 5 → zsg K' 5 39 x = (pca D (hd D g) (fn s.2) c).2.2 x) → Q K') : vX6_bindBy c i K Q := by
  obtain ⟨hNn, hA, hV, -⟩ := id hw
  have ht := tmc_eq (D := D) (e := e) (c := c) (s := (0, 0, 0))
  have hm := mono_pca (D := D) (a := fa e) (a' := hd D g) (w := fv e) (w' := fn s.2) (c := c) hA (fun v p _ => hV v p) (by omega)
  unfold vX6_bindBy
  rw [zpF_e, zpF_e]
  have h0 : IvD G (zss (zss K 5 40 0 0) 5 41 0 i) s := hI.of (((Mo.refl K).ss _ _ _).ss _ _ _) (fun j hj => by rw [z5_ne (by omega), z5_ne (by omega)])
  have e40 : zsg (zss (zss K 5 40 0 0) 5 41 0 i) 5 40 0 = 0 := by rw [z5_ne (by omega), zsg_ss, if_pos ⟨rfl, rfl, rfl⟩]
  have e41 : zsg (zss (zss K 5 40 0 0) 5 41 0 i) 5 41 0 = i := by rw [zsg_ss, if_pos ⟨rfl, rfl, rfl⟩]
  generalize zss (zss K 5 40 0 0) 5 41 0 i = B at h0 e40 e41
  refine w6_tryT hM hL hNn (by rw [e41]; exact hN.of (fun j j1 j2 => h0.2.1 j (by omega) (by omega))) (fun j j1 j2 => by rw [h0.2.1 j (by omega) (by omega), hK j j1 j2]) e40 (by rw [h0.2.2.2.1]; exact h0.2.2.2.2) hc (fun h1 K' mo hj h39 => ?_) (fun h1 K' _ _ => ?_) (fun h1 K' _ _ _ => ?_)
  · exact hQ K' (h0.of mo (fun j j1 => hj j (by omega) (by omega))) (fun x x0 x5 => by rw [h39 x x0 x5, ht.2, hm.2])
  · rw [ht.1] at h1; omega
  · rw [ht.1] at h1; omega
theorem w6_runTree {D : ZD} {g : Int → Int} {eng : Int} {G : ZG} {L : List PT} {s : RS} {Q : Int → ZG → Prop} (hM : MI D) (hL : LIN D) (hg : GV D g) (hK : ∀ j, 1 ≤ j → j ≤ 29 → zsg G 5 j = D j) (h46 : ∀ i, 0 ≤ i → i < D 21 0 → zsg G 5 46 i = g i) (hR : Rr G s) (h47 : zsg G 5 47 0 = s.1) (hT : TT D eng G L (L.length : Int)) (hw : WI D eng g [] s)
    (hQ0 : (nl D eng (wk D eng g 489 [] s).1).1 = 2 → ∀ G' bd, Rn D G G' (wk D eng g 489 [] s).2 (-1) bd true → Q (-1) G')
    (hQ1 : (nl D eng (wk D eng g 489 [] s).1).1 ≠ 2 → ∀ G' c bd, c = (nl D eng (wk D eng g 489 [] s).1).2.1 → 0 ≤ c ∧ c < D 23 0 → (pca D (hd D g) (fn (wk D eng g 489 [] s).2.2) c).1 = 1 → bd = (pca D (hd D g) (fn (wk D eng g 489 [] s).2.2) c).2.2 → Rn D G G' (wk D eng g 489 [] s).2 c bd (decide (gd D g bd c ≠ 2)) → Q (if gd D g bd c = 2 then -2 else D 25 c) G') : vX6_runTree G Q := by
  generalize hA : wk D eng g 489 [] s = A at hQ0 hQ1
  obtain ⟨t1, t2, t3, t4, t5, t6, t7⟩ := id hT
  have m23 : D 23 0 ≤ 8 := hM.2.2.2.2.1.2.2.2.2.1
  unfold vX6_runTree
  have hI0 : IvD G G s := ⟨Mo.refl G, fun _ _ _ => rfl, hR, h47, hw.2.2.2.2.1⟩
  refine zl2_of (fun a K => ∃ (i : Nat) (e : PT) (s : RS) (f : Nat), a = (i : Int) ∧ L[i]? = some e ∧ WI D eng g e s ∧ 489 - e.length ≤ f ∧ IvD G K s ∧ wk D eng g f e s = A) (fun a _ => (500 - a).toNat) (fun P a K hI hPP => ?_) ⟨0, [], s, 489, rfl, t4, hw, by simp, hI0, hA⟩
  obtain ⟨i, e, s, f, rfl, hi, hwi, hf, hIK, hwk⟩ := hI
  have hil := (List.getElem?_eq_some_iff.mp hi).1
  have hlen := isN_len hM hwi.1
  obtain ⟨f, rfl⟩ : ∃ f', f = f' + 1 := ⟨f - 1, by omega⟩
  rw [wk_s] at hwk
  have hn1 := isN_1 hM hwi.1
  have h10 := nl_10 hM hwi.1
  have hNd := (t5 i e hi).2
  obtain ⟨d58, d59, d60, d62, d61, dch⟩ : Dn G L i e (nl D eng e) := by
    rcases t6 i e hi with z | z
    · exact z
    · omega
  have tb : ∀ {H : ZG} {s' : RS}, IvD G H s' → ∀ j, 54 ≤ j → zsg H 5 j = zsg G 5 j := fun h j hj => h.2.1 j (by omega) (by omega)
  have dt : ∀ {H : ZG} {s' : RS}, IvD G H s' → ∀ j, 1 ≤ j → j ≤ 29 → zsg H 5 j = D j := fun h j j1 j2 => by rw [h.2.1 j (by omega) (by omega), hK j j1 j2]
  have d46 : ∀ {H : ZG} {s' : RS}, IvD G H s' → ∀ i, 0 ≤ i → i < D 21 0 → zsg H 5 46 i = g i := fun h i i0 i1 => by rw [h.2.1 46 (by omega) (by omega), h46 i i0 i1]
  have next : ∀ (k : Nat) (s' : RS) (H : ZG), (k : Int) < (nl D eng e).2.2.2 → WI D eng g (stp (nl D eng e) k :: e) s' → IvD G H s' → wk D eng g f (stp (nl D eng e) k :: e) s' = A → zaL H 5 61 512 (i : Int) fun (x9 : Int) => zlt1 (w32 (x9 + (k : Int))) fun (x10 : Int) => P x10 H := fun k s' H hk hwi' hI' hw' => by
    have hc := dch k hk
    have hcl := (List.getElem?_eq_some_iff.mp hc).1
    have hNc := (t5 _ _ hc).2
    obtain ⟨n1, n2, n3, n4, n5, n6⟩ := hNc
    obtain ⟨p0, p1, p2⟩ := t7 _ _ _ hc
    have := nd_inj L t3 _ _ _ p2 hi
    refine zaL_i (by omega) (by omega) ?_
    rw [tb hI' 61 (by omega), zlt1_e, w32_eq (by omega) (by omega)]
    refine hPP _ _ ⟨(zsg G 5 61 i).toNat + k, _, s', f, by omega, hc, hwi', by rw [List.length_cons]; omega, hI', hw'⟩ (by omega)
  refine zaL_i (by omega) (by omega) ?_
  rw [tb hIK 58 (by omega), d58]
  refine zbr_i (fun hle => ?_) (fun hle => ?_)
  · refine zaL_i (by omega) (by omega) ?_
    rw [tb hIK 58 (by omega), d58]
    rw [if_neg (by omega), if_neg (by omega), if_neg (by omega)] at hwk
    subst hwk
    refine zbr_i (fun h2 => ?_) (fun h2 => ?_)
    · have he := wi_end hM hwi (by omega) (by omega) (by omega)
      obtain ⟨h01, hc, hp, hgd⟩ := he.resolve_left h2
      have hpf := leaf_pca hM hwi.1 h01
      refine zaL_i (by omega) (by omega) ?_
      rw [tb hIK 59 (by omega), d59 h2]
      refine w6_bindBy hM hL hK hwi hIK hNd hc hpf (fun H hIH h39 => ?_)
      refine zaL_i (by omega) (by omega) ?_
      rw [tb hIH 59 (by omega), d59 h2]
      refine zaL_i (by omega) (by omega) ?_
      rw [tb hIH 58 (by omega), d58]
      dsimp only [zjn]
      have q := fun G' => hQ1 h2 G' _ _ rfl hc hp rfl
      have hb : ∀ n, 0 ≤ n → n < 6 → zsg H 5 39 n = (pca D (hd D g) (fn s.2) (nl D eng e).2.1).2.2 n := fun n n0 n1 => h39 n n0 (by omega)
      refine zbr_i (fun hn => ?_) (fun hn => ?_)
      · refine w6_end hM (Or.inr hc) (dt hIH) (fun G2 mo2 hj h52 h53 h29 => ?_)
        have hg2 : gd D g (pca D (hd D g) (fn s.2) (nl D eng e).2.1).2.2 (nl D eng e).2.1 ≠ 2 := fun z => hn (hgd.mp z)
        have q := q G2
        rw [if_neg hg2, decide_eq_true hg2] at q
        rw [if_neg (by omega), if_pos rfl]
        exact q (hIH.rn (r := 0) mo2 hj h52 h53 (fun _ => hb) h29)
      · have hn := Decidable.of_not_not hn
        refine w6_end hM (Or.inr hc) (dt hIH) (fun G2 mo2 hj h52 h53 h29 => ?_)
        have hg2 := hgd.mpr hn
        have q := q G2
        rw [if_pos hg2, decide_eq_false (fun z => z hg2)] at q
        rw [if_neg (by omega), if_neg (by omega)]
        exact q (hIH.rn (r := 1) mo2 hj h52 h53 (fun _ => hb) h29)
    · have h2 := Decidable.of_not_not h2
      refine w6_end hM (Or.inl rfl) (dt hIK) (fun G' mo hj h52 h53 h29 => ?_)
      rw [if_pos rfl]
      exact hQ0 h2 G' (fun _ => -1) (hIK.rn (r := 0) mo hj h52 h53 (fun h => absurd rfl h) h29)
  · refine zaL_i (by omega) (by omega) ?_
    rw [tb hIK 58 (by omega), d58]
    dsimp only [zjn]
    refine zbr_i (fun hn3 => ?_) (fun hn3 => ?_)
    · rw [zpF_e]
      have hI1 : IvD G (zss K 5 40 0 1) s := hIK.of ((Mo.refl K).ss _ _ _) (fun j hj => by rw [z5_ne (by omega)])
      have e40 : zsg (zss K 5 40 0 1) 5 40 0 = 1 := by rw [zsg_ss, if_pos ⟨rfl, rfl, rfl⟩]
      generalize zss K 5 40 0 1 = K1 at hI1 e40
      have tk : ∀ {H : ZG} {s' : RS}, IvD G H s' → IvD G (zss H 5 47 0 (w32 (zsg H 5 47 0 + 1))) (tick true s') := fun {H s'} h => by
        obtain ⟨h1, h2, h3, h4, h5⟩ := h
        refine ⟨h1.ss _ _ _, fun j j1 j2 => by rw [z5_ne (by omega), h2 j j1 j2], h3.of (tick_2 true s') (fun j j1 j2 => by rw [z5_ne (by omega)]), ?_, tick_in true h5⟩
        rw [zsg_ss, if_pos ⟨rfl, rfl, rfl⟩, h4]; rfl
      refine zaL_i (by omega) (by omega) ?_
      rw [tb hI1 58 (by omega), d58]
      refine zbr_i (fun hn4 => ?_) (fun hn4 => ?_)
      · have h5 : (nl D eng e).1 = 5 := by omega
        rw [if_pos h5] at hwk
        obtain ⟨⟨d, k, hd3, htp⟩, v0, v1, hwi'⟩ := wi_s5 hM hg hwi h5
        refine zaL_i (by omega) (by omega) ?_
        rw [tb hI1 60 (by omega), d60 (by omega)]
        refine w6_head hM hg hd3 htp (dt hI1) (d46 hI1) (fun H mo hj => ?_)
        have hIH := hI1.of mo (fun j j1 => hj j (by omega))
        rw [zgF_e, zpF_e]
        have e1 : stp (nl D eng e) (hd D g (nl D eng e).2.2.1).toNat = (5, (nl D eng e).2.1, (nl D eng e).2.2.1, hd D g (nl D eng e).2.2.1) := by
          unfold stp; rw [h5, show (((hd D g (nl D eng e).2.2.1).toNat : Nat) : Int) = hd D g (nl D eng e).2.2.1 by omega]
        have := next (hd D g (nl D eng e).2.2.1).toNat (tick true s) _ (by omega) (by rw [e1]; exact hwi') (tk hIH) (by rw [e1]; exact hwk)
        rw [show (((hd D g (nl D eng e).2.2.1).toNat : Nat) : Int) = hd D g (nl D eng e).2.2.1 by omega] at this
        exact this
      · have h4 : (nl D eng e).1 = 4 := by omega
        rw [if_neg (by omega), if_pos h4] at hwk
        obtain ⟨hv, ⟨d, k, hd3, htp⟩, v0, v1, hwi'⟩ := wi_s4 hM hg hwi h4
        refine zaL_i (by omega) (by omega) ?_
        rw [tb hI1 59 (by omega), d59 (by omega)]
        refine zaL_i (by omega) (by omega) ?_
        rw [tb hI1 60 (by omega), d60 (by omega)]
        refine w6_gave hM hg hd3 htp hv (dt hI1) (d46 hI1) (by rw [e40]; omega) hI1.2.2.1 (fun H mo hj hRr => ?_)
        have hIH : IvD G H (rV D g (nl D eng e).2.1 (nl D eng e).2.2.1 s).2 := ⟨hI1.1.trans mo, fun j j1 j2 => by rw [hj j (by omega) (by omega), hI1.2.1 j j1 j2], hRr, by rw [hj 47 (by omega) (by omega), hI1.2.2.2.1, rV_1], by rw [rV_1]; exact hI1.2.2.2.2⟩
        rw [zgF_e, zpF_e]
        have e1 : stp (nl D eng e) (rV D g (nl D eng e).2.1 (nl D eng e).2.2.1 s).1.toNat = (4, (nl D eng e).2.1, (nl D eng e).2.2.1, (rV D g (nl D eng e).2.1 (nl D eng e).2.2.1 s).1) := by
          unfold stp; rw [h4, show (((rV D g (nl D eng e).2.1 (nl D eng e).2.2.1 s).1.toNat : Nat) : Int) = (rV D g (nl D eng e).2.1 (nl D eng e).2.2.1 s).1 by omega]
        have := next (rV D g (nl D eng e).2.1 (nl D eng e).2.2.1 s).1.toNat _ _ (by omega) (by rw [e1]; exact hwi') (tk hIH) (by rw [e1]; exact hwk)
        rw [show (((rV D g (nl D eng e).2.1 (nl D eng e).2.2.1 s).1.toNat : Nat) : Int) = (rV D g (nl D eng e).2.1 (nl D eng e).2.2.1 s).1 by omega] at this
        exact this
    · have h3 : (nl D eng e).1 = 3 := Decidable.of_not_not hn3
      rw [if_neg (by omega), if_neg (by omega), if_pos h3] at hwk
      obtain ⟨hc, h26, e3, e4, hp, hwi'⟩ := wi_s3 hM hwi h3
      have hpf : (pca D (fa e) (fv e) (nl D eng e).2.1).1 = 1 := by
        have hLO := nl_LO hM hwi.1 (by omega)
        rcases hLO with z | ⟨c, z, _⟩ | ⟨c, z, _, _, _, hp⟩ | ⟨v, q, z, hv, hf, hd⟩ | ⟨k, q, z, hf, hd⟩
        · rw [z] at h3; dsimp only at h3; omega
        · rw [z] at h3; dsimp only at h3; omega
        · rw [z]; exact hp
        · rw [z] at h3; dsimp only at h3; omega
        · rw [z] at h3; dsimp only at h3; omega
      refine zaL_i (by omega) (by omega) ?_
      rw [tb hIK 59 (by omega), d59 (by omega)]
      refine w6_bindBy hM hL hK hwi hIK hNd hc hpf (fun H hIH h39 => ?_)
      refine zaL_i (by omega) (by omega) ?_
      rw [tb hIH 59 (by omega), d59 (by omega)]
      have hbd : tpx D g (pca D (hd D g) (fn s.2) (nl D eng e).2.1).2.2 (D 27 (nl D eng e).2.1) := by
        have hcw := (hM.2.2.2.2.1.2.2.2.2.2.2 (nl D eng e).2.1 hc.1 hc.2).2.2.2.2.2.1 h26
        have hb := rmc_bind (D := D) (g := g) (c := (nl D eng e).2.1) (s := s) (by omega)
        have := mca_b (b := false) (s := s) hM hg hc ⟨hcw.1, hcw.2.1⟩ (by rw [← hp]; exact hb.1) hcw.2.2.2.2
        change tpx D g (rmc D g false (nl D eng e).2.1 s).2.2 (D 27 (nl D eng e).2.1) at this
        rw [hb.2.2] at this
        exact this
      refine w6_guarded hM hg hc h26 (dt hIH) (d46 hIH) h39 hbd (fun H2 mo hj => ?_)
      have hI2 := hIH.of mo (fun j j1 => hj j (by omega))
      have go : ∀ k : Nat, (k = 0 ∨ k = 1) → ((k : Int) = if gd D g (pca D (hd D g) (fn s.2) (nl D eng e).2.1).2.2 (nl D eng e).2.1 = 0 then 0 else 1) → zaL H2 5 61 512 (i : Int) fun (x9 : Int) => zlt1 (w32 (x9 + (k : Int))) fun (x10 : Int) => P x10 H2 := fun k hk hke => by
        have e1 : stp (nl D eng e) k = (3, (nl D eng e).2.1, (nl D eng e).2.2.1, if gd D g (pca D (hd D g) (fn s.2) (nl D eng e).2.1).2.2 (nl D eng e).2.1 = 0 then 0 else 1) := by
          unfold stp; rw [h3, hke]
        exact next k s H2 (by omega) (by rw [e1]; exact hwi') hI2 (by rw [e1]; exact hwk)
      exact zbr_i (fun h => go 1 (by omega) (by rw [if_neg h]; rfl)) (fun h => go 0 (by omega) (by rw [if_pos (Decidable.of_not_not h)]; rfl))
