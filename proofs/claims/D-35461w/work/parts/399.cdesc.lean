/-! COMPONENT: a run down a tree -/
set_option maxRecDepth 100000
theorem ck_lt {x : Int} : (2 < ck x ↔ x ≤ 2 ∧ 0 ≤ x ∨ x < 0 ∧ 2 < x + 3 ∨ (2 < x ∧ 2 < 5 - x)) := by unfold ck; split <;> omega
theorem isN_1 {D : ZD} {eng : Int} (hM : MI D) : ∀ {e : PT}, isN D eng e → 0 ≤ (nl D eng e).1 ∧ (nl D eng e).1 ≤ 5
  | [], h => by
    have hLO := lab_ok hM (isN_P hM [] h).1 eng
    show 0 ≤ (lab D eng []).1 ∧ (lab D eng []).1 ≤ 5
    rcases hLO with z | ⟨c, z, _⟩ | ⟨c, z, _⟩ | ⟨v, q, z, _⟩ | ⟨k, q, z, _⟩ <;> rw [z] <;> dsimp only <;> omega
  | st :: e, h => by
    have en : nl D eng (st :: e) = if st.1 = 3 ∧ st.2.2.2 = 0 then (0, st.2.1, 0, 0) else if st.1 = 3 ∧ D 26 st.2.1 = 3 then (1, st.2.1, 0, 0) else lab D eng (st :: e) := rfl
    have hLO := lab_ok hM (isN_P hM _ h).1 eng
    rw [en]
    split
    · dsimp only; omega
    · split
      · dsimp only; omega
      · rcases hLO with z | ⟨c, z, _⟩ | ⟨c, z, _⟩ | ⟨v, q, z, _⟩ | ⟨k, q, z, _⟩ <;> rw [z] <;> dsimp only <;> omega
theorem w4_desc {G0 G : ZG} {D : ZD} {g : Int → Int} {o : Nat} {S : List PT} {s : RS} {bd : Int → Int} {Q : Int → ZG → Prop} (ho : tob o) (hC : CDx G0 D) (hM : MI D) (hg : GV D g) (h0 : S[0]? = some []) (hN : Nrm D (o : Int) o G0 S) (hRow : ∀ (i : Nat) q, S[i]? = some q → Row D (o : Int) o G0 S i q) (hR : Ru D g true G0 G s bd) (hw : WI D (o : Int) g [] s)
    (hQ : ∀ (i : Nat) K bd', S[i]? = some (wk D (o : Int) g 489 [] s).1 → Ru D g true G0 K (wk D (o : Int) g 489 [] s).2 bd' → WI D (o : Int) g (wk D (o : Int) g 489 [] s).1 (wk D (o : Int) g 489 [] s).2 → (nl D (o : Int) (wk D (o : Int) g 489 [] s).1).1 ≤ 2 → Q i K) : vX4_descend o G Q := by
  generalize hA : wk D (o : Int) g 489 [] s = A at hQ
  have no : ∀ x : Nat, x ≠ 1 → x ∉ [1] := fun x h z => by rw [List.mem_singleton] at z; exact h z
  have ho1 : o ≠ 1 := by unfold tob at ho; omega
  obtain ⟨hS, hCt, hCv, hCp, hCw, hCk, ⟨ka, kb, hLc, hcc⟩⟩ := id hC
  unfold vX4_descend
  refine zl2_of (fun a K => ∃ (i : Nat) (e : PT) (s : RS) (bd : Int → Int) (f : Nat), a = (i : Int) ∧ S[i]? = some e ∧ WI D (o : Int) g e s ∧ 489 - e.length ≤ f ∧ Ru D g true G0 K s bd ∧ wk D (o : Int) g f e s = A) (fun a _ => (500 - a).toNat) (fun P a K hI hPP => ?_) ⟨0, [], s, bd, 489, rfl, h0, hw, by simp, hR, hA⟩
  obtain ⟨i, e, s, bd, f, rfl, hi, hwi, hf, hRK, hwk⟩ := hI
  obtain ⟨r3, r4, r5, r7, r6⟩ := hRow i e hi
  have hil := (List.getElem?_eq_some_iff.mp hi).1
  have hS5 := hN.2.2.1
  have tb : ∀ {H : ZG} {s' : RS} {bd' : Int → Int}, Ru D g true G0 H s' bd' → ∀ j i, zsg H o j i = zsg G0 o j i := fun h j i => h.1.g (no o ho1) j i
  have hlen := isN_len hM hwi.1
  obtain ⟨f, rfl⟩ : ∃ f', f = f' + 1 := ⟨f - 1, by omega⟩
  rw [wk_s] at hwk
  have hn1 := isN_1 hM hwi.1
  have next : ∀ (k : Nat) (s' : RS) (bd' : Int → Int) (H : ZG), (k : Int) < (nl D (o : Int) e).2.2.2 → (k : Int) < 10 → WI D (o : Int) g (stp (nl D (o : Int) e) k :: e) s' → Ru D g true G0 H s' bd' → wk D (o : Int) g f (stp (nl D (o : Int) e) k :: e) s' = A → zxL H o 6 (i : Int) (k : Int) fun (x6 : Int) => P x6 H := fun k s' bd' H hk hk10 hwi' hR' hw' => by
    obtain ⟨y, y1, y2, y3⟩ := r6 k hk
    have hyl := (List.getElem?_eq_some_iff.mp y3).1
    refine ⟨by omega, by omega, ?_⟩
    rw [tb hR', y1]
    exact hPP _ _ ⟨y, _, s', bd', f, rfl, y3, hwi', by rw [List.length_cons]; omega, hR', hw'⟩ (by omega)
  refine zaL_i (by omega) (by omega) ?_
  rw [tb hRK, r3]
  have h10 := nl_10 hM hwi.1
  refine zbr_i (fun h2 => ?_) (fun h2 => ?_)
  · have hle : (nl D (o : Int) e).1 ≤ 2 := by unfold ck at h2; split at h2 <;> omega
    rw [if_neg (by omega), if_neg (by omega), if_neg (by omega)] at hwk
    subst hwk
    exact hQ i K bd hi hRK hwi hle
  · have hge : 3 ≤ (nl D (o : Int) e).1 := by unfold ck at h2; split at h2 <;> omega
    have hck : ck (nl D (o : Int) e).1 = 5 - (nl D (o : Int) e).1 := by unfold ck; rw [if_neg (by omega)]
    refine zaL_i (by omega) (by omega) ?_
    rw [tb hRK, r3, hck]
    refine zbr_i (fun hn2 => ?_) (fun hn2 => ?_)
    · rw [zgF_e, hRK.2.2.2.1, zpF_e]
      have hT := Ru_tick hRK
      rw [show bb true = 1 from rfl] at hT
      refine ⟨⟨by omega, by omega⟩, zaL_i (by omega) (by omega) ?_⟩
      rw [tb hT, r3, hck]
      dsimp only [zjn]
      refine zbr_i (fun hn1' => ?_) (fun hn1' => ?_)
      · have h5 : (nl D (o : Int) e).1 = 5 := by omega
        rw [if_pos h5] at hwk
        obtain ⟨⟨d, k, hd3, htp⟩, v0, v1, hwi'⟩ := wi_s5 hM hg hwi h5
        refine zaL_i (by omega) (by omega) ?_
        rw [tb hT, r4]
        refine w1_look hM hg (hCv.fr hT.1 (by simp) (fun _ _ => rfl)) hT.2.1 hd3 htp ?_
        have e1 : stp (nl D (o : Int) e) (hd D g (nl D (o : Int) e).2.2.1).toNat = (5, (nl D (o : Int) e).2.1, (nl D (o : Int) e).2.2.1, hd D g (nl D (o : Int) e).2.2.1) := by
          unfold stp; rw [h5, show (((hd D g (nl D (o : Int) e).2.2.1).toNat : Nat) : Int) = hd D g (nl D (o : Int) e).2.2.1 by omega]
        have := next (hd D g (nl D (o : Int) e).2.2.1).toNat (tick true s) bd _ (by omega) (by omega) (by rw [e1]; exact hwi') hT (by rw [e1]; exact hwk)
        rw [show (((hd D g (nl D (o : Int) e).2.2.1).toNat : Nat) : Int) = hd D g (nl D (o : Int) e).2.2.1 by omega] at this
        exact this
      · have h4 : (nl D (o : Int) e).1 = 4 := by omega
        rw [if_neg (by omega), if_pos h4] at hwk
        obtain ⟨hv, ⟨d, k, hd3, htp⟩, v0, v1, hwi'⟩ := wi_s4 hM hg hwi h4
        refine zaL_i (by omega) (by omega) ?_
        rw [tb hT, r5]
        refine zaL_i (by omega) (by omega) ?_
        rw [tb hT, r4]
        have ert : ∀ v p, rV D g v p (tick true s) = ((rV D g v p s).1, tick true (rV D g v p s).2) := fun v p => by
          unfold rV
          rw [tick_2]
          cases fnd s.2 v p <;> rfl
        refine w1_seen hM hg hCv hCw hT hd3 htp hv (fun H hRH => ?_)
        rw [ert] at hRH ⊢
        dsimp only at hRH ⊢
        have e1 : stp (nl D (o : Int) e) (rV D g (nl D (o : Int) e).2.1 (nl D (o : Int) e).2.2.1 s).1.toNat = (4, (nl D (o : Int) e).2.1, (nl D (o : Int) e).2.2.1, (rV D g (nl D (o : Int) e).2.1 (nl D (o : Int) e).2.2.1 s).1) := by
          unfold stp; rw [h4, show (((rV D g (nl D (o : Int) e).2.1 (nl D (o : Int) e).2.2.1 s).1.toNat : Nat) : Int) = (rV D g (nl D (o : Int) e).2.1 (nl D (o : Int) e).2.2.1 s).1 by omega]
        have := next (rV D g (nl D (o : Int) e).2.1 (nl D (o : Int) e).2.2.1 s).1.toNat _ bd H (by omega) (by omega) (by rw [e1]; exact hwi') hRH (by rw [e1]; exact hwk)
        rw [show (((rV D g (nl D (o : Int) e).2.1 (nl D (o : Int) e).2.2.1 s).1.toNat : Nat) : Int) = (rV D g (nl D (o : Int) e).2.1 (nl D (o : Int) e).2.2.1 s).1 by omega] at this
        exact this
    · have h3 : (nl D (o : Int) e).1 = 3 := by omega
      rw [if_neg (by omega), if_neg (by omega), if_pos h3] at hwk
      obtain ⟨hc, h26, e3, e4, hp, hwi'⟩ := wi_s3 hM hwi h3
      refine zaL_i (by omega) (by omega) ?_
      rw [tb hRK, r5]
      have hrow : CRow G0 D (ka (nl D (o : Int) e).2.1.toNat) (kb (nl D (o : Int) e).2.1.toNat) (nl D (o : Int) e).2.1 := by
        have := hcc.2 (nl D (o : Int) e).2.1.toNat (by omega)
        rw [show (((nl D (o : Int) e).2.1.toNat : Nat) : Int) = (nl D (o : Int) e).2.1 by omega] at this
        exact this
      obtain ⟨⟨nm0, th0, hk1, hnt⟩, hkb⟩ := id hrow
      refine sJ2_get (hRK.1.lst ⟨by omega, by omega⟩ (by simp) hLc) hc.1 (refs_get hc.1 hc.2) ?_
      have hkk := hRK.1.2.2.2.2.1 (by simp) _ _ hk1 rfl
      refine ⟨zca_i hkk, w1_binds hC hM hg hc hrow hRK hp (fun H hRH => ⟨⟨by omega, by omega⟩, ?_⟩)⟩
      have hbd : D 26 (nl D (o : Int) e).2.1 ≠ -1 → tpx D g (pca D (hd D g) (fn s.2) (nl D (o : Int) e).2.1).2.2 (D 27 (nl D (o : Int) e).2.1) := fun h26 => by
        have hcw := (hM.2.2.2.2.1.2.2.2.2.2.2 (nl D (o : Int) e).2.1 hc.1 hc.2).2.2.2.2.2.1 h26
        have hb := rmc_bind (D := D) (g := g) (c := (nl D (o : Int) e).2.1) (s := s) (by omega)
        have := mca_b (b := false) (s := s) hM hg hc ⟨hcw.1, hcw.2.1⟩ (by rw [← hp]; exact hb.1) hcw.2.2.2.2
        change tpx D g (rmc D g false (nl D (o : Int) e).2.1 s).2.2 (D 27 (nl D (o : Int) e).2.1) at this
        rw [hb.2.2] at this
        exact this
      refine w1_guards hC hM hg hc hrow hRH hbd ?_
      have go : ∀ k : Nat, (k = 0 ∨ k = 1) → ((k : Int) = if gd D g (pca D (hd D g) (fn s.2) (nl D (o : Int) e).2.1).2.2 (nl D (o : Int) e).2.1 = 0 then 0 else 1) → zxL H o 6 (i : Int) (k : Int) fun (x6 : Int) => P x6 H := fun k hk hke => by
        have e1 : stp (nl D (o : Int) e) k = (3, (nl D (o : Int) e).2.1, (nl D (o : Int) e).2.2.1, if gd D g (pca D (hd D g) (fn s.2) (nl D (o : Int) e).2.1).2.2 (nl D (o : Int) e).2.1 = 0 then 0 else 1) := by
          unfold stp; rw [h3, hke]
        exact next k s _ H (by omega) (by omega) (by rw [e1]; exact hwi') hRH (by rw [e1]; exact hwk)
      dsimp only [zjn]
      exact zbr_i (fun h => go 1 (by omega) (by rw [if_neg h]; rfl)) (fun h => go 0 (by omega) (by rw [if_pos (Decidable.of_not_not h)]; rfl))
theorem w4_tryTree {G0 G : ZG} {D : ZD} {g : Int → Int} {o : Nat} {S : List PT} {s : RS} {bd : Int → Int} {Q : Int → ZG → Prop} (ho : tob o) (hC : CDx G0 D) (hM : MI D) (hg : GV D g) (h0 : S[0]? = some []) (hN : Nrm D (o : Int) o G0 S) (hRow : ∀ (i : Nat) q, S[i]? = some q → Row D (o : Int) o G0 S i q) (hR : Ru D g true G0 G s bd) (hw : WI D (o : Int) g [] s)
    (hQ : ∀ K bd' c, Ru D g true G0 K (wk D (o : Int) g 489 [] s).2 bd' → WI D (o : Int) g (wk D (o : Int) g 489 [] s).1 (wk D (o : Int) g 489 [] s).2 → (nl D (o : Int) (wk D (o : Int) g 489 [] s).1).1 ≤ 2 → c = (if (nl D (o : Int) (wk D (o : Int) g 489 [] s).1).1 = 2 then -1 else (nl D (o : Int) (wk D (o : Int) g 489 [] s).1).2.1) → Q c K) : vX1_tryTree o G Q := by
  unfold vX1_tryTree
  refine w4_desc ho hC hM hg h0 hN hRow hR hw (fun i K bd' hi hRK hwi hle => ?_)
  obtain ⟨r3, r4, r5, r7, r6⟩ := hRow i _ hi
  have hil := (List.getElem?_eq_some_iff.mp hi).1
  have hS5 := hN.2.2.1
  have hn1 := isN_1 hM hwi.1
  have tb : ∀ j i, zsg K o j i = zsg G0 o j i := fun j i => hRK.1.g (by rw [List.mem_singleton]; unfold tob at ho; omega) j i
  refine zaL_i (by omega) (by omega) ?_
  rw [tb, r3]
  dsimp only [zjn]
  have hck : ck (nl D (o : Int) (wk D (o : Int) g 489 [] s).1).1 = (nl D (o : Int) (wk D (o : Int) g 489 [] s).1).1 + 3 := by unfold ck; rw [if_pos hle]
  rw [hck]
  refine zbr_i (fun h => ?_) (fun h => ?_)
  · refine zaL_i (by omega) (by omega) ?_
    rw [tb, r5]
    exact hQ K bd' _ hRK hwi hle (by rw [if_neg (by omega)])
  · exact hQ K bd' _ hRK hwi hle (by rw [if_pos (by omega)])
