/-! COMPONENT: what is behind a node is made -/
set_option maxRecDepth 100000
/-- the step to the branch j -/
def stp (l : Int × Int × Int × Int) (j : Nat) : Int × Int × Int × Int := (l.1, l.2.1, l.2.2.1, (j : Int))
/-- a node with the first k of its branches -/
def Cor (D : ZD) (eng : Int) (o : Nat) (L : List PT) (e : PT) (k : Nat) (t : Int) (K : ZG) : Prop := Lrg D eng o K ∨ ∃ T, Nrm D eng o K ((L ++ [e]) ++ T) ∧ zsg K o 3 L.length = ck (nl D eng e).1 ∧ zsg K o 4 L.length = (nl D eng e).2.2.1 ∧ zsg K o 5 L.length = (nl D eng e).2.1 ∧ zsg K o 7 L.length = t ∧
  (∀ j : Nat, j < k → ∃ y : Nat, zsg K o 6 (10 * L.length + j) = (y : Int) ∧ L.length < y ∧ ((L ++ [e]) ++ T)[y]? = some (stp (nl D eng e) j :: e)) ∧ T.Pairwise plt ∧ (∀ q ∈ T, ∃ j : Nat, j < k ∧ (stp (nl D eng e) j :: e) <:+ q) ∧
  ∀ (i : Nat) q, L.length + 1 ≤ i → ((L ++ [e]) ++ T)[i]? = some q → Row D eng o K ((L ++ [e]) ++ T) i q
/-- the rows of one node are written, and nothing more -/
def Onw (o : Nat) (n : Int) (K H : ZG) : Prop := (∀ j i, (j = 3 ∨ j = 4 ∨ j = 5) → zsg H o j i = zsg K o j i) ∧ (∀ i, i ≠ n → zsg H o 7 i = zsg K o 7 i) ∧ (∀ i, (i < 10 * n ∨ 10 * n + 10 ≤ i) → zsg H o 6 i = zsg K o 6 i) ∧ zsg H o 9 0 = zsg K o 9 0 ∧ zsg H o 10 0 = zsg K o 10 0
theorem Row.onw {D : ZD} {eng : Int} {o : Nat} {n : Int} {G K : ZG} {L : List PT} {i : Nat} {q : PT} (h : Row D eng o G L i q) (w : Onw o n G K) (hi : (i : Int) ≠ n) (h10 : (nl D eng q).2.2.2 ≤ 10) : Row D eng o K L i q := by
  obtain ⟨h1, h2, h3, h4, h5⟩ := h
  refine ⟨by rw [w.1 3 i (by omega)]; exact h1, by rw [w.1 4 i (by omega)]; exact h2, by rw [w.1 5 i (by omega)]; exact h3, by rw [w.2.1 i hi]; exact h4, fun k hk => ?_⟩
  obtain ⟨y, y1, y2, y3⟩ := h5 k hk
  exact ⟨y, by rw [w.2.2.1 _ (by omega)]; exact y1, y2, y3⟩
theorem nl_10 {D : ZD} {eng : Int} (hM : MI D) {e : PT} (h : isN D eng e) : 0 ≤ (nl D eng e).2.2.2 ∧ (nl D eng e).2.2.2 ≤ 10 := by
  have key : 0 ≤ (lab D eng e).2.2.2 ∧ (lab D eng e).2.2.2 ≤ 10 := by
    have hP := (isN_P hM e h).1
    have hl := lab_ok hM hP eng
    generalize lab D eng e = l at hl
    rcases hl with rfl | ⟨c, rfl, _⟩ | ⟨c, rfl, _⟩ | ⟨v, q, rfl, hv, _⟩ | ⟨k, q, rfl, _, d, hd, ht⟩
    · dsimp only; omega
    · dsimp only; omega
    · dsimp only; omega
    · have := hM.2.2.2.1 v hv.1 (by omega)
      dsimp only; omega
    · have := tq_f hM hP (by omega) ht
      exact ways_le hM this.2.1 this.2.2.1
  match e, h with
  | [], _ => exact key
  | st :: e, _ =>
    have en : nl D eng (st :: e) = if st.1 = 3 ∧ st.2.2.2 = 0 then (0, st.2.1, 0, 0) else if st.1 = 3 ∧ D 26 st.2.1 = 3 then (1, st.2.1, 0, 0) else lab D eng (st :: e) := rfl
    rw [en]
    split
    · exact ⟨by show (0 : Int) ≤ 0; omega, by show (0 : Int) ≤ 10; omega⟩
    · split
      · exact ⟨by show (0 : Int) ≤ 0; omega, by show (0 : Int) ≤ 10; omega⟩
      · exact key
theorem sfx_ne {st st' : Int × Int × Int × Int} {e q : PT} (h : (st :: e) <:+ q) (h' : (st' :: e) <:+ q) : st = st' := by
  obtain ⟨t, ht⟩ := h
  obtain ⟨t', ht'⟩ := h'
  have := ht.trans ht'.symm
  have hl := congrArg List.length this
  rw [List.length_append, List.length_append, List.length_cons, List.length_cons] at hl
  have := (List.append_inj this (by omega)).2
  injection this
theorem sfx_up {st : Int × Int × Int × Int} {e q : PT} (h : (st :: e) <:+ q) : e <:+ q := (List.suffix_cons st e).trans h
theorem stp_isN {D : ZD} {eng : Int} {e : PT} (hN : isN D eng e) {k : Nat} (hk : (k : Int) < (nl D eng e).2.2.2) : isN D eng (stp (nl D eng e) k :: e) := ⟨hN, rfl, rfl, rfl, by show (0 : Int) ≤ (k : Int); omega, hk⟩
theorem Cor.child {D : ZD} {eng : Int} {o : Nat} {L : List PT} {e : PT} {k : Nat} {t : Int} {K K' : ZG} (h : Cor D eng o L e k t K) (hM : MI D) (hL : L.length ≤ 499) (hk : k < 10) (hq : ∀ q ∈ L, ¬ e <:+ q) (h9 : zsg K' o 9 0 = zsg K o 9 0) (h10 : zsg K' o 10 0 = zsg K o 10 0) (hr : ∀ j i, (3 ≤ j ∧ j ≤ 7) → zsg K' o j i = zsg K o j i) :
    ∃ L1, Bss D eng o K' L1 ∧ (∀ q ∈ L1, ¬ (stp (nl D eng e) k :: e) <:+ q) ∧ L1.length ≥ L.length + 1 ∧ ∀ r K'' H t', BR D eng o K' L1 (stp (nl D eng e) k :: e) r K'' → Onw o L.length K'' H → zsg H o 7 L.length = t' → (∀ j : Nat, j < 10 → zsg H o 6 (10 * L.length + j) = if j = k then r else zsg K'' o 6 (10 * L.length + j)) → Cor D eng o L e (k + 1) t' H := by
  have hne : ∀ q ∈ L ++ [e], ¬ (stp (nl D eng e) k :: e) <:+ q := fun q hq2 z => by
    rcases List.mem_append.mp hq2 with hq2 | hq2
    · exact hq q hq2 (sfx_up z)
    · rw [List.mem_singleton] at hq2
      subst hq2
      have := z.length_le
      rw [List.length_cons] at this
      omega
  rcases h with h | ⟨T, hN, r3, r4, r5, r7, r6, hP, hT, hR⟩
  · refine ⟨L ++ [e], Or.inl (h.of h9 h10), hne, by simp, fun r K'' H t' hB hO _ _ => ?_⟩
    obtain ⟨w, b15, b16, hB⟩ := hB
    rcases hB with hB | ⟨hz, _⟩
    · exact Or.inl (hB.of hO.2.2.2.1 hO.2.2.2.2)
    · rw [h10, h.1] at hz; omega
  · have hlen1 : ((L ++ [e]) ++ T).length = L.length + 1 + T.length := by rw [List.length_append, List.length_append]; rfl
    refine ⟨(L ++ [e]) ++ T, Or.inr (hN.of h9 h10), fun q hq2 z => ?_, by omega, fun r K'' H t' hB hO h7 h6 => ?_⟩
    · rcases List.mem_append.mp hq2 with hq2 | hq2
      · exact hne q hq2 z
      · obtain ⟨j, hj, hs⟩ := hT q hq2
        have := sfx_ne hs z
        unfold stp at this
        injection this with _ a
        injection a with _ a
        injection a with _ a
        omega
    · obtain ⟨w, b15, b16, hB⟩ := hB
      have i6 : ∀ (j : Nat), j < 10 → zsg K' o 6 (10 * L.length + j) = zsg K o 6 (10 * L.length + j) := fun j _ => hr 6 _ (by omega)
      have w6 : ∀ (j : Nat), j < 10 → zsg K'' o 6 (10 * L.length + j) = zsg K o 6 (10 * L.length + j) := fun j hj => by
        rw [w.2.2.2.2.1 _ (by omega)]; exact i6 j hj
      rcases hB with hB | ⟨hz, rfl, S, hS, hS0, hSP, hSS, hSR⟩
      · exact Or.inl (hB.of hO.2.2.2.1 hO.2.2.2.2)
      · rw [List.append_assoc (L ++ [e]) T S] at hS hSR
        have hS2 := hS.of hO.2.2.2.1 hO.2.2.2.2
        have old : ∀ (n : Nat) x, ((L ++ [e]) ++ T)[n]? = some x → ((L ++ [e]) ++ (T ++ S))[n]? = some x := fun n x hx => by
          rw [← List.append_assoc, List.getElem?_append_left (List.getElem?_eq_some_iff.mp hx).1]; exact hx
        refine Or.inr ⟨T ++ S, hS2, ?_, ?_, ?_, h7, fun j hj => ?_, ?_, fun q hq2 => ?_, fun i q hi hiq => ?_⟩
        · rw [hO.1 3 _ (by omega), w.2.2.2.1 3 _ (by omega) (by omega), hr 3 _ (by omega)]; exact r3
        · rw [hO.1 4 _ (by omega), w.2.2.2.1 4 _ (by omega) (by omega), hr 4 _ (by omega)]; exact r4
        · rw [hO.1 5 _ (by omega), w.2.2.2.1 5 _ (by omega) (by omega), hr 5 _ (by omega)]; exact r5
        · rw [h6 j (by omega)]
          by_cases hjk : j = k
          · subst hjk
            rw [if_pos rfl]
            refine ⟨_, rfl, by omega, ?_⟩
            rw [← List.append_assoc, List.getElem?_append_right (Nat.le_refl _), Nat.sub_self]; exact hS0
          · rw [if_neg hjk, w6 j (by omega)]
            obtain ⟨y, y1, y2, y3⟩ := r6 j (by omega)
            exact ⟨y, y1, y2, old y _ y3⟩
        · rw [List.pairwise_append]
          refine ⟨hP, hSP, fun a ha b hb => ?_⟩
          obtain ⟨j, hj, ⟨ta, hta⟩⟩ := hT a ha
          obtain ⟨tb, htb⟩ := hSS b hb
          refine Or.inr ⟨_, _, e, ta, tb, hta.symm, htb.symm, ?_⟩
          show ((j : Nat) : Int) < ((k : Nat) : Int)
          omega
        · rcases List.mem_append.mp hq2 with hq2 | hq2
          · obtain ⟨j, hj, hs⟩ := hT q hq2
            exact ⟨j, by omega, hs⟩
          · exact ⟨k, by omega, hSS q hq2⟩
        · have hiN : isN D eng q := hS.2.2.2.2 q (List.mem_iff_getElem?.mpr ⟨_, hiq⟩)
          by_cases hi2 : i < ((L ++ [e]) ++ T).length
          · have hiq2 := hiq
            rw [← List.append_assoc, List.getElem?_append_left hi2] at hiq2
            have hrow := hR i q hi hiq2
            have hrow2 : Row D eng o K' ((L ++ [e]) ++ T) i q := by
              obtain ⟨a1, a2, a3, a4, a5⟩ := hrow
              refine ⟨by rw [hr 3 _ (by omega)]; exact a1, by rw [hr 4 _ (by omega)]; exact a2, by rw [hr 5 _ (by omega)]; exact a3, by rw [hr 7 _ (by omega)]; exact a4, fun k hk => ?_⟩
              obtain ⟨y, y1, y2, y3⟩ := a5 k hk
              exact ⟨y, by rw [hr 6 _ (by omega)]; exact y1, y2, y3⟩
            exact (hrow2.wf w (by omega) (nl_10 hM hiN).2 old).onw hO (by omega) (nl_10 hM hiN).2
          · exact (hSR i q (by omega) hiq).onw hO (by omega) (nl_10 hM hiN).2
/-- a node with all of its branches -/
theorem Cor.fin {D : ZD} {eng : Int} {o : Nat} {G : ZG} {L : List PT} {e : PT} {k : Nat} {K : ZG} (h : Cor D eng o L e k ((nl D eng e).2.2.2) K) (hM : MI D) (hN0 : isN D eng e) (hk : (nl D eng e).2.2.2 = (k : Int)) (hz : zsg G o 10 0 = 0) (w : Wf o (L.length : Int) (zsg G o 15 0) G K) (h15 : zsg K o 15 0 = zsg G o 15 0) (h16 : zsg K o 16 0 = zsg G o 16 0) : BR D eng o G L e L.length K := by
  refine ⟨w, h15, h16, ?_⟩
  rcases h with h | ⟨T, hN, r3, r4, r5, r7, r6, hP, hT, hR⟩
  · exact Or.inl h
  · refine Or.inr ⟨hz, rfl, [e] ++ T, by rw [← List.append_assoc]; exact hN, rfl, ?_, fun q hq => ?_, fun i q hi hiq => ?_⟩
    · rw [List.singleton_append, List.pairwise_cons]
      refine ⟨fun q hq => ?_, hP⟩
      obtain ⟨j, hj, t, ht⟩ := hT q hq
      exact Or.inl ⟨t ++ [stp (nl D eng e) j], by simp, by rw [← ht, List.append_assoc]; rfl⟩
    · rw [List.singleton_append] at hq
      rcases List.mem_cons.mp hq with rfl | hq
      · exact List.suffix_refl q
      · obtain ⟨j, hj, hs⟩ := hT q hq
        exact sfx_up hs
    · rw [← List.append_assoc] at hiq ⊢
      by_cases hi2 : i = L.length
      · subst hi2
        have he : ((L ++ [e]) ++ T)[L.length]? = some e := by
          rw [List.append_assoc, List.getElem?_append_right (Nat.le_refl _), Nat.sub_self]; rfl
        rw [he] at hiq
        have := Option.some.inj hiq
        subst this
        refine ⟨r3, r4, r5, r7, fun j hj => ?_⟩
        exact r6 j (by omega)
      · exact hR i q (by omega) hiq
