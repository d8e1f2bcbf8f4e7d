/-! COMPONENT: an example -/
set_option maxRecDepth 100000
theorem w4_way {D : ZD} {eng : Int} {o : Nat} {G : ZG} {S : List PT} {i y : Nat} {q : PT} {Q : Int → Prop} (hM : MI D) (hN : Nrm D eng o G S) (hRow : Row D eng o G S i q) (hi : S[i]? = some q) (hY : ∀ k : Nat, (k : Int) < (nl D eng q).2.2.2 → S[y]? = some (stp (nl D eng q) k :: q) → Q k) (hNo : (∀ k : Nat, (k : Int) < (nl D eng q).2.2.2 → S[y]? ≠ some (stp (nl D eng q) k :: q)) → Q (-1)) : vX4_wayTo o i y G Q := by
  obtain ⟨r3, r4, r5, r7, r6⟩ := hRow
  have hl5 := hN.2.2.1
  have hil := (List.getElem?_eq_some_iff.mp hi).1
  have h10 := nl_10 hM (hN.2.2.2.2 q (List.mem_iff_getElem?.mpr ⟨_, hi⟩))
  unfold vX4_wayTo
  refine zl1_of (fun k => ∃ n : Nat, k = (n : Int) ∧ (n : Int) ≤ (nl D eng q).2.2.2 ∧ ∀ j : Nat, j < n → S[y]? ≠ some (stp (nl D eng q) j :: q)) (fun k => ((nl D eng q).2.2.2 - k).toNat) (fun P k hI hPP => ?_) ⟨0, rfl, h10.1, fun j hj => by omega⟩
  obtain ⟨n, rfl, hn, hno⟩ := hI
  refine zaL_i (by omega) (by omega) ?_
  rw [r7]
  refine zbr_i (fun hk => hNo (fun k hk2 => hno k (by omega))) (fun hk => ?_)
  obtain ⟨w, w1, w2, w3⟩ := r6 n (by omega)
  refine ⟨⟨by omega, by omega⟩, by omega, by omega, ?_⟩
  rw [w1]
  refine zbr_i (fun hne => ?_) (fun he => ?_)
  · rw [zlt1_e, w32_eq (by omega) (by omega)]
    refine hPP _ ⟨n + 1, by push_cast; rfl, by push_cast; omega, fun j hj z => ?_⟩ (by omega)
    by_cases hjn : j = n
    · subst hjn
      have := nd_inj S hN.2.2.2.1 _ _ _ w3 z
      omega
    · exact hno j (by omega) z
  · have : w = y := by have := Decidable.of_not_not he; omega
    subst this
    exact hY n (by omega) w3
theorem w4_climb {D : ZD} {o : Nat} {G : ZG} {S : List PT} {p : Int} {Q : Int → Prop} {a : Nat} {e : PT} (hM : MI D) (h0 : S[0]? = some []) (hN : Nrm D 2 o G S) (hRow : ∀ (i : Nat) q, S[i]? = some q → Row D 2 o G S i q) (ha : S[a]? = some e) (hQ : Q (if fa e p = -1 then -4 else fa e p)) :
    zl2 (fun (P24 : Int → Int → Prop) (a24_3 : Int) (a24_4 : Int) => zbr (a24_4 ≤ 0) (Q a24_3) (zlt1 (w32 (a24_4 - 1)) fun (x2 : Int) => vX4_wayTo o x2 a24_4 G fun (x3 : Int) => zl2 (fun (P45 : Int → Int → Prop) (a45_5 : Int) (a45_6 : Int) => zbr (a45_6 ≠ (-1)) (zaL G o 3 500 a45_5 fun (x4 : Int) => zjn (fun (z94_0 : Int) => P24 z94_0 a45_5) fun J94 => zjn (fun (_ : Unit) => J94 a24_3) fun J93 => zbr (x4 ≠ 0) (J93 ()) (zaL G o 4 500 a45_5 fun (x5 : Int) => zbr (x5 ≠ p) (J93 ()) (J94 a45_6))) (zlt1 (w32 (a45_5 + (-1))) fun (x6 : Int) => vX4_wayTo o x6 a24_4 G fun (x7 : Int) => P45 x6 x7)) x2 x3)) (-4) a := by
  have hl5 := hN.2.2.1
  have lt : ∀ {i : Nat} {q : PT}, S[i]? = some q → i < S.length := fun h => (List.getElem?_eq_some_iff.mp h).1
  have isn : ∀ {i : Nat} {q : PT}, S[i]? = some q → isN D 2 q := fun h => hN.2.2.2.2 _ (List.mem_iff_getElem?.mpr ⟨_, h⟩)
  have heN := isn ha
  -- the parent stands before
  have par : ∀ (y : Nat) (st : Int × Int × Int × Int) (q : PT), S[y]? = some (st :: q) → ∃ i : Nat, i < y ∧ S[i]? = some q ∧ st = stp (nl D 2 q) st.2.2.2.toNat ∧ (st.2.2.2.toNat : Int) < (nl D 2 q).2.2.2 ∧ 0 ≤ st.2.2.2 := fun y st q hy => by
    obtain ⟨hqN, h1, h2, h3, h4, h5⟩ := isn hy
    have hE := enu_c h0 hN hRow
    obtain ⟨i, hi⟩ := List.mem_iff_getElem?.mp ((hE.2.2 q).mpr hqN)
    have hst : st = stp (nl D 2 q) st.2.2.2.toNat := by
      unfold stp
      rw [h1, h2, h3, show ((st.2.2.2.toNat : Nat) : Int) = st.2.2.2 by omega]
    obtain ⟨w, w1, w2, w3⟩ := (hRow i q hi).2.2.2.2 st.2.2.2.toNat (by omega)
    have w3 : S[w]? = some (stp (nl D 2 q) st.2.2.2.toNat :: q) := w3
    rw [← hst] at w3
    have := nd_inj S hN.2.2.2.1 _ _ _ w3 hy
    exact ⟨i, by omega, hi, hst, by omega, h4⟩
  refine zl2_of (fun r y => ∃ (n : Nat) (t ey : PT), y = (n : Int) ∧ S[n]? = some ey ∧ e = t ++ ey ∧ ((r = -4 ∧ ∀ st ∈ t, ¬ (st.1 = 5 ∧ st.2.2.1 = p)) ∨ (∃ st ∈ t, (st.1 = 5 ∧ st.2.2.1 = p) ∧ r = st.2.2.2))) (fun _ y => y.toNat) (fun P r y hI hPP => ?_) ⟨a, [], e, rfl, ha, rfl, Or.inl ⟨rfl, fun st hs => by cases hs⟩⟩
  obtain ⟨n, t, ey, rfl, hy, het, hr⟩ := hI
  have hnl := lt hy
  refine zbr_i (fun hz => ?_) (fun hz => ?_)
  · have : n = 0 := by omega
    subst this
    rw [h0] at hy
    have := Option.some.inj hy
    subst this
    rw [List.append_nil] at het
    subst het
    rcases hr with ⟨rfl, hn⟩ | ⟨st, hs, ⟨h5, hp⟩, rfl⟩
    · rw [fa_none hn, if_pos rfl] at hQ; exact hQ
    · have hv := fa_val hM heN st hs h5
      have h00 := isN_0 heN st hs
      rw [hp] at hv
      rw [hv, if_neg (by omega)] at hQ; exact hQ
  · obtain ⟨st, q, rfl⟩ : ∃ st q, ey = st :: q := by
      match ey, hy with
      | [], hy =>
        have := nd_inj S hN.2.2.2.1 _ _ _ hy h0
        omega
      | st :: q, _ => exact ⟨st, q, rfl⟩
    obtain ⟨i, i1, i2, i3, i4, i5⟩ := par n st q hy
    have only : ∀ (b : Nat) (x : PT) (k : Nat), S[b]? = some x → S[n]? = some (stp (nl D 2 x) k :: x) → b = i ∧ (k : Int) = st.2.2.2 := fun b x k hb hk => by
      rw [hy] at hk
      have := Option.some.inj hk
      injection this with g1 g2
      subst g2
      refine ⟨nd_inj S hN.2.2.2.1 _ _ _ hb i2, ?_⟩
      rw [g1]; rfl
    have way : ∀ (b : Nat) (R : Int → Prop), i ≤ b → b < n → (b = i → R st.2.2.2) → (b ≠ i → R (-1)) → vX4_wayTo o b n G R := fun b R hib hbn h1 h2 => by
      obtain ⟨x, hx⟩ : ∃ x, S[b]? = some x := ⟨_, List.getElem?_eq_getElem (by omega)⟩
      refine w4_way hM hN (hRow b x hx) hx (fun k hk hkk => ?_) (fun hno => h2 (fun hbi => ?_))
      · obtain ⟨g1, g2⟩ := only b x k hx hkk
        rw [g2]; exact h1 g1
      · subst hbi
        rw [i2] at hx
        have := Option.some.inj hx
        subst this
        exact hno _ i4 (by rw [← i3]; exact hy)
    rw [zlt1_e, w32_eq (by omega) (by omega)]
    have e1 : (n : Int) - 1 = ((n - 1 : Nat) : Int) := by omega
    rw [e1]
    have inner : ∀ (b : Nat) (w : Int), i ≤ b → b < n → ((b = i ∧ w = st.2.2.2) ∨ (b ≠ i ∧ w = -1)) → zl2 (fun (P45 : Int → Int → Prop) (a45_5 : Int) (a45_6 : Int) => zbr (a45_6 ≠ (-1)) (zaL G o 3 500 a45_5 fun (x4 : Int) => zjn (fun (z94_0 : Int) => P z94_0 a45_5) fun J94 => zjn (fun (_ : Unit) => J94 r) fun J93 => zbr (x4 ≠ 0) (J93 ()) (zaL G o 4 500 a45_5 fun (x5 : Int) => zbr (x5 ≠ p) (J93 ()) (J94 a45_6))) (zlt1 (w32 (a45_5 + (-1))) fun (x6 : Int) => vX4_wayTo o x6 (n : Int) G fun (x7 : Int) => P45 x6 x7)) (b : Int) w := fun b w hib hbn hw => by
      refine zl2_of (fun b w => ∃ m : Nat, b = (m : Int) ∧ i ≤ m ∧ m < n ∧ ((m = i ∧ w = st.2.2.2) ∨ (m ≠ i ∧ w = -1))) (fun b _ => b.toNat) (fun P2 b w hI hPP2 => ?_) ⟨b, rfl, hib, hbn, hw⟩
      obtain ⟨m, rfl, m1, m2, hw⟩ := hI
      refine zbr_i (fun hne => ?_) (fun he => ?_)
      · obtain ⟨rfl, rfl⟩ := hw.resolve_right (fun z => hne z.2)
        have hrow := hRow m q i2
        have hq1 := isN_1 hM (isn i2)
        refine zaL_i (by omega) (by omega) ?_
        rw [hrow.1]
        dsimp only [zjn]
        have keep : ¬ (st.1 = 5 ∧ st.2.2.1 = p) → P r (m : Int) := fun hn => by
          refine hPP _ _ ⟨m, t ++ [st], q, rfl, i2, by rw [het, List.append_assoc]; rfl, ?_⟩ (by omega)
          rcases hr with ⟨rfl, hno⟩ | ⟨st', hs, hh, rfl⟩
          · refine Or.inl ⟨rfl, fun s hs => ?_⟩
            rcases List.mem_append.mp hs with hs | hs
            · exact hno s hs
            · rw [List.mem_singleton] at hs; rw [hs]; exact hn
          · exact Or.inr ⟨st', List.mem_append_left _ hs, hh, rfl⟩
        have s1 : st.1 = (nl D 2 q).1 := by rw [i3]; rfl
        have s2 : st.2.2.1 = (nl D 2 q).2.2.1 := by rw [i3]; rfl
        refine zbr_i (fun hc => keep (fun z => hc ((ck_0 hq1).mpr (by rw [← s1]; exact z.1)))) (fun hc => ?_)
        have hc := (ck_0 hq1).mp (Decidable.of_not_not hc)
        refine zaL_i (by omega) (by omega) ?_
        rw [hrow.2.1]
        refine zbr_i (fun hp => keep (fun z => hp (by rw [← s2]; exact z.2))) (fun hp => ?_)
        have hp := Decidable.of_not_not hp
        exact hPP _ _ ⟨m, t ++ [st], q, rfl, i2, by rw [het, List.append_assoc]; rfl, Or.inr ⟨st, List.mem_append_right _ (List.mem_singleton.mpr rfl), ⟨by rw [s1, hc], by rw [s2, hp]⟩, rfl⟩⟩ (by omega)
      · have he := Decidable.of_not_not he
        have hmi : m ≠ i := fun z => by
          rcases hw with ⟨_, g⟩ | ⟨g, _⟩
          · omega
          · exact g z
        rw [zlt1_e, w32_eq (by omega) (by omega), show (m : Int) + -1 = ((m - 1 : Nat) : Int) by omega]
        exact way (m - 1) _ (by omega) (by omega) (fun z => hPP2 _ _ ⟨m - 1, rfl, by omega, by omega, Or.inl ⟨z, rfl⟩⟩ (by omega)) (fun z => hPP2 _ _ ⟨m - 1, rfl, by omega, by omega, Or.inr ⟨z, rfl⟩⟩ (by omega))
    exact way (n - 1) _ (by omega) (by omega) (fun z => inner (n - 1) _ (by omega) (by omega) (Or.inl ⟨z, rfl⟩)) (fun z => inner (n - 1) _ (by omega) (by omega) (Or.inr ⟨z, rfl⟩))
