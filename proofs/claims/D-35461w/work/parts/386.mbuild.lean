/-! REFERENCE: the tree is built -/
set_option maxRecDepth 100000
/-- the reference's tree of an engine -/
def TM (D : ZD) (eng : Int) (K : ZG) : Prop := (zsg K 5 55 0 = 1 ∧ Big D eng ∧ 0 ≤ zsg K 5 56 0 ∧ zsg K 5 56 0 ≤ 500) ∨ (zsg K 5 55 0 = 0 ∧ ∃ L : List PT, TT D eng K L (L.length : Int))
theorem TM.of {D : ZD} {eng : Int} {K K' : ZG} (h : TM D eng K) (hj : ∀ j, 55 ≤ j → j ≤ 62 → zsg K' 5 j = zsg K 5 j) : TM D eng K' := by
  unfold TM
  rw [hj 55 (by omega) (by omega), hj 56 (by omega) (by omega)]
  rcases h with h | ⟨h, L, hT⟩
  · exact Or.inl h
  · exact Or.inr ⟨h, L, hT.of (fun j j1 j2 => hj j (by omega) j2)⟩
/-- what building changes -/
def FB (K K' : ZG) : Prop := Mo K K' ∧ ∀ j, j ≠ 30 → ¬ (32 ≤ j ∧ j ≤ 45) → ¬ (54 ≤ j ∧ j ≤ 68) → zsg K' 5 j = zsg K 5 j
theorem FB.refl (K : ZG) : FB K K := ⟨Mo.refl K, fun _ _ _ _ => rfl⟩
theorem FB.trans {K H J : ZG} (h : FB K H) (g : FB H J) : FB K J := ⟨h.1.trans g.1, fun j j1 j2 j3 => by rw [g.2 j j1 j2 j3, h.2 j j1 j2 j3]⟩
theorem FT.b {K H : ZG} (h : FT K H) : FB K H := ⟨h.1, fun j j1 j2 j3 => h.2 j j1 j2 (by omega)⟩
theorem FB.dt {K K' : ZG} {D : ZD} (h : FB K K') (hK : ∀ j, 1 ≤ j → j ≤ 29 → zsg K 5 j = D j) : ∀ j, 1 ≤ j → j ≤ 29 → zsg K' 5 j = D j := fun j j1 j2 => by rw [h.2 j (by omega) (by omega) (by omega), hK j j1 j2]
theorem w6_build {D : ZD} {eng : Int} {K0 : ZG} {Q : ZG → Prop} (hM : MI D) (hL : LIN D) (hK : ∀ j, 1 ≤ j → j ≤ 29 → zsg K0 5 j = D j) (h47 : inR (zsg K0 5 47 0)) (hB : zsg K0 5 54 0 = eng → TM D eng K0)
    (hQ : ∀ K', FB K0 K' → zsg K' 5 54 0 = eng → TM D eng K' → Q K') : vX6_build eng K0 Q := by
  unfold vX6_build
  rw [zgF_e]
  refine zbr_i (fun hb => ?_) (fun hb => hQ K0 (FB.refl K0) (Decidable.of_not_not hb) (hB (Decidable.of_not_not hb)))
  rw [zpF_e, zpF_e, zpF_e, zpF_e]
  have f0 : FB K0 (zss (zss (zss (zss K0 5 54 0 eng) 5 40 0 0) 5 55 0 0) 5 56 0 0) := ⟨((((Mo.refl K0).ss _ _ _).ss _ _ _).ss _ _ _).ss _ _ _, fun j j1 j2 j3 => by rw [z5_ne (by omega), z5_ne (by omega), z5_ne (by omega), z5_ne (by omega)]⟩
  have e54 : zsg (zss (zss (zss (zss K0 5 54 0 eng) 5 40 0 0) 5 55 0 0) 5 56 0 0) 5 54 0 = eng := by rw [z5_ne (by omega), z5_ne (by omega), z5_ne (by omega), zsg_ss, if_pos ⟨rfl, rfl, rfl⟩]
  have e40 : zsg (zss (zss (zss (zss K0 5 54 0 eng) 5 40 0 0) 5 55 0 0) 5 56 0 0) 5 40 0 = 0 := by rw [z5_ne (by omega), z5_ne (by omega), zsg_ss, if_pos ⟨rfl, rfl, rfl⟩]
  have e55 : zsg (zss (zss (zss (zss K0 5 54 0 eng) 5 40 0 0) 5 55 0 0) 5 56 0 0) 5 55 0 = 0 := by rw [z5_ne (by omega), zsg_ss, if_pos ⟨rfl, rfl, rfl⟩]
  have e56 : zsg (zss (zss (zss (zss K0 5 54 0 eng) 5 40 0 0) 5 55 0 0) 5 56 0 0) 5 56 0 = 0 := by rw [zsg_ss, if_pos ⟨rfl, rfl, rfl⟩]
  generalize zss (zss (zss (zss K0 5 54 0 eng) 5 40 0 0) 5 55 0 0) 5 56 0 0 = B at f0 e54 e40 e55 e56
  refine w6_node e56 (by omega) (by omega) (fun C moC hC c56 c57 c58 c59 c60 c61 c62 => ?_)
  have fC : FB K0 C := f0.trans ⟨moC, fun j j1 j2 j3 => hC j (by omega)⟩
  have T0 : TT D eng C [[]] ((0 : Nat) : Int) := by
    have one : ∀ (i : Nat) (e : PT), ([[]] : List PT)[i]? = some e → i = 0 ∧ e = [] := fun i e hi => by
      have := (List.getElem?_eq_some_iff.mp hi).1
      have h0 : i = 0 := by simp at this; omega
      subst h0
      simp at hi
      exact ⟨rfl, by first | exact hi | exact hi.symm⟩
    refine ⟨by rw [c56]; rfl, by simp, by simp, rfl, fun i e hi => ?_, fun i e hi => ?_, fun j st e hj => ?_⟩
    · obtain ⟨rfl, rfl⟩ := one i e hi
      exact ⟨trivial, rfl⟩
    · obtain ⟨rfl, rfl⟩ := one i e hi
      refine Or.inr ⟨by omega, ?_, rfl, ?_, ?_, ?_⟩
      · rw [show ((0 : Nat) : Int) = 0 from rfl, c58, if_pos rfl]
      · rw [show ((0 : Nat) : Int) = 0 from rfl, c60, if_pos rfl]
      · rw [show ((0 : Nat) : Int) = 0 from rfl, c61, if_pos rfl]; omega
      · rw [show ((0 : Nat) : Int) = 0 from rfl, c62, if_pos rfl]
    · have := (one j _ hj).2
      cases this
  refine zl2_of (fun k K => ∃ (L : List PT) (n : Nat), k = (n : Int) ∧ FB K0 K ∧ zsg K 5 54 0 = eng ∧ ((zsg K 5 55 0 = 1 ∧ Big D eng ∧ 0 ≤ zsg K 5 56 0 ∧ zsg K 5 56 0 ≤ 500) ∨ (zsg K 5 55 0 = 0 ∧ zsg K 5 40 0 = 0 ∧ n ≤ L.length ∧ TT D eng K L (n : Int)))) (fun k K => (1000 - k - 500 * zsg K 5 55 0).toNat) (fun P k K hI hPP => ?_) ⟨[[]], 0, rfl, fC, by rw [hC 54 (by omega), e54], Or.inr ⟨by rw [hC 55 (by omega), e55], by rw [hC 40 (by omega), e40], by simp, T0⟩⟩
  obtain ⟨L, n, rfl, fK, k54, hst⟩ := hI
  rw [zgF_e]
  dsimp only [zjn]
  rw [zgF_e]
  rcases hst with ⟨k55, hBig⟩ | ⟨k55, k40, hn, hT⟩
  · rw [k55]
    have fin := hQ K fK k54 (Or.inl ⟨k55, hBig⟩)
    exact zbr_i (fun _ => fin) (fun _ => zbr_i (fun _ => fin) (fun z => absurd (by omega) z))
  · obtain ⟨t1, t2, t3, t4, t5, t6, t7⟩ := id hT
    rw [t1, k55]
    refine zbr_i (fun hk => ?_) (fun hk => ?_)
    · have : n = L.length := by omega
      subst this
      exact hQ K fK k54 (Or.inr ⟨k55, L, hT⟩)
    · rw [zbr_neg (by omega)]
      obtain ⟨e, he⟩ : ∃ e, L[n]? = some e := ⟨_, List.getElem?_eq_getElem (by omega)⟩
      refine zaL_i (by omega) (by omega) ?_
      have kD := fK.dt hK
      have k47 : inR (zsg K 5 47 0) := by rw [fK.2 47 (by omega) (by omega) (by omega)]; exact h47
      have next : ∀ (H : ZG) (L' : List PT), FT K H → zsg H 5 40 0 = 0 → n + 1 ≤ L'.length → TT D eng H L' ((n : Int) + 1) → zsg H 5 54 0 = eng → zpF H 5 55 0 fun (G6 : ZG) => zlt1 (w32 ((n : Int) + 1)) fun (x6 : Int) => P x6 G6 := fun H L' fH h40 hl hT' h54 => by
        have hT4 := hT'.2.1
        rw [zpF_e, zlt1_e, w32_eq (by omega) (by omega)]
        refine hPP _ _ ⟨L', n + 1, by push_cast; rfl, fK.trans (fH.b.trans ⟨(Mo.refl H).ss _ _ _, fun j j1 j2 j3 => by rw [z5_ne (by omega)]⟩), by rw [z5_ne (by omega), h54], Or.inr ⟨by rw [zsg_ss, if_pos ⟨rfl, rfl, rfl⟩], by rw [z5_ne (by omega), h40], hl, ?_⟩⟩ ?_
        · have := hT'.of (K' := zss H 5 55 0 0) (fun j j1 j2 => by rw [z5_ne (by omega)])
          exact this
        · rw [zsg_ss, if_pos ⟨rfl, rfl, rfl⟩, k55]; omega
      refine zbr_i (fun h9 => ?_) (fun h9 => ?_)
      · have hD : Dn K L n e (nl D eng e) := by
          rcases t6 n e he with z | z
          · exact z
          · exact absurd z.2.1 h9
        refine next K L (FT.refl K) k40 (by omega) ⟨t1, t2, t3, t4, t5, fun i q hi => ?_, fun j st q hj => ?_⟩ k54
        · rcases t6 i q hi with z | z
          · exact Or.inl z
          · by_cases hin : i = n
            · subst hin
              rw [he] at hi; cases hi
              exact Or.inl hD
            · exact Or.inr ⟨by omega, z.2⟩
        · have := t7 j st q hj
          exact ⟨this.1, by omega, this.2.2⟩
      · have h9 := Decidable.of_not_not h9
        have hU : nl D eng e = lab D eng e ∧ zsg K 5 60 n = 0 ∧ 0 ≤ zsg K 5 61 n ∧ zsg K 5 62 n = 0 := by
          rcases t6 n e he with z | z
          · have hl := z.1
            rw [h9] at hl
            -- no label is unknown
            exfalso
            have hP := (isN_P hM e (t5 n e he).1).1
            have hlo := lab_ok hM hP eng
            have hc : (nl D eng e).1 = 0 ∨ (nl D eng e).1 = 1 ∨ nl D eng e = lab D eng e := by
              match e with
              | [] => exact Or.inr (Or.inr rfl)
              | st :: e =>
                have en : nl D eng (st :: e) = if st.1 = 3 ∧ st.2.2.2 = 0 then (0, st.2.1, 0, 0) else if st.1 = 3 ∧ D 26 st.2.1 = 3 then (1, st.2.1, 0, 0) else lab D eng (st :: e) := rfl
                rw [en]
                split
                · exact Or.inl rfl
                · split
                  · exact Or.inr (Or.inl rfl)
                  · exact Or.inr (Or.inr rfl)
            rcases hc with hc | hc | hc
            · omega
            · omega
            · rw [hc] at hl
              rcases hlo with h | ⟨_, h, _⟩ | ⟨_, h, _⟩ | ⟨_, _, h, _⟩ | ⟨_, _, h, _⟩ <;> (rw [h] at hl; dsimp only at hl; omega)
          · exact z.2.2
        refine w6_layn (k := n) hM hL hT he hU kD k40 k47 (fun K' fK' h40 hT' => ?_) (fun hBig K' fK' h56 => ?_)
        · rw [zbr_pos (by omega)]
          have h54 : zsg K' 5 54 0 = eng := by rw [fK'.2 54 (by omega) (by omega) (by omega), k54]
          exact next K' _ fK' h40 (by rw [List.length_append]; omega) hT' h54
        · rw [zbr_neg (by omega), zpF_e, zlt1_e, w32_eq (by omega) (by omega)]
          refine hPP _ _ ⟨L, n + 1, by push_cast; rfl, fK.trans (fK'.b.trans ⟨(Mo.refl K').ss _ _ _, fun j j1 j2 j3 => by rw [z5_ne (by omega)]⟩), by rw [z5_ne (by omega), fK'.2 54 (by omega) (by omega) (by omega), k54], Or.inl ⟨by rw [zsg_ss, if_pos ⟨rfl, rfl, rfl⟩], hBig, by rw [z5_ne (by omega)]; exact h56⟩⟩ ?_
          rw [zsg_ss, if_pos ⟨rfl, rfl, rfl⟩, k55]; omega
