/-! REFERENCE: a case tried -/
set_option maxRecDepth 100000
theorem szs_le {D : ZD} : ∀ {L : List (Int × Int)}, (∀ c ∈ L, D 16 c.1 ≤ 40) → szs D L ≤ 40 * (L.length : Int)
  | [], _ => by unfold szs; simp
  | c :: L, h => by
    have a := h c List.mem_cons_self
    have b := szs_le (L := L) fun d hd => h d (List.mem_cons_of_mem _ hd)
    rw [szs_cons, List.length_cons]; omega
theorem cols_len (D : ZD) (c : Int) : (cols D c).length = (D 21 0).toNat := by unfold cols; rw [List.length_map, List.length_range]
theorem cols_mem {D : ZD} {c : Int} {e : Int × Int} (h : e ∈ cols D c) : ∃ i, 0 ≤ i ∧ i < D 21 0 ∧ e = (D 24 (3 * c + i), i + 1) := by
  rw [cols_p] at h
  obtain ⟨i, i0, i1, rfl⟩ := prow_mem h
  exact ⟨i, i0, i1, by rw [show 5 * 0 + 0 + i + 1 = i + 1 by omega]⟩
theorem cols_drop {D : ZD} {c i : Int} (i0 : 0 ≤ i) (i1 : i < D 21 0) : (cols D c).drop i.toNat = (D 24 (3 * c + i), i + 1) :: (cols D c).drop (i + 1).toNat := by
  rw [cols_p, prow_drop i0 i1, show 5 * 0 + 0 + i + 1 = i + 1 by omega]
theorem w6_try {σ : Type} {D : ZD} {A V : Int → Int → σ → Int × σ} {C : σ → σ} {Iv As : ZG → σ → Prop} {T : Nat → Int → Int → Prop} {b : Bool} (E : ME D A V C Iv As T b) (hM : MI D) (hL : LIN D) (hT : ∀ i, 0 ≤ i → i < D 21 0 → T 0 (i + 1) (D 22 i)) {G : ZG} {s : σ} {c : Int} {Q : Int → ZG → Prop} (hI : Iv G s) (hc : 0 ≤ c ∧ c < D 23 0)
    (hY : (mca D A V C c s).1 = 1 → ∀ K', Iv K' (mca D A V C c s).2.1 → (∀ x, 0 ≤ x → x ≤ 5 → zsg K' 5 39 x = (mca D A V C c s).2.2 x) → Q 0 K')
    (hN : (mca D A V C c s).1 = 0 → ∀ K', Iv K' (mca D A V C c s).2.1 → Q 1 K')
    (hA : (mca D A V C c s).1 = 2 → ∀ K', Iv K' (mca D A V C c s).2.1 → As K' (mca D A V C c s).2.1 → Q 2 K') : vX6_tryCase c G Q := by
  have m21 : 0 ≤ D 21 0 ∧ D 21 0 ≤ 3 := ⟨hM.2.2.2.2.1.1, hM.2.2.2.2.1.2.1⟩
  have m23 : D 23 0 ≤ 8 := hM.2.2.2.2.1.2.2.2.2.1
  have hcw := hM.2.2.2.2.1.2.2.2.2.2.2 c hc.1 hc.2
  unfold mca at hY hN hA
  unfold vX6_tryCase
  rw [zpF_e, zpF_e]
  have hI1 : Iv (zss (zss G 5 34 0 0) 5 38 0 0) s := E.st hI (((Mo.refl G).ss _ _ _).ss _ _ _) (fun j j1 j2 => by rw [z5_ne (by omega), z5_ne (by omega)])
  have e34 : zsg (zss (zss G 5 34 0 0) 5 38 0 0) 5 34 0 = 0 := by rw [z5_ne (by omega), zsg_ss, if_pos ⟨rfl, rfl, rfl⟩]
  have e38 : zsg (zss (zss G 5 34 0 0) 5 38 0 0) 5 38 0 = 0 := by rw [zsg_ss, if_pos ⟨rfl, rfl, rfl⟩]
  generalize zss (zss G 5 34 0 0) 5 38 0 0 = G1 at hI1 e34 e38
  refine zl2_of (fun i K => 0 ≤ i ∧ i ≤ 6 ∧ Iv K s ∧ zsg K 5 34 0 = 0 ∧ zsg K 5 38 0 = 0 ∧ ∀ x, 0 ≤ x → x < i → zsg K 5 39 x = -1) (fun i _ => (6 - i).toNat) (fun P i K hI hPP => ?_) ⟨by omega, by omega, hI1, e34, e38, fun x x0 x1 => by omega⟩
  obtain ⟨i0, i6, hIK, k34, k38, k39⟩ := hI
  refine zbr_i (fun hi => ?_) (fun hi => ?_)
  · rw [zgF_e, E.dt hIK 21 (by omega) (by omega), zlt1_e, w32_eq (x := D 21 0 - 1) (by omega) (by omega)]
    have hb : ∀ x, 0 ≤ x → x ≤ 5 → zsg K 5 39 x = -1 := fun x x0 x5 => k39 x x0 (by omega)
    clear hPP k39
    refine zl2_of (fun a J => -1 ≤ a ∧ a < D 21 0 ∧ Iv J s ∧ zsg J 5 38 0 = 0 ∧ (∀ x, 0 ≤ x → x ≤ 5 → zsg J 5 39 x = -1) ∧ zsg J 5 34 0 = D 21 0 - 1 - a ∧ sth J (D 21 0 - 1 - a) = ((cols D c).drop (a + 1).toNat).reverse) (fun a _ => (a + 1).toNat) (fun P a J hI hPP => ?_) ⟨by omega, by omega, hIK, k38, hb, by omega, ?_⟩
    · obtain ⟨a0, a1, hIJ, j38, j39, j34, jst⟩ := hI
      refine zbr_i (fun ha => ?_) (fun ha => ?_)
      · have : a = -1 := by omega
        subst this
        show zl1 (bodyT Q) J
        intro P hcP
        have hlen := cols_len D c
        have hdrop : (cols D c).drop ((-1 : Int) + 1).toNat = cols D c := by simp
        rw [hdrop, show D 21 0 - 1 - -1 = D 21 0 by omega] at jst
        have hpat : ∀ e ∈ cols D c, ∃ i, 0 ≤ i ∧ i < D 21 0 ∧ e = (D 24 (3 * c + i), i + 1) ∧ 0 ≤ e.1 ∧ e.1 < D 9 0 ∧ fitk D e.1 (D 22 i) ∧ 1 ≤ D 16 e.1 ∧ D 16 e.1 ≤ 40 ∧ D 15 e.1 ≤ 4 := fun e he => by
          obtain ⟨i, i0, i1, rfl⟩ := cols_mem he
          have how := hcw.1 i i0 i1
          have hpw := hM.2.2.1.2.2 _ how.1 how.2.1
          have a15 := hpw.2.2.1
          have a16 := hpw.2.2.2.1
          exact ⟨i, i0, i1, rfl, how.1, how.2.1, how.2.2, a16.1, a16.2, a15.2⟩
        have hsz := szs_le (D := D) (L := cols D c) fun e he => by obtain ⟨i, -, -, -, -, -, -, -, h, -⟩ := hpat e he; exact h
        have s0 : sth J 0 = [] := rfl
        refine mach_l (D := D) (As := As) (mt D A V C 40) hcP (cols D c) (fun e he => ?_) (fun e he x x0 x5 t2 hx => ?_) s (fun _ => -1) J 0 0 hIJ (by rw [j34, hlen]; omega) (by omega) (by omega) j38 (by omega) (by omega) ?_ ⟨fun g1 K' w a2 b2 c2 d2 => ?_, fun g1 K' w b2 c2 d2 => ?_, hA⟩
        · obtain ⟨i, i0, i1, e1, e2, e3, e4, e5, e6, e7⟩ := hpat e he
          refine ⟨e5, fun s3 bd3 K3 t3 m3 a1 a2 a3 a4 a5 a6 a7 a8 a9 => ?_⟩
          have hT' := hT i i0 i1
          subst e1
          exact mach E hM hL hcP 40 _ _ (D 22 i) 0 s3 bd3 K3 t3 m3 e2 e3 (by omega) hT' e4 (by omega) a1 a2 a3 a4 a5 a6 a7 a8 a9
        · obtain ⟨i, i0, i1, e1, e2, e3, -⟩ := hpat e he
          exact mt_nm hM.2.2.1 x0 x5 40 _ _ t2 e2 e3 hx
        · rw [s0, List.nil_append, hlen, show (0 : Int) + ((D 21 0).toNat : Int) = D 21 0 by omega]; exact jst
        · refine hcP K' (pop_end a2 (hY g1 K' c2 (fun x x0 x5 => ?_)))
          rw [d2 x x0 x5]
          cases hx : nml D (cols D c) x with
          | true => rfl
          | false =>
            have := al_nm (D := D) (x := x) (M := mt D A V C 40) (cols D c) (fun e he t2 hx2 => by
              obtain ⟨i, i0, i1, e1, e2, e3, -⟩ := hpat e he
              exact mt_nm hM.2.2.1 x0 x5 40 _ _ t2 e2 e3 hx2) (s, fun _ => -1) hx
            rw [this, if_neg (by simp)]
            exact j39 x x0 x5
        · exact w6_turns0 b2 (zbr_i (fun z => absurd rfl z) (fun _ => hN g1 K' c2))
      · rw [w32_eq (x := 3 * c) (by omega) (by omega), w32_eq (x := 3 * c + a) (by omega) (by omega), w32_eq (x := a + 1) (by omega) (by omega)]
        refine zaL_i (by omega) (by omega) ?_
        rw [E.dt hIJ 24 (by omega) (by omega)]
        refine w6_lay (t := D 21 0 - 1 - a) j34 (by omega) (by omega) (fun K' mo' hK' ht' hu' hs' => ?_)
        rw [zlt1_e, w32_eq (by omega) (by omega)]
        refine hPP _ _ ⟨by omega, by omega, E.st hIJ mo' (fun j j1 j2 => hK' j (by omega) (by omega) (by omega)), by rw [hK' 38 (by omega) (by omega) (by omega), j38], fun x x0 x5 => by rw [hK' 39 (by omega) (by omega) (by omega), j39 x x0 x5], by omega, ?_⟩ (by omega)
        rw [show D 21 0 - 1 - (a + -1) = D 21 0 - 1 - a + 1 by omega, hs', jst, show a + -1 + 1 = a by omega, cols_drop (i := a) (by omega) (by omega), List.reverse_cons]
    · rw [show D 21 0 - 1 - (D 21 0 - 1) = 0 by omega, show D 21 0 - 1 + 1 = D 21 0 by omega, show (cols D c).drop (D 21 0).toNat = [] from List.drop_eq_nil_of_le (by rw [cols_len]; omega)]; rfl
  · refine zaS_i i0 (by omega) ?_
    rw [zlt1_e, w32_eq (by omega) (by omega)]
    refine hPP _ _ ⟨by omega, by omega, E.st hIK ((Mo.refl K).ss _ _ _) (fun j j1 j2 => by rw [z5_ne (by omega)]), by rw [z5_ne (by omega), k34], by rw [z5_ne (by omega), k38], fun x x0 x1 => ?_⟩ (by omega)
    rw [z5_eq]
    dsimp only
    by_cases h : x = i
    · rw [if_pos h]
    · rw [if_neg h]; exact k39 x x0 (by omega)
