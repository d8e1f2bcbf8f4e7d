/-! REFERENCE: the place that the most cases need -/
set_option maxRecDepth 100000
/-- the greatest count, then the least place -/
def Bst (w : Int → Nat) (S : Int → Prop) (b : Int) : Prop := S b ∧ ∀ q, S q → w q < w b ∨ (w q = w b ∧ b ≤ q)
theorem Bst.uniq {w : Int → Nat} {S : Int → Prop} {a b : Int} (ha : Bst w S a) (hb : Bst w S b) : a = b := by
  have h1 := ha.2 b hb.1
  have h2 := hb.2 a ha.1
  omega
theorem argb_best {w : Int → Nat} : ∀ (L : List Int), L ≠ [] → Bst w (fun q => q ∈ L) (argb w L)
  | [], h => absurd rfl h
  | [p], _ => ⟨List.mem_singleton.mpr rfl, fun q hq => by
      have hq : q ∈ [p] := hq
      rw [List.mem_singleton] at hq
      subst hq
      exact Or.inr ⟨rfl, Int.le_refl _⟩⟩
  | p :: q :: t, _ => by
    have e : argb w (p :: q :: t) = if w (argb w (q :: t)) < w p ∨ (w (argb w (q :: t)) = w p ∧ p ≤ argb w (q :: t)) then p else argb w (q :: t) := rfl
    obtain ⟨h1, h2⟩ := argb_best (w := w) (q :: t) (by simp)
    rw [e]
    generalize argb w (q :: t) = b at h1 h2
    by_cases hc : w b < w p ∨ (w b = w p ∧ p ≤ b)
    · rw [if_pos hc]
      refine ⟨List.mem_cons_self, fun x hx => ?_⟩
      rcases List.mem_cons.mp hx with rfl | hx
      · exact Or.inr ⟨rfl, Int.le_refl _⟩
      · have := h2 x hx
        omega
    · rw [if_neg hc]
      refine ⟨List.mem_cons_of_mem _ h1, fun x hx => ?_⟩
      rcases List.mem_cons.mp hx with rfl | hx
      · omega
      · exact h2 x hx
/-- how many of some cases need a place -/
def cnN (D : ZD) (e : PT) (L : List Int) (q : Int) : Nat := (L.filter fun c => elig D e c && (ndc D e c).contains q).length
theorem cnN_app {D : ZD} {e : PT} {L : List Int} {c q : Int} : cnN D e (L ++ [c]) q = cnN D e L q + (if elig D e c = true ∧ q ∈ ndc D e c then 1 else 0) := by
  unfold cnN
  rw [List.filter_append, List.length_append]
  congr 1
  by_cases h : elig D e c = true ∧ q ∈ ndc D e c
  · rw [if_pos h, List.filter_cons_of_pos (by rw [h.1, Bool.true_and]; exact List.contains_iff_mem.mpr h.2)]; rfl
  · rw [if_neg h, List.filter_cons_of_neg (fun z => by
      rw [Bool.and_eq_true] at z
      exact h ⟨z.1, List.contains_iff_mem.mp z.2⟩)]; rfl
theorem cntp_pos {D : ZD} {e : PT} {q : Int} : 0 < cntp D e q ↔ q ∈ allp D e := by
  unfold cntp allp
  rw [List.length_pos_iff_exists_mem, List.mem_flatMap]
  constructor
  · rintro ⟨c, hc⟩
    obtain ⟨h1, h2⟩ := List.mem_filter.mp hc
    rw [Bool.and_eq_true] at h2
    exact ⟨c, h1, by rw [if_pos h2.1]; exact List.contains_iff_mem.mp h2.2⟩
  · rintro ⟨c, hc, hq⟩
    by_cases he : elig D e c = true
    · rw [if_pos he] at hq
      exact ⟨c, List.mem_filter.mpr ⟨hc, by rw [he, Bool.true_and]; exact List.contains_iff_mem.mpr hq⟩⟩
    · rw [if_neg he] at hq; cases hq
theorem w6_most {D : ZD} {e : PT} {eng : Int} {K0 : ZG} {Q : Int → ZG → Prop} (hM : MI D) (hL : LIN D) (hn : isN D eng e) (hN : Nd K0 e (zsg K0 5 41 0)) (hK : ∀ j, 1 ≤ j → j ≤ 29 → zsg K0 5 j = D j) (h40 : zsg K0 5 40 0 = 0) (h47 : inR (zsg K0 5 47 0)) (hne : allp D e ≠ [])
    (hQ : ∀ K', Mo K0 K' → (∀ j, j ≠ 30 → ¬ (32 ≤ j ∧ j ≤ 39) → ¬ (42 ≤ j ∧ j ≤ 45) → ¬ (64 ≤ j ∧ j ≤ 68) → zsg K' 5 j = zsg K0 5 j) → Q (best D e) K') : vX6_mostNeeded K0 Q := by
  obtain ⟨hP, hV⟩ := isN_P hM e hn
  have hv := isN_v hM hn
  have m23 : 0 ≤ D 23 0 ∧ D 23 0 ≤ 8 := ⟨hM.2.2.2.2.1.2.2.2.1, hM.2.2.2.2.1.2.2.2.2.1⟩
  unfold vX6_mostNeeded
  rw [zpF_e]
  refine zl2_of (fun k K => 0 ≤ k ∧ k ≤ D 23 0 ∧ Mo K0 K ∧ (∀ j, j ≠ 30 → ¬ (32 ≤ j ∧ j ≤ 39) → ¬ (42 ≤ j ∧ j ≤ 45) → ¬ (64 ≤ j ∧ j ≤ 68) → zsg K 5 j = zsg K0 5 j) ∧ ∃ las : Int → Int, NT K (fun q => (cnN D e ((csl D).take k.toNat) q : Int)) las ∧ (∀ q, cnN D e ((csl D).take k.toNat) q = 0 → las q = -1) ∧ ∀ q, las q < k) (fun k _ => (D 23 0 - k).toNat) (fun P k K hI hPP => ?_) ⟨by omega, m23.1, (Mo.refl K0).ss _ _ _, fun j j1 j2 j3 j4 => by rw [z5_ne (by omega)], fun _ => -1, ⟨[], List.nodup_nil, fun q => ?_, (fun q hq => by cases hq), (by rw [zsg_ss, if_pos ⟨rfl, rfl, rfl⟩]; rfl), (fun k q hk => by simp at hk)⟩, (fun _ _ => rfl), (fun q => by show (-1 : Int) < 0; omega)⟩
  · obtain ⟨k0, k1, mo, hKK, las, hNT, hz, hl⟩ := hI
    have hKD : ∀ (H : ZG), (∀ j, j ≠ 30 → ¬ (32 ≤ j ∧ j ≤ 39) → ¬ (42 ≤ j ∧ j ≤ 45) → ¬ (64 ≤ j ∧ j ≤ 68) → zsg H 5 j = zsg K0 5 j) → (∀ j, 1 ≤ j → j ≤ 29 → zsg H 5 j = D j) ∧ Nd H e (zsg H 5 41 0) ∧ zsg H 5 40 0 = 0 ∧ inR (zsg H 5 47 0) := fun H hH => by
      refine ⟨fun j j1 j2 => by rw [hH j (by omega) (by omega) (by omega) (by omega), hK j j1 j2], ?_, by rw [hH 40 (by omega) (by omega) (by omega) (by omega), h40], by rw [hH 47 (by omega) (by omega) (by omega) (by omega)]; exact h47⟩
      rw [hH 41 (by omega) (by omega) (by omega) (by omega)]
      exact hN.of (fun j j1 j2 => hH j (by omega) (by omega) (by omega) (by omega))
    obtain ⟨kD, kN, k40, k47⟩ := hKD K hKK
    rw [zgF_e, kD 23 (by omega) (by omega)]
    refine zbr_i (fun hk => ?_) (fun hk => ?_)
    · have : k = D 23 0 := by omega
      subst this
      have et : (csl D).take (D 23 0).toNat = csl D := List.take_of_length_le (by unfold csl; rw [List.length_map, List.length_range]; omega)
      rw [et] at hNT
      obtain ⟨L, l1, l2, l3, l4, l5⟩ := hNT
      have l6 := nd_le L apl l1 l3
      rw [apl_len] at l6
      have hmem : ∀ q, q ∈ L ↔ q ∈ allp D e := fun q => by
        rw [l2, ← cntp_pos]
        show 0 < ((cntp D e q : Nat) : Int) ↔ _
        omega
      have hLne : L ≠ [] := fun z => by
        have : allp D e = [] := by
          refine List.eq_nil_iff_forall_not_mem.mpr (fun q hq => ?_)
          have := (hmem q).mpr hq
          rw [z] at this; cases this
        exact hne this
      have hLpos := List.length_pos_iff.mpr hLne
      have hwt : ∀ (i : Nat) q, L[i]? = some q → zsg K 5 64 i = q ∧ zsg K 5 65 i = ((cntp D e q : Nat) : Int) := fun i q hi => ⟨(l5 i q hi).1, (l5 i q hi).2.1⟩
      clear l5 l2
      refine zl2_of (fun a i => 0 ≤ i ∧ i ≤ (L.length : Int) ∧ 0 ≤ a ∧ a < (L.length : Int) ∧ ∃ b, L[a.toNat]? = some b ∧ ∀ (j : Nat) q, (j : Int) < i → L[j]? = some q → cntp D e q < cntp D e b ∨ (cntp D e q = cntp D e b ∧ b ≤ q)) (fun _ i => ((L.length : Int) - i).toNat) (fun P2 a i hI2 hPP2 => ?_) ⟨by omega, by omega, by omega, by omega, L[0], List.getElem?_eq_getElem hLpos, fun j q hj => by omega⟩
      obtain ⟨i0, i1, a0, a1, b, hb, hbest⟩ := hI2
      rw [zgF_e, l4]
      have hba := hwt _ b hb
      rw [show ((a.toNat : Nat) : Int) = a by omega] at hba
      dsimp only [zjn]
      refine zbr_i (fun hi => ?_) (fun hi => ?_)
      · refine zaL_i a0 (by omega) ?_
        rw [hba.1]
        have hB : Bst (cntp D e) (fun q => q ∈ allp D e) b := ⟨(hmem b).mp (List.mem_iff_getElem?.mpr ⟨_, hb⟩), fun q hq => by
          obtain ⟨j, hj⟩ := List.mem_iff_getElem?.mp ((hmem q).mpr hq)
          have := (List.getElem?_eq_some_iff.mp hj).1
          exact hbest j q (by omega) hj⟩
        have : b = best D e := hB.uniq (argb_best _ hne)
        rw [this]
        exact hQ K mo hKK
      · obtain ⟨y, hy⟩ : ∃ y, L[i.toNat]? = some y := ⟨_, List.getElem?_eq_getElem (by omega)⟩
        have hyi := hwt _ y hy
        rw [show ((i.toNat : Nat) : Int) = i by omega] at hyi
        have keep : (cntp D e y < cntp D e b ∨ (cntp D e y = cntp D e b ∧ b ≤ y)) → zlt1 (w32 (i + 1)) fun (x6 : Int) => P2 a x6 := fun hle => by
          rw [zlt1_e, w32_eq (by omega) (by omega)]
          refine hPP2 _ _ ⟨by omega, by omega, a0, a1, b, hb, fun j q hj hq => ?_⟩ (by omega)
          by_cases hji : (j : Int) = i
          · have : j = i.toNat := by omega
            subst this
            rw [hy] at hq; cases hq; exact hle
          · exact hbest j q (by omega) hq
        have take : (cntp D e b < cntp D e y ∨ (cntp D e b = cntp D e y ∧ y ≤ b)) → zlt1 (w32 (i + 1)) fun (x6 : Int) => P2 i x6 := fun hle => by
          rw [zlt1_e, w32_eq (by omega) (by omega)]
          refine hPP2 _ _ ⟨by omega, by omega, i0, by omega, y, hy, fun j q hj hq => ?_⟩ (by omega)
          by_cases hji : (j : Int) = i
          · have : j = i.toNat := by omega
            subst this
            rw [hy] at hq; cases hq; exact Or.inr ⟨rfl, Int.le_refl _⟩
          · have := hbest j q (by omega) hq
            omega
        have z0 : ∀ {A B : Prop}, A → zbr ((0 : Int) = 0) A B := fun h => zbr_i (fun _ => h) (fun z => absurd rfl z)
        have z1 : ∀ {A B : Prop}, B → zbr ((1 : Int) = 0) A B := fun h => zbr_i (fun z => absurd z (by omega)) (fun _ => h)
        refine zaL_i i0 (by omega) (zaL_i a0 (by omega) ?_)
        rw [hyi.2, hba.2]
        refine zbr_i (fun h1 => z1 (take (by omega))) (fun h1 => ?_)
        refine zaL_i i0 (by omega) (zaL_i a0 (by omega) ?_)
        rw [hyi.2, hba.2]
        refine zbr_i (fun h2 => z0 (keep (by omega))) (fun h2 => ?_)
        refine zaL_i i0 (by omega) (zaL_i a0 (by omega) ?_)
        rw [hyi.1, hba.1]
        exact zbr_i (fun h3 => z0 (keep (by omega))) (fun h3 => z1 (take (by omega)))
    · have hc : 0 ≤ k ∧ k < D 23 0 := ⟨k0, by omega⟩
      have hcnt : ∀ (L : List Int) q, cnN D e L q ≤ L.length := fun L q => List.length_filter_le _ _
      have hcl : ∀ q, 0 ≤ (cnN D e ((csl D).take k.toNat) q : Int) ∧ (cnN D e ((csl D).take k.toNat) q : Int) ≤ 50 := fun q => by
        have := hcnt ((csl D).take k.toNat) q
        rw [List.length_take] at this
        omega
      dsimp only [zjn]
      have et := csl_take (D := D) k0 hc.2
      have skip : ∀ K', Mo K0 K' → (∀ j, j ≠ 30 → ¬ (32 ≤ j ∧ j ≤ 39) → ¬ (42 ≤ j ∧ j ≤ 45) → ¬ (64 ≤ j ∧ j ≤ 68) → zsg K' 5 j = zsg K0 5 j) → NT K' (fun q => (cnN D e ((csl D).take k.toNat) q : Int)) las → elig D e k = false → zlt1 (w32 (k + 1)) fun (x12 : Int) => P x12 K' := fun K' mo' hK' hNT' he => by
        rw [zlt1_e, w32_eq (by omega) (by omega)]
        have ec : ∀ q, cnN D e ((csl D).take (k + 1).toNat) q = cnN D e ((csl D).take k.toNat) q := fun q => by rw [et, cnN_app, if_neg (fun z => by rw [he] at z; cases z.1)]; rfl
        refine hPP _ _ ⟨by omega, by omega, mo', hK', las, ?_, fun q hq => hz q (by rw [← ec]; exact hq), fun q => by have := hl q; omega⟩ (by omega)
        have : (fun q => (cnN D e ((csl D).take (k + 1).toNat) q : Int)) = fun q => (cnN D e ((csl D).take k.toNat) q : Int) := by funext q; rw [ec]
        rw [this]; exact hNT'
      refine w6_hasFailed (e := e) kN ?_
      cases hf : ff e k with
      | true => exact zbr_i (fun _ => skip K mo hKK hNT (by unfold elig; rw [hf]; rfl)) (fun z => absurd (show bb true ≠ 0 by simp [bb]) z)
      | false =>
        refine zbr_i (fun z => absurd rfl z) (fun _ => ?_)
        have fr : ∀ {K' : ZG}, (∀ j, ¬ (32 ≤ j ∧ j ≤ 39) → ¬ (42 ≤ j ∧ j ≤ 45) → zsg K' 5 j = zsg K 5 j) → ∀ j, j ≠ 30 → ¬ (32 ≤ j ∧ j ≤ 39) → ¬ (42 ≤ j ∧ j ≤ 45) → ¬ (64 ≤ j ∧ j ≤ 68) → zsg K' 5 j = zsg K0 5 j := fun h j j1 j2 j3 j4 => by rw [h j j2 j3, hKK j j1 j2 j3 j4]
        have more : (tmc D e k (0, 0, 0)).1 ≠ 0 → ∀ K', Mo K K' → (∀ j, ¬ (32 ≤ j ∧ j ≤ 39) → ¬ (42 ≤ j ∧ j ≤ 45) → zsg K' 5 j = zsg K 5 j) → vX6_needsOf k K' fun (G3 : ZG) => zlt1 (w32 (k + 1)) fun (x12 : Int) => P x12 G3 := fun hne' K' mo' hK' => by
          obtain ⟨k'D, k'N, k'40, k'47⟩ := hKD K' (fr hK')
          have he : elig D e k = true := by unfold elig; rw [hf, decide_eq_true hne']; rfl
          refine w6_needsOf hM hP hv k'N k'D k'40 hc (hNT.of (fun j j1 j2 => hK' j (by omega) (by omega))) hcl (fun q hq => hz q (by omega)) (fun q => by have := hl q; omega) (fun K2 mo2 hK2 hNT2 => ?_)
          rw [zlt1_e, w32_eq (by omega) (by omega)]
          have ec : ∀ q, cnN D e ((csl D).take (k + 1).toNat) q = cnN D e ((csl D).take k.toNat) q + (if q ∈ ndc D e k then 1 else 0) := fun q => by
            rw [et, cnN_app]
            by_cases hq : q ∈ ndc D e k
            · rw [if_pos ⟨he, hq⟩, if_pos hq]
            · rw [if_neg (fun z => hq z.2), if_neg hq]
          refine hPP _ _ ⟨by omega, by omega, (mo.trans mo').trans mo2, fun j j1 j2 j3 j4 => by rw [hK2 j j1 (by omega) (by omega), fr hK' j j1 j2 j3 j4], lS las k (ndc D e k), ?_, fun q hq => ?_, fun q => ?_⟩ (by omega)
          · have : (fun q => (cnN D e ((csl D).take (k + 1).toNat) q : Int)) = cS (fun q => (cnN D e ((csl D).take k.toNat) q : Int)) (ndc D e k) := by
              funext q
              rw [ec]
              unfold cS
              split <;> simp
            rw [this]; exact hNT2
          · rw [ec] at hq
            unfold lS
            by_cases hm : q ∈ ndc D e k
            · rw [if_pos hm] at hq; omega
            · rw [if_neg hm] at hq ⊢; exact hz q hq
          · unfold lS
            split
            · omega
            · have := hl q; omega
        refine w6_tryT (eng := eng) hM hL hn kN kD k40 k47 hc (fun h1 K' mo' hK' _ => ?_) (fun h1 K' mo' hK' => ?_) (fun h1 K' mo' hK' _ => ?_)
        · rw [zbr_neg (by omega)]; exact more (by omega) K' mo' hK'
        · rw [zbr_pos rfl]
          exact skip K' (mo.trans mo') (fr hK') (hNT.of (fun j j1 j2 => hK' j (by omega) (by omega))) (by unfold elig; rw [hf, h1]; rfl)
        · rw [zbr_neg (by omega)]; exact more (by omega) K' mo' hK'
  · unfold cnN
    simp
