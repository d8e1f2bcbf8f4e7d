/-! REFERENCE: what cases need -/
set_option maxRecDepth 100000
/-- the table of what is needed: how often, and by which case latest -/
def NT (K : ZG) (cnt las : Int → Int) : Prop := ∃ L : List Int, L.Nodup ∧ (∀ q, q ∈ L ↔ 0 < cnt q) ∧ (∀ q ∈ L, q ∈ apl) ∧ zsg K 5 67 0 = (L.length : Int) ∧ ∀ (k : Nat) q, L[k]? = some q → zsg K 5 64 k = q ∧ zsg K 5 65 k = cnt q ∧ zsg K 5 66 k = las q
theorem NT.len {K : ZG} {cnt las : Int → Int} (h : NT K cnt las) : 0 ≤ zsg K 5 67 0 ∧ zsg K 5 67 0 ≤ 120 := by
  obtain ⟨L, h1, h2, h3, h4, h5⟩ := h
  have := nd_le L apl h1 h3
  rw [apl_len] at this
  omega
theorem NT.of {K K' : ZG} {cnt las : Int → Int} (h : NT K cnt las) (e : ∀ j, 64 ≤ j → j ≤ 67 → zsg K' 5 j = zsg K 5 j) : NT K' cnt las := by
  obtain ⟨L, h1, h2, h3, h4, h5⟩ := h
  refine ⟨L, h1, h2, h3, by rw [e 67 (by omega) (by omega)]; exact h4, fun k q hk => ?_⟩
  rw [e 64 (by omega) (by omega), e 65 (by omega) (by omega), e 66 (by omega) (by omega)]
  exact h5 k q hk
theorem w6_need {K : ZG} {cnt las : Int → Int} {p c : Int} {Q : ZG → Prop} (h : NT K cnt las) (hp : p ∈ apl) (h0 : ∀ q, 0 ≤ cnt q ∧ cnt q ≤ 100) (hz : cnt p = 0 → las p = -1) (c0 : 0 ≤ c)
    (hQ : ∀ K', Mo K K' → (∀ j, ¬ (64 ≤ j ∧ j ≤ 67) → zsg K' 5 j = zsg K 5 j) → NT K' (fun q => if q = p then cnt p + (if las p = c then 0 else 1) else cnt q) (fun q => if q = p then c else las q) → Q K') : vX6_need p c K Q := by
  have hlen := h.len
  obtain ⟨L, h1, h2, h3, h4, h5⟩ := h
  unfold vX6_need
  have h0p := h0 p
  have fin : ∀ (a : Int) (H : ZG), Mo K H → (∀ j, ¬ (64 ≤ j ∧ j ≤ 67) → zsg H 5 j = zsg K 5 j) → (∃ L' : List Int, L'.Nodup ∧ (∀ q, q ∈ L' ↔ (q = p ∨ 0 < cnt q)) ∧ (∀ q ∈ L', q ∈ apl) ∧ zsg H 5 67 0 = (L'.length : Int) ∧ L'.length ≤ 120 ∧ 0 ≤ a ∧ L'[a.toNat]? = some p ∧ ∀ (k : Nat) q, L'[k]? = some q → zsg H 5 64 k = q ∧ zsg H 5 65 k = cnt q ∧ zsg H 5 66 k = las q) → zaL H 5 65 512 a fun (x2 : Int) => zaL H 5 66 512 a fun (x3 : Int) => zjn (fun (z101_3 : Int) => zaS H 5 65 512 a (w32 (x2 + z101_3)) fun (G1 : ZG) => zaS G1 5 66 512 a c fun (G2 : ZG) => Q G2) fun J101 => zbr (x3 ≠ c) (J101 1) (J101 0) := by
    intro a H mo hH hL'
    obtain ⟨L', l1, l2, l3, l4, l6, a0, la, l5⟩ := hL'
    have al : a.toNat < L'.length := (List.getElem?_eq_some_iff.mp la).1
    have hr := l5 a.toNat p la
    rw [show ((a.toNat : Nat) : Int) = a by omega] at hr
    refine zaL_i a0 (by omega) (zaL_i a0 (by omega) ?_)
    rw [hr.2.1, hr.2.2]
    dsimp only [zjn]
    have go : ∀ y, y = (if las p = c then (0 : Int) else 1) → zaS H 5 65 512 a (w32 (cnt p + y)) fun (G1 : ZG) => zaS G1 5 66 512 a c fun (G2 : ZG) => Q G2 := fun y hy => by
      have y01 : 0 ≤ y ∧ y ≤ 1 := by rw [hy]; split <;> omega
      refine zaS_i a0 (by omega) (zaS_i a0 (by omega) ?_)
      rw [w32_eq (by omega) (by omega)]
      refine hQ _ ((mo.ss _ _ _).ss _ _ _) (fun j hj => by rw [z5_ne (by omega), z5_ne (by omega), hH j hj]) ⟨L', l1, fun q => ?_, l3, ?_, fun k q hk => ?_⟩
      · rw [l2]
        dsimp only
        by_cases hq : q = p
        · rw [if_pos hq]
          refine ⟨fun _ => ?_, fun _ => Or.inl hq⟩
          by_cases hz2 : cnt p = 0
          · have := hz hz2
            rw [if_neg (by omega)]; omega
          · split <;> omega
        · rw [if_neg hq]
          exact ⟨fun z => z.resolve_left hq, Or.inr⟩
      · rw [z5_ne (by omega), z5_ne (by omega)]; exact l4
      · have hk5 := l5 k q hk
        rw [z5_ne (by omega), z5_ne (by omega)]
        by_cases hq : q = p
        · have hka : k = a.toNat := nd_inj L' l1 k a.toNat q hk (by rw [hq]; exact la)
          have hka2 : (k : Int) = a := by omega
          dsimp only
          rw [if_pos hq, if_pos hq, hka2]
          refine ⟨by rw [← hka2]; exact hk5.1, ?_, ?_⟩
          · rw [zsg_ss, if_neg (by omega), zsg_ss, if_pos ⟨rfl, rfl, rfl⟩, hy]
          · rw [zsg_ss, if_pos ⟨rfl, rfl, rfl⟩]
        · have hka : (k : Int) ≠ a := fun z => hq (by
            have : k = a.toNat := by omega
            rw [this, la] at hk
            exact (Option.some.inj hk).symm)
          dsimp only
          rw [if_neg hq, if_neg hq]
          refine ⟨hk5.1, ?_, ?_⟩
          · rw [zsg_ss, if_neg (by omega), zsg_ss, if_neg (by omega)]; exact hk5.2.1
          · rw [zsg_ss, if_neg (by omega), z5_ne (by omega)]; exact hk5.2.2
    refine zbr_i (fun hn => go 1 (by rw [if_neg hn])) (fun hn => go 0 (by rw [if_pos (Decidable.of_not_not hn)]))
  refine zl2_of (fun (a k : Int) => 0 ≤ k ∧ k ≤ (L.length : Int) ∧ ((a = -1 ∧ ∀ (j : Nat), (j : Int) < k → L[j]? ≠ some p) ∨ (0 ≤ a ∧ L[a.toNat]? = some p))) (fun (_ k : Int) => ((L.length : Int) - k).toNat) (fun P a k hI hPP => ?_) ⟨by omega, by omega, Or.inl ⟨rfl, fun j hj => by omega⟩⟩
  obtain ⟨k0, k1, hf⟩ := hI
  rw [zgF_e, h4]
  rw [h4] at hlen
  dsimp only [zjn]
  refine zbr_i (fun hk => ?_) (fun hk => ?_)
  · rcases hf with ⟨rfl, hno⟩ | ⟨a0, ha⟩
    · have hnp : p ∉ L := fun z => by
        obtain ⟨j, hj⟩ := List.mem_iff_getElem?.mp z
        have := (List.getElem?_eq_some_iff.mp hj).1
        exact hno j (by omega) hj
      have hc0 : cnt p = 0 := by
        have := (not_congr (h2 p)).mp hnp
        omega
      have hl0 := hz hc0
      rw [zbr_neg (by omega), zgF_e, h4]
      refine zaS_i (by omega) (by omega) (zaS_i (by omega) (by omega) (zaS_i (by omega) (by omega) ?_))
      rw [zgF_e, z5_ne (by omega), z5_ne (by omega), z5_ne (by omega), h4, zpF_e, w32_eq (by omega) (by omega)]
      refine fin _ _ ((((((Mo.refl K).ss _ _ _).ss _ _ _).ss _ _ _).ss _ _ _)) (fun j hj => by rw [z5_ne (by omega), z5_ne (by omega), z5_ne (by omega), z5_ne (by omega)]) ⟨L ++ [p], ?_, fun q => ?_, fun q hq => ?_, ?_, ?_, by omega, ?_, fun k q hk => ?_⟩
      · rw [List.nodup_append]
        refine ⟨h1, by simp, fun x hx y hy e => ?_⟩
        rw [List.mem_singleton] at hy
        subst e; subst hy
        exact hnp hx
      · rw [List.mem_append, List.mem_singleton, h2]
        exact Or.comm
      · rcases List.mem_append.mp hq with hq | hq
        · exact h3 q hq
        · rw [List.mem_singleton] at hq; rw [hq]; exact hp
      · rw [zsg_ss, if_pos ⟨rfl, rfl, rfl⟩, List.length_append]; simp
      · have := nd_le (L ++ [p]) apl (by
          rw [List.nodup_append]
          refine ⟨h1, by simp, fun x hx y hy e => ?_⟩
          rw [List.mem_singleton] at hy
          subst e; subst hy
          exact hnp hx) (fun q hq => by
            rcases List.mem_append.mp hq with hq | hq
            · exact h3 q hq
            · rw [List.mem_singleton] at hq; rw [hq]; exact hp)
        rw [apl_len] at this; exact this
      · rw [show ((L.length : Int)).toNat = L.length by omega, List.getElem?_append_right (Nat.le_refl _), Nat.sub_self]; rfl
      · by_cases hkl : k < L.length
        · rw [List.getElem?_append_left hkl] at hk
          have := h5 k q hk
          refine ⟨?_, ?_, ?_⟩
          · rw [z5_ne (by omega), z5_ne (by omega), z5_ne (by omega), zsg_ss, if_neg (by omega)]; exact this.1
          · rw [z5_ne (by omega), z5_ne (by omega), zsg_ss, if_neg (by omega), z5_ne (by omega)]; exact this.2.1
          · rw [z5_ne (by omega), zsg_ss, if_neg (by omega), z5_ne (by omega), z5_ne (by omega)]; exact this.2.2
        · have hkl2 : k = L.length := by
            have := (List.getElem?_eq_some_iff.mp hk).1
            rw [List.length_append, List.length_singleton] at this
            omega
          subst hkl2
          rw [List.getElem?_append_right (Nat.le_refl _), Nat.sub_self] at hk
          simp only [List.getElem?_cons_zero, Option.some.injEq] at hk
          subst hk
          rw [hc0, hl0]
          refine ⟨?_, ?_, ?_⟩
          · rw [z5_ne (by omega), z5_ne (by omega), z5_ne (by omega), zsg_ss, if_pos ⟨rfl, rfl, rfl⟩]
          · rw [z5_ne (by omega), z5_ne (by omega), zsg_ss, if_pos ⟨rfl, rfl, rfl⟩]
          · rw [z5_ne (by omega), zsg_ss, if_pos ⟨rfl, rfl, rfl⟩]
    · rw [zbr_pos (by omega)]
      have hpL : p ∈ L := List.mem_iff_getElem?.mpr ⟨_, ha⟩
      refine fin a K (Mo.refl K) (fun _ _ => rfl) ⟨L, h1, fun q => ?_, h3, h4, by omega, a0, ha, h5⟩
      rw [h2]
      refine ⟨Or.inr, fun z => ?_⟩
      rcases z with z | z
      · rw [z]; exact (h2 p).mp hpL
      · exact z
  · refine zaL_i k0 (by omega) ?_
    obtain ⟨y, hy⟩ : ∃ y, L[k.toNat]? = some y := ⟨_, List.getElem?_eq_getElem (by omega)⟩
    have q := h5 _ y hy
    rw [show ((k.toNat : Nat) : Int) = k by omega] at q
    rw [q.1]
    refine zbr_i (fun hn => ?_) (fun hn => ?_)
    · rw [zlt1_e, w32_eq (by omega) (by omega)]
      refine hPP _ _ ⟨by omega, by omega, ?_⟩ (by omega)
      rcases hf with ⟨rfl, hno⟩ | ha
      · refine Or.inl ⟨rfl, fun j hj z => ?_⟩
        by_cases hjk : (j : Int) = k
        · have : j = k.toNat := by omega
          subst this
          rw [hy] at z
          exact hn (Option.some.inj z)
        · exact hno j (by omega) z
      · exact Or.inr ha
    · rw [zlt1_e, w32_eq (by omega) (by omega)]
      refine hPP _ _ ⟨by omega, by omega, Or.inr ⟨k0, ?_⟩⟩ (by omega)
      rw [hy, Decidable.of_not_not hn]
