/-! COMPONENT: codes stay what they are where others are written, and where they are led -/
set_option maxRecDepth 100000
def Chd (M M' : Int → Int) (lo hi t : Int) : Prop := ∀ i, lo ≤ i → i < hi → (i - lo) % 5 = 0 → M' i = M i ∧ M' (i + 1) = M (i + 1) ∧ M' (i + 2) = M (i + 2) ∧ M' (i + 3) = M (i + 3) ∧ M' (i + 4) = if M (i + 4) = -1 ∧ M i ≠ 5 then t else M (i + 4)
theorem Chd.same {M M' : Int → Int} {lo hi : Int} (h : ∀ i, lo ≤ i → i < hi → M' i = M i) (h5 : (hi - lo) % 5 = 0) : Chd M M' lo hi (-1) := fun i i0 i1 i5 => by
  refine ⟨h i i0 i1, h _ (by omega) (by omega), h _ (by omega) (by omega), h _ (by omega) (by omega), ?_⟩
  rw [h _ (by omega) (by omega)]
  by_cases hc : M (i + 4) = -1 ∧ M i ≠ 5
  · rw [if_pos hc, hc.1]
  · rw [if_neg hc]
theorem Chd.led {M : Int → Int} {lo hi t : Int} (h5 : (hi - lo) % 5 = 0) : Chd M (ld M lo hi t) lo hi t := fun i i0 i1 i5 => by
  unfold ld
  refine ⟨if_neg (by omega), if_neg (by omega), if_neg (by omega), if_neg (by omega), ?_⟩
  rw [show i + 4 - 4 = i by omega]
  by_cases hc : M (i + 4) = -1 ∧ M i ≠ 5
  · rw [if_pos hc, if_pos ⟨by omega, by omega, by omega, hc⟩]
  · rw [if_neg hc, if_neg (fun z => hc z.2.2.2)]
theorem Chd.sub {M M' : Int → Int} {lo hi t a b : Int} (h : Chd M M' lo hi t) (ha : lo ≤ a) (h5 : (a - lo) % 5 = 0) (hb : b ≤ hi) : Chd M M' a b t := fun i i0 i1 i5 => h i (by omega) (by omega) (by omega)
def sg (fl t : Int) : Int := if fl = -1 then t else fl
theorem sg_n {fl t : Int} (h : 0 ≤ fl) : sg fl t = fl := if_neg (by omega)
theorem sg_m {t : Int} : sg (-1) t = t := if_pos rfl
/-- the slot of a code that may fail -/
theorem Chd.slot {M M' : Int → Int} {lo hi t i fl : Int} (h : Chd M M' lo hi t) (i0 : lo ≤ i) (i1 : i < hi) (i5 : (i - lo) % 5 = 0) (hs : M (i + 4) = fl) (hj : M i ≠ 5) : M' (i + 4) = sg fl t := by
  rw [(h i i0 i1 i5).2.2.2.2]
  unfold sg
  by_cases hf : fl = -1
  · rw [if_pos ⟨by omega, hj⟩, if_pos hf]
  · rw [if_neg (fun z => hf (by omega)), if_neg hf, hs]
theorem Chd.jump {M M' : Int → Int} {lo hi t i : Int} (h : Chd M M' lo hi t) (i0 : lo ≤ i) (i1 : i < hi) (i5 : (i - lo) % 5 = 0) (hj : M i = 5) : M' (i + 4) = M (i + 4) := by
  rw [(h i i0 i1 i5).2.2.2.2, if_neg (fun z => z.2 hj)]
theorem ImL_ch {I I' : Int → Int → Int → Int → Prop} {lo hi : Int} : ∀ {L : List (Int × Int)} {a b : Int}, (∀ c ∈ L, ∀ x y, I c.1 c.2 x y → x ≤ y ∧ (y - x) % 5 = 0) → (∀ c ∈ L, ∀ x y, lo ≤ x → (x - lo) % 5 = 0 → y ≤ hi → I c.1 c.2 x y → I' c.1 c.2 x y) → lo ≤ a → (a - lo) % 5 = 0 → b ≤ hi → ImL I L a b → ImL I' L a b
  | [], a, b, _, _, _, _, _, h => h
  | c :: L, a, b, hl, hI, ha, h5, hb, h => by
    obtain ⟨m, h1, h2⟩ := h
    have a1 := hl c List.mem_cons_self a m h1
    have a2 := ImL_le (fun d hd => hl d (List.mem_cons_of_mem _ hd)) h2
    exact ⟨m, hI c List.mem_cons_self a m ha h5 (by omega) h1, ImL_ch (fun d hd => hl d (List.mem_cons_of_mem _ hd)) (fun d hd => hI d (List.mem_cons_of_mem _ hd)) (by omega) (by omega) hb h2⟩
theorem ImG_ch {D : ZD} {M M' : Int → Int} {lo hi t : Int} (hC : Chd M M' lo hi t) : ∀ {f : Nat} {n a b fl : Int}, 0 ≤ a → lo ≤ a → (a - lo) % 5 = 0 → b ≤ hi → ImG D M f n a b fl → ImG D M' f n a b (sg fl t)
  | 0, _, _, _, _, _, _, _, _, h => h.elim
  | f + 1, n, a, b, fl, a0, ha, h5, hb, h => by
    unfold ImG at h ⊢
    by_cases h4 : D 10 n = 4
    · rw [if_pos h4] at h ⊢
      obtain ⟨m, h1, h2, h3, h5', h6⟩ := h
      have a1 := ImG_le h1
      have a2 := ImG_le h6
      have q1 := ImG_ch hC a0 ha h5 (by omega) h1
      rw [sg_n (by omega)] at q1
      exact ⟨m, q1, h2, by rw [(hC m (by omega) (by omega) (by omega)).1, h3], by rw [hC.jump (by omega) (by omega) (by omega) h3, h5'], ImG_ch hC (by omega) (by omega) (by omega) hb h6⟩
    · rw [if_neg h4] at h ⊢
      by_cases h2 : D 10 n = 2
      · rw [if_pos h2] at h ⊢
        have c := hC a ha (by omega) h5
        exact ⟨by rw [c.1, h.1], by rw [c.2.1, h.2.1], by rw [c.2.2.1, h.2.2.1], hC.slot ha (by omega) h5 h.2.2.2.1 (by omega), h.2.2.2.2⟩
      · rw [if_neg h2] at h ⊢; exact h
theorem ImB_ch {D : ZD} {M M' : Int → Int} {I I' : Int → Int → Int → Int → Prop} {lo hi t : Int} (hC : Chd M M' lo hi t) (hl : ∀ n p x y, I n p x y → x ≤ y ∧ (y - x) % 5 = 0) (hI : ∀ n p x y, 0 ≤ x → lo ≤ x → (x - lo) % 5 = 0 → y ≤ hi → I n p x y → I' n p x y) {n p e : Int} : ∀ {k : Nat} {a : Int}, 0 ≤ a → lo ≤ a → (a - lo) % 5 = 0 → e ≤ hi → ImB D M I n p e k a → ImB D M' I' n p e k a
  | 0, a, _, _, _, _, h => h
  | k + 1, a, a0, ha, h5, he, h => by
    obtain ⟨j, h1, h2, h3, h4, h5', h6, h7, h8, h9⟩ := h
    have a1 := ImL_le (fun c _ x y q => hl c.1 c.2 x y q) h5'
    have a2 := ImB_le hl h9
    have c := hC a ha (by omega) h5
    have q := hC.slot ha (by omega) h5 h4 (by omega)
    rw [sg_n (by omega)] at q
    refine ⟨j, by rw [c.1, h1], by rw [c.2.1, h2], by rw [c.2.2.1, h3], q, ?_, h6, by rw [(hC j (by omega) (by omega) (by omega)).1, h7], by rw [hC.jump (by omega) (by omega) (by omega) h7, h8], ImB_ch hC hl hI (by omega) (by omega) (by omega) he h9⟩
    have hC' := hC.sub (a := a) (b := hi) ha h5 (Int.le_refl _)
    exact ImL_ch (lo := a) (hi := hi) (fun c _ x y q => hl c.1 c.2 x y q) (fun c _ x y q1 q2 q3 q4 => hI c.1 c.2 x y (by omega) (by omega) (by omega) q3 q4) (by omega) (by omega) (by omega) h5'
theorem Imp_ch {D : ZD} {M M' : Int → Int} {lo hi t : Int} (hC : Chd M M' lo hi t) : ∀ {f : Nat} {n p a b fl : Int}, 0 ≤ a → lo ≤ a → (a - lo) % 5 = 0 → b ≤ hi → Imp D M f n p a b fl → Imp D M' f n p a b (sg fl t)
  | 0, _, _, _, _, _, _, _, _, _, h => h.elim
  | f + 1, n, p, a, b, fl, a0, ha, h5, hb, h => by
    have hl : ∀ n p x y, Imp D M f n p x y fl → x ≤ y ∧ (y - x) % 5 = 0 := fun n p x y q => Imp_le q
    have hI : ∀ n p x y, 0 ≤ x → lo ≤ x → (x - lo) % 5 = 0 → y ≤ hi → Imp D M f n p x y fl → Imp D M' f n p x y (sg fl t) := fun n p x y q0 q1 q2 q3 q4 => Imp_ch hC q0 q1 q2 q3 q4
    have hL : ∀ (L : List (Int × Int)) (x y : Int), 0 ≤ x → lo ≤ x → (x - lo) % 5 = 0 → y ≤ hi → ImL (fun n p a b => Imp D M f n p a b fl) L x y → ImL (fun n p a b => Imp D M' f n p a b (sg fl t)) L x y := fun L x y q0 q1 q2 q3 q4 =>
      ImL_ch (lo := x) (hi := hi) (fun c _ x y q => hl c.1 c.2 x y q) (fun c _ x' y' w1 w2 w3 w4 => hI c.1 c.2 x' y' (by omega) (by omega) (by omega) w3 w4) (Int.le_refl _) (by omega) q3 q4
    have hle := Imp_le h
    unfold Imp at h ⊢
    by_cases e1 : D 10 n = 1
    · rw [if_pos e1] at h ⊢; exact Imp_ch hC a0 ha h5 hb h
    rw [if_neg e1] at h ⊢
    by_cases e2 : D 10 n = 2
    · rw [if_pos e2] at h ⊢
      have c := hC a ha (by omega) h5
      exact ⟨by rw [c.1, h.1], by rw [c.2.1, h.2.1], by rw [c.2.2.1, h.2.2.1], by rw [c.2.2.2.1, h.2.2.2.1], hC.slot ha (by omega) h5 h.2.2.2.2.1 (by omega), h.2.2.2.2.2⟩
    rw [if_neg e2] at h ⊢
    by_cases e3 : D 10 n = 3
    · rw [if_pos e3] at h ⊢
      have a1 := ImL_le (fun c _ x y q => hl c.1 c.2 x y q) h.2.2.2.2
      have c := hC a ha (by omega) h5
      exact ⟨by rw [c.1, h.1], by rw [c.2.1, h.2.1], by rw [c.2.2.1, h.2.2.1], hC.slot ha (by omega) h5 h.2.2.2.1 (by omega), hL _ _ _ (by omega) (by omega) (by omega) hb h.2.2.2.2⟩
    rw [if_neg e3] at h ⊢
    by_cases e4 : D 10 n = 4
    · rw [if_pos e4] at h ⊢
      obtain ⟨m, h1, h2, h3, h5', h6⟩ := h
      have a1 := Imp_le h1
      have a2 := Imp_le h6
      have q1 := Imp_ch hC a0 ha h5 (by omega) h1
      rw [sg_n (by omega)] at q1
      exact ⟨m, q1, h2, by rw [(hC m (by omega) (by omega) (by omega)).1, h3], by rw [hC.jump (by omega) (by omega) (by omega) h3, h5'], Imp_ch hC (by omega) (by omega) (by omega) hb h6⟩
    rw [if_neg e4] at h ⊢
    by_cases e5 : D 10 n = 5
    · rw [if_pos e5] at h ⊢
      have a1 := ImG_le h.2.2.2
      have c := hC a ha (by omega) h5
      exact ⟨by rw [c.1, h.1], by rw [c.2.1, h.2.1], by rw [c.2.2.1, h.2.2.1], ImG_ch hC (by omega) (by omega) (by omega) hb h.2.2.2⟩
    rw [if_neg e5] at h ⊢
    by_cases e6 : D 10 n = 6
    · rw [if_pos e6] at h ⊢
      have a1 : a + 5 ≤ b := by
        by_cases h2 : D 12 n = 2
        · rw [if_pos h2] at h; exact (ImB_le hl h.2.2.2.2.2).1
        · rw [if_neg h2] at h; exact (ImL_le (fun c _ x y q => hl c.1 c.2 x y q) h.2.2.2.2.2).1
      have c := hC a ha (by omega) h5
      refine ⟨by rw [c.1, h.1], by rw [c.2.1, h.2.1], by rw [c.2.2.1, h.2.2.1], by rw [c.2.2.2.1, h.2.2.2.1], hC.slot ha (by omega) h5 h.2.2.2.2.1 (by omega), ?_⟩
      by_cases h2 : D 12 n = 2
      · rw [if_pos h2] at h ⊢
        exact ImB_ch hC hl hI (by omega) (by omega) (by omega) hb h.2.2.2.2.2
      · rw [if_neg h2] at h ⊢
        exact hL _ _ _ (by omega) (by omega) (by omega) hb h.2.2.2.2.2
    rw [if_neg e6] at h ⊢; exact h
