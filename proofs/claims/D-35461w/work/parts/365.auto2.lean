/-! COMPONENT: codes are led to where they go; what codes do -/
set_option maxRecDepth 100000
def ld (M : Int → Int) (a m t : Int) : Int → Int := fun i => if a ≤ i ∧ i < m ∧ (i - a) % 5 = 4 ∧ M i = -1 ∧ M (i - 4) ≠ 5 then t else M i
theorem w5_lead {G0 G : ZG} {N m a t : Int} {M : Int → Int} {Q : ZG → Prop} (hF : Fr [4] G0 G) (h : Am G N m M) (a0 : 0 ≤ a) (ha : a ≤ m) (h5 : (m - a) % 5 = 0) (hm : m ≤ N) (hN : N ≤ 32000)
    (hQ : ∀ G', Fr [4] G0 G' → Am G' N m (ld M a m t) → Kp G G' → Q G') : vX5_lead a t G Q := by
  unfold vX5_lead
  refine zl2_of (fun i K => a ≤ i ∧ i ≤ m ∧ (i - a) % 5 = 0 ∧ Fr [4] G0 K ∧ Am K N m (ld M a i t) ∧ Kp G K) (fun i _ => (m - i).toNat) (fun P i K hI hPP => ?_) ⟨by omega, ha, by omega, hF, ?_, Kp.refl G⟩
  · obtain ⟨i0, i1, i5, f, am, kp⟩ := hI
    rw [zgF_e, am.m]
    refine zbr_i (fun hi => ?_) (fun hi => ?_)
    · have : i = m := by omega
      subst this
      exact hQ K f am kp
    · rw [zgU_e, zgU_e, w32_eq (x := i + 4) (by omega) (by omega)]
      refine am.get (by omega) (by omega) ?_
      have e4 : ld M a i t (i + 4) = M (i + 4) := by unfold ld; rw [if_neg (by omega)]
      have e0 : ld M a i t i = M i := by unfold ld; rw [if_neg (by omega)]
      rw [e4]
      dsimp only [zjn]
      have fin : ∀ v, v = (if M (i + 4) = -1 ∧ M i ≠ 5 then t else M (i + 4)) → zeS K (zsr K 4 0 0) (i + 4) v fun (G1 : ZG) => zlt1 (w32 (i + 5)) fun (x5 : Int) => P x5 G1 := fun v hv => by
        refine am.set f (by omega) (by omega) _ (fun G' f' am' kp' => ?_)
        rw [zlt1_e, w32_eq (by omega) (by omega)]
        refine hPP _ _ ⟨by omega, by omega, by omega, f', ?_, kp.trans kp'⟩ (by omega)
        have e : (fun j => if j = i + 4 then v else ld M a i t j) = ld M a (i + 5) t := by
          funext j
          by_cases hj : j = i + 4
          · subst hj
            rw [if_pos rfl, hv]
            unfold ld
            rw [show i + 4 - 4 = i by omega]
            by_cases hc : M (i + 4) = -1 ∧ M i ≠ 5
            · rw [if_pos hc, if_pos ⟨by omega, by omega, by omega, hc⟩]
            · rw [if_neg hc, if_neg (fun z => hc z.2.2.2)]
          · rw [if_neg hj]
            unfold ld
            by_cases hc : a ≤ j ∧ j < i ∧ (j - a) % 5 = 4 ∧ M j = -1 ∧ M (j - 4) ≠ 5
            · rw [if_pos hc, if_pos ⟨hc.1, by omega, hc.2.2⟩]
            · rw [if_neg hc, if_neg (fun z => hc ⟨z.1, by omega, z.2.2⟩)]
        rw [e] at am'
        exact am'
      have keep : (¬ (M (i + 4) = -1 ∧ M i ≠ 5)) → zgU K 4 0 fun (x6 : ZR) => zeI K x6 (w32 (i + 4)) fun (x7 : Int) => zeS K (zsr K 4 0 0) (i + 4) x7 fun (G1 : ZG) => zlt1 (w32 (i + 5)) fun (x5 : Int) => P x5 G1 := fun hn => by
        rw [zgU_e, w32_eq (x := i + 4) (by omega) (by omega)]
        refine am.get (by omega) (by omega) ?_
        rw [e4]
        exact fin _ (by rw [if_neg hn])
      rw [w32_eq (x := i + 4) (by omega) (by omega)] at keep
      refine zbr_i (fun h1 => keep (fun z => h1 z.1)) (fun h1 => ?_)
      rw [zgU_e]
      refine am.get (by omega) (by omega) ?_
      rw [e0]
      refine zbr_i (fun h2 => keep (fun z => z.2 h2)) (fun h2 => fin _ (by rw [if_pos ⟨Decidable.of_not_not h1, h2⟩]))
  · have : ld M a a t = M := by funext j; unfold ld; rw [if_neg (by omega)]
    rw [this]; exact h
/-- the parts of a row of codes, one behind the other -/
def ImL (I : Int → Int → Int → Int → Prop) : List (Int × Int) → Int → Int → Prop
  | [], a, b => a = b
  | c :: L, a, b => ∃ m, I c.1 c.2 a m ∧ ImL I L m b
/-- codes that hold a number that a view gave against a pattern: from a to b, else at fl -/
def ImG (D : ZD) (M : Int → Int) : Nat → Int → Int → Int → Int → Prop
  | 0, _, _, _, _ => False
  | f + 1, n, a, b, fl =>
    if D 10 n = 4 then ∃ m, ImG D M f (prt D n 0) a m (m + 5) ∧ a ≤ m ∧ M m = 5 ∧ M (m + 4) = b ∧ ImG D M f (prt D n 1) (m + 5) b fl
    else if D 10 n = 2 then M a = 4 ∧ M (a + 1) = D 11 n ∧ M (a + 2) = D 12 n ∧ M (a + 4) = fl ∧ b = a + 5
    else b = a
/-- a list at the beginning: by its length -/
def ImB (D : ZD) (M : Int → Int) (I : Int → Int → Int → Int → Prop) (n p e : Int) : Nat → Int → Prop
  | 0, a => a = e
  | k + 1, a => ∃ j, M a = 7 ∧ M (a + 1) = p ∧ M (a + 2) = 4 - (k + 1 : Int) ∧ M (a + 4) = j + 5 ∧ ImL I (chs D n p (4 - (k + 1 : Int) - D 11 n)) (a + 5) j ∧ a + 5 ≤ j ∧ M j = 5 ∧ M (j + 4) = e ∧ ImB D M I n p e k (j + 5)
/-- codes that try a pattern at a place: from a to b, else at fl -/
def Imp (D : ZD) (M : Int → Int) : Nat → Int → Int → Int → Int → Int → Prop
  | 0, _, _, _, _, _ => False
  | f + 1, n, p, a, b, fl =>
    if D 10 n = 1 then Imp D M f (prt D n 0) p a b fl
    else if D 10 n = 2 then M a = 0 ∧ M (a + 1) = p ∧ M (a + 2) = D 11 n ∧ M (a + 3) = D 12 n ∧ M (a + 4) = fl ∧ b = a + 5
    else if D 10 n = 3 then M a = 1 ∧ M (a + 1) = p ∧ M (a + 2) = D 11 n % 4 ∧ M (a + 4) = fl ∧ ImL (fun n p a b => Imp D M f n p a b fl) (chs D n p 0) (a + 5) b
    else if D 10 n = 4 then ∃ m, Imp D M f (prt D n 0) p a m (m + 5) ∧ a ≤ m ∧ M m = 5 ∧ M (m + 4) = b ∧ Imp D M f (prt D n 1) p (m + 5) b fl
    else if D 10 n = 5 then M a = 3 ∧ M (a + 1) = D 11 n ∧ M (a + 2) = p ∧ ImG D M 40 (prt D n 0) (a + 5) b fl
    else if D 10 n = 6 then M a = 2 ∧ M (a + 1) = p ∧ M (a + 2) = D 11 n ∧ M (a + 3) = (if D 12 n = 0 then D 11 n else 3) ∧ M (a + 4) = fl ∧
      (if D 12 n = 2 then ImB D M (fun n p a b => Imp D M f n p a b fl) n p b (4 - D 11 n).toNat (a + 5) else ImL (fun n p a b => Imp D M f n p a b fl) (chs D n p 0) (a + 5) b)
    else b = a
theorem ImL_le {I : Int → Int → Int → Int → Prop} : ∀ {L : List (Int × Int)} {a b : Int}, (∀ c ∈ L, ∀ x y, I c.1 c.2 x y → x ≤ y ∧ (y - x) % 5 = 0) → ImL I L a b → a ≤ b ∧ (b - a) % 5 = 0
  | [], a, b, _, h => by have h : a = b := h; omega
  | c :: L, a, b, hI, h => by
    obtain ⟨m, h1, h2⟩ := h
    have a1 := hI c List.mem_cons_self a m h1
    have a2 := ImL_le (fun d hd => hI d (List.mem_cons_of_mem _ hd)) h2
    omega
theorem ImG_le {D : ZD} {M : Int → Int} : ∀ {f : Nat} {n a b fl : Int}, ImG D M f n a b fl → a ≤ b ∧ (b - a) % 5 = 0
  | 0, _, _, _, _, h => h.elim
  | f + 1, n, a, b, fl, h => by
    unfold ImG at h
    by_cases h4 : D 10 n = 4
    · rw [if_pos h4] at h
      obtain ⟨m, h1, h2, h3, h5, h6⟩ := h
      have a1 := ImG_le h1
      have a2 := ImG_le h6
      omega
    · rw [if_neg h4] at h
      by_cases h2 : D 10 n = 2
      · rw [if_pos h2] at h; omega
      · rw [if_neg h2] at h; omega
theorem ImB_le {D : ZD} {M : Int → Int} {I : Int → Int → Int → Int → Prop} (hI : ∀ n p x y, I n p x y → x ≤ y ∧ (y - x) % 5 = 0) {n p e : Int} : ∀ {k : Nat} {a : Int}, ImB D M I n p e k a → a ≤ e ∧ (e - a) % 5 = 0
  | 0, a, h => by have h : a = e := h; omega
  | k + 1, a, h => by
    obtain ⟨j, h1, h2, h3, h4, h5, h6, h7, h8, h9⟩ := h
    have a1 := ImL_le (fun c _ x y q => hI c.1 c.2 x y q) h5
    have a2 := ImB_le hI h9
    omega
theorem Imp_le {D : ZD} {M : Int → Int} : ∀ {f : Nat} {n p a b fl : Int}, Imp D M f n p a b fl → a ≤ b ∧ (b - a) % 5 = 0
  | 0, _, _, _, _, _, h => h.elim
  | f + 1, n, p, a, b, fl, h => by
    have hI : ∀ n p x y, Imp D M f n p x y fl → x ≤ y ∧ (y - x) % 5 = 0 := fun n p x y q => Imp_le q
    unfold Imp at h
    by_cases e1 : D 10 n = 1
    · rw [if_pos e1] at h; exact Imp_le h
    rw [if_neg e1] at h
    by_cases e2 : D 10 n = 2
    · rw [if_pos e2] at h; omega
    rw [if_neg e2] at h
    by_cases e3 : D 10 n = 3
    · rw [if_pos e3] at h
      have := ImL_le (fun c _ x y q => hI c.1 c.2 x y q) h.2.2.2.2
      omega
    rw [if_neg e3] at h
    by_cases e4 : D 10 n = 4
    · rw [if_pos e4] at h
      obtain ⟨m, h1, h2, h3, h5, h6⟩ := h
      have a1 := Imp_le h1
      have a2 := Imp_le h6
      omega
    rw [if_neg e4] at h
    by_cases e5 : D 10 n = 5
    · rw [if_pos e5] at h
      have := ImG_le h.2.2.2
      omega
    rw [if_neg e5] at h
    by_cases e6 : D 10 n = 6
    · rw [if_pos e6] at h
      by_cases h2 : D 12 n = 2
      · rw [if_pos h2] at h
        have := ImB_le hI h.2.2.2.2.2
        omega
      · rw [if_neg h2] at h
        have := ImL_le (fun c _ x y q => hI c.1 c.2 x y q) h.2.2.2.2.2
        omega
    rw [if_neg e6] at h; omega
