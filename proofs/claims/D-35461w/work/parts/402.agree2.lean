/-! AUTOMATON: patterns and values that are added change no codes -/
set_option maxRecDepth 100000
theorem ImL_congr {I J : Int → Int → Int → Int → Prop} : ∀ (L : List (Int × Int)), (∀ c ∈ L, ∀ a b, I c.1 c.2 a b = J c.1 c.2 a b) → ∀ a b, ImL I L a b = ImL J L a b
  | [], _, a, b => rfl
  | c :: L, h, a, b => by
    have ih := ImL_congr L (fun d hd => h d (List.mem_cons_of_mem _ hd))
    show (∃ m, I c.1 c.2 a m ∧ ImL I L m b) = (∃ m, J c.1 c.2 a m ∧ ImL J L m b)
    simp only [h c List.mem_cons_self, ih]
theorem agr_img {D D' : ZD} {M : Int → Int} (h : Agr D D') (hM : MIp D) : ∀ (f : Nat) (n a b fl : Int), 0 ≤ n → n < D 9 0 → ImG D' M f n a b fl = ImG D M f n a b fl
  | 0, _, _, _, _, _, _ => rfl
  | f + 1, n, a, b, fl, h0, h1 => by
    obtain ⟨a10, a11, a12, a13⟩ := h.2 n h0 h1
    have e1 : ∀ D : ZD, ImG D M (f + 1) n a b fl = if D 10 n = 4 then ∃ m, ImG D M f (prt D n 0) a m (m + 5) ∧ a ≤ m ∧ M m = 5 ∧ M (m + 4) = b ∧ ImG D M f (prt D n 1) (m + 5) b fl
      else if D 10 n = 2 then M a = 4 ∧ M (a + 1) = D 11 n ∧ M (a + 2) = D 12 n ∧ M (a + 4) = fl ∧ b = a + 5 else b = a := fun D => rfl
    rw [e1, e1, a10, a11, a12, agr_prt h h0 h1 (k := 0) (by omega) (by omega), agr_prt h h0 h1 (k := 1) (by omega) (by omega)]
    by_cases h4 : D 10 n = 4
    · have c1 := (hM.2.2 n h0 h1).2.2.2.2.2.2.2.2.2.2.2.2.2.2.2.1 h4
      have q0 := pch hM h0 h1 (k := 0) (by omega) (by omega) (by omega)
      have q1 := pch hM h0 h1 (k := 1) (by omega) (by omega) (by omega)
      rw [if_pos h4, if_pos h4]
      have g0 : ∀ a b fl, ImG D' M f (prt D n 0) a b fl = ImG D M f (prt D n 0) a b fl := fun a b fl => agr_img h hM f _ a b fl q0.1 q0.2.1
      have g1 : ∀ a b fl, ImG D' M f (prt D n 1) a b fl = ImG D M f (prt D n 1) a b fl := fun a b fl => agr_img h hM f _ a b fl q1.1 q1.2.1
      simp only [g0, g1]
    · rw [if_neg h4, if_neg h4]
theorem agr_imb {D D' : ZD} {M : Int → Int} {I J : Int → Int → Int → Int → Prop} {n p e : Int} (h : Agr D D') (h0 : 0 ≤ n) (h1 : n < D 9 0) (hI : ∀ j, ∀ c ∈ chs D n p j, ∀ a b, I c.1 c.2 a b = J c.1 c.2 a b) : ∀ (k : Nat) (a : Int), ImB D' M I n p e k a = ImB D M J n p e k a
  | 0, a => rfl
  | k + 1, a => by
    have ih := agr_imb (M := M) (e := e) h h0 h1 hI k
    obtain ⟨a10, a11, a12, a13⟩ := h.2 n h0 h1
    show (∃ j, M a = 7 ∧ M (a + 1) = p ∧ M (a + 2) = 4 - (k + 1 : Int) ∧ M (a + 4) = j + 5 ∧ ImL I (chs D' n p (4 - (k + 1 : Int) - D' 11 n)) (a + 5) j ∧ a + 5 ≤ j ∧ M j = 5 ∧ M (j + 4) = e ∧ ImB D' M I n p e k (j + 5)) = (∃ j, M a = 7 ∧ M (a + 1) = p ∧ M (a + 2) = 4 - (k + 1 : Int) ∧ M (a + 4) = j + 5 ∧ ImL J (chs D n p (4 - (k + 1 : Int) - D 11 n)) (a + 5) j ∧ a + 5 ≤ j ∧ M j = 5 ∧ M (j + 4) = e ∧ ImB D M J n p e k (j + 5))
    rw [a11, agr_chs h h0 h1]
    have g : ∀ j, ImL I (chs D n p (4 - (k + 1 : Int) - D 11 n)) (a + 5) j = ImL J (chs D n p (4 - (k + 1 : Int) - D 11 n)) (a + 5) j := fun j => ImL_congr _ (hI _) _ _
    simp only [ih, g]
theorem agr_imp {D D' : ZD} {M : Int → Int} (h : Agr D D') (hM : MI D) : ∀ (f : Nat) (n p a b fl : Int), 0 ≤ n → n < D 9 0 → Imp D' M f n p a b fl = Imp D M f n p a b fl := by
  intro f
  induction f with
  | zero => intro n p a b fl _ _; rfl
  | succ f ih =>
    intro n p a b fl h0 h1
    have hpw := hM.2.2.1.2.2 n h0 h1
    obtain ⟨a10, a11, a12, a13⟩ := h.2 n h0 h1
    obtain ⟨hform, -, -, -, -, -, -, -, -, -, -, f0, f1, f2, f3, f4, f5, f6⟩ := id hpw
    have p0 := agr_prt h h0 h1 (k := 0) (by omega) (by omega)
    have p1 := agr_prt h h0 h1 (k := 1) (by omega) (by omega)
    have hch : ∀ j, ∀ c ∈ chs D n p j, ∀ a b, Imp D' M f c.1 c.2 a b fl = Imp D M f c.1 c.2 a b fl := fun j c hc a b => by
      obtain ⟨i, i0, i3, hi, rfl⟩ := chs_mem hc
      have qi := pch hM.2.2.1 h0 h1 i0 i3 hi
      exact ih _ _ _ _ _ qi.1 qi.2.1
    have parts : ∀ j x y, ImL (fun n p a b => Imp D' M f n p a b fl) (chs D' n p j) x y = ImL (fun n p a b => Imp D M f n p a b fl) (chs D n p j) x y := fun j x y => by
      rw [agr_chs h h0 h1]
      exact ImL_congr _ (fun c hc a b => hch j c hc a b) x y
    rw [Imp_s, Imp_s, a10, a11, a12]
    by_cases e1 : D 10 n = 1
    · have c1 := f1 e1
      have q0 := pch hM.2.2.1 h0 h1 (k := 0) (by omega) (by omega) (by omega)
      rw [if_pos e1, if_pos e1, p0, ih _ p a b fl q0.1 q0.2.1]
    rw [if_neg e1, if_neg e1]
    by_cases e2 : D 10 n = 2
    · rw [if_pos e2, if_pos e2]
    rw [if_neg e2, if_neg e2]
    by_cases e3 : D 10 n = 3
    · rw [if_pos e3, if_pos e3, parts]
    rw [if_neg e3, if_neg e3]
    by_cases e4 : D 10 n = 4
    · have c4 := f4 e4
      have q0 := pch hM.2.2.1 h0 h1 (k := 0) (by omega) (by omega) (by omega)
      have q1 := pch hM.2.2.1 h0 h1 (k := 1) (by omega) (by omega) (by omega)
      rw [if_pos e4, if_pos e4, p0, p1]
      have g0 : ∀ a b fl, Imp D' M f (prt D n 0) p a b fl = Imp D M f (prt D n 0) p a b fl := fun a b fl => ih _ p a b fl q0.1 q0.2.1
      have g1 : ∀ a b fl, Imp D' M f (prt D n 1) p a b fl = Imp D M f (prt D n 1) p a b fl := fun a b fl => ih _ p a b fl q1.1 q1.2.1
      simp only [g0, g1]
    rw [if_neg e4, if_neg e4]
    by_cases e5 : D 10 n = 5
    · have c5 := f5 e5
      have q0 := pch hM.2.2.1 h0 h1 (k := 0) (by omega) (by omega) (by omega)
      rw [if_pos e5, if_pos e5, p0, agr_img h hM.2.2.1 40 _ _ _ _ q0.1 q0.2.1]
    rw [if_neg e5, if_neg e5]
    by_cases e6 : D 10 n = 6
    · rw [if_pos e6, if_pos e6, parts, agr_imb (J := fun n p a b => Imp D M f n p a b fl) h h0 h1 (fun j c hc a b => hch j c hc a b)]
    rw [if_neg e6, if_neg e6]
theorem agr_aub {D D' : ZD} {G : ZG} (h : Agr D D') (hM : MI D) (hA : AuB G D) : AuB G D' := by
  obtain ⟨N, m, M, e, h1, h2, h3, h4, h5, h6⟩ := hA
  refine ⟨N, m, M, e, h1, h2, h3, h4, ?_, h6⟩
  have key : ∀ f, Prg D' (fun M n p a b fl => Imp D' M f n p a b fl) M (csl D') 0 e = Prg D (fun M n p a b fl => Imp D M f n p a b fl) M (csl D) 0 e := fun f => by
    unfold Prg
    rw [agr_csl h]
    refine ImL_congr _ (fun x hx a b => ?_) 0 e
    obtain ⟨c, hc, rfl⟩ := List.mem_map.mp hx
    have hc := csl_mem hc
    unfold ImC
    dsimp only
    rw [agr_cols h]
    have g : ∀ m, ImL (fun n p x y => Imp D' M f n p x y b) (cols D c) a m = ImL (fun n p x y => Imp D M f n p x y b) (cols D c) a m := fun m => ImL_congr _ (fun x hx a' b' => by
      obtain ⟨i, i0, i1, _, g0, g1, _⟩ := cols_tq (e := []) hM hc hx
      exact agr_imp h hM f _ _ _ _ _ g0 g1) a m
    simp only [g]
  unfold IP at h5 ⊢
  rw [key]; exact h5
theorem agr_aui {D D' : ZD} {G : ZG} (h : Agr D D') (hM : MI D) (hA : AuI G D) : AuI G D' := ⟨hA.1, fun h2 => agr_aub h hM (hA.2 h2)⟩
