/-! REFERENCE: the patterns' operations -/
set_option maxRecDepth 100000
theorem pkn0 (a b c : Int) : pk a b c ((0 : Nat) : Int) = a := rfl
theorem pkn1 (a b c : Int) : pk a b c ((1 : Nat) : Int) = b := rfl
theorem pkn2 (a b c : Int) : pk a b c ((2 : Nat) : Int) = c := rfl
theorem bOr_comm (x y : Int) : bOr x y = bOr y x := by unfold bOr; rw [Int32.or_comm]
theorem bOr_self {x : Int} (h : inR x) : bOr x x = x := by unfold bOr; rw [Int32.or_self, zI_toInt h]
theorem der_e (D : ZD) (a b c : Int) : der D a b c 3 = (fun x : Int => if c = -1 then x else if D 15 c ≤ x then x else D 15 c) ((fun x : Int => if b = -1 then x else if D 15 b ≤ x then x else D 15 b) (if a = -1 then 0 else if D 15 a ≤ 0 then 0 else D 15 a)) := rfl
theorem nmr_e (D : ZD) (n a b c : Int) : nmr D n a b c 3 = (fun x : Int => if c = -1 then x else bOr x (D 17 c)) ((fun x : Int => if b = -1 then x else bOr x (D 17 b)) (if a = -1 then n else bOr n (D 17 a))) := rfl
theorem hvr_e (D : ZD) (n a b c : Int) : hvr D n a b c 3 = (fun x : Int => if c = -1 then x else if x ≠ 0 ∨ D 18 c ≠ 0 then 1 else 0) ((fun x : Int => if b = -1 then x else if x ≠ 0 ∨ D 18 b ≠ 0 then 1 else 0) (if a = -1 then n else if n ≠ 0 ∨ D 18 a ≠ 0 then 1 else 0)) := rfl
theorem bar_e (D : ZD) (n a b c : Int) : bar D n a b c 3 = (fun x : Int => if c = -1 then x else if x ≠ 0 ∧ D 19 c ≠ 0 then 1 else 0) ((fun x : Int => if b = -1 then x else if x ≠ 0 ∧ D 19 b ≠ 0 then 1 else 0) (if a = -1 then n else if n ≠ 0 ∧ D 19 a ≠ 0 then 1 else 0)) := rfl
theorem bar_0 (D : ZD) (a b c : Int) : bar D 0 a b c 3 = 0 := by
  rw [bar_e]; by_cases ha : a = -1 <;> by_cases hb : b = -1 <;> by_cases hc : c = -1 <;> simp [ha, hb, hc]
theorem mpv_0 (D : ZD) (head rest kind form : Int) : mpv D form head rest (-1) (-1) (-1) kind = pv form head rest kind (0 + if form = 1 ∨ form = 4 ∨ form = 5 then 0 else 1) (1 + 0 + 0 + 0) (if form = 1 then bShl 1 head else 0) (if form = 5 then 1 else 0) (if form = 1 ∨ form = 5 ∨ form = 3 ∨ form = 6 then 0 else 1) := rfl
theorem zbr_e0 {b : Bool} {A B : Prop} : zbr (bb b = 0) A B = if b = true then B else A := by
  cases b
  · rw [zbr_pos (show bb false = 0 from rfl), if_neg (by simp)]
  · rw [zbr_neg (by simp [bb]), if_pos rfl]
theorem w6_isFull {G : ZG} {Q : Int → Prop} (hQ : Q (bb (decide (zsg G 5 9 0 = 60)))) : vX6_isFull G Q := by
  unfold vX6_isFull
  rw [zgF_e]
  dsimp only [zjn]
  by_cases h : zsg G 5 9 0 = 60
  · rw [decide_eq_true h] at hQ; rw [zbr_neg (fun q => q h)]; exact hQ
  · rw [decide_eq_false h] at hQ; rw [zbr_pos h]; exact hQ
theorem w6_isPattern {G : ZG} {n : Int} {Q : Int → Prop} (hM : MI (zsg G 5)) (hQ : Q (bb (decide (0 ≤ n ∧ n < zsg G 5 9 0)))) : vX6_isPattern n G Q := by
  have m9 : 0 ≤ zsg G 5 9 0 ∧ zsg G 5 9 0 ≤ 60 := ⟨hM.2.2.1.1, hM.2.2.1.2.1⟩
  unfold vX6_isPattern
  rw [zgF_e, eX6_in, w32_eq (by omega) (by omega)]
  by_cases h : 0 ≤ n ∧ n < zsg G 5 9 0
  · rw [decide_eq_true h] at hQ
    rw [decide_eq_true h.1, decide_eq_true (show n ≤ zsg G 5 9 0 - 1 by omega)]; exact hQ
  · rw [decide_eq_false h] at hQ
    by_cases h0 : 0 ≤ n
    · rw [decide_eq_true h0, decide_eq_false (show ¬ n ≤ zsg G 5 9 0 - 1 by omega)]; exact hQ
    · rw [decide_eq_false h0]; exact hQ
/-- a pattern refused or made -/
theorem r6_fin {G : ZG} {D : ZD} {form head rest a b c kind : Int} {v : Nat → Int} {Q : Int → ZG → Prop} (hD : zsg G 5 = D) (hM : MI D) (h60 : D 9 0 < 60) (ho : ∀ k, 0 ≤ k → k < 3 → op D (pk a b c k)) (hv : mpv D form head rest a b c kind = v)
    (hQ : ∀ G', Mo G G' → zsg G' 5 0 0 = 0 → (∀ j, j ≠ 0 → zsg G' 5 j = addP D v a b c j) → Q (D 9 0) G') : vX6_pattern form head rest a b c kind (zss G 5 0 0 0) Q := by
  refine s6_pattern (D := D) hM (fun j hj => by rw [z5_ne hj, hD]) h60 ho (fun G' mo e0 ej => hQ G' (((Mo.refl G).ss _ _ _).trans mo) ?_ (by rw [hv] at ej; exact ej))
  rw [e0, z5_eq]; rfl
theorem op_n (D : ZD) {a b c k : Int} (h0 : 0 ≤ k) (h3 : k < 3) (ha : op D a) (hb : op D b) (hc : op D c) : op D (pk a b c k) := by
  have : k = 0 ∨ k = 1 ∨ k = 2 := by omega
  rcases this with rfl | rfl | rfl
  · exact ha
  · exact hb
  · exact hc
theorem k6_any {G : ZG} {D : ZD} {Q : Int → ZG → Prop} (hD : zsg G 5 = D) (hM : MI D) (h1 : D 9 0 = 60 → Q 0 (zss G 5 0 0 1))
    (hQ : D 9 0 < 60 → ∀ G', Mo G G' → zsg G' 5 0 0 = 0 → (∀ j, j ≠ 0 → zsg G' 5 j = addP D (pv 0 0 0 (-1) 1 1 0 0 1) (-1) (-1) (-1) j) → Q (D 9 0) G') : vX6_any G Q := by
  unfold vX6_any
  refine w6_isFull ?_
  rw [hD]
  dsimp only [zjn]
  by_cases h : D 9 0 = 60
  · rw [decide_eq_true h, zbr_neg (by simp [bb]), eX6_refused, zbr_neg (by simp [bb])]
    exact h1 h
  · have m9 := hM.2.2.1.2.1
    rw [decide_eq_false h, zbr_pos (show bb false = 0 from rfl), eX6_refused, zbr_pos (show bb (decide ((0 : Int) ≠ 0)) = 0 from rfl)]
    exact r6_fin hD hM (by omega) (fun k k0 k3 => op_n D k0 k3 (Or.inl rfl) (Or.inl rfl) (Or.inl rfl)) (mpv_0 D 0 0 (-1) 0) (hQ (by omega))
theorem k6_range {G : ZG} {D : ZD} {a b : Int} {Q : Int → ZG → Prop} (hD : zsg G 5 = D) (hM : MI D) (h1 : ¬ ((0 ≤ a ∧ a ≤ 9) ∧ a ≤ b ∧ b ≤ 9) → Q 0 (zss G 5 0 0 1)) (h2 : (0 ≤ a ∧ a ≤ 9) ∧ a ≤ b ∧ b ≤ 9 → D 9 0 = 60 → Q 0 (zss G 5 0 0 2))
    (hQ : (0 ≤ a ∧ a ≤ 9) ∧ a ≤ b ∧ b ≤ 9 → D 9 0 < 60 → ∀ G', Mo G G' → zsg G' 5 0 0 = 0 → (∀ j, j ≠ 0 → zsg G' 5 j = addP D (pv 2 a b 4 1 1 0 0 1) (-1) (-1) (-1) j) → Q (D 9 0) G') : vX6_range a b G Q := by
  have m9 := hM.2.2.1.2.1
  unfold vX6_range
  rw [eX6_in]
  dsimp only [zjn]
  have no : ¬ ((0 ≤ a ∧ a ≤ 9) ∧ a ≤ b ∧ b ≤ 9) → zbr ((0 : Int) ≠ 0) (vX6_isFull G fun x4 => zbr (x4 = 0) (vX6_refused 0 G fun x2 G1 => zbr (x2 = 0) (vX6_pattern 2 a b (-1) (-1) (-1) 4 G1 fun x3 G2 => Q x3 G2) (Q 0 G1)) (vX6_refused 2 G fun x2 G1 => zbr (x2 = 0) (vX6_pattern 2 a b (-1) (-1) (-1) 4 G1 fun x3 G2 => Q x3 G2) (Q 0 G1))) (vX6_refused 1 G fun x2 G1 => zbr (x2 = 0) (vX6_pattern 2 a b (-1) (-1) (-1) 4 G1 fun x3 G2 => Q x3 G2) (Q 0 G1)) := by
    intro h
    rw [zbr_neg (by omega), eX6_refused, zbr_neg (by simp [bb])]; exact h1 h
  refine zbr_i (fun h => no (fun q => by rw [decide_eq_true q.1.1, decide_eq_true q.1.2] at h; cases h)) (fun h => ?_)
  rw [eX6_in]
  refine zbr_i (fun h2 => no (fun q => by rw [decide_eq_true q.2.1, decide_eq_true q.2.2] at h2; cases h2)) (fun h2' => ?_)
  have hok : (0 ≤ a ∧ a ≤ 9) ∧ a ≤ b ∧ b ≤ 9 := by
    rw [bb0] at h h2'; simp at h h2'; omega
  rw [zbr_pos (by omega)]
  refine w6_isFull ?_
  rw [hD]
  by_cases h : D 9 0 = 60
  · rw [decide_eq_true h, zbr_neg (by simp [bb]), eX6_refused, zbr_neg (by simp [bb])]
    exact h2 hok h
  · rw [decide_eq_false h, zbr_pos (show bb false = 0 from rfl), eX6_refused, zbr_pos (show bb (decide ((0 : Int) ≠ 0)) = 0 from rfl)]
    exact r6_fin hD hM (by omega) (fun k k0 k3 => op_n D k0 k3 (Or.inl rfl) (Or.inl rfl) (Or.inl rfl)) (mpv_0 D a b 4 2) (hQ hok (by omega))
