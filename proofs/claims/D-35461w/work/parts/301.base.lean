/-! BASE OF LAYER 2: branches, small methods as equations -/
set_option maxRecDepth 100000
theorem bb_t : bb true = 1 := rfl
theorem bb_f : bb false = 0 := rfl
theorem bb0 (b : Bool) : (bb b = 0) = (b = false) := by cases b <;> simp [bb]
theorem bb1 (b : Bool) : (bb b = 1) = (b = true) := by cases b <;> simp [bb]
theorem bb0n (b : Bool) : (bb b ≠ 0) = (b = true) := by cases b <;> simp [bb]
theorem bb1n (b : Bool) : (bb b ≠ 1) = (b = false) := by cases b <;> simp [bb]
theorem bb_or (b : Bool) : bb b = 0 ∨ bb b = 1 := by cases b <;> simp [bb]
theorem zbr_pos {c A B : Prop} (h : c) : zbr c A B = A := propext ⟨fun x => x.1 h, fun x => ⟨fun _ => x, fun n => absurd h n⟩⟩
theorem zbr_neg {c A B : Prop} (h : ¬ c) : zbr c A B = B := propext ⟨fun x => x.2 h, fun x => ⟨fun n => absurd n h, fun _ => x⟩⟩
theorem zbr_t {A B : Prop} : zbr True A B = A := zbr_pos trivial
theorem zbr_f {A B : Prop} : zbr False A B = B := zbr_neg (fun h => h)
theorem zbr_i {c A B : Prop} (h1 : c → A) (h2 : ¬ c → B) : zbr c A B := ⟨h1, h2⟩
theorem zbr_ite (c A B : Prop) [Decidable c] : zbr c A B = if c then A else B := by
  by_cases h : c
  · rw [if_pos h, zbr_pos h]
  · rw [if_neg h, zbr_neg h]
theorem zbr_or {c d A B : Prop} : zbr c A (zbr d A B) = zbr (c ∨ d) A B := by
  by_cases h : c
  · rw [zbr_pos h, zbr_pos (Or.inl h)]
  · rw [zbr_neg h]
    by_cases h2 : d
    · rw [zbr_pos h2, zbr_pos (Or.inr h2)]
    · rw [zbr_neg h2, zbr_neg (fun q => q.elim h h2)]
theorem zbr_and {c d A B : Prop} : zbr c (zbr d A B) B = zbr (c ∧ d) A B := by
  by_cases h : c
  · rw [zbr_pos h]
    by_cases h2 : d
    · rw [zbr_pos h2, zbr_pos ⟨h, h2⟩]
    · rw [zbr_neg h2, zbr_neg (fun q => h2 q.2)]
  · rw [zbr_neg h, zbr_neg (fun q => h q.1)]
theorem zlt1_e {α : Type} (e : α) (Q : α → Prop) : zlt1 e Q = Q e := propext ⟨fun h => h e rfl, fun h x hx => by subst hx; exact h⟩
theorem zgF_e (G : ZG) (o j : Nat) (Q : Int → Prop) : zgF G o j Q = Q (zsg G o j 0) := rfl
theorem zgU_e (G : ZG) (o j : Nat) (Q : ZR → Prop) : zgU G o j Q = Q (zsr G o j 0) := rfl
theorem zpF_e (G : ZG) (o j : Nat) (x : Int) (Q : ZG → Prop) : zpF G o j x Q = Q (zss G o j 0 x) := rfl
theorem zjn_e {K : Type} (k : K) (B : K → Prop) : zjn k B = B k := rfl
theorem znn_e (a : Nat) : znn (some (.inl a)) = True := propext ⟨fun _ => trivial, fun _ => ⟨a, rfl⟩⟩
theorem eX6_in (p a b : Int) (Q : Int → Prop) : vX6_in p a b Q = Q (bb (decide (a ≤ p) && decide (p ≤ b))) := by
  simp only [vX6_in, zjn_e]
  by_cases h1 : p < a
  · rw [zbr_pos h1, show decide (a ≤ p) = false from decide_eq_false (by omega)]; rfl
  · rw [zbr_neg h1, show decide (a ≤ p) = true from decide_eq_true (by omega)]
    by_cases h2 : b < p
    · rw [zbr_pos h2, show decide (p ≤ b) = false from decide_eq_false (by omega)]; rfl
    · rw [zbr_neg h2, show decide (p ≤ b) = true from decide_eq_true (by omega)]; rfl
theorem eX1_inRange (p a b : Int) (Q : Int → Prop) : vX1_inRange p a b Q = Q (bb (decide (a ≤ p) && decide (p ≤ b))) := by
  simp only [vX1_inRange, zjn_e]
  by_cases h1 : p < a
  · rw [zbr_pos h1, show decide (a ≤ p) = false from decide_eq_false (by omega)]; rfl
  · rw [zbr_neg h1, show decide (a ≤ p) = true from decide_eq_true (by omega)]
    by_cases h2 : b < p
    · rw [zbr_pos h2, show decide (p ≤ b) = false from decide_eq_false (by omega)]; rfl
    · rw [zbr_neg h2, show decide (p ≤ b) = true from decide_eq_true (by omega)]; rfl
def pk (a b c k : Int) : Int := if k = 0 then a else if k = 1 then b else c
theorem eX6_pick (a b c k : Int) (Q : Int → Prop) : vX6_pick a b c k Q = Q (pk a b c k) := by
  simp only [vX6_pick, zjn_e, pk]
  by_cases h : k = 0
  · rw [zbr_neg (fun q => q h), if_pos h]
  · rw [zbr_pos h, if_neg h]
    by_cases h2 : k = 1
    · rw [zbr_neg (fun q => q h2), if_pos h2]
    · rw [zbr_pos h2, if_neg h2]
theorem pk0 (a b c : Int) : pk a b c 0 = a := rfl
theorem pk1 (a b c : Int) : pk a b c 1 = b := rfl
theorem pk2 (a b c : Int) : pk a b c 2 = c := rfl
def kn (p : Int) : Bool := decide (0 ≤ p) && decide (p ≤ 5)
theorem eX6_isKind (p : Int) (Q : Int → Prop) : vX6_isKind p Q = Q (bb (kn p)) := by simp only [vX6_isKind, eX6_in, kn]
theorem eX1_isKind (p : Int) (Q : Int → Prop) : vX1_isKind p Q = Q (bb (kn p)) := by simp only [vX1_isKind, eX1_inRange, kn]
theorem eX1_isKindOf (p t : Int) (Q : Int → Prop) : vX1_isKindOf p t Q = Q (bb (if t = 0 then decide (p = 0) else kn p)) := by
  simp only [vX1_isKindOf, zjn_e, eX1_isKind]
  by_cases h : t = 0
  · rw [zbr_pos h, if_pos h]
    by_cases h2 : p = 0
    · rw [zbr_neg (by omega), show decide (p = 0) = true from decide_eq_true h2]; rfl
    · rw [zbr_pos h2, show decide (p = 0) = false from decide_eq_false h2]; rfl
  · rw [zbr_neg h, if_neg h]
theorem eX1_isNumberOf (p t : Int) (Q : Int → Prop) : vX1_isNumberOf p t Q = Q (bb (decide (0 ≤ p) && decide (p ≤ if t = 0 then 0 else 9))) := by
  simp only [vX1_isNumberOf, zjn_e, eX1_inRange]
  by_cases h : t = 0
  · rw [zbr_pos h, if_pos h]
  · rw [zbr_neg h, if_neg h]
def hs (x n : Int) : Bool := decide (bAnd (bShr x n) 1 = 1)
theorem eX1_has (x n : Int) (Q : Int → Prop) : vX1_has x n Q = Q (bb (hs x n)) := by
  simp only [vX1_has, zjn_e, hs]
  by_cases h : bAnd (bShr x n) 1 = 1
  · rw [zbr_neg (fun q => q h), decide_eq_true h]; rfl
  · rw [zbr_pos h, decide_eq_false h]; rfl
theorem eX1_field (p j : Int) (Q : Int → Prop) (h0 : 0 ≤ p) (h1 : p ≤ 1000) (h2 : 0 ≤ j) (h3 : j ≤ 1000) : vX1_field p j Q = Q (5 * p + j + 1) := by
  simp only [vX1_field]
  rw [w32_eq (x := 5 * p) (by omega) (by omega), w32_eq (x := 5 * p + j) (by omega) (by omega), w32_eq (x := 5 * p + j + 1) (by omega) (by omega)]
theorem eJ4_max (p q : Int) (Q : Int → Prop) : vJ4_max p q Q = Q (if p < q then q else p) := by
  simp only [vJ4_max, zjn_e, zbr_ite]; split <;> rfl
theorem eJ4_min (p q : Int) (Q : Int → Prop) : vJ4_min p q Q = Q (if q < p then q else p) := by
  simp only [vJ4_min, zjn_e, zbr_ite]; split <;> rfl
theorem eX1_row (r : ZR) (Q : ZR → Prop) : vX1_row r Q = Q r := rfl
theorem eX6_refused (p : Int) (G : ZG) (Q : Int → ZG → Prop) : vX6_refused p G Q = Q (bb (decide (p ≠ 0))) (zss G 5 0 0 p) := by
  simp only [vX6_refused, zjn_e, zpF]
  by_cases h : p = 0
  · rw [zbr_pos h, decide_eq_false (fun q => q h)]; rfl
  · rw [zbr_neg h, decide_eq_true h]; rfl
theorem eJ2_size (o : Nat) (G : ZG) (Q : Int → Prop) : vJ2_size o G Q = Q (zsg G o 2 0) := rfl
theorem eX1_reqI (b : Bool) (G : ZG) (X : Nat → ZG → Prop) (Q : Unit → Prop) : vX1_requireIndex (bb b) G X Q = if b = true then Q () else X 0 G := by
  cases b
  · rw [vX1_requireIndex, bb_f, zbr_neg (by simp)]; rfl
  · rw [vX1_requireIndex, bb_t, zbr_pos (by simp)]; rfl
theorem eX1_reqA (b : Bool) (G : ZG) (X : Nat → ZG → Prop) (Q : Unit → Prop) : vX1_requireArgument (bb b) G X Q = if b = true then Q () else X 1 G := by
  cases b
  · rw [vX1_requireArgument, bb_f, zbr_neg (by simp)]; rfl
  · rw [vX1_requireArgument, bb_t, zbr_pos (by simp)]; rfl
theorem eX1_reqS (b : Bool) (G : ZG) (X : Nat → ZG → Prop) (Q : Unit → Prop) : vX1_requireState (bb b) G X Q = if b = true then Q () else X 2 G := by
  cases b
  · rw [vX1_requireState, bb_f, zbr_neg (by simp)]; rfl
  · rw [vX1_requireState, bb_t, zbr_pos (by simp)]; rfl
theorem reqI1 (G : ZG) (X : Nat → ZG → Prop) (Q : Unit → Prop) : vX1_requireIndex 1 G X Q = Q () := by rw [show (1 : Int) = bb true from rfl, eX1_reqI, if_pos rfl]
theorem reqI0 (G : ZG) (X : Nat → ZG → Prop) (Q : Unit → Prop) : vX1_requireIndex 0 G X Q = X 0 G := by rw [show (0 : Int) = bb false from rfl, eX1_reqI, if_neg (by simp)]
theorem reqA1 (G : ZG) (X : Nat → ZG → Prop) (Q : Unit → Prop) : vX1_requireArgument 1 G X Q = Q () := by rw [show (1 : Int) = bb true from rfl, eX1_reqA, if_pos rfl]
theorem reqA0 (G : ZG) (X : Nat → ZG → Prop) (Q : Unit → Prop) : vX1_requireArgument 0 G X Q = X 1 G := by rw [show (0 : Int) = bb false from rfl, eX1_reqA, if_neg (by simp)]
theorem reqS1 (G : ZG) (X : Nat → ZG → Prop) (Q : Unit → Prop) : vX1_requireState 1 G X Q = Q () := by rw [show (1 : Int) = bb true from rfl, eX1_reqS, if_pos rfl]
theorem reqS0 (G : ZG) (X : Nat → ZG → Prop) (Q : Unit → Prop) : vX1_requireState 0 G X Q = X 2 G := by rw [show (0 : Int) = bb false from rfl, eX1_reqS, if_neg (by simp)]
theorem bb_dec (p : Prop) [Decidable p] : (if p then (1 : Int) else 0) = bb (decide p) := by
  by_cases h : p
  · rw [if_pos h, decide_eq_true h]; rfl
  · rw [if_neg h, decide_eq_false h]; rfl
theorem w32_inR (x : Int) : inR (w32 x) := inR_w x
/-! remainders -/
theorem dRem_pos {x m : Int} (hx : inR x) (hm : 0 < m) (h2 : m ≤ 1000) : dRem x m = x.tmod m := dRem_eq hx (by unfold inR; omega) (by omega)
theorem dRem_nn {x m : Int} (hx : inR x) (h0 : 0 ≤ x) (hm : 0 < m) (h2 : m ≤ 1000) : dRem x m = x % m := by rw [dRem_pos hx hm h2, Int.tmod_eq_emod_of_nonneg h0]
theorem dDiv_nn {x m : Int} (hx : inR x) (h0 : 0 ≤ x) (hm : 0 < m) (h2 : m ≤ 1000) : dDiv x m = x / m := by rw [dDiv_eq hx (by unfold inR; omega) (by omega), Int.tdiv_eq_ediv_of_nonneg h0]
theorem tmod_fix {x m : Int} (hm : 0 < m) : (if x.tmod m < 0 then x.tmod m + m else x.tmod m) = x % m := by
  rw [Int.tmod_eq_emod]
  have a1 := Int.emod_nonneg x (Int.ne_of_gt hm)
  have a2 := Int.emod_lt_of_pos x hm
  by_cases h : 0 ≤ x ∨ m ∣ x
  · rw [if_pos h]
    rw [show x % m - ((0 : Nat) : Int) = x % m by simp]
    rw [if_neg (by omega)]
  · rw [if_neg h]
    have a3 : ((m.natAbs : Nat) : Int) = m := by omega
    rw [a3, if_pos (by omega)]
    omega
theorem bXor_sign {x y : Int} (hx : inR x) (hy : inR y) : (0 ≤ bXor x y) ↔ ((x < 0) ↔ (y < 0)) := by
  have e1 : ∀ z : Int, inR z → ((zI z).toBitVec.msb = decide (z < 0)) := by
    intro z hz
    rw [BitVec.msb_eq_toInt]
    have : (zI z).toBitVec.toInt = z := zI_toInt hz
    rw [this]
  have e2 : (zI x ^^^ zI y).toBitVec.msb = decide (bXor x y < 0) := by
    rw [BitVec.msb_eq_toInt]; rfl
  rw [Int32.toBitVec_xor, BitVec.msb_xor, e1 x hx, e1 y hy] at e2
  by_cases h1 : x < 0 <;> by_cases h2 : y < 0 <;> simp [h1, h2] at e2 ⊢ <;> omega
theorem eJ4_floorMod (x m : Int) (Q : Int → Prop) (hx : inR x) (hm : 0 < m) (h2 : m ≤ 1000) : vJ4_floorMod x m Q = Q (x % m) := by
  have hmr : inR m := by unfold inR; omega
  have a1 := Int.emod_nonneg x (Int.ne_of_gt hm)
  have a2 := Int.emod_lt_of_pos x hm
  have a3 := tmod_fix (x := x) hm
  have hs : (0 ≤ bXor x m) ↔ 0 ≤ x := by rw [bXor_sign hx hmr]; omega
  simp only [vJ4_floorMod, zjn_e, zlt1_e, dRem_pos hx hm h2, zn0]
  rw [show (m ≠ 0 ∧ zbr (0 ≤ bXor x m) (Q (x.tmod m)) (zbr (x.tmod m = 0) (Q (x.tmod m)) (Q (w32 (x.tmod m + m))))) = zbr (0 ≤ bXor x m) (Q (x.tmod m)) (zbr (x.tmod m = 0) (Q (x.tmod m)) (Q (w32 (x.tmod m + m)))) from propext ⟨fun h => h.2, fun h => ⟨by omega, h⟩⟩]
  by_cases h : 0 ≤ x
  · rw [zbr_pos (hs.mpr h), Int.tmod_eq_emod_of_nonneg h]
  · rw [zbr_neg (fun q => h (hs.mp q))]
    by_cases h3 : x.tmod m = 0
    · rw [zbr_pos h3, h3]; rw [h3] at a3; simp at a3; rw [← a3]
    · rw [zbr_neg h3]
      have h4 : x.tmod m ≤ 0 := by
        have := Int.tmod_nonneg m (show 0 ≤ -x by omega)
        rw [Int.neg_tmod] at this
        omega
      rw [if_pos (by omega)] at a3
      rw [a3, w32_eq (by omega) (by omega)]
theorem dRem_mod {s m : Int} (hs : inR s) (hm : 0 < m) (h2 : m ≤ 1000) : dRem (w32 (dRem s m + m)) m = s % m := by
  have a1 := Int.emod_nonneg s (Int.ne_of_gt hm)
  have a2 := Int.emod_lt_of_pos s hm
  have a3 := tmod_fix (x := s) hm
  have b1 : -m ≤ s.tmod m ∧ s.tmod m < m := by
    by_cases c : s.tmod m < 0
    · rw [if_pos c] at a3; omega
    · rw [if_neg c] at a3; omega
  rw [dRem_pos hs hm h2, w32_eq (by omega) (by omega), dRem_nn (by unfold inR; omega) (by omega) hm h2]
  by_cases c : s.tmod m < 0
  · rw [if_pos c] at a3; rw [Int.emod_eq_of_lt (by omega) (by omega), a3]
  · rw [if_neg c] at a3; rw [show s.tmod m + m = s % m + m * 1 by omega, Int.add_mul_emod_self_left, Int.emod_emod_of_dvd s (Int.dvd_refl m)]
/-! bits of small sets -/
theorem bits_or : ∀ a : Fin 64, ∀ b : Fin 64, bOr (a.val : Int) (b.val : Int) = ((a.val ||| b.val : Nat) : Int) := by decide +kernel
theorem bits_has : ∀ a : Fin 256, ∀ n : Fin 8, hs (a.val : Int) (n.val : Int) = a.val.testBit n.val := by decide +kernel
theorem bits_set : ∀ a : Fin 256, ∀ n : Fin 8, bOr (a.val : Int) (bShl 1 (n.val : Int)) = ((a.val ||| 2 ^ n.val : Nat) : Int) := by decide +kernel
theorem bits_clr : ∀ a : Fin 256, ∀ n : Fin 8, bAnd (a.val : Int) (bXor (bShl 1 (n.val : Int)) (-1)) = ((a.val - (if a.val.testBit n.val then 2 ^ n.val else 0) : Nat) : Int) := by decide +kernel
theorem bits_shl : ∀ n : Fin 8, bShl 1 (n.val : Int) = ((2 ^ n.val : Nat) : Int) := by decide +kernel
theorem bits_half : ∀ n : Fin 101, bShr (n.val : Int) 1 = ((n.val / 2 : Nat) : Int) := by decide +kernel
theorem bits_one : ∀ a : Fin 64, ∀ n : Fin 6, bAnd (bShr (a.val : Int) (n.val : Int)) 1 = 0 ∨ bAnd (bShr (a.val : Int) (n.val : Int)) 1 = 1 := by decide +kernel
