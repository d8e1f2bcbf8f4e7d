/-! BASE 1: numbers. A Java int is a mathematical Int in range (inR); zI: the machine's int; w32: wrapping -/
set_option maxRecDepth 100000
def zI (x : Int) : Int32 := Int32.ofInt x
def inR (x : Int) : Prop := -2147483648 ≤ x ∧ x ≤ 2147483647
def w32 (x : Int) : Int := (zI x).toInt
theorem inR_toInt (x : Int32) : inR x.toInt := by
  have h1 := x.toInt_lt
  have h2 := x.le_toInt
  unfold inR
  omega
theorem inR_w (x : Int) : inR (w32 x) := inR_toInt _
theorem zI_toInt {x : Int} (h : inR x) : (zI x).toInt = x := by
  unfold inR at h
  exact Int32.toInt_ofInt_of_le (by omega) (by omega)
theorem w32_eq {x : Int} (h1 : -2147483648 ≤ x) (h2 : x ≤ 2147483647) : w32 x = x := zI_toInt ⟨h1, h2⟩
theorem w32_id {x : Int} (h : inR x) : w32 x = x := zI_toInt h
theorem zI_w (x : Int) : zI (w32 x) = zI x := Int32.ofInt_toInt _
theorem zI_add (x y : Int) : zI x + zI y = zI (w32 (x + y)) := by rw [zI_w]; exact (Int32.ofInt_add x y).symm
theorem zI_sub (x y : Int) : zI x - zI y = zI (w32 (x - y)) := by rw [zI_w]; exact (Int32.ofInt_sub x y).symm
theorem zI_mul (x y : Int) : zI x * zI y = zI (w32 (x * y)) := by rw [zI_w]; exact (Int32.ofInt_mul x y).symm
theorem zI_of (x : Int32) : zI x.toInt = x := Int32.ofInt_toInt x
theorem zI_lt {x y : Int} (hx : inR x) (hy : inR y) : zI x < zI y ↔ x < y := by
  rw [Int32.lt_iff_toInt_lt, zI_toInt hx, zI_toInt hy]
theorem zI_le {x y : Int} (hx : inR x) (hy : inR y) : zI x ≤ zI y ↔ x ≤ y := by
  rw [Int32.le_iff_toInt_le, zI_toInt hx, zI_toInt hy]
theorem zI_eq {x y : Int} (hx : inR x) (hy : inR y) : zI x = zI y ↔ x = y := by
  rw [← Int32.toInt_inj, zI_toInt hx, zI_toInt hy]
theorem inR_lit {x : Int} (h : (decide (-2147483648 ≤ x) && decide (x ≤ 2147483647)) = true) : inR x := by
  simpa [inR] using h
theorem inR_0 : inR 0 := by unfold inR; omega
theorem inR_1 : inR 1 := by unfold inR; omega
theorem inR_b {x : Int} (h : x = 0 ∨ x = 1) : inR x := by rcases h with rfl | rfl <;> (unfold inR; omega)
theorem zI_0 : zI 0 = 0 := rfl
theorem zI_clamp {x : Int} (h : inR x) : (zI x).toNatClampNeg = x.toNat := by
  unfold inR at h
  exact Int32.toNatClampNeg_ofInt_of_le (by omega) (by omega)
theorem zI_in {x : Int} {n : Nat} (h : inR x) (h1 : 0 ≤ x) (h2 : x < n) : ¬ (zI x < 0 ∨ n ≤ (zI x).toNatClampNeg) := by
  rw [← zI_0, zI_lt h inR_0, zI_clamp h]
  omega
theorem zI_neg {x : Int} (h : inR x) (h1 : 0 ≤ x) : ¬ zI x < 0 := by
  rw [← zI_0, zI_lt h inR_0]
  omega
theorem zI_nat (n : Nat) : zI (n : Int) = Int32.ofNat n := Int32.ofInt_eq_ofNat
/-- operations on bits, of ints in range -/
def bAnd (x y : Int) : Int := (zI x &&& zI y).toInt
def bOr (x y : Int) : Int := (zI x ||| zI y).toInt
def bXor (x y : Int) : Int := (zI x ^^^ zI y).toInt
def bShl (x y : Int) : Int := (zI x <<< (zI y &&& 31)).toInt
def bShr (x y : Int) : Int := (zI x >>> (zI y &&& 31)).toInt
def bUshr (x y : Int) : Int := (((zI x).toUInt32 >>> ((zI y).toUInt32 &&& Int32.toUInt32 31)).toInt32).toInt
def dDiv (x y : Int) : Int := (zI x / zI y).toInt
def dRem (x y : Int) : Int := (zI x - zI x / zI y * zI y).toInt
def dNeg (x : Int) : Int := (-zI x).toInt
theorem dDiv_eq {x y : Int} (hx : inR x) (hy : inR y) (h : y ≠ -1) : dDiv x y = x.tdiv y := by
  unfold dDiv
  rw [Int32.toInt_div_of_ne_right _ _ (fun q => h (by rw [← zI_toInt hy, q]; rfl)), zI_toInt hx, zI_toInt hy]
theorem dRem_eq {x y : Int} (hx : inR x) (hy : inR y) (h : y ≠ -1) : dRem x y = x.tmod y := by
  have hd := dDiv_eq hx hy h
  have h0 : inR (dDiv x y) := inR_toInt _
  have e1 : zI x / zI y = zI (dDiv x y) := (zI_of _).symm
  have h1 : x = y * x.tdiv y + x.tmod y := (Int.mul_tdiv_add_tmod x y).symm
  have h2 : inR (x.tmod y) := by
    have a := Int.natAbs_tmod x y
    have b : x.natAbs % y.natAbs ≤ x.natAbs := Nat.mod_le _ _
    unfold inR at *
    rcases Int.lt_or_le x 0 with c | c
    · have d := Int.tmod_nonneg y (show 0 ≤ -x by omega)
      rw [Int.neg_tmod] at d
      omega
    · have d := Int.tmod_nonneg y c
      omega
  unfold dRem
  rw [e1, zI_mul, zI_sub, zI_toInt (inR_w _)]
  have e2 : zI (x - w32 (dDiv x y * y)) = zI (x - dDiv x y * y) := by
    unfold zI w32
    rw [Int32.ofInt_sub, Int32.ofInt_toInt, Int32.ofInt_sub]
    rfl
  have e3 : w32 (x - w32 (dDiv x y * y)) = w32 (x - dDiv x y * y) := by unfold w32; rw [show zI (x - (zI (dDiv x y * y)).toInt) = _ from e2]
  rw [e3, hd, show x - x.tdiv y * y = x.tmod y by rw [Int.mul_comm]; omega]
  exact w32_id h2
/-! BASE 2: the combinators of verification conditions -/
def zbr (c : Prop) (A B : Prop) : Prop := (c → A) ∧ (¬ c → B)
def zlt1 {α : Type} (e : α) (Q : α → Prop) : Prop := ∀ x, x = e → Q x
def zl1 {A : Type} (body : (A → Prop) → A → Prop) (a : A) : Prop := ∀ P : A → Prop, (∀ a, body P a → P a) → P a
theorem zl1_use {A : Type} {body : (A → Prop) → A → Prop} {a : A} (hh : zl1 body a) (M : A → Prop) (hc : ∀ (P : A → Prop) a, (∀ a, P a → M a) → body P a → M a) : M a := hh M (fun a hb => hc M a (fun _ x => x) hb)
/-- a loop by an invariant and a measure that falls -/
theorem zl1_of {A : Type} {body : (A → Prop) → A → Prop} (Inv : A → Prop) (μ : A → Nat) (hs : ∀ (P : A → Prop) a, Inv a → (∀ a2, Inv a2 → μ a2 < μ a → P a2) → body P a) {a : A} (hh : Inv a) : zl1 body a := by
  intro P hc
  have key : ∀ (n : Nat) a, μ a < n → Inv a → P a := by
    intro n
    induction n with
    | zero => intro a hm; exact absurd hm (Nat.not_lt_zero _)
    | succ n ih => intro a hm hi; exact hc a (hs P a hi (fun a2 hi2 hm2 => ih a2 (Nat.lt_of_lt_of_le hm2 (Nat.le_of_lt_succ hm)) hi2))
  exact key (μ a + 1) a (Nat.lt_succ_self _) hh
def zl2 {A B : Type} (body : (A → B → Prop) → A → B → Prop) (a : A) (b : B) : Prop := ∀ P : A → B → Prop, (∀ a b, body P a b → P a b) → P a b
theorem zl2_use {A B : Type} {body : (A → B → Prop) → A → B → Prop} {a : A} {b : B} (hh : zl2 body a b) (M : A → B → Prop) (hc : ∀ (P : A → B → Prop) a b, (∀ a b, P a b → M a b) → body P a b → M a b) : M a b := hh M (fun a b hb => hc M a b (fun _ _ x => x) hb)
/-- a loop by an invariant and a measure that falls -/
theorem zl2_of {A B : Type} {body : (A → B → Prop) → A → B → Prop} (Inv : A → B → Prop) (μ : A → B → Nat) (hs : ∀ (P : A → B → Prop) a b, Inv a b → (∀ a2 b2, Inv a2 b2 → μ a2 b2 < μ a b → P a2 b2) → body P a b) {a : A} {b : B} (hh : Inv a b) : zl2 body a b := by
  intro P hc
  have key : ∀ (n : Nat) a b, μ a b < n → Inv a b → P a b := by
    intro n
    induction n with
    | zero => intro a b hm; exact absurd hm (Nat.not_lt_zero _)
    | succ n ih => intro a b hm hi; exact hc a b (hs P a b hi (fun a2 b2 hi2 hm2 => ih a2 b2 (Nat.lt_of_lt_of_le hm2 (Nat.le_of_lt_succ hm)) hi2))
  exact key (μ a b + 1) a b (Nat.lt_succ_self _) hh
def zl3 {A B C : Type} (body : (A → B → C → Prop) → A → B → C → Prop) (a : A) (b : B) (c : C) : Prop := ∀ P : A → B → C → Prop, (∀ a b c, body P a b c → P a b c) → P a b c
theorem zl3_use {A B C : Type} {body : (A → B → C → Prop) → A → B → C → Prop} {a : A} {b : B} {c : C} (hh : zl3 body a b c) (M : A → B → C → Prop) (hc : ∀ (P : A → B → C → Prop) a b c, (∀ a b c, P a b c → M a b c) → body P a b c → M a b c) : M a b c := hh M (fun a b c hb => hc M a b c (fun _ _ _ x => x) hb)
/-- a loop by an invariant and a measure that falls -/
theorem zl3_of {A B C : Type} {body : (A → B → C → Prop) → A → B → C → Prop} (Inv : A → B → C → Prop) (μ : A → B → C → Nat) (hs : ∀ (P : A → B → C → Prop) a b c, Inv a b c → (∀ a2 b2 c2, Inv a2 b2 c2 → μ a2 b2 c2 < μ a b c → P a2 b2 c2) → body P a b c) {a : A} {b : B} {c : C} (hh : Inv a b c) : zl3 body a b c := by
  intro P hc
  have key : ∀ (n : Nat) a b c, μ a b c < n → Inv a b c → P a b c := by
    intro n
    induction n with
    | zero => intro a b c hm; exact absurd hm (Nat.not_lt_zero _)
    | succ n ih => intro a b c hm hi; exact hc a b c (hs P a b c hi (fun a2 b2 c2 hi2 hm2 => ih a2 b2 c2 (Nat.lt_of_lt_of_le hm2 (Nat.le_of_lt_succ hm)) hi2))
  exact key (μ a b c + 1) a b c (Nat.lt_succ_self _) hh
def zl4 {A B C D : Type} (body : (A → B → C → D → Prop) → A → B → C → D → Prop) (a : A) (b : B) (c : C) (d : D) : Prop := ∀ P : A → B → C → D → Prop, (∀ a b c d, body P a b c d → P a b c d) → P a b c d
theorem zl4_use {A B C D : Type} {body : (A → B → C → D → Prop) → A → B → C → D → Prop} {a : A} {b : B} {c : C} {d : D} (hh : zl4 body a b c d) (M : A → B → C → D → Prop) (hc : ∀ (P : A → B → C → D → Prop) a b c d, (∀ a b c d, P a b c d → M a b c d) → body P a b c d → M a b c d) : M a b c d := hh M (fun a b c d hb => hc M a b c d (fun _ _ _ _ x => x) hb)
/-- a loop by an invariant and a measure that falls -/
theorem zl4_of {A B C D : Type} {body : (A → B → C → D → Prop) → A → B → C → D → Prop} (Inv : A → B → C → D → Prop) (μ : A → B → C → D → Nat) (hs : ∀ (P : A → B → C → D → Prop) a b c d, Inv a b c d → (∀ a2 b2 c2 d2, Inv a2 b2 c2 d2 → μ a2 b2 c2 d2 < μ a b c d → P a2 b2 c2 d2) → body P a b c d) {a : A} {b : B} {c : C} {d : D} (hh : Inv a b c d) : zl4 body a b c d := by
  intro P hc
  have key : ∀ (n : Nat) a b c d, μ a b c d < n → Inv a b c d → P a b c d := by
    intro n
    induction n with
    | zero => intro a b c d hm; exact absurd hm (Nat.not_lt_zero _)
    | succ n ih => intro a b c d hm hi; exact hc a b c d (hs P a b c d hi (fun a2 b2 c2 d2 hi2 hm2 => ih a2 b2 c2 d2 (Nat.lt_of_lt_of_le hm2 (Nat.le_of_lt_succ hm)) hi2))
  exact key (μ a b c d + 1) a b c d (Nat.lt_succ_self _) hh
def zl5 {A B C D E : Type} (body : (A → B → C → D → E → Prop) → A → B → C → D → E → Prop) (a : A) (b : B) (c : C) (d : D) (e : E) : Prop := ∀ P : A → B → C → D → E → Prop, (∀ a b c d e, body P a b c d e → P a b c d e) → P a b c d e
theorem zl5_use {A B C D E : Type} {body : (A → B → C → D → E → Prop) → A → B → C → D → E → Prop} {a : A} {b : B} {c : C} {d : D} {e : E} (hh : zl5 body a b c d e) (M : A → B → C → D → E → Prop) (hc : ∀ (P : A → B → C → D → E → Prop) a b c d e, (∀ a b c d e, P a b c d e → M a b c d e) → body P a b c d e → M a b c d e) : M a b c d e := hh M (fun a b c d e hb => hc M a b c d e (fun _ _ _ _ _ x => x) hb)
/-- a loop by an invariant and a measure that falls -/
theorem zl5_of {A B C D E : Type} {body : (A → B → C → D → E → Prop) → A → B → C → D → E → Prop} (Inv : A → B → C → D → E → Prop) (μ : A → B → C → D → E → Nat) (hs : ∀ (P : A → B → C → D → E → Prop) a b c d e, Inv a b c d e → (∀ a2 b2 c2 d2 e2, Inv a2 b2 c2 d2 e2 → μ a2 b2 c2 d2 e2 < μ a b c d e → P a2 b2 c2 d2 e2) → body P a b c d e) {a : A} {b : B} {c : C} {d : D} {e : E} (hh : Inv a b c d e) : zl5 body a b c d e := by
  intro P hc
  have key : ∀ (n : Nat) a b c d e, μ a b c d e < n → Inv a b c d e → P a b c d e := by
    intro n
    induction n with
    | zero => intro a b c d e hm; exact absurd hm (Nat.not_lt_zero _)
    | succ n ih => intro a b c d e hm hi; exact hc a b c d e (hs P a b c d e hi (fun a2 b2 c2 d2 e2 hi2 hm2 => ih a2 b2 c2 d2 e2 (Nat.lt_of_lt_of_le hm2 (Nat.le_of_lt_succ hm)) hi2))
  exact key (μ a b c d e + 1) a b c d e (Nat.lt_succ_self _) hh
def zl6 {A B C D E F : Type} (body : (A → B → C → D → E → F → Prop) → A → B → C → D → E → F → Prop) (a : A) (b : B) (c : C) (d : D) (e : E) (f : F) : Prop := ∀ P : A → B → C → D → E → F → Prop, (∀ a b c d e f, body P a b c d e f → P a b c d e f) → P a b c d e f
theorem zl6_use {A B C D E F : Type} {body : (A → B → C → D → E → F → Prop) → A → B → C → D → E → F → Prop} {a : A} {b : B} {c : C} {d : D} {e : E} {f : F} (hh : zl6 body a b c d e f) (M : A → B → C → D → E → F → Prop) (hc : ∀ (P : A → B → C → D → E → F → Prop) a b c d e f, (∀ a b c d e f, P a b c d e f → M a b c d e f) → body P a b c d e f → M a b c d e f) : M a b c d e f := hh M (fun a b c d e f hb => hc M a b c d e f (fun _ _ _ _ _ _ x => x) hb)
/-- a loop by an invariant and a measure that falls -/
theorem zl6_of {A B C D E F : Type} {body : (A → B → C → D → E → F → Prop) → A → B → C → D → E → F → Prop} (Inv : A → B → C → D → E → F → Prop) (μ : A → B → C → D → E → F → Nat) (hs : ∀ (P : A → B → C → D → E → F → Prop) a b c d e f, Inv a b c d e f → (∀ a2 b2 c2 d2 e2 f2, Inv a2 b2 c2 d2 e2 f2 → μ a2 b2 c2 d2 e2 f2 < μ a b c d e f → P a2 b2 c2 d2 e2 f2) → body P a b c d e f) {a : A} {b : B} {c : C} {d : D} {e : E} {f : F} (hh : Inv a b c d e f) : zl6 body a b c d e f := by
  intro P hc
  have key : ∀ (n : Nat) a b c d e f, μ a b c d e f < n → Inv a b c d e f → P a b c d e f := by
    intro n
    induction n with
    | zero => intro a b c d e f hm; exact absurd hm (Nat.not_lt_zero _)
    | succ n ih => intro a b c d e f hm hi; exact hc a b c d e f (hs P a b c d e f hi (fun a2 b2 c2 d2 e2 f2 hi2 hm2 => ih a2 b2 c2 d2 e2 f2 (Nat.lt_of_lt_of_le hm2 (Nat.le_of_lt_succ hm)) hi2))
  exact key (μ a b c d e f + 1) a b c d e f (Nat.lt_succ_self _) hh
def zl7 {A B C D E F G : Type} (body : (A → B → C → D → E → F → G → Prop) → A → B → C → D → E → F → G → Prop) (a : A) (b : B) (c : C) (d : D) (e : E) (f : F) (g : G) : Prop := ∀ P : A → B → C → D → E → F → G → Prop, (∀ a b c d e f g, body P a b c d e f g → P a b c d e f g) → P a b c d e f g
theorem zl7_use {A B C D E F G : Type} {body : (A → B → C → D → E → F → G → Prop) → A → B → C → D → E → F → G → Prop} {a : A} {b : B} {c : C} {d : D} {e : E} {f : F} {g : G} (hh : zl7 body a b c d e f g) (M : A → B → C → D → E → F → G → Prop) (hc : ∀ (P : A → B → C → D → E → F → G → Prop) a b c d e f g, (∀ a b c d e f g, P a b c d e f g → M a b c d e f g) → body P a b c d e f g → M a b c d e f g) : M a b c d e f g := hh M (fun a b c d e f g hb => hc M a b c d e f g (fun _ _ _ _ _ _ _ x => x) hb)
/-- a loop by an invariant and a measure that falls -/
theorem zl7_of {A B C D E F G : Type} {body : (A → B → C → D → E → F → G → Prop) → A → B → C → D → E → F → G → Prop} (Inv : A → B → C → D → E → F → G → Prop) (μ : A → B → C → D → E → F → G → Nat) (hs : ∀ (P : A → B → C → D → E → F → G → Prop) a b c d e f g, Inv a b c d e f g → (∀ a2 b2 c2 d2 e2 f2 g2, Inv a2 b2 c2 d2 e2 f2 g2 → μ a2 b2 c2 d2 e2 f2 g2 < μ a b c d e f g → P a2 b2 c2 d2 e2 f2 g2) → body P a b c d e f g) {a : A} {b : B} {c : C} {d : D} {e : E} {f : F} {g : G} (hh : Inv a b c d e f g) : zl7 body a b c d e f g := by
  intro P hc
  have key : ∀ (n : Nat) a b c d e f g, μ a b c d e f g < n → Inv a b c d e f g → P a b c d e f g := by
    intro n
    induction n with
    | zero => intro a b c d e f g hm; exact absurd hm (Nat.not_lt_zero _)
    | succ n ih => intro a b c d e f g hm hi; exact hc a b c d e f g (hs P a b c d e f g hi (fun a2 b2 c2 d2 e2 f2 g2 hi2 hm2 => ih a2 b2 c2 d2 e2 f2 g2 (Nat.lt_of_lt_of_le hm2 (Nat.le_of_lt_succ hm)) hi2))
  exact key (μ a b c d e f g + 1) a b c d e f g (Nat.lt_succ_self _) hh
def zl8 {A B C D E F G J : Type} (body : (A → B → C → D → E → F → G → J → Prop) → A → B → C → D → E → F → G → J → Prop) (a : A) (b : B) (c : C) (d : D) (e : E) (f : F) (g : G) (j : J) : Prop := ∀ P : A → B → C → D → E → F → G → J → Prop, (∀ a b c d e f g j, body P a b c d e f g j → P a b c d e f g j) → P a b c d e f g j
theorem zl8_use {A B C D E F G J : Type} {body : (A → B → C → D → E → F → G → J → Prop) → A → B → C → D → E → F → G → J → Prop} {a : A} {b : B} {c : C} {d : D} {e : E} {f : F} {g : G} {j : J} (hh : zl8 body a b c d e f g j) (M : A → B → C → D → E → F → G → J → Prop) (hc : ∀ (P : A → B → C → D → E → F → G → J → Prop) a b c d e f g j, (∀ a b c d e f g j, P a b c d e f g j → M a b c d e f g j) → body P a b c d e f g j → M a b c d e f g j) : M a b c d e f g j := hh M (fun a b c d e f g j hb => hc M a b c d e f g j (fun _ _ _ _ _ _ _ _ x => x) hb)
/-- a loop by an invariant and a measure that falls -/
theorem zl8_of {A B C D E F G J : Type} {body : (A → B → C → D → E → F → G → J → Prop) → A → B → C → D → E → F → G → J → Prop} (Inv : A → B → C → D → E → F → G → J → Prop) (μ : A → B → C → D → E → F → G → J → Nat) (hs : ∀ (P : A → B → C → D → E → F → G → J → Prop) a b c d e f g j, Inv a b c d e f g j → (∀ a2 b2 c2 d2 e2 f2 g2 j2, Inv a2 b2 c2 d2 e2 f2 g2 j2 → μ a2 b2 c2 d2 e2 f2 g2 j2 < μ a b c d e f g j → P a2 b2 c2 d2 e2 f2 g2 j2) → body P a b c d e f g j) {a : A} {b : B} {c : C} {d : D} {e : E} {f : F} {g : G} {j : J} (hh : Inv a b c d e f g j) : zl8 body a b c d e f g j := by
  intro P hc
  have key : ∀ (n : Nat) a b c d e f g j, μ a b c d e f g j < n → Inv a b c d e f g j → P a b c d e f g j := by
    intro n
    induction n with
    | zero => intro a b c d e f g j hm; exact absurd hm (Nat.not_lt_zero _)
    | succ n ih => intro a b c d e f g j hm hi; exact hc a b c d e f g j (hs P a b c d e f g j hi (fun a2 b2 c2 d2 e2 f2 g2 j2 hi2 hm2 => ih a2 b2 c2 d2 e2 f2 g2 j2 (Nat.lt_of_lt_of_le hm2 (Nat.le_of_lt_succ hm)) hi2))
  exact key (μ a b c d e f g j + 1) a b c d e f g j (Nat.lt_succ_self _) hh
def zl9 {A B C D E F G J K : Type} (body : (A → B → C → D → E → F → G → J → K → Prop) → A → B → C → D → E → F → G → J → K → Prop) (a : A) (b : B) (c : C) (d : D) (e : E) (f : F) (g : G) (j : J) (k : K) : Prop := ∀ P : A → B → C → D → E → F → G → J → K → Prop, (∀ a b c d e f g j k, body P a b c d e f g j k → P a b c d e f g j k) → P a b c d e f g j k
theorem zl9_use {A B C D E F G J K : Type} {body : (A → B → C → D → E → F → G → J → K → Prop) → A → B → C → D → E → F → G → J → K → Prop} {a : A} {b : B} {c : C} {d : D} {e : E} {f : F} {g : G} {j : J} {k : K} (hh : zl9 body a b c d e f g j k) (M : A → B → C → D → E → F → G → J → K → Prop) (hc : ∀ (P : A → B → C → D → E → F → G → J → K → Prop) a b c d e f g j k, (∀ a b c d e f g j k, P a b c d e f g j k → M a b c d e f g j k) → body P a b c d e f g j k → M a b c d e f g j k) : M a b c d e f g j k := hh M (fun a b c d e f g j k hb => hc M a b c d e f g j k (fun _ _ _ _ _ _ _ _ _ x => x) hb)
/-- a loop by an invariant and a measure that falls -/
theorem zl9_of {A B C D E F G J K : Type} {body : (A → B → C → D → E → F → G → J → K → Prop) → A → B → C → D → E → F → G → J → K → Prop} (Inv : A → B → C → D → E → F → G → J → K → Prop) (μ : A → B → C → D → E → F → G → J → K → Nat) (hs : ∀ (P : A → B → C → D → E → F → G → J → K → Prop) a b c d e f g j k, Inv a b c d e f g j k → (∀ a2 b2 c2 d2 e2 f2 g2 j2 k2, Inv a2 b2 c2 d2 e2 f2 g2 j2 k2 → μ a2 b2 c2 d2 e2 f2 g2 j2 k2 < μ a b c d e f g j k → P a2 b2 c2 d2 e2 f2 g2 j2 k2) → body P a b c d e f g j k) {a : A} {b : B} {c : C} {d : D} {e : E} {f : F} {g : G} {j : J} {k : K} (hh : Inv a b c d e f g j k) : zl9 body a b c d e f g j k := by
  intro P hc
  have key : ∀ (n : Nat) a b c d e f g j k, μ a b c d e f g j k < n → Inv a b c d e f g j k → P a b c d e f g j k := by
    intro n
    induction n with
    | zero => intro a b c d e f g j k hm; exact absurd hm (Nat.not_lt_zero _)
    | succ n ih => intro a b c d e f g j k hm hi; exact hc a b c d e f g j k (hs P a b c d e f g j k hi (fun a2 b2 c2 d2 e2 f2 g2 j2 k2 hi2 hm2 => ih a2 b2 c2 d2 e2 f2 g2 j2 k2 (Nat.lt_of_lt_of_le hm2 (Nat.le_of_lt_succ hm)) hi2))
  exact key (μ a b c d e f g j k + 1) a b c d e f g j k (Nat.lt_succ_self _) hh
def zn0 (y : Int) : Prop := y ≠ 0
def zjn {K : Type} (k : K) (body : K → Prop) : Prop := body k
theorem zjn_abs {K : Type} {k : K} {body : K → Prop} (h : zjn k body) : ∃ k', k' = k ∧ body k' := ⟨k, rfl, h⟩
/-! BASE 3: the abstract state -/
/-- a reference: null, a dynamic cell, a fixed object -/
abbrev ZR : Type := Option (Nat ⊕ Nat)
abbrev ZF : Type := Int ⊕ ZR
/-- a dynamic cell: ints (a tag, its elements), references (its array class, its elements), an object (its class, its fields) -/
abbrev ZC : Type := (Nat × List Int) ⊕ ((Nat × List ZR) ⊕ (Nat × List ZF))
abbrev ZG : Type := (Nat → Nat → Int → Int) × (Nat → Nat → Int → ZR) × (Nat → Option ZC)
def zsg (G : ZG) (o j : Nat) (i : Int) : Int := G.1 o j i
def zsr (G : ZG) (o j : Nat) (i : Int) : ZR := G.2.1 o j i
def zsj (G : ZG) (a : Nat) : Option ZC := G.2.2 a
def zss (G : ZG) (o j : Nat) (i v : Int) : ZG := (fun o' j' i' => if o' = o ∧ j' = j ∧ i' = i then v else G.1 o' j' i', G.2.1, G.2.2)
def zsu (G : ZG) (o j : Nat) (i : Int) (v : ZR) : ZG := (G.1, fun o' j' i' => if o' = o ∧ j' = j ∧ i' = i then v else G.2.1 o' j' i', G.2.2)
def zsc (G : ZG) (a : Nat) (c : ZC) : ZG := (G.1, G.2.1, fun b => if b = a then some c else G.2.2 b)
theorem zsg_ss (G : ZG) (o j : Nat) (i v : Int) (o' j' : Nat) (i' : Int) : zsg (zss G o j i v) o' j' i' = if o' = o ∧ j' = j ∧ i' = i then v else zsg G o' j' i' := rfl
theorem zsr_ss (G : ZG) (o j : Nat) (i v : Int) (o' j' : Nat) (i' : Int) : zsr (zss G o j i v) o' j' i' = zsr G o' j' i' := rfl
theorem zsj_ss (G : ZG) (o j : Nat) (i v : Int) (a : Nat) : zsj (zss G o j i v) a = zsj G a := rfl
theorem zsg_su (G : ZG) (o j : Nat) (i : Int) (v : ZR) (o' j' : Nat) (i' : Int) : zsg (zsu G o j i v) o' j' i' = zsg G o' j' i' := rfl
theorem zsr_su (G : ZG) (o j : Nat) (i : Int) (v : ZR) (o' j' : Nat) (i' : Int) : zsr (zsu G o j i v) o' j' i' = if o' = o ∧ j' = j ∧ i' = i then v else zsr G o' j' i' := rfl
theorem zsj_su (G : ZG) (o j : Nat) (i : Int) (v : ZR) (a : Nat) : zsj (zsu G o j i v) a = zsj G a := rfl
theorem zsg_sc (G : ZG) (a : Nat) (c : ZC) (o' j' : Nat) (i' : Int) : zsg (zsc G a c) o' j' i' = zsg G o' j' i' := rfl
theorem zsr_sc (G : ZG) (a : Nat) (c : ZC) (o' j' : Nat) (i' : Int) : zsr (zsc G a c) o' j' i' = zsr G o' j' i' := rfl
theorem zsj_sc (G : ZG) (a : Nat) (c : ZC) (b : Nat) : zsj (zsc G a c) b = if b = a then some c else zsj G b := rfl
/-! the conditions of single steps -/
def zgF (G : ZG) (o j : Nat) (Q : Int → Prop) : Prop := Q (zsg G o j 0)
def zgU (G : ZG) (o j : Nat) (Q : ZR → Prop) : Prop := Q (zsr G o j 0)
def zpF (G : ZG) (o j : Nat) (x : Int) (Q : ZG → Prop) : Prop := Q (zss G o j 0 x)
def zpU (G : ZG) (o j : Nat) (r : ZR) (Q : ZG → Prop) : Prop := Q (zsu G o j 0 r)
def zaL (G : ZG) (o j n : Nat) (i : Int) (Q : Int → Prop) : Prop := 0 ≤ i ∧ i < (n : Int) ∧ Q (zsg G o j i)
def zaS (G : ZG) (o j n : Nat) (i x : Int) (Q : ZG → Prop) : Prop := 0 ≤ i ∧ i < (n : Int) ∧ Q (zss G o j i x)
def zuL (G : ZG) (o j n : Nat) (i : Int) (Q : ZR → Prop) : Prop := 0 ≤ i ∧ i < (n : Int) ∧ Q (zsr G o j i)
def zuS (G : ZG) (o j n : Nat) (i : Int) (r : ZR) (Q : ZG → Prop) : Prop := 0 ≤ i ∧ i < (n : Int) ∧ (∃ a l, r = some (.inl a) ∧ zsj G a = some (.inl (0, l))) ∧ Q (zsu G o j i r)
/-- in range -/
def zin (n : Nat) (i : Int) : Prop := 0 ≤ i ∧ i < (n : Int)
def zxL (G : ZG) (o j : Nat) (r i : Int) (Q : Int → Prop) : Prop := 0 ≤ i ∧ i < 10 ∧ Q (zsg G o j (10 * r + i))
def zxS (G : ZG) (o j : Nat) (r i x : Int) (Q : ZG → Prop) : Prop := 0 ≤ i ∧ i < 10 ∧ Q (zss G o j (10 * r + i) x)
/-- dynamic objects -/
def zisO (G : ZG) (r : ZR) (c : Nat) : Prop := ∃ a fs, r = some (.inl a) ∧ zsj G a = some (.inr (.inr (c, fs)))
def zdI (G : ZG) (r : ZR) (c k : Nat) (Q : Int → Prop) : Prop := ∃ a fs x, r = some (.inl a) ∧ zsj G a = some (.inr (.inr (c, fs))) ∧ fs[k]? = some (.inl x) ∧ Q x
def zdR (G : ZG) (r : ZR) (c k : Nat) (Q : ZR → Prop) : Prop := ∃ a fs x, r = some (.inl a) ∧ zsj G a = some (.inr (.inr (c, fs))) ∧ fs[k]? = some (.inr x) ∧ Q x
def zdP (G : ZG) (r : ZR) (c k : Nat) (v : ZF) (Q : ZG → Prop) : Prop := ∃ a fs, r = some (.inl a) ∧ zsj G a = some (.inr (.inr (c, fs))) ∧ Q (zsc G a (.inr (.inr (c, fs.set k v))))
def zeI (G : ZG) (r : ZR) (i : Int) (Q : Int → Prop) : Prop := ∃ a l x, r = some (.inl a) ∧ zsj G a = some (.inl (0, l)) ∧ 0 ≤ i ∧ l[i.toNat]? = some x ∧ Q x
def zeR (G : ZG) (r : ZR) (i : Int) (Q : ZR → Prop) : Prop := ∃ a k l x, r = some (.inl a) ∧ zsj G a = some (.inr (.inl (k, l))) ∧ 0 ≤ i ∧ l[i.toNat]? = some x ∧ Q x
def zeS (G : ZG) (r : ZR) (i x : Int) (Q : ZG → Prop) : Prop := ∃ a l, r = some (.inl a) ∧ zsj G a = some (.inl (0, l)) ∧ 0 ≤ i ∧ i.toNat < l.length ∧ Q (zsc G a (.inl (0, l.set i.toNat x)))
/-- what may stand in an array of references of class k -/
def zel (G : ZG) (k : Nat) (x : ZR) : Prop := (x = none ∧ (k = 3 ∨ k = 4)) ∨ (∃ a c fs, x = some (.inl a) ∧ zsj G a = some (.inr (.inr (c, fs))) ∧ (k = 3 ∨ (k = 4 ∧ (c = 8 ∨ (10 ≤ c ∧ c ≤ 15))))) ∨ (∃ a l, x = some (.inl a) ∧ zsj G a = some (.inl (0, l)) ∧ (k = 3 ∨ k = 5))
def zeU (G : ZG) (r : ZR) (i : Int) (x : ZR) (Q : ZG → Prop) : Prop := ∃ a k l, r = some (.inl a) ∧ zsj G a = some (.inr (.inl (k, l))) ∧ 0 ≤ i ∧ i.toNat < l.length ∧ zel G k x ∧ Q (zsc G a (.inr (.inl (k, l.set i.toNat x))))
def zeN (G : ZG) (r : ZR) (Q : Int → Prop) : Prop := (∃ a, r = some (.inl a) ∧ ((∃ t l, zsj G a = some (.inl (t, l)) ∧ Q (l.length : Int)) ∨ (∃ k l, zsj G a = some (.inr (.inl (k, l))) ∧ Q (l.length : Int)))) ∨ (r = some (.inr 16) ∧ Q 0)
/-- a new cell -/
def znw (G : ZG) (c : ZC) (Q : ZR → ZG → Prop) : Prop := ∀ a, zsj G a = none → Q (some (.inl a)) (zsc G a c)
def znI0 (G : ZG) (t : Nat) (n : Int) (m : Nat) (Q : ZR → ZG → Prop) : Prop := 0 ≤ n ∧ n ≤ (m : Int) ∧ znw G (.inl (t, List.replicate n.toNat 0)) Q
def znR0 (G : ZG) (k : Nat) (n : Int) (m : Nat) (Q : ZR → ZG → Prop) : Prop := 0 ≤ n ∧ n ≤ (m : Int) ∧ znw G (.inr (.inl (k, List.replicate n.toNat none))) Q
/-- instanceof a final class, of a pattern -/
def ziO (G : ZG) (r : ZR) (c : Nat) (Q : Int → Prop) : Prop := ∃ a k fs, r = some (.inl a) ∧ zsj G a = some (.inr (.inr (k, fs))) ∧ (k = 8 ∨ (10 ≤ k ∧ k ≤ 15)) ∧ Q (if k = c then 1 else 0)
/-- a final field that another of the same name follows: what that one holds is said in the end -/
def zdT (G : ZG) (r : ZR) (c k k2 : Nat) (v : ZF) (Q : ZG → Prop) : Prop := ∃ a fs, r = some (.inl a) ∧ zsj G a = some (.inr (.inr (c, fs))) ∧ ∀ u, (u = fs.getD k2 (.inl 0) ∨ u = v) → Q (zsc G a (.inr (.inr (c, (fs.set k v).set k2 u))))
/-- a cast to the class c of ours -/
def zca (G : ZG) (r : ZR) (c : Nat) : Prop := r = none ∨ zisO G r c
/-- a cast to an array of ints -/
def zcaI (G : ZG) (r : ZR) : Prop := ∃ a l, r = some (.inl a) ∧ zsj G a = some (.inl (0, l))
/-- a cast to an array of objects -/
def zcaO (G : ZG) (r : ZR) : Prop := ∃ a l, r = some (.inl a) ∧ zsj G a = some (.inr (.inl (3, l)))
/-- references that may be compared -/
def zok (G : ZG) (r : ZR) : Prop := r = none ∨ (∃ a c, r = some (.inl a) ∧ zsj G a = some c) ∨ (∃ i, r = some (.inr (20 + i)) ∧ i < 4) ∨ r = some (.inr 16) ∨ r = some (.inr 18)
/-- the elements of a copy -/
def zcpl {α : Type} (f g : List α) (sp dp n : Nat) : List α := g.take dp ++ ((f.drop sp).take n ++ g.drop (dp + n))
def zcpI (G : ZG) (x : ZR) (sp : Int) (y : ZR) (dp n : Int) (Q : ZG → Prop) : Prop := ∃ a f b g, x = some (.inl a) ∧ zsj G a = some (.inl (0, f)) ∧ y = some (.inl b) ∧ zsj G b = some (.inl (0, g)) ∧ 0 ≤ sp ∧ 0 ≤ dp ∧ 0 ≤ n ∧ sp + n ≤ f.length ∧ dp + n ≤ g.length ∧ Q (zsc G b (.inl (0, zcpl f g sp.toNat dp.toNat n.toNat)))
def zcpR (G : ZG) (x : ZR) (sp : Int) (y : ZR) (dp n : Int) (Q : ZG → Prop) : Prop := ∃ a f b g, x = some (.inl a) ∧ zsj G a = some (.inr (.inl (3, f))) ∧ y = some (.inl b) ∧ zsj G b = some (.inr (.inl (3, g))) ∧ 0 ≤ sp ∧ 0 ≤ dp ∧ 0 ≤ n ∧ sp + n ≤ f.length ∧ dp + n ≤ g.length ∧ (∀ z ∈ (f.drop sp.toNat).take n.toNat, zel G 3 z) ∧ Q (zsc G b (.inr (.inl (3, zcpl f g sp.toNat dp.toNat n.toNat))))
/-- the copy of an array of ints; of the constants -/
def zclI (G : ZG) (x : ZR) (m : Nat) (Q : ZR → ZG → Prop) : Prop := ∃ a f, x = some (.inl a) ∧ zsj G a = some (.inl (0, f)) ∧ f.length ≤ m ∧ znw G (.inl (0, f)) Q
def zclV (G : ZG) (Q : ZR → ZG → Prop) : Prop := znw G (.inr (.inl (6, [some (.inr 20), some (.inr 21), some (.inr 22), some (.inr 23)]))) Q
/-- a constant's number -/
def zord (r : ZR) (Q : Int → Prop) : Prop := ∃ i : Nat, i < 4 ∧ r = some (.inr (20 + i)) ∧ Q i
