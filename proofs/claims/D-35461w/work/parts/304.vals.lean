/-! COMPONENT: rows, parts, values -/
set_option maxRecDepth 100000
theorem zdf7 : zdf 7 = [.inl 0, .inl 0, .inr none, .inl 0] := rfl
theorem zdf8 : zdf 8 = [] := rfl
theorem zdf9 : zdf 9 = [.inr none, .inl 0, .inl 0, .inl 0, .inl 0, .inl 0, .inl 0] := rfl
theorem zdf10 : zdf 10 = [.inl 0, .inr none] := rfl
theorem zdf11 : zdf 11 = [.inl 0, .inl 0] := rfl
theorem zdf12 : zdf 12 = [.inl 0, .inl 0, .inr none] := rfl
theorem zdf13 : zdf 13 = [.inr none, .inr none] := rfl
theorem zdf14 : zdf 14 = [.inl 0, .inr none] := rfl
theorem zdf15 : zdf 15 = [.inr none, .inl 0] := rfl
theorem zdf16 : zdf 16 = [.inr none, .inl 0, .inr none, .inl 0, .inl 0, .inl 0] := rfl
theorem sX1_firstOf {n a b c : Int} {G : ZG} {Q : ZR → ZG → Prop} (h0 : 0 ≤ n) (h3 : n ≤ 3) (hQ : ∀ x, zsj G x = none → Q (some (.inl x)) (zsc G x (.inl (0, ints n (pk a b c))))) : vX1_firstOf n a b c G Q := by
  simp only [vX1_firstOf, zjn_e, eX1_row]
  have h : n = 0 ∨ n = 1 ∨ n = 2 ∨ n = 3 := by omega
  rcases h with rfl | rfl | rfl | rfl
  · rw [zbr_neg (by omega)]
    exact ⟨by omega, by omega, fun x hx => hQ x hx⟩
  · rw [zbr_pos (by omega), zbr_neg (by omega)]
    refine ⟨by omega, by omega, fun x hx => ?_⟩
    refine zeS_i (zsj_eq _ _ _) (by omega) (by simp) ?_
    rw [zsc_zsc]; exact hQ x hx
  · rw [zbr_pos (by omega), zbr_pos (by omega), zbr_neg (by omega)]
    refine ⟨by omega, by omega, fun x hx => ?_⟩
    refine zeS_i (zsj_eq _ _ _) (by omega) (by simp) ?_
    refine zeS_i (zsj_eq _ _ _) (by omega) (by simp) ?_
    rw [zsc_zsc, zsc_zsc]; exact hQ x hx
  · rw [zbr_pos (by omega), zbr_pos (by omega), zbr_pos (by omega)]
    refine ⟨by omega, by omega, fun x hx => ?_⟩
    refine zeS_i (zsj_eq _ _ _) (by omega) (by simp) ?_
    refine zeS_i (zsj_eq _ _ _) (by omega) (by simp) ?_
    refine zeS_i (zsj_eq _ _ _) (by omega) (by simp) ?_
    rw [zsc_zsc, zsc_zsc, zsc_zsc]; exact hQ x hx
/-- the parts needed are there; the others are none -/
def rpI (m s a b c : Int) : Prop := ∀ k, 0 ≤ k → k < m → 0 ≤ pk a b c k ∧ pk a b c k < s
def rpN (m a b c : Int) : Prop := ∀ k, m ≤ k → k < 3 → pk a b c k = -1
theorem sX1_requireParts {m a b c s : Int} {G : ZG} {X : Nat → ZG → Prop} {Q : ZG → Prop} (h0 : 0 ≤ m) (h3 : m ≤ 3) (hs : 0 ≤ s) (hs2 : s ≤ 1000) (hS : Sep G)
    (hX0 : ¬ rpI m s a b c → ∀ K, Fr [] G K → X 0 K) (hX1 : rpI m s a b c → ¬ rpN m a b c → ∀ K, Fr [] G K → X 1 K) (hQ : rpI m s a b c → rpN m a b c → ∀ K, Fr [] G K → Q K) :
    vX1_requireParts m a b c s 6 30 G X Q := by
  refine ⟨by omega, by omega, by omega, fun x hx => ?_⟩
  refine zeS_i (zsj_eq _ _ _) (by omega) (by simp) ?_
  refine zeS_i (zsj_eq _ _ _) (by omega) (by simp) ?_
  refine zeS_i (zsj_eq _ _ _) (by omega) (by simp) ?_
  rw [zsc_zsc, zsc_zsc, zsc_zsc]
  have hF : Fr [] G (zsc G x (.inl (0, ints 3 (pk a b c)))) := (Fr.refl [] hS).new hS hx
  have hj : zsj (zsc G x (.inl (0, ints 3 (pk a b c)))) x = some (.inl (0, ints 3 (pk a b c))) := zsj_eq _ _ _
  show vX1_row _ _
  rw [eX1_row]
  change zl4 _ 0 (zsc G x (.inl (0, ints 3 (pk a b c)))) _ _
  generalize hK : zsc G x (.inl (0, ints 3 (pk a b c))) = K at hF hj
  rw [w32_eq (x := s - 1) (by omega) (by omega)]
  refine zl4_of (fun i K' kc ks => K' = K ∧ 0 ≤ i ∧ i ≤ m ∧ kc = 1 + i.toNat ∧ ks = 3 + 6 * i.toNat ∧ ∀ j, 0 ≤ j → j < i → 0 ≤ pk a b c j ∧ pk a b c j < s) (fun i _ _ _ => (m - i).toNat) (fun P i K' kc ks hI hP => ?_) ⟨rfl, by omega, h0, rfl, rfl, fun j _ _ => by omega⟩
  obtain ⟨rfl, i0, i1, ekc, eks, hI⟩ := hI
  by_cases hm : m ≤ i
  · rw [zbr_pos hm]
    have him : i = m := by omega
    subst him
    refine zl4_of (fun j K2 kc ks => K2 = K' ∧ i ≤ j ∧ j ≤ 3 ∧ kc = 1 + j.toNat ∧ ks = 3 + 6 * j.toNat ∧ ∀ q, i ≤ q → q < j → pk a b c q = -1) (fun j _ _ _ => (3 - j).toNat) (fun P2 j K2 kc ks hJ hP2 => ?_) ⟨rfl, by omega, h3, ekc, eks, fun q _ _ => by omega⟩
    obtain ⟨rfl, j0, j1, ekc, eks, hJ⟩ := hJ
    refine zeN_i hj ?_
    rw [ints_len]
    by_cases h3j : (((3 : Int).toNat : Nat) : Int) ≤ j
    · rw [zbr_pos h3j]
      exact hQ hI (fun q q1 q2 => hJ q q1 (by omega)) _ hF
    · rw [zbr_neg h3j]
      refine zeI_i hj (by omega) (ints_get (by omega) (by omega)) ?_
      rw [zjn_e]
      by_cases hp : pk a b c j = -1
      · rw [zbr_neg (fun h => h hp)]
        dsimp only
        rw [reqA1, zlt1_e, w32_eq (by omega) (by omega)]
        refine ⟨⟨by omega, by omega⟩, hP2 _ _ _ _ ⟨rfl, by omega, by omega, by omega, by omega, fun q q1 q2 => ?_⟩ (by omega)⟩
        by_cases hqj : q = j
        · rw [hqj]; exact hp
        · exact hJ q q1 (by omega)
      · rw [zbr_pos hp]
        dsimp only
        rw [reqA0]
        exact ⟨⟨by omega, by omega⟩, hX1 hI (fun h => hp (h j j0 (by omega))) _ hF⟩
  · rw [zbr_neg hm]
    refine zeI_i hj i0 (ints_get i0 (by omega)) ?_
    rw [eX1_inRange, eX1_reqI]
    refine ⟨⟨by omega, by omega⟩, ?_⟩
    by_cases hp : 0 ≤ pk a b c i ∧ pk a b c i < s
    · rw [if_pos (by simp; omega), zlt1_e, w32_eq (by omega) (by omega)]
      refine hP _ _ _ _ ⟨rfl, by omega, by omega, by omega, by omega, fun q q1 q2 => ?_⟩ (by omega)
      by_cases hqi : q = i
      · rw [hqi]; exact hp
      · exact hI q q1 (by omega)
    · rw [if_neg (by simp; omega)]
      exact hX0 (fun h => hp (h i i0 (by omega))) _ hF
theorem sX7_init {G : ZG} {a : Nat} {p0 p1 p3 : Int} {p2 : ZR} (hj : zsj G a = some (.inr (.inr (7, zdf 7)))) {Q : ZG → Prop} (h : Q (zsc G a (.inr (.inr (7, [.inl p0, .inl p1, .inr p2, .inl p3]))))) : vX7_init (some (.inl a)) p0 p1 p2 p3 G Q := by
  rw [zdf7] at hj
  refine ⟨⟨a, rfl⟩, ⟨⟨a, rfl⟩, ?_⟩⟩
  refine zdP_i hj ?_
  refine zdP_i (zsj_eq _ _ _) ?_
  refine zdP_i (zsj_eq _ _ _) ?_
  refine zdP_i (zsj_eq _ _ _) ?_
  rw [zsc_zsc, zsc_zsc, zsc_zsc]
  exact h
theorem imm_obj {c : Nat} {fs : List ZF} (h : c ≠ 16) : imm (.inr (.inr (c, fs))) := ⟨by simp [kc], by simp [kc, h]⟩
theorem imm_int {t : Nat} {l : List Int} : imm (.inl (t, l)) := ⟨by simp [kc], by simp [kc]⟩
theorem imm_ref {l : List ZR} : imm (.inr (.inl (4, l))) := ⟨by simp [kc], by simp [kc]⟩
theorem zel_o3 {G : ZG} {a c : Nat} {fs : List ZF} (h : zsj G a = some (.inr (.inr (c, fs)))) : zel G 3 (some (.inl a)) := Or.inr (Or.inl ⟨a, c, fs, rfl, h, Or.inl rfl⟩)
theorem zel_i3 {G : ZG} {a : Nat} {l : List Int} (h : zsj G a = some (.inl (0, l))) : zel G 3 (some (.inl a)) := Or.inr (Or.inr ⟨a, l, rfl, h, Or.inl rfl⟩)
/-- one more at the end of a list -/
def snoc (n : Int) (f : Nat → Nat) (a : Nat) : Nat → Nat := fun k => if k = n.toNat then a else f k
theorem snoc_at (n : Int) (f : Nat → Nat) (a : Nat) : snoc n f a n.toNat = a := if_pos rfl
theorem snoc_lt {n : Int} {f : Nat → Nat} {a k : Nat} (h : (k : Int) < n) : snoc n f a k = f k := if_neg (by omega)
theorem refs_snoc {n : Int} (f : Nat → Nat) (a : Nat) (hn : 0 ≤ n) : refs n f ++ [some (.inl a)] = refs (n + 1) (snoc n f a) := by
  rw [refs_succ f (snoc n f a) hn (fun k hk => snoc_lt hk), snoc_at]
theorem refs_mem {n : Int} {f : Nat → Nat} {y : ZR} (h : y ∈ refs n f) : ∃ k : Nat, (k : Int) < n ∧ y = some (.inl (f k)) := by
  simp only [refs, List.mem_map, List.mem_range] at h
  obtain ⟨k, h1, h2⟩ := h
  exact ⟨k, by omega, h2.symm⟩
theorem sAppend {o : Nat} {G : ZG} {n : Int} {f : Nat → Nat} {a : Nat} (hS : Sep G) (ho : isl o) (hL : Lst G o (refs n f)) (h0 : 0 ≤ n) (hn : n < 60) (hz : ∀ k : Nat, (k : Int) < n → zel G 3 (some (.inl (f k)))) (hx : zel G 3 (some (.inl a)))
    {Q : Int → ZG → Prop} (hQ : ∀ G', Fr [o] G G' → Lst G' o (refs (n + 1) (snoc n f a)) → Q 1 G') : vJ2_add o (some (.inl a)) G Q := by
  refine sJ2_add hL (by rw [refs_len]; omega) (fun y hy => ?_) hx (fun G' h1 h2 => ?_)
  · obtain ⟨k, hk, rfl⟩ := refs_mem hy
    exact hz k hk
  · exact hQ G' (h1.fr h2 ho hS) (by rw [← refs_snoc f a h0]; exact h2)
theorem sX1_addValue {G : ZG} {n : Int} {f : Nat → Nat} {a : Nat} {X : Nat → ZG → Prop} {Q : Int → ZG → Prop} (hS : Sep G) (hL : Lst G 8 (refs n f)) (h0 : 0 ≤ n) (hn : n ≤ 40) (hz : ∀ k : Nat, (k : Int) < n → zel G 3 (some (.inl (f k)))) (hx : zel G 3 (some (.inl a)))
    (hX : n = 40 → X 2 G) (hQ : n < 40 → ∀ G', Fr [8] G G' → Lst G' 8 (refs (n + 1) (snoc n f a)) → Q n G') : vX1_addValue (some (.inl a)) G X Q := by
  have e1 : zsg G 8 2 0 = n := by rw [hL.1, refs_len]; omega
  simp only [vX1_addValue, eJ2_size, zjn_e, e1]
  by_cases h : 40 ≤ n
  · rw [zbr_pos h, reqS0]
    exact hX (by omega)
  · rw [zbr_neg h, reqS1]
    refine sAppend hS ⟨by omega, by omega⟩ hL h0 (by omega) hz hx (fun G' h1 h2 => ?_)
    have e2 : zsg G' 8 2 0 = n + 1 := by rw [h2.1, refs_len]; omega
    rw [e2, w32_eq (by omega) (by omega), show n + 1 - 1 = n by omega]
    exact hQ (by omega) G' h1 h2
/-- one more value -/
def addV (D : ZD) (k h a b c m : Int) : ZD := up (up (up (up (up (up (up D 5 (D 4 0) k) 6 (D 4 0) h) 7 (3 * D 4 0) a) 7 (3 * D 4 0 + 1) b) 7 (3 * D 4 0 + 2) c) 8 (D 4 0) m) 4 0 (D 4 0 + 1)
theorem up_ne {D : ZD} {j j2 : Nat} {i v : Int} (h : j2 ≠ j) : up D j i v j2 = D j2 := funext fun i2 => if_neg (fun q => h q.1)
theorem up_eq (D : ZD) (j : Nat) (i v : Int) : up D j i v j i = v := if_pos ⟨rfl, rfl⟩
theorem up_at (D : ZD) (j : Nat) (i v i2 : Int) : up D j i v j i2 = if i2 = i then v else D j i2 := by
  unfold up; by_cases h : i2 = i
  · rw [if_pos ⟨rfl, h⟩, if_pos h]
  · rw [if_neg (fun q => h q.2), if_neg h]
theorem addV_o {D : ZD} {k h a b c m : Int} {j : Nat} (hj : j < 4 ∨ 8 < j) : addV D k h a b c m j = D j := by
  unfold addV
  rw [up_ne (by omega), up_ne (by omega), up_ne (by omega), up_ne (by omega), up_ne (by omega), up_ne (by omega), up_ne (by omega)]
theorem addV_4 {D : ZD} {k h a b c m : Int} : addV D k h a b c m 4 0 = D 4 0 + 1 := up_eq _ _ _ _
theorem addV_5 {D : ZD} {k h a b c m i : Int} : addV D k h a b c m 5 i = if i = D 4 0 then k else D 5 i := by
  unfold addV; rw [up_ne (by omega), up_ne (by omega), up_ne (by omega), up_ne (by omega), up_ne (by omega), up_ne (by omega), up_at]
theorem addV_6 {D : ZD} {k h a b c m i : Int} : addV D k h a b c m 6 i = if i = D 4 0 then h else D 6 i := by
  unfold addV; rw [up_ne (by omega), up_ne (by omega), up_ne (by omega), up_ne (by omega), up_ne (by omega), up_at, up_ne (by omega)]
theorem addV_8 {D : ZD} {k h a b c m i : Int} : addV D k h a b c m 8 i = if i = D 4 0 then m else D 8 i := by
  unfold addV; rw [up_ne (by omega), up_at, up_ne (by omega), up_ne (by omega), up_ne (by omega), up_ne (by omega), up_ne (by omega)]
theorem addV_7 {D : ZD} {k h a b c m i : Int} : addV D k h a b c m 7 i = if i = 3 * D 4 0 + 2 then c else if i = 3 * D 4 0 + 1 then b else if i = 3 * D 4 0 then a else D 7 i := by
  unfold addV; rw [up_ne (by omega), up_ne (by omega), up_at, up_at, up_at, up_ne (by omega), up_ne (by omega)]
theorem addV_7n {D : ZD} {k h a b c m j : Int} (h0 : 0 ≤ j) (h3 : j < 3) : addV D k h a b c m 7 (3 * D 4 0 + j) = pk a b c j := by
  rw [addV_7]
  have h : j = 0 ∨ j = 1 ∨ j = 2 := by omega
  rcases h with rfl | rfl | rfl
  · rw [if_neg (by omega), if_neg (by omega), if_pos (by omega)]; rfl
  · rw [if_neg (by omega), if_pos (by omega)]; rfl
  · rw [if_pos (by omega)]; rfl
theorem addV_7o {D : ZD} {k h a b c m i j : Int} (h0 : i < D 4 0) (h3 : j < 3) : addV D k h a b c m 7 (3 * i + j) = D 7 (3 * i + j) := by
  rw [addV_7, if_neg (by omega), if_neg (by omega), if_neg (by omega)]
/-- the values behind one more value -/
theorem CIv.add {G' : ZG} {D : ZD} {va vb : Nat → Nat} {x y : Nat} {k h a b c m : Int} (h0 : 0 ≤ D 4 0)
    (hv : ∀ i : Nat, (i : Int) < D 4 0 → HI G' (va i) (.inr (.inr (7, [.inl (D 5 i), .inl (D 6 i), .inr (some (.inl (vb i))), .inl (D 8 i)]))) ∧ HI G' (vb i) (.inl (0, ints (vn D i) fun k => D 7 (3 * i + k))))
    (hn : ∀ i, 0 ≤ i → i < D 4 0 → vn D i ≤ 3) (hL : Lst G' 8 (refs (D 4 0 + 1) (snoc (D 4 0) va x)))
    (hx : HI G' x (.inr (.inr (7, [.inl k, .inl h, .inr (some (.inl y)), .inl m])))) (hy : HI G' y (.inl (0, ints (if k = 4 then 0 else if k = 5 then h else D 2 (4 * k + h)) (pk a b c)))) (hn2 : (if k = 4 then 0 else if k = 5 then h else D 2 (4 * k + h)) ≤ 3) :
    CIv G' (addV D k h a b c m) := by
  refine ⟨snoc (D 4 0) va x, snoc (D 4 0) vb y, by rw [addV_4]; exact hL, fun i hi => ?_⟩
  rw [addV_4] at hi
  by_cases hq : i = (D 4 0).toNat
  · subst hq
    have e : (((D 4 0).toNat : Nat) : Int) = D 4 0 := by omega
    rw [snoc_at, snoc_at, e]
    unfold vn
    rw [addV_5, if_pos rfl, addV_6, if_pos rfl, addV_8, if_pos rfl, addV_o (j := 2) (by omega)]
    refine ⟨hx, ?_⟩
    rw [ints_congr (f := pk a b c) (fun j j0 j1 => addV_7n j0 (by omega))]
    exact hy
  · have hi2 : (i : Int) < D 4 0 := by omega
    rw [snoc_lt hi2, snoc_lt hi2]
    have e5 : addV D k h a b c m 5 i = D 5 i := by rw [addV_5, if_neg (by omega)]
    have e6 : addV D k h a b c m 6 i = D 6 i := by rw [addV_6, if_neg (by omega)]
    have e8 : addV D k h a b c m 8 i = D 8 i := by rw [addV_8, if_neg (by omega)]
    have ev : vn (addV D k h a b c m) i = vn D i := by unfold vn; rw [e5, e6, addV_o (j := 2) (by omega)]
    rw [e5, e6, e8, ev]
    refine ⟨(hv i hi2).1, ?_⟩
    rw [ints_congr (f := fun k => D 7 (3 * i + k)) (fun j j0 j1 => addV_7o hi2 (by have := hn i (by omega) hi2; omega))]
    exact (hv i hi2).2
