/-! LISTS: ArrayList's conditions -/
set_option maxRecDepth 100000
/-- the list o holds L -/
def Lst (G : ZG) (o : Nat) (L : List ZR) : Prop :=
  zsg G o 2 0 = (L.length : Int) ∧ ((zsr G o 1 0 = some (.inr 16) ∧ L = []) ∨ ∃ a r, zsr G o 1 0 = some (.inl a) ∧ zsj G a = some (.inr (.inl (3, L ++ r))) ∧ 10 ≤ (L ++ r).length)
theorem Lst.size {G : ZG} {o : Nat} {L : List ZR} (h : Lst G o L) : zsg G o 2 0 = (L.length : Int) := h.1
theorem zsc_zsc (G : ZG) (a : Nat) (c c' : ZC) : zsc (zsc G a c) a c' = zsc G a c' := by
  unfold zsc
  refine Prod.ext rfl (Prod.ext rfl (funext fun b => ?_))
  show (if b = a then some c' else if b = a then some c else G.2.2 b) = if b = a then some c' else G.2.2 b
  by_cases h : b = a
  · rw [if_pos h, if_pos h]
  · rw [if_neg h, if_neg h, if_neg h]
theorem zsj_eq (G : ZG) (a : Nat) (c : ZC) : zsj (zsc G a c) a = some c := by rw [zsj_sc, if_pos rfl]
theorem zsj_ne {G : ZG} {a b : Nat} {c : ZC} (h : b ≠ a) : zsj (zsc G a c) b = zsj G b := by rw [zsj_sc, if_neg h]
theorem zsj_new {G : ZG} {a b : Nat} {c c' : ZC} (ha : zsj G a = none) (hb : zsj G b = some c') : zsj (zsc G a c) b = some c' := by
  rw [zsj_ne (fun e => by subst e; rw [ha] at hb; cases hb)]; exact hb
theorem sJ2_get {o : Nat} {G : ZG} {L : List ZR} (hL : Lst G o L) {i : Int} {x : ZR} (h0 : 0 ≤ i) (hx : L[i.toNat]? = some x) {Q : ZR → Prop} (hQ : Q x) : vJ2_get o i G Q := by
  have hi : i.toNat < L.length := (List.getElem?_eq_some_iff.mp hx).1
  have hz : i < zsg G o 2 0 := by rw [hL.1]; omega
  simp only [vJ2_get, zgF, vJ13_checkIndex, vJ14_checkIndex, zjn_e]
  rw [zbr_neg (by omega), zbr_pos hz]
  simp only [vJ2_elementData, zgU]
  rcases hL.2 with ⟨_, e⟩ | ⟨a, r, e1, e2, _⟩
  · subst e; simp at hi
  · exact ⟨a, 3, L ++ r, x, e1, e2, h0, by rw [List.getElem?_append_left hi]; exact hx, hQ⟩
theorem zfam_self (x : ZR) : zfam x x := ⟨Iff.rfl, fun o o' h1 h2 => by rw [h1] at h2; cases h2; exact Or.inl rfl⟩
theorem zok_16 (G : ZG) : zok G (some (.inr 16)) := Or.inr (Or.inr (Or.inr (Or.inl rfl)))
theorem zok_18 (G : ZG) : zok G (some (.inr 18)) := Or.inr (Or.inr (Or.inr (Or.inr rfl)))
theorem sJ2_grow {o : Nat} {G : ZG} {L : List ZR} (ho : zsg G o 2 0 = (L.length : Int)) (hn : L.length < 60)
    (hc : (zsr G o 1 0 = some (.inr 16) ∧ L = []) ∨ ∃ a, zsr G o 1 0 = some (.inl a) ∧ zsj G a = some (.inr (.inl (3, L))) ∧ 10 ≤ L.length) (hz : ∀ x ∈ L, ∀ b c, zsj G b = none → zel (zsc G b c) 3 x)
    {Q : ZR → ZG → Prop} (hQ : ∀ b r, zsj G b = none → r ≠ [] → 10 ≤ (L ++ r).length → Q (some (.inl b)) (zsu (zsc G b (.inr (.inl (3, L ++ r)))) o 1 0 (some (.inl b)))) : vJ2_grow o G Q := by
  simp only [vJ2_grow, zgF, ho]
  rw [w32_eq (by omega) (by omega)]
  simp only [vJ2_grow_2, zgU, zjn_e]
  rcases hc with ⟨e, rfl⟩ | ⟨a, e1, e2, hne⟩
  · rw [e]
    refine Or.inr ⟨rfl, ?_⟩
    dsimp only
    rw [zbr_neg (by omega)]
    refine ⟨zok_16 G, zok_16 G, zfam_self _, ?_⟩
    rw [zbr_pos rfl, eJ4_max, if_neg (by simp)]
    exact ⟨by omega, by omega, fun b hb => hQ b (List.replicate 10 none) hb (by simp) (by simp)⟩
  · rw [e1]
    have hp : 0 < L.length := by omega
    have hbs : bShr ((L.length : Nat) : Int) 1 = ((L.length / 2 : Nat) : Int) := bits_half ⟨L.length, by omega⟩
    refine Or.inl ⟨a, rfl, Or.inr ⟨3, L, e2, ?_⟩⟩
    dsimp only
    rw [zbr_pos (by omega)]
    simp only [vJ3_newLength, eJ4_max, zlt1_e, zjn_e, hbs]
    rw [w32_eq (x := (L.length : Int) + 1 - (L.length : Int)) (by omega) (by omega)]
    generalize hm : (if (L.length : Int) + 1 - (L.length : Int) < ((L.length / 2 : Nat) : Int) then ((L.length / 2 : Nat) : Int) else (L.length : Int) + 1 - (L.length : Int)) = m
    have hm1 : 1 ≤ m ∧ m ≤ 30 := by
      rw [← hm]; split <;> omega
    rw [w32_eq (x := (L.length : Int) + m) (by omega) (by omega), zbr_neg (by omega), zbr_neg (by omega)]
    refine ⟨⟨a, L, rfl, e2⟩, ?_⟩
    simp only [vJ5_copyOf_2, zjn_e]
    refine ⟨zok_18 G, zok_18 G, zfam_self _, ?_⟩
    rw [zbr_neg (fun h => h rfl)]
    refine ⟨by omega, by omega, fun b hb => ?_⟩
    have hab : zsj (zsc G b (.inr (.inl (3, List.replicate ((L.length : Int) + m).toNat none)))) a = some (.inr (.inl (3, L))) := zsj_new hb e2
    refine Or.inl ⟨a, rfl, Or.inr ⟨3, L, hab, ?_⟩⟩
    dsimp only
    rw [eJ4_min, if_neg (by omega)]
    refine ⟨a, L, b, _, rfl, hab, rfl, zsj_eq _ _ _, by omega, by omega, by omega, by omega, ?_, ?_, ?_⟩
    · simp; omega
    · intro z hzm
      simp at hzm
      exact hz z hzm b _ hb
    · have hz2 : zcpl L (List.replicate ((L.length : Int) + m).toNat (none : ZR)) (0 : Int).toNat (0 : Int).toNat ((L.length : Nat) : Int).toNat = L ++ List.replicate m.toNat none := by
        simp only [zcpl, Int.toNat_zero, List.take_zero, List.drop_zero, List.nil_append, Int.toNat_natCast, List.take_length, Nat.zero_add, List.drop_replicate]
        congr 2; omega
      rw [zsc_zsc, hz2]
      exact hQ b (List.replicate m.toNat none) hb (by intro h; have := congrArg List.length h; simp at this; omega) (by simp; omega)
/-- what a list's own change leaves as it was -/
def LFr (o : Nat) (G G' : ZG) : Prop :=
  (∀ o' j i, (o' = o → j ≠ 0 ∧ j ≠ 2) → zsg G' o' j i = zsg G o' j i) ∧
  (∀ o' j i, (o' = o → j ≠ 1) → zsr G' o' j i = zsr G o' j i) ∧
  (∀ a c, zsj G a = some c → zsr G o 1 0 ≠ some (.inl a) → zsj G' a = some c) ∧
  (∀ a, zsr G' o 1 0 = some (.inl a) → zsr G o 1 0 = some (.inl a) ∨ zsj G a = none) ∧
  (∀ a l, zsj G a = some (.inr (.inl (3, l))) → ∃ l', zsj G' a = some (.inr (.inl (3, l')))) ∧
  (∀ a, zsj G' a = none → zsj G a = none)
theorem LFr.refl (o : Nat) (G : ZG) : LFr o G G := ⟨fun _ _ _ _ => rfl, fun _ _ _ _ => rfl, fun _ _ h _ => h, fun _ h => Or.inl h, fun _ l h => ⟨l, h⟩, fun _ h => h⟩
theorem LFr.ss {o : Nat} {G K : ZG} (h : LFr o G K) {j : Nat} (i v : Int) (hj : j = 0 ∨ j = 2) : LFr o G (zss K o j i v) := by
  obtain ⟨h1, h2, h3, h4, h5, h6⟩ := h
  refine ⟨fun o' j' i' q => ?_, h2, h3, h4, h5, h6⟩
  rw [zsg_ss, if_neg (fun z => by
    obtain ⟨e1, e2, _⟩ := z
    have := q e1
    omega)]
  exact h1 o' j' i' q
theorem LFr.new {o : Nat} {G K : ZG} (h : LFr o G K) {b : Nat} {l : List ZR} (hb : zsj K b = none) : LFr o G (zsu (zsc K b (.inr (.inl (3, l)))) o 1 0 (some (.inl b))) := by
  obtain ⟨h1, h2, h3, h4, h5, h6⟩ := h
  refine ⟨h1, fun o' j' i' q => ?_, fun a c e1 e2 => ?_, fun a e => ?_, fun a m e => ?_, fun a e => ?_⟩
  · rw [zsr_su, if_neg (fun z => q z.1 z.2.1)]; exact h2 o' j' i' q
  · exact zsj_new hb (h3 a c e1 e2)
  · rw [zsr_su, if_pos ⟨rfl, rfl, rfl⟩] at e
    cases e
    exact Or.inr (h6 _ hb)
  · obtain ⟨m', hm⟩ := h5 a m e
    exact ⟨m', zsj_new hb hm⟩
  · rw [zsj_su, zsj_sc] at e
    by_cases q : a = b
    · rw [if_pos q] at e; cases e
    · rw [if_neg q] at e; exact h6 a e
theorem LFr.arr {o : Nat} {G K : ZG} (h : LFr o G K) {a : Nat} {l l' : List ZR} (ha : zsr K o 1 0 = some (.inl a)) (hl : zsj K a = some (.inr (.inl (3, l)))) : LFr o G (zsc K a (.inr (.inl (3, l')))) := by
  obtain ⟨h1, h2, h3, h4, h5, h6⟩ := h
  refine ⟨h1, h2, fun b c e1 e2 => ?_, h4, fun b m e => ?_, fun b e => ?_⟩
  · rw [zsj_ne (fun q => by
      subst q
      rcases h4 _ ha with z | z
      · exact e2 z
      · rw [z] at e1; cases e1)]
    exact h3 b c e1 e2
  · rw [zsj_sc]
    by_cases q : b = a
    · rw [if_pos q]; exact ⟨l', rfl⟩
    · rw [if_neg q]; exact h5 b m e
  · rw [zsj_sc] at e
    by_cases q : b = a
    · rw [if_pos q] at e; cases e
    · rw [if_neg q] at e; exact h6 b e
theorem zel_new {G : ZG} {x : ZR} {k b : Nat} {c : ZC} (h : zel G k x) (hb : zsj G b = none) : zel (zsc G b c) k x := by
  rcases h with h | ⟨a, c', fs, h1, h2, h3⟩ | ⟨a, l, h1, h2, h3⟩
  · exact Or.inl h
  · exact Or.inr (Or.inl ⟨a, c', fs, h1, zsj_new hb h2, h3⟩)
  · exact Or.inr (Or.inr ⟨a, l, h1, zsj_new hb h2, h3⟩)
theorem zel_arr {G : ZG} {x : ZR} {k b n : Nat} {l l' : List ZR} (hb : zsj G b = some (.inr (.inl (n, l)))) (h : zel G k x) : zel (zsc G b (.inr (.inl (n, l')))) k x := by
  rcases h with h | ⟨a, c', fs, h1, h2, h3⟩ | ⟨a, m, h1, h2, h3⟩
  · exact Or.inl h
  · exact Or.inr (Or.inl ⟨a, c', fs, h1, by rw [zsj_ne (fun e => by subst e; rw [hb] at h2; cases h2)]; exact h2, h3⟩)
  · exact Or.inr (Or.inr ⟨a, m, h1, by rw [zsj_ne (fun e => by subst e; rw [hb] at h2; cases h2)]; exact h2, h3⟩)
theorem sJ2_put {o : Nat} {G K : ZG} {L r : List ZR} {a : Nat} {x : ZR} (ha : zsr K o 1 0 = some (.inl a)) (hj : zsj K a = some (.inr (.inl (3, L ++ r)))) (hr : r ≠ []) (h10 : 10 ≤ (L ++ r).length) (hn : L.length < 60) (hx : zel K 3 x) (hF : LFr o G K)
    {Q : ZG → Prop} (hQ : ∀ G', LFr o G G' → Lst G' o (L ++ [x]) → Q G') : zeU K (some (.inl a)) (L.length : Int) x (fun G1 => zpF G1 o 2 (w32 ((L.length : Int) + 1)) fun G2 => Q G2) := by
  have hrl : 0 < r.length := List.length_pos_iff.mpr hr
  refine ⟨a, 3, L ++ r, rfl, hj, by omega, by simp; omega, hx, ?_⟩
  match r, hr with
  | y :: r, _ =>
    have e0 : (L ++ y :: r).set ((L.length : Nat) : Int).toNat x = L ++ [x] ++ r := by simp
    rw [e0, w32_eq (by omega) (by omega)]
    refine hQ _ ((hF.arr ha hj).ss 0 _ (Or.inr rfl)) ⟨?_, Or.inr ⟨a, r, ha, zsj_eq _ _ _, by simp at h10 ⊢; omega⟩⟩
    rw [zsg_ss, if_pos ⟨rfl, rfl, rfl⟩]; simp
theorem zgrow {o : Nat} {K : ZG} {L : List ZR} (hL : Lst K o L) (hn : L.length < 60) (hz : ∀ y ∈ L, zel K 3 y)
    {J : ZR → ZG → Prop} (h : ∀ a r K', zsr K' o 1 0 = some (.inl a) → zsj K' a = some (.inr (.inl (3, L ++ r))) → r ≠ [] → 10 ≤ (L ++ r).length → (K' = K ∨ ∃ b, zsj K b = none ∧ K' = zsu (zsc K b (.inr (.inl (3, L ++ r)))) o 1 0 (some (.inl b))) → J (some (.inl a)) K') :
    zeN K (zsr K o 1 0) fun x1 => zbr ((L.length : Int) ≠ x1) (J (zsr K o 1 0) K) (vJ2_grow o K fun x2 G3 => J x2 G3) := by
  obtain ⟨h2, hc⟩ := hL
  have hg : ((zsr K o 1 0 = some (.inr 16) ∧ L = []) ∨ ∃ a, zsr K o 1 0 = some (.inl a) ∧ zsj K a = some (.inr (.inl (3, L))) ∧ 10 ≤ L.length) → vJ2_grow o K fun x2 G3 => J x2 G3 := by
    intro hc2
    refine sJ2_grow h2 hn hc2 (fun y hy b c hb => zel_new (hz y hy) hb) (fun b r hb hr h10 => ?_)
    refine h b r _ ?_ (zsj_eq _ _ _) hr h10 (Or.inr ⟨b, hb, rfl⟩)
    rw [zsr_su, if_pos ⟨rfl, rfl, rfl⟩]
  rcases hc with ⟨e, hl⟩ | ⟨a, r, e1, e2, h10⟩
  · have hg2 := hg (Or.inl ⟨e, hl⟩)
    rw [e]
    refine Or.inr ⟨rfl, ?_⟩
    subst hl
    rw [zbr_neg (by simp)]
    exact hg2
  · by_cases hr : r = []
    · subst hr
      rw [List.append_nil] at e2 h10
      have hg2 := hg (Or.inr ⟨a, e1, e2, h10⟩)
      rw [e1]
      refine Or.inl ⟨a, rfl, Or.inr ⟨3, L, e2, ?_⟩⟩
      dsimp only
      rw [zbr_neg (by simp)]
      exact hg2
    · have hrl : 0 < r.length := List.length_pos_iff.mpr hr
      rw [e1]
      refine Or.inl ⟨a, rfl, Or.inr ⟨3, L ++ r, e2, ?_⟩⟩
      dsimp only
      rw [zbr_pos (by simp; omega)]
      exact h a r K e1 e2 hr h10 (Or.inl rfl)
theorem LFr.grown {o : Nat} {G K K' : ZG} {l : List ZR} (h : LFr o G K) (hk : K' = K ∨ ∃ b, zsj K b = none ∧ K' = zsu (zsc K b (.inr (.inl (3, l)))) o 1 0 (some (.inl b))) : LFr o G K' := by
  rcases hk with rfl | ⟨b, hb, rfl⟩
  · exact h
  · exact h.new hb
theorem zel_grown {o k : Nat} {K K' : ZG} {l : List ZR} {x : ZR} (h : zel K k x) (hk : K' = K ∨ ∃ b, zsj K b = none ∧ K' = zsu (zsc K b (.inr (.inl (3, l)))) o 1 0 (some (.inl b))) : zel K' k x := by
  rcases hk with rfl | ⟨b, hb, rfl⟩
  · exact h
  · exact zel_new h hb
theorem Lst.mod {o : Nat} {G : ZG} {L : List ZR} (h : Lst G o L) (i v : Int) : Lst (zss G o 0 i v) o L := by
  refine ⟨?_, h.2⟩
  rw [zsg_ss, if_neg (by simp)]; exact h.1
theorem sJ2_add {o : Nat} {G : ZG} {L : List ZR} {x : ZR} (hL : Lst G o L) (hn : L.length < 60) (hz : ∀ y ∈ L, zel G 3 y) (hx : zel G 3 x)
    {Q : Int → ZG → Prop} (hQ : ∀ G', LFr o G G' → Lst G' o (L ++ [x]) → Q 1 G') : vJ2_add o x G Q := by
  simp only [vJ2_add, zgF, zpF, zgU]
  have hL1 := hL.mod 0 (w32 (zsg G o 0 0 + 1))
  have hF1 : LFr o G (zss G o 0 0 (w32 (zsg G o 0 0 + 1))) := (LFr.refl o G).ss 0 _ (Or.inl rfl)
  rw [hL1.1]
  simp only [vJ2_add_2, zjn_e]
  refine zgrow hL1 hn hz (J := fun y11 H11 => zeU H11 y11 (L.length : Int) x fun G1 => zpF G1 o 2 (w32 ((L.length : Int) + 1)) fun G2 => Q 1 G2) (fun a r K' h1 h2 h3 h4 h5 => ?_)
  exact sJ2_put h1 h2 h3 h4 hn (zel_grown (K := zss G o 0 0 (w32 (zsg G o 0 0 + 1))) hx h5) (hF1.grown h5) (fun G' hf hl => hQ G' hf hl)
theorem zset_at (L r : List ZR) (i : Nat) (x : ZR) (h : i < L.length) : (L ++ r).set i x = L.set i x ++ r := by rw [List.set_append_left _ _ h]
theorem sJ2_set {o : Nat} {G : ZG} {L : List ZR} {x y : ZR} {i : Int} (hL : Lst G o L) (h0 : 0 ≤ i) (hy : L[i.toNat]? = some y) (hx : zel G 3 x)
    {Q : ZR → ZG → Prop} (hQ : ∀ G', LFr o G G' → Lst G' o (L.set i.toNat x) → Q y G') : vJ2_set o i x G Q := by
  have hi : i.toNat < L.length := (List.getElem?_eq_some_iff.mp hy).1
  simp only [vJ2_set, zgF, zgU, vJ13_checkIndex, vJ14_checkIndex, zjn_e, vJ2_elementData]
  rw [hL.1, zbr_neg (by omega), zbr_pos (by omega)]
  rcases hL.2 with ⟨_, e⟩ | ⟨a, r, e1, e2, h10⟩
  · subst e; simp at hi
  · refine ⟨a, 3, L ++ r, y, e1, e2, h0, by rw [List.getElem?_append_left hi]; exact hy, ?_⟩
    refine ⟨a, 3, L ++ r, e1, e2, h0, by simp; omega, hx, ?_⟩
    rw [zset_at L r _ x hi]
    exact hQ _ ((LFr.refl o G).arr e1 e2) ⟨by simp; exact hL.1, Or.inr ⟨a, r, e1, zsj_eq _ _ _, by simp at h10 ⊢; omega⟩⟩
theorem sJ2_insert {o : Nat} {G : ZG} {L : List ZR} {x : ZR} {i : Int} (hL : Lst G o L) (hn : L.length < 60) (h0 : 0 ≤ i) (hi : i ≤ (L.length : Int)) (hz : ∀ y ∈ L, zel G 3 y) (hx : zel G 3 x)
    {Q : ZG → Prop} (hQ : ∀ G', LFr o G G' → Lst G' o (L.take i.toNat ++ x :: L.drop i.toNat) → Q G') : vJ2_add_3 o i x G Q := by
  simp only [vJ2_add_3, vJ2_rangeCheckForAdd, zgF, zpF, zgU, zjn_e]
  rw [hL.1, zbr_neg (by omega), zbr_pos h0]
  have hL1 := hL.mod 0 (w32 (zsg G o 0 0 + 1))
  have hF1 : LFr o G (zss G o 0 0 (w32 (zsg G o 0 0 + 1))) := (LFr.refl o G).ss 0 _ (Or.inl rfl)
  rw [hL1.1]
  refine zgrow hL1 hn hz (J := fun y38 H38 => zcpR H38 y38 i y38 (w32 (i + 1)) (w32 ((L.length : Int) - i)) fun G2 => zeU G2 y38 i x fun G3 => zpF G3 o 2 (w32 ((L.length : Int) + 1)) fun G4 => Q G4) (fun a r K' h1 h2 h3 h4 h5 => ?_)
  match r, h3 with
  | y :: r, _ =>
    rw [w32_eq (x := i + 1) (by omega) (by omega), w32_eq (x := (L.length : Int) - i) (by omega) (by omega)]
    have hin : i.toNat ≤ L.length := by omega
    have en : ((L.length : Int) - i).toNat = L.length - i.toNat := by omega
    have ei : (i + 1).toNat = i.toNat + 1 := by omega
    refine ⟨a, L ++ y :: r, a, L ++ y :: r, rfl, h2, rfl, h2, h0, by omega, by omega, by simp; omega, by simp; omega, ?_, ?_⟩
    · intro z hzm
      rw [en, List.drop_append_of_le_length hin, List.take_append_of_le_length (by simp)] at hzm
      exact zel_grown (K := zss G o 0 0 (w32 (zsg G o 0 0 + 1))) (hz z (List.mem_of_mem_drop (List.mem_of_mem_take hzm))) h5
    · have hz2 : ∃ w, zcpl (L ++ y :: r) (L ++ y :: r) i.toNat (i + 1).toNat ((L.length : Int) - i).toNat = (L.take i.toNat ++ w :: L.drop i.toNat) ++ r := by
        have h3 : (L ++ y :: r).take (i.toNat + 1) = L.take i.toNat ++ [(L ++ y :: r)[i.toNat]'(by simp; omega)] := by
          rw [List.take_succ_eq_append_getElem (by simp; omega), List.take_append_of_le_length hin]
        refine ⟨(L ++ y :: r)[i.toNat]'(by simp; omega), ?_⟩
        have a2 : ((L ++ y :: r).drop i.toNat).take (L.length - i.toNat) = L.drop i.toNat := by
          rw [List.drop_append_of_le_length hin]
          exact List.take_left' (by simp)
        have a3 : (L ++ y :: r).drop (i.toNat + 1 + (L.length - i.toNat)) = r := by
          rw [show L ++ y :: r = (L ++ [y]) ++ r by simp]
          exact List.drop_left' (by simp; omega)
        unfold zcpl
        rw [en, ei, h3, a2, a3]
        simp
      obtain ⟨w, hw⟩ := hz2
      rw [hw]
      have e9 : ((L.take i.toNat ++ w :: L.drop i.toNat) ++ r).set i.toNat x = (L.take i.toNat ++ x :: L.drop i.toNat) ++ r := by
        rw [List.append_assoc, List.set_append_right _ _ (by simp; omega)]
        simp [List.length_take, Nat.min_eq_left hin]
      refine ⟨a, 3, _, rfl, zsj_eq _ _ _, h0, by simp; omega, zel_arr h2 (zel_grown (K := zss G o 0 0 (w32 (zsg G o 0 0 + 1))) hx h5), ?_⟩
      rw [e9, zsc_zsc, w32_eq (by omega) (by omega)]
      refine hQ _ ((((hF1.grown h5).arr h1 h2)).ss 0 _ (Or.inr rfl)) ⟨?_, Or.inr ⟨a, r, h1, zsj_eq _ _ _, by simp at h4 ⊢; omega⟩⟩
      rw [zsg_ss, if_pos ⟨rfl, rfl, rfl⟩]; simp; omega
theorem sJ2_remove {o : Nat} {G : ZG} {L : List ZR} {y : ZR} {i : Int} (hL : Lst G o L) (hn : L.length < 60) (h0 : 0 ≤ i) (hy : L[i.toNat]? = some y) (hz : ∀ y ∈ L, zel G 3 y)
    {Q : ZR → ZG → Prop} (hQ : ∀ G', LFr o G G' → Lst G' o (L.eraseIdx i.toNat) → Q y G') : vJ2_remove o i G Q := by
  have hi : i.toNat < L.length := (List.getElem?_eq_some_iff.mp hy).1
  simp only [vJ2_remove, zgF, zgU, vJ13_checkIndex, vJ14_checkIndex, zjn_e]
  rw [hL.1, zbr_neg (by omega), zbr_pos (by omega)]
  rcases hL.2 with ⟨_, e⟩ | ⟨a, r, e1, e2, h10⟩
  · subst e; simp at hi
  · refine ⟨a, 3, L ++ r, y, e1, e2, h0, by rw [List.getElem?_append_left hi]; exact hy, ?_⟩
    have hL1 := hL.mod 0 (w32 (zsg G o 0 0 + 1))
    have hF1 : LFr o G (zss G o 0 0 (w32 (zsg G o 0 0 + 1))) := (LFr.refl o G).ss 0 _ (Or.inl rfl)
    simp only [vJ2_fastRemove, zgF, zpF, zjn_e, zlt1_e]
    rw [hL1.1, w32_eq (x := (L.length : Int) - 1) (by omega) (by omega), e1]
    have fin : ∀ (K : ZG) (l : List ZR), LFr o G K → zsr K o 1 0 = some (.inl a) → zsj K a = some (.inr (.inl (3, l))) → l.length = L.length + r.length → l.set (L.length - 1) none = (L.eraseIdx i.toNat ++ none :: r) →
        zeU (zss K o 2 0 ((L.length : Int) - 1)) (some (.inl a)) ((L.length : Int) - 1) none fun G3 => Q y G3 := by
      intro K l hF hk hl hlen hset
      refine ⟨a, 3, l, rfl, hl, by omega, by omega, Or.inl ⟨rfl, Or.inl rfl⟩, ?_⟩
      rw [show ((L.length : Int) - 1).toNat = L.length - 1 by omega, hset]
      refine hQ _ ((hF.ss 0 _ (Or.inr rfl)).arr hk hl) ⟨?_, Or.inr ⟨a, none :: r, hk, zsj_eq _ _ _, ?_⟩⟩
      · rw [zsg_sc, zsg_ss, if_pos ⟨rfl, rfl, rfl⟩, List.length_eraseIdx, if_pos hi]; omega
      · have := congrArg List.length hset
        simp only [List.length_set, List.length_append, List.length_cons] at this h10 ⊢
        omega
    by_cases hl : (L.length : Int) - 1 ≤ i
    · rw [zbr_pos hl]
      refine fin _ _ hF1 e1 e2 (by simp) ?_
      have : i.toNat = L.length - 1 := by omega
      rw [this, zset_at _ _ _ _ (by omega)]
      rw [List.set_eq_take_append_cons_drop, List.eraseIdx_eq_take_drop_succ]
      rw [if_pos (by omega), show L.length - 1 + 1 = L.length by omega, List.drop_length]
      simp
    · rw [zbr_neg hl, w32_eq (x := i + 1) (by omega) (by omega), w32_eq (x := (L.length : Int) - 1 - i) (by omega) (by omega)]
      have en : ((L.length : Int) - 1 - i).toNat = L.length - 1 - i.toNat := by omega
      have ei : (i + 1).toNat = i.toNat + 1 := by omega
      refine ⟨a, L ++ r, a, L ++ r, rfl, e2, rfl, e2, by omega, h0, by omega, by simp; omega, by simp; omega, ?_, ?_⟩
      · intro z hzm
        rw [en, ei, List.drop_append_of_le_length (by omega), List.take_append_of_le_length (by simp; omega)] at hzm
        exact hz z (List.mem_of_mem_drop (List.mem_of_mem_take hzm))
      · have hz2 : ∃ w, zcpl (L ++ r) (L ++ r) (i + 1).toNat i.toNat ((L.length : Int) - 1 - i).toNat = L.eraseIdx i.toNat ++ w :: r := by
          have h3 : (L ++ r).drop (L.length - 1) = (L ++ r)[L.length - 1]'(by simp; omega) :: (L ++ r).drop (L.length - 1 + 1) := List.drop_eq_getElem_cons (by simp; omega)
          refine ⟨(L ++ r)[L.length - 1]'(by simp; omega), ?_⟩
          have a1 : (L ++ r).take i.toNat = L.take i.toNat := List.take_append_of_le_length (by omega)
          have a2 : ((L ++ r).drop (i.toNat + 1)).take (L.length - 1 - i.toNat) = L.drop (i.toNat + 1) := by
            rw [List.drop_append_of_le_length (by omega)]
            exact List.take_left' (by simp; omega)
          unfold zcpl
          rw [en, ei, show i.toNat + (L.length - 1 - i.toNat) = L.length - 1 by omega, h3, show L.length - 1 + 1 = L.length by omega, List.drop_left, a1, a2]
          rw [List.eraseIdx_eq_take_drop_succ, List.append_assoc]
        obtain ⟨w, hw⟩ := hz2
        rw [hw]
        have hlen : (L.eraseIdx i.toNat).length = L.length - 1 := by rw [List.length_eraseIdx, if_pos hi]
        refine fin _ _ (hF1.arr e1 e2) e1 (zsj_eq _ _ _) (by simp only [List.length_append, List.length_cons, hlen]; omega) ?_
        rw [List.set_append_right _ _ (by omega), hlen]; simp
theorem sJ2_clear {o : Nat} {G : ZG} {L : List ZR} (hL : Lst G o L) (hn : L.length < 60)
    {Q : ZG → Prop} (hQ : ∀ G', LFr o G G' → Lst G' o [] → Q G') : vJ2_clear o G Q := by
  simp only [vJ2_clear, zgF, zpF, zgU]
  rw [(hL.mod 0 (w32 (zsg G o 0 0 + 1))).1]
  have hF1 : LFr o G (zss (zss G o 0 0 (w32 (zsg G o 0 0 + 1))) o 2 0 0) := ((LFr.refl o G).ss 0 _ (Or.inl rfl)).ss 0 _ (Or.inr rfl)
  refine zl2_of (fun k K => 0 ≤ k ∧ k ≤ (L.length : Int) ∧ LFr o G K ∧ zsg K o 2 0 = 0 ∧ ((zsr K o 1 0 = some (.inr 16) ∧ L = []) ∨ ∃ a l, zsr G o 1 0 = some (.inl a) ∧ zsr K o 1 0 = some (.inl a) ∧ zsj K a = some (.inr (.inl (3, l))) ∧ 10 ≤ l.length ∧ L.length ≤ l.length)) (fun k _ => ((L.length : Int) - k).toNat) (fun P k K hI hP => ?_) ?_
  · obtain ⟨k0, k1, hF, hz, hc⟩ := hI
    by_cases h : (L.length : Int) ≤ k
    · rw [zbr_pos h]
      refine hQ K hF ⟨by simpa using hz, ?_⟩
      rcases hc with ⟨e, _⟩ | ⟨a, l, e1, e2, e3, e4, _⟩
      · exact Or.inl ⟨e, rfl⟩
      · exact Or.inr ⟨a, l, e2, by simpa using e3, by simpa using e4⟩
    · rw [zbr_neg h]
      rcases hc with ⟨e, hl⟩ | ⟨a, l, e1, e2, e3, e4, e5⟩
      · subst hl; simp at h; omega
      · refine ⟨a, 3, l, e1, e3, k0, by omega, Or.inl ⟨rfl, Or.inl rfl⟩, ?_⟩
        dsimp only
        rw [zlt1_e, w32_eq (by omega) (by omega)]
        refine hP _ _ ⟨by omega, by omega, hF.arr e2 e3, hz, Or.inr ⟨a, _, e1, e2, zsj_eq _ _ _, by simpa using e4, by simpa using e5⟩⟩ (by omega)
  · refine ⟨by omega, by omega, hF1, by rw [zsg_ss, if_pos ⟨rfl, rfl, rfl⟩], ?_⟩
    rcases hL.2 with ⟨e, hl⟩ | ⟨a, r, e1, e2, e3⟩
    · exact Or.inl ⟨e, hl⟩
    · exact Or.inr ⟨a, L ++ r, e1, e1, e2, e3, by simp⟩
