/-! COMPONENT: nodes are made -/
set_option maxRecDepth 100000
/-- what building a tree changes: rows under n and what is known under m stay -/
def Wf (o : Nat) (n m : Int) (G G' : ZG) : Prop := Fr [o] G G' ∧ (∀ j i, (j = 1 ∨ j = 2 ∨ j = 8 ∨ j = 11 ∨ 23 < j) → zsg G' o j i = zsg G o j i) ∧ (∀ j i, zsr G' o j i = zsr G o j i) ∧ (∀ j i, (j = 3 ∨ j = 4 ∨ j = 5 ∨ j = 7) → i < n → zsg G' o j i = zsg G o j i) ∧ (∀ i, i < 10 * n → zsg G' o 6 i = zsg G o 6 i) ∧ (∀ j i, 12 ≤ j → j ≤ 14 → i < m → zsg G' o j i = zsg G o j i)
theorem Wf.refl {o : Nat} {G : ZG} (n m : Int) (hS : Sep G) : Wf o n m G G := ⟨Fr.refl _ hS, fun _ _ _ => rfl, fun _ _ => rfl, fun _ _ _ _ => rfl, fun _ _ => rfl, fun _ _ _ _ _ => rfl⟩
theorem Wf.trans {o : Nat} {n m n' m' : Int} {G K H : ZG} (h : Wf o n m G K) (g : Wf o n' m' K H) (hn : n ≤ n') (hm : m ≤ m') : Wf o n m G H :=
  ⟨h.1.trans g.1, fun j i a => (g.2.1 j i a).trans (h.2.1 j i a), fun j i => (g.2.2.1 j i).trans (h.2.2.1 j i), fun j i a b => (g.2.2.2.1 j i a (by omega)).trans (h.2.2.2.1 j i a b), fun i a => (g.2.2.2.2.1 i (by omega)).trans (h.2.2.2.2.1 i a), fun j i a b c => (g.2.2.2.2.2 j i a b (by omega)).trans (h.2.2.2.2.2 j i a b c)⟩
theorem Wf.ss {o : Nat} {n m : Int} {G K : ZG} (h : Wf o n m G K) (ho : tob o) {j : Nat} {i v : Int} (hj : j = 9 ∨ j = 10 ∨ j = 15 ∨ j = 16 ∨ ((j = 3 ∨ j = 4 ∨ j = 5 ∨ j = 7) ∧ n ≤ i) ∨ (j = 6 ∧ 10 * n ≤ i) ∨ ((12 ≤ j ∧ j ≤ 14) ∧ m ≤ i)) : Wf o n m G (zss K o j i v) := by
  refine ⟨h.1.ss _ _ _ (by simp) (by unfold tob at ho; omega), fun j' i' a => ?_, fun j' i' => by rw [zsr_ss]; exact h.2.2.1 j' i', fun j' i' a b => ?_, fun i' a => ?_, fun j' i' a b c => ?_⟩
  · rw [zsg_ss, if_neg (by omega)]; exact h.2.1 j' i' a
  · rw [zsg_ss, if_neg (by omega)]; exact h.2.2.2.1 j' i' a b
  · rw [zsg_ss, if_neg (by omega)]; exact h.2.2.2.2.1 i' a
  · rw [zsg_ss, if_neg (by omega)]; exact h.2.2.2.2.2 j' i' a b c
theorem Wf.vu {o : Nat} {n m : Int} {G K : ZG} (h : Vu o G K) : Wf o n m G K :=
  ⟨h.1, fun j i a => h.2.1 j i (by omega) (by omega), h.2.2, fun j i a _ => h.2.1 j i (by omega) (by omega), fun i _ => h.2.1 6 i (by omega) (by omega), fun j i a b _ => h.2.1 j i (by omega) (by omega)⟩
theorem KL.wf {o : Nat} {n : Int} {G K : ZG} {e : PT} (h : KL o G e) (w : Wf o n (zsg G o 15 0) G K) (h15 : zsg K o 15 0 = zsg G o 15 0) : KL o K e := by
  obtain ⟨h1, h2, h3⟩ := h
  refine ⟨by rw [h15]; exact h1, h2, fun k x hx => ?_⟩
  have := (List.getElem?_eq_some_iff.mp hx).1
  rw [w.2.2.2.2.2 12 k (by omega) (by omega) (by omega), w.2.2.2.2.2 13 k (by omega) (by omega) (by omega), w.2.2.2.2.2 14 k (by omega) (by omega) (by omega)]
  exact h3 k x hx
theorem FK.wf {o : Nat} {G K : ZG} {e : PT} (h : FK o G e) (h16 : zsg K o 16 0 = zsg G o 16 0) : FK o K e := by
  unfold FK; rw [h16]; exact h
/-- the code of a node -/
def ck (x : Int) : Int := if x ≤ 2 then x + 3 else 5 - x
/-- the tables tell a node -/
def Row (D : ZD) (eng : Int) (o : Nat) (G : ZG) (L : List PT) (i : Nat) (q : PT) : Prop :=
  zsg G o 3 i = ck (nl D eng q).1 ∧ zsg G o 4 i = (nl D eng q).2.2.1 ∧ zsg G o 5 i = (nl D eng q).2.1 ∧ zsg G o 7 i = (nl D eng q).2.2.2 ∧ ∀ k : Nat, (k : Int) < (nl D eng q).2.2.2 → ∃ y : Nat, zsg G o 6 (10 * i + k) = (y : Int) ∧ i < y ∧ L[y]? = some (((nl D eng q).1, (nl D eng q).2.1, (nl D eng q).2.2.1, (k : Int)) :: q)
theorem Row.wf {D : ZD} {eng : Int} {o : Nat} {n m : Int} {G K : ZG} {L L' : List PT} {i : Nat} {q : PT} (h : Row D eng o G L i q) (w : Wf o n m G K) (hi : (i : Int) < n) (h10 : (nl D eng q).2.2.2 ≤ 10) (hL : ∀ (k : Nat) x, L[k]? = some x → L'[k]? = some x) : Row D eng o K L' i q := by
  obtain ⟨h1, h2, h3, h4, h5⟩ := h
  refine ⟨by rw [w.2.2.2.1 3 i (by omega) hi]; exact h1, by rw [w.2.2.2.1 4 i (by omega) hi]; exact h2, by rw [w.2.2.2.1 5 i (by omega) hi]; exact h3, by rw [w.2.2.2.1 7 i (by omega) hi]; exact h4, fun k hk => ?_⟩
  obtain ⟨y, y1, y2, y3⟩ := h5 k hk
  exact ⟨y, by rw [w.2.2.2.2.1 _ (by omega)]; exact y1, y2, hL y _ y3⟩
/-- the tables are too small -/
def Lrg (D : ZD) (eng : Int) (o : Nat) (G : ZG) : Prop := zsg G o 10 0 = 1 ∧ zsg G o 9 0 = 500 ∧ Big D eng
/-- the nodes made so far -/
def Nrm (D : ZD) (eng : Int) (o : Nat) (G : ZG) (L : List PT) : Prop := zsg G o 10 0 = 0 ∧ zsg G o 9 0 = (L.length : Int) ∧ L.length ≤ 500 ∧ L.Nodup ∧ ∀ q ∈ L, isN D eng q
def Bss (D : ZD) (eng : Int) (o : Nat) (G : ZG) (L : List PT) : Prop := Lrg D eng o G ∨ Nrm D eng o G L
theorem Bss.of {D : ZD} {eng : Int} {o : Nat} {G K : ZG} {L : List PT} (h : Bss D eng o G L) (h9 : zsg K o 9 0 = zsg G o 9 0) (h10 : zsg K o 10 0 = zsg G o 10 0) : Bss D eng o K L := by
  unfold Bss Lrg Nrm; rw [h9, h10]; exact h
theorem Nrm.of {D : ZD} {eng : Int} {o : Nat} {G K : ZG} {L : List PT} (h : Nrm D eng o G L) (h9 : zsg K o 9 0 = zsg G o 9 0) (h10 : zsg K o 10 0 = zsg G o 10 0) : Nrm D eng o K L := by
  unfold Nrm; rw [h9, h10]; exact h
theorem Lrg.of {D : ZD} {eng : Int} {o : Nat} {G K : ZG} (h : Lrg D eng o G) (h9 : zsg K o 9 0 = zsg G o 9 0) (h10 : zsg K o 10 0 = zsg G o 10 0) : Lrg D eng o K := by
  unfold Lrg; rw [h9, h10]; exact h
/-- where a tree is being built -/
def Pre (D : ZD) (eng : Int) (o : Nat) (G : ZG) (L : List PT) (e : PT) : Prop := CDx G D ∧ KL o G e ∧ FK o G e ∧ zsg G o 2 0 = bb (decide (eng = 3)) ∧ Bss D eng o G L ∧ isN D eng e ∧ nl D eng e = lab D eng e ∧ ∀ q ∈ L, ¬ e <:+ q
/-- what a node that has been built left -/
def BR (D : ZD) (eng : Int) (o : Nat) (G : ZG) (L : List PT) (e : PT) (r : Int) (G' : ZG) : Prop := Wf o (L.length : Int) (zsg G o 15 0) G G' ∧ zsg G' o 15 0 = zsg G o 15 0 ∧ zsg G' o 16 0 = zsg G o 16 0 ∧
  (Lrg D eng o G' ∨ (zsg G o 10 0 = 0 ∧ r = (L.length : Int) ∧ ∃ S, Nrm D eng o G' (L ++ S) ∧ S[0]? = some e ∧ S.Pairwise plt ∧ (∀ q ∈ S, e <:+ q) ∧ ∀ (i : Nat) q, L.length ≤ i → (L ++ S)[i]? = some q → Row D eng o G' (L ++ S) i q))
theorem w4_node {D : ZD} {eng : Int} {o : Nat} {G : ZG} {L : List PT} {e : PT} {a b c : Int} {Q : Int → ZG → Prop} (ho : tob o) (hS : Sep G) (hB : Bss D eng o G L) (hN : isN D eng e) (he : e ∉ L)
    (hQ : ∀ r G', Wf o (L.length : Int) (zsg G o 15 0) G G' → zsg G' o 15 0 = zsg G o 15 0 → zsg G' o 16 0 = zsg G o 16 0 → (∀ j i, 17 ≤ j → j ≤ 19 → zsg G' o j i = zsg G o j i) → (Lrg D eng o G' ∨ (zsg G o 10 0 = 0 ∧ r = (L.length : Int) ∧ Nrm D eng o G' (L ++ [e]) ∧ zsg G' o 3 r = a ∧ zsg G' o 4 r = b ∧ zsg G' o 5 r = c ∧ zsg G' o 7 r = 0)) → Q r G') : vX4_node o a b c G Q := by
  have hlen : (L ++ [e]).length = L.length + 1 := by rw [List.length_append]; rfl
  have hnd : L.Nodup → (L ++ [e]).Nodup := fun h1 => by
    rw [List.nodup_append]
    refine ⟨h1, by simp, fun x hx y hy e => ?_⟩
    rw [List.mem_singleton] at hy
    subst e; subst hy
    exact he hx
  have hall : (∀ q ∈ L, isN D eng q) → ∀ q ∈ L ++ [e], isN D eng q := fun h q hq => by
    rcases List.mem_append.mp hq with hq | hq
    · exact h q hq
    · rw [List.mem_singleton] at hq; rw [hq]; exact hN
  unfold vX4_node
  rw [zgF_e]
  have big : Big D eng → zsg G o 9 0 = 500 → zpF G o 10 1 fun (G6 : ZG) => Q 0 G6 := fun hb h9 => by
    rw [zpF_e]
    refine hQ _ _ ((Wf.refl _ _ hS).ss ho (by omega)) ?_ ?_ (fun j i j0 j1 => ?_) (Or.inl ⟨?_, ?_, hb⟩)
    · rw [zsg_ss, if_neg (by omega)]
    · rw [zsg_ss, if_neg (by omega)]
    · rw [zsg_ss, if_neg (by omega)]
    · rw [zsg_ss, if_pos ⟨rfl, rfl, rfl⟩]
    · rw [zsg_ss, if_neg (by omega)]; exact h9
  rcases hB with ⟨h1, h2, h3⟩ | ⟨h1, h2, h3, h4, h5⟩
  · rw [h2]
    exact zbr_i (fun z => absurd rfl z) (fun _ => big h3 h2)
  · rw [h2]
    refine zbr_i (fun hn => ?_) (fun hn => ?_)
    · have w0 := Wf.refl (o := o) (L.length : Int) (zsg G o 15 0) hS
      rw [zgF_e, h2]
      refine zaS_i (by omega) (by omega) ?_
      rw [zgF_e, zsg_ss, if_neg (by omega), h2]
      refine zaS_i (by omega) (by omega) ?_
      rw [zgF_e, zsg_ss, if_neg (by omega), zsg_ss, if_neg (by omega), h2]
      refine zaS_i (by omega) (by omega) ?_
      rw [zgF_e, zsg_ss, if_neg (by omega), zsg_ss, if_neg (by omega), zsg_ss, if_neg (by omega), h2]
      refine zaS_i (by omega) (by omega) ?_
      rw [zgF_e, zsg_ss, if_neg (by omega), zsg_ss, if_neg (by omega), zsg_ss, if_neg (by omega), zsg_ss, if_neg (by omega), h2, zpF_e, zgF_e, zsg_ss, if_pos ⟨rfl, rfl, rfl⟩, w32_eq (x := (L.length : Int) + 1) (by omega) (by omega), w32_eq (by omega) (by omega), show (L.length : Int) + 1 - 1 = (L.length : Int) by omega]
      refine hQ _ _ (((((w0.ss ho (by omega)).ss ho (by omega)).ss ho (by omega)).ss ho (by omega)).ss ho (by omega)) ?_ ?_ (fun j i j0 j1 => ?_) (Or.inr ⟨h1, rfl, ⟨?_, ?_, by omega, hnd h4, hall h5⟩, ?_, ?_, ?_, ?_⟩)
      · rw [zsg_ss, if_neg (by omega), zsg_ss, if_neg (by omega), zsg_ss, if_neg (by omega), zsg_ss, if_neg (by omega), zsg_ss, if_neg (by omega)]
      · rw [zsg_ss, if_neg (by omega), zsg_ss, if_neg (by omega), zsg_ss, if_neg (by omega), zsg_ss, if_neg (by omega), zsg_ss, if_neg (by omega)]
      · rw [zsg_ss, if_neg (by omega), zsg_ss, if_neg (by omega), zsg_ss, if_neg (by omega), zsg_ss, if_neg (by omega), zsg_ss, if_neg (by omega)]
      · rw [zsg_ss, if_neg (by omega), zsg_ss, if_neg (by omega), zsg_ss, if_neg (by omega), zsg_ss, if_neg (by omega), zsg_ss, if_neg (by omega)]; exact h1
      · rw [zsg_ss, if_pos ⟨rfl, rfl, rfl⟩, hlen]; omega
      · rw [zsg_ss, if_neg (by omega), zsg_ss, if_neg (by omega), zsg_ss, if_neg (by omega), zsg_ss, if_neg (by omega), zsg_ss, if_pos ⟨rfl, rfl, rfl⟩]
      · rw [zsg_ss, if_neg (by omega), zsg_ss, if_neg (by omega), zsg_ss, if_neg (by omega), zsg_ss, if_pos ⟨rfl, rfl, rfl⟩]
      · rw [zsg_ss, if_neg (by omega), zsg_ss, if_neg (by omega), zsg_ss, if_pos ⟨rfl, rfl, rfl⟩]
      · rw [zsg_ss, if_neg (by omega), zsg_ss, if_pos ⟨rfl, rfl, rfl⟩]
    · have hn := Decidable.of_not_not hn
      refine big ⟨L ++ [e], hnd h4, hall h5, by omega⟩ (by rw [h2, hn])
/-- a node with nothing behind it -/
theorem w4_end {D : ZD} {eng : Int} {o : Nat} {G : ZG} {L : List PT} {e : PT} {a b c : Int} {Q : Int → ZG → Prop} (ho : tob o) (hS : Sep G) (hB : Bss D eng o G L) (hN : isN D eng e) (hq : ∀ q ∈ L, ¬ e <:+ q) (hl : a = ck (nl D eng e).1 ∧ b = (nl D eng e).2.2.1 ∧ c = (nl D eng e).2.1 ∧ (nl D eng e).2.2.2 = 0)
    (hQ : ∀ r G', BR D eng o G L e r G' → Q r G') : vX4_node o a b c G Q := by
  refine w4_node ho hS hB hN (fun z => hq e z (List.suffix_refl e)) (fun r G' w h15 h16 _ h => hQ r G' ⟨w, h15, h16, ?_⟩)
  rcases h with h | ⟨h0, rfl, h1, h2, h3, h4, h5⟩
  · exact Or.inl h
  · refine Or.inr ⟨h0, rfl, [e], h1, rfl, List.pairwise_singleton _ _, fun q hq => ?_, fun i q hi hiq => ?_⟩
    · rw [List.mem_singleton] at hq; rw [hq]; exact List.suffix_refl e
    · have hlt := (List.getElem?_eq_some_iff.mp hiq).1
      have hi2 : i = L.length := by rw [List.length_append, List.length_singleton] at hlt; omega
      subst hi2
      rw [List.getElem?_append_right (Nat.le_refl _), Nat.sub_self] at hiq
      have : e = q := Option.some.inj hiq
      subst this
      obtain ⟨l1, l2, l3, l4⟩ := hl
      exact ⟨by rw [h2, l1], by rw [h3, l2], by rw [h4, l3], by rw [h5, l4], fun k hk => by omega⟩
