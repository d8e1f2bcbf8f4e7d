/-! COMPONENT: the automaton's codes -/
set_option maxRecDepth 100000
/-- the codes: an array of N numbers, of which m are laid; M tells them -/
def Am (G : ZG) (N m : Int) (M : Int → Int) : Prop := ∃ a l, cod G a ∧ zsj G a = some (.inl (0, l)) ∧ (l.length : Int) = N ∧ zsg G 4 1 0 = m ∧ ∀ i : Nat, (i : Int) < N → l[i]? = some (M i)
/-- how long the array gets -/
def gr (N x : Int) : Int := if x ≤ N then N else if x ≤ 2 * N then 2 * N else if x ≤ 4 * N then 4 * N else if x ≤ 8 * N then 8 * N else 16 * N
def gc (N x : Int) : Nat := if x ≤ N then 0 else if x ≤ 2 * N then 1 else if x ≤ 4 * N then 2 else if x ≤ 8 * N then 3 else 4
def gs (N x : Int) : Nat := (2 * (gr N x - N)).toNat
theorem gr_ge {N x : Int} (h0 : 2000 ≤ N) (hx : x ≤ 32000) : x ≤ gr N x ∧ N ≤ gr N x := by
  unfold gr
  split
  · omega
  · split
    · omega
    · split
      · omega
      · split <;> omega
theorem gr_gr {N x y : Int} (h0 : 2000 ≤ N) (hxy : x ≤ y) (hy : y ≤ 32000) : gr (gr N x) y = gr N y := by
  unfold gr
  by_cases h1 : x ≤ N
  · rw [if_pos h1]
  · rw [if_neg h1, if_neg (show ¬ y ≤ N by omega)]
    by_cases h2 : x ≤ 2 * N
    · rw [if_pos h2]
      by_cases k2 : y ≤ 2 * N
      · rw [if_pos k2, if_pos k2]
      · rw [if_neg k2, if_neg k2]
        by_cases k4 : y ≤ 4 * N
        · rw [if_pos (by omega), if_pos k4]; omega
        · rw [if_neg (by omega), if_neg k4]
          by_cases k8 : y ≤ 8 * N
          · rw [if_pos (by omega), if_pos k8]; omega
          · rw [if_neg (by omega), if_neg k8, if_pos (by omega)]; omega
    · rw [if_neg h2, if_neg (show ¬ y ≤ 2 * N by omega)]
      by_cases h4 : x ≤ 4 * N
      · rw [if_pos h4]
        by_cases k4 : y ≤ 4 * N
        · rw [if_pos k4, if_pos k4]
        · rw [if_neg k4, if_neg k4]
          by_cases k8 : y ≤ 8 * N
          · rw [if_pos (by omega), if_pos k8]; omega
          · rw [if_neg (by omega), if_neg k8, if_pos (by omega)]; omega
      · rw [if_neg h4, if_neg (show ¬ y ≤ 4 * N by omega)]
        by_cases h8 : x ≤ 8 * N
        · rw [if_pos h8]
          by_cases k8 : y ≤ 8 * N
          · rw [if_pos k8, if_pos k8]
          · rw [if_neg k8, if_neg k8, if_pos (by omega)]; omega
        · rw [if_neg h8, if_pos (by omega), if_neg (by omega)]
theorem gc_gc {N x y : Int} (h0 : 2000 ≤ N) (hxy : x ≤ y) (hy : y ≤ 32000) : gc N x + gc (gr N x) y = gc N y := by
  unfold gr gc
  by_cases h1 : x ≤ N
  · rw [if_pos h1, if_pos h1, Nat.zero_add]
  · rw [if_neg h1, if_neg h1, if_neg (show ¬ y ≤ N by omega)]
    by_cases h2 : x ≤ 2 * N
    · rw [if_pos h2, if_pos h2]
      by_cases k2 : y ≤ 2 * N
      · rw [if_pos k2, if_pos k2]
      · rw [if_neg k2, if_neg k2]
        by_cases k4 : y ≤ 4 * N
        · rw [if_pos (by omega), if_pos k4]
        · rw [if_neg (by omega), if_neg k4]
          by_cases k8 : y ≤ 8 * N
          · rw [if_pos (by omega), if_pos k8]
          · rw [if_neg (by omega), if_neg k8, if_pos (by omega)]
    · rw [if_neg h2, if_neg h2, if_neg (show ¬ y ≤ 2 * N by omega)]
      by_cases h4 : x ≤ 4 * N
      · rw [if_pos h4, if_pos h4]
        by_cases k4 : y ≤ 4 * N
        · rw [if_pos k4, if_pos k4]
        · rw [if_neg k4, if_neg k4]
          by_cases k8 : y ≤ 8 * N
          · rw [if_pos (by omega), if_pos k8]
          · rw [if_neg (by omega), if_neg k8, if_pos (by omega)]
      · rw [if_neg h4, if_neg h4, if_neg (show ¬ y ≤ 4 * N by omega)]
        by_cases h8 : x ≤ 8 * N
        · rw [if_pos h8, if_pos h8]
          by_cases k8 : y ≤ 8 * N
          · rw [if_pos k8, if_pos k8]
          · rw [if_neg k8, if_neg k8, if_pos (by omega)]
        · rw [if_neg h8, if_neg h8, if_pos (by omega), if_neg (by omega)]
theorem gs_gs {N x y : Int} (h0 : 2000 ≤ N) (hxy : x ≤ y) (hy : y ≤ 32000) : gs N x + gs (gr N x) y = gs N y := by
  have a := gr_ge h0 (show x ≤ 32000 by omega)
  have b := gr_ge (show 2000 ≤ gr N x by omega) hy
  have c := gr_gr h0 hxy hy
  unfold gs
  rw [c]
  rw [c] at b
  omega
/-- lengths that there are -/
def gN (N : Int) : Prop := N = 2000 ∨ N = 4000 ∨ N = 8000 ∨ N = 16000 ∨ N = 32000
theorem gr_gN {N x : Int} (h : gN N) (hx : x ≤ 32000) : gN (gr N x) := by
  unfold gN at h ⊢
  unfold gr
  rcases h with rfl | rfl | rfl | rfl | rfl <;> (repeat' split) <;> omega
theorem zpU_e (G : ZG) (o j : Nat) (r : ZR) (Q : ZG → Prop) : zpU G o j r Q = Q (zsu G o j 0 r) := rfl
theorem Fr.cod {S : List Nat} {G K : ZG} (h : Fr S G K) (h4 : 4 ∈ S) {a : Nat} {l l' : List Int} (ha : cod K a) (hj : zsj K a = some (.inl (0, l))) : Fr S G (zsc K a (.inl (0, l'))) := by
  obtain ⟨h1, h2, h3, h5, h6, h7⟩ := h
  refine ⟨⟨fun b c e => ?_, fun b c e => ?_⟩, ⟨h2.1, fun o b ho e => ?_, fun b e => ?_⟩, h3, fun o' q1 q2 L hL => ?_, fun q b c e k => ?_, fun q => absurd h4 q⟩
  · obtain ⟨c', e1, e2⟩ := h1.1 b c e
    rw [zsj_sc]
    by_cases q : b = a
    · rw [if_pos q]; subst q; rw [hj] at e1; cases e1; exact ⟨_, rfl, e2⟩
    · rw [if_neg q]; exact ⟨c', e1, e2⟩
  · obtain ⟨e1, e2, e3⟩ := h1.2 b c e
    refine ⟨?_, e2, e3⟩
    rw [zsj_ne (fun q => by subst q; exact e3 ha)]; exact e1
  · obtain ⟨l2, hl⟩ := h2.2.1 o b ho e
    exact ⟨l2, by rw [zsj_ne (fun q => by subst q; rw [hj] at hl; cases hl)]; exact hl⟩
  · obtain ⟨l2, hl⟩ := h2.2.2 b e
    rw [zsj_sc]
    by_cases q : b = a
    · rw [if_pos q]; exact ⟨_, rfl⟩
    · rw [if_neg q]; exact ⟨l2, hl⟩
  · have := h5 o' q1 q2 L hL
    refine ⟨this.1, ?_⟩
    rcases this.2 with ⟨e, e2⟩ | ⟨b, r, e1, e2, e3⟩
    · exact Or.inl ⟨e, e2⟩
    · exact Or.inr ⟨b, r, e1, by rw [zsj_ne (fun q => by subst q; rw [hj] at e2; cases e2)]; exact e2, e3⟩
  · have := h6 q b c e k
    rw [zsj_ne (fun z => by subst z; rw [hj] at this; cases this; simp [kc] at k)]; exact this
theorem Fr.newcod {S : List Nat} {G K : ZG} (h : Fr S G K) (h4 : 4 ∈ S) {a : Nat} {l : List Int} (ha : zsj G a = none) (hj : zsj K a = some (.inl (0, l))) : Fr S G (zsu K 4 0 0 (some (.inl a))) := by
  obtain ⟨h1, h2, h3, h5, h6, h7⟩ := h
  have el : ∀ o', isl o' → zsr (zsu K 4 0 0 (some (.inl a))) o' 1 0 = zsr K o' 1 0 := fun o' ho' => by rw [zsr_su, if_neg (by have := ho'.1; omega)]
  have ec : ∀ b, zsr (zsu K 4 0 0 (some (.inl a))) 4 0 0 = some (.inl b) → b = a := fun b e => by rw [zsr_su, if_pos ⟨rfl, rfl, rfl⟩] at e; cases e; rfl
  refine ⟨⟨h1.1, fun b c e => ?_⟩, ⟨fun o1 o2 b i1 i2 e1 e2 => ?_, fun o1 b i1 e1 => ?_, fun b e => ?_⟩, fun o' q j' i' => ⟨(h3 o' q j' i').1, ?_⟩, fun o' q1 q2 L hL => ?_, h6, fun q => absurd h4 q⟩
  · obtain ⟨e1, e2, e3⟩ := h1.2 b c e
    refine ⟨e1, e2, fun q => ?_⟩
    have := ec b q
    subst this
    have := e.1
    rw [ha] at this; cases this
  · rw [el _ i1] at e1; rw [el _ i2] at e2; exact h2.1 _ _ b i1 i2 e1 e2
  · rw [el _ i1] at e1; exact h2.2.1 _ b i1 e1
  · have := ec b e
    subst this
    exact ⟨l, hj⟩
  · rw [zsr_su, if_neg (fun z => q (by rw [z.1]; exact h4))]; exact (h3 o' q j' i').2
  · have := h5 o' q1 q2 L hL
    exact ⟨this.1, by rw [el _ q1]; exact this.2⟩
/-- other cells stay; the codes lie where they lay, or in a new cell -/
def Kp (G G' : ZG) : Prop := (∀ b, ¬ cod G b → zsj G b ≠ none → zsj G' b = zsj G b) ∧ (∀ b, cod G' b → cod G b ∨ zsj G b = none) ∧ ∀ b, zsj G' b = none → zsj G b = none
theorem Kp.refl (G : ZG) : Kp G G := ⟨fun _ _ _ => rfl, fun _ h => Or.inl h, fun _ h => h⟩
theorem Kp.trans {G K H : ZG} (h : Kp G K) (g : Kp K H) : Kp G H := by
  have nk : ∀ b, ¬ cod G b → zsj G b ≠ none → ¬ cod K b ∧ zsj K b = zsj G b := fun b h1 h2 => ⟨fun z => (h.2.1 b z).elim h1 h2, h.1 b h1 h2⟩
  refine ⟨fun b h1 h2 => ?_, fun b hb => ?_, fun b hb => h.2.2 b (g.2.2 b hb)⟩
  · obtain ⟨a1, a2⟩ := nk b h1 h2
    rw [g.1 b a1 (by rw [a2]; exact h2), a2]
  · refine Classical.byContradiction fun hn => ?_
    have h1 : ¬ cod G b := fun z => hn (Or.inl z)
    have h2 : zsj G b ≠ none := fun z => hn (Or.inr z)
    obtain ⟨a1, a2⟩ := nk b h1 h2
    rcases g.2.1 b hb with z | z
    · exact a1 z
    · rw [a2] at z; exact h2 z
/-- one number of the codes is written -/
theorem Am.set {G0 G : ZG} {N m : Int} {M : Int → Int} (hF : Fr [4] G0 G) (h : Am G N m M) {i : Int} (h0 : 0 ≤ i) (h1 : i < N) (v : Int) {Q : ZG → Prop} (hQ : ∀ G', Fr [4] G0 G' → Am G' N m (fun j => if j = i then v else M j) → Kp G G' → Q G') : zeS G (zsr G 4 0 0) i v Q := by
  obtain ⟨a, l, hc, hj, hN, hm, hM⟩ := h
  unfold cod at hc
  rw [hc]
  refine zeS_i hj h0 (by omega) (hQ _ (hF.cod (by simp) hc hj) ⟨a, l.set i.toNat v, hc, zsj_eq _ _ _, by rw [List.length_set]; exact hN, hm, fun k hk => ?_⟩ ⟨fun b hb _ => zsj_ne (fun e => hb (by subst e; exact hc)), fun b hb => Or.inl hb, fun b hb => by
    rw [zsj_sc] at hb
    by_cases e : b = a
    · rw [if_pos e] at hb; cases hb
    · rw [if_neg e] at hb; exact hb⟩)
  rw [List.getElem?_set]
  dsimp only
  by_cases e : i.toNat = k
  · rw [if_pos e, if_pos (by omega), if_pos (by omega)]
  · rw [if_neg e, if_neg (by omega)]; exact hM k hk
theorem Am.get {G : ZG} {N m : Int} {M : Int → Int} (h : Am G N m M) {i : Int} (h0 : 0 ≤ i) (h1 : i < N) {Q : Int → Prop} (hQ : Q (M i)) : zeI G (zsr G 4 0 0) i Q := by
  obtain ⟨a, l, hc, hj, hN, hm, hM⟩ := h
  unfold cod at hc
  rw [hc]
  have := hM i.toNat (by omega)
  rw [show ((i.toNat : Nat) : Int) = i by omega] at this
  exact zeI_i hj h0 this hQ
theorem Am.m {G : ZG} {N m : Int} {M : Int → Int} (h : Am G N m M) : zsg G 4 1 0 = m := by obtain ⟨a, l, hc, hj, hN, hm, hM⟩ := h; exact hm
theorem Am.up {G0 G : ZG} {N m m' : Int} {M : Int → Int} (hF : Fr [4] G0 G) (h : Am G N m M) : Fr [4] G0 (zss G 4 1 0 m') ∧ Am (zss G 4 1 0 m') N m' M := by
  obtain ⟨a, l, hc, hj, hN, hm, hM⟩ := h
  exact ⟨hF.ss _ _ _ (by simp) (by omega), a, l, hc, hj, hN, by rw [zsg_ss, if_pos ⟨rfl, rfl, rfl⟩], hM⟩
theorem w5_put {G0 G : ZG} {N m p0 p1 p2 p3 : Int} {M : Int → Int} {mc ms : Nat} {Q : Int → ZG → Prop} (hS : Sep G0) (hF : Fr [4] G0 G) (h : Am G N m M) (hN : gN N) (m0 : 0 ≤ m) (m1 : m ≤ N) (m2 : m + 5 ≤ 32000) (hmc : gc N (m + 5) ≤ mc) (hms : gs N (m + 5) ≤ ms)
    (hQ : ∀ G' M', Fr [4] G0 G' → Am G' (gr N (m + 5)) (m + 5) M' → (∀ i, i < m → M' i = M i) → M' m = p0 → M' (m + 1) = p1 → M' (m + 2) = p2 → M' (m + 3) = p3 → M' (m + 4) = -1 → Kp G G' → Q m G') : vX5_put p0 p1 p2 p3 mc ms G Q := by
  have N2 : 2000 ≤ N ∧ N ≤ 32000 := by unfold gN at hN; omega
  have fin : ∀ (K : ZG) (N' : Int) (M1 : Int → Int), N' = gr N (m + 5) → Fr [4] G0 K → Am K N' m M1 → (∀ i, i < m → M1 i = M i) → m + 5 ≤ N' → Kp G K → zgU K 4 0 fun (x4 : ZR) => zgF K 4 1 fun (x5 : Int) => zeS K x4 x5 p0 fun (G1 : ZG) => zgU G1 4 0 fun (x6 : ZR) => zgF G1 4 1 fun (x7 : Int) => zeS G1 x6 (w32 (x7 + 1)) p1 fun (G2 : ZG) => zgU G2 4 0 fun (x8 : ZR) => zgF G2 4 1 fun (x9 : Int) => zeS G2 x8 (w32 (x9 + 2)) p2 fun (G3 : ZG) => zgU G3 4 0 fun (x10 : ZR) => zgF G3 4 1 fun (x11 : Int) => zeS G3 x10 (w32 (x11 + 3)) p3 fun (G4 : ZG) => zgU G4 4 0 fun (x12 : ZR) => zgF G4 4 1 fun (x13 : Int) => zeS G4 x12 (w32 (x13 + 4)) (-1) fun (G5 : ZG) => zgF G5 4 1 fun (x14 : Int) => zpF G5 4 1 (w32 (x14 + 5)) fun (G6 : ZG) => zgF G6 4 1 fun (x15 : Int) => Q (w32 (x15 - 5)) G6 := by
    intro K N' M1 hN' f1 a1 hM1 hm kp
    subst hN'
    rw [zgU_e, zgF_e, a1.m]
    refine a1.set f1 m0 (by omega) _ (fun K1 f2 a2 k2 => ?_)
    rw [zgU_e, zgF_e, a2.m, w32_eq (x := m + 1) (by omega) (by omega)]
    refine a2.set f2 (by omega) (by omega) _ (fun K2 f3 a3 k3 => ?_)
    rw [zgU_e, zgF_e, a3.m, w32_eq (x := m + 2) (by omega) (by omega)]
    refine a3.set f3 (by omega) (by omega) _ (fun K3 f4 a4 k4 => ?_)
    rw [zgU_e, zgF_e, a4.m, w32_eq (x := m + 3) (by omega) (by omega)]
    refine a4.set f4 (by omega) (by omega) _ (fun K4 f5 a5 k5 => ?_)
    rw [zgU_e, zgF_e, a5.m, w32_eq (x := m + 4) (by omega) (by omega)]
    refine a5.set f5 (by omega) (by omega) _ (fun K5 f6 a6 k6 => ?_)
    rw [zgF_e, a6.m, zpF_e, w32_eq (x := m + 5) (by omega) (by omega)]
    obtain ⟨f7, a7⟩ := a6.up (m' := m + 5) f6
    rw [zgF_e, a7.m, w32_eq (by omega) (by omega), show m + 5 - 5 = m by omega]
    refine hQ _ _ f7 a7 (fun i hi => ?_) ?_ ?_ ?_ ?_ ?_ (((((kp.trans k2).trans k3).trans k4).trans k5).trans k6)
    · rw [if_neg (by omega), if_neg (by omega), if_neg (by omega), if_neg (by omega), if_neg (by omega)]; exact hM1 i hi
    · rw [if_neg (by omega), if_neg (by omega), if_neg (by omega), if_neg (by omega), if_pos rfl]
    · rw [if_neg (by omega), if_neg (by omega), if_neg (by omega), if_pos rfl]
    · rw [if_neg (by omega), if_neg (by omega), if_pos rfl]
    · rw [if_neg (by omega), if_pos rfl]
    · rw [if_pos rfl]
  obtain ⟨a, l, hc, hj, hlN, hm, hM⟩ := id h
  unfold cod at hc
  unfold vX5_put
  rw [zgF_e, hm, zgU_e, hc]
  refine zeN_i hj ?_
  rw [hlN, w32_eq (x := m + 5) (by omega) (by omega)]
  dsimp only [zjn]
  refine zbr_i (fun hle => ?_) (fun hgt => ?_)
  · exact fin G N M (by unfold gr; rw [if_pos hle]) hF h (fun _ _ => rfl) hle (Kp.refl G)
  · have h2 : m + 5 ≤ 2 * N := by omega
    have eg : gr N (m + 5) = 2 * N := by unfold gr; rw [if_neg hgt, if_pos h2]
    have ec : gc N (m + 5) = 1 := by unfold gc; rw [if_neg hgt, if_pos h2]
    have es : gs N (m + 5) = (2 * N).toNat := by unfold gs; rw [eg]; omega
    have N16 : N ≤ 16000 := by unfold gN at hN; omega
    rw [zgU_e, hc]
    refine zeN_i hj ?_
    rw [hlN, w32_eq (x := 2 * N) (by omega) (by omega)]
    refine ⟨⟨by omega, by omega⟩, by omega, by omega, by omega, fun b hb => ?_⟩
    have f1 : Fr [4] G0 (zsc G b (.inl (0, List.replicate (2 * N).toNat 0))) := hF.new hS hb
    have hb0 : zsj G0 b = none := hF.1.old hb
    have hab : a ≠ b := fun e => by subst e; rw [hj] at hb; cases hb
    dsimp only
    rw [zgU_e, zgF_e, zsr_sc, hc, zsg_sc, hm]
    refine ⟨a, l, b, _, rfl, by rw [zsj_ne hab]; exact hj, rfl, zsj_eq _ _ _, by omega, by omega, m0, by omega, by rw [List.length_replicate]; omega, ?_⟩
    dsimp only
    rw [zsc_zsc, zpU_e, show Int.toNat 0 = 0 from rfl]
    have f2 : Fr [4] G0 (zsc G b (.inl (0, zcpl l (List.replicate (2 * N).toNat 0) 0 0 m.toNat))) := hF.new hS hb
    have hcp : ∀ i : Nat, (i : Int) < 2 * N → (zcpl l (List.replicate (2 * N).toNat 0) 0 0 m.toNat)[i]? = some (if (i : Int) < m then M i else 0) := fun i hi => by
      unfold zcpl
      rw [List.take_zero, List.nil_append, List.drop_zero, Nat.zero_add]
      by_cases him : (i : Int) < m
      · rw [if_pos him, List.getElem?_append_left (by rw [List.length_take]; omega), List.getElem?_take, if_pos (by omega)]
        exact hM i (by omega)
      · rw [if_neg him, List.getElem?_append_right (by rw [List.length_take]; omega), List.getElem?_drop, List.getElem?_replicate, if_pos (by rw [List.length_take]; omega)]
    refine fin _ (2 * N) (fun i => if i < m then M i else 0) eg.symm (f2.newcod (by simp) hb0 (zsj_eq _ _ _)) ⟨b, _, by unfold cod; rw [zsr_su, if_pos ⟨rfl, rfl, rfl⟩], zsj_eq _ _ _, ?_, ?_, hcp⟩ (fun i hi => if_pos hi) h2 ⟨fun c h1 h3 => ?_, fun c hcb => ?_, fun c hcn => ?_⟩
    · unfold zcpl
      simp only [List.length_append, List.length_take, List.length_drop, List.length_replicate]
      omega
    · rw [zsg_su, zsg_sc]; exact hm
    · rw [zsj_su, zsj_ne (fun e => by subst e; exact h3 hb)]
    · unfold cod at hcb
      rw [zsr_su, if_pos ⟨rfl, rfl, rfl⟩] at hcb
      cases hcb
      exact Or.inr hb
    · rw [zsj_su, zsj_sc] at hcn
      by_cases e : c = b
      · rw [if_pos e] at hcn; cases hcn
      · rw [if_neg e] at hcn; exact hcn
