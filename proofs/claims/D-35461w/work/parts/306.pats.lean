/-! COMPONENT: patterns -/
set_option maxRecDepth 100000
/-- one more pattern -/
def addP (D : ZD) (v : Nat → Int) (a b c : Int) : ZD := fun j i =>
  if j = 9 ∧ i = 0 then D 9 0 + 1
  else if j = 13 then (if i = 3 * D 9 0 + 2 then c else if i = 3 * D 9 0 + 1 then b else if i = 3 * D 9 0 then a else D 13 i)
  else if (10 ≤ j ∧ j ≤ 19) ∧ i = D 9 0 then v j else D j i
def pv (form head rest kind depth size names hv bare : Int) : Nat → Int := fun j => match j with
  | 10 => form | 11 => head | 12 => rest | 14 => kind | 15 => depth | 16 => size | 17 => names | 18 => hv | _ => bare
theorem addP_o {D : ZD} {v : Nat → Int} {a b c : Int} {j : Nat} (h : j < 9 ∨ 19 < j) : addP D v a b c j = D j := by
  funext i
  unfold addP
  rw [if_neg (by omega), if_neg (by omega), if_neg (by omega)]
theorem addP_9 {D : ZD} {v : Nat → Int} {a b c : Int} : addP D v a b c 9 0 = D 9 0 + 1 := rfl
theorem addP_n {D : ZD} {v : Nat → Int} {a b c : Int} {j : Nat} (h : 10 ≤ j ∧ j ≤ 19 ∧ j ≠ 13) : addP D v a b c j (D 9 0) = v j := by
  unfold addP
  rw [if_neg (by omega), if_neg (by omega), if_pos (by omega)]
theorem addP_l {D : ZD} {v : Nat → Int} {a b c : Int} {j : Nat} {i : Int} (h : 10 ≤ j ∧ j ≠ 13) (hi : i ≠ D 9 0) : addP D v a b c j i = D j i := by
  unfold addP
  rw [if_neg (by omega), if_neg (by omega), if_neg (by omega)]
theorem addP_f9 {D : ZD} {v : Nat → Int} {a b c : Int} : addP D v a b c 9 = fun i => if i = 0 then D 9 0 + 1 else D 9 i := by
  funext i; unfold addP
  by_cases h : i = 0
  · rw [if_pos ⟨rfl, h⟩, if_pos h]
  · rw [if_neg (fun q => h q.2), if_neg (show ¬ (9 : Nat) = 13 by omega), if_neg (show ¬ (((10 : Nat) ≤ 9 ∧ 9 ≤ 19) ∧ i = D 9 0) by omega), if_neg h]
theorem addP_fj {D : ZD} {v : Nat → Int} {a b c : Int} {j : Nat} (h : 10 ≤ j ∧ j ≤ 19 ∧ j ≠ 13) : addP D v a b c j = fun i => if i = D 9 0 then v j else D j i := by
  funext i; unfold addP
  rw [if_neg (show ¬ (j = 9 ∧ i = 0) by omega), if_neg h.2.2]
  by_cases hi : i = D 9 0
  · rw [if_pos ⟨⟨h.1, h.2.1⟩, hi⟩, if_pos hi]
  · rw [if_neg (fun q => hi q.2), if_neg hi]
theorem addP_f13 {D : ZD} {v : Nat → Int} {a b c : Int} : addP D v a b c 13 = fun i => if i = 3 * D 9 0 + 2 then c else if i = 3 * D 9 0 + 1 then b else if i = 3 * D 9 0 then a else D 13 i := by
  funext i; unfold addP
  rw [if_neg (show ¬ ((13 : Nat) = 9 ∧ i = 0) by omega), if_pos rfl]
theorem addP_13n {D : ZD} {v : Nat → Int} {a b c k : Int} (h0 : 0 ≤ k) (h3 : k < 3) : prt (addP D v a b c) (D 9 0) k = pk a b c k := by
  unfold prt addP
  rw [if_neg (by omega), if_pos rfl]
  have h : k = 0 ∨ k = 1 ∨ k = 2 := by omega
  rcases h with rfl | rfl | rfl
  · rw [if_neg (by omega), if_neg (by omega), if_pos (by omega)]; rfl
  · rw [if_neg (by omega), if_pos (by omega)]; rfl
  · rw [if_pos (by omega)]; rfl
theorem addP_13l {D : ZD} {v : Nat → Int} {a b c k n : Int} (h0 : 0 ≤ k) (h3 : k < 3) (hn : n ≠ D 9 0) : prt (addP D v a b c) n k = prt D n k := by
  unfold prt addP
  rw [if_neg (by omega), if_pos rfl, if_neg (by omega), if_neg (by omega), if_neg (by omega)]
theorem chl_e (D : ZD) (n : Int) : chl D n = (if prt D n 0 = -1 then [] else [prt D n 0]) ++ ((if prt D n 1 = -1 then [] else [prt D n 1]) ++ (if prt D n 2 = -1 then [] else [prt D n 2])) := by
  unfold chl
  simp only [List.filterMap_cons, List.filterMap_nil]
  by_cases h0 : prt D n 0 = -1 <;> by_cases h1 : prt D n 1 = -1 <;> by_cases h2 : prt D n 2 = -1 <;> simp [h0, h1, h2]
theorem chl_congr {D D' : ZD} {n m : Int} (h0 : prt D' m 0 = prt D n 0) (h1 : prt D' m 1 = prt D n 1) (h2 : prt D' m 2 = prt D n 2) : chl D' m = chl D n := by
  rw [chl_e, chl_e, h0, h1, h2]
theorem chl_mem {D : ZD} {n p : Int} (h : p ∈ chl D n) : ∃ k, 0 ≤ k ∧ k < 3 ∧ p = prt D n k ∧ p ≠ -1 := by
  unfold chl at h
  rw [List.mem_filterMap] at h
  obtain ⟨k, hk, he⟩ := h
  by_cases hp : prt D n k = -1
  · rw [if_pos hp] at he; cases he
  · rw [if_neg hp] at he; cases he
    refine ⟨k, ?_, ?_, rfl, hp⟩ <;> (simp at hk; omega)
theorem PW.chl {D : ZD} {n p : Int} (h : PW D n) (hp : p ∈ chl D n) : 0 ≤ p ∧ p < n ∧ D 15 p ≤ D 15 n := by
  obtain ⟨k, k0, k1, e, hn⟩ := chl_mem hp
  rcases h.2.2.2.2.2.2.2.2.1 k k0 k1 with q | q
  · rw [← e] at q; exact absurd q hn
  · rw [← e] at q; exact q
/-- the cells of the patterns that were there are as they were -/
theorem pcell_l {D : ZD} {v : Nat → Int} {a b c : Int} {pa pf : Nat → Nat} {x y : Nat} (hM : MIp D) {i : Nat} (hi : (i : Int) < D 9 0) : pcell (addP D v a b c) (snoc (D 9 0) pa x) (snoc (D 9 0) pf y) i = pcell D pa pf i := by
  have hp := hM.2.2 i (by omega) hi
  have hk : ∀ k, 0 ≤ k → k < 3 → 0 ≤ prt D i k → snoc (D 9 0) pa x (prt D i k).toNat = pa (prt D i k).toNat := fun k k0 k1 h => by
    rcases hp.2.2.2.2.2.2.2.2.1 k k0 k1 with q | q
    · omega
    · exact snoc_lt (by omega)
  unfold pcell
  rw [addP_l (j := 10) (by omega) (by omega), addP_l (j := 11) (by omega) (by omega), addP_l (j := 12) (by omega) (by omega), addP_13l (by omega) (by omega) (by omega), addP_13l (by omega) (by omega) (by omega), snoc_lt hi]
  obtain ⟨-, -, -, -, -, -, -, -, -, -, -, -, c1, c2, c3, c4, c5, c6⟩ := hp
  by_cases h1 : D 10 i = 1
  · rw [if_pos h1, if_pos h1, hk 0 (by omega) (by omega) (c1 h1).2.2.1]
  · rw [if_neg h1, if_neg h1]
    by_cases h2 : D 10 i = 2
    · rw [if_pos h2, if_pos h2]
    · rw [if_neg h2, if_neg h2]
      by_cases h3 : D 10 i = 3
      · rw [if_pos h3, if_pos h3]
      · rw [if_neg h3, if_neg h3]
        by_cases h4 : D 10 i = 4
        · rw [if_pos h4, if_pos h4, hk 0 (by omega) (by omega) (c4 h4).1, hk 1 (by omega) (by omega) (c4 h4).2.1]
        · rw [if_neg h4, if_neg h4]
          by_cases h5 : D 10 i = 5
          · rw [if_pos h5, if_pos h5, hk 0 (by omega) (by omega) (c5 h5).2.2.1]
          · rw [if_neg h5, if_neg h5]
theorem chl_l {D : ZD} {v : Nat → Int} {a b c n : Int} (hn : n ≠ D 9 0) : chl (addP D v a b c) n = chl D n := chl_congr (addP_13l (by omega) (by omega) hn) (addP_13l (by omega) (by omega) hn) (addP_13l (by omega) (by omega) hn)
abbrev tlc (D : ZD) (n : Int) (p : Nat) : ZC := .inr (.inr (9, [.inr (some (.inl p)), .inl (D 14 n), .inl (D 17 n), .inl (D 15 n), .inl (D 16 n), .inl (1 - D 18 n), .inl (D 19 n)]))
theorem Tl.pat {G : ZG} {a : Nat} {D : ZD} {n : Int} {p : Nat} (h : HI G a (tlc D n p)) (Q : ZR → Prop) : vX9_pattern (some (.inl a)) G Q = Q (some (.inl p)) := zdR_e h.1 rfl Q
theorem Tl.kind {G : ZG} {a : Nat} {D : ZD} {n : Int} {p : Nat} (h : HI G a (tlc D n p)) (Q : Int → Prop) : vX9_kind (some (.inl a)) G Q = Q (D 14 n) := zdI_e h.1 rfl Q
theorem Tl.names {G : ZG} {a : Nat} {D : ZD} {n : Int} {p : Nat} (h : HI G a (tlc D n p)) (Q : Int → Prop) : vX9_names (some (.inl a)) G Q = Q (D 17 n) := zdI_e h.1 rfl Q
theorem Tl.depth {G : ZG} {a : Nat} {D : ZD} {n : Int} {p : Nat} (h : HI G a (tlc D n p)) (Q : Int → Prop) : vX9_depth (some (.inl a)) G Q = Q (D 15 n) := zdI_e h.1 rfl Q
theorem Tl.size {G : ZG} {a : Nat} {D : ZD} {n : Int} {p : Nat} (h : HI G a (tlc D n p)) (Q : Int → Prop) : vX9_size (some (.inl a)) G Q = Q (D 16 n) := zdI_e h.1 rfl Q
theorem Tl.pure {G : ZG} {a : Nat} {D : ZD} {n : Int} {p : Nat} (h : HI G a (tlc D n p)) (hb : D 18 n = 0 ∨ D 18 n = 1) (Q : Int → Prop) : vX9_isPure (some (.inl a)) G Q = Q (1 - D 18 n) := by
  unfold vX9_isPure
  rw [zdI_e h.1 rfl]
  exact propext ⟨fun q => q.2, fun q => ⟨by omega, q⟩⟩
theorem Tl.num {G : ZG} {a : Nat} {D : ZD} {n : Int} {p : Nat} (h : HI G a (tlc D n p)) (hb : D 19 n = 0 ∨ D 19 n = 1) (Q : Int → Prop) : vX9_isForNumbers (some (.inl a)) G Q = Q (D 19 n) := by
  unfold vX9_isForNumbers
  rw [zdI_e h.1 rfl]
  exact propext ⟨fun q => q.2, fun q => ⟨by omega, q⟩⟩
def fkb (D : ZD) (n k : Int) : Bool := decide (D 14 n = -1) || decide (D 14 n = k)
theorem fkb_iff {D : ZD} {n k : Int} : fkb D n k = true ↔ fitk D n k := by simp [fkb, fitk]
theorem Tl.fits {G : ZG} {a : Nat} {D : ZD} {n : Int} {p : Nat} (h : HI G a (tlc D n p)) (k : Int) (Q : Int → Prop) : vX9_fits (some (.inl a)) k G Q = Q (bb (fkb D n k)) := by
  simp only [vX9_fits, zjn_e]
  rw [zdI_e h.1 rfl, zdI_e h.1 rfl]
  unfold fkb
  by_cases h1 : D 14 n = -1
  · rw [zbr_pos h1, decide_eq_true h1]; rfl
  · rw [zbr_neg h1, decide_eq_false h1]
    by_cases h2 : D 14 n = k
    · rw [zbr_neg (fun q => q h2), decide_eq_true h2]; rfl
    · rw [zbr_pos h2, decide_eq_false h2]; rfl
theorem sX1_told {G : ZG} {D : ZD} {td pa pf : Nat → Nat} {n : Int} {Q : ZR → Prop} (hL : Lst G 9 (refs (D 9 0) td)) (hP : CPo G D td pa pf) (h0 : 0 ≤ n) (h1 : n < D 9 0) (hQ : HI G (td n.toNat) (tlc D n (pa n.toNat)) → Q (some (.inl (td n.toNat)))) : vX1_told n G Q := by
  have hh := (hP.2 n.toNat (by omega)).1
  rw [show ((n.toNat : Nat) : Int) = n by omega] at hh
  refine sJ2_get hL h0 (refs_get h0 h1) ?_
  exact ⟨zca_i hh.1, hQ hh⟩
theorem sX9_init {G : ZG} {a : Nat} {p0 : ZR} {p1 p2 p3 p4 p5 p6 : Int} (hj : zsj G a = some (.inr (.inr (9, zdf 9)))) {Q : ZG → Prop} (h : Q (zsc G a (.inr (.inr (9, [.inr p0, .inl p1, .inl p2, .inl p3, .inl p4, .inl p5, .inl p6]))))) : vX9_init (some (.inl a)) p0 p1 p2 p3 p4 p5 p6 G Q := by
  rw [zdf9] at hj
  refine ⟨⟨a, rfl⟩, ⟨⟨a, rfl⟩, ?_⟩⟩
  refine zdP_i hj ?_
  refine zdP_i (zsj_eq _ _ _) ?_
  refine zdP_i (zsj_eq _ _ _) ?_
  refine zdP_i (zsj_eq _ _ _) ?_
  refine zdP_i (zsj_eq _ _ _) ?_
  refine zdP_i (zsj_eq _ _ _) ?_
  refine zdP_i (zsj_eq _ _ _) ?_
  rw [zsc_zsc, zsc_zsc, zsc_zsc, zsc_zsc, zsc_zsc, zsc_zsc]
  exact h
theorem sX10_init {G : ZG} {a : Nat} {p0 : Int} {p1 : ZR} (hj : zsj G a = some (.inr (.inr (10, zdf 10)))) {Q : ZG → Prop} (h : Q (zsc G a (.inr (.inr (10, [.inl p0, .inr p1]))))) : vX10_init (some (.inl a)) p0 p1 G Q := by
  rw [zdf10] at hj
  refine ⟨⟨a, rfl⟩, ⟨⟨a, rfl⟩, ?_⟩⟩
  refine zdP_i hj ?_
  refine zdP_i (zsj_eq _ _ _) ?_
  rw [zsc_zsc]
  exact h
theorem sX11_init {G : ZG} {a : Nat} {p0 p1 : Int} (hj : zsj G a = some (.inr (.inr (11, zdf 11)))) {Q : ZG → Prop} (h : Q (zsc G a (.inr (.inr (11, [.inl p0, .inl p1]))))) : vX11_init (some (.inl a)) p0 p1 G Q := by
  rw [zdf11] at hj
  refine ⟨⟨a, rfl⟩, ⟨⟨a, rfl⟩, ?_⟩⟩
  refine zdP_i hj ?_
  refine zdP_i (zsj_eq _ _ _) ?_
  rw [zsc_zsc]
  exact h
theorem sX12_init {G : ZG} {a : Nat} {p0 p1 : Int} {p2 : ZR} (hj : zsj G a = some (.inr (.inr (12, zdf 12)))) {Q : ZG → Prop} (h : Q (zsc G a (.inr (.inr (12, [.inl p0, .inl p1, .inr p2]))))) : vX12_init (some (.inl a)) p0 p1 p2 G Q := by
  rw [zdf12] at hj
  refine ⟨⟨a, rfl⟩, ⟨⟨a, rfl⟩, ?_⟩⟩
  refine zdP_i hj ?_
  refine zdP_i (zsj_eq _ _ _) ?_
  refine zdP_i (zsj_eq _ _ _) ?_
  rw [zsc_zsc, zsc_zsc]
  exact h
theorem sX13_init {G : ZG} {a : Nat} {p0 p1 : ZR} (hj : zsj G a = some (.inr (.inr (13, zdf 13)))) {Q : ZG → Prop} (h : Q (zsc G a (.inr (.inr (13, [.inr p0, .inr p1]))))) : vX13_init (some (.inl a)) p0 p1 G Q := by
  rw [zdf13] at hj
  refine ⟨⟨a, rfl⟩, ⟨⟨a, rfl⟩, ?_⟩⟩
  refine zdP_i hj ?_
  refine zdP_i (zsj_eq _ _ _) ?_
  rw [zsc_zsc]
  exact h
theorem sX14_init {G : ZG} {a : Nat} {p0 : Int} {p1 : ZR} (hj : zsj G a = some (.inr (.inr (14, zdf 14)))) {Q : ZG → Prop} (h : Q (zsc G a (.inr (.inr (14, [.inl p0, .inr p1]))))) : vX14_init (some (.inl a)) p0 p1 G Q := by
  rw [zdf14] at hj
  refine ⟨⟨a, rfl⟩, ⟨⟨a, rfl⟩, ?_⟩⟩
  refine zdP_i hj ?_
  refine zdP_i (zsj_eq _ _ _) ?_
  rw [zsc_zsc]
  exact h
theorem sX15_init {G : ZG} {a : Nat} {p0 : ZR} {p1 : Int} (hj : zsj G a = some (.inr (.inr (15, zdf 15)))) {Q : ZG → Prop} (h : Q (zsc G a (.inr (.inr (15, [.inr p0, .inl p1]))))) : vX15_init (some (.inl a)) p0 p1 G Q := by
  rw [zdf15] at hj
  refine ⟨⟨a, rfl⟩, ⟨⟨a, rfl⟩, ?_⟩⟩
  refine zdP_i hj ?_
  refine zdP_i (zsj_eq _ _ _) ?_
  rw [zsc_zsc]
  exact h
theorem CD.of9 {G G' : ZG} {D D' : ZD} (h : CD G D) (f : Fr [9] G G') (hp : CIp G' D') (e : ∀ j, j < 9 ∨ 19 < j → D' j = D j) : CD G' D' := by
  obtain ⟨h0, h1, h2, h3, h4, h5, h6, h7⟩ := h
  exact ⟨f.2.1, h1.fr f (by simp) (e 1 (by omega)) (e 2 (by omega)) (e 3 (by omega)), h2.fr f (by simp) (fun j hj => e j (by omega)), hp, h4.fr f (by simp) (e 20 (by omega)), h5.fr f (by simp) (e 21 (by omega)) (e 22 (by omega)), h6.fr f (by simp) (fun j hj => e j (by omega)), h7.fr f (by simp) (fun j hj => e j (by omega))⟩
/-- a pattern's object x (and the array y of its parts) made: it is added -/
theorem pAdd {G K : ZG} {D : ZD} {td pa pf : Nat → Nat} {x y : Nat} {v : Nat → Int} {a b c : Int} {X : Nat → ZG → Prop} {Q : Int → ZG → Prop} (hC : CD G D) (hM : MI D) (hF : Fr [] G K) (hL : Lst K 9 (refs (D 9 0) td)) (hP : CPo K D td pa pf)
    (hx : HI K x (pcell (addP D v a b c) (snoc (D 9 0) pa x) (snoc (D 9 0) pf y) (D 9 0).toNat)) (hnew : ∀ i : Nat, (i : Int) < D 9 0 → pa i ≠ x)
    (hy : v 10 = 3 ∨ v 10 = 6 → HI K y (.inr (.inl (4, (chl (addP D v a b c) (D 9 0)).map fun n => some (.inl (snoc (D 9 0) pa x n.toNat))))))
    (hX1 : ¬ (v 16 ≤ 40 ∧ v 15 ≤ 4) → X 1 K) (hX2 : v 16 ≤ 40 ∧ v 15 ≤ 4 → D 9 0 = 60 → X 2 K)
    (hQ : v 16 ≤ 40 ∧ v 15 ≤ 4 → D 9 0 < 60 → ∀ G', Fr [9] G G' → CD G' (addP D v a b c) → Q (D 9 0) G') :
    vX1_addPattern (some (.inl x)) (v 14) (v 17) (v 15) (v 16) (1 - v 18) (v 19) K X Q := by
  have hS := hF.2.1
  have m9 : 0 ≤ D 9 0 ∧ D 9 0 ≤ 60 := ⟨hM.2.2.1.1, hM.2.2.1.2.1⟩
  simp only [vX1_addPattern, zjn_e, reqA0, reqA1, zbr_or, reqS0, reqS1]
  refine zbr_i (fun h => hX1 (by omega)) (fun h => ?_)
  have e9 : zsg K 9 2 0 = D 9 0 := by rw [hL.1, refs_len]; omega
  rw [eJ2_size, e9]
  refine zbr_i (fun h2 => hX2 (by omega) (by omega)) (fun h2 => ?_)
  intro z hz
  refine ⟨⟨z, rfl⟩, sX9_init (zsj_eq _ _ _) ?_⟩
  rw [zsc_zsc]
  have f0 := (Fr.refl [] hS).new hS (c := .inr (.inr (9, [.inr (some (.inl x)), .inl (v 14), .inl (v 17), .inl (v 15), .inl (v 16), .inl (1 - v 18), .inl (v 19)]))) hz
  have hz1 := f0.hi (by simp) hS hz (zsj_eq _ _ _) (imm_obj (by omega))
  generalize zsc K z (.inr (.inr (9, [.inr (some (.inl x)), .inl (v 14), .inl (v 17), .inl (v 15), .inl (v 16), .inl (1 - v 18), .inl (v 19)]))) = K1 at f0 hz1
  refine sAppend f0.2.1 ⟨by omega, by omega⟩ (f0.lst ⟨by omega, by omega⟩ (by simp) hL) m9.1 (by omega) (fun k hk => zel_o3 (f0.hk (hP.2 k hk).1).1) (zel_o3 hz1.1) (fun K2 f2 hL2 => ?_)
  rw [eJ2_size, hL2.1, refs_len, w32_eq (by omega) (by omega), show (((D 9 0 + 1).toNat : Nat) : Int) - 1 = D 9 0 by omega]
  have f9 := (f0.mono (S' := [9]) (by simp)).trans f2
  have fG := (hF.mono (S' := [9]) (by simp)).trans f9
  have e9n : (((D 9 0).toNat : Nat) : Int) = D 9 0 := by omega
  refine hQ (by omega) (by omega) K2 fG (hC.of9 fG ⟨snoc (D 9 0) td z, snoc (D 9 0) pa x, snoc (D 9 0) pf y, by rw [addP_9]; exact hL2, ?_, ?_⟩ (fun j hj => addP_o hj))
  · intro i j hi hj e
    rw [addP_9] at hi hj
    by_cases hi2 : i = (D 9 0).toNat <;> by_cases hj2 : j = (D 9 0).toNat
    · rw [hi2, hj2]
    · rw [hi2, snoc_at, snoc_lt (by omega)] at e; exact absurd e.symm (hnew j (by omega))
    · rw [hj2, snoc_at, snoc_lt (by omega)] at e; exact absurd e (hnew i (by omega))
    · rw [snoc_lt (by omega), snoc_lt (by omega)] at e; exact hP.1 i j (by omega) (by omega) e
  · intro i hi
    rw [addP_9] at hi
    by_cases hi2 : i = (D 9 0).toNat
    · subst hi2
      refine ⟨?_, by rw [snoc_at]; exact f9.hk hx, fun q => ?_⟩
      · rw [snoc_at, snoc_at, e9n, addP_n (by omega), addP_n (by omega), addP_n (by omega), addP_n (by omega), addP_n (by omega), addP_n (by omega)]
        exact f2.hk hz1
      · rw [e9n, addP_n (by omega)] at q
        rw [snoc_at, e9n]
        exact f9.hk (hy q)
    · have hi3 : (i : Int) < D 9 0 := by omega
      have hp := hM.2.2.1.2.2 i (by omega) hi3
      refine ⟨?_, ?_, fun q => ?_⟩
      · rw [snoc_lt hi3, snoc_lt hi3, addP_l (by omega) (by omega), addP_l (by omega) (by omega), addP_l (by omega) (by omega), addP_l (by omega) (by omega), addP_l (by omega) (by omega), addP_l (by omega) (by omega)]
        exact f9.hk (hP.2 i hi3).1
      · rw [pcell_l hM.2.2.1 hi3, snoc_lt hi3]; exact f9.hk (hP.2 i hi3).2.1
      · rw [addP_l (by omega) (by omega)] at q
        rw [chl_l (by omega), snoc_lt hi3]
        have := f9.hk ((hP.2 i hi3).2.2 q)
        rw [show ((chl D i).map fun n => (some (.inl (snoc (D 9 0) pa x n.toNat)) : ZR)) = (chl D i).map fun n => some (.inl (pa n.toNat)) from List.map_congr_left (fun n hn => by
          have := hp.chl hn
          rw [snoc_lt (by omega)])]
        exact this
