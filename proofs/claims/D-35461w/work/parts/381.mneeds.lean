/-! REFERENCE: all that a case needs -/
set_option maxRecDepth 100000
/-- what is laid of patterns and places, the uppermost last -/
def stn (K : ZG) (t : Int) : List (Int × Int) := (List.range t.toNat).map fun (j : Nat) => (zsg K 5 30 (j : Int), zsg K 5 68 (j : Int))
theorem stn_pop (K : ZG) {t : Int} (h : 0 ≤ t) : stn K (t + 1) = stn K t ++ [(zsg K 5 30 t, zsg K 5 68 t)] := by
  unfold stn
  rw [show (t + 1).toNat = t.toNat + 1 by omega, List.range_succ, List.map_append]
  simp only [List.map_cons, List.map_nil]
  rw [show ((t.toNat : Nat) : Int) = t by omega]
theorem stn_len (K : ZG) {t : Int} (h : 0 ≤ t) : ((stn K t).length : Int) = t := by unfold stn; rw [List.length_map, List.length_range]; omega
theorem stn_congr {K K' : ZG} {t : Int} (h : ∀ j, 0 ≤ j → j < t → zsg K' 5 30 j = zsg K 5 30 j ∧ zsg K' 5 68 j = zsg K 5 68 j) : stn K' t = stn K t := by
  unfold stn
  refine List.map_congr_left (fun j hj => ?_)
  have hj := List.mem_range.mp hj
  rw [(h j (by omega) (by omega)).1, (h j (by omega) (by omega)).2]
theorem stn_push {K : ZG} {t a p : Int} (t0 : 0 ≤ t) : stn (zss (zss K 5 30 t a) 5 68 t p) (t + 1) = stn K t ++ [(a, p)] := by
  rw [stn_pop _ t0, stn_congr (K := K) (fun j j0 j1 => by rw [zsg_ss, zsg_ss, zsg_ss, zsg_ss, if_neg (by omega), if_neg (by omega), if_neg (by omega), if_neg (by omega)]; exact ⟨rfl, rfl⟩), z5_ne (by omega), zsg_ss, if_pos ⟨rfl, rfl, rfl⟩, zsg_ss, if_pos ⟨rfl, rfl, rfl⟩]
/-- the parts of a pattern with places -/
def npl (D : ZD) (n : Int) (pf : Int → Int) : List (Int × Int) := ([0, 1, 2] : List Int).filterMap fun k => if prt D n k = -1 then none else some (prt D n k, pf k)
theorem npl_chs (D : ZD) (n p j : Int) : npl D n (fun k => 5 * p + j + k + 1) = chs D n p j := rfl
theorem npl_mem {D : ZD} {n : Int} {pf : Int → Int} {c : Int × Int} (h : c ∈ npl D n pf) : ∃ k, 0 ≤ k ∧ k < 3 ∧ prt D n k ≠ -1 ∧ c = (prt D n k, pf k) := by
  unfold npl at h
  obtain ⟨k, hk, e⟩ := List.mem_filterMap.mp h
  by_cases hp : prt D n k = -1
  · rw [if_pos hp] at e; cases e
  · rw [if_neg hp] at e
    refine ⟨k, ?_, ?_, hp, (Option.some.inj e).symm⟩
    · simp at hk; omega
    · simp at hk; omega
theorem npl_fst {D : ZD} {n : Int} {pf : Int → Int} : (npl D n pf).map Prod.fst = chl D n := by
  unfold npl chl
  simp only [List.filterMap_cons, List.filterMap_nil]
  by_cases h0 : prt D n 0 = -1 <;> by_cases h1 : prt D n 1 = -1 <;> by_cases h2 : prt D n 2 = -1 <;> simp [h0, h1, h2]
theorem szs_npl {D : ZD} {n : Int} {pf : Int → Int} (hpw : PW D n) : D 16 n = 1 + szs D (npl D n pf) := by
  have h := hpw.2.2.2.2.2.2.2.2.2.1
  rw [← npl_fst (pf := pf), List.map_map] at h
  exact h
def nit (D : ZD) (n : Int) (pf : Int → Int) (k : Int) : List (Int × Int) := if prt D n k = -1 then [] else [(prt D n k, pf k)]
/-- the first ones of the parts -/
def nph (D : ZD) (n : Int) (pf : Int → Int) (k : Int) : List (Int × Int) := if k = 0 then [] else if k = 1 then nit D n pf 0 else if k = 2 then nit D n pf 0 ++ nit D n pf 1 else (nit D n pf 0 ++ nit D n pf 1) ++ nit D n pf 2
theorem nph_s {D : ZD} {n : Int} {pf : Int → Int} {k : Int} (h0 : 0 ≤ k) (h2 : k < 3) : nph D n pf (k + 1) = nph D n pf k ++ nit D n pf k := by
  have : k = 0 ∨ k = 1 ∨ k = 2 := by omega
  rcases this with rfl | rfl | rfl
  · unfold nph; simp
  · unfold nph; simp
  · unfold nph; simp
theorem nph_e {D : ZD} {n : Int} {pf : Int → Int} : nph D n pf 3 = npl D n pf := by
  unfold nph nit npl
  simp only [List.filterMap_cons, List.filterMap_nil]
  by_cases h0 : prt D n 0 = -1 <;> by_cases h1 : prt D n 1 = -1 <;> by_cases h2 : prt D n 2 = -1 <;> simp [h0, h1, h2]
theorem nph_len {D : ZD} {n : Int} {pf : Int → Int} {k : Int} : (nph D n pf k).length ≤ 3 := by
  have : ∀ k, (nit D n pf k).length ≤ 1 := fun k => by unfold nit; split <;> simp
  have a0 := this 0
  have a1 := this 1
  have a2 := this 2
  unfold nph
  split
  · simp
  · split
    · omega
    · split
      · rw [List.length_append]; omega
      · rw [List.length_append, List.length_append]; omega
/-- what is needed does not depend on how deep it may be looked -/
theorem ndl_f {D : ZD} {e : PT} (hM : MIp D) : ∀ (f f' : Nat) (n p : Int), 0 ≤ n → n < D 9 0 → D 16 n ≤ f → D 16 n ≤ f' → ndl D e f n p = ndl D e f' n p := by
  intro f
  induction f with
  | zero => intro f' n p h0 h1 hs; have := (hM.2.2 n h0 h1).2.2.2.1; omega
  | succ f ih =>
    intro f' n p h0 h1 hs hs'
    have hpw := hM.2.2 n h0 h1
    have a16 := hpw.2.2.2.1
    obtain ⟨f', rfl⟩ : ∃ q, f' = q + 1 := ⟨f' - 1, by omega⟩
    obtain ⟨hform, -, -, -, -, -, -, -, -, -, -, f0, f1, f2, f3, f4, f5, f6⟩ := id hpw
    have ch : ∀ k, 0 ≤ k → k < 3 → prt D n k ≠ -1 → ∀ p, ndl D e f (prt D n k) p = ndl D e f' (prt D n k) p := fun k k0 k3 hk p => by
      have q := pch hM h0 h1 k0 k3 hk
      exact ih f' _ p q.1 q.2.1 (by omega) (by omega)
    have fm : ∀ j, (chs D n p j).flatMap (fun x => ndl D e f x.1 x.2) = (chs D n p j).flatMap (fun x => ndl D e f' x.1 x.2) := fun j => by
      have : ∀ L : List (Int × Int), (∀ c ∈ L, ndl D e f c.1 c.2 = ndl D e f' c.1 c.2) → L.flatMap (fun x => ndl D e f x.1 x.2) = L.flatMap (fun x => ndl D e f' x.1 x.2) := fun L => by
        induction L with
        | nil => intro _; rfl
        | cons c L ihL => intro h; rw [List.flatMap_cons, List.flatMap_cons, h c List.mem_cons_self, ihL fun d hd => h d (List.mem_cons_of_mem _ hd)]
      refine this _ (fun c hc => ?_)
      obtain ⟨k, k0, k3, hk, rfl⟩ := chs_mem hc
      exact ch k k0 k3 hk _
    rw [ndl_s, ndl_s]
    by_cases e1 : D 10 n = 1
    · rw [if_pos e1, if_pos e1, ch 0 (by omega) (by omega) (by have := f1 e1; omega)]
    rw [if_neg e1, if_neg e1]
    by_cases e4 : D 10 n = 4
    · have c4 := f4 e4
      rw [if_pos e4, if_pos e4, ch 0 (by omega) (by omega) (by omega), ch 1 (by omega) (by omega) (by omega)]
    rw [if_neg e4, if_neg e4]
    by_cases e2 : D 10 n = 2
    · rw [if_pos e2, if_pos e2]
    rw [if_neg e2, if_neg e2]
    by_cases e3 : D 10 n = 3
    · rw [if_pos e3, if_pos e3, fm]
    rw [if_neg e3, if_neg e3]
    by_cases e6 : D 10 n = 6
    · rw [if_pos e6, if_pos e6, fm]
    rw [if_neg e6, if_neg e6]
/-- the parts are laid -/
theorem w6_npush {G : ZG} {D : ZD} {n t skip x4 x5 : Int} {pf : Int → Int} {W : List (Int × Int)} {P : Int → ZG → Prop} (h0 : 0 ≤ n) (h1 : n < 60) (hK : ∀ j, 1 ≤ j → j ≤ 29 → zsg G 5 j = D j) (t0 : 0 ≤ t) (t1 : t ≤ 200) (hW : stn G t = W) (hp4 : 0 ≤ x4 ∧ x4 ≤ 500)
    (hpf : ∀ k, 0 ≤ k → k < 3 → prt D n k ≠ -1 → pf k = if x5 = 1 ∨ x5 = 4 then x4 else w32 (w32 (w32 (w32 (5 * x4) + skip) + k) + 1))
    (hP : ∀ G', Mo G G' → (∀ j, j ≠ 30 → j ≠ 68 → zsg G' 5 j = zsg G 5 j) → stn G' (t + ((npl D n pf).length : Int)) = W ++ npl D n pf → P (t + ((npl D n pf).length : Int)) G') :
    zl3 (fun (P222 : Int → Int → ZG → Prop) (a222_2 : Int) (a222_10 : Int) (K222 : ZG) => zjn (fun (_ : Unit) => P a222_2 K222) fun J309 => zbr (3 ≤ a222_10) (J309 ()) (zbr ((1 : Int) = 0) (J309 ()) (zaL K222 5 13 180 (w32 ((w32 (3 * n)) + a222_10)) fun (x6 : Int) => zjn (fun (y303_2 : Int) (H303 : ZG) => zlt1 (w32 (a222_10 + 1)) fun (x7 : Int) => P222 y303_2 x7 H303) fun J303 => zbr (x6 = (-1)) (J303 a222_2 K222) (zaL K222 5 13 180 (w32 ((w32 (3 * n)) + a222_10)) fun (x8 : Int) => zaS K222 5 30 256 a222_2 x8 fun (G1 : ZG) => zjn (fun (z299_2 : Int) => zaS G1 5 68 256 a222_2 z299_2 fun (G2 : ZG) => zlt1 (w32 (a222_2 + 1)) fun (x9 : Int) => J303 x9 G2) fun J299 => zjn (fun (_ : Unit) => J299 x4) fun J282 => zbr (x5 = 1) (J282 ()) (zbr (x5 ≠ 4) (J299 (w32 ((w32 ((w32 ((w32 (5 * x4)) + skip)) + a222_10)) + 1))) (J282 ())))))) t 0 G := by
  refine zl3_of (fun t' k K => 0 ≤ k ∧ k ≤ 3 ∧ t' = t + ((nph D n pf k).length : Int) ∧ Mo G K ∧ (∀ j, j ≠ 30 → j ≠ 68 → zsg K 5 j = zsg G 5 j) ∧ stn K t' = W ++ nph D n pf k) (fun _ k _ => (3 - k).toNat) (fun P2 t' k K hI hPP => ?_) ⟨by omega, by omega, by show t = t + ((0 : Nat) : Int); omega, Mo.refl G, fun _ _ _ => rfl, by rw [hW]; show W = W ++ []; rw [List.append_nil]⟩
  obtain ⟨k0, k3, rfl, mo, hKK, hs⟩ := hI
  have hl := nph_len (D := D) (n := n) (pf := pf) (k := k)
  dsimp only [zjn]
  refine zbr_i (fun hk => ?_) (fun hk => ?_)
  · have : k = 3 := by omega
    subst this
    rw [nph_e] at hs ⊢
    exact hP K mo hKK hs
  · rw [zbr_neg (by omega), w32_eq (x := 3 * n) (by omega) (by omega), w32_eq (x := 3 * n + k) (by omega) (by omega)]
    refine zaL_i (by omega) (by omega) ?_
    rw [hKK 13 (by omega) (by omega), hK 13 (by omega) (by omega)]
    refine zbr_i (fun hpn => ?_) (fun hpn => ?_)
    · have e : nph D n pf (k + 1) = nph D n pf k := by rw [nph_s k0 (by omega)]; unfold nit; rw [if_pos (show prt D n k = -1 from hpn), List.append_nil]
      rw [zlt1_e, w32_eq (by omega) (by omega)]
      exact hPP _ _ _ ⟨by omega, by omega, by rw [e], mo, hKK, by rw [e]; exact hs⟩ (by omega)
    · have hpn2 : prt D n k ≠ -1 := hpn
      have e : nph D n pf (k + 1) = nph D n pf k ++ [(prt D n k, pf k)] := by rw [nph_s k0 (by omega)]; unfold nit; rw [if_neg hpn2]
      refine zaL_i (by omega) (by omega) ?_
      rw [hKK 13 (by omega) (by omega), hK 13 (by omega) (by omega)]
      refine zaS_i (by omega) (by omega) ?_
      have fin : ∀ z, z = pf k → zaS (zss K 5 30 (t + ((nph D n pf k).length : Int)) (D 13 (3 * n + k))) 5 68 256 (t + ((nph D n pf k).length : Int)) z fun (G2 : ZG) => zlt1 (w32 (t + ((nph D n pf k).length : Int) + 1)) fun (x9 : Int) => zlt1 (w32 (k + 1)) fun (x7 : Int) => P2 x9 x7 G2 := fun z hz => by
        refine zaS_i (by omega) (by omega) ?_
        rw [zlt1_e, w32_eq (by omega) (by omega), zlt1_e, w32_eq (by omega) (by omega)]
        refine hPP _ _ _ ⟨by omega, by omega, by rw [e, List.length_append, List.length_singleton]; omega, (mo.ss _ _ _).ss _ _ _, fun j j1 j2 => by rw [z5_ne j2, z5_ne j1, hKK j j1 j2], ?_⟩ (by omega)
        rw [stn_push (by omega), hs, e, List.append_assoc, hz]; rfl
      have hf := hpf k k0 (by omega) hpn2
      refine zbr_i (fun h5 => fin _ (by rw [hf, if_pos (Or.inl h5)])) (fun h5 => zbr_i (fun h54 => fin _ (by rw [hf, if_neg (by omega)])) (fun h54 => fin _ (by rw [hf, if_pos (Or.inr (Decidable.of_not_not h54))])))
