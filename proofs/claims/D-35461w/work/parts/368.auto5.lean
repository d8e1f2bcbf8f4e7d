/-! COMPONENT: codes are written: parts, lists -/
set_option maxRecDepth 100000
/-- a sum of the first ones -/
def ksm (g : Int → Nat) : Nat → Nat
  | 0 => 0
  | i + 1 => ksm g i + g i
theorem ksm_ints (g : Int → Nat) (f : Int → Int) (m : Nat) : ((ints m f).map g).sum = ksm (fun i => g (f i)) m := by
  unfold ints
  rw [show ((m : Int)).toNat = m by omega]
  induction m with
  | zero => rfl
  | succ m ih =>
    rw [List.range_succ, List.map_append, List.map_append, List.sum_append, ih]
    simp [ksm]
theorem ksm_mono {g : Int → Nat} : ∀ {a b : Nat}, a ≤ b → ksm g a ≤ ksm g b := by
  intro a b h
  induction b with
  | zero => have : a = 0 := by omega
            subst this; exact Nat.le_refl _
  | succ b ih =>
    by_cases e : a = b + 1
    · subst e; exact Nat.le_refl _
    · have := ih (by omega)
      show ksm g a ≤ ksm g b + g b
      omega
theorem ImL_snoc {I : Int → Int → Int → Int → Prop} : ∀ {L : List (Int × Int)} {c : Int × Int} {a x b : Int}, ImL I L a x → I c.1 c.2 x b → ImL I (L ++ [c]) a b
  | [], c, a, x, b, h, hI => by
    have h : a = x := h
    subst h
    exact ⟨b, hI, rfl⟩
  | d :: L, c, a, x, b, h, hI => by
    obtain ⟨m, h1, h2⟩ := h
    exact ⟨m, h1, ImL_snoc h2 hI⟩
theorem prow_take {m p j i : Int} {pr : Int → Int} (i0 : 0 ≤ i) (i1 : i < m) : (prow m p j pr).take (i + 1).toNat = (prow m p j pr).take i.toNat ++ [(pr i, 5 * p + j + i + 1)] := by
  rw [show (i + 1).toNat = i.toNat + 1 by omega]
  have h : (prow m p j pr)[i.toNat]? = some (pr i, 5 * p + j + i + 1) := by
    unfold prow
    rw [List.getElem?_map, List.getElem?_range (by omega)]
    show some (pr ((i.toNat : Nat) : Int), 5 * p + j + ((i.toNat : Nat) : Int) + 1) = _
    rw [show ((i.toNat : Nat) : Int) = i by omega]
  rw [List.take_add_one, h]; rfl
/-- parts one behind the other, W writes one -/
theorem w5_all {G0 : ZG} {W : ZR → Int → Nat → Nat → ZG → (ZG → Prop) → Prop} {I : (Int → Int) → Int → Int → Int → Int → Int → Prop} {pa : Nat → Nat} {a : Nat} {cnt p j : Int} {pr : Int → Int} {k jn : Int → Nat} (hS : Sep G0) (hc0 : HI G0 a (.inr (.inl (4, (ints cnt pr).map fun (q : Int) => (some (.inl (pa q.toNat)) : ZR))))) (c0 : 0 ≤ cnt) (c3 : cnt ≤ 3) (hp : 0 ≤ p ∧ p ≤ 500) (hj : 0 ≤ j ∧ j ≤ 3)
    (hle : ∀ M n p a b fl, I M n p a b fl → a ≤ b ∧ (b - a) % 5 = 0) (ich : ∀ n p, Ich (fun M a b fl => I M n p a b fl))
    (hW : ∀ i, 0 ≤ i → i < cnt → Wr G0 (W (some (.inl (pa (pr i).toNat))) (5 * p + j + i + 1)) (k i) (jn i) (fun M a b fl => I M (pr i) (5 * p + j + i + 1) a b fl)) :
    Wr G0 (fun mc ms G Q => zl4 (fun (P3 : Int → ZG → Nat → Nat → Prop) (a3_4 : Int) (K3 : ZG) (kc ks : Nat) => zeN K3 (some (.inl a)) fun (x1 : Int) => zbr (x1 ≤ a3_4) (Q K3) (zeR K3 (some (.inl a)) a3_4 fun (x2 : ZR) => vX1_field p (w32 (j + a3_4)) fun (x3 : Int) => ∃ k4 n4 : Nat, (kc + k4 ≤ mc ∧ ks + n4 ≤ ms) ∧ W x2 x3 k4 n4 K3 fun (G1 : ZG) => zlt1 (w32 (a3_4 + 1)) fun (x5 : Int) => P3 x5 G1 (kc + k4) (ks + n4))) 0 G 0 0) (ksm k cnt.toNat) (ksm jn cnt.toNat) (fun M a b fl => ImL (fun n p a b => I M n p a b fl) (prow cnt p j pr) a b) := by
  intro G N m M mc ms Q hF hA hN m0 m1 m2 hmc hms hQ
  have N2 := gN2 hN
  have hlen : (((ints cnt pr).map fun (q : Int) => (some (.inl (pa q.toNat)) : ZR)).length : Int) = cnt := by rw [List.length_map, ints_len]; omega
  refine zl4_of (fun i K kc ks => 0 ≤ i ∧ i ≤ cnt ∧ Fr [4] G0 K ∧ kc = gc N (m + 5 * (ksm k i.toNat : Int)) + ksm jn i.toNat ∧ ks = gs N (m + 5 * (ksm k i.toNat : Int)) + 4 * ksm jn i.toNat ∧ Kp G K ∧ ∃ M', Am K (gr N (m + 5 * (ksm k i.toNat : Int))) (m + 5 * (ksm k i.toNat : Int)) M' ∧ (∀ x, x < m → M' x = M x) ∧ ImL (fun n p a b => I M' n p a b (-1)) ((prow cnt p j pr).take i.toNat) m (m + 5 * (ksm k i.toNat : Int))) (fun i _ _ _ => (cnt - i).toNat) (fun P i K kc ks hI hPP => ?_) ⟨by omega, c0, hF, ?_, ?_, Kp.refl G, M, ?_, fun _ _ => rfl, ?_⟩
  · obtain ⟨i0, i1, f, hkc, hks, kp, M', am, lo, im⟩ := hI
    have hcc := (f.hk hc0).1
    refine zeN_r hcc ?_
    rw [hlen]
    refine zbr_i (fun hi => ?_) (fun hi => ?_)
    · have : i = cnt := by omega
      subst this
      have e : (prow i p j pr).take i.toNat = prow i p j pr := List.take_of_length_le (by unfold prow; rw [List.length_map, List.length_range]; omega)
      rw [e] at im
      exact hQ K M' f am lo im kp
    · refine zeR_i hcc i0 (map_get (g := fun (q : Int) => (some (.inl (pa q.toNat)) : ZR)) i0 (by omega)) ?_
      rw [w32_eq (x := j + i) (by omega) (by omega), eX1_field _ _ _ hp.1 (by omega) (by omega) (by omega), show 5 * p + (j + i) + 1 = 5 * p + j + i + 1 by omega]
      have es : ksm k (i + 1).toNat = ksm k i.toNat + k i := by
        rw [show (i + 1).toNat = i.toNat + 1 by omega]
        show ksm k i.toNat + k ((i.toNat : Nat) : Int) = _
        rw [show ((i.toNat : Nat) : Int) = i by omega]
      have ej : ksm jn (i + 1).toNat = ksm jn i.toNat + jn i := by
        rw [show (i + 1).toNat = i.toNat + 1 by omega]
        show ksm jn i.toNat + jn ((i.toNat : Nat) : Int) = _
        rw [show ((i.toNat : Nat) : Int) = i by omega]
      have l1 := ksm_mono (g := k) (show (i + 1).toNat ≤ cnt.toNat by omega)
      have l2 := ksm_mono (g := jn) (show (i + 1).toNat ≤ cnt.toNat by omega)
      have ek : m + 5 * (ksm k i.toNat : Int) + 5 * (k i : Int) = m + 5 * (ksm k (i + 1).toNat : Int) := by rw [es]; push_cast; omega
      have b1 := gc_le N2.1 (show m + 5 * (ksm k (i + 1).toNat : Int) ≤ m + 5 * (ksm k cnt.toNat : Int) by omega) m2
      have b2 := gs_le N2.1 (show m + 5 * (ksm k (i + 1).toNat : Int) ≤ m + 5 * (ksm k cnt.toNat : Int) by omega) m2
      generalize hq : m + 5 * (ksm k i.toNat : Int) = q at *
      generalize hq2 : m + 5 * (ksm k (i + 1).toNat : Int) = q2 at *
      have g1 := gr_ge N2.1 (show q ≤ 32000 by omega)
      have cc := gc_gc N2.1 (show q ≤ q2 by omega) (by omega)
      have ss := gs_gs N2.1 (show q ≤ q2 by omega) (by omega)
      have rr := gr_gr N2.1 (show q ≤ q2 by omega) (by omega)
      refine ⟨gc (gr N q) q2 + jn i, gs (gr N q) q2 + 4 * jn i, ⟨by omega, by omega⟩, ?_⟩
      refine hW i i0 (by omega) K (gr N q) q M' _ _ _ f am (gr_gN hN (by omega)) (by omega) (by omega) (by omega) (by rw [ek]; omega) (by rw [ek]; omega) (fun G1 M1 f1 a1 lo1 im1 kp1 => ?_)
      rw [ek, rr] at a1
      rw [ek] at im1
      rw [zlt1_e, w32_eq (by omega) (by omega)]
      refine hPP _ _ _ _ ⟨by omega, by omega, f1, by rw [hq2, ej]; omega, by rw [hq2, ej]; omega, kp.trans kp1, M1, by rw [hq2]; exact a1, fun x hx => by rw [lo1 x (by omega), lo x hx], ?_⟩ (by omega)
      rw [hq2, prow_take i0 (by omega)]
      refine ImL_snoc ?_ im1
      exact ImL_ch (lo := m) (hi := q) (fun c _ x y z => hle M' c.1 c.2 x y (-1) z) (fun c _ x y z1 z2 z3 z4 => (ich c.1 c.2).same (by omega) (hle M' c.1 c.2 x y (-1) z4).2 (fun u u0 u1 => lo1 u (by omega)) z4) (Int.le_refl _) (by omega) (Int.le_refl _) im
  · show 0 = gc N (m + 5 * ((0 : Nat) : Int)) + 0
    rw [show m + 5 * ((0 : Nat) : Int) = m by omega]
    unfold gc; rw [if_pos m1]
  · show 0 = gs N (m + 5 * ((0 : Nat) : Int)) + 4 * 0
    rw [show m + 5 * ((0 : Nat) : Int) = m by omega]
    unfold gs gr; rw [if_pos m1]; omega
  · show Am G (gr N (m + 5 * ((0 : Nat) : Int))) (m + 5 * ((0 : Nat) : Int)) M
    rw [show m + 5 * ((0 : Nat) : Int) = m by omega]
    unfold gr; rw [if_pos m1]; exact hA
  · show m = m + 5 * ((0 : Nat) : Int)
    omega
