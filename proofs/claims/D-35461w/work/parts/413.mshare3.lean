/-! REFERENCE: the shared tree's size -/
set_option maxRecDepth 100000
theorem nl_z {D : ZD} {eng : Int} {e : PT} (hM : MI D) (hN : isN D eng e) : ((nl D eng e).1 = 2 → (nl D eng e).2.1 = 0) ∧ ((nl D eng e).1 < 4 → (nl D eng e).2.2.1 = 0) := by
  have key : ((lab D eng e).1 = 2 → (lab D eng e).2.1 = 0) ∧ ((lab D eng e).1 < 4 → (lab D eng e).2.2.1 = 0) := by
    rcases lab_ok hM (isN_P hM e hN).1 eng with z | ⟨c, z, _⟩ | ⟨c, z, _⟩ | ⟨v, q, z, _⟩ | ⟨k, q, z, _⟩ <;> rw [z] <;> dsimp only <;> omega
  match e, key with
  | [], key => exact key
  | st :: e, key =>
    have en : nl D eng (st :: e) = if st.1 = 3 ∧ st.2.2.2 = 0 then (0, st.2.1, 0, 0) else if st.1 = 3 ∧ D 26 st.2.1 = 3 then (1, st.2.1, 0, 0) else lab D eng (st :: e) := rfl
    rw [en]
    split
    · exact ⟨fun z => (by cases z), fun _ => rfl⟩
    · split
      · exact ⟨fun z => (by cases z), fun _ => rfl⟩
      · exact key
theorem w6_shared {D : ZD} {eng : Int} {G : ZG} {L : List PT} {Q : Int → ZG → Prop} (hM : MI D) (hT : TT D eng G L (L.length : Int)) (hQ : ∀ r, ShA D eng r → ∀ G', Mo G G' → (∀ j, j ≠ 63 → zsg G' 5 j = zsg G 5 j) → Q r G') : vX6_sharedSize G Q := by
  have hE := enu_m hT
  obtain ⟨t1, t2, t3, t4, t5, t6, t7⟩ := id hT
  have isn : ∀ {i : Nat} {q : PT}, L[i]? = some q → isN D eng q := fun h => (t5 _ _ h).1
  have lt : ∀ {i : Nat} {q : PT}, L[i]? = some q → i < L.length := fun h => (List.getElem?_eq_some_iff.mp h).1
  unfold vX6_sharedSize
  rw [zgF_e, t1, zlt1_e, w32_eq (by omega) (by omega)]
  have L1 : 0 < L.length := lt t4
  refine zl3_of (fun cnt a K => -1 ≤ a ∧ a ≤ (L.length : Int) - 1 ∧ Mo G K ∧ (∀ j, j ≠ 63 → zsg K 5 j = zsg G 5 j) ∧ Prm D eng L a (fun i => zsg K 5 63 i) cnt ∧ 0 ≤ cnt ∧ cnt ≤ (L.length : Int) - 1 - a) (fun _ a _ => (a + 1).toNat) (fun P cnt a K hI hPP => ?_) ⟨by omega, by omega, Mo.refl G, fun _ _ => rfl, ⟨[], List.nodup_nil, rfl, fun x => ⟨fun z => (by cases z), fun ⟨i, q, hi, hq, _⟩ => by have := lt hq; omega⟩, fun i q hi hq => by have := lt hq; omega⟩, by omega, by omega⟩
  obtain ⟨a0, a1, mo, hK, hP, c0, c1⟩ := hI
  refine zbr_i (fun ha => ?_) (fun ha => ?_)
  · have ea : a = -1 := by omega
    subst ea
    obtain ⟨R, h1, h2, h3, _⟩ := hP
    refine hQ cnt ⟨R, h1, fun x => ?_, h2⟩ K mo hK
    rw [h3]
    constructor
    · rintro ⟨i, q, _, hq, e⟩; exact ⟨q, isn hq, e⟩
    · rintro ⟨q, hq, e⟩
      obtain ⟨i, hi⟩ := List.mem_iff_getElem?.mp ((hE.2.2 q).mpr hq)
      exact ⟨i, q, by omega, hi, e⟩
  have a00 : 0 ≤ a := by omega
  have ea : ((a.toNat : Nat) : Int) = a := by omega
  obtain ⟨q, hq⟩ : ∃ q, L[a.toNat]? = some q := ⟨_, List.getElem?_eq_getElem (by omega)⟩
  have hqN := isn hq
  have cl : ∀ (H : ZG), (∀ j, j ≠ 63 → zsg H 5 j = zsg G 5 j) → ∀ (b : Nat) (x : PT), L[b]? = some x → Cm H b (zsg G 5 61 b) (nl D eng x).2.2.2 (fun k => zsg H 5 63 (zsg G 5 61 b + k)) ∧ zsg H 5 58 b = (nl D eng x).1 ∧ ((nl D eng x).1 ≠ 2 → zsg H 5 59 b = (nl D eng x).2.1) ∧ (3 ≤ (nl D eng x).1 → zsg H 5 60 b = (nl D eng x).2.2.1) ∧ ∀ k : Nat, (k : Int) < (nl D eng x).2.2.2 → ∃ y : Nat, zsg G 5 61 b + k = (y : Int) ∧ b < y ∧ L[y]? = some (stp (nl D eng x) k :: x) := fun H hH b x hx => by
    obtain ⟨⟨d1, d2, d3, d4, d5, d6⟩, hc⟩ := hT.ch hx
    have hb := lt hx
    refine ⟨⟨⟨by omega, by omega⟩, nl_10 hM (isn hx), by rw [hH 62 (by omega)]; exact d4, by rw [hH 61 (by omega)], fun k hk => ⟨?_, rfl⟩⟩, by rw [hH 58 (by omega)]; exact d1, by rw [hH 59 (by omega)]; exact d2, by rw [hH 60 (by omega)]; exact d3, fun k hk => ⟨(zsg G 5 61 b).toNat + k, by omega, (hc k hk).2, (hc k hk).1⟩⟩
    have := lt (hc k hk).1
    omega
  have veq : ∀ (H : ZG), (∀ i, i ≠ a → zsg H 5 63 i = zsg K 5 63 i) → ∀ (i j : Nat) x y, a < (i : Int) → a < (j : Int) → L[i]? = some x → L[j]? = some y → (zsg H 5 63 i = zsg H 5 63 j ↔ cnE D eng x = cnE D eng y) := fun H hH i j x y hi hj hx hy => by
    rw [hH i (by omega), hH j (by omega)]
    exact hP.eq hi hj hx hy
  have ndl : ∀ (H : ZG), (∀ i, i ≠ a → zsg H 5 63 i = zsg K 5 63 i) → ∀ (b : Nat) (x : PT), a ≤ (b : Int) → L[b]? = some x → (Ndl D eng x ↔ ((nl D eng x).1 = 5 ∧ 0 < (nl D eng x).2.2.2 ∧ ∀ k : Nat, (k : Int) < (nl D eng x).2.2.2 → zsg H 5 63 (zsg G 5 61 b + k) = zsg H 5 63 (zsg G 5 61 b + (0 : Nat)))) := fun H hH b x hb hx => by
    have hc := (hT.ch hx).2
    have h61 := (hT.ch hx).1.2.2.2.2.1
    unfold Ndl
    refine and_congr_right (fun _ => and_congr_right (fun hm => ⟨fun h k hk => ?_, fun h k hk => ?_⟩))
    · obtain ⟨y3, y2⟩ := hc k hk
      obtain ⟨z3, z2⟩ := hc 0 (by omega)
      have := (veq H hH _ _ _ _ (by omega) (by omega) y3 z3).mpr (h k hk)
      rw [show (((zsg G 5 61 b).toNat + k : Nat) : Int) = zsg G 5 61 b + k by omega, show (((zsg G 5 61 b).toNat + 0 : Nat) : Int) = zsg G 5 61 b + (0 : Nat) by omega] at this
      exact this
    · obtain ⟨y3, y2⟩ := hc k hk
      obtain ⟨z3, z2⟩ := hc 0 (by omega)
      have := h k hk
      rw [show zsg G 5 61 b + (k : Int) = (((zsg G 5 61 b).toNat + k : Nat) : Int) by omega, show zsg G 5 61 b + ((0 : Nat) : Int) = (((zsg G 5 61 b).toNat + 0 : Nat) : Int) by omega] at this
      exact (veq H hH _ _ _ _ (by omega) (by omega) y3 z3).mp this
  have next : ∀ (cnt' : Int) (H : ZG), Mo G H → (∀ j, j ≠ 63 → zsg H 5 j = zsg G 5 j) → Prm D eng L (a - 1) (fun i => zsg H 5 63 i) cnt' → 0 ≤ cnt' → cnt' ≤ cnt + 1 → zlt1 (w32 (a + (-1))) fun (x4 : Int) => P cnt' x4 H := fun cnt' H fH hH hP' n0 n1 => by
    rw [zlt1_e, w32_eq (by omega) (by omega)]
    exact hPP _ _ _ ⟨by omega, by omega, fH, hH, by rw [show a + -1 = a - 1 by omega]; exact hP', n0, by omega⟩ (by omega)
  have st1 : ∀ (H : ZG) (v : Int), Mo G H → (∀ j, j ≠ 63 → zsg H 5 j = zsg G 5 j) → (∀ i, i ≠ a → zsg H 5 63 i = zsg K 5 63 i) → Mo G (zss H 5 63 a v) ∧ (∀ j, j ≠ 63 → zsg (zss H 5 63 a v) 5 j = zsg G 5 j) ∧ (∀ i, i ≠ a → zsg (zss H 5 63 a v) 5 63 i = zsg K 5 63 i) ∧ zsg (zss H 5 63 a v) 5 63 a = v := fun H v fH hH gH => by
    refine ⟨fH.ss _ _ _, fun j hj => by rw [z5_ne hj]; exact hH j hj, fun i hi => ?_, ?_⟩
    · rw [zsg_ss, if_neg (fun z => hi z.2.2)]; exact gH i hi
    · rw [zsg_ss, if_pos ⟨rfl, rfl, rfl⟩]
  -- a node gets its class
  have J : ∀ z, ((z = -1 ∧ ¬ Ndl D eng q) ∨ (∃ (r : Nat) (qr : PT), a < (r : Int) ∧ L[r]? = some qr ∧ cnE D eng qr = cnE D eng q ∧ z = zsg K 5 63 r ∧ 0 ≤ z)) → txtS P cnt a z K := fun z hz => by
    unfold txtS
    refine zaS_i a00 (by omega) ?_
    obtain ⟨f1, g1, k1, ga⟩ := st1 K z mo hK (fun _ _ => rfl)
    generalize zss K 5 63 a z = G1 at f1 g1 k1 ga
    rw [zgF_e, g1 56 (by omega), t1, zlt1_e, w32_eq (x := (L.length : Int) - 1) (by omega) (by omega)]
    dsimp only [zjn]
    refine zl2_of (fun b H => a ≤ b ∧ b ≤ (L.length : Int) - 1 ∧ Mo G H ∧ (∀ j, j ≠ 63 → zsg H 5 j = zsg G 5 j) ∧ (∀ i, i ≠ a → zsg H 5 63 i = zsg K 5 63 i) ∧ ((zsg H 5 63 a = -1 ∧ ¬ Ndl D eng q ∧ ∀ (j : Nat) (q' : PT), b < (j : Int) → L[j]? = some q' → ¬ Ndl D eng q' → cnE D eng q' ≠ cnE D eng q) ∨ (∃ (r : Nat) (qr : PT), a < (r : Int) ∧ L[r]? = some qr ∧ cnE D eng qr = cnE D eng q ∧ zsg H 5 63 a = zsg K 5 63 r ∧ 0 ≤ zsg H 5 63 a))) (fun b _ => (b - a).toNat) (fun P2 b H hI2 hPP2 => ?_) ⟨by omega, by omega, f1, g1, k1, ?_⟩
    · obtain ⟨b0, b1, fH, hH, gH, hst⟩ := hI2
      have out : (b ≤ a ∨ zsg H 5 63 a ≠ -1) → zaL H 5 63 512 a fun (x7 : Int) => zbr (x7 ≠ (-1)) (zlt1 (w32 (a + (-1))) fun (x8 : Int) => P cnt x8 H) (zaS H 5 63 512 a cnt fun (G2 : ZG) => zlt1 (w32 (cnt + 1)) fun (x9 : Int) => zlt1 (w32 (a + (-1))) fun (x8 : Int) => P x9 x8 G2) := fun hout => by
        refine zaL_i a00 (by omega) ?_
        refine zbr_i (fun hne => ?_) (fun he => ?_)
        · obtain ⟨r, qr, r1, r2, r3, r4, r5⟩ := hst.resolve_left (fun z => hne z.1)
          exact next cnt H fH hH (hP.old a00 hq r1 r2 r3 (fun i hi => gH i hi) r4) c0 (by omega)
        · have he := Decidable.of_not_not he
          obtain ⟨_, hnd, hno⟩ := hst.resolve_right (fun ⟨r, qr, _, _, _, _, r5⟩ => by omega)
          have hba : b ≤ a := hout.resolve_right (fun z => z he)
          refine zaS_i a00 (by omega) ?_
          obtain ⟨f2, g2, k2, gb⟩ := st1 H cnt fH hH gH
          rw [zlt1_e, w32_eq (x := cnt + 1) (by omega) (by omega)]
          refine next (cnt + 1) _ f2 g2 (hP.new a00 hq (fun j q' hj hq' e => ?_) (fun i hi => k2 i hi) gb) (by omega) (by omega)
          obtain ⟨w, y, w1, w2, w3, w4⟩ := own_ex hM hT L.length j q' (by omega) hq'
          exact hno w y (by omega) w2 w3 (by rw [w4, e])
      refine zbr_i (fun hb => out (Or.inl hb)) (fun hb => zaL_i a00 (by omega) ?_)
      refine zbr_i (fun hne => out (Or.inr hne)) (fun he => ?_)
      have he := Decidable.of_not_not he
      obtain ⟨_, hnd, hno⟩ := hst.resolve_right (fun ⟨r, qr, _, _, _, _, r5⟩ => by omega)
      have eb : ((b.toNat : Nat) : Int) = b := by omega
      obtain ⟨x, hx⟩ : ∃ x, L[b.toNat]? = some x := ⟨_, List.getElem?_eq_getElem (by omega)⟩
      have hxN := isn hx
      obtain ⟨R, _, _, _, p4⟩ := id hP
      have hb4 := (p4 b.toNat x (by omega) hx).1
      rw [eb] at hb4
      have hb4 : 0 ≤ zsg K 5 63 b := hb4
      refine zaL_i (by omega) (by omega) ?_
      rw [gH b (by omega)]
      have none : (¬ Ndl D eng x → cnE D eng x ≠ cnE D eng q) → zaS H 5 63 512 a (-1) fun (G3 : ZG) => zlt1 (w32 (b + (-1))) fun (x12 : Int) => P2 x12 G3 := fun hne => by
        refine zaS_i a00 (by omega) ?_
        obtain ⟨f2, g2, k2, gb⟩ := st1 H (-1) fH hH gH
        rw [zlt1_e, w32_eq (by omega) (by omega)]
        refine hPP2 _ _ ⟨by omega, by omega, f2, g2, k2, Or.inl ⟨gb, hnd, fun j q' hj hq' hn' => ?_⟩⟩ (by omega)
        by_cases hjb : (j : Int) = b
        · have : j = b.toNat := by omega
          subst this
          rw [hx] at hq'
          have := Option.some.inj hq'
          subst this
          exact hne hn'
        · exact hno j q' (by omega) hq' hn'
      refine zbr_i (fun h0 => absurd hb4 (by omega)) (fun _ => ?_)
      obtain ⟨hClB, e3, e4, e5, ech⟩ := cl H hH b.toNat x hx
      obtain ⟨hClA, d3, d4, d5, dch⟩ := cl H hH a.toNat q hq
      have nB := ndl H gH b.toNat x (by omega) hx
      rw [eb] at hClB e3 e4 e5 ech nB
      rw [ea] at hClA d3 d4 d5 dch
      refine w6_own hClB (fun hy => ?_) (fun hn => ?_)
      · rw [e3] at hy
        exact zbr_i (fun _ => none (fun z => absurd (nB.mpr hy) z)) (fun z => absurd rfl z)
      · rw [e3] at hn
        have hxn : ¬ Ndl D eng x := fun z => hn (nB.mp z)
        refine zbr_i (fun z => absurd z (by omega)) (fun _ => ?_)
        have iff1 := cnE_iff hM hxN hqN hxn hnd
        refine w6_same hClB hClA (fun h3 h4 h5 h7 hv => ?_) (fun hnot => ?_)
        · rw [e3, d3] at h3
          rw [e3] at h4 h5
          have zx := nl_z hM hxN
          have zq := nl_z hM hqN
          have l2 : (nl D eng x).2.1 = (nl D eng q).2.1 := by
            by_cases h2 : (nl D eng x).1 = 2
            · rw [zx.1 h2, zq.1 (by omega)]
            · have := h4 h2
              rw [e4 h2, d4 (by omega)] at this
              exact this
          have l3 : (nl D eng x).2.2.1 = (nl D eng q).2.2.1 := by
            by_cases h2 : (nl D eng x).1 < 4
            · rw [zx.2 h2, zq.2 (by omega)]
            · have := h5 (by omega)
              rw [e5 (by omega), d5 (by omega)] at this
              exact this
          have hl : nl D eng x = nl D eng q := Prod.ext h3 (Prod.ext l2 (Prod.ext l3 h7))
          have hxe : cnE D eng x = cnE D eng q := iff1.mpr ⟨hl, fun k hk => by
            obtain ⟨y, y1, y2, y3⟩ := ech k hk
            obtain ⟨w, w1, w2, w3⟩ := dch k (by rw [← hl]; exact hk)
            have := hv k hk
            rw [y1, w1] at this
            exact (veq H gH y w _ _ (by omega) (by omega) y3 w3).mp this⟩
          refine zbr_i (fun z => absurd z (by omega)) (fun _ => zaL_i (by omega) (by omega) ?_)
          rw [gH b (by omega)]
          refine zaS_i a00 (by omega) ?_
          obtain ⟨f2, g2, k2, gb⟩ := st1 H (zsg K 5 63 b) fH hH gH
          rw [zlt1_e, w32_eq (by omega) (by omega)]
          exact hPP2 _ _ ⟨by omega, by omega, f2, g2, k2, Or.inr ⟨b.toNat, x, by omega, hx, hxe, by rw [gb, eb], by rw [gb]; exact hb4⟩⟩ (by omega)
        · refine zbr_i (fun _ => none (fun _ hxe => hnot ?_)) (fun z => absurd rfl z)
          obtain ⟨hl, hk⟩ := iff1.mp hxe
          refine ⟨by rw [e3, d3, hl], fun h2 => ?_, fun h4 => ?_, by rw [hl], fun k hkk => ?_⟩
          · rw [e3] at h2
            rw [e4 h2, d4 (by rw [← hl]; exact h2), hl]
          · rw [e3] at h4
            rw [e5 (by omega), d5 (by rw [← hl]; omega), hl]
          · obtain ⟨y, y1, y2, y3⟩ := ech k hkk
            obtain ⟨w, w1, w2, w3⟩ := dch k (by rw [← hl]; exact hkk)
            rw [y1, w1]
            exact (veq H gH y w _ _ (by omega) (by omega) y3 w3).mpr (hk k hkk)
    · rcases hz with ⟨rfl, hnd⟩ | ⟨r, qr, r1, r2, r3, rfl, r5⟩
      · exact Or.inl ⟨ga, hnd, fun j q' hj hq' => by have := lt hq'; omega⟩
      · exact Or.inr ⟨r, qr, r1, r2, r3, ga, by rw [ga]; exact r5⟩
  obtain ⟨hCl, c3, c4, c5, cch⟩ := cl K hK a.toNat q hq
  have nA := ndl K (fun _ _ => rfl) a.toNat q (by omega) hq
  rw [ea] at hCl c3 c4 c5 cch nA
  have yes : (nl D eng q).1 = 5 ∧ 0 < (nl D eng q).2.2.2 ∧ (∀ k : Nat, (k : Int) < (nl D eng q).2.2.2 → zsg K 5 63 (zsg G 5 61 a + k) = zsg K 5 63 (zsg G 5 61 a + (0 : Nat))) → zbr ((1 : Int) = 0) (txtS P cnt a (-1) K) (zaL K 5 61 512 a fun (x16 : Int) => zaL K 5 63 512 x16 fun (x17 : Int) => txtS P cnt a x17 K) := fun hy => by
    have hnd := nA.mpr hy
    refine zbr_i (fun z => absurd z (by omega)) (fun _ => zaL_i a00 (by omega) ?_)
    obtain ⟨y, y1, y2, y3⟩ := cch 0 (by omega)
    have hyl := lt y3
    rw [hK 61 (by omega)]
    have y1 : zsg G 5 61 a = (y : Int) := by omega
    rw [y1]
    refine zaL_i (by omega) (by omega) (J _ (Or.inr ⟨y, _, by omega, y3, ((cnE_s hM hqN).1 hnd).symm, rfl, ?_⟩))
    obtain ⟨R, _, _, _, p4⟩ := id hP
    exact (p4 y _ (by omega) y3).1
  have no : ¬ ((nl D eng q).1 = 5 ∧ 0 < (nl D eng q).2.2.2 ∧ (∀ k : Nat, (k : Int) < (nl D eng q).2.2.2 → zsg K 5 63 (zsg G 5 61 a + k) = zsg K 5 63 (zsg G 5 61 a + (0 : Nat)))) → zbr ((0 : Int) = 0) (txtS P cnt a (-1) K) (zaL K 5 61 512 a fun (x16 : Int) => zaL K 5 63 512 x16 fun (x17 : Int) => txtS P cnt a x17 K) := fun hn =>
    zbr_i (fun _ => J _ (Or.inl ⟨rfl, fun z => hn (nA.mp z)⟩)) (fun z => absurd rfl z)
  refine zaL_i a00 (by omega) ?_
  rw [c3]
  dsimp only [zjn]
  refine zbr_i (fun h5 => ?_) (fun h5 => zaL_i a00 (by omega) ?_)
  · exact w6_eqs (E := fun z => zbr (z = 0) (txtS P cnt a (-1) K) (zaL K 5 61 512 a fun (x16 : Int) => zaL K 5 63 512 x16 fun (x17 : Int) => txtS P cnt a x17 K)) (g := (nl D eng q).1 = 5) (z := 0) hCl (Or.inr ⟨rfl, fun z => h5 z.1⟩) yes no
  · rw [hCl.2.2.1]
    refine zbr_i (fun hm => ?_) (fun hm => ?_)
    · exact w6_eqs (E := fun z => zbr (z = 0) (txtS P cnt a (-1) K) (zaL K 5 61 512 a fun (x16 : Int) => zaL K 5 63 512 x16 fun (x17 : Int) => txtS P cnt a x17 K)) (g := (nl D eng q).1 = 5) (z := 0) hCl (Or.inr ⟨rfl, fun z => by omega⟩) yes no
    · exact w6_eqs (E := fun z => zbr (z = 0) (txtS P cnt a (-1) K) (zaL K 5 61 512 a fun (x16 : Int) => zaL K 5 63 512 x16 fun (x17 : Int) => txtS P cnt a x17 K)) (g := (nl D eng q).1 = 5) (z := 1) hCl (Or.inl ⟨rfl, Decidable.of_not_not h5, by omega⟩) yes no
