/-! COMPONENT: the shared tree is counted -/
set_option maxRecDepth 100000
theorem w4_shared {D : ZD} {o : Nat} {G : ZG} {S : List PT} {Q : Int → ZG → Prop} (ho : tob o) (hM : MI D) (hSp : Sep G) (h0 : S[0]? = some []) (hN : Nrm D (o : Int) o G S) (hRow : ∀ (i : Nat) q, S[i]? = some q → Row D (o : Int) o G S i q) (hQ : ∀ r, ShA D (o : Int) r → ∀ G', Fr [o] G G' → (∀ j i, j ≠ 8 → zsg G' o j i = zsg G o j i) → Q r G') : vX4_shared o G Q := by
  have hE := enu_c h0 hN hRow
  have hl5 := hN.2.2.1
  have isn : ∀ {i : Nat} {q : PT}, S[i]? = some q → isN D (o : Int) q := fun h => hN.2.2.2.2 _ (List.mem_iff_getElem?.mpr ⟨_, h⟩)
  have lt : ∀ {i : Nat} {q : PT}, S[i]? = some q → i < S.length := fun h => (List.getElem?_eq_some_iff.mp h).1
  unfold vX4_shared
  rw [zgF_e, hN.2.1, zlt1_e, w32_eq (by omega) (by omega)]
  refine zl3_of (fun cnt a K => -1 ≤ a ∧ a ≤ (S.length : Int) - 1 ∧ Fr [o] G K ∧ (∀ j i, j ≠ 8 → zsg K o j i = zsg G o j i) ∧ Prc D (o : Int) S a (fun i => zsg K o 8 i) cnt ∧ 0 ≤ cnt ∧ cnt ≤ (S.length : Int) - 1 - a) (fun _ a _ => (a + 1).toNat) (fun P cnt a K hI hPP => ?_) ⟨by omega, by omega, Fr.refl _ hSp, fun _ _ _ => rfl, ⟨[], List.nodup_nil, rfl, fun x => ⟨fun z => (by cases z), fun ⟨i, q, hi, hq, _⟩ => by have := lt hq; omega⟩, fun i q hi hq => by have := lt hq; omega, fun i j q q' hi _ hq _ _ => by have := lt hq; omega, fun i q hi hq => by have := lt hq; omega⟩, by omega, by omega⟩
  obtain ⟨a0, a1, fK, hK, hP, c0, c1⟩ := hI
  refine zbr_i (fun ha => ?_) (fun ha => ?_)
  · have ea : a = -1 := by omega
    subst ea
    obtain ⟨R, h1, h2, h3, _⟩ := hP
    refine hQ cnt ⟨R, h1, fun x => ?_, h2⟩ K fK hK
    rw [h3]
    constructor
    · rintro ⟨i, q, _, hq, e⟩; exact ⟨q, isn hq, e⟩
    · rintro ⟨q, hq, e⟩
      obtain ⟨i, hi⟩ := List.mem_iff_getElem?.mp ((hE.2.2 q).mpr hq)
      exact ⟨i, q, by omega, hi, e⟩
  · have a00 : 0 ≤ a := by omega
    have ea : ((a.toNat : Nat) : Int) = a := by omega
    obtain ⟨q, hq⟩ : ∃ q, S[a.toNat]? = some q := ⟨_, List.getElem?_eq_getElem (by omega)⟩
    have hqN := isn hq
    have hq1 := isN_1 hM hqN
    have hq10 := nl_10 hM hqN
    refine zaS_i a00 (by omega) ?_
    -- all states where only the class of a node is written
    have st1 : ∀ (H : ZG) (v : Int), Fr [o] G H → (∀ j i, ¬ (j = 8 ∧ i = a) → zsg H o j i = zsg K o j i) → Fr [o] G (zss H o 8 a v) ∧ (∀ j i, ¬ (j = 8 ∧ i = a) → zsg (zss H o 8 a v) o j i = zsg K o j i) ∧ zsg (zss H o 8 a v) o 8 a = v := fun H v fH hH => by
      refine ⟨fH.ss _ _ _ (by simp) (by unfold tob at ho; omega), fun j i hj => ?_, ?_⟩
      · rw [zsg_ss, if_neg (fun z => hj ⟨z.2.1, z.2.2⟩)]; exact hH j i hj
      · rw [zsg_ss, if_pos ⟨rfl, rfl, rfl⟩]
    obtain ⟨f1, g1, ga⟩ := st1 K a fK (fun _ _ _ => rfl)
    generalize zss K o 8 a a = G1 at f1 g1 ga
    -- rows with classes
    have cl : ∀ (H : ZG), (∀ j i, ¬ (j = 8 ∧ i = a) → zsg H o j i = zsg K o j i) → ∀ (b : Nat) (x : PT), S[b]? = some x → Cl o H b (nl D (o : Int) x).2.2.2 (fun k => zsg H o 8 (zsg H o 6 (10 * b + k))) ∧ zsg H o 3 b = ck (nl D (o : Int) x).1 ∧ zsg H o 4 b = (nl D (o : Int) x).2.2.1 ∧ zsg H o 5 b = (nl D (o : Int) x).2.1 ∧ ∀ k : Nat, (k : Int) < (nl D (o : Int) x).2.2.2 → ∃ y : Nat, zsg H o 6 (10 * b + k) = (y : Int) ∧ b < y ∧ S[y]? = some (stp (nl D (o : Int) x) k :: x) := fun H hH b x hx => by
      obtain ⟨r3, r4, r5, r7, r6⟩ := hRow b x hx
      have hb := lt hx
      have h10 := nl_10 hM (isn hx)
      have e : ∀ j i, j ≠ 8 → zsg H o j i = zsg G o j i := fun j i hj => by rw [hH j i (fun z => hj z.1), hK j i hj]
      have ch : ∀ k : Nat, (k : Int) < (nl D (o : Int) x).2.2.2 → ∃ y : Nat, zsg H o 6 (10 * b + k) = (y : Int) ∧ b < y ∧ S[y]? = some (stp (nl D (o : Int) x) k :: x) := fun k hk => by
        obtain ⟨y, y1, y2, y3⟩ := r6 k hk
        exact ⟨y, by rw [e 6 _ (by omega)]; exact y1, y2, y3⟩
      refine ⟨⟨⟨by omega, by omega⟩, h10, by rw [e 7 _ (by omega)]; exact r7, fun k hk => ⟨?_, rfl⟩⟩, by rw [e 3 _ (by omega)]; exact r3, by rw [e 4 _ (by omega)]; exact r4, by rw [e 5 _ (by omega)]; exact r5, ch⟩
      obtain ⟨y, y1, y2, y3⟩ := ch k hk
      have := lt y3
      rw [y1]; omega
    have veq : ∀ (H : ZG), (∀ j i, ¬ (j = 8 ∧ i = a) → zsg H o j i = zsg K o j i) → ∀ (i j : Nat) x y, a < (i : Int) → a < (j : Int) → S[i]? = some x → S[j]? = some y → (zsg H o 8 i = zsg H o 8 j ↔ cnE D (o : Int) x = cnE D (o : Int) y) := fun H hH i j x y hi hj hx hy => by
      rw [hH 8 i (by omega), hH 8 j (by omega)]
      exact hP.eq hi hj hx hy
    obtain ⟨hCl, c3, c4, c5, cch⟩ := cl G1 g1 a.toNat q hq
    rw [ea] at hCl c3 c4 c5 cch
    have ndl : Ndl D (o : Int) q ↔ (zsg G1 o 3 a = 0 ∧ 0 < (nl D (o : Int) q).2.2.2 ∧ ∀ k : Nat, (k : Int) < (nl D (o : Int) q).2.2.2 → zsg G1 o 8 (zsg G1 o 6 (10 * a + k)) = zsg G1 o 8 (zsg G1 o 6 (10 * a + (0 : Nat)))) := by
      rw [c3, ck_0 hq1]
      unfold Ndl
      refine and_congr_right (fun _ => and_congr_right (fun hm => ⟨fun h k hk => ?_, fun h k hk => ?_⟩))
      · obtain ⟨y, y1, y2, y3⟩ := cch k hk
        obtain ⟨z, z1, z2, z3⟩ := cch 0 (by omega)
        rw [y1, z1]
        exact (veq G1 g1 y z _ _ (by omega) (by omega) y3 z3).mpr (h k hk)
      · obtain ⟨y, y1, y2, y3⟩ := cch k hk
        obtain ⟨z, z1, z2, z3⟩ := cch 0 (by omega)
        have := h k hk
        rw [y1, z1] at this
        exact (veq G1 g1 y z _ _ (by omega) (by omega) y3 z3).mp this
    have next : ∀ (cnt' : Int) (H : ZG), Fr [o] G H → (∀ j i, ¬ (j = 8 ∧ i = a) → zsg H o j i = zsg K o j i) → Prc D (o : Int) S (a - 1) (fun i => zsg H o 8 i) cnt' → 0 ≤ cnt' → cnt' ≤ cnt + 1 → zlt1 (w32 (a + (-1))) fun (x4 : Int) => P cnt' x4 H := fun cnt' H fH hH hP' n0 n1 => by
      rw [zlt1_e, w32_eq (by omega) (by omega)]
      exact hPP _ _ _ ⟨by omega, by omega, fH, fun j i hj => by rw [hH j i (fun z => hj z.1), hK j i hj], by rw [show a + -1 = a - 1 by omega]; exact hP', n0, by omega⟩ (by omega)
    dsimp only [zjn]
    refine w4_needless hCl (fun hy => ?_) (fun hn => ?_)
    · have hnd := ndl.mpr hy
      refine zbr_i (fun z => absurd z (by omega)) (fun _ => ⟨⟨a00, by omega⟩, by omega, by omega, ?_⟩)
      obtain ⟨y, y1, y2, y3⟩ := cch 0 (by have := hy.2.1; omega)
      have hyl := lt y3
      rw [show 10 * a + (0 : Int) = 10 * a + ((0 : Nat) : Int) by omega, y1]
      refine zaL_i (by omega) (by omega) (zaS_i a00 (by omega) ?_)
      obtain ⟨f2, g2, gb⟩ := st1 G1 (zsg G1 o 8 y) f1 g1
      obtain ⟨R, _, _, _, p4, _, _⟩ := id hP
      obtain ⟨r, qr, r1, r2, r3, r4, r5⟩ := p4 y _ (by omega) y3
      have ec := (cnE_s hM hqN).1 hnd
      refine next cnt _ f2 g2 (hP.old a00 hq (r := r) (qr := qr) (by omega) r3 r4 (by rw [r5, ec]) (fun i hi => g2 8 i (fun z => hi z.2)) ?_) c0 (by omega)
      show zsg _ o 8 a = _
      rw [gb, g1 8 y (by omega)]; exact r2
    · have hnd : ¬ Ndl D (o : Int) q := fun z => hn (ndl.mp z)
      refine zbr_i (fun _ => ?_) (fun z => absurd rfl z)
      rw [zgF_e, g1 9 0 (by omega), hK 9 0 (by omega), hN.2.1, zlt1_e, w32_eq (x := (S.length : Int) - 1) (by omega) (by omega)]
      refine zl2_of (fun b H => a ≤ b ∧ b ≤ (S.length : Int) - 1 ∧ Fr [o] G H ∧ (∀ j i, ¬ (j = 8 ∧ i = a) → zsg H o j i = zsg K o j i) ∧ ((zsg H o 8 a = a ∧ ∀ (j : Nat) q', b < (j : Int) → S[j]? = some q' → cnE D (o : Int) q' ≠ cnE D (o : Int) q) ∨ (∃ (r : Nat) (qr : PT), a < (r : Int) ∧ zsg H o 8 a = (r : Int) ∧ S[r]? = some qr ∧ zsg K o 8 r = (r : Int) ∧ cnE D (o : Int) qr = cnE D (o : Int) q))) (fun b _ => (b - a).toNat) (fun P2 b H hI2 hPP2 => ?_) ⟨by omega, by omega, f1, g1, Or.inl ⟨ga, fun j q' hj hq' => by have := lt hq'; omega⟩⟩
      obtain ⟨b0, b1, fH, gH, hst⟩ := hI2
      have out : (b ≤ a ∨ zsg H o 8 a ≠ a) → zaL H o 8 500 a fun (x7 : Int) => zbr (x7 ≠ a) (zlt1 (w32 (cnt + 0)) fun (x8 : Int) => zlt1 (w32 (a + (-1))) fun (x4 : Int) => P x8 x4 H) (zlt1 (w32 (cnt + 1)) fun (x8 : Int) => zlt1 (w32 (a + (-1))) fun (x4 : Int) => P x8 x4 H) := fun hout => by
        refine zaL_i a00 (by omega) ?_
        refine zbr_i (fun hne => ?_) (fun he => ?_)
        · obtain ⟨r, qr, r1, r2, r3, r4, r5⟩ := hst.resolve_left (fun z => hne z.1)
          rw [zlt1_e, w32_eq (x := cnt + 0) (by omega) (by omega), Int.add_zero]
          exact next cnt H fH gH (hP.old a00 hq r1 r3 r4 r5 (fun i hi => gH 8 i (fun z => hi z.2)) r2) c0 (by omega)
        · have he := Decidable.of_not_not he
          have hno := hst.resolve_right (fun ⟨r, qr, r1, r2, _⟩ => by omega)
          have hba : b ≤ a := hout.resolve_right (fun z => z he)
          rw [zlt1_e, w32_eq (x := cnt + 1) (by omega) (by omega)]
          exact next (cnt + 1) H fH gH (hP.new a00 hq hnd (fun j q' hj hq' => hno.2 j q' (by omega) hq') (fun i hi => gH 8 i (fun z => hi z.2)) he) (by omega) (by omega)
      refine zbr_i (fun hb => out (Or.inl hb)) (fun hb => zaL_i a00 (by omega) ?_)
      refine zbr_i (fun hne => out (Or.inr hne)) (fun he => ?_)
      have he := Decidable.of_not_not he
      have hno := (hst.resolve_right (fun ⟨r, qr, r1, r2, _⟩ => by omega)).2
      have eb : ((b.toNat : Nat) : Int) = b := by omega
      obtain ⟨x, hx⟩ : ∃ x, S[b.toNat]? = some x := ⟨_, List.getElem?_eq_getElem (by omega)⟩
      have hxN := isn hx
      have hx1 := isN_1 hM hxN
      obtain ⟨R, _, _, _, p4, _, p6⟩ := id hP
      refine zaL_i (by omega) (by omega) ?_
      rw [gH 8 b (by omega)]
      have put : ∀ v, ((v = a ∧ cnE D (o : Int) x ≠ cnE D (o : Int) q) ∨ (v = b ∧ zsg K o 8 b = b ∧ cnE D (o : Int) x = cnE D (o : Int) q)) → zaS H o 8 500 a v fun (G2 : ZG) => zlt1 (w32 (b + (-1))) fun (x11 : Int) => P2 x11 G2 := fun v hv => by
        refine zaS_i a00 (by omega) ?_
        obtain ⟨f2, g2, gb⟩ := st1 H v fH gH
        rw [zlt1_e, w32_eq (by omega) (by omega)]
        refine hPP2 _ _ ⟨by omega, by omega, f2, g2, ?_⟩ (by omega)
        rcases hv with ⟨rfl, hne⟩ | ⟨rfl, hMb, hxe⟩
        · refine Or.inl ⟨gb, fun j q' hj hq' => ?_⟩
          by_cases hjb : (j : Int) = b
          · have : j = b.toNat := by omega
            subst this
            rw [hx] at hq'
            rw [← Option.some.inj hq']; exact hne
          · exact hno j q' (by omega) hq'
        · exact Or.inr ⟨v.toNat, x, by omega, by rw [gb]; omega, hx, by rw [eb]; exact hMb, hxe⟩
      refine zbr_i (fun hnb => put a (Or.inl ⟨rfl, fun hxe => ?_⟩)) (fun hbb => ?_)
      · obtain ⟨r, qr, r1, r2, r3, r4, r5⟩ := p4 b.toNat x (by omega) hx
        rw [eb] at r2
        have r2 : zsg K o 8 b = (r : Int) := r2
        have hrb : b < (r : Int) := by
          rcases Int.lt_or_eq_of_le (show b ≤ (r : Int) by omega) with z | z
          · exact z
          · exact absurd (by rw [r2, z]) hnb
        exact hno r qr hrb r3 (by rw [r5, hxe])
      · have hbb := Decidable.of_not_not hbb
        have hxn : ¬ Ndl D (o : Int) x := p6 b.toNat x (by omega) hx (by rw [eb]; exact hbb)
        obtain ⟨hClA, d3, d4, d5, dch⟩ := cl H gH a.toNat q hq
        obtain ⟨hClB, e3, e4, e5, ech⟩ := cl H gH b.toNat x hx
        rw [ea] at hClA d3 d4 d5 dch
        rw [eb] at hClB e3 e4 e5 ech
        have iff1 := cnE_iff hM hqN hxN hnd hxn
        refine w4_alike hClA hClB (fun h3 h4 h5 h7 hv => ?_) (fun hnot => ?_)
        · rw [d3, e3] at h3
          rw [d4, e4] at h4
          rw [d5, e5] at h5
          have hl : nl D (o : Int) q = nl D (o : Int) x := Prod.ext (ck_inj hq1 hx1 h3) (Prod.ext h5 (Prod.ext h4 h7))
          refine zbr_i (fun z => absurd z (by omega)) (fun _ => put b (Or.inr ⟨rfl, hbb, (iff1.mpr ⟨hl, fun k hk => ?_⟩).symm⟩))
          obtain ⟨y, y1, y2, y3⟩ := dch k hk
          obtain ⟨w, w1, w2, w3⟩ := ech k (by rw [← hl]; exact hk)
          have := hv k hk
          rw [y1, w1] at this
          exact (veq H gH y w _ _ (by omega) (by omega) y3 w3).mp this
        · refine zbr_i (fun _ => put a (Or.inl ⟨rfl, fun hxe => hnot ?_⟩)) (fun z => absurd rfl z)
          obtain ⟨hl, hk⟩ := iff1.mp hxe.symm
          refine ⟨by rw [d3, e3, hl], by rw [d4, e4, hl], by rw [d5, e5, hl], by rw [hl], fun k hkk => ?_⟩
          obtain ⟨y, y1, y2, y3⟩ := dch k hkk
          obtain ⟨w, w1, w2, w3⟩ := ech k (by rw [← hl]; exact hkk)
          rw [y1, w1]
          exact (veq H gH y w _ _ (by omega) (by omega) y3 w3).mpr (hk k hkk)
