/-! COMPONENT: what a view gives -/
set_option maxRecDepth 100000
theorem inR_gv {D : ZD} (hM : MI D) {v : Int} (hv : 0 ≤ v ∧ v ≤ 2) {m n : Int} (hm : 0 ≤ m ∧ m ≤ 96) (hn : 0 ≤ n ∧ n ≤ 360) :
    (-900 ≤ D 20 (4 * v) * m ∧ D 20 (4 * v) * m ≤ 900) ∧ (-3300 ≤ D 20 (4 * v + 1) * n ∧ D 20 (4 * v + 1) * n ≤ 3300) := by
  obtain ⟨h1, h2, h3, h4⟩ := hM.2.2.2.1 v hv.1 (by omega)
  have bd : ∀ a m c : Int, -9 ≤ a → a ≤ 9 → 0 ≤ m → m ≤ c → -(9 * c) ≤ a * m ∧ a * m ≤ 9 * c := fun a m c a0 a1 m0 m1 => by
    have := Int.mul_le_mul_of_nonneg_right a1 m0
    have := Int.mul_le_mul_of_nonneg_right a0 m0
    omega
  have := bd _ m 96 h1.1 h1.2 hm.1 hm.2
  have := bd _ n 360 h2.1 h2.2 hn.1 hn.2
  omega
theorem w1_seen {G0 G : ZG} {D : ZD} {g : Int → Int} {b : Bool} {s : RS} {bd : Int → Int} {d : Nat} {v p k : Int} {Q : Int → ZG → Prop} (hM : MI D) (hg : GV D g) (hC : CIv G0 D) (hW : CIw G0 D) (hR : Ru D g b G0 G s bd) (hd3 : d ≤ 3) (h : tp D g d p k) (hv : 0 ≤ v ∧ v ≤ 2)
    (hQ : ∀ G', Ru D g b G0 G' (rV D g v p s).2 bd → Q (rV D g v p s).1 G') : vX3_seen v p G Q := by
  have hlen := hR.2.2.2.2.2.2.2.1.len
  have hp := pl_apl hd3 (tp_vl hM hg d p k (by omega) h).2.1
  have hRI := rV_RI (D := D) (g := g) hM hR.2.2.2.2.2.2.2.1 hv hp
  obtain ⟨r1, r2, r3, r4, r5, r6, r7, r8, r9⟩ := id hR
  unfold vX3_seen
  refine zl1_of (fun (a : Int) => 0 ≤ a ∧ a ≤ (s.2.length : Int) ∧ ∀ (j : Nat), (j : Int) < a → ∀ y, s.2[j]? = some y → ¬ (y.1 = v ∧ y.2.1 = p)) (fun (a : Int) => ((s.2.length : Int) - a).toNat) (fun P a hI hPP => ?_) ⟨by omega, by omega, fun j hj => by omega⟩
  obtain ⟨a0, a1, hno⟩ := hI
  rw [zgF_e, r3]
  refine zbr_i (fun ha => ?_) (fun ha => ?_)
  · have hf : fnd s.2 v p = none := fnd_no (fun j y hy => hno j (by have := (List.getElem?_eq_some_iff.mp hy).1; omega) y hy)
    have e1 : rV D g v p s = (gv D g v p s.2.length, (s.1, s.2 ++ [(v, p, gv D g v p s.2.length)])) := by unfold rV; rw [hf]
    rw [e1] at hQ hRI
    obtain ⟨ra, rz, rH⟩ := hW v.toNat (by omega)
    rw [show ((v.toNat : Nat) : Int) = v by omega] at rz rH
    have hmr := hd_r hM hg (by omega) h
    have hb := inR_gv hM hv ⟨hmr.2.2.1, hmr.2.2.2.1⟩ (n := s.2.length) ⟨by omega, by omega⟩
    obtain ⟨w1, w2, w3, w4⟩ := hM.2.2.2.1 v hv.1 (by omega)
    refine ⟨hv.1, by omega, ?_⟩
    rw [r1.r (by simp) 3 v, rz]
    dsimp only
    have e6 : ∀ (K : ZG) (j : Nat) (i x : Int), j ≠ 6 → zsg (zss K 1 j i x) 1 6 0 = zsg K 1 6 0 := fun K j i x hj => by rw [zsg_ss, if_neg (by omega)]
    rw [zgF_e, r3]
    refine zaS_i (by omega) (by omega) ?_
    rw [zgF_e, e6 _ _ _ _ (by omega), r3]
    refine zaS_i (by omega) (by omega) ?_
    rw [zgF_e, e6 _ _ _ _ (by omega), e6 _ _ _ _ (by omega), r3]
    have f2 : Fr [1] G0 (zss (zss G 1 3 (s.2.length) v) 1 4 (s.2.length) p) := (r1.ss 3 _ v (by simp) (by omega)).ss 4 _ p (by simp) (by omega)
    have rH2 := (f2.hk rH).1
    refine zeI_i rH2 (by omega) rfl ?_
    refine w1_measure hM hg (hC.fr f2 (by simp) (fun _ _ => rfl)) (fun i i0 i1 => by rw [zsg_ss, zsg_ss, if_neg (by omega), if_neg (by omega)]; exact r2 i i0 i1) hd3 h ?_
    refine zeI_i rH2 (by omega) rfl ?_
    rw [zgF_e, e6 _ _ _ _ (by omega), e6 _ _ _ _ (by omega), r3]
    refine zeI_i rH2 (by omega) rfl ?_
    refine zeI_i rH2 (by omega) rfl ?_
    rw [w32_eq (x := D 20 (4 * v) * ms D g p) (by omega) (by omega), w32_eq (x := D 20 (4 * v + 1) * (s.2.length : Int)) (by omega) (by omega), w32_eq (x := D 20 (4 * v) * ms D g p + D 20 (4 * v + 1) * (s.2.length : Int)) (by omega) (by omega), w32_eq (by omega) (by omega), eJ4_floorMod _ _ _ (by unfold inR; omega) (by omega) (by omega)]
    refine zaS_i (by omega) (by omega) ?_
    rw [zgF_e, e6 _ _ _ _ (by omega), e6 _ _ _ _ (by omega), e6 _ _ _ _ (by omega), r3, zpF_e, zgF_e, zsg_ss, if_pos ⟨rfl, rfl, rfl⟩, w32_eq (x := (s.2.length : Int) + 1) (by omega) (by omega), w32_eq (by omega) (by omega), show (s.2.length : Int) + 1 - 1 = s.2.length by omega]
    refine zaL_i (by omega) (by omega) ?_
    rw [zsg_ss, if_neg (by omega), zsg_ss, if_pos ⟨rfl, rfl, rfl⟩]
    refine hQ _ ⟨(f2.ss _ _ _ (by simp) (by omega)).ss _ _ _ (by simp) (by omega), fun i i0 i1 => ?_, ?_, ?_, ?_, fun k x hx => ?_, fun i i0 i1 => ?_, hRI.1, r9⟩
    · rw [zsg_ss, zsg_ss, zsg_ss, zsg_ss, if_neg (by omega), if_neg (by omega), if_neg (by omega), if_neg (by omega)]; exact r2 i i0 i1
    · rw [zsg_ss, if_pos ⟨rfl, rfl, rfl⟩, List.length_append]; simp
    · rw [zsg_ss, zsg_ss, zsg_ss, zsg_ss, if_neg (by omega), if_neg (by omega), if_neg (by omega), if_neg (by omega)]; exact r4
    · rw [zsg_ss, zsg_ss, zsg_ss, zsg_ss, if_neg (by omega), if_neg (by omega), if_neg (by omega), if_neg (by omega)]; exact r5
    · by_cases hk : k < s.2.length
      · rw [List.getElem?_append_left hk] at hx
        have := r6 k x hx
        have e : ∀ j, zsg (zss (zss (zss (zss G 1 3 (s.2.length) v) 1 4 (s.2.length) p) 1 5 (s.2.length) (gv D g v p s.2.length)) 1 6 0 (s.2.length + 1)) 1 j k = zsg G 1 j k ∨ j = 6 := fun j => by
          by_cases h6 : j = 6
          · exact Or.inr h6
          · left; rw [zsg_ss, zsg_ss, zsg_ss, zsg_ss, if_neg (by omega), if_neg (by omega), if_neg (by omega), if_neg (by omega)]
        have q3 := (e 3).resolve_right (by omega)
        have q4 := (e 4).resolve_right (by omega)
        have q5 := (e 5).resolve_right (by omega)
        unfold gv at q3 q4 q5
        rw [q3, q4, q5]; exact this
      · have hk2 : k = s.2.length := by
          have := (List.getElem?_eq_some_iff.mp hx).1
          rw [List.length_append, List.length_singleton] at this
          omega
        subst hk2
        rw [List.getElem?_append_right (Nat.le_refl _), Nat.sub_self] at hx
        simp only [List.getElem?_cons_zero, Option.some.injEq] at hx
        subst hx
        refine ⟨?_, ?_, ?_⟩
        · rw [zsg_ss, zsg_ss, zsg_ss, zsg_ss, if_neg (by omega), if_neg (by omega), if_neg (by omega), if_pos ⟨rfl, rfl, rfl⟩]
        · rw [zsg_ss, zsg_ss, zsg_ss, if_neg (by omega), if_neg (by omega), if_pos ⟨rfl, rfl, rfl⟩]
        · rw [zsg_ss, zsg_ss, if_neg (by omega), if_pos ⟨rfl, rfl, rfl⟩]; rfl
    · rw [zsg_ss, zsg_ss, zsg_ss, zsg_ss, if_neg (by omega), if_neg (by omega), if_neg (by omega), if_neg (by omega)]; exact r7 i i0 i1
  · obtain ⟨y, hy⟩ : ∃ y, s.2[a.toNat]? = some y := ⟨_, List.getElem?_eq_getElem (by omega)⟩
    have ea : ((a.toNat : Nat) : Int) = a := by omega
    have q := r6 _ y hy
    rw [ea] at q
    have step : ¬ (y.1 = v ∧ y.2.1 = p) → zlt1 (w32 (a + 1)) fun x17 => P x17 := fun hn => by
      rw [zlt1_e, w32_eq (by omega) (by omega)]
      refine hPP _ ⟨by omega, by omega, fun j hj z hz => ?_⟩ (by omega)
      by_cases hja : (j : Int) = a
      · have : j = a.toNat := by omega
        subst this
        rw [hy] at hz; cases hz; exact hn
      · exact hno j (by omega) z hz
    refine zaL_i a0 (by omega) ?_
    rw [q.1]
    dsimp only [zjn]
    refine zbr_i (fun h1 => step (fun z => h1 z.1)) (fun h1 => ?_)
    refine zaL_i a0 (by omega) ?_
    rw [q.2.1]
    refine zbr_i (fun h2 => step (fun z => h2 z.2)) (fun h2 => ?_)
    refine zaL_i a0 (by omega) ?_
    rw [q.2.2]
    have hf := fnd_at s.2 a.toNat v p y hy ⟨Decidable.of_not_not h1, Decidable.of_not_not h2⟩ (fun j hj z hz => hno j (by omega) z hz)
    have e1 : rV D g v p s = (y.2.2, s) := by unfold rV; rw [hf]
    rw [e1] at hQ
    exact hQ G hR
