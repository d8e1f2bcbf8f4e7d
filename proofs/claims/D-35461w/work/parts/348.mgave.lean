/-! REFERENCE: what a view gives in a run -/
set_option maxRecDepth 100000
/-- the views that the reference ran -/
def Rr (G : ZG) (s : RS) : Prop := zsg G 5 48 0 = (s.2.length : Int) ∧ (∀ (k : Nat) x, s.2[k]? = some x → zsg G 5 49 k = x.1 ∧ zsg G 5 50 k = x.2.1 ∧ zsg G 5 51 k = x.2.2) ∧ RI s
theorem nd_inj {α : Type} : ∀ (l : List α), l.Nodup → ∀ (i j : Nat) (x : α), l[i]? = some x → l[j]? = some x → i = j
  | [], _, i, j, x, h, _ => by simp at h
  | y :: l, hn, 0, 0, x, _, _ => rfl
  | y :: l, hn, 0, j + 1, x, h1, h2 => by
    simp only [List.getElem?_cons_zero, Option.some.injEq, List.getElem?_cons_succ] at h1 h2
    subst h1
    exact absurd (List.mem_iff_getElem?.mpr ⟨j, h2⟩) (List.nodup_cons.mp hn).1
  | y :: l, hn, i + 1, 0, x, h1, h2 => by
    simp only [List.getElem?_cons_zero, Option.some.injEq, List.getElem?_cons_succ] at h1 h2
    subst h2
    exact absurd (List.mem_iff_getElem?.mpr ⟨i, h1⟩) (List.nodup_cons.mp hn).1
  | y :: l, hn, i + 1, j + 1, x, h1, h2 => by
    simp only [List.getElem?_cons_succ] at h1 h2
    rw [nd_inj l (List.nodup_cons.mp hn).2 i j x h1 h2]
theorem RI_inj {s : RS} (h : RI s) {i j : Nat} {x y : Int × Int × Int} (hx : s.2[i]? = some x) (hy : s.2[j]? = some y) (e1 : x.1 = y.1) (e2 : x.2.1 = y.2.1) : i = j := by
  refine nd_inj _ h.1 i j (x.1, x.2.1) ?_ ?_
  · rw [List.getElem?_map, hx]; rfl
  · rw [List.getElem?_map, hy, e1, e2]; rfl
theorem w6_gave {G : ZG} {D : ZD} {g : Int → Int} {s : RS} {d : Nat} {v p k : Int} {Q : Int → ZG → Prop} (hM : MI D) (hg : GV D g) (hd3 : d ≤ 3) (h : tp D g d p k) (hv : 0 ≤ v ∧ v ≤ 2) (hK : ∀ j, 1 ≤ j → j ≤ 29 → zsg G 5 j = D j) (hgv : ∀ i, 0 ≤ i → i < D 21 0 → zsg G 5 46 i = g i) (h40 : zsg G 5 40 0 ≠ 0) (hR : Rr G s)
    (hQ : ∀ G', Mo G G' → (∀ j, j ≠ 45 → (j < 48 ∨ 51 < j) → zsg G' 5 j = zsg G 5 j) → Rr G' (rV D g v p s).2 → Q (rV D g v p s).1 G') : vX6_gave v p G Q := by
  obtain ⟨r1, r2, r3⟩ := id hR
  have hlen := r3.len
  have hp := pl_apl hd3 (tp_vl hM hg d p k (by omega) h).2.1
  have hRI := rV_RI (D := D) (g := g) hM r3 hv hp
  unfold vX6_gave
  rw [zgF_e, zbr_pos h40]
  refine zl2_of (fun (fd a : Int) => 0 ≤ a ∧ a ≤ (s.2.length : Int) ∧ ((fd = -9 ∧ ∀ (j : Nat), (j : Int) < a → ∀ y, s.2[j]? = some y → ¬ (y.1 = v ∧ y.2.1 = p)) ∨ (∃ (j : Nat) (y : Int × Int × Int), (j : Int) < a ∧ s.2[j]? = some y ∧ (y.1 = v ∧ y.2.1 = p) ∧ fd = y.2.2))) (fun (_ a : Int) => ((s.2.length : Int) - a).toNat) (fun P fd a hI hPP => ?_) ⟨by omega, by omega, Or.inl ⟨rfl, fun j hj => by omega⟩⟩
  obtain ⟨a0, a1, hf⟩ := hI
  rw [zgF_e, r1]
  dsimp only [zjn]
  refine zbr_i (fun ha => ?_) (fun ha => ?_)
  · rcases hf with ⟨rfl, hno⟩ | ⟨j, y, j1, hy, hm, rfl⟩
    · rw [zbr_neg (by omega)]
      have hf : fnd s.2 v p = none := fnd_no (fun j y hy => hno j (by have := (List.getElem?_eq_some_iff.mp hy).1; omega) y hy)
      have e1 : rV D g v p s = (gv D g v p s.2.length, (s.1, s.2 ++ [(v, p, gv D g v p s.2.length)])) := by unfold rV; rw [hf]
      rw [e1] at hQ hRI
      have hmr := hd_r hM hg (by omega) h
      have hb := inR_gv hM hv ⟨hmr.2.2.1, hmr.2.2.2.1⟩ (n := s.2.length) ⟨by omega, by omega⟩
      obtain ⟨w1, w2, w3, w4⟩ := hM.2.2.2.1 v hv.1 (by omega)
      rw [w32_eq (x := 4 * v) (by omega) (by omega), w32_eq (x := 4 * v + 3) (by omega) (by omega), w32_eq (x := 4 * v + 1) (by omega) (by omega), w32_eq (x := 4 * v + 2) (by omega) (by omega)]
      refine zaL_i (by omega) (by omega) ?_
      refine zaL_i (by omega) (by omega) ?_
      refine w6_measure hM hg hd3 h hK hgv (fun K mo hKK => ?_)
      have e20 : zsg K 5 20 = D 20 := by rw [hKK 20 (by omega), hK 20 (by omega) (by omega)]
      have e48 : zsg K 5 48 0 = (s.2.length : Int) := by rw [hKK 48 (by omega), r1]
      refine zaL_i (by omega) (by omega) ?_
      rw [zgF_e]
      refine zaL_i (by omega) (by omega) ?_
      rw [hK 20 (by omega) (by omega), e20, e48, zlt1_e]
      rw [w32_eq (x := D 20 (4 * v) * ms D g p) (by omega) (by omega), w32_eq (x := D 20 (4 * v + 1) * (s.2.length : Int)) (by omega) (by omega), w32_eq (x := D 20 (4 * v) * ms D g p + D 20 (4 * v + 1) * (s.2.length : Int)) (by omega) (by omega), w32_eq (x := D 20 (4 * v) * ms D g p + D 20 (4 * v + 1) * (s.2.length : Int) + D 20 (4 * v + 2)) (by omega) (by omega)]
      refine ⟨by unfold zn0; omega, by unfold zn0; omega, ?_⟩
      rw [zlt1_e, dRem_mod (by unfold inR; omega) (by omega) (by omega)]
      rw [zgF_e, e48]
      refine zaS_i (by omega) (by omega) ?_
      rw [zgF_e, z5_ne (by omega), e48]
      refine zaS_i (by omega) (by omega) ?_
      rw [zgF_e, z5_ne (by omega), z5_ne (by omega), e48]
      refine zaS_i (by omega) (by omega) ?_
      rw [zgF_e, z5_ne (by omega), z5_ne (by omega), z5_ne (by omega), e48, zpF_e, w32_eq (x := (s.2.length : Int) + 1) (by omega) (by omega)]
      refine hQ _ ((((mo.ss _ _ _).ss _ _ _).ss _ _ _).ss _ _ _) (fun j j1 j2 => by rw [z5_ne (by omega), z5_ne (by omega), z5_ne (by omega), z5_ne (by omega), hKK j j1]) ⟨?_, fun k x hx => ?_, hRI.1⟩
      · rw [zsg_ss, if_pos ⟨rfl, rfl, rfl⟩, List.length_append]; simp
      · by_cases hk : k < s.2.length
        · rw [List.getElem?_append_left hk] at hx
          have := r2 k x hx
          rw [zsg_ss, zsg_ss, zsg_ss, zsg_ss, zsg_ss, zsg_ss, zsg_ss, zsg_ss, zsg_ss, zsg_ss, zsg_ss, zsg_ss]
          rw [if_neg (by omega), if_neg (by omega), if_neg (by omega), if_neg (by omega), if_neg (by omega), if_neg (by omega), if_neg (by omega), if_neg (by omega), if_neg (by omega), if_neg (by omega), if_neg (by omega), if_neg (by omega)]
          rw [hKK 49 (by omega), hKK 50 (by omega), hKK 51 (by omega)]
          exact this
        · have hk2 : k = s.2.length := by
            have := (List.getElem?_eq_some_iff.mp hx).1
            rw [List.length_append, List.length_singleton] at this
            omega
          subst hk2
          rw [List.getElem?_append_right (Nat.le_refl _), Nat.sub_self] at hx
          simp only [List.getElem?_cons_zero, Option.some.injEq] at hx
          subst hx
          refine ⟨?_, ?_, ?_⟩
          · rw [zsg_ss, zsg_ss, zsg_ss, zsg_ss, if_neg (by omega), if_neg (by omega), if_neg (by omega), if_pos ⟨rfl, rfl, rfl⟩]
          · rw [zsg_ss, zsg_ss, zsg_ss, if_neg (by omega), if_neg (by omega), if_pos ⟨rfl, rfl, rfl⟩]
          · rw [zsg_ss, zsg_ss, if_neg (by omega), if_pos ⟨rfl, rfl, rfl⟩]; rfl
    · have hyr := (r3.2 y (List.mem_of_getElem? hy)).2.2
      rw [zbr_pos (by omega)]
      have hf := fnd_at s.2 j v p y hy hm (fun i hi z hz hzm => by
        have := RI_inj r3 hz hy (by rw [hzm.1, hm.1]) (by rw [hzm.2, hm.2])
        omega)
      have e1 : rV D g v p s = (y.2.2, s) := by unfold rV; rw [hf]
      rw [e1] at hQ
      exact hQ G (Mo.refl G) (fun _ _ _ => rfl) hR
  · obtain ⟨y, hy⟩ : ∃ y, s.2[a.toNat]? = some y := ⟨_, List.getElem?_eq_getElem (by omega)⟩
    have ea : ((a.toNat : Nat) : Int) = a := by omega
    have q := r2 _ y hy
    rw [ea] at q
    have step : ¬ (y.1 = v ∧ y.2.1 = p) → zlt1 (w32 (a + 1)) fun x16 => P fd x16 := fun hn => by
      rw [zlt1_e, w32_eq (by omega) (by omega)]
      refine hPP _ _ ⟨by omega, by omega, ?_⟩ (by omega)
      rcases hf with ⟨e, hno⟩ | ⟨j, z, j1, hz, hm, e⟩
      · refine Or.inl ⟨e, fun j hj z hz => ?_⟩
        by_cases hja : (j : Int) = a
        · have : j = a.toNat := by omega
          subst this
          rw [hy] at hz; cases hz; exact hn
        · exact hno j (by omega) z hz
      · exact Or.inr ⟨j, z, by omega, hz, hm, e⟩
    refine zaL_i a0 (by omega) ?_
    rw [q.1]
    refine zbr_i (fun h1 => step (fun z => h1 z.1)) (fun h1 => ?_)
    refine zaL_i a0 (by omega) ?_
    rw [q.2.1]
    refine zbr_i (fun h2 => step (fun z => h2 z.2)) (fun h2 => ?_)
    refine zaL_i a0 (by omega) ?_
    rw [q.2.2, zlt1_e, w32_eq (by omega) (by omega)]
    exact hPP _ _ ⟨by omega, by omega, Or.inr ⟨a.toNat, y, by omega, hy, ⟨Decidable.of_not_not h1, Decidable.of_not_not h2⟩, rfl⟩⟩ (by omega)
