/-! NAMES ARE BOUND TO PLACES OF THINGS, in plain terms -/
set_option maxRecDepth 100000
theorem tp_mk {D : ZD} {g : Int → Int} {d : Nat} {n p k i : Int} (hM : MI D) (hg : GV D g) (h0 : 0 ≤ n) (h1 : n < D 9 0) (e3 : D 10 n = 3) (hd3 : d ≤ 3) (hp : tp D g d p k) (hf : fitk D n k) (he : hd D g p = D 11 n % 4) (i0 : 0 ≤ i) (i1 : i < D 2 (D 11 n)) :
    tp D g (d + 1) (5 * p + 0 + i + 1) (D 3 (3 * D 11 n + i)) := by
  have c3 := (hM.2.2.1.2.2 n h0 h1).2.2.2.2.2.2.2.2.2.2.2.2.2.2.1 e3
  have hk : k = D 11 n / 4 := by unfold fitk at hf; omega
  have hv : 0 ≤ vl D g 8 p ∧ D 5 (vl D g 8 p) = k := by
    rcases (tp_vl hM hg d p k (by omega) hp).1 with ⟨z, _, _⟩ | z
    · omega
    · exact ⟨z.1, z.2.2⟩
  have hhd : hd D g p = D 6 (vl D g 8 p) := by unfold hd; rw [if_neg (by omega)]
  have e44 : 4 * (D 11 n / 4) + D 11 n % 4 = D 11 n := by omega
  refine ⟨p, i, k, by omega, i0, ?_, hp, by omega, ?_⟩
  · unfold vn
    rw [hv.2, if_neg (by omega), if_neg (by omega), ← hhd, he, hk, e44]; exact i1
  · rw [if_neg (by omega), ← hhd, he, hk, e44]
theorem begl_r {D : ZD} {n x : Int} (hf : fitl D n x = true) (_h : 0 ≤ D 11 n) : 0 ≤ begl D n x ∧ begl D n x + D 11 n ≤ x := by
  have hfit2 : D 11 n ≤ x := by
    unfold fitl at hf
    by_cases hz : D 12 n = 0
    · rw [if_pos hz] at hf; have := of_decide_eq_true hf; omega
    · rw [if_neg hz] at hf; exact of_decide_eq_true hf
  unfold begl
  by_cases hz : D 12 n = 2
  · rw [if_pos hz]; omega
  · rw [if_neg hz]; omega
theorem tp_ls {D : ZD} {g : Int → Int} {d : Nat} {n p k i : Int} (hM : MI D) (hg : GV D g) (h0 : 0 ≤ n) (h1 : n < D 9 0) (e6 : D 10 n = 6) (hd3 : d ≤ 3) (hp : tp D g d p k) (hf : fitk D n k) (hfit : fitl D n (hd D g p) = true) (i0 : 0 ≤ i) (i1 : i < D 11 n) :
    tp D g (d + 1) (5 * p + begl D n (hd D g p) + i + 1) 4 := by
  have c6 := (hM.2.2.1.2.2 n h0 h1).2.2.2.2.2.2.2.2.2.2.2.2.2.2.2.2.2 e6
  have hk : k = 5 := by unfold fitk at hf; omega
  have hv : 0 ≤ vl D g 8 p ∧ D 5 (vl D g 8 p) = k := by
    rcases (tp_vl hM hg d p k (by omega) hp).1 with ⟨z, _, _⟩ | z
    · omega
    · exact ⟨z.1, z.2.2⟩
  have hhd : hd D g p = D 6 (vl D g 8 p) := by unfold hd; rw [if_neg (by omega)]
  have hb := begl_r hfit c6.1
  refine ⟨p, begl D n (hd D g p) + i, k, by omega, by omega, ?_, hp, by omega, ?_⟩
  · unfold vn
    rw [hv.2, if_neg (by omega), if_pos hk, ← hhd]; omega
  · rw [if_pos hk]
/-- a name's place is the place of a thing -/
def tpx (D : ZD) (g bd : Int → Int) (x : Int) : Prop := ∃ d k, d ≤ 3 ∧ tp D g d (bd x) k
theorem al_b {D : ZD} {g : Int → Int} {σ : Type} {x : Int} {M : Int → Int → σ × (Int → Int) → Int × (σ × (Int → Int))} : ∀ (L : List (Int × Int)), (∀ c ∈ L, ∀ t, (tpx D g t.2 x → tpx D g (M c.1 c.2 t).2.2 x) ∧ ((M c.1 c.2 t).1 = 1 → hs (D 17 c.1) x = true → tpx D g (M c.1 c.2 t).2.2 x)) →
    ∀ t, (tpx D g t.2 x → tpx D g (al M L t).2.2 x) ∧ ((al M L t).1 = 1 → ∀ c ∈ L, hs (D 17 c.1) x = true → tpx D g (al M L t).2.2 x)
  | [], _, t => ⟨fun h => h, fun _ c hc => by cases hc⟩
  | c :: L, h, t => by
    have hc := h c List.mem_cons_self t
    have ih := al_b L (fun c' hc' => h c' (List.mem_cons_of_mem _ hc')) (M c.1 c.2 t).2
    rw [al_s]
    by_cases h1 : (M c.1 c.2 t).1 = 1
    · rw [if_pos h1]
      refine ⟨fun q => ih.1 (hc.1 q), fun q c' hc' hh => ?_⟩
      rcases List.mem_cons.mp hc' with rfl | hc'
      · exact ih.1 (hc.2 h1 hh)
      · exact ih.2 q c' hc' hh
    · rw [if_neg h1]
      exact ⟨hc.1, fun q => absurd q h1⟩
theorem hs_ch {D : ZD} {n x : Int} (hpw : PW D n) (x0 : 0 ≤ x) (x5 : x ≤ 5) (h : hs (D 17 n) x = true) : (D 10 n = 1 ∧ D 11 n = x) ∨ ∃ i, 0 ≤ i ∧ i < 3 ∧ prt D n i ≠ -1 ∧ hs (D 17 (prt D n i)) x = true := by
  rw [hpw.2.2.2.2.2.2.2.2.2.2.1 x x0 (by omega), Bool.or_eq_true] at h
  rcases h with h | h
  · rw [Bool.and_eq_true] at h
    exact Or.inl ⟨of_decide_eq_true h.1, of_decide_eq_true h.2⟩
  · obtain ⟨q, hq, hh⟩ := List.any_eq_true.mp h
    obtain ⟨i, i0, i1, e, hn⟩ := chl_mem hq
    subst e
    exact Or.inr ⟨i, i0, i1, hn, hh⟩
theorem prow_mem {m p j : Int} {pr : Int → Int} {c : Int × Int} (h : c ∈ prow m p j pr) : ∃ i, 0 ≤ i ∧ i < m ∧ c = (pr i, 5 * p + j + i + 1) := by
  unfold prow at h
  obtain ⟨i, hi, rfl⟩ := List.mem_map.mp h
  have := List.mem_range.mp hi
  exact ⟨i, by omega, by omega, rfl⟩
theorem prow_in {m p j i : Int} {pr : Int → Int} (i0 : 0 ≤ i) (i1 : i < m) : (pr i, 5 * p + j + i + 1) ∈ prow m p j pr := by
  unfold prow
  refine List.mem_map.mpr ⟨i.toNat, List.mem_range.mpr (by omega), ?_⟩
  show (pr ((i.toNat : Nat) : Int), 5 * p + j + ((i.toNat : Nat) : Int) + 1) = _
  rw [show ((i.toNat : Nat) : Int) = i by omega]
theorem mt_b {D : ZD} {g : Int → Int} {b : Bool} (hM : MI D) (hg : GV D g) : ∀ (f : Nat) (n p k : Int) (d : Nat) (t : RS × (Int → Int)) (x : Int), 0 ≤ n → n < D 9 0 → D 16 n ≤ f → tp D g d p k → fitk D n k → (d : Int) + D 15 n ≤ 4 → 0 ≤ x → x ≤ 5 →
    (tpx D g t.2 x → tpx D g (mt D (rA D g b) (rV D g) (tick b) f n p t).2.2 x) ∧ ((mt D (rA D g b) (rV D g) (tick b) f n p t).1 = 1 → hs (D 17 n) x = true → tpx D g (mt D (rA D g b) (rV D g) (tick b) f n p t).2.2 x) := by
  intro f
  induction f with
  | zero =>
    intro n p k d t x h0 h1 hsz
    have := (hM.2.2.1.2.2 n h0 h1).2.2.2.1
    omega
  | succ f ih =>
    intro n p k d t x h0 h1 hsz hp hf hdp x0 x5
    have hpw := hM.2.2.1.2.2 n h0 h1
    have m15 := hpw.2.2.1
    have hd3 : d ≤ 3 := by omega
    have hch := hs_ch (x := x) hpw x0 x5
    have hh := hd_r hM hg (show d ≤ 7 by omega) hp
    obtain ⟨hform, -, -, -, -, -, -, -, -, -, -, f0, f1, f2, f3, f4, f5, f6⟩ := id hpw
    rw [mt_s]
    by_cases e1 : D 10 n = 1
    · rw [if_pos e1]
      have c1 := f1 e1
      have q0 := pch hM.2.2.1 h0 h1 (k := 0) (by omega) (by omega) (by omega)
      have h := ih (prt D n 0) p k d t x q0.1 q0.2.1 (by omega) hp (by unfold fitk at hf ⊢; rw [← c1.2.2.2.2.2.1]; exact hf) (by omega) x0 x5
      generalize mt D (rA D g b) (rV D g) (tick b) f (prt D n 0) p t = T at h
      by_cases hT : T.1 = 1
      · rw [if_pos hT]
        unfold tpx at h ⊢
        dsimp only
        by_cases hx : x = D 11 n
        · rw [if_pos hx]; exact ⟨fun _ => ⟨d, k, hd3, hp⟩, fun _ _ => ⟨d, k, hd3, hp⟩⟩
        · rw [if_neg hx]
          refine ⟨h.1, fun _ q => h.2 hT ?_⟩
          rcases hch q with z | ⟨i, i0, i3, hn, hq⟩
          · exact absurd z.2.symm hx
          · have : i = 0 := by
              rcases (show i = 0 ∨ i = 1 ∨ i = 2 by omega) with e | e | e
              · exact e
              · subst e; exact absurd c1.2.2.2.1 hn
              · subst e; exact absurd c1.2.2.2.2.1 hn
            subst this; exact hq
      · rw [if_neg hT]
        exact ⟨h.1, fun q => absurd q hT⟩
    rw [if_neg e1]
    by_cases e2 : D 10 n = 2
    · rw [if_pos e2]
      refine ⟨fun q => q, fun _ q => ?_⟩
      rcases hch q with z | ⟨i, i0, i3, hn, hq⟩
      · exact absurd z.1 e1
      · exact absurd (chl_nil (f2 e2).2.2.2.2.1 i0 i3) hn
    rw [if_neg e2]
    by_cases e3 : D 10 n = 3
    · rw [if_pos e3]
      have c3 := f3 e3
      have e44 : 4 * (D 11 n / 4) + D 11 n % 4 = D 11 n := by omega
      have m2 := (hM.1 (D 11 n / 4) (by omega) (by omega)).2.2 (D 11 n % 4) (by omega) c3.2.2.1
      rw [e44] at m2
      have hck := c3.2.2.2.2.2
      have hx : (rA D g b p (D 11 n / 4) t.1).1 = hd D g p := rfl
      rw [hx, if_neg (by omega), chs_mk m2.1 m2.2.1 (fun i i0 i1 => ((hck i i0 (by omega)).1 i1).1) (fun i i0 i1 => (hck i (by omega) i1).2 i0)]
      by_cases he : hd D g p = D 11 n % 4
      · rw [if_pos he]
        have := al_b (D := D) (g := g) (x := x) (M := mt D (rA D g b) (rV D g) (tick b) f) (prow (D 2 (D 11 n)) p 0 (prt D n)) (fun c hc t => by
          obtain ⟨i, i0, i1, rfl⟩ := prow_mem hc
          have hci := (hck i i0 (by omega)).1 i1
          have qi := pch hM.2.2.1 h0 h1 (k := i) i0 (by omega) (by omega)
          exact ih (prt D n i) _ _ (d + 1) t x qi.1 qi.2.1 (by omega) (tp_mk hM hg h0 h1 e3 hd3 hp hf he i0 i1) hci.2.1 (by omega) x0 x5) ((rA D g b p (D 11 n / 4) t.1).2, t.2)
        refine ⟨this.1, fun q1 q2 => ?_⟩
        rcases hch q2 with z | ⟨i, i0, i3, hn, hq⟩
        · exact absurd z.1 e1
        · have i1 : i < D 2 (D 11 n) := Decidable.byContradiction fun z => hn ((hck i i0 i3).2 (by omega))
          exact this.2 q1 _ (prow_in i0 i1) hq
      · rw [if_neg he]
        exact ⟨fun q => q, fun q => by cases q⟩
    rw [if_neg e3]
    by_cases e4 : D 10 n = 4
    · rw [if_pos e4]
      have c4 := f4 e4
      have q0 := pch hM.2.2.1 h0 h1 (k := 0) (by omega) (by omega) (by omega)
      have q1 := pch hM.2.2.1 h0 h1 (k := 1) (by omega) (by omega) (by omega)
      have ff := c4.2.2.2.2.2.1 k hf
      have h := ih (prt D n 0) p k d t x q0.1 q0.2.1 (by omega) hp ff.1 (by omega) x0 x5
      rw [c4.2.2.2.1] at h
      generalize mt D (rA D g b) (rV D g) (tick b) f (prt D n 0) p t = T at h
      by_cases hT : T.1 = 0
      · rw [if_pos hT]
        have h2 := ih (prt D n 1) p k d T.2 x q1.1 q1.2.1 (by omega) hp ff.2 (by omega) x0 x5
        rw [c4.2.2.2.2.1] at h2
        exact ⟨fun q => h2.1 (h.1 q), h2.2⟩
      · rw [if_neg hT]; exact h
    rw [if_neg e4]
    by_cases e5 : D 10 n = 5
    · rw [if_pos e5]
      have c5 := f5 e5
      have q0 := pch hM.2.2.1 h0 h1 (k := 0) (by omega) (by omega) (by omega)
      have no : hs (D 17 n) x = true → False := fun q => by
        rcases hch q with z | ⟨i, i0, i3, hn, hq⟩
        · exact absurd z.1 e1
        · have : i = 0 := by
            rcases (show i = 0 ∨ i = 1 ∨ i = 2 by omega) with e | e | e
            · exact e
            · subst e; exact absurd c5.2.2.2.1 hn
            · subst e; exact absurd c5.2.2.2.2.1 hn
          subst this
          have hb := (hM.2.2.1.2.2 _ q0.1 q0.2.1).2.2.2.2.2.2.2.1 c5.2.2.2.2.2.1
          rw [hb, hs_z x0 (by omega)] at hq
          cases hq
      by_cases hv : (rV D g (D 11 n) p t.1).1 = -1
      · rw [if_pos hv]; exact ⟨fun q => q, fun _ q => (no q).elim⟩
      · rw [if_neg hv]; exact ⟨fun q => q, fun _ q => (no q).elim⟩
    rw [if_neg e5]
    by_cases e6 : D 10 n = 6
    · rw [if_pos e6]
      have c6 := f6 e6
      have hck := c6.2.2.2.2.2.2
      have hx : (rA D g b p 5 t.1).1 = hd D g p := rfl
      rw [hx, if_neg (by omega), chs_mk c6.1 (by omega) (fun i i0 i1 => ((hck i i0 (by omega)).1 i1).1) (fun i i0 i1 => (hck i (by omega) i1).2 i0)]
      by_cases he : fitl D n (hd D g p) = true
      · rw [if_pos he]
        have := al_b (D := D) (g := g) (x := x) (M := mt D (rA D g b) (rV D g) (tick b) f) (prow (D 11 n) p (begl D n (hd D g p)) (prt D n)) (fun c hc t => by
          obtain ⟨i, i0, i1, rfl⟩ := prow_mem hc
          have hci := (hck i i0 (by omega)).1 i1
          have qi := pch hM.2.2.1 h0 h1 (k := i) i0 (by omega) (by omega)
          exact ih (prt D n i) _ _ (d + 1) t x qi.1 qi.2.1 (by omega) (tp_ls hM hg h0 h1 e6 hd3 hp hf he i0 i1) hci.2.1 (by omega) x0 x5) ((rA D g b p 5 t.1).2, t.2)
        refine ⟨this.1, fun q1 q2 => ?_⟩
        rcases hch q2 with z | ⟨i, i0, i3, hn, hq⟩
        · exact absurd z.1 e1
        · have i1 : i < D 11 n := Decidable.byContradiction fun z => hn ((hck i i0 i3).2 (by omega))
          exact this.2 q1 _ (prow_in i0 i1) hq
      · rw [if_neg he]
        exact ⟨fun q => q, fun q => by cases q⟩
    rw [if_neg e6]
    have e0 : D 10 n = 0 := by omega
    refine ⟨fun q => q, fun _ q => ?_⟩
    rcases hch q with z | ⟨i, i0, i3, hn, hq⟩
    · exact absurd z.1 e1
    · exact absurd (chl_nil (f0 e0) i0 i3) hn
/-- the columns of a case as parts in a row -/
theorem cols_p (D : ZD) (c : Int) : cols D c = prow (D 21 0) 0 0 fun k => D 24 (3 * c + k) := by
  unfold cols prow
  refine List.map_congr_left (fun k _ => ?_)
  rw [show 5 * 0 + 0 + (k : Int) + 1 = (k : Int) + 1 by omega]
theorem mca_b {D : ZD} {g : Int → Int} {b : Bool} {c x : Int} {s : RS} (hM : MI D) (hg : GV D g) (hc : 0 ≤ c ∧ c < D 23 0) (hx : 0 ≤ x ∧ x ≤ 5) (h1 : (mca D (rA D g b) (rV D g) (tick b) c s).1 = 1) (hb : ∃ k, 0 ≤ k ∧ k < D 21 0 ∧ hs (D 17 (D 24 (3 * c + k))) x = true) : tpx D g (mca D (rA D g b) (rV D g) (tick b) c s).2.2 x := by
  have m21 : 0 ≤ D 21 0 ∧ D 21 0 ≤ 3 := ⟨hM.2.2.2.2.1.1, hM.2.2.2.2.1.2.1⟩
  have hcw := hM.2.2.2.2.1.2.2.2.2.2.2 c hc.1 hc.2
  unfold mca at h1 ⊢
  rw [cols_p] at h1 ⊢
  obtain ⟨k, k0, k1, hk⟩ := hb
  refine (al_b (D := D) (g := g) (x := x) (M := mt D (rA D g b) (rV D g) (tick b) 40) (prow (D 21 0) 0 0 fun k => D 24 (3 * c + k)) (fun e he t => ?_) (s, fun _ => -1)).2 h1 _ (prow_in k0 k1) hk
  obtain ⟨i, i0, i1, rfl⟩ := prow_mem he
  have how := hcw.1 i i0 i1
  have hpw := hM.2.2.1.2.2 _ how.1 how.2.1
  have a15 := hpw.2.2.1
  have a16 := hpw.2.2.2.1
  exact mt_b hM hg 40 (D 24 (3 * c + i)) _ (D 22 i) 0 t x how.1 how.2.1 (by omega) ⟨by omega, by omega, by congr 1; omega⟩ how.2.2 (by omega) hx.1 hx.2
