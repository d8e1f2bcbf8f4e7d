/-! PLACES OF A RUN, in plain terms -/
set_option maxRecDepth 100000
def pl : Nat → List Int
  | 0 => [1, 2, 3]
  | d + 1 => (pl d).flatMap fun q => [5 * q + 1, 5 * q + 2, 5 * q + 3]
def apl : List Int := pl 0 ++ (pl 1 ++ (pl 2 ++ pl 3))
theorem apl_len : apl.length = 120 := by decide
theorem apl_r : ∀ p ∈ apl, 1 ≤ p ∧ p ≤ 468 := by decide
theorem pl_apl {d : Nat} {p : Int} (hd : d ≤ 3) (h : p ∈ pl d) : p ∈ apl := by
  unfold apl
  have : d = 0 ∨ d = 1 ∨ d = 2 ∨ d = 3 := by omega
  rcases this with rfl | rfl | rfl | rfl
  · exact List.mem_append_left _ h
  · exact List.mem_append_right _ (List.mem_append_left _ h)
  · exact List.mem_append_right _ (List.mem_append_right _ (List.mem_append_left _ h))
  · exact List.mem_append_right _ (List.mem_append_right _ (List.mem_append_right _ h))
theorem pl_s {d : Nat} {q j : Int} (h : q ∈ pl d) (j0 : 0 ≤ j) (j3 : j < 3) : 5 * q + j + 1 ∈ pl (d + 1) := by
  unfold pl
  rw [List.mem_flatMap]
  refine ⟨q, h, ?_⟩
  have : j = 0 ∨ j = 1 ∨ j = 2 := by omega
  rcases this with rfl | rfl | rfl
  · rw [show 5 * q + 0 + 1 = 5 * q + 1 by omega]; simp
  · rw [show 5 * q + 1 + 1 = 5 * q + 2 by omega]; simp
  · rw [show 5 * q + 2 + 1 = 5 * q + 3 by omega]; simp
theorem pl_p {d : Nat} : ∀ p ∈ pl d, 1 ≤ p := by
  induction d with
  | zero => decide
  | succ d ih =>
    intro p hp
    unfold pl at hp
    rw [List.mem_flatMap] at hp
    obtain ⟨q, hq, hm⟩ := hp
    have := ih q hq
    simp at hm; omega
/-- the values given in a run fit the columns -/
def GV (D : ZD) (g : Int → Int) : Prop := ∀ k, 0 ≤ k → k < D 21 0 → 0 ≤ g k ∧ g k < D 4 0 ∧ D 5 (g k) = D 22 k
/-- a place where things of a kind are -/
def tp (D : ZD) (g : Int → Int) : Nat → Int → Int → Prop
  | 0, p, k => 1 ≤ p ∧ p ≤ D 21 0 ∧ D 22 (p - 1) = k
  | d + 1, p, k => ∃ q j kq, p = 5 * q + j + 1 ∧ 0 ≤ j ∧ j < vn D (vl D g 8 q) ∧ tp D g d q kq ∧ kq ≠ 4 ∧ k = (if kq = 5 then 4 else D 3 (3 * (4 * kq + D 6 (vl D g 8 q)) + j))
/-- a thing of a kind -/
def thg (D : ZD) (x k : Int) : Prop := (k = 4 ∧ -10 ≤ x ∧ x < 0) ∨ (0 ≤ x ∧ x < D 4 0 ∧ D 5 x = k)
theorem vl_s (D : ZD) (g : Int → Int) (f : Nat) (p : Int) : vl D g (f + 1) p = if p ≤ 3 then g (p - 1) else if D 5 (vl D g f ((p - 1) / 5)) = 5 then -1 - D 7 (3 * vl D g f ((p - 1) / 5) + (p - 1) % 5) else D 7 (3 * vl D g f ((p - 1) / 5) + (p - 1) % 5) := rfl
theorem vn_3 {D : ZD} (hM : MI D) {v : Int} (h0 : 0 ≤ v) (h1 : v < D 4 0) : 0 ≤ vn D v ∧ vn D v ≤ 3 := by
  have hv := hM.2.1.2.2 v h0 h1
  unfold vn
  by_cases h4 : D 5 v = 4
  · rw [if_pos h4]; omega
  · rw [if_neg h4]
    by_cases h5 : D 5 v = 5
    · rw [if_pos h5]; have := hv.2.2.2.2.2.1 h5; omega
    · rw [if_neg h5]
      have h := hv.2.2.2.2.2.2 (by have := hv.1; have := hv.2.1; omega)
      have := (hM.1 (D 5 v) hv.1 (by have := hv.2.1; omega)).2.2 (D 6 v) h.1 h.2.1
      omega
theorem tp_vl {D : ZD} {g : Int → Int} (hM : MI D) (hg : GV D g) : ∀ (d : Nat) (p k : Int), d ≤ 7 → tp D g d p k → thg D (vl D g 8 p) k ∧ p ∈ pl d ∧ ∀ f, d < f → vl D g f p = vl D g 8 p := by
  have m21 : 0 ≤ D 21 0 ∧ D 21 0 ≤ 3 := ⟨hM.2.2.2.2.1.1, hM.2.2.2.2.1.2.1⟩
  intro d
  induction d with
  | zero =>
    intro p k _ h
    obtain ⟨h1, h2, h3⟩ := h
    have e : ∀ f, 0 < f → vl D g f p = g (p - 1) := fun f hf => by
      obtain ⟨f, rfl⟩ : ∃ f', f = f' + 1 := ⟨f - 1, by omega⟩
      rw [vl_s, if_pos (by omega)]
    have hgp := hg (p - 1) (by omega) (by omega)
    refine ⟨Or.inr ?_, ?_, fun f hf => by rw [e f hf, e 8 (by omega)]⟩
    · rw [e 8 (by omega)]; exact ⟨hgp.1, hgp.2.1, by rw [hgp.2.2, h3]⟩
    · have : p = 1 ∨ p = 2 ∨ p = 3 := by omega
      rcases this with rfl | rfl | rfl <;> decide
  | succ d ih =>
    intro p k hd h
    obtain ⟨q, j, kq, rfl, j0, j1, hq, hk4, hk⟩ := h
    obtain ⟨ht, hp, hf⟩ := ih q kq (by omega) hq
    have q1 := pl_p q hp
    have hv : 0 ≤ vl D g 8 q ∧ vl D g 8 q < D 4 0 ∧ D 5 (vl D g 8 q) = kq := by
      rcases ht with ht | ht
      · exact absurd ht.1 hk4
      · exact ht
    have h3 := vn_3 hM hv.1 hv.2.1
    have e : ∀ f, d + 1 < f → vl D g f (5 * q + j + 1) = if kq = 5 then -1 - D 7 (3 * vl D g 8 q + j) else D 7 (3 * vl D g 8 q + j) := fun f hf2 => by
      obtain ⟨f, rfl⟩ : ∃ f', f = f' + 1 := ⟨f - 1, by omega⟩
      rw [vl_s, if_neg (by omega), show (5 * q + j + 1 - 1) / 5 = q by omega, show (5 * q + j + 1 - 1) % 5 = j by omega, hf f (by omega), hv.2.2]
    refine ⟨?_, pl_s hp j0 (by omega), fun f hf => by rw [e f hf, e 8 (by omega)]⟩
    rw [e 8 (by omega)]
    have hvw := hM.2.1.2.2 _ hv.1 hv.2.1
    unfold vn at j1
    rw [hv.2.2, if_neg hk4] at j1
    by_cases h5 : kq = 5
    · rw [if_pos h5] at hk j1 ⊢
      have := (hvw.2.2.2.2.2.1 (by omega)).2.2 j j0 j1
      exact Or.inl ⟨hk, by omega, by omega⟩
    · rw [if_neg h5] at hk j1 ⊢
      have := (hvw.2.2.2.2.2.2 (by have := hvw.1; have := hvw.2.1; omega)).2.2 j j0 (by rw [hv.2.2]; exact j1)
      rw [hv.2.2] at this
      exact Or.inr ⟨this.1, by omega, by rw [this.2.2, hk]⟩
/-- the facts at a place of a kind -/
theorem hd_r {D : ZD} {g : Int → Int} {d : Nat} {p k : Int} (hM : MI D) (hg : GV D g) (hd7 : d ≤ 7) (h : tp D g d p k) :
    0 ≤ hd D g p ∧ hd D g p ≤ 9 ∧ 0 ≤ ms D g p ∧ ms D g p ≤ 96 ∧ (k < 4 → hd D g p < D 1 k) ∧ (k = 5 → hd D g p ≤ 3) := by
  have ht := (tp_vl hM hg d p k hd7 h).1
  unfold hd ms
  rcases ht with ⟨e, h1, h2⟩ | ⟨h1, h2, h3⟩
  · rw [if_pos h2, if_pos h2]; omega
  · rw [if_neg (by omega), if_neg (by omega)]
    obtain ⟨v1, v2, v3, v4, v5, v6, v7⟩ := hM.2.1.2.2 _ h1 h2
    rw [h3] at v5 v6 v7 v1 v2
    by_cases k4 : k = 4
    · have := v5 k4; omega
    · by_cases k5 : k = 5
      · have := v6 k5; omega
      · have a := v7 (by omega)
        have b := hM.1 k v1 (by omega)
        refine ⟨a.1, by omega, v3, v4, fun _ => a.2.1, fun q => absurd q k5⟩
/-! which views ran -/
theorem nd_le {α : Type} [DecidableEq α] : ∀ (l m : List α), l.Nodup → (∀ x ∈ l, x ∈ m) → l.length ≤ m.length
  | [], m, _, _ => Nat.zero_le _
  | x :: l, m, hn, hs => by
    have hx := hs x List.mem_cons_self
    have hn := List.nodup_cons.mp hn
    have := nd_le l (m.erase x) hn.2 (fun y hy => (List.mem_erase_of_ne (fun (e : y = x) => hn.1 (e ▸ hy))).mpr (hs y (List.mem_cons_of_mem _ hy)))
    rw [List.length_erase_of_mem hx] at this
    have := List.length_pos_of_mem hx
    rw [List.length_cons]; omega
def vpl : List (Int × Int) := apl.map (fun p => (0, p)) ++ (apl.map (fun p => (1, p)) ++ apl.map (fun p => (2, p)))
def RI (s : RS) : Prop := (s.2.map fun x => (x.1, x.2.1)).Nodup ∧ ∀ x ∈ s.2, (0 ≤ x.1 ∧ x.1 ≤ 2) ∧ x.2.1 ∈ apl ∧ 0 ≤ x.2.2 ∧ x.2.2 ≤ 9
theorem RI.len {s : RS} (h : RI s) : s.2.length ≤ 360 := by
  have := nd_le _ vpl h.1 (fun x hx => ?_)
  · rw [List.length_map] at this
    have e : vpl.length = 360 := by unfold vpl; rw [List.length_append, List.length_append, List.length_map, List.length_map, List.length_map, apl_len]
    omega
  · obtain ⟨y, hy, rfl⟩ := List.mem_map.mp hx
    have := h.2 y hy
    have c : y.1 = 0 ∨ y.1 = 1 ∨ y.1 = 2 := by omega
    unfold vpl
    rcases c with c | c | c
    · exact List.mem_append_left _ (List.mem_map.mpr ⟨_, this.2.1, by rw [c]⟩)
    · exact List.mem_append_right _ (List.mem_append_left _ (List.mem_map.mpr ⟨_, this.2.1, by rw [c]⟩))
    · exact List.mem_append_right _ (List.mem_append_right _ (List.mem_map.mpr ⟨_, this.2.1, by rw [c]⟩))
theorem fnd_none {l : List (Int × Int × Int)} {v p : Int} (h : fnd l v p = none) : (v, p) ∉ l.map fun x => (x.1, x.2.1) := by
  intro hm
  obtain ⟨x, hx, e⟩ := List.mem_map.mp hm
  unfold fnd at h
  rw [Option.map_eq_none_iff, List.find?_eq_none] at h
  have := h x hx
  injection e with e1 e2
  rw [decide_eq_true e1, decide_eq_true e2] at this
  exact this rfl
theorem rV_RI {D : ZD} {g : Int → Int} {v p : Int} {s : RS} (hM : MI D) (hs : RI s) (hv : 0 ≤ v ∧ v ≤ 2) (hp : p ∈ apl) : RI (rV D g v p s).2 ∧ 0 ≤ (rV D g v p s).1 ∧ (rV D g v p s).1 ≤ 9 := by
  unfold rV
  cases hf : fnd s.2 v p with
  | some x =>
    refine ⟨hs, ?_⟩
    unfold fnd at hf
    rw [Option.map_eq_some_iff] at hf
    obtain ⟨y, hy, rfl⟩ := hf
    exact (hs.2 y (List.mem_of_find?_eq_some hy)).2.2
  | none =>
    have hw := hM.2.2.2.1 v hv.1 (by omega)
    have hb : 0 ≤ gv D g v p s.2.length ∧ gv D g v p s.2.length ≤ 9 := by
      unfold gv
      have a1 := Int.emod_nonneg (D 20 (4 * v) * ms D g p + D 20 (4 * v + 1) * (s.2.length : Int) + D 20 (4 * v + 2)) (show D 20 (4 * v + 3) ≠ 0 by omega)
      have a2 := Int.emod_lt_of_pos (D 20 (4 * v) * ms D g p + D 20 (4 * v + 1) * (s.2.length : Int) + D 20 (4 * v + 2)) (show 0 < D 20 (4 * v + 3) by omega)
      omega
    refine ⟨⟨?_, fun x hx => ?_⟩, hb⟩
    · show ((s.2 ++ _).map _).Nodup
      rw [List.map_append, List.nodup_append]
      refine ⟨hs.1, by simp, fun a ha b hb e => ?_⟩
      simp only [List.map_cons, List.map_nil, List.mem_singleton] at hb
      subst e; subst hb
      exact fnd_none hf ha
    · rcases List.mem_append.mp hx with hx | hx
      · exact hs.2 x hx
      · rw [List.mem_singleton] at hx; subst hx
        exact ⟨hv, hp, hb⟩
