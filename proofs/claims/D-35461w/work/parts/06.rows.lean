/-! ROWS 1: what the layout keeps -/
set_option maxRecDepth 100000
theorem cin : ∀ c, 1 ≤ c → c ≤ 16 → ∀ w ∈ u_ws (cR c) (cT c) (cN c), w ∈ lw_all := by
  intro c h1 h2
  match c, h1, h2 with
  | 1, _, _ => exact in_X1
  | 2, _, _ => exact in_J2
  | 3, _, _ => exact in_X3
  | 4, _, _ => exact in_X4
  | 5, _, _ => exact in_X5
  | 6, _, _ => exact in_X6
  | 7, _, _ => exact in_X7
  | 8, _, _ => intro w hw; simp [u_ws, cN] at hw
  | 9, _, _ => exact in_X9
  | 10, _, _ => exact in_X10
  | 11, _, _ => exact in_X11
  | 12, _, _ => exact in_X12
  | 13, _, _ => exact in_X13
  | 14, _, _ => exact in_X14
  | 15, _, _ => exact in_X15
  | 16, _, _ => exact in_X16
  | n + 17, _, h => omega
/-- the types of the fields -/
def cF (c : Nat) : Nat → FieldType := match c with | 1 => tyX1 | 2 => tyJ2 | 3 => tyX3 | 4 => tyX4 | 5 => tyX5 | 6 => tyX6 | 7 => tyX7 | 9 => tyX9 | 10 => tyX10 | 11 => tyX11 | 12 => tyX12 | 13 => tyX13 | 14 => tyX14 | 15 => tyX15 | _ => tyX16
theorem cty : ∀ c, 1 ≤ c → c ≤ 16 → ∀ k, k < cN c → parseFieldDescriptor (cT c k).2.2.1 = some (cF c k) := by
  intro c h1 h2
  match c, h1, h2 with
  | 1, _, _ => exact tyX1_ok
  | 2, _, _ => exact tyJ2_ok
  | 3, _, _ => exact tyX3_ok
  | 4, _, _ => exact tyX4_ok
  | 5, _, _ => exact tyX5_ok
  | 6, _, _ => exact tyX6_ok
  | 7, _, _ => exact tyX7_ok
  | 8, _, _ => intro k h; exact absurd h (Nat.not_lt_zero k)
  | 9, _, _ => exact tyX9_ok
  | 10, _, _ => exact tyX10_ok
  | 11, _, _ => exact tyX11_ok
  | 12, _, _ => exact tyX12_ok
  | 13, _, _ => exact tyX13_ok
  | 14, _, _ => exact tyX14_ok
  | 15, _, _ => exact tyX15_ok
  | 16, _, _ => exact tyX16_ok
  | n + 17, _, h => omega
theorem zat.kept {P : ZP} {a : Nat} {c : ZV} {H H1 : Heap} (h : zat P a c H) (hq : H1[a]? = H[a]?) : zat P a c H1 := by
  cases c with
  | inl x => exact hq.trans h
  | inr x => exact t_OB.kept h hq
theorem zat.lt {P : ZP} {a : Nat} {c : ZV} {H : Heap} (h : zat P a c H) : a < H.size := by
  cases c with
  | inl x => exact (Array.getElem?_eq_some_iff.mp h).1
  | inr x => obtain ⟨cell, h2, -⟩ := h; exact (Array.getElem?_eq_some_iff.mp h2).1
theorem arrV_congr {cA : ClassId} {n : Nat} {f g : Nat → Value} (h : ∀ q, q < n → f q = g q) : arrV cA n f = arrV cA n g := by
  unfold arrV
  congr 1
  apply Array.ext
  · simp
  · intro i h1 h2
    simp only [Array.getElem_ofFn]
    exact h i (by simpa using h1)
/-- one fixed cell is written -/
theorem Rel.fix {P : ZP} {G G' : ZG} {H H1 : Heap} (hP : zPok P) (hR : Rel P G H) {o j i : Nat} (hv : zvd o j i = true) (ho : o < 16)
    (hs : ∀ o' j' i', zvd o' j' i' = true → ¬ (o' = o ∧ j' = j ∧ i' = i) → zat P (zA P o' j' i') (zfx P G o' j' i') H1 → zat P (zA P o' j' i') (zfx P G' o' j' i') H1)
    (hJ : ∀ a, zsj G' a = zsj G a) (hin : ∀ o k i, inR (zsg G' o k i)) (hat : zat P (zA P o j i) (zfx P G' o j i) H1) (oq : ∀ q, q ≠ zA P o j i → H1[q]? = H[q]?) : Rel P G' H1 := by
  refine ⟨fun o' j' i' h' => ?_, fun a c hc => ?_, hin⟩
  · by_cases e : o' = o ∧ j' = j ∧ i' = i
    · obtain ⟨rfl, rfl, rfl⟩ := e
      exact hat
    · refine hs o' j' i' h' e ((hR.1 o' j' i' h').kept (oq _ fun z => e ?_))
      obtain ⟨a, b, c⟩ := hP.1 o j i o' j' i' hv h' ho z.symm
      exact ⟨a.symm, b.symm, c.symm⟩
  · rw [hJ] at hc
    obtain ⟨h1, h2, h3, h4⟩ := hR.2.1 a c hc
    exact ⟨h1.kept (oq a fun z => h4 o j i hv z.symm), h2, h3, h4⟩
/-- one dynamic cell is written -/
theorem Rel.dyn {P : ZP} {G : ZG} {H H1 : Heap} (hR : Rel P G H) {a : Nat} {c0 c : ZC} (h0 : zsj G a = some c0) (hc : zce c) (hat : zat P a (zdx P c) H1) (oq : ∀ q, q ≠ a → H1[q]? = H[q]?) : Rel P (zsc G a c) H1 := by
  obtain ⟨-, -, h3, h4⟩ := hR.2.1 a c0 h0
  refine ⟨fun o j i hv => (hR.1 o j i hv).kept (oq _ (h4 o j i hv)), fun b d hd => ?_, hR.2.2⟩
  rw [zsj_sc] at hd
  by_cases e : b = a
  · subst e
    rw [if_pos rfl] at hd
    cases hd
    exact ⟨hat, hc, h3, h4⟩
  · rw [if_neg e] at hd
    obtain ⟨g1, g2, g3, g4⟩ := hR.2.1 b d hd
    exact ⟨g1.kept (oq b e), g2, g3, g4⟩
/-- a new cell -/
theorem Rel.new {P : ZP} {G : ZG} {H H1 : Heap} (hR : Rel P G H) {c : ZC} (hb : zB P ≤ H.size) (hc : zce c) (hat : zat P H.size (zdx P c) H1) (oq : ∀ q, q < H.size → H1[q]? = H[q]?) : zsj G H.size = none ∧ Rel P (zsc G H.size c) H1 := by
  have hn : zsj G H.size = none := by
    cases hg : zsj G H.size with
    | none => rfl
    | some d => exact absurd (hR.2.1 _ _ hg).1.lt (Nat.lt_irrefl _)
  refine ⟨hn, fun o j i hv => (hR.1 o j i hv).kept (oq _ (hR.1 o j i hv).lt), fun b d hd => ?_, hR.2.2⟩
  rw [zsj_sc] at hd
  by_cases e : b = H.size
  · subst e
    rw [if_pos rfl] at hd
    cases hd
    exact ⟨hat, hc, hb, fun o j i hv z => absurd (hR.1 o j i hv).lt (by rw [z]; exact Nat.lt_irrefl _)⟩
  · rw [if_neg e] at hd
    obtain ⟨g1, g2, g3, g4⟩ := hR.2.1 b d hd
    exact ⟨g1.kept (oq b g1.lt), g2, g3, g4⟩
theorem inR_zss {G : ZG} {o k : Nat} {i x : Int} (h : ∀ o k i, inR (zsg G o k i)) (hx : inR x) : ∀ o' k' i', inR (zsg (zss G o k i x) o' k' i') := by
  intro o' k' i'
  rw [zsg_ss]
  split
  · exact hx
  · exact h o' k' i'
/-- an int field of a fixed object is written -/
theorem zfld_ss {P : ZP} {G : ZG} {o k : Nat} {i x : Int} {o' k' : Nat} (h : ¬ (o' = o ∧ k' = k ∧ i = 0)) : zfld P (zss G o k i x) o' k' = zfld P G o' k' := by
  unfold zfld
  split <;> first | rfl | (rw [zsg_ss, if_neg (fun z => h ⟨z.1, z.2.1, z.2.2.symm⟩)]) | (rw [zsr_ss])
theorem zfld_ss_a {P : ZP} {G : ZG} {o k : Nat} {i x : Int} {o' k' : Nat} (hk : tFk (tCls o) k ≠ 0) : zfld P (zss G o k i x) o' k' = zfld P G o' k' := by
  by_cases h : o' = o ∧ k' = k
  · obtain ⟨rfl, rfl⟩ := h
    unfold zfld
    split
    · rename_i e; exact absurd e hk
    · rfl
    · rfl
    · rfl
  · exact zfld_ss (fun z => h ⟨z.1, z.2.1⟩)
theorem zfx_ss {P : ZP} {G : ZG} {o k : Nat} {i x : Int} {o' k' r' : Nat} (h : ¬ (o' = o ∧ k' = k)) : zfx P (zss G o k i x) o' (k' + 1) r' = zfx P G o' (k' + 1) r' := by
  have e : ∀ z, zsg (zss G o k i x) o' k' z = zsg G o' k' z := fun z => by rw [zsg_ss, if_neg (fun q => h ⟨q.1, q.2.1⟩)]
  cases r' with
  | zero => simp only [zfx, e, zsr_ss]
  | succ r => simp only [zfx, e]
theorem Rel.putF {P : ZP} {G : ZG} {H H1 : Heap} (hP : zPok P) (hR : Rel P G H) {o k : Nat} {x : Int} (hv : zvd o 0 0 = true) (ho : o < 16) (hk : tAk (tCls o) k = 0) (hx : inR x)
    (hat : zat P (zA P o 0 0) (.inr (tCls o, zfld P (zss G o k 0 x) o)) H1) (oq : ∀ q, q ≠ zA P o 0 0 → H1[q]? = H[q]?) : Rel P (zss G o k 0 x) H1 := by
  refine hR.fix hP hv ho (fun o' j' i' h' hne => ?_) (fun a => rfl) (inR_zss hR.2.2 hx) hat oq
  intro hz
  cases j' with
  | zero =>
    have hi : i' = 0 := by
      cases i' with
      | zero => rfl
      | succ n => exact absurd h' (by simp [zvd])
    subst hi
    have e : zfld P (zss G o k 0 x) o' = zfld P G o' := funext fun k' => zfld_ss (fun z => hne ⟨z.1, rfl, rfl⟩)
    simp only [zfx, e] at hz ⊢
    exact hz
  | succ k' =>
    rw [zfx_ss]
    · exact hz
    · rintro ⟨rfl, rfl⟩
      cases i' with
      | zero => simp [zvd, hk] at h'
      | succ n => simp [zvd, hk] at h'
theorem zfld_su {P : ZP} {G : ZG} {o k : Nat} {i : Int} {x : ZR} {o' k' : Nat} (h : ¬ (o' = o ∧ k' = k ∧ i = 0)) : zfld P (zsu G o k i x) o' k' = zfld P G o' k' := by
  unfold zfld
  split <;> first | rfl | (rw [zsr_su, if_neg (fun z => h ⟨z.1, z.2.1, z.2.2.symm⟩)]) | (rw [zsg_su])
theorem zfx_su {P : ZP} {G : ZG} {o k : Nat} {i : Int} {x : ZR} {o' k' r' : Nat} (h : ¬ (o' = o ∧ k' = k)) : zfx P (zsu G o k i x) o' (k' + 1) r' = zfx P G o' (k' + 1) r' := by
  have e : ∀ z, zsr (zsu G o k i x) o' k' z = zsr G o' k' z := fun z => by rw [zsr_su, if_neg (fun q => h ⟨q.1, q.2.1⟩)]
  cases r' with
  | zero => simp only [zfx, e, zsg_su]
  | succ r => simp only [zfx, zsg_su]
theorem Rel.putU {P : ZP} {G : ZG} {H H1 : Heap} (hP : zPok P) (hR : Rel P G H) {o k : Nat} {x : ZR} (hv : zvd o 0 0 = true) (ho : o < 16) (hk : tAk (tCls o) k = 0)
    (hat : zat P (zA P o 0 0) (.inr (tCls o, zfld P (zsu G o k 0 x) o)) H1) (oq : ∀ q, q ≠ zA P o 0 0 → H1[q]? = H[q]?) : Rel P (zsu G o k 0 x) H1 := by
  refine hR.fix hP hv ho (fun o' j' i' h' hne => ?_) (fun a => rfl) hR.2.2 hat oq
  intro hz
  cases j' with
  | zero =>
    have hi : i' = 0 := by
      cases i' with
      | zero => rfl
      | succ n => exact absurd h' (by simp [zvd])
    subst hi
    have e : zfld P (zsu G o k 0 x) o' = zfld P G o' := funext fun k' => zfld_su (fun z => hne ⟨z.1, rfl, rfl⟩)
    simp only [zfx, e] at hz ⊢
    exact hz
  | succ k' =>
    rw [zfx_su]
    · exact hz
    · rintro ⟨rfl, rfl⟩
      cases i' with
      | zero => simp [zvd, hk] at h'
      | succ n => simp [zvd, hk] at h'
/-- an element of a fixed array of ints is written -/
theorem Rel.arrS {P : ZP} {G : ZG} {H H1 : Heap} (hP : zPok P) (hR : Rel P G H) {o k : Nat} {i x : Int} (hv : zvd o (k + 1) 0 = true) (ho : o < 16) (hk : tFk (tCls o) k ≠ 0) (h5 : tAk (tCls o) k ≠ 5) (hx : inR x)
    (hat : zat P (zA P o (k + 1) 0) (zfx P (zss G o k i x) o (k + 1) 0) H1) (oq : ∀ q, q ≠ zA P o (k + 1) 0 → H1[q]? = H[q]?) : Rel P (zss G o k i x) H1 := by
  refine hR.fix hP hv ho (fun o' j' i' h' hne => ?_) (fun a => rfl) (inR_zss hR.2.2 hx) hat oq
  intro hz
  cases j' with
  | zero =>
    have e : zfld P (zss G o k i x) o' = zfld P G o' := funext fun k' => zfld_ss_a hk
    cases i' with
    | zero => simp only [zfx, e] at hz ⊢; exact hz
    | succ n => exact absurd h' (by simp [zvd])
  | succ k' =>
    rw [zfx_ss]
    · exact hz
    · rintro ⟨rfl, rfl⟩
      cases i' with
      | zero => exact hne ⟨rfl, rfl, rfl⟩
      | succ n => simp [zvd, h5] at h'
/-- an element of a row of a grid is written -/
theorem Rel.rowS {P : ZP} {G : ZG} {H H1 : Heap} (hP : zPok P) (hR : Rel P G H) {o k r c : Nat} {x : Int} (hv : zvd o (k + 1) (r + 1) = true) (ho : o < 16) (hk : tFk (tCls o) k ≠ 0) (h5 : tAk (tCls o) k = 5) (hc : c < 10) (hx : inR x)
    (hat : zat P (zA P o (k + 1) (r + 1)) (zfx P (zss G o k (10 * (r : Int) + c) x) o (k + 1) (r + 1)) H1) (oq : ∀ q, q ≠ zA P o (k + 1) (r + 1) → H1[q]? = H[q]?) : Rel P (zss G o k (10 * (r : Int) + c) x) H1 := by
  refine hR.fix hP hv ho (fun o' j' i' h' hne => ?_) (fun a => rfl) (inR_zss hR.2.2 hx) hat oq
  intro hz
  cases j' with
  | zero =>
    have e : zfld P (zss G o k (10 * (r : Int) + c) x) o' = zfld P G o' := funext fun k' => zfld_ss_a hk
    cases i' with
    | zero => simp only [zfx, e] at hz ⊢; exact hz
    | succ n => exact absurd h' (by simp [zvd])
  | succ k' =>
    by_cases e : o' = o ∧ k' = k
    · obtain ⟨rfl, rfl⟩ := e
      cases i' with
      | zero => simp only [zfx, h5] at hz ⊢; exact hz
      | succ n =>
        simp only [zfx] at hz ⊢
        refine Eq.trans hz (congrArg some (arrV_congr fun q hq => ?_))
        rw [zsg_ss, if_neg]
        rintro ⟨-, -, z⟩
        exact hne ⟨rfl, rfl, by omega⟩
    · rw [zfx_ss e]
      exact hz
/-- a reference in a fixed array is written -/
theorem Rel.refS {P : ZP} {G : ZG} {H H1 : Heap} (hP : zPok P) (hR : Rel P G H) {o k : Nat} {i : Int} {x : ZR} (hv : zvd o (k + 1) 0 = true) (ho : o < 16) (hk : tFk (tCls o) k = 1) (h5 : tAk (tCls o) k ≠ 5)
    (hat : zat P (zA P o (k + 1) 0) (zfx P (zsu G o k i x) o (k + 1) 0) H1) (oq : ∀ q, q ≠ zA P o (k + 1) 0 → H1[q]? = H[q]?) : Rel P (zsu G o k i x) H1 := by
  refine hR.fix hP hv ho (fun o' j' i' h' hne => ?_) (fun a => rfl) hR.2.2 hat oq
  intro hz
  cases j' with
  | zero =>
    have e : zfld P (zsu G o k i x) o' = zfld P G o' := funext fun k' => by
      by_cases h : o' = o ∧ k' = k
      · obtain ⟨rfl, rfl⟩ := h
        simp only [zfld, hk]
      · exact zfld_su (fun z => h ⟨z.1, z.2.1⟩)
    cases i' with
    | zero => simp only [zfx, e] at hz ⊢; exact hz
    | succ n => exact absurd h' (by simp [zvd])
  | succ k' =>
    rw [zfx_su]
    · exact hz
    · rintro ⟨rfl, rfl⟩
      cases i' with
      | zero => exact hne ⟨rfl, rfl, rfl⟩
      | succ n => simp [zvd, h5] at h'
