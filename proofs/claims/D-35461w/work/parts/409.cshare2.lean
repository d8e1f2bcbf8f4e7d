/-! COMPONENT: the shared tree's size -/
set_option maxRecDepth 100000
/-- the nodes behind a have their classes -/
def Prc (D : ZD) (eng : Int) (S : List PT) (a : Int) (M : Int → Int) (cnt : Int) : Prop := ∃ R : List (List Int), R.Nodup ∧ cnt = (R.length : Int) ∧ (∀ x, x ∈ R ↔ ∃ (i : Nat) (q : PT), a < (i : Int) ∧ S[i]? = some q ∧ cnE D eng q = x) ∧
  (∀ (i : Nat) q, a < (i : Int) → S[i]? = some q → ∃ (r : Nat) (qr : PT), i ≤ r ∧ M i = (r : Int) ∧ S[r]? = some qr ∧ M r = (r : Int) ∧ cnE D eng qr = cnE D eng q) ∧
  (∀ (i j : Nat) q q', a < (i : Int) → a < (j : Int) → S[i]? = some q → S[j]? = some q' → cnE D eng q = cnE D eng q' → M i = M j) ∧
  (∀ (i : Nat) q, a < (i : Int) → S[i]? = some q → M i = (i : Int) → ¬ Ndl D eng q)
theorem Prc.eq {D : ZD} {eng : Int} {S : List PT} {a : Int} {M : Int → Int} {cnt : Int} (h : Prc D eng S a M cnt) {i j : Nat} {q q' : PT} (hi : a < (i : Int)) (hj : a < (j : Int)) (hq : S[i]? = some q) (hq' : S[j]? = some q') : M i = M j ↔ cnE D eng q = cnE D eng q' := by
  obtain ⟨R, h1, h2, h3, h4, h5, h6⟩ := h
  refine ⟨fun e => ?_, fun e => h5 i j q q' hi hj hq hq' e⟩
  obtain ⟨r, qr, r1, r2, r3, r4, r5⟩ := h4 i q hi hq
  obtain ⟨t, qt, t1, t2, t3, t4, t5⟩ := h4 j q' hj hq'
  have : r = t := by omega
  subst this
  rw [r3] at t3
  have := Option.some.inj t3
  subst this
  rw [← r5, t5]
theorem Prc.old {D : ZD} {eng : Int} {S : List PT} {a : Int} {M M' : Int → Int} {cnt : Int} (h : Prc D eng S a M cnt) (a0 : 0 ≤ a) {q : PT} (hq : S[a.toNat]? = some q) {r : Nat} {qr : PT} (hr : a < (r : Int)) (hqr : S[r]? = some qr) (hMr : M r = (r : Int)) (hc : cnE D eng qr = cnE D eng q) (hM : ∀ i, i ≠ a → M' i = M i) (hMa : M' a = (r : Int)) : Prc D eng S (a - 1) M' cnt := by
  have h0 := h
  obtain ⟨R, h1, h2, h3, h4, h5, h6⟩ := h
  have ea : ((a.toNat : Nat) : Int) = a := by omega
  have at_ : ∀ {i : Nat} {x : PT}, a - 1 < (i : Int) → S[i]? = some x → (i = a.toNat ∧ x = q) ∨ a < (i : Int) := fun {i x} hi hx => by
    by_cases hia : (i : Int) = a
    · have e : i = a.toNat := by omega
      subst e
      rw [hq] at hx
      exact Or.inl ⟨rfl, (Option.some.inj hx).symm⟩
    · exact Or.inr (by omega)
  refine ⟨R, h1, h2, fun x => ?_, fun i x hi hx => ?_, fun i j x y hi hj hx hy hxy => ?_, fun i x hi hx hMi => ?_⟩
  · rw [h3]
    constructor
    · rintro ⟨i, y, hi, hy, rfl⟩; exact ⟨i, y, by omega, hy, rfl⟩
    · rintro ⟨i, y, hi, hy, rfl⟩
      rcases at_ hi hy with ⟨_, rfl⟩ | hia
      · exact ⟨r, qr, hr, hqr, hc⟩
      · exact ⟨i, y, hia, hy, rfl⟩
  · rcases at_ hi hx with ⟨rfl, rfl⟩ | hia
    · exact ⟨r, qr, by omega, by rw [ea]; exact hMa, hqr, by rw [hM _ (by omega)]; exact hMr, hc⟩
    · obtain ⟨t, qt, t1, t2, t3, t4, t5⟩ := h4 i x hia hx
      exact ⟨t, qt, t1, by rw [hM _ (by omega)]; exact t2, t3, by rw [hM _ (by omega)]; exact t4, t5⟩
  · have val : ∀ {i : Nat} {x : PT}, a - 1 < (i : Int) → S[i]? = some x → ∃ (k : Nat) (z : PT), a < (k : Int) ∧ S[k]? = some z ∧ cnE D eng z = cnE D eng x ∧ M' i = M k := fun {i x} hi hx => by
      rcases at_ hi hx with ⟨rfl, rfl⟩ | hia
      · exact ⟨r, qr, hr, hqr, hc, by rw [ea, hMa, hMr]⟩
      · exact ⟨i, x, hia, hx, rfl, by rw [hM _ (by omega)]⟩
    obtain ⟨k, z, k1, k2, k3, k4⟩ := val hi hx
    obtain ⟨l, w, l1, l2, l3, l4⟩ := val hj hy
    rw [k4, l4]
    exact h5 k l z w k1 l1 k2 l2 (by rw [k3, l3]; exact hxy)
  · rcases at_ hi hx with ⟨rfl, rfl⟩ | hia
    · rw [ea, hMa] at hMi; omega
    · exact h6 i x hia hx (by rw [← hM _ (by omega)]; exact hMi)
theorem Prc.new {D : ZD} {eng : Int} {S : List PT} {a : Int} {M M' : Int → Int} {cnt : Int} (h : Prc D eng S a M cnt) (a0 : 0 ≤ a) {q : PT} (hq : S[a.toNat]? = some q) (hn : ¬ Ndl D eng q) (hno : ∀ (j : Nat) q', a < (j : Int) → S[j]? = some q' → cnE D eng q' ≠ cnE D eng q) (hM : ∀ i, i ≠ a → M' i = M i) (hMa : M' a = a) : Prc D eng S (a - 1) M' (cnt + 1) := by
  obtain ⟨R, h1, h2, h3, h4, h5, h6⟩ := h
  have ea : ((a.toNat : Nat) : Int) = a := by omega
  have at_ : ∀ {i : Nat} {x : PT}, a - 1 < (i : Int) → S[i]? = some x → (i = a.toNat ∧ x = q) ∨ a < (i : Int) := fun {i x} hi hx => by
    by_cases hia : (i : Int) = a
    · have e : i = a.toNat := by omega
      subst e
      rw [hq] at hx
      exact Or.inl ⟨rfl, (Option.some.inj hx).symm⟩
    · exact Or.inr (by omega)
  have hnR : cnE D eng q ∉ R := fun z => by
    obtain ⟨i, y, hi, hy, e⟩ := (h3 _).mp z
    exact hno i y hi hy e
  refine ⟨R ++ [cnE D eng q], ?_, by rw [List.length_append, List.length_singleton, h2]; push_cast; rfl, fun x => ?_, fun i x hi hx => ?_, fun i j x y hi hj hx hy hxy => ?_, fun i x hi hx hMi => ?_⟩
  · rw [List.nodup_append]
    refine ⟨h1, by simp, fun x hx y hy e => ?_⟩
    rw [List.mem_singleton] at hy
    subst e; subst hy
    exact hnR hx
  · rw [List.mem_append, List.mem_singleton, h3]
    constructor
    · rintro (⟨i, y, hi, hy, rfl⟩ | rfl)
      · exact ⟨i, y, by omega, hy, rfl⟩
      · exact ⟨a.toNat, q, by omega, hq, rfl⟩
    · rintro ⟨i, y, hi, hy, rfl⟩
      rcases at_ hi hy with ⟨_, rfl⟩ | hia
      · exact Or.inr rfl
      · exact Or.inl ⟨i, y, hia, hy, rfl⟩
  · rcases at_ hi hx with ⟨rfl, rfl⟩ | hia
    · exact ⟨a.toNat, x, Nat.le_refl _, by rw [ea]; exact hMa, hq, by rw [ea]; exact hMa, rfl⟩
    · obtain ⟨t, qt, t1, t2, t3, t4, t5⟩ := h4 i x hia hx
      exact ⟨t, qt, t1, by rw [hM _ (by omega)]; exact t2, t3, by rw [hM _ (by omega)]; exact t4, t5⟩
  · rcases at_ hi hx with ⟨rfl, rfl⟩ | hia
    · rcases at_ hj hy with ⟨rfl, rfl⟩ | hja
      · rfl
      · exact absurd hxy.symm (hno j y hja hy)
    · rcases at_ hj hy with ⟨rfl, rfl⟩ | hja
      · exact absurd hxy (hno i x hia hx)
      · rw [hM _ (by omega), hM _ (by omega)]
        exact h5 i j x y hia hja hx hy hxy
  · rcases at_ hi hx with ⟨rfl, rfl⟩ | hia
    · exact hn
    · exact h6 i x hia hx (by rw [← hM _ (by omega)]; exact hMi)
theorem ck_inj {x y : Int} (hx : 0 ≤ x ∧ x ≤ 5) (hy : 0 ≤ y ∧ y ≤ 5) (h : ck x = ck y) : x = y := by unfold ck at h; split at h <;> split at h <;> omega
theorem ck_0 {x : Int} (h : 0 ≤ x ∧ x ≤ 5) : ck x = 0 ↔ x = 5 := by unfold ck; split <;> omega
