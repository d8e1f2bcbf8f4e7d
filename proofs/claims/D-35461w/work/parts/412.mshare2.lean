/-! REFERENCE: the shared tree is counted -/
set_option maxRecDepth 100000
/-- a node gets its class -/
def txtS (P : Int → Int → ZG → Prop) (cnt a z : Int) (K : ZG) : Prop := zaS K 5 63 512 a z fun (G1 : ZG) => zgF G1 5 56 fun (x5 : Int) => zlt1 (w32 (x5 - 1)) fun (x6 : Int) => zl2 (fun (P129 : Int → ZG → Prop) (a129_4 : Int) (K129 : ZG) => zjn (fun (_ : Unit) => zaL K129 5 63 512 a fun (x7 : Int) => zjn (fun (y217_1 : Int) (H217 : ZG) => zlt1 (w32 (a + (-1))) fun (x8 : Int) => P y217_1 x8 H217) fun J217 => zbr (x7 ≠ (-1)) (J217 cnt K129) (zaS K129 5 63 512 a cnt fun (G2 : ZG) => zlt1 (w32 (cnt + 1)) fun (x9 : Int) => J217 x9 G2)) fun J197 => zbr (a129_4 ≤ a) (J197 ()) (zaL K129 5 63 512 a fun (x10 : Int) => zbr (x10 ≠ (-1)) (J197 ()) (zaL K129 5 63 512 a129_4 fun (x11 : Int) => zjn (fun (z190_2 : Int) => zaS K129 5 63 512 a z190_2 fun (G3 : ZG) => zlt1 (w32 (a129_4 + (-1))) fun (x12 : Int) => P129 x12 G3) fun J190 => zjn (fun (_ : Unit) => J190 (-1)) fun J189 => zbr (x11 < 0) (J189 ()) (vX6_isOwn a129_4 K129 fun (x13 : Int) => zbr (x13 = 0) (J189 ()) (vX6_isSame a129_4 a K129 fun (x14 : Int) => zbr (x14 = 0) (J189 ()) (zaL K129 5 63 512 a129_4 fun (x15 : Int) => J190 x15)))))) x6 G1
/-- the nodes behind a have their classes, by number -/
def Prm (D : ZD) (eng : Int) (L : List PT) (a : Int) (M : Int → Int) (cnt : Int) : Prop := ∃ R : List (List Int), R.Nodup ∧ cnt = (R.length : Int) ∧ (∀ x, x ∈ R ↔ ∃ (i : Nat) (q : PT), a < (i : Int) ∧ L[i]? = some q ∧ cnE D eng q = x) ∧
  ∀ (i : Nat) q, a < (i : Int) → L[i]? = some q → 0 ≤ M i ∧ R[(M i).toNat]? = some (cnE D eng q)
theorem Prm.eq {D : ZD} {eng : Int} {L : List PT} {a : Int} {M : Int → Int} {cnt : Int} (h : Prm D eng L a M cnt) {i j : Nat} {q q' : PT} (hi : a < (i : Int)) (hj : a < (j : Int)) (hq : L[i]? = some q) (hq' : L[j]? = some q') : M i = M j ↔ cnE D eng q = cnE D eng q' := by
  obtain ⟨R, h1, h2, h3, h4⟩ := h
  obtain ⟨a1, a2⟩ := h4 i q hi hq
  obtain ⟨b1, b2⟩ := h4 j q' hj hq'
  refine ⟨fun e => ?_, fun e => ?_⟩
  · rw [e, b2] at a2
    exact (Option.some.inj a2).symm
  · rw [e] at a2
    have := nd_inj R h1 _ _ _ a2 b2
    omega
theorem Prm.old {D : ZD} {eng : Int} {L : List PT} {a : Int} {M M' : Int → Int} {cnt : Int} (h : Prm D eng L a M cnt) (a0 : 0 ≤ a) {q : PT} (hq : L[a.toNat]? = some q) {r : Nat} {qr : PT} (hr : a < (r : Int)) (hqr : L[r]? = some qr) (hc : cnE D eng qr = cnE D eng q) (hM : ∀ i, i ≠ a → M' i = M i) (hMa : M' a = M r) : Prm D eng L (a - 1) M' cnt := by
  obtain ⟨R, h1, h2, h3, h4⟩ := h
  have ea : ((a.toNat : Nat) : Int) = a := by omega
  have at_ : ∀ {i : Nat} {x : PT}, a - 1 < (i : Int) → L[i]? = some x → (i = a.toNat ∧ x = q) ∨ a < (i : Int) := fun {i x} hi hx => by
    by_cases hia : (i : Int) = a
    · have e : i = a.toNat := by omega
      subst e
      rw [hq] at hx
      exact Or.inl ⟨rfl, (Option.some.inj hx).symm⟩
    · exact Or.inr (by omega)
  refine ⟨R, h1, h2, fun x => ?_, fun i x hi hx => ?_⟩
  · rw [h3]
    constructor
    · rintro ⟨i, y, hi, hy, rfl⟩; exact ⟨i, y, by omega, hy, rfl⟩
    · rintro ⟨i, y, hi, hy, rfl⟩
      rcases at_ hi hy with ⟨_, rfl⟩ | hia
      · exact ⟨r, qr, hr, hqr, hc⟩
      · exact ⟨i, y, hia, hy, rfl⟩
  · rcases at_ hi hx with ⟨rfl, rfl⟩ | hia
    · rw [ea, hMa, ← hc]; exact h4 r qr hr hqr
    · rw [hM _ (by omega)]; exact h4 i x hia hx
theorem Prm.new {D : ZD} {eng : Int} {L : List PT} {a : Int} {M M' : Int → Int} {cnt : Int} (h : Prm D eng L a M cnt) (a0 : 0 ≤ a) {q : PT} (hq : L[a.toNat]? = some q) (hno : ∀ (j : Nat) q', a < (j : Int) → L[j]? = some q' → cnE D eng q' ≠ cnE D eng q) (hM : ∀ i, i ≠ a → M' i = M i) (hMa : M' a = cnt) : Prm D eng L (a - 1) M' (cnt + 1) := by
  obtain ⟨R, h1, h2, h3, h4⟩ := h
  have ea : ((a.toNat : Nat) : Int) = a := by omega
  have at_ : ∀ {i : Nat} {x : PT}, a - 1 < (i : Int) → L[i]? = some x → (i = a.toNat ∧ x = q) ∨ a < (i : Int) := fun {i x} hi hx => by
    by_cases hia : (i : Int) = a
    · have e : i = a.toNat := by omega
      subst e
      rw [hq] at hx
      exact Or.inl ⟨rfl, (Option.some.inj hx).symm⟩
    · exact Or.inr (by omega)
  have hnR : cnE D eng q ∉ R := fun z => by
    obtain ⟨i, y, hi, hy, e⟩ := (h3 _).mp z
    exact hno i y hi hy e
  refine ⟨R ++ [cnE D eng q], ?_, by rw [List.length_append, List.length_singleton, h2]; push_cast; rfl, fun x => ?_, fun i x hi hx => ?_⟩
  · rw [List.nodup_append]
    refine ⟨h1, by simp, fun x hx y hy e => ?_⟩
    rw [List.mem_singleton] at hy
    subst e; subst hy
    exact hnR hx
  · rw [List.mem_append, List.mem_singleton, h3]
    constructor
    · rintro (⟨i, y, hi, hy, rfl⟩ | rfl)
      · exact ⟨i, y, by omega, hy, rfl⟩
      · exact ⟨a.toNat, q, by omega, hq, rfl⟩
    · rintro ⟨i, y, hi, hy, rfl⟩
      rcases at_ hi hy with ⟨_, rfl⟩ | hia
      · exact Or.inr rfl
      · exact Or.inl ⟨i, y, hia, hy, rfl⟩
  · rcases at_ hi hx with ⟨rfl, rfl⟩ | hia
    · rw [ea, hMa, h2]
      refine ⟨by omega, ?_⟩
      rw [show ((R.length : Int)).toNat = R.length by omega, List.getElem?_append_right (Nat.le_refl _), Nat.sub_self]; rfl
    · rw [hM _ (by omega)]
      obtain ⟨g1, g2⟩ := h4 i x hia hx
      exact ⟨g1, by rw [List.getElem?_append_left (List.getElem?_eq_some_iff.mp g2).1]; exact g2⟩
/-- those behind a node stand behind it -/
theorem TT.ch {D : ZD} {eng : Int} {G : ZG} {L : List PT} (hT : TT D eng G L (L.length : Int)) {b : Nat} {x : PT} (hx : L[b]? = some x) : Dn G L b x (nl D eng x) ∧ ∀ k : Nat, (k : Int) < (nl D eng x).2.2.2 → L[(zsg G 5 61 b).toNat + k]? = some (stp (nl D eng x) k :: x) ∧ b < (zsg G 5 61 b).toNat + k := by
  obtain ⟨t1, t2, t3, t4, t5, t6, t7⟩ := hT
  have hb := (List.getElem?_eq_some_iff.mp hx).1
  have hD : Dn G L b x (nl D eng x) := by
    rcases t6 b x hx with z | z
    · exact z
    · omega
  refine ⟨hD, fun k hk => ?_⟩
  have hc := hD.2.2.2.2.2 k hk
  refine ⟨hc, ?_⟩
  obtain ⟨n1, n2, n3, n4, n5, n6⟩ := (t5 _ _ hc).2
  obtain ⟨p0, p1, p2⟩ := t7 _ _ _ hc
  have := nd_inj L t3 _ _ _ p2 hx
  omega
theorem own_ex {D : ZD} {eng : Int} {G : ZG} {L : List PT} (hM : MI D) (hT : TT D eng G L (L.length : Int)) : ∀ (n : Nat) (j : Nat) (x : PT), L.length - j ≤ n → L[j]? = some x → ∃ (b : Nat) (y : PT), j ≤ b ∧ L[b]? = some y ∧ ¬ Ndl D eng y ∧ cnE D eng y = cnE D eng x
  | 0, j, x, hn, hx => by have := (List.getElem?_eq_some_iff.mp hx).1; omega
  | n + 1, j, x, hn, hx => by
    have hj := (List.getElem?_eq_some_iff.mp hx).1
    by_cases hN : Ndl D eng x
    · obtain ⟨hD, hc⟩ := hT.ch hx
      obtain ⟨c1, c2⟩ := hc 0 (by have := hN.2.1; omega)
      obtain ⟨b, y, b1, b2, b3, b4⟩ := own_ex hM hT n _ _ (by omega) c1
      exact ⟨b, y, by omega, b2, b3, by rw [b4, ← (cnE_s hM (hT.2.2.2.2.1 j x hx).1).1 hN]⟩
    · exact ⟨j, x, Nat.le_refl _, hx, hN, rfl⟩
