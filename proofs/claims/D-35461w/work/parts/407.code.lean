/-! TREES: nodes that tell alike -/
set_option maxRecDepth 100000
/-- the code of what is behind a node -/
def cnE (D : ZD) (eng : Int) (e : PT) : List Int := cn D eng (490 - e.length) e
def encN (l : Int × Int × Int × Int) (cs : List (List Int)) : List Int := l.1 :: l.2.1 :: l.2.2.1 :: l.2.2.2 :: cs.flatMap fun c => (c.length : Int) :: c
theorem fl_inj : ∀ (A B : List (List Int)), A.length = B.length → (A.flatMap fun c => (c.length : Int) :: c) = (B.flatMap fun c => (c.length : Int) :: c) → A = B
  | [], [], _, _ => rfl
  | [], b :: B, h, _ => by simp at h
  | a :: A, [], h, _ => by simp at h
  | a :: A, b :: B, h, e => by
    rw [List.flatMap_cons, List.flatMap_cons, List.cons_append, List.cons_append] at e
    injection e with e1 e2
    obtain ⟨e3, e4⟩ := List.append_inj e2 (by omega)
    rw [e3, fl_inj A B (by simpa using h) e4]
theorem encN_inj {l l' : Int × Int × Int × Int} {A B : List (List Int)} (hA : (A.length : Int) = l.2.2.2) (hB : (B.length : Int) = l'.2.2.2) : encN l A = encN l' B ↔ l = l' ∧ A = B := by
  constructor
  · intro h
    unfold encN at h
    injection h with h1 h
    injection h with h2 h
    injection h with h3 h
    injection h with h4 h
    refine ⟨?_, fl_inj A B (by omega) h⟩
    obtain ⟨a, b, c, d⟩ := l
    obtain ⟨a', b', c', d'⟩ := l'
    dsimp only at h1 h2 h3 h4
    rw [h1, h2, h3, h4]
  · rintro ⟨rfl, rfl⟩; rfl
/-- the codes behind a node -/
def kc2 (D : ZD) (eng : Int) (e : PT) : List (List Int) := (kids (nl D eng e) e).map (cnE D eng)
/-- a node that asks for nothing: all that is behind it is alike -/
def Ndl (D : ZD) (eng : Int) (e : PT) : Prop := (nl D eng e).1 = 5 ∧ 0 < (nl D eng e).2.2.2 ∧ ∀ k : Nat, (k : Int) < (nl D eng e).2.2.2 → cnE D eng (stp (nl D eng e) k :: e) = cnE D eng (stp (nl D eng e) 0 :: e)
theorem chd_kids (D : ZD) (eng : Int) (e : PT) : chd D eng e = kids (nl D eng e) e := rfl
theorem cnE_s {D : ZD} {eng : Int} (hM : MI D) {e : PT} (hN : isN D eng e) : (Ndl D eng e → cnE D eng e = cnE D eng (stp (nl D eng e) 0 :: e)) ∧ (¬ Ndl D eng e → cnE D eng e = encN (nl D eng e) (kc2 D eng e)) := by
  have hlen := isN_len hM hN
  have key : ∀ f, f + 1 = 490 - e.length → cnE D eng e = (if (nl D eng e).1 = 5 ∧ 0 < (nl D eng e).2.2.2 ∧ ∀ q ∈ chd D eng e, cn D eng f q = cn D eng f (((nl D eng e).1, (nl D eng e).2.1, (nl D eng e).2.2.1, 0) :: e)
    then cn D eng f (((nl D eng e).1, (nl D eng e).2.1, (nl D eng e).2.2.1, 0) :: e)
    else (nl D eng e).1 :: (nl D eng e).2.1 :: (nl D eng e).2.2.1 :: (nl D eng e).2.2.2 :: (chd D eng e).flatMap fun q => (((cn D eng f q).length : Int)) :: cn D eng f q) := fun f hf => by
    unfold cnE
    rw [← hf]
    rfl
  have kf : ∀ f, f + 1 = 490 - e.length → ∀ st, cn D eng f (st :: e) = cnE D eng (st :: e) := fun f hf st => by
    unfold cnE
    rw [List.length_cons, show 490 - (e.length + 1) = f by omega]
  obtain ⟨f, hf⟩ : ∃ f, f + 1 = 490 - e.length := ⟨489 - e.length, by omega⟩
  have hk := key f hf
  have hkf := kf f hf
  have iff1 : Ndl D eng e ↔ ((nl D eng e).1 = 5 ∧ 0 < (nl D eng e).2.2.2 ∧ ∀ q ∈ chd D eng e, cn D eng f q = cn D eng f (((nl D eng e).1, (nl D eng e).2.1, (nl D eng e).2.2.1, 0) :: e)) := by
    unfold Ndl
    refine ⟨fun h => ⟨h.1, h.2.1, fun q hq => ?_⟩, fun h => ⟨h.1, h.2.1, fun k hk => ?_⟩⟩
    · rw [chd_kids] at hq
      obtain ⟨v, hv, rfl⟩ := kids_mem hq
      rw [hkf, hkf]
      exact h.2.2 v hv
    · have := h.2.2 _ (by
        rw [chd_kids]
        exact List.mem_iff_getElem?.mpr ⟨k, kids_at hk⟩)
      rw [hkf, hkf] at this
      exact this
  refine ⟨fun h => ?_, fun h => ?_⟩
  · rw [hk, if_pos (iff1.mp h), hkf]; rfl
  · rw [hk, if_neg (fun z => h (iff1.mpr z))]
    unfold encN kc2
    rw [chd_kids]
    congr 4
    rw [List.flatMap_map]
    refine fm_congr (fun q hq => ?_)
    obtain ⟨v, hv, rfl⟩ := kids_mem hq
    rw [hkf]
theorem kc2_len {D : ZD} {eng : Int} (hM : MI D) {e : PT} (hN : isN D eng e) : ((kc2 D eng e).length : Int) = (nl D eng e).2.2.2 := by
  have := nl_10 hM hN
  unfold kc2
  rw [List.length_map, kids_len]; omega
theorem kc2_at {D : ZD} {eng : Int} {e : PT} {k : Nat} (hk : (k : Int) < (nl D eng e).2.2.2) : (kc2 D eng e)[k]? = some (cnE D eng (stp (nl D eng e) k :: e)) := by
  unfold kc2
  rw [List.getElem?_map, kids_at hk]; rfl
/-- nodes that ask alike tell alike where all that is behind them does -/
theorem cnE_iff {D : ZD} {eng : Int} (hM : MI D) {e e' : PT} (hN : isN D eng e) (hN' : isN D eng e') (h : ¬ Ndl D eng e) (h' : ¬ Ndl D eng e') : cnE D eng e = cnE D eng e' ↔ nl D eng e = nl D eng e' ∧ ∀ k : Nat, (k : Int) < (nl D eng e).2.2.2 → cnE D eng (stp (nl D eng e) k :: e) = cnE D eng (stp (nl D eng e') k :: e') := by
  have la := kc2_len hM hN
  have lb := kc2_len hM hN'
  rw [(cnE_s hM hN).2 h, (cnE_s hM hN').2 h', encN_inj la lb]
  refine and_congr_right (fun hl => ⟨fun he k hk => ?_, fun hk => List.ext_getElem? (fun k => ?_)⟩)
  · have a := kc2_at hk
    rw [he] at a
    have b := kc2_at (D := D) (eng := eng) (e := e') (k := k) (by rw [← hl]; exact hk)
    rw [a] at b
    exact Option.some.inj b
  · by_cases hk2 : (k : Int) < (nl D eng e).2.2.2
    · rw [kc2_at hk2, kc2_at (by rw [← hl]; exact hk2), hk k hk2]
    · rw [List.getElem?_eq_none (by omega), List.getElem?_eq_none (by rw [hl] at hk2; omega)]
/-- how many nodes there are when alike ones are one -/
def ShA (D : ZD) (eng r : Int) : Prop := ∃ R : List (List Int), R.Nodup ∧ (∀ x, x ∈ R ↔ ∃ q, isN D eng q ∧ cnE D eng q = x) ∧ r = (R.length : Int)
theorem ShA.uniq {D : ZD} {eng r r' : Int} (h : ShA D eng r) (h' : ShA D eng r') : r = r' := by
  obtain ⟨R, r1, r2, rfl⟩ := h
  obtain ⟨T, t1, t2, rfl⟩ := h'
  have a := nd_le R T r1 (fun x hx => (t2 x).mpr ((r2 x).mp hx))
  have b := nd_le T R t1 (fun x hx => (r2 x).mpr ((t2 x).mp hx))
  omega
