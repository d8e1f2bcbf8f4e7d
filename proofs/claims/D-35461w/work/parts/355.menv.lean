/-! REFERENCE: the matching machine, in continuations -/
set_option maxRecDepth 100000
/-- what the machine looks at: facts A, views V; Iv: a state of the reference in which the looking stands at s -/
def ME {σ : Type} (D : ZD) (A V : Int → Int → σ → Int × σ) (C : σ → σ) (Iv As : ZG → σ → Prop) (T : Nat → Int → Int → Prop) (b : Bool) : Prop :=
  (∀ {K : ZG} {s : σ}, Iv K s → ∀ j, 1 ≤ j → j ≤ 29 → zsg K 5 j = D j) ∧
  (∀ {K : ZG} {s : σ}, Iv K s → zsg K 5 40 0 = bb b) ∧
  (∀ {K : ZG} {K' : ZG} {s : σ}, Iv K s → Mo K K' → (∀ j, ¬ (32 ≤ j ∧ j ≤ 39) → ¬ (42 ≤ j ∧ j ≤ 45) → zsg K' 5 j = zsg K 5 j) → Iv K' s) ∧
  (∀ {d : Nat} {p : Int} {k : Int}, T d p k → d ≤ 3 → p ∈ pl d) ∧
  (∀ {d : Nat} {p : Int} {k : Int} (s : σ), T d p k → d ≤ 3 → -1 ≤ (A p k s).1 ∧ (A p k s).1 ≤ 9 ∧ (k = 5 → (A p k s).1 ≤ 3)) ∧
  (∀ {K : ZG} {s : σ} {d : Nat} {p : Int} {k : Int} {Q : Int → ZG → Prop}, Iv K s → T d p k → d ≤ 3 → (∀ K', Mo K K' → (∀ j, j ≠ 45 → zsg K' 5 j = zsg K 5 j) → Q (if (A p k s).1 = -1 then -9 else (A p k s).1) K') → vX6_factAt p K Q) ∧
  (∀ {K : ZG} {s : σ} {d : Nat} {p : Int} {k : Int}, Iv K s → T d p k → d ≤ 3 → (A p k s).1 = -1 → Iv (zss (zss K 5 42 0 5) 5 44 0 p) (A p k s).2 ∧ As (zss (zss K 5 42 0 5) 5 44 0 p) (A p k s).2) ∧
  (∀ {K : ZG} {s : σ} {d : Nat} {p : Int} {k : Int}, Iv K s → T d p k → d ≤ 3 → (A p k s).1 ≠ -1 → Iv (zss K 5 47 0 (w32 (zsg K 5 47 0 + bb b))) (A p k s).2) ∧
  (∀ {K : ZG} {s : σ}, Iv K s → Iv (zss K 5 47 0 (w32 (zsg K 5 47 0 + bb b))) (C s)) ∧
  (∀ {K : ZG} {s : σ} {d : Nat} {v : Int} {p : Int} {k : Int} {Q : Int → ZG → Prop}, Iv K s → T d p k → d ≤ 3 → 0 ≤ v ∧ v ≤ 2 → (-1 ≤ (V v p s).1 ∧ (V v p s).1 ≤ 9 → ∀ K', Mo K K' → (∀ j, j ≠ 45 → (j < 48 ∨ 51 < j) → zsg K' 5 j = zsg K 5 j) → Iv K' (V v p s).2 → Q (if (V v p s).1 = -1 then -9 else (V v p s).1) K') → vX6_gave v p K Q) ∧
  (∀ {H : ZG} {K : ZG} {s : σ} {d : Nat} {v : Int} {p : Int} {k : Int}, Iv H s → T d p k → d ≤ 3 → 0 ≤ v ∧ v ≤ 2 → (V v p s).1 = -1 → Iv K (V v p s).2 → Iv (zss (zss (zss K 5 42 0 4) 5 43 0 v) 5 44 0 p) (V v p s).2 ∧ As (zss (zss (zss K 5 42 0 4) 5 43 0 v) 5 44 0 p) (V v p s).2) ∧
  (∀ {s : σ} {d : Nat} {n : Int} {p : Int} {k : Int} {i : Int}, T d p k → d ≤ 3 → 0 ≤ n → n < D 9 0 → D 10 n = 3 → fitk D n k → (A p (D 11 n / 4) s).1 = D 11 n % 4 → 0 ≤ i → i < D 2 (D 11 n) → T (d + 1) (5 * p + 0 + i + 1) (D 3 (3 * D 11 n + i))) ∧
  (∀ {s : σ} {d : Nat} {n : Int} {p : Int} {k : Int} {i : Int}, T d p k → d ≤ 3 → 0 ≤ n → n < D 9 0 → D 10 n = 6 → fitk D n k → (A p 5 s).1 ≠ -1 → fitl D n (A p 5 s).1 = true → 0 ≤ i → i < D 11 n → T (d + 1) (5 * p + begl D n (A p 5 s).1 + i + 1) 4)
theorem ME.dt {σ : Type} {D : ZD} {A V : Int → Int → σ → Int × σ} {C : σ → σ} {Iv As : ZG → σ → Prop} {T : Nat → Int → Int → Prop} {b : Bool} (E : ME D A V C Iv As T b) : ∀ {K : ZG} {s : σ}, Iv K s → ∀ j, 1 ≤ j → j ≤ 29 → zsg K 5 j = D j := E.1
theorem ME.re {σ : Type} {D : ZD} {A V : Int → Int → σ → Int × σ} {C : σ → σ} {Iv As : ZG → σ → Prop} {T : Nat → Int → Int → Prop} {b : Bool} (E : ME D A V C Iv As T b) : ∀ {K : ZG} {s : σ}, Iv K s → zsg K 5 40 0 = bb b := E.2.1
theorem ME.st {σ : Type} {D : ZD} {A V : Int → Int → σ → Int × σ} {C : σ → σ} {Iv As : ZG → σ → Prop} {T : Nat → Int → Int → Prop} {b : Bool} (E : ME D A V C Iv As T b) : ∀ {K : ZG} {K' : ZG} {s : σ}, Iv K s → Mo K K' → (∀ j, ¬ (32 ≤ j ∧ j ≤ 39) → ¬ (42 ≤ j ∧ j ≤ 45) → zsg K' 5 j = zsg K 5 j) → Iv K' s := E.2.2.1
theorem ME.tr {σ : Type} {D : ZD} {A V : Int → Int → σ → Int × σ} {C : σ → σ} {Iv As : ZG → σ → Prop} {T : Nat → Int → Int → Prop} {b : Bool} (E : ME D A V C Iv As T b) : ∀ {d : Nat} {p : Int} {k : Int}, T d p k → d ≤ 3 → p ∈ pl d := E.2.2.2.1
theorem ME.ar {σ : Type} {D : ZD} {A V : Int → Int → σ → Int × σ} {C : σ → σ} {Iv As : ZG → σ → Prop} {T : Nat → Int → Int → Prop} {b : Bool} (E : ME D A V C Iv As T b) : ∀ {d : Nat} {p : Int} {k : Int} (s : σ), T d p k → d ≤ 3 → -1 ≤ (A p k s).1 ∧ (A p k s).1 ≤ 9 ∧ (k = 5 → (A p k s).1 ≤ 3) := E.2.2.2.2.1
theorem ME.fact {σ : Type} {D : ZD} {A V : Int → Int → σ → Int × σ} {C : σ → σ} {Iv As : ZG → σ → Prop} {T : Nat → Int → Int → Prop} {b : Bool} (E : ME D A V C Iv As T b) : ∀ {K : ZG} {s : σ} {d : Nat} {p : Int} {k : Int} {Q : Int → ZG → Prop}, Iv K s → T d p k → d ≤ 3 → (∀ K', Mo K K' → (∀ j, j ≠ 45 → zsg K' 5 j = zsg K 5 j) → Q (if (A p k s).1 = -1 then -9 else (A p k s).1) K') → vX6_factAt p K Q := E.2.2.2.2.2.1
theorem ME.asA {σ : Type} {D : ZD} {A V : Int → Int → σ → Int × σ} {C : σ → σ} {Iv As : ZG → σ → Prop} {T : Nat → Int → Int → Prop} {b : Bool} (E : ME D A V C Iv As T b) : ∀ {K : ZG} {s : σ} {d : Nat} {p : Int} {k : Int}, Iv K s → T d p k → d ≤ 3 → (A p k s).1 = -1 → Iv (zss (zss K 5 42 0 5) 5 44 0 p) (A p k s).2 ∧ As (zss (zss K 5 42 0 5) 5 44 0 p) (A p k s).2 := E.2.2.2.2.2.2.1
theorem ME.tkA {σ : Type} {D : ZD} {A V : Int → Int → σ → Int × σ} {C : σ → σ} {Iv As : ZG → σ → Prop} {T : Nat → Int → Int → Prop} {b : Bool} (E : ME D A V C Iv As T b) : ∀ {K : ZG} {s : σ} {d : Nat} {p : Int} {k : Int}, Iv K s → T d p k → d ≤ 3 → (A p k s).1 ≠ -1 → Iv (zss K 5 47 0 (w32 (zsg K 5 47 0 + bb b))) (A p k s).2 := E.2.2.2.2.2.2.2.1
theorem ME.tkC {σ : Type} {D : ZD} {A V : Int → Int → σ → Int × σ} {C : σ → σ} {Iv As : ZG → σ → Prop} {T : Nat → Int → Int → Prop} {b : Bool} (E : ME D A V C Iv As T b) : ∀ {K : ZG} {s : σ}, Iv K s → Iv (zss K 5 47 0 (w32 (zsg K 5 47 0 + bb b))) (C s) := E.2.2.2.2.2.2.2.2.1
theorem ME.gave {σ : Type} {D : ZD} {A V : Int → Int → σ → Int × σ} {C : σ → σ} {Iv As : ZG → σ → Prop} {T : Nat → Int → Int → Prop} {b : Bool} (E : ME D A V C Iv As T b) : ∀ {K : ZG} {s : σ} {d : Nat} {v : Int} {p : Int} {k : Int} {Q : Int → ZG → Prop}, Iv K s → T d p k → d ≤ 3 → 0 ≤ v ∧ v ≤ 2 → (-1 ≤ (V v p s).1 ∧ (V v p s).1 ≤ 9 → ∀ K', Mo K K' → (∀ j, j ≠ 45 → (j < 48 ∨ 51 < j) → zsg K' 5 j = zsg K 5 j) → Iv K' (V v p s).2 → Q (if (V v p s).1 = -1 then -9 else (V v p s).1) K') → vX6_gave v p K Q := E.2.2.2.2.2.2.2.2.2.1
theorem ME.asV {σ : Type} {D : ZD} {A V : Int → Int → σ → Int × σ} {C : σ → σ} {Iv As : ZG → σ → Prop} {T : Nat → Int → Int → Prop} {b : Bool} (E : ME D A V C Iv As T b) : ∀ {H : ZG} {K : ZG} {s : σ} {d : Nat} {v : Int} {p : Int} {k : Int}, Iv H s → T d p k → d ≤ 3 → 0 ≤ v ∧ v ≤ 2 → (V v p s).1 = -1 → Iv K (V v p s).2 → Iv (zss (zss (zss K 5 42 0 4) 5 43 0 v) 5 44 0 p) (V v p s).2 ∧ As (zss (zss (zss K 5 42 0 4) 5 43 0 v) 5 44 0 p) (V v p s).2 := E.2.2.2.2.2.2.2.2.2.2.1
theorem ME.t3 {σ : Type} {D : ZD} {A V : Int → Int → σ → Int × σ} {C : σ → σ} {Iv As : ZG → σ → Prop} {T : Nat → Int → Int → Prop} {b : Bool} (E : ME D A V C Iv As T b) : ∀ {s : σ} {d : Nat} {n : Int} {p : Int} {k : Int} {i : Int}, T d p k → d ≤ 3 → 0 ≤ n → n < D 9 0 → D 10 n = 3 → fitk D n k → (A p (D 11 n / 4) s).1 = D 11 n % 4 → 0 ≤ i → i < D 2 (D 11 n) → T (d + 1) (5 * p + 0 + i + 1) (D 3 (3 * D 11 n + i)) := E.2.2.2.2.2.2.2.2.2.2.2.1
theorem ME.t6 {σ : Type} {D : ZD} {A V : Int → Int → σ → Int × σ} {C : σ → σ} {Iv As : ZG → σ → Prop} {T : Nat → Int → Int → Prop} {b : Bool} (E : ME D A V C Iv As T b) : ∀ {s : σ} {d : Nat} {n : Int} {p : Int} {k : Int} {i : Int}, T d p k → d ≤ 3 → 0 ≤ n → n < D 9 0 → D 10 n = 6 → fitk D n k → (A p 5 s).1 ≠ -1 → fitl D n (A p 5 s).1 = true → 0 ≤ i → i < D 11 n → T (d + 1) (5 * p + begl D n (A p 5 s).1 + i + 1) 4 := E.2.2.2.2.2.2.2.2.2.2.2.2
/-- what comes behind a step that fails -/
def tn (P : ZG → Prop) (Q : Int → ZG → Prop) (H : ZG) : Prop := vX6_turns H fun (x7 : Int) (G4 : ZG) => zbr (x7 ≠ 0) (P G4) (Q 1 G4)
def goJ (P : ZG → Prop) (Q : Int → ZG → Prop) (r : Int) (H : ZG) : Prop := zbr (r = 2) (Q r H) (zbr (r ≠ 1) (P H) (vX6_turns H fun (x7 : Int) (G4 : ZG) => zbr (x7 ≠ 0) (P G4) (Q r G4)))
theorem goJ0 {P : ZG → Prop} {Q : Int → ZG → Prop} {H : ZG} (h : P H) : goJ P Q 0 H := by unfold goJ; rw [zbr_neg (by omega), zbr_pos (by omega)]; exact h
theorem goJ1 {P : ZG → Prop} {Q : Int → ZG → Prop} {H : ZG} (h : tn P Q H) : goJ P Q 1 H := by unfold goJ; rw [zbr_neg (by omega), zbr_neg (by omega)]; exact h
theorem goJ2 {P : ZG → Prop} {Q : Int → ZG → Prop} {H : ZG} (h : Q 2 H) : goJ P Q 2 H := by unfold goJ; rw [zbr_pos rfl]; exact h
/-- one turn of the loop over what is laid -/
def bodyT (Q : Int → ZG → Prop) (P65 : ZG → Prop) (K65 : ZG) : Prop := zgF K65 5 34 fun (x3 : Int) => zbr (x3 ≤ 0) (Q 0 K65) (zgF K65 5 34 fun (x4 : Int) => zpF K65 5 34 (w32 (x4 - 1)) fun (G3 : ZG) => zgF G3 5 34 fun (x5 : Int) => zaL G3 5 32 256 x5 fun (x6 : Int) => zjn (fun (z124_0 : Int) (H124 : ZG) => zjn (fun (H142 : ZG) => Q z124_0 H142) fun J142 => zbr (z124_0 = 2) (J142 H124) (zjn (fun (H144 : ZG) => P65 H144) fun J144 => zbr (z124_0 ≠ 1) (J144 H124) (vX6_turns H124 fun (x7 : Int) (G4 : ZG) => zbr (x7 ≠ 0) (J144 G4) (J142 G4)))) fun J124 => zbr (x6 ≠ (-1)) (zgF G3 5 34 fun (x8 : Int) => zaL G3 5 32 256 x8 fun (x9 : Int) => zgF G3 5 34 fun (x10 : Int) => zaL G3 5 33 256 x10 fun (x11 : Int) => vX6_matches x9 x11 G3 fun (x12 : Int) (G5 : ZG) => J124 x12 G5) (vX6_took G3 fun (x13 : Int) (G6 : ZG) => J124 x13 G6))
theorem sth_at {K : ZG} {t n p : Int} {L : List (Int × Int)} (t0 : 0 ≤ t) (h : sth K (t + 1) = L ++ [(n, p)]) : sth K t = L ∧ zsg K 5 32 t = n ∧ zsg K 5 33 t = p := by
  rw [sth_pop K t0] at h
  have := List.append_inj' h rfl
  refine ⟨this.1, ?_⟩
  have e := this.2
  simp only [List.cons.injEq, Prod.mk.injEq, and_true] at e
  exact e
theorem pop_pat {P : ZG → Prop} {Q : Int → ZG → Prop} {K : ZG} {t n p : Int} {L : List (Int × Int)} (ht : zsg K 5 34 0 = t + 1) (t0 : 0 ≤ t) (t1 : t < 250) (hs : sth K (t + 1) = L ++ [(n, p)]) (hn : n ≠ -1) (h : vX6_matches n p (zss K 5 34 0 t) (goJ P Q)) : bodyT Q P K := by
  have a := sth_at t0 hs
  unfold bodyT
  have e34 : zsg (zss K 5 34 0 t) 5 34 0 = t := by rw [zsg_ss, if_pos ⟨rfl, rfl, rfl⟩]
  rw [zgF_e, ht, zbr_neg (by omega), zgF_e, ht, zpF_e, w32_eq (by omega) (by omega), show t + 1 - 1 = t by omega, zgF_e, e34]
  refine zaL_i t0 (by omega) ?_
  rw [z5_ne (by omega), a.2.1, zjn_e, zbr_pos hn, zgF_e, e34]
  refine zaL_i t0 (by omega) ?_
  rw [zgF_e, e34]
  refine zaL_i t0 (by omega) ?_
  rw [z5_ne (by omega), z5_ne (by omega), a.2.1, a.2.2]
  exact h
theorem pop_mark {P : ZG → Prop} {Q : Int → ZG → Prop} {K : ZG} {t m : Int} {L : List (Int × Int)} (ht : zsg K 5 34 0 = t + 1) (t0 : 0 ≤ t) (t1 : t < 250) (hs : sth K (t + 1) = L ++ [(-1, 0)]) (hm : zsg K 5 38 0 = m + 1) (m0 : 0 ≤ m) (m1 : m < 64) (h : P (zss (zss K 5 34 0 t) 5 38 0 m)) : bodyT Q P K := by
  have a := sth_at t0 hs
  unfold bodyT vX6_took
  have e34 : zsg (zss K 5 34 0 t) 5 34 0 = t := by rw [zsg_ss, if_pos ⟨rfl, rfl, rfl⟩]
  rw [zgF_e, ht, zbr_neg (by omega), zgF_e, ht, zpF_e, w32_eq (by omega) (by omega), show t + 1 - 1 = t by omega, zgF_e, e34]
  refine zaL_i t0 (by omega) ?_
  rw [z5_ne (by omega), a.2.1, zjn_e, zbr_neg (by omega), zgF_e, z5_ne (by omega), hm, zpF_e, w32_eq (by omega) (by omega), show m + 1 - 1 = m by omega]
  exact goJ0 h
theorem pop_end {P : ZG → Prop} {Q : Int → ZG → Prop} {K : ZG} (ht : zsg K 5 34 0 = 0) (h : Q 0 K) : bodyT Q P K := by
  unfold bodyT
  rw [zgF_e, ht, zbr_pos (by omega)]; exact h
/-- what is laid below t and the first m alternatives are as they were -/
def Wk (K K' : ZG) (t m : Int) : Prop := (∀ u, 0 ≤ u → u ≤ t → sth K' u = sth K u) ∧ ∀ i, 0 ≤ i → i < m → zsg K' 5 35 i = zsg K 5 35 i ∧ zsg K' 5 36 i = zsg K 5 36 i ∧ zsg K' 5 37 i = zsg K 5 37 i
theorem Wk.refl (K : ZG) (t m : Int) : Wk K K t m := ⟨fun _ _ _ => rfl, fun _ _ _ => ⟨rfl, rfl, rfl⟩⟩
theorem Wk.trans {K H J : ZG} {t m : Int} (h : Wk K H t m) (g : Wk H J t m) : Wk K J t m := ⟨fun u u0 u1 => (g.1 u u0 u1).trans (h.1 u u0 u1), fun i i0 i1 => ⟨(g.2 i i0 i1).1.trans (h.2 i i0 i1).1, (g.2 i i0 i1).2.1.trans (h.2 i i0 i1).2.1, (g.2 i i0 i1).2.2.trans (h.2 i i0 i1).2.2⟩⟩
theorem Wk.mono {K H : ZG} {t m t' m' : Int} (h : Wk K H t m) (ht : t' ≤ t) (hm : m' ≤ m) : Wk K H t' m' := ⟨fun u u0 u1 => h.1 u u0 (by omega), fun i i0 i1 => h.2 i i0 (by omega)⟩
theorem Wk.of {K H : ZG} {t m : Int} (h : ∀ j, j ≠ 34 → 32 ≤ j → j ≤ 37 → zsg H 5 j = zsg K 5 j) : Wk K H t m := ⟨fun u _ _ => sth_congr (fun j _ _ => by rw [h 32 (by omega) (by omega) (by omega), h 33 (by omega) (by omega) (by omega)]; exact ⟨rfl, rfl⟩), fun i _ _ => by rw [h 35 (by omega) (by omega) (by omega), h 36 (by omega) (by omega) (by omega), h 37 (by omega) (by omega) (by omega)]; exact ⟨rfl, rfl, rfl⟩⟩
theorem Mo.s34 (K : ZG) (x : Int) : Mo K (zss K 5 34 0 x) := (Mo.refl K).ss _ _ _
/-- alternatives: the machine at one, by its two -/
theorem mach_or {P : ZG → Prop} {Q : Int → ZG → Prop} {D : ZD} (hc : ∀ K, bodyT Q P K → P K) {K : ZG} {n p t m : Int} (Y N : ZG → Prop) (hK : ∀ j, 1 ≤ j → j ≤ 29 → zsg K 5 j = D j) (h0 : 0 ≤ n) (h1 : n < 60) (e4 : D 10 n = 4) (hn0 : 0 ≤ prt D n 0) (hn1 : 0 ≤ prt D n 1)
    (ht : zsg K 5 34 0 = t + 1) (t0 : 0 ≤ t) (t1 : t < 240) (hs : sth K (t + 1) = sth K t ++ [(n, p)]) (hm : zsg K 5 38 0 = m) (m0 : 0 ≤ m) (m1 : m < 62)
    (first : ∀ K', Mo K K' → (∀ j, j < 32 ∨ 38 < j → zsg K' 5 j = zsg K 5 j) → Wk K K' t m → zsg K' 5 34 0 = t + 1 + 1 → sth K' (t + 1 + 1) = sth K' (t + 1) ++ [(prt D n 0, p)] → zsg K' 5 38 0 = m + 1 →
      (∀ K2, Wk K' K2 (t + 1) (m + 1) → zsg K2 5 34 0 = t + 1 → zsg K2 5 38 0 = m + 1 → (∀ K3, Mo K2 K3 → (∀ j, j ≠ 34 → j ≠ 38 → zsg K3 5 j = zsg K2 5 j) → Wk K K3 t m → zsg K3 5 34 0 = t → zsg K3 5 38 0 = m → Y K3 → P K3) → (Y (zss (zss K2 5 34 0 t) 5 38 0 m)) → P K2) →
      (∀ K2, Wk K' K2 (t + 1) (m + 1) → zsg K2 5 38 0 = m + 1 → (∀ K3, Mo K2 K3 → (∀ j, j ≠ 32 → j ≠ 33 → j ≠ 34 → j ≠ 38 → zsg K3 5 j = zsg K2 5 j) → Wk K K3 t m → zsg K3 5 34 0 = t + 1 → zsg K3 5 38 0 = m → sth K3 (t + 1) = sth K3 t ++ [(prt D n 1, p)] → P K3) → tn P Q K2) → P K') : P K := by
  refine hc K (pop_pat ht t0 (by omega) hs (by omega) ?_)
  refine w6_stepEither (t := t) (m := m) h0 h1 (fun j j0 j1 => by rw [z5_ne (by omega), hK j j0 j1]) e4 (by rw [zsg_ss, if_pos ⟨rfl, rfl, rfl⟩]) t0 (by omega) (by rw [z5_ne (by omega), hm]) m0 (by omega) (fun K' mo hK' hm' h35 h36 h37 ht' hu hs' => goJ0 ?_)
  have es : ∀ u, sth (zss K 5 34 0 t) u = sth K u := fun u => sth_congr (fun j _ _ => by rw [z5_ne (by omega), z5_ne (by omega)]; exact ⟨rfl, rfl⟩)
  rw [es] at hs'
  rw [show t + 2 = t + 1 + 1 by omega, show [((-1 : Int), (0 : Int)), (prt D n 0, p)] = [(-1, 0)] ++ [(prt D n 0, p)] from rfl, ← List.append_assoc] at hs'
  have a1 := sth_at (by omega) hs'
  have a2 := sth_at t0 a1.1
  have w1 : Wk K K' t m := ⟨fun u u0 u1 => by rw [hu u u0 u1, es], fun i i0 i1 => by
    rw [h35, h36, h37, if_neg (by omega), if_neg (by omega), if_neg (by omega), z5_ne (by omega), z5_ne (by omega), z5_ne (by omega)]; exact ⟨rfl, rfl, rfl⟩⟩
  refine first K' ((Mo.s34 K t).trans mo) (fun j hj => by rw [hK' j hj, z5_ne (by omega)]) w1 (by omega) (by rw [a1.1]; exact hs') hm' (fun K2 w2 ht2 hm2 h hy => ?_) (fun K2 w2 hm2 h => ?_)
  · have e3 : sth K2 (t + 1) = sth K t ++ [(-1, 0)] := by rw [w2.1 (t + 1) (by omega) (by omega)]; exact a1.1
    refine hc K2 (pop_mark (m := m) ht2 t0 (by omega) e3 hm2 m0 (by omega) ?_)
    refine h _ (((Mo.refl K2).ss _ _ _).ss _ _ _) (fun j j1 j2 => by rw [z5_ne j2, z5_ne j1]) ?_ (by rw [z5_ne (by omega), zsg_ss, if_pos ⟨rfl, rfl, rfl⟩]) (by rw [zsg_ss, if_pos ⟨rfl, rfl, rfl⟩]) hy
    exact (w1.trans (w2.mono (by omega) (by omega))).trans (Wk.of fun j j1 j2 _ => by rw [z5_ne (by omega), z5_ne j1])
  · have c := w2.2 m m0 (by omega)
    unfold tn
    refine w6_turns1 (t := t) hm2 (by omega) (by omega) (by rw [show m + 1 - 1 = m by omega, c.1, h35, if_pos rfl]) t0 (by omega) (fun K3 mo3 hK3 hm3 ht3 hu3 hs3 => ?_)
    rw [zbr_pos (by omega)]
    refine h K3 mo3 hK3 ?_ ht3 (by omega) ?_
    · refine (w1.trans (w2.mono (by omega) (by omega))).trans ⟨fun u u0 u1 => hu3 u u0 u1, fun i i0 i1 => ?_⟩
      rw [hK3 35 (by omega) (by omega) (by omega) (by omega), hK3 36 (by omega) (by omega) (by omega) (by omega), hK3 37 (by omega) (by omega) (by omega) (by omega)]; exact ⟨rfl, rfl, rfl⟩
    · rw [hs3, hu3 t t0 (by omega), show m + 1 - 1 = m by omega, c.2.1, c.2.2, h36, h37, if_pos rfl, if_pos rfl]
