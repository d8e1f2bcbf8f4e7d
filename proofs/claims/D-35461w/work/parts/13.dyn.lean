/-! ROWS 6: dynamic cells -/
set_option maxRecDepth 100000
section ZDY
variable {p : Program} {l : Launch} {e : Env} {R : Room} {s : State} {m : MethodId} {args : Array Value} {below : List Frame} {meth : Method} {c : Code} {H : Heap} {locs : List Loc} {cells slots : Nat} {Q : State → Prop}
variable {cc : ByteArray} {pc nL : Nat} {ls : Array Slot} {rest : List Value} {P : ZP} {G : ZG} {own : String}
theorem zdob (hG : zS P s G H locs) {a ci : Nat} {fs : List ZF} (hj : zsj G a = some (.inr (.inr (ci, fs)))) : t_OB a (P.1.1 ci) (cN ci) (P.1.2 ci) H (fun q => zfv P (fs.getD q (.inl 0))) ∧ 1 ≤ ci ∧ ci ≤ 16 ∧ fs.length = cN ci ∧ (∀ x, .inl x ∈ fs → inR x) ∧ zB P ≤ a := by
  obtain ⟨h1, ⟨h2, h3, h4, h5⟩, h6, -⟩ := hG.1.2.1 a _ hj
  exact ⟨h1, h2, h3, h4, h5, h6⟩
theorem zdia (hG : zS P s G H locs) {a : Nat} {l : List Int} (hj : zsj G a = some (.inl (0, l))) : H[a]? = some (arrV (P.2.1 0) l.length (fun q => .int (zI (l.getD q 0)))) ∧ (∀ x ∈ l, inR x) ∧ zB P ≤ a ∧ l.length ≤ 100000000 := by
  obtain ⟨h1, ⟨h2, h3⟩, h6, -⟩ := hG.1.2.1 a _ hj
  exact ⟨h1, h2, h6, h3⟩
theorem zdra (hG : zS P s G H locs) {a k : Nat} {l : List ZR} (hj : zsj G a = some (.inr (.inl (k, l)))) : H[a]? = some (arrV (P.2.1 k) l.length (fun q => zrv P (l.getD q none))) ∧ (3 ≤ k ∧ k ≤ 6) ∧ zB P ≤ a ∧ l.length ≤ 100000000 := by
  obtain ⟨h1, ⟨h2, h3, h4⟩, h6, -⟩ := hG.1.2.1 a _ hj
  exact ⟨h1, ⟨h2, h3⟩, h6, h4⟩
theorem z_dI (hC : zCx P p m c cc nL s args own) (hG : zS P s G H locs) {r : ZR} {ci k idx : Nat} {V : Int → Prop} (hF : zFL own idx ci k) (hV : zdI G r ci k V) (hd : decode cc pc = .ok (.getfield idx, 3))
    (kk : ∀ x, inR x → V x → W p l e R s m args below meth c H locs cells slots Q (F0 m (pc + 3) ls (.int (zI x) :: rest))) : W p l e R s m args below meth c H locs cells slots Q (F0 m pc ls (zrv P r :: rest)) := by
  obtain ⟨a, fs, x, rfl, hj, hx, hV⟩ := hV
  obtain ⟨hO, -, -, -, h5, -⟩ := zdob hG hj
  refine zgetf hC hF hO hd ?_
  have e : zfv P (fs.getD k (.inl 0)) = .int (zI x) := by rw [List.getD_eq_getElem?_getD, hx]; rfl
  rw [e]
  exact kk x (h5 x (List.mem_of_getElem? hx)) hV
theorem z_dR (hC : zCx P p m c cc nL s args own) (hG : zS P s G H locs) {r : ZR} {ci k idx : Nat} {V : ZR → Prop} (hF : zFL own idx ci k) (hV : zdR G r ci k V) (hd : decode cc pc = .ok (.getfield idx, 3))
    (kk : ∀ x, V x → W p l e R s m args below meth c H locs cells slots Q (F0 m (pc + 3) ls (zrv P x :: rest))) : W p l e R s m args below meth c H locs cells slots Q (F0 m pc ls (zrv P r :: rest)) := by
  obtain ⟨a, fs, x, rfl, hj, hx, hV⟩ := hV
  obtain ⟨hO, -, -, -, h5, -⟩ := zdob hG hj
  refine zgetf hC hF hO hd ?_
  have e : zfv P (fs.getD k (.inl 0)) = zrv P x := by rw [List.getD_eq_getElem?_getD, hx]; rfl
  rw [e]
  exact kk x hV
theorem zfv_ty {v : ZF} {ty : FieldType} (h : (∃ x, v = .inl x ∧ (ty = .int ∨ (ty = .boolean ∧ (x = 0 ∨ x = 1)))) ∨ ((∃ r, v = .inr r) ∧ ((∃ n, ty = .object n) ∨ ∃ t, ty = .array t))) : narrow ty (zfv P v) = zfv P v ∧ fits ty (zfv P v) = true := by
  rcases h with ⟨x, rfl, h⟩ | ⟨⟨r, rfl⟩, h⟩
  · exact znarrow h
  · rcases h with ⟨n, rfl⟩ | ⟨t, rfl⟩ <;> rcases r with _ | a | o <;> exact ⟨rfl, rfl⟩
/-- the types of fields and values -/
def zty (ty : FieldType) (v : ZF) : Prop := (∃ x, v = .inl x ∧ (ty = .int ∨ (ty = .boolean ∧ (x = 0 ∨ x = 1)))) ∨ ((∃ r, v = .inr r) ∧ ((∃ n, ty = .object n) ∨ ∃ t, ty = .array t))
theorem zty_i {x : Int} : zty .int (.inl x) := Or.inl ⟨x, rfl, Or.inl rfl⟩
theorem zty_z {x : Int} (h : x = 0 ∨ x = 1) : zty .boolean (.inl x) := Or.inl ⟨x, rfl, Or.inr ⟨rfl, h⟩⟩
theorem zty_o {n : String} {r : ZR} : zty (.object n) (.inr r) := Or.inr ⟨⟨r, rfl⟩, Or.inl ⟨n, rfl⟩⟩
theorem zty_a {t : FieldType} {r : ZR} : zty (.array t) (.inr r) := Or.inr ⟨⟨r, rfl⟩, Or.inr ⟨t, rfl⟩⟩
def zvR (v : ZF) : Prop := ∀ x, v = .inl x → inR x
theorem zvR_i {x : Int} (h : inR x) : zvR (.inl x) := fun y e => by cases e; exact h
theorem zvR_r {r : ZR} : zvR (.inr r) := fun y e => by cases e
theorem zset_in {fs : List ZF} {k : Nat} {v : ZF} (h : ∀ x, .inl x ∈ fs → inR x) (hv : zvR v) : ∀ x, .inl x ∈ fs.set k v → inR x := by
  intro x hx
  rcases List.mem_or_eq_of_mem_set hx with h1 | h1
  · exact h x h1
  · exact hv x h1.symm
theorem zset_getD {α : Type} {l : List α} {k q : Nat} {v d : α} (hk : k < l.length) : (l.set k v).getD q d = if q = k then v else l.getD q d := by
  rw [List.getD_eq_getElem?_getD, List.getElem?_set]
  by_cases h : k = q
  · subst h
    simp [hk]
  · have h' : ¬ q = k := fun z => h z.symm
    simp [h, h', List.getD_eq_getElem?_getD]
/-- a field of a dynamic object is written -/
theorem z_dP (hC : zCx P p m c cc nL s args own) (hG : zS P s G H locs) {r : ZR} {ci k idx : Nat} {v : ZF} {V : ZG → Prop} (hF : zFL own idx ci k) (hfin : (cT ci k).2.2.2 = false) (hnm : ∀ q, q < cN ci → q ≠ k → (cT ci q).2.1 ≠ (cT ci k).2.1) (hty : zty (cF ci k) v) (hv : zvR v) (hV : zdP G r ci k v V) (hd : decode cc pc = .ok (.putfield idx, 3))
    (kk : ∀ G1 H1 locs1, zS P s G1 H1 locs1 → V G1 → W p l e R s m args below meth c H1 locs1 cells slots Q (F0 m (pc + 3) ls rest)) : W p l e R s m args below meth c H locs cells slots Q (F0 m pc ls (zfv P v :: zrv P r :: rest)) := by
  obtain ⟨a, fs, rfl, hj, hV⟩ := hV
  obtain ⟨hO, h1, h2, h4, h5, hB⟩ := zdob hG hj
  have hk : k < fs.length := by rw [h4]; exact hF.1
  refine zputf hC hF hO hfin (zfv_ty hty).1 (zfv_ty hty).2 hd fun H1 i W1 hO1 w1 w2 w3 z oq => ?_
  refine kk _ _ _ (hG.put (hG.1.dyn hj (c := .inr (.inr (ci, fs.set k v))) ⟨h1, h2, by rw [List.length_set]; exact h4, zset_in h5 hv⟩ ?_ oq) z oq hB) hV
  refine t_OB.to hO1 fun q hq => ?_
  rw [zset_getD hk]
  by_cases e : q = k
  · subst e
    rw [w1, if_pos rfl]
  · rw [w2 q hq (hnm q hq e), if_neg e]
/-- a final field, in the constructor -/
theorem z_dPF (hC : zCx P p m c cc nL s args own) (hG : zS P s G H locs) {r : ZR} {ci k idx : Nat} {v : ZF} {V : ZG → Prop} (hF : zFL own idx ci k) (hfin : (cT ci k).2.2.2 = true) (hin2 : meth.name = "<init>") (hdecl : (cT ci k).1 = own) (hnest : ∀ ref host, Cond.fieldLinkNest own idx ref (cT ci k).2.1 (cT ci k).2.2.1 host ∉ znx) (hnm : ∀ q, q < cN ci → q ≠ k → (cT ci q).2.1 ≠ (cT ci k).2.1) (hty : zty (cF ci k) v) (hv : zvR v) (hV : zdP G r ci k v V) (hd : decode cc pc = .ok (.putfield idx, 3))
    (kk : ∀ G1 H1 locs1, zS P s G1 H1 locs1 → V G1 → W p l e R s m args below meth c H1 locs1 cells slots Q (F0 m (pc + 3) ls rest)) : W p l e R s m args below meth c H locs cells slots Q (F0 m pc ls (zfv P v :: zrv P r :: rest)) := by
  obtain ⟨a, fs, rfl, hj, hV⟩ := hV
  obtain ⟨hO, h1, h2, h4, h5, hB⟩ := zdob hG hj
  have hk : k < fs.length := by rw [h4]; exact hF.1
  refine zputfF hC hF hO hfin hin2 hdecl (zfv_ty hty).1 (zfv_ty hty).2 hnest hd fun H1 i W1 hO1 w1 w2 w3 z oq => ?_
  refine kk _ _ _ (hG.put (hG.1.dyn hj (c := .inr (.inr (ci, fs.set k v))) ⟨h1, h2, by rw [List.length_set]; exact h4, zset_in h5 hv⟩ ?_ oq) z oq hB) hV
  refine t_OB.to hO1 fun q hq => ?_
  rw [zset_getD hk]
  by_cases e : q = k
  · subst e
    rw [w1, if_pos rfl]
  · rw [w2 q hq (hnm q hq e), if_neg e]
/-- a final field with a namesake k2, in the constructor -/
theorem z_dTF (hC : zCx P p m c cc nL s args own) (hG : zS P s G H locs) {r : ZR} {ci k k2 idx : Nat} {v : ZF} {V : ZG → Prop} (hF : zFL own idx ci k) (hfin : (cT ci k).2.2.2 = true) (hin2 : meth.name = "<init>") (hdecl : (cT ci k).1 = own) (hnest : ∀ ref host, Cond.fieldLinkNest own idx ref (cT ci k).2.1 (cT ci k).2.2.1 host ∉ znx) (hk2 : k2 < cN ci) (hne : k2 ≠ k) (hnm : ∀ q, q < cN ci → q ≠ k → q ≠ k2 → (cT ci q).2.1 ≠ (cT ci k).2.1) (hty : zty (cF ci k) v) (hv : zvR v) (hV : zdT G r ci k k2 v V) (hd : decode cc pc = .ok (.putfield idx, 3))
    (kk : ∀ G1 H1 locs1, zS P s G1 H1 locs1 → V G1 → W p l e R s m args below meth c H1 locs1 cells slots Q (F0 m (pc + 3) ls rest)) : W p l e R s m args below meth c H locs cells slots Q (F0 m pc ls (zfv P v :: zrv P r :: rest)) := by
  obtain ⟨a, fs, rfl, hj, hV⟩ := hV
  obtain ⟨hO, h1, h2, h4, h5, hB⟩ := zdob hG hj
  have hk : k < fs.length := by rw [h4]; exact hF.1
  have hk2' : k2 < fs.length := by rw [h4]; exact hk2
  refine zputfF hC hF hO hfin hin2 hdecl (zfv_ty hty).1 (zfv_ty hty).2 hnest hd fun H1 i W1 hO1 w1 w2 w3 z oq => ?_
  have key : ∀ u, W1 k2 = zfv P u → (u = fs.getD k2 (.inl 0) ∨ u = v) → W p l e R s m args below meth c H1 (locs ++ [⟨a, i⟩]) cells slots Q (F0 m (pc + 3) ls rest) := by
    intro u hu hor
    have hvu : zvR u := by
      rcases hor with rfl | rfl
      · intro x hx
        refine h5 x ?_
        rw [← hx, List.getD_eq_getElem?_getD, List.getElem?_eq_getElem hk2', Option.getD_some]
        exact List.getElem_mem hk2'
      · exact hv
    refine kk _ _ _ (hG.put (hG.1.dyn hj (c := .inr (.inr (ci, (fs.set k v).set k2 u))) ⟨h1, h2, by rw [List.length_set, List.length_set]; exact h4, zset_in (zset_in h5 hv) hvu⟩ ?_ oq) z oq hB) (hV u hor)
    refine t_OB.to hO1 fun q hq => ?_
    rw [zset_getD (by rw [List.length_set]; exact hk2'), zset_getD hk]
    by_cases e2 : q = k2
    · subst e2
      rw [hu, if_pos rfl]
    · rw [if_neg e2]
      by_cases e : q = k
      · subst e
        rw [w1, if_pos rfl]
      · rw [w2 q hq (hnm q hq e e2), if_neg e]
  rcases w3 k2 hk2 with h | h
  · exact key _ h (Or.inl rfl)
  · exact key _ h (Or.inr rfl)
/-! dynamic arrays -/
theorem z_eald (hC : zCx P p m c cc nL s args own) (hG : zS P s G H locs) {r : ZR} {i : Int} {V : Int → Prop} (hi : inR i) (hV : zeI G r i V) (hd : decode cc pc = .ok (.iaload, 1))
    (kk : ∀ x, inR x → V x → W p l e R s m args below meth c H locs cells slots Q (F0 m (pc + 1) ls (.int (zI x) :: rest))) : W p l e R s m args below meth c H locs cells slots Q (F0 m pc ls (.int (zI i) :: zrv P r :: rest)) := by
  obtain ⟨a, l', x, rfl, hj, h0, hx, hV⟩ := hV
  obtain ⟨hat, h5, -, -⟩ := zdia hG hj
  have hlt : i.toNat < l'.length := (List.getElem?_eq_some_iff.mp hx).1
  have har : ArrOfT s (P.2.1 0) .int := (hC.2.2.2.2.2.1.2.1 0 (by omega)).1
  refine W.iald (v := .int (zI x)) hC.1 hC.2.1 hat (har _ _) (fun q => by cases q) (by rw [arrV_size]; exact zI_in hi h0 (by omega)) ?_ rfl rfl hd (kk x (h5 x (List.mem_of_getElem? hx)) hV)
  rw [zI_clamp hi, arrV_read _ _ hlt, List.getD_eq_getElem?_getD, hx]
  rfl
theorem z_east (hC : zCx P p m c cc nL s args own) (hG : zS P s G H locs) {r : ZR} {i x : Int} {V : ZG → Prop} (hi : inR i) (hx : inR x) (hV : zeS G r i x V) (hd : decode cc pc = .ok (.iastore, 1))
    (kk : ∀ G1 H1 locs1, zS P s G1 H1 locs1 → V G1 → W p l e R s m args below meth c H1 locs1 cells slots Q (F0 m (pc + 1) ls rest)) : W p l e R s m args below meth c H locs cells slots Q (F0 m pc ls (.int (zI x) :: .int (zI i) :: zrv P r :: rest)) := by
  obtain ⟨a, l', rfl, hj, h0, hlt, hV⟩ := hV
  obtain ⟨hat, h5, hB, hL9⟩ := zdia hG hj
  have har : ArrOfT s (P.2.1 0) .int := (hC.2.2.2.2.2.1.2.1 0 (by omega)).1
  refine W.iast hC.1 hC.2.1 hat (har _ _) (fun q => by cases q) (by rw [arrV_size]; exact zI_in hi h0 (by omega)) rfl rfl hd fun H1 e1 z oq => ?_
  refine kk _ _ _ (hG.put (hG.1.dyn hj (c := .inl (0, l'.set i.toNat x)) ⟨?_, by rw [List.length_set]; exact hL9⟩ ?_ oq) z oq hB) hV
  · intro y hy
    rcases List.mem_or_eq_of_mem_set hy with h1 | h1
    · exact h5 y h1
    · rw [h1]; exact hx
  · refine Eq.trans e1 (congrArg some ?_)
    rw [arrV_store, zI_clamp hi, List.length_set]
    refine arrV_congr fun q hq => ?_
    rw [zset_getD hlt]
    by_cases h : q = i.toNat
    · simp [updV, h]
    · simp [updV, h]
theorem aT_ref {k : Nat} (h : 3 ≤ k ∧ k ≤ 6) : (aT k).isReference = true := by
  rcases (show k = 3 ∨ k = 4 ∨ k = 5 ∨ k = 6 by omega) with rfl | rfl | rfl | rfl <;> rfl
theorem z_erld (hC : zCx P p m c cc nL s args own) (hG : zS P s G H locs) {r : ZR} {i : Int} {V : ZR → Prop} (hi : inR i) (hV : zeR G r i V) (hd : decode cc pc = .ok (.aaload, 1))
    (kk : ∀ x, V x → W p l e R s m args below meth c H locs cells slots Q (F0 m (pc + 1) ls (zrv P x :: rest))) : W p l e R s m args below meth c H locs cells slots Q (F0 m pc ls (.int (zI i) :: zrv P r :: rest)) := by
  obtain ⟨a, k, l', x, rfl, hj, h0, hx, hV⟩ := hV
  obtain ⟨hat, hk, -, -⟩ := zdra hG hj
  have hlt : i.toNat < l'.length := (List.getElem?_eq_some_iff.mp hx).1
  have har : ArrOfT s (P.2.1 k) (aT k) := (hC.2.2.2.2.2.1.2.1 k (by omega)).1
  refine W.aald (v := zrv P x) hC.1 hC.2.1 hat (har _ _) (aT_ref hk) (fun q => by cases q) (by rw [arrV_size]; exact zI_in hi h0 (by omega)) ?_ rfl rfl hd (kk x hV)
  rw [zI_clamp hi, arrV_read _ _ hlt, List.getD_eq_getElem?_getD, hx]
  rfl
theorem z_alenD (hC : zCx P p m c cc nL s args own) (hG : zS P s G H locs) {r : ZR} {V : Int → Prop} (hV : zeN G r V) (hd : decode cc pc = .ok (.arraylength, 1))
    (kk : ∀ x, inR x → V x → W p l e R s m args below meth c H locs cells slots Q (F0 m (pc + 1) ls (.int (zI x) :: rest))) : W p l e R s m args below meth c H locs cells slots Q (F0 m pc ls (zrv P r :: rest)) := by
  have key : ∀ (a k n : Nat) (f : Nat → Value), k ≤ 6 → n ≤ 100000000 → H[a]? = some (arrV (P.2.1 k) n f) → V (n : Int) → W p l e R s m args below meth c H locs cells slots Q (F0 m pc ls (.ref a :: rest)) := by
    intro a k n f hk hn hat hV
    have har : ArrOfT s (P.2.1 k) (aT k) := (hC.2.2.2.2.2.1.2.1 k hk).1
    refine W.alen (n := zI n) hC.1 hC.2.1 hat (har n _) ?_ rfl rfl hd (kk n ⟨by omega, by omega⟩ hV)
    rw [arrV_size, zI_nat]
  rcases hV with ⟨a, rfl, ⟨t, l', hj, hV⟩ | ⟨k, l', hj, hV⟩⟩ | ⟨rfl, hV⟩
  · obtain ⟨h1, ⟨h2, h3⟩, -⟩ := hG.1.2.1 a _ hj
    match t, hj, h1 with
    | 0, hj, h1 => exact key a 0 _ _ (by omega) h3 h1 hV
    | 1, hj, h1 => exact key a 1 _ _ (by omega) h3 h1 hV
    | t + 2, hj, h1 => exact key a 2 _ _ (by omega) h3 h1 hV
  · exact key a k _ _ (zdra hG hj).2.1.2 (zdra hG hj).2.2.2 (zdra hG hj).1 hV
  · exact va_tlen (v := zI 0) hC.1 hC.2.1 hC.2.2.2.2.2.2.2.2.2.2.2.2.1 hG.2 rfl hd (kk 0 inR_0 hV)
/-! references in arrays -/
def zro (P : ZP) (r : ZR) : Option Nat := match r with | none => none | some (.inl a) => some a | some (.inr o) => some (zA P o 0 0)
theorem zro_rf (P : ZP) (r : ZR) : va_rf (zro P r) = zrv P r := by rcases r with _ | a | o <;> rfl
/-- the names of the classes, as rows of objects and patterns take them -/
def zkn (k : Nat) : String := match k with | 3 => "java/lang/Object" | _ => "Patternforge$Pattern"
theorem zcaO_in : ∀ c, 1 ≤ c → c ≤ 16 → Cond.castable (cR c) "java/lang/Object" ∈ znx := by
  intro c h1 h2
  match c, h1, h2 with
  | 1, _, _ => exact xq2302
  | 2, _, _ => exact xq2303
  | 3, _, _ => exact xq2304
  | 4, _, _ => exact xq2305
  | 5, _, _ => exact xq2306
  | 6, _, _ => exact xq2307
  | 7, _, _ => exact xq2312
  | 8, _, _ => exact xq2313
  | 9, _, _ => exact xq2314
  | 10, _, _ => exact xq2315
  | 11, _, _ => exact xq2316
  | 12, _, _ => exact xq2317
  | 13, _, _ => exact xq2318
  | 14, _, _ => exact xq2319
  | 15, _, _ => exact xq2320
  | 16, _, _ => exact xq2321
  | n + 17, _, h => omega
theorem zcaP_in : ∀ c, (c = 8 ∨ (10 ≤ c ∧ c ≤ 15)) → Cond.castable (cR c) "Patternforge$Pattern" ∈ znx := by
  intro c h
  rcases (show c = 8 ∨ c = 10 ∨ c = 11 ∨ c = 12 ∨ c = 13 ∨ c = 14 ∨ c = 15 by omega) with rfl | rfl | rfl | rfl | rfl | rfl | rfl
  · exact xq2329
  · exact xq2330
  · exact xq2331
  · exact xq2332
  · exact xq2333
  · exact xq2334
  · exact xq2335
theorem zany (hC : zCx P p m c cc nL s args own) (hG : zS P s G H locs) {a k : Nat} {E : String} (hE : E = zkn k) (hz : zel G k (some (.inl a))) (hk : k = 3 ∨ k = 4) : va_Any E s H a := by
  have hx := hC.2.2.2.2.2.1.2.2.1
  rcases hz with h | ⟨b, ci, fs, hb, hj, hor⟩ | ⟨b, l', hb, hj, hor⟩
  · cases h.1
  · cases hb
    obtain ⟨⟨cell, q1, q2, q3, -⟩, h1, h2, -⟩ := zdob hG hj
    obtain ⟨kC, hkC, -⟩ := Vm.findClass_spec ((hC.2.2.2.2.2.1.1 ci h1 h2).2.1)
    refine ⟨cell, q1, by rw [q3]; rfl, ⟨kC, by rw [q2]; exact hkC⟩, fun comp hcomp => ?_⟩
    have hfc := (hC.2.2.2.2.2.1.1 ci h1 h2).2.1
    rw [q2]
    rcases hor with rfl | ⟨rfl, hp⟩
    · subst hE; exact vb_asgC (hx _ (zcaO_in ci h1 h2)).2 comp _ hcomp hfc
    · subst hE; exact vb_asgC (hx _ (zcaP_in ci hp)).2 comp _ hcomp hfc
  · cases hb
    have hk3 : k = 3 := by omega
    subst hk3
    subst hE
    have hat := (zdia hG hj).1
    have hra : s.vm.findClass "[I" = some (P.2.1 0) := (hC.2.2.2.2.2.1.2.1 0 (by omega)).2
    obtain ⟨kC, hkC, -⟩ := Vm.findClass_spec hra
    exact ⟨_, hat, rfl, ⟨kC, hkC⟩, fun comp hcomp => vb_asgC (hx _ xq2344).2 comp _ hcomp hra⟩
/-- a store into an array of objects or patterns -/
theorem z_eust (hC : zCx P p m c cc nL s args own) (hG : zS P s G H locs) {r x : ZR} {i : Int} {V : ZG → Prop} (hi : inR i) (hV : zeU G r i x V) (hd : decode cc pc = .ok (.aastore, 1))
    (kk : ∀ G1 H1 locs1, zS P s G1 H1 locs1 → V G1 → W p l e R s m args below meth c H1 locs1 cells slots Q (F0 m (pc + 1) ls rest)) : W p l e R s m args below meth c H locs cells slots Q (F0 m pc ls (zrv P x :: .int (zI i) :: zrv P r :: rest)) := by
  obtain ⟨a, k, l', rfl, hj, h0, hlt, hz, hV⟩ := hV
  obtain ⟨hat, hk, hB, hL9⟩ := zdra hG hj
  have hin : ¬ (zI i < 0 ∨ l'.length ≤ (zI i).toNatClampNeg) := zI_in hi h0 (by omega)
  have fin : ∀ (H1 : Heap), H1[a]? = some ((arrV (P.2.1 k) l'.length (fun q => zrv P (l'.getD q none))).setSlot (zI i).toNatClampNeg (zrv P x)) → H1.size = H.size → (∀ q, q ≠ a → H1[q]? = H[q]?) → W p l e R s m args below meth c H1 (locs ++ [⟨a, (zI i).toNatClampNeg⟩]) cells slots Q (F0 m (pc + 1) ls rest) := by
    intro H1 e1 z oq
    refine kk _ _ _ (hG.put (hG.1.dyn hj (c := .inr (.inl (k, l'.set i.toNat x))) ⟨hk.1, hk.2, by rw [List.length_set]; exact hL9⟩ ?_ oq) z oq hB) hV
    refine Eq.trans e1 (congrArg some ?_)
    rw [arrV_store, zI_clamp hi, List.length_set]
    refine arrV_congr fun q hq => ?_
    rw [zset_getD hlt]
    by_cases h : q = i.toNat
    · simp [updV, h]
    · simp [updV, h]
  have har : ∀ n f, s.isArrayOf (arrV (P.2.1 k) n f) (aT k) := fun n f => (hC.2.2.2.2.2.1.2.1 k (by omega)).1 n f
  have nul : k = 3 ∨ k = 4 → x = none → W p l e R s m args below meth c H locs cells slots Q (F0 m pc ls (zrv P x :: .int (zI i) :: .ref a :: rest)) := by
    rintro hk2 rfl
    have h9 : ∃ C, aT k = .object C := by rcases hk2 with rfl | rfl <;> exact ⟨_, rfl⟩
    obtain ⟨C, hC9⟩ := h9
    exact va_WaastN (C := C) hC.1 hC.2.1 hat (by rw [← hC9]; exact har _ _) (fun h => by cases h) (by rw [arrV_size]; exact hin) rfl rfl hd fun H1 e z oq => fin H1 e z oq
  have obj : ∀ v, x = some (.inl v) → k = 3 ∨ k = 4 → W p l e R s m args below meth c H locs cells slots Q (F0 m pc ls (zrv P x :: .int (zI i) :: .ref a :: rest)) := by
    intro v hx hk2
    have hT : aT k = .object (zkn k) := by rcases hk2 with rfl | rfl <;> rfl
    rw [hx] at hz
    obtain ⟨cellV, g1, g3, ⟨kC, hkC⟩, hasg⟩ := zany hC hG rfl hz hk2
    have hra := (hC.2.2.2.2.2.1.2.1 k (by omega)).2
    rw [hT] at hra
    obtain ⟨kA, comp, k1, k2, k3, -⟩ := hra
    obtain ⟨kE, hkE, -⟩ := Vm.findClass_spec k3
    rw [hx] at fin ⊢
    exact W.aast hC.1 hC.2.1 hat (fun q h => by cases h) (fun h => by cases h) k1 k2 rfl hkE ⟨fun h => hin (Or.inl h), by rw [arrV_size]; exact Nat.not_le.mp fun h => hin (Or.inr h)⟩ g1 (fun q h => by rw [h] at g3; cases g3) hkC (hasg _ k3) rfl rfl hd fun H1 e z oq => fin H1 e z oq
  rcases (show k = 3 ∨ k = 4 ∨ k = 5 ∨ k = 6 by omega) with hk3 | hk3 | hk3 | hk3
  · rcases x with _ | v | o
    · exact nul (Or.inl hk3) rfl
    · exact obj v rfl (Or.inl hk3)
    · rcases hz with h | ⟨b, ci, fs, hb, -⟩ | ⟨b, l2, hb, -⟩
      · cases h.1
      · cases hb
      · cases hb
  · rcases x with _ | v | o
    · exact nul (Or.inr hk3) rfl
    · exact obj v rfl (Or.inr hk3)
    · rcases hz with h | ⟨b, ci, fs, hb, -⟩ | ⟨b, l2, hb, -⟩
      · cases h.1
      · cases hb
      · cases hb
  · rcases hz with h | ⟨b, ci, fs, hb, hj2, hor⟩ | ⟨b, l2, hb, hj2, hor⟩
    · omega
    · omega
    · subst hb
      subst hk3
      have hx := hC.2.2.2.2.2.1.2.2.1
      obtain ⟨comp, cA, kA, f1, f2, f3, f4⟩ := Cond.arrayOver_specA (hx _ xq172).2
      have hra : s.vm.findClass "[I" = some (P.2.1 0) := (hC.2.2.2.2.2.1.2.1 0 (by omega)).2
      have hrb : s.vm.findClass "[[I" = some (P.2.1 5) := (hC.2.2.2.2.2.1.2.1 5 (by omega)).2
      have hcA : cA = P.2.1 5 := Option.some.inj (f4.symm.trans hrb)
      have hcm : comp = P.2.1 0 := Option.some.inj (f1.symm.trans hra)
      subst hcm
      obtain ⟨kC, hkC, -⟩ := Vm.findClass_spec hra
      exact W.aast hC.1 hC.2.1 hat (fun q h => by cases h) (fun h => by cases h) (by rw [← hcA]; exact f2) f3 rfl hkC ⟨fun h => hin (Or.inl h), by rw [arrV_size]; exact Nat.not_le.mp fun h => hin (Or.inr h)⟩ (zdia hG hj2).1 (fun q h => by cases h) hkC (va_asg _ _) rfl rfl hd fun H1 e z oq => fin H1 e z oq
  · rcases hz with h | ⟨b, ci, fs, hb, hj2, hor⟩ | ⟨b, l2, hb, hj2, hor⟩
    · omega
    · omega
    · omega
end ZDY
