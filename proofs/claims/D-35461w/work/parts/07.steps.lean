/-! ROWS 2: single instructions over the abstract state -/
set_option maxRecDepth 100000
/-- the kinds of patterns -/
def zpat : List Nat := [8, 10, 11, 12, 13, 14, 15]
/-- the exceptions by number -/
def zxn (k : Nat) : String := match k with | 0 => "java/lang/IndexOutOfBoundsException" | 1 => "java/lang/IllegalArgumentException" | _ => "java/lang/IllegalStateException"
def zNc (U : State) : Prop := (∀ c, c ∈ zpat → ∀ d, d ∈ zpat → c ≠ d → va_Nc (cR c) (cR d) U) ∧ ∀ c, c < 3 → ∀ d, d < 3 → c ≠ d → va_Nc (zxn c) (zxn d) U
def zKn (P : ZP) (U : State) : Prop :=
  (∀ c, 1 ≤ c → c ≤ 16 → u_Kn U (cR c) (cT c) (cN c) (P.1.1 c) (P.1.2 c)) ∧
  (∀ k, k ≤ 6 → ArrOfT U (P.2.1 k) (aT k) ∧ va_RA U (P.2.1 k) (aT k)) ∧
  (∀ w ∈ znx, znxOk w = true ∧ va_Nw w U) ∧ zPok P ∧ zB P ≤ U.heap.size ∧ zNc U
def zCx (P : ZP) (p : Program) (m : MethodId) (c : Code) (cc : ByteArray) (nL : Nat) (s : State) (args : Array Value) (own : String) : Prop :=
  p.tables.exec = Jvm.exec ∧ c.code = cc ∧ c.maxLocals = nL ∧ s.vm.findClass own = some m.cls ∧ (∀ w ∈ lw_all, w.before args s = true) ∧ zKn P s ∧ zSt P s s.heap
def zS (P : ZP) (s : State) (G : ZG) (H : Heap) (locs : List Loc) : Prop := Rel P G H ∧ va_S (fun q => zB P ≤ q) s.heap H locs
def zFL (own : String) (idx c k : Nat) : Prop := k < cN c ∧ 1 ≤ c ∧ c ≤ 16 ∧ ∃ ref, (Cond.fieldLink own idx ref (cT c k).2.1 (cT c k).2.2.1 ∈ lw_all ∨ ∃ host, Cond.fieldLinkNest own idx ref (cT c k).2.1 (cT c k).2.2.1 host ∈ znx) ∧ (ref = (cT c k).1 ∨ Cond.sameField ref (cT c k).1 (cT c k).2.1 (cT c k).2.2.1 ∈ lw_all)
section ZST
variable {p : Program} {l : Launch} {e : Env} {R : Room} {s : State} {m : MethodId} {args : Array Value} {below : List Frame} {meth : Method} {c : Code} {H : Heap} {locs : List Loc} {cells slots : Nat} {Q : State → Prop}
variable {cc : ByteArray} {pc nL : Nat} {ls : Array Slot} {rest : List Value} {P : ZP} {G : ZG} {own : String}
theorem zS.put {H1 : Heap} {a k : Nat} {G' : ZG} (hG : zS P s G H locs) (hR : Rel P G' H1) (z : H1.size = H.size) (oq : ∀ q : Nat, q ≠ a → H1[q]? = H[q]?) (ha : zB P ≤ a) : zS P s G' H1 (locs ++ [⟨a, k⟩]) := ⟨hR, hG.2.put z oq ha⟩
theorem zS.grow {H1 : Heap} {G' : ZG} (hG : zS P s G H locs) (hR : Rel P G' H1) (z : H.size ≤ H1.size) (oq : ∀ q : Nat, q < H.size → H1[q]? = H[q]?) : zS P s G' H1 locs :=
  ⟨hR, Nat.le_trans hG.2.1 z, fun q h1 h2 => (oq q (Nat.lt_of_lt_of_le h1 hG.2.1)).trans (hG.2.2.1 q h1 h2), hG.2.2.2⟩
theorem zCx.base (hC : zCx P p m c cc nL s args own) (hG : zS P s G H locs) : zB P ≤ H.size := Nat.le_trans hC.2.2.2.2.2.1.2.2.2.2.1 hG.2.1
theorem zgetf (hC : zCx P p m c cc nL s args own) {idx ci k a : Nat} (hF : zFL own idx ci k) {V : Nat → Value} (hO : t_OB a (P.1.1 ci) (cN ci) (P.1.2 ci) H V) (hd : decode cc pc = .ok (.getfield idx, 3))
    (kk : W p l e R s m args below meth c H locs cells slots Q (F0 m (pc + 3) ls (V k :: rest))) : W p l e R s m args below meth c H locs cells slots Q (F0 m pc ls (.ref a :: rest)) := by
  obtain ⟨hx, hb, -, hown, hts, hK, -⟩ := hC
  obtain ⟨hk, h1, h2, ref, hl, hsm⟩ := hF
  obtain ⟨cell, q1, q2, q3, q4⟩ := hO
  obtain ⟨hS, hfc, kC, hkC, hkind⟩ := hK.1 ci h1 h2
  obtain ⟨cf, kf, fi, f, hi, hsl⟩ := hS k hk
  have hsame : s.fieldFound? ref (cT ci k).2.1 (cT ci k).2.2.1 = some (cf, kf, fi, f) := by
    rcases hsm with h | h
    · rw [h]; exact hi
    · exact u_same (hts _ h) _ hi
  rcases hl with hl | ⟨host, hl⟩
  · exact W.getf hx hb hown (hts _ hl) hsame (u_facts hfc hkC (u_lays hts (cin ci h1 h2) hk) hi).1 q1 (by rw [q3]; exact fun h => by cases h) (v := V k) (by rw [hsl]; exact q4 k hk) rfl rfl hd kk
  · exact va_Wgetf hx hb hown (va_Nw.use rfl (hK.2.2.1 _ hl).2) hsame (u_facts hfc hkC (u_lays hts (cin ci h1 h2) hk) hi).1 q1 (by rw [q3]; exact fun h => by cases h) (v := V k) (by rw [hsl]; exact q4 k hk) rfl rfl hd kk
theorem zap (hC : zCx P p m c cc nL s args own) {ci k : Nat} (h1 : 1 ≤ ci) (h2 : ci ≤ 16) (hk : k < cN ci) {q : Nat} (hq : q < cN ci) (hn : (cT ci q).2.1 ≠ (cT ci k).2.1) : P.1.2 ci k ≠ P.1.2 ci q := by
  obtain ⟨-, -, -, -, hts, hK, -⟩ := hC
  obtain ⟨hS, -⟩ := hK.1 ci h1 h2
  obtain ⟨_, _, _, fa, hia, ea⟩ := hS k hk
  obtain ⟨_, _, _, fb, hib, eb⟩ := hS q hq
  rw [← ea, ← eb]
  refine u_apart (u_lays hts (cin ci h1 h2) hk) (u_lays hts (cin ci h1 h2) hq) hia hib ?_
  rw [(State.fieldFound?_type hia (cty ci h1 h2 k hk)).1, (State.fieldFound?_type hib (cty ci h1 h2 q hq)).1]
  exact fun z => hn z.symm
/-- putfield, not final; the fields of another name stay -/
theorem zputf (hC : zCx P p m c cc nL s args own) {idx ci k a : Nat} (hF : zFL own idx ci k) {V : Nat → Value} (hO : t_OB a (P.1.1 ci) (cN ci) (P.1.2 ci) H V) (hfin : (cT ci k).2.2.2 = false) {v : Value} (hn : narrow (cF ci k) v = v) (hfit : fits (cF ci k) v = true)
    (hd : decode cc pc = .ok (.putfield idx, 3)) (kk : ∀ (H1 : Heap) (i : Nat) (W1 : Nat → Value), t_OB a (P.1.1 ci) (cN ci) (P.1.2 ci) H1 W1 → W1 k = v → (∀ q, q < cN ci → (cT ci q).2.1 ≠ (cT ci k).2.1 → W1 q = V q) → (∀ q, q < cN ci → W1 q = V q ∨ W1 q = v) → H1.size = H.size → (∀ q, q ≠ a → H1[q]? = H[q]?) →
      W p l e R s m args below meth c H1 (locs ++ [⟨a, i⟩]) cells slots Q (F0 m (pc + 3) ls rest)) : W p l e R s m args below meth c H locs cells slots Q (F0 m pc ls (v :: .ref a :: rest)) := by
  have hC0 := hC
  obtain ⟨hx, hb, -, hown, hts, hK, -⟩ := hC
  obtain ⟨hk, h1, h2, ref, hl, hsm⟩ := hF
  obtain ⟨cell, q1, q2, q3, q4⟩ := hO
  obtain ⟨hS, hfc, kC, hkC, hkind⟩ := hK.1 ci h1 h2
  obtain ⟨cf, kf, fi, f, hi, hsl⟩ := hS k hk
  have hsame : s.fieldFound? ref (cT ci k).2.1 (cT ci k).2.2.1 = some (cf, kf, fi, f) := by
    rcases hsm with h | h
    · rw [h]; exact hi
    · exact u_same (hts _ h) _ hi
  have hlay := hts _ (cin ci h1 h2 _ (u_in_lay hk))
  unfold u_lay at hlay
  rw [if_neg (by rw [hfin]; decide)] at hlay
  have hst := (u_facts hfc hkC (u_lays hts (cin ci h1 h2) hk) hi).1
  have h6 := u_store hfc hkC hkind hlay hi (cty ci h1 h2 k hk) hn hfit
  have hlt : P.1.2 ci k < cell.slots.size := k2_hasslot (q4 k hk)
  have key : ∀ H1 : Heap, H1[a]? = some (cell.setSlot (P.1.2 ci k) v) → H1.size = H.size → (∀ q, q ≠ a → H1[q]? = H[q]?) → W p l e R s m args below meth c H1 (locs ++ [⟨a, P.1.2 ci k⟩]) cells slots Q (F0 m (pc + 3) ls rest) := by
    intro H1 e1 e2 e3
    refine kk H1 (P.1.2 ci k) (fun q => if P.1.2 ci q = P.1.2 ci k then v else V q) ⟨_, e1, q2, q3, fun q hq => ?_⟩ (if_pos rfl) (fun q hq hne => if_neg fun z => zap hC0 h1 h2 hk hq hne z.symm) (fun q hq => ?_) e2 e3
    · show _ = some (if P.1.2 ci q = P.1.2 ci k then v else V q)
      by_cases z : P.1.2 ci q = P.1.2 ci k
      · rw [if_pos z, z]
        simp [Cell.setSlot, Array.getElem?_setIfInBounds, hlt]
      · rw [if_neg z, slot_ne _ _ (Ne.symm z)]
        exact q4 q hq
    · by_cases z : P.1.2 ci q = P.1.2 ci k
      · exact Or.inr (if_pos z)
      · exact Or.inl (if_neg z)
  rcases hl with hl | ⟨host, hl⟩
  · refine W.putK hx hb (f := f) ⟨hown, hts _ hl, ⟨_, _, _, hsame⟩, hst⟩ (by rw [q2]; exact h6) q1 q3 (by rw [hsl]; exact hlt) rfl rfl hd fun H' e1 e2 e3 => ?_
    rw [hsl] at e1 ⊢
    exact key H' e1 e2 e3
  · refine va_WputK hx hb (f := f) hown (va_Nw.use rfl (hK.2.2.1 _ hl).2) hsame hst (by rw [q2]; exact h6) q1 q3 (by rw [hsl]; exact hlt) rfl rfl hd fun H' e1 e2 e3 => ?_
    rw [hsl] at e1 ⊢
    exact key H' e1 e2 e3
/-- putfield of a final field, in a constructor -/
theorem zputfF (hC : zCx P p m c cc nL s args own) {idx ci k a : Nat} (hF : zFL own idx ci k) {V : Nat → Value} (hO : t_OB a (P.1.1 ci) (cN ci) (P.1.2 ci) H V) (hfin : (cT ci k).2.2.2 = true) (hin2 : meth.name = "<init>") (hdecl : (cT ci k).1 = own) {v : Value} (hn : narrow (cF ci k) v = v) (hfit : fits (cF ci k) v = true)
    (hnest : ∀ ref host, Cond.fieldLinkNest own idx ref (cT ci k).2.1 (cT ci k).2.2.1 host ∉ znx)
    (hd : decode cc pc = .ok (.putfield idx, 3)) (kk : ∀ (H1 : Heap) (i : Nat) (W1 : Nat → Value), t_OB a (P.1.1 ci) (cN ci) (P.1.2 ci) H1 W1 → W1 k = v → (∀ q, q < cN ci → (cT ci q).2.1 ≠ (cT ci k).2.1 → W1 q = V q) → (∀ q, q < cN ci → W1 q = V q ∨ W1 q = v) → H1.size = H.size → (∀ q, q ≠ a → H1[q]? = H[q]?) →
      W p l e R s m args below meth c H1 (locs ++ [⟨a, i⟩]) cells slots Q (F0 m (pc + 3) ls rest)) : W p l e R s m args below meth c H locs cells slots Q (F0 m pc ls (v :: .ref a :: rest)) := by
  have hC0 := hC
  obtain ⟨hx, hb, -, hown, hts, hK, -⟩ := hC
  obtain ⟨hk, h1, h2, ref, hl, hsm⟩ := hF
  obtain ⟨cell, q1, q2, q3, q4⟩ := hO
  obtain ⟨hS, hfc, kC, hkC, hkind⟩ := hK.1 ci h1 h2
  obtain ⟨cf, kf, fi, f, hi, hsl⟩ := hS k hk
  have hsame : s.fieldFound? ref (cT ci k).2.1 (cT ci k).2.2.1 = some (cf, kf, fi, f) := by
    rcases hsm with h | h
    · rw [h]; exact hi
    · exact u_same (hts _ h) _ hi
  have hlay := hts _ (cin ci h1 h2 _ (u_in_lay hk))
  unfold u_lay at hlay
  rw [if_pos hfin] at hlay
  have hst := (u_facts hfc hkC (u_lays hts (cin ci h1 h2) hk) hi).1
  have hcf : m.cls = cf := by
    obtain ⟨_, _, c', _, _, _, -, -, hf', -, -, -, hown2, -⟩ := Cond.laysFinal_spec hlay
    have e1 : c' = cf := by have := hi.symm.trans hf'; simp at this; exact this.1.symm
    rw [hdecl] at hown2
    rw [← e1]; exact Option.some.inj (hown.symm.trans hown2)
  have h6 := u_fits hfc hkC hkind (Or.inr hlay) hi (cty ci h1 h2 k hk) hn hfit
  have hlt : P.1.2 ci k < cell.slots.size := k2_hasslot (q4 k hk)
  rcases hl with hl | ⟨host, hl⟩
  · refine W.putFinK hx hb hown (hts _ hl) hsame hst hcf hin2 (by rw [q2]; exact h6) q1 q3 (by rw [hsl]; exact hlt) rfl rfl hd fun H1 e1 e2 e3 => ?_
    rw [hsl] at e1 ⊢
    refine kk H1 (P.1.2 ci k) (fun q => if P.1.2 ci q = P.1.2 ci k then v else V q) ⟨_, e1, q2, q3, fun q hq => ?_⟩ (if_pos rfl) (fun q hq hne => if_neg fun z => zap hC0 h1 h2 hk hq hne z.symm) (fun q hq => ?_) e2 e3
    · show _ = some (if P.1.2 ci q = P.1.2 ci k then v else V q)
      by_cases z : P.1.2 ci q = P.1.2 ci k
      · rw [if_pos z, z]
        simp [Cell.setSlot, Array.getElem?_setIfInBounds, hlt]
      · rw [if_neg z, slot_ne _ _ (Ne.symm z)]
        exact q4 q hq
    · by_cases z : P.1.2 ci q = P.1.2 ci k
      · exact Or.inr (if_pos z)
      · exact Or.inl (if_neg z)
  · exact absurd hl (hnest ref host)

/-! fixed objects -/
theorem zvd_obj {o ci : Nat} (hc : tCls o = ci) (h1 : 1 ≤ ci) (h2 : ci ≤ 16) : zvd o 0 0 = true := by
  subst hc
  simp [zvd, h1, h2]
theorem zvd_arr {o ci k n : Nat} (hc : tCls o = ci) (hk : tAk ci k = n + 1) : zvd o (k + 1) 0 = true := by
  subst hc
  simp [zvd, hk]
theorem zvd_row {o ci k r : Nat} (hc : tCls o = ci) (hk : tAk ci k = 5) (hr : r < 500) : zvd o (k + 1) (r + 1) = true := by
  subst hc
  simp [zvd, hk, hr]
theorem zlt16 {o ci : Nat} (hc : tCls o = ci) (h1 : 1 ≤ ci) (h2 : ci ≤ 90) : o < 16 := by
  subst hc
  match o, h1, h2 with
  | 0, _, _ => omega
  | 1, _, _ => omega
  | 2, _, _ => omega
  | 3, _, _ => omega
  | 4, _, _ => omega
  | 5, _, _ => omega
  | 6, _, _ => omega
  | 7, _, _ => omega
  | 8, _, _ => omega
  | 9, _, _ => omega
  | 10, _, _ => omega
  | 11, _, _ => omega
  | 12, _, _ => omega
  | 13, _, _ => omega
  | 14, _, _ => omega
  | 15, h, _ => exact absurd h (by decide)
  | 16, h, _ => exact absurd h (by decide)
  | 17, h, _ => exact absurd h (by decide)
  | n + 18, h, _ => exact absurd h (by simp [tCls])
theorem zobj (hG : zS P s G H locs) {o ci : Nat} (hc : tCls o = ci) (h1 : 1 ≤ ci) (h2 : ci ≤ 16) : t_OB (zA P o 0 0) (P.1.1 ci) (cN ci) (P.1.2 ci) H (zfld P G o) := by
  have h := hG.1.1 o 0 0 (zvd_obj hc h1 h2)
  subst hc
  exact h
theorem z_getF (hC : zCx P p m c cc nL s args own) (hG : zS P s G H locs) {o ci k idx : Nat} {V : Int → Prop} (hF : zFL own idx ci k) (hc : tCls o = ci) (hk : tFk ci k = 0) (hV : zgF G o k V) (hd : decode cc pc = .ok (.getfield idx, 3))
    (kk : ∀ x, inR x → V x → W p l e R s m args below meth c H locs cells slots Q (F0 m (pc + 3) ls (.int (zI x) :: rest))) : W p l e R s m args below meth c H locs cells slots Q (F0 m pc ls (.ref (zA P o 0 0) :: rest)) := by
  refine zgetf hC hF (zobj hG hc hF.2.1 hF.2.2.1) hd ?_
  have e : zfld P G o k = .int (zI (zsg G o k 0)) := by simp only [zfld, hc, hk]
  rw [e]
  exact kk _ (hG.1.2.2 o k 0) hV
theorem z_getA (hC : zCx P p m c cc nL s args own) (hG : zS P s G H locs) {o ci k idx : Nat} (hF : zFL own idx ci k) (hc : tCls o = ci) (hk : tFk ci k = 1) (hd : decode cc pc = .ok (.getfield idx, 3))
    (kk : W p l e R s m args below meth c H locs cells slots Q (F0 m (pc + 3) ls (.ref (zA P o (k + 1) 0) :: rest))) : W p l e R s m args below meth c H locs cells slots Q (F0 m pc ls (.ref (zA P o 0 0) :: rest)) := by
  refine zgetf hC hF (zobj hG hc hF.2.1 hF.2.2.1) hd ?_
  have e : zfld P G o k = .ref (zA P o (k + 1) 0) := by simp only [zfld, hc, hk]
  rw [e]
  exact kk
theorem z_getO (hC : zCx P p m c cc nL s args own) (hG : zS P s G H locs) {o ci k idx : Nat} (o' : Nat) (hF : zFL own idx ci k) (hc : tCls o = ci) (hk : tFk ci k = o' + 3) (hd : decode cc pc = .ok (.getfield idx, 3))
    (kk : W p l e R s m args below meth c H locs cells slots Q (F0 m (pc + 3) ls (.ref (zA P o' 0 0) :: rest))) : W p l e R s m args below meth c H locs cells slots Q (F0 m pc ls (.ref (zA P o 0 0) :: rest)) := by
  refine zgetf hC hF (zobj hG hc hF.2.1 hF.2.2.1) hd ?_
  have e : zfld P G o k = .ref (zA P o' 0 0) := by simp only [zfld, hc, hk]
  rw [e]
  exact kk
theorem z_getU (hC : zCx P p m c cc nL s args own) (hG : zS P s G H locs) {o ci k idx : Nat} {V : ZR → Prop} (hF : zFL own idx ci k) (hc : tCls o = ci) (hk : tFk ci k = 2) (hV : zgU G o k V) (hd : decode cc pc = .ok (.getfield idx, 3))
    (kk : ∀ r, V r → W p l e R s m args below meth c H locs cells slots Q (F0 m (pc + 3) ls (zrv P r :: rest))) : W p l e R s m args below meth c H locs cells slots Q (F0 m pc ls (.ref (zA P o 0 0) :: rest)) := by
  refine zgetf hC hF (zobj hG hc hF.2.1 hF.2.2.1) hd ?_
  have e : zfld P G o k = zrv P (zsr G o k 0) := by simp only [zfld, hc, hk]
  rw [e]
  exact kk _ hV
theorem znarrow {ty : FieldType} {x : Int} (h : ty = .int ∨ (ty = .boolean ∧ (x = 0 ∨ x = 1))) : narrow ty (.int (zI x)) = .int (zI x) ∧ fits ty (.int (zI x)) = true := by
  rcases h with rfl | ⟨rfl, rfl | rfl⟩
  · exact ⟨rfl, rfl⟩
  · exact ⟨rfl, rfl⟩
  · exact ⟨rfl, rfl⟩
/-- putfield of an int of a fixed object -/
theorem z_putF (hC : zCx P p m c cc nL s args own) (hG : zS P s G H locs) {o ci k idx : Nat} {x : Int} {V : ZG → Prop} (hF : zFL own idx ci k) (hc : tCls o = ci) (hk : tFk ci k = 0) (ha : tAk ci k = 0) (hfin : (cT ci k).2.2.2 = false) (hnm : ∀ q, q < cN ci → q ≠ k → (cT ci q).2.1 ≠ (cT ci k).2.1) (hx : inR x) (hty : cF ci k = .int ∨ (cF ci k = .boolean ∧ (x = 0 ∨ x = 1))) (hV : zpF G o k x V) (hd : decode cc pc = .ok (.putfield idx, 3))
    (kk : ∀ G1 H1 locs1, zS P s G1 H1 locs1 → V G1 → W p l e R s m args below meth c H1 locs1 cells slots Q (F0 m (pc + 3) ls rest)) : W p l e R s m args below meth c H locs cells slots Q (F0 m pc ls (.int (zI x) :: .ref (zA P o 0 0) :: rest)) := by
  refine zputf hC hF (zobj hG hc hF.2.1 hF.2.2.1) hfin (znarrow hty).1 (znarrow hty).2 hd fun H1 i W1 hO h1 h2 h3 z oq => ?_
  have hP := hC.2.2.2.2.2.1.2.2.2.1
  have hv := zvd_obj hc hF.2.1 hF.2.2.1
  have h16 := zlt16 hc hF.2.1 (Nat.le_trans hF.2.2.1 (by decide))
  subst hc
  refine kk _ _ _ (hG.put (hG.1.putF hP hv h16 ha hx ?_ oq) z oq (hP.2.1 o 0 0 hv h16)) hV
  refine t_OB.to hO fun q hq => ?_
  by_cases e : q = k
  · subst e
    rw [h1]
    simp only [zfld, hk, zsg_ss, and_self, if_true]
  · rw [h2 q hq (hnm q hq e), zfld_ss (fun w => e w.2.1)]
theorem z_putU (hC : zCx P p m c cc nL s args own) (hG : zS P s G H locs) {o ci k idx : Nat} {x : ZR} {V : ZG → Prop} (hF : zFL own idx ci k) (hc : tCls o = ci) (hk : tFk ci k = 2) (ha : tAk ci k = 0) (hfin : (cT ci k).2.2.2 = false) (hnm : ∀ q, q < cN ci → q ≠ k → (cT ci q).2.1 ≠ (cT ci k).2.1) (hn : narrow (cF ci k) (zrv P x) = zrv P x) (hfit : fits (cF ci k) (zrv P x) = true) (hV : zpU G o k x V) (hd : decode cc pc = .ok (.putfield idx, 3))
    (kk : ∀ G1 H1 locs1, zS P s G1 H1 locs1 → V G1 → W p l e R s m args below meth c H1 locs1 cells slots Q (F0 m (pc + 3) ls rest)) : W p l e R s m args below meth c H locs cells slots Q (F0 m pc ls (zrv P x :: .ref (zA P o 0 0) :: rest)) := by
  refine zputf hC hF (zobj hG hc hF.2.1 hF.2.2.1) hfin hn hfit hd fun H1 i W1 hO h1 h2 h3 z oq => ?_
  have hP := hC.2.2.2.2.2.1.2.2.2.1
  have hv := zvd_obj hc hF.2.1 hF.2.2.1
  have h16 := zlt16 hc hF.2.1 (Nat.le_trans hF.2.2.1 (by decide))
  subst hc
  refine kk _ _ _ (hG.put (hG.1.putU hP hv h16 ha ?_ oq) z oq (hP.2.1 o 0 0 hv h16)) hV
  refine t_OB.to hO fun q hq => ?_
  by_cases e : q = k
  · subst e
    rw [h1]
    simp only [zfld, hk, zsr_su, and_self, if_true]
  · rw [h2 q hq (hnm q hq e), zfld_su (fun w => e w.2.1)]
/-! fixed arrays -/
theorem zint (x : Int) (h : 0 ≤ x) : ((x.toNat : Nat) : Int) = x := Int.toNat_of_nonneg h
theorem z_iald (hC : zCx P p m c cc nL s args own) (hG : zS P s G H locs) {o ci k n : Nat} {i : Int} {V : Int → Prop} (hc : tCls o = ci) (hk : tAk ci k = 1) (hn : tAl ci k = n) (hi : inR i) (hV : zaL G o k n i V) (hd : decode cc pc = .ok (.iaload, 1))
    (kk : ∀ x, inR x → V x → W p l e R s m args below meth c H locs cells slots Q (F0 m (pc + 1) ls (.int (zI x) :: rest))) : W p l e R s m args below meth c H locs cells slots Q (F0 m pc ls (.int (zI i) :: .ref (zA P o (k + 1) 0) :: rest)) := by
  obtain ⟨v1, v2, v3⟩ := hV
  have hat := hG.1.1 o (k + 1) 0 (zvd_arr hc hk)
  subst hc
  simp only [zfx, hk, hn] at hat
  have hlt : i.toNat < n := by omega
  have har : ArrOfT s (P.2.1 0) .int := (hC.2.2.2.2.2.1.2.1 0 (by omega)).1
  refine W.iald (v := .int (zI (zsg G o k i))) hC.1 hC.2.1 hat (har n _) (fun q => by cases q) (by rw [arrV_size]; exact zI_in hi v1 v2) ?_ rfl rfl hd (kk _ (hG.1.2.2 o k i) v3)
  rw [zI_clamp hi, arrV_read _ _ hlt, zint i v1]
theorem z_zald (hC : zCx P p m c cc nL s args own) (hG : zS P s G H locs) {o ci k n : Nat} {i : Int} {V : Int → Prop} (hc : tCls o = ci) (hk : tAk ci k = 2) (hn : tAl ci k = n) (hi : inR i) (hV : zaL G o k n i V) (hd : decode cc pc = .ok (.baload, 1))
    (kk : ∀ x, inR x → V x → W p l e R s m args below meth c H locs cells slots Q (F0 m (pc + 1) ls (.int (zI x) :: rest))) : W p l e R s m args below meth c H locs cells slots Q (F0 m pc ls (.int (zI i) :: .ref (zA P o (k + 1) 0) :: rest)) := by
  obtain ⟨v1, v2, v3⟩ := hV
  have hat := hG.1.1 o (k + 1) 0 (zvd_arr hc hk)
  subst hc
  simp only [zfx, hk, hn] at hat
  have hlt : i.toNat < n := by omega
  have har : ArrOfT s (P.2.1 1) .boolean := (hC.2.2.2.2.2.1.2.1 1 (by omega)).1
  refine W.zald (v := .int (zI (zsg G o k i))) hC.1 hC.2.1 hat (har n _) (fun q => by cases q) (by rw [arrV_size]; exact zI_in hi v1 v2) ?_ rfl rfl hd (kk _ (hG.1.2.2 o k i) v3)
  rw [zI_clamp hi, arrV_read _ _ hlt, zint i v1]
theorem z_iast (hC : zCx P p m c cc nL s args own) (hG : zS P s G H locs) {o ci k n : Nat} {i x : Int} {V : ZG → Prop} (hc : tCls o = ci) (h1 : 1 ≤ ci) (h2 : ci ≤ 16) (hk : tAk ci k = 1) (hf : tFk ci k = 1) (hn : tAl ci k = n) (hi : inR i) (hx : inR x) (hV : zaS G o k n i x V) (hd : decode cc pc = .ok (.iastore, 1))
    (kk : ∀ G1 H1 locs1, zS P s G1 H1 locs1 → V G1 → W p l e R s m args below meth c H1 locs1 cells slots Q (F0 m (pc + 1) ls rest)) : W p l e R s m args below meth c H locs cells slots Q (F0 m pc ls (.int (zI x) :: .int (zI i) :: .ref (zA P o (k + 1) 0) :: rest)) := by
  obtain ⟨v1, v2, v3⟩ := hV
  have hv := zvd_arr hc hk
  have hat := hG.1.1 o (k + 1) 0 hv
  have h16 := zlt16 hc h1 (Nat.le_trans h2 (by decide))
  have hP := hC.2.2.2.2.2.1.2.2.2.1
  subst hc
  simp only [zfx, hk, hn] at hat
  have har : ArrOfT s (P.2.1 0) .int := (hC.2.2.2.2.2.1.2.1 0 (by omega)).1
  refine W.iast hC.1 hC.2.1 hat (har n _) (fun q => by cases q) (by rw [arrV_size]; exact zI_in hi v1 v2) rfl rfl hd fun H1 e z oq => ?_
  refine kk _ _ _ (hG.put (hG.1.arrS hP hv h16 (by rw [hf]; decide) (by rw [hk]; decide) hx ?_ oq) z oq (hP.2.1 o (k + 1) 0 hv h16)) v3
  simp only [zfx, hk, hn]
  refine Eq.trans e (congrArg some ?_)
  rw [arrV_store, zI_clamp hi]
  refine arrV_congr fun q hq => ?_
  rw [zsg_ss]
  by_cases h : q = i.toNat
  · subst h
    simp [updV, zint i v1]
  · have h' : ¬ (q : Int) = i := by omega
    simp [updV, h, h']
theorem z_zast (hC : zCx P p m c cc nL s args own) (hG : zS P s G H locs) {o ci k n : Nat} {i x : Int} {V : ZG → Prop} (hc : tCls o = ci) (h1 : 1 ≤ ci) (h2 : ci ≤ 16) (hk : tAk ci k = 2) (hf : tFk ci k = 1) (hn : tAl ci k = n) (hi : inR i) (hx : x = 0 ∨ x = 1) (hV : zaS G o k n i x V) (hd : decode cc pc = .ok (.bastore, 1))
    (kk : ∀ G1 H1 locs1, zS P s G1 H1 locs1 → V G1 → W p l e R s m args below meth c H1 locs1 cells slots Q (F0 m (pc + 1) ls rest)) : W p l e R s m args below meth c H locs cells slots Q (F0 m pc ls (.int (zI x) :: .int (zI i) :: .ref (zA P o (k + 1) 0) :: rest)) := by
  obtain ⟨v1, v2, v3⟩ := hV
  have hv := zvd_arr hc hk
  have hat := hG.1.1 o (k + 1) 0 hv
  have h16 := zlt16 hc h1 (Nat.le_trans h2 (by decide))
  have hP := hC.2.2.2.2.2.1.2.2.2.1
  have hxr : inR x := by rcases hx with rfl | rfl <;> (unfold inR; omega)
  subst hc
  simp only [zfx, hk, hn] at hat
  have har : ArrOfT s (P.2.1 1) .boolean := (hC.2.2.2.2.2.1.2.1 1 (by omega)).1
  refine W.zast hC.1 hC.2.1 hat (har n _) (fun q => by cases q) (by rw [arrV_size]; exact zI_in hi v1 v2) rfl rfl hd fun H1 e z oq => ?_
  refine kk _ _ _ (hG.put (hG.1.arrS hP hv h16 (by rw [hf]; decide) (by rw [hk]; decide) hxr ?_ oq) z oq (hP.2.1 o (k + 1) 0 hv h16)) v3
  simp only [zfx, hk, hn]
  refine Eq.trans e (congrArg some ?_)
  rw [(znarrow (ty := .boolean) (Or.inr ⟨rfl, hx⟩)).1, arrV_store, zI_clamp hi]
  refine arrV_congr fun q hq => ?_
  rw [zsg_ss]
  by_cases h : q = i.toNat
  · subst h
    simp [updV, zint i v1]
  · have h' : ¬ (q : Int) = i := by omega
    simp [updV, h, h']
end ZST
