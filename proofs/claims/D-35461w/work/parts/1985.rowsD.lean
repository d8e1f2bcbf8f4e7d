/-! the rows again, for the constructors' time; printed by gen_d.py out of the parts before -/
set_option maxRecDepth 100000
/-! LAYOUT: where the abstract state lies in the heap -/
def zvd_d (o j i : Nat) : Bool := decide (16 ≤ o) && zvd o j i
/-- the heap holds the abstract state -/
def Rel_d (P : ZP) (G : ZG) (H : Heap) : Prop :=
  (∀ o j i, zvd_d o j i = true → zat P (zA P o j i) (zfx P G o j i) H) ∧
  (∀ a c, zsj G a = some c → zat P a (zdx P c) H ∧ zce c ∧ zB P ≤ a ∧ ∀ o j i, zvd_d o j i = true → zA P o j i ≠ a) ∧
  (∀ o k i, inR (zsg G o k i))
/-- the layout itself -/
def zPok_d (P : ZP) : Prop :=
  (∀ o j i o' j' i', zvd_d o j i = true → zvd_d o' j' i' = true → o < 16 → zA P o j i = zA P o' j' i' → o = o' ∧ j = j' ∧ i = i') ∧
  (∀ o j i, zvd_d o j i = true → o < 16 → zB P ≤ zA P o j i) ∧
  zA P 16 0 0 < zB P ∧ (∀ o, 20 ≤ o → o < 24 → zA P o 0 0 < zB P ∧ ∀ o', 20 ≤ o' → o' < 24 → zA P o 0 0 = zA P o' 0 0 → o = o')
/-! ROWS 1: what the layout keeps -/
/-- one dynamic cell is written -/
theorem Rel_d.dyn {P : ZP} {G : ZG} {H H1 : Heap} (hR : Rel_d P G H) {a : Nat} {c0 c : ZC} (h0 : zsj G a = some c0) (hc : zce c) (hat : zat P a (zdx P c) H1) (oq : ∀ q, q ≠ a → H1[q]? = H[q]?) : Rel_d P (zsc G a c) H1 := by
  obtain ⟨-, -, h3, h4⟩ := hR.2.1 a c0 h0
  refine ⟨fun o j i hv => (hR.1 o j i hv).kept (oq _ (h4 o j i hv)), fun b d hd => ?_, hR.2.2⟩
  rw [zsj_sc] at hd
  by_cases e : b = a
  · subst e
    rw [if_pos rfl] at hd
    cases hd
    exact ⟨hat, hc, h3, h4⟩
  · rw [if_neg e] at hd
    obtain ⟨g1, g2, g3, g4⟩ := hR.2.1 b d hd
    exact ⟨g1.kept (oq b e), g2, g3, g4⟩
/-- a new cell -/
theorem Rel_d.new {P : ZP} {G : ZG} {H H1 : Heap} (hR : Rel_d P G H) {c : ZC} (hb : zB P ≤ H.size) (hc : zce c) (hat : zat P H.size (zdx P c) H1) (oq : ∀ q, q < H.size → H1[q]? = H[q]?) : zsj G H.size = none ∧ Rel_d P (zsc G H.size c) H1 := by
  have hn : zsj G H.size = none := by
    cases hg : zsj G H.size with
    | none => rfl
    | some d => exact absurd (hR.2.1 _ _ hg).1.lt (Nat.lt_irrefl _)
  refine ⟨hn, fun o j i hv => (hR.1 o j i hv).kept (oq _ (hR.1 o j i hv).lt), fun b d hd => ?_, hR.2.2⟩
  rw [zsj_sc] at hd
  by_cases e : b = H.size
  · subst e
    rw [if_pos rfl] at hd
    cases hd
    exact ⟨hat, hc, hb, fun o j i hv z => absurd (hR.1 o j i hv).lt (by rw [z]; exact Nat.lt_irrefl _)⟩
  · rw [if_neg e] at hd
    obtain ⟨g1, g2, g3, g4⟩ := hR.2.1 b d hd
    exact ⟨g1.kept (oq b g1.lt), g2, g3, g4⟩
/-! ROWS 2: single instructions over the abstract state -/
def zKn_d (P : ZP) (U : State) : Prop :=
  (∀ c, 1 ≤ c → c ≤ 16 → u_Kn U (cR c) (cT c) (cN c) (P.1.1 c) (P.1.2 c)) ∧
  (∀ k, k ≤ 6 → ArrOfT U (P.2.1 k) (aT k) ∧ va_RA U (P.2.1 k) (aT k)) ∧
  (∀ w ∈ znx, znxOk w = true ∧ va_Nw w U) ∧ zPok_d P ∧ zB P ≤ U.heap.size ∧ zNc U
def zCx_d (P : ZP) (p : Program) (m : MethodId) (c : Code) (cc : ByteArray) (nL : Nat) (s : State) (args : Array Value) (own : String) : Prop :=
  p.tables.exec = Jvm.exec ∧ c.code = cc ∧ c.maxLocals = nL ∧ s.vm.findClass own = some m.cls ∧ (∀ w ∈ lw_all, w.before args s = true) ∧ zKn_d P s ∧ zSt P s s.heap
def zS_d (P : ZP) (s : State) (G : ZG) (H : Heap) (locs : List Loc) : Prop := Rel_d P G H ∧ va_S (fun q => zB P ≤ q) s.heap H locs
section ZST
variable {p : Program} {l : Launch} {e : Env} {R : Room} {s : State} {m : MethodId} {args : Array Value} {below : List Frame} {meth : Method} {c : Code} {H : Heap} {locs : List Loc} {cells slots : Nat} {Q : State → Prop}
variable {cc : ByteArray} {pc nL : Nat} {ls : Array Slot} {rest : List Value} {P : ZP} {G : ZG} {own : String}
theorem zS_d.put {H1 : Heap} {a k : Nat} {G' : ZG} (hG : zS_d P s G H locs) (hR : Rel_d P G' H1) (z : H1.size = H.size) (oq : ∀ q : Nat, q ≠ a → H1[q]? = H[q]?) (ha : zB P ≤ a) : zS_d P s G' H1 (locs ++ [⟨a, k⟩]) := ⟨hR, hG.2.put z oq ha⟩
theorem zS_d.grow {H1 : Heap} {G' : ZG} (hG : zS_d P s G H locs) (hR : Rel_d P G' H1) (z : H.size ≤ H1.size) (oq : ∀ q : Nat, q < H.size → H1[q]? = H[q]?) : zS_d P s G' H1 locs :=
  ⟨hR, Nat.le_trans hG.2.1 z, fun q h1 h2 => (oq q (Nat.lt_of_lt_of_le h1 hG.2.1)).trans (hG.2.2.1 q h1 h2), hG.2.2.2⟩
theorem zCx_d.base (hC : zCx_d P p m c cc nL s args own) (hG : zS_d P s G H locs) : zB P ≤ H.size := Nat.le_trans hC.2.2.2.2.2.1.2.2.2.2.1 hG.2.1
theorem zgetf_d (hC : zCx_d P p m c cc nL s args own) {idx ci k a : Nat} (hF : zFL own idx ci k) {V : Nat → Value} (hO : t_OB a (P.1.1 ci) (cN ci) (P.1.2 ci) H V) (hd : decode cc pc = .ok (.getfield idx, 3))
    (kk : W p l e R s m args below meth c H locs cells slots Q (F0 m (pc + 3) ls (V k :: rest))) : W p l e R s m args below meth c H locs cells slots Q (F0 m pc ls (.ref a :: rest)) := by
  obtain ⟨hx, hb, -, hown, hts, hK, -⟩ := hC
  obtain ⟨hk, h1, h2, ref, hl, hsm⟩ := hF
  obtain ⟨cell, q1, q2, q3, q4⟩ := hO
  obtain ⟨hS, hfc, kC, hkC, hkind⟩ := hK.1 ci h1 h2
  obtain ⟨cf, kf, fi, f, hi, hsl⟩ := hS k hk
  have hsame : s.fieldFound? ref (cT ci k).2.1 (cT ci k).2.2.1 = some (cf, kf, fi, f) := by
    rcases hsm with h | h
    · rw [h]; exact hi
    · exact u_same (hts _ h) _ hi
  rcases hl with hl | ⟨host, hl⟩
  · exact W.getf hx hb hown (hts _ hl) hsame (u_facts hfc hkC (u_lays hts (cin ci h1 h2) hk) hi).1 q1 (by rw [q3]; exact fun h => by cases h) (v := V k) (by rw [hsl]; exact q4 k hk) rfl rfl hd kk
  · exact va_Wgetf hx hb hown (va_Nw.use rfl (hK.2.2.1 _ hl).2) hsame (u_facts hfc hkC (u_lays hts (cin ci h1 h2) hk) hi).1 q1 (by rw [q3]; exact fun h => by cases h) (v := V k) (by rw [hsl]; exact q4 k hk) rfl rfl hd kk
theorem zap_d (hC : zCx_d P p m c cc nL s args own) {ci k : Nat} (h1 : 1 ≤ ci) (h2 : ci ≤ 16) (hk : k < cN ci) {q : Nat} (hq : q < cN ci) (hn : (cT ci q).2.1 ≠ (cT ci k).2.1) : P.1.2 ci k ≠ P.1.2 ci q := by
  obtain ⟨-, -, -, -, hts, hK, -⟩ := hC
  obtain ⟨hS, -⟩ := hK.1 ci h1 h2
  obtain ⟨_, _, _, fa, hia, ea⟩ := hS k hk
  obtain ⟨_, _, _, fb, hib, eb⟩ := hS q hq
  rw [← ea, ← eb]
  refine u_apart (u_lays hts (cin ci h1 h2) hk) (u_lays hts (cin ci h1 h2) hq) hia hib ?_
  rw [(State.fieldFound?_type hia (cty ci h1 h2 k hk)).1, (State.fieldFound?_type hib (cty ci h1 h2 q hq)).1]
  exact fun z => hn z.symm
/-- putfield, not final; the fields of another name stay -/
theorem zputf_d (hC : zCx_d P p m c cc nL s args own) {idx ci k a : Nat} (hF : zFL own idx ci k) {V : Nat → Value} (hO : t_OB a (P.1.1 ci) (cN ci) (P.1.2 ci) H V) (hfin : (cT ci k).2.2.2 = false) {v : Value} (hn : narrow (cF ci k) v = v) (hfit : fits (cF ci k) v = true)
    (hd : decode cc pc = .ok (.putfield idx, 3)) (kk : ∀ (H1 : Heap) (i : Nat) (W1 : Nat → Value), t_OB a (P.1.1 ci) (cN ci) (P.1.2 ci) H1 W1 → W1 k = v → (∀ q, q < cN ci → (cT ci q).2.1 ≠ (cT ci k).2.1 → W1 q = V q) → (∀ q, q < cN ci → W1 q = V q ∨ W1 q = v) → H1.size = H.size → (∀ q, q ≠ a → H1[q]? = H[q]?) →
      W p l e R s m args below meth c H1 (locs ++ [⟨a, i⟩]) cells slots Q (F0 m (pc + 3) ls rest)) : W p l e R s m args below meth c H locs cells slots Q (F0 m pc ls (v :: .ref a :: rest)) := by
  have hC0 := hC
  obtain ⟨hx, hb, -, hown, hts, hK, -⟩ := hC
  obtain ⟨hk, h1, h2, ref, hl, hsm⟩ := hF
  obtain ⟨cell, q1, q2, q3, q4⟩ := hO
  obtain ⟨hS, hfc, kC, hkC, hkind⟩ := hK.1 ci h1 h2
  obtain ⟨cf, kf, fi, f, hi, hsl⟩ := hS k hk
  have hsame : s.fieldFound? ref (cT ci k).2.1 (cT ci k).2.2.1 = some (cf, kf, fi, f) := by
    rcases hsm with h | h
    · rw [h]; exact hi
    · exact u_same (hts _ h) _ hi
  have hlay := hts _ (cin ci h1 h2 _ (u_in_lay hk))
  unfold u_lay at hlay
  rw [if_neg (by rw [hfin]; decide)] at hlay
  have hst := (u_facts hfc hkC (u_lays hts (cin ci h1 h2) hk) hi).1
  have h6 := u_store hfc hkC hkind hlay hi (cty ci h1 h2 k hk) hn hfit
  have hlt : P.1.2 ci k < cell.slots.size := k2_hasslot (q4 k hk)
  have key : ∀ H1 : Heap, H1[a]? = some (cell.setSlot (P.1.2 ci k) v) → H1.size = H.size → (∀ q, q ≠ a → H1[q]? = H[q]?) → W p l e R s m args below meth c H1 (locs ++ [⟨a, P.1.2 ci k⟩]) cells slots Q (F0 m (pc + 3) ls rest) := by
    intro H1 e1 e2 e3
    refine kk H1 (P.1.2 ci k) (fun q => if P.1.2 ci q = P.1.2 ci k then v else V q) ⟨_, e1, q2, q3, fun q hq => ?_⟩ (if_pos rfl) (fun q hq hne => if_neg fun z => zap_d hC0 h1 h2 hk hq hne z.symm) (fun q hq => ?_) e2 e3
    · show _ = some (if P.1.2 ci q = P.1.2 ci k then v else V q)
      by_cases z : P.1.2 ci q = P.1.2 ci k
      · rw [if_pos z, z]
        simp [Cell.setSlot, Array.getElem?_setIfInBounds, hlt]
      · rw [if_neg z, slot_ne _ _ (Ne.symm z)]
        exact q4 q hq
    · by_cases z : P.1.2 ci q = P.1.2 ci k
      · exact Or.inr (if_pos z)
      · exact Or.inl (if_neg z)
  rcases hl with hl | ⟨host, hl⟩
  · refine W.putK hx hb (f := f) ⟨hown, hts _ hl, ⟨_, _, _, hsame⟩, hst⟩ (by rw [q2]; exact h6) q1 q3 (by rw [hsl]; exact hlt) rfl rfl hd fun H' e1 e2 e3 => ?_
    rw [hsl] at e1 ⊢
    exact key H' e1 e2 e3
  · refine va_WputK hx hb (f := f) hown (va_Nw.use rfl (hK.2.2.1 _ hl).2) hsame hst (by rw [q2]; exact h6) q1 q3 (by rw [hsl]; exact hlt) rfl rfl hd fun H' e1 e2 e3 => ?_
    rw [hsl] at e1 ⊢
    exact key H' e1 e2 e3
/-- putfield of a final field, in a constructor -/
theorem zputfF_d (hC : zCx_d P p m c cc nL s args own) {idx ci k a : Nat} (hF : zFL own idx ci k) {V : Nat → Value} (hO : t_OB a (P.1.1 ci) (cN ci) (P.1.2 ci) H V) (hfin : (cT ci k).2.2.2 = true) (hin2 : meth.name = "<init>") (hdecl : (cT ci k).1 = own) {v : Value} (hn : narrow (cF ci k) v = v) (hfit : fits (cF ci k) v = true)
    (hnest : ∀ ref host, Cond.fieldLinkNest own idx ref (cT ci k).2.1 (cT ci k).2.2.1 host ∉ znx)
    (hd : decode cc pc = .ok (.putfield idx, 3)) (kk : ∀ (H1 : Heap) (i : Nat) (W1 : Nat → Value), t_OB a (P.1.1 ci) (cN ci) (P.1.2 ci) H1 W1 → W1 k = v → (∀ q, q < cN ci → (cT ci q).2.1 ≠ (cT ci k).2.1 → W1 q = V q) → (∀ q, q < cN ci → W1 q = V q ∨ W1 q = v) → H1.size = H.size → (∀ q, q ≠ a → H1[q]? = H[q]?) →
      W p l e R s m args below meth c H1 (locs ++ [⟨a, i⟩]) cells slots Q (F0 m (pc + 3) ls rest)) : W p l e R s m args below meth c H locs cells slots Q (F0 m pc ls (v :: .ref a :: rest)) := by
  have hC0 := hC
  obtain ⟨hx, hb, -, hown, hts, hK, -⟩ := hC
  obtain ⟨hk, h1, h2, ref, hl, hsm⟩ := hF
  obtain ⟨cell, q1, q2, q3, q4⟩ := hO
  obtain ⟨hS, hfc, kC, hkC, hkind⟩ := hK.1 ci h1 h2
  obtain ⟨cf, kf, fi, f, hi, hsl⟩ := hS k hk
  have hsame : s.fieldFound? ref (cT ci k).2.1 (cT ci k).2.2.1 = some (cf, kf, fi, f) := by
    rcases hsm with h | h
    · rw [h]; exact hi
    · exact u_same (hts _ h) _ hi
  have hlay := hts _ (cin ci h1 h2 _ (u_in_lay hk))
  unfold u_lay at hlay
  rw [if_pos hfin] at hlay
  have hst := (u_facts hfc hkC (u_lays hts (cin ci h1 h2) hk) hi).1
  have hcf : m.cls = cf := by
    obtain ⟨_, _, c', _, _, _, -, -, hf', -, -, -, hown2, -⟩ := Cond.laysFinal_spec hlay
    have e1 : c' = cf := by have := hi.symm.trans hf'; simp at this; exact this.1.symm
    rw [hdecl] at hown2
    rw [← e1]; exact Option.some.inj (hown.symm.trans hown2)
  have h6 := u_fits hfc hkC hkind (Or.inr hlay) hi (cty ci h1 h2 k hk) hn hfit
  have hlt : P.1.2 ci k < cell.slots.size := k2_hasslot (q4 k hk)
  rcases hl with hl | ⟨host, hl⟩
  · refine W.putFinK hx hb hown (hts _ hl) hsame hst hcf hin2 (by rw [q2]; exact h6) q1 q3 (by rw [hsl]; exact hlt) rfl rfl hd fun H1 e1 e2 e3 => ?_
    rw [hsl] at e1 ⊢
    refine kk H1 (P.1.2 ci k) (fun q => if P.1.2 ci q = P.1.2 ci k then v else V q) ⟨_, e1, q2, q3, fun q hq => ?_⟩ (if_pos rfl) (fun q hq hne => if_neg fun z => zap_d hC0 h1 h2 hk hq hne z.symm) (fun q hq => ?_) e2 e3
    · show _ = some (if P.1.2 ci q = P.1.2 ci k then v else V q)
      by_cases z : P.1.2 ci q = P.1.2 ci k
      · rw [if_pos z, z]
        simp [Cell.setSlot, Array.getElem?_setIfInBounds, hlt]
      · rw [if_neg z, slot_ne _ _ (Ne.symm z)]
        exact q4 q hq
    · by_cases z : P.1.2 ci q = P.1.2 ci k
      · exact Or.inr (if_pos z)
      · exact Or.inl (if_neg z)
  · exact absurd hl (hnest ref host)

/-! fixed objects -/
/-! fixed arrays -/
end ZST

/-! ROWS 3: the stack, locals, arithmetic, branches -/
section ZPS
variable {p : Program} {l : Launch} {e : Env} {R : Room} {s : State} {m : MethodId} {args : Array Value} {below : List Frame} {meth : Method} {c : Code} {H : Heap} {locs : List Loc} {cells slots : Nat} {Q : State → Prop}
variable {cc : ByteArray} {pc nL : Nat} {ls : Array Slot} {rest : List Value} {P : ZP} {G : ZG} {own : String}
theorem z_iconst_d (hC : zCx_d P p m c cc nL s args own) {n : Int} (hd : decode cc pc = .ok (.iconst n, 1))
    (kk : W p l e R s m args below meth c H locs cells slots Q (F0 m (pc + 1) ls (.int (zI n) :: rest))) : W p l e R s m args below meth c H locs cells slots Q (F0 m pc ls rest) := lv_iconst hC.1 hC.2.1 hd rfl kk
theorem z_bipush_d (hC : zCx_d P p m c cc nL s args own) {n : Int} (hv : (Int8.ofInt n).toInt32 = zI n) (hd : decode cc pc = .ok (.bipush n, 2))
    (kk : W p l e R s m args below meth c H locs cells slots Q (F0 m (pc + 2) ls (.int (zI n) :: rest))) : W p l e R s m args below meth c H locs cells slots Q (F0 m pc ls rest) := lv_bipush hC.1 hC.2.1 hd hv kk
theorem z_sipush_d (hC : zCx_d P p m c cc nL s args own) {n : Int} (hv : (Int16.ofInt n).toInt32 = zI n) (hd : decode cc pc = .ok (.sipush n, 3))
    (kk : W p l e R s m args below meth c H locs cells slots Q (F0 m (pc + 3) ls (.int (zI n) :: rest))) : W p l e R s m args below meth c H locs cells slots Q (F0 m pc ls rest) := lv_sipush hC.1 hC.2.1 hd hv kk
theorem z_iload_n_d (hC : zCx_d P p m c cc nL s args own) {k : Fin 4} {i : Nat} {x : Int} (hi : (k : Nat) = i) (hl : ls[i]? = some (.val (.int (zI x)))) (hd : decode cc pc = .ok (.iload_n k, 1))
    (kk : W p l e R s m args below meth c H locs cells slots Q (F0 m (pc + 1) ls (.int (zI x) :: rest))) : W p l e R s m args below meth c H locs cells slots Q (F0 m pc ls rest) := lv_iload_n hC.1 hC.2.1 hd hi hl kk
theorem z_iload_d (hC : zCx_d P p m c cc nL s args own) {i : Nat} {x : Int} (hl : ls[i]? = some (.val (.int (zI x)))) (hd : decode cc pc = .ok (.iload i, 2))
    (kk : W p l e R s m args below meth c H locs cells slots Q (F0 m (pc + 2) ls (.int (zI x) :: rest))) : W p l e R s m args below meth c H locs cells slots Q (F0 m pc ls rest) := lv_iload hC.1 hC.2.1 hd hl kk
theorem z_aload_n_d (hC : zCx_d P p m c cc nL s args own) {k : Fin 4} {i : Nat} {v : Value} (hr : zvr v) (hi : (k : Nat) = i) (hl : ls[i]? = some (.val v)) (hd : decode cc pc = .ok (.aload_n k, 1))
    (kk : W p l e R s m args below meth c H locs cells slots Q (F0 m (pc + 1) ls (v :: rest))) : W p l e R s m args below meth c H locs cells slots Q (F0 m pc ls rest) := by
  rcases hr with rfl | ⟨a, rfl⟩
  · exact lv_aload_nN hC.1 hC.2.1 hd hi hl kk
  · exact lv_aload_n hC.1 hC.2.1 hd hi hl kk
theorem z_aload_d (hC : zCx_d P p m c cc nL s args own) {i : Nat} {v : Value} (hr : zvr v) (hl : ls[i]? = some (.val v)) (hd : decode cc pc = .ok (.aload i, 2))
    (kk : W p l e R s m args below meth c H locs cells slots Q (F0 m (pc + 2) ls (v :: rest))) : W p l e R s m args below meth c H locs cells slots Q (F0 m pc ls rest) := by
  rcases hr with rfl | ⟨a, rfl⟩
  · exact lv_aloadN hC.1 hC.2.1 hd hl kk
  · exact lv_aload hC.1 hC.2.1 hd hl kk
theorem z_istore_n_d (hC : zCx_d P p m c cc nL s args own) {k : Fin 4} {i : Nat} {x : Int} (hi : (k : Nat) = i) {lv lv' : List (Nat × Value)} (h : zL ls nL lv) (hn : i < nL) (hl : (i, .int (zI x)) :: zdel i lv = lv') (hd : decode cc pc = .ok (.istore_n k, 1))
    (kk : ∀ ls' : Array Slot, zL ls' nL lv' → W p l e R s m args below meth c H locs cells slots Q (F0 m (pc + 1) ls' rest)) : W p l e R s m args below meth c H locs cells slots Q (F0 m pc ls (.int (zI x) :: rest)) := lv_istore_n hC.1 hC.2.1 hd hi h.1 hn rfl (fun ls' hl' => kk ls' ⟨by rw [← hl, ← zdel_eq h.2]; exact hl', by rw [← hl]; exact zc1_cons rfl (zc1_del h.2)⟩)
theorem z_istore_d (hC : zCx_d P p m c cc nL s args own) {i : Nat} {x : Int} {lv lv' : List (Nat × Value)} (h : zL ls nL lv) (hn : i < nL) (hl : (i, .int (zI x)) :: zdel i lv = lv') (hd : decode cc pc = .ok (.istore i, 2))
    (kk : ∀ ls' : Array Slot, zL ls' nL lv' → W p l e R s m args below meth c H locs cells slots Q (F0 m (pc + 2) ls' rest)) : W p l e R s m args below meth c H locs cells slots Q (F0 m pc ls (.int (zI x) :: rest)) := lv_istore hC.1 hC.2.1 hd h.1 hn rfl (fun ls' hl' => kk ls' ⟨by rw [← hl, ← zdel_eq h.2]; exact hl', by rw [← hl]; exact zc1_cons rfl (zc1_del h.2)⟩)
theorem z_astore_n_d (hC : zCx_d P p m c cc nL s args own) {k : Fin 4} {i : Nat} {v : Value} (hr : zvr v) (hi : (k : Nat) = i) {lv lv' : List (Nat × Value)} (h : zL ls nL lv) (hn : i < nL) (hl : (i, v) :: zdel i lv = lv') (hd : decode cc pc = .ok (.astore_n k, 1))
    (kk : ∀ ls' : Array Slot, zL ls' nL lv' → W p l e R s m args below meth c H locs cells slots Q (F0 m (pc + 1) ls' rest)) : W p l e R s m args below meth c H locs cells slots Q (F0 m pc ls (v :: rest)) := by
  have hc := zvr_cat hr
  rcases hr with rfl | ⟨a, rfl⟩
  · exact lv_astore_nN hC.1 hC.2.1 hd hi h.1 hn rfl (fun ls' hl' => kk ls' ⟨by rw [← hl, ← zdel_eq h.2]; exact hl', by rw [← hl]; exact zc1_cons rfl (zc1_del h.2)⟩)
  · exact lv_astore_n hC.1 hC.2.1 hd hi h.1 hn rfl (fun ls' hl' => kk ls' ⟨by rw [← hl, ← zdel_eq h.2]; exact hl', by rw [← hl]; exact zc1_cons rfl (zc1_del h.2)⟩)
theorem z_astore_d (hC : zCx_d P p m c cc nL s args own) {i : Nat} {v : Value} (hr : zvr v) {lv lv' : List (Nat × Value)} (h : zL ls nL lv) (hn : i < nL) (hl : (i, v) :: zdel i lv = lv') (hd : decode cc pc = .ok (.astore i, 2))
    (kk : ∀ ls' : Array Slot, zL ls' nL lv' → W p l e R s m args below meth c H locs cells slots Q (F0 m (pc + 2) ls' rest)) : W p l e R s m args below meth c H locs cells slots Q (F0 m pc ls (v :: rest)) := by
  have hc := zvr_cat hr
  rcases hr with rfl | ⟨a, rfl⟩
  · exact lv_astoreN hC.1 hC.2.1 hd h.1 hn rfl (fun ls' hl' => kk ls' ⟨by rw [← hl, ← zdel_eq h.2]; exact hl', by rw [← hl]; exact zc1_cons rfl (zc1_del h.2)⟩)
  · exact lv_astore hC.1 hC.2.1 hd h.1 hn rfl (fun ls' hl' => kk ls' ⟨by rw [← hl, ← zdel_eq h.2]; exact hl', by rw [← hl]; exact zc1_cons rfl (zc1_del h.2)⟩)
theorem z_iinc_d (hC : zCx_d P p m c cc nL s args own) {i k : Nat} {n x : Int} {lv lv' : List (Nat × Value)} (h : zL ls nL lv) (hk : lv[k]? = some (i, .int (zI x))) (hn : i < nL) (hl : (i, .int (zI (w32 (x + n)))) :: zdel i lv = lv') (hd : decode cc pc = .ok (.iinc i n, 3))
    (kk : ∀ ls' : Array Slot, zL ls' nL lv' → W p l e R s m args below meth c H locs cells slots Q (F0 m (pc + 3) ls' rest)) : W p l e R s m args below meth c H locs cells slots Q (F0 m pc ls rest) := lv_iinc hC.1 hC.2.1 hd h.1 hk (zI_add x n) hn rfl (fun ls' hl' => kk ls' ⟨by rw [← hl, ← zdel_eq h.2]; exact hl', by rw [← hl]; exact zc1_cons rfl (zc1_del h.2)⟩)
theorem z_iadd_d (hC : zCx_d P p m c cc nL s args own) {x y : Int} (hd : decode cc pc = .ok (.iadd, 1))
    (kk : W p l e R s m args below meth c H locs cells slots Q (F0 m (pc + 1) ls (.int (zI (w32 (x + y))) :: rest))) : W p l e R s m args below meth c H locs cells slots Q (F0 m pc ls (.int (zI y) :: .int (zI x) :: rest)) := lv_iadd hC.1 hC.2.1 hd (by rw [zI_add]; exact kk)
theorem z_isub_d (hC : zCx_d P p m c cc nL s args own) {x y : Int} (hd : decode cc pc = .ok (.isub, 1))
    (kk : W p l e R s m args below meth c H locs cells slots Q (F0 m (pc + 1) ls (.int (zI (w32 (x - y))) :: rest))) : W p l e R s m args below meth c H locs cells slots Q (F0 m pc ls (.int (zI y) :: .int (zI x) :: rest)) := lv_isub hC.1 hC.2.1 hd (by rw [zI_sub]; exact kk)
theorem z_imul_d (hC : zCx_d P p m c cc nL s args own) {x y : Int} (hd : decode cc pc = .ok (.imul, 1))
    (kk : W p l e R s m args below meth c H locs cells slots Q (F0 m (pc + 1) ls (.int (zI (w32 (x * y))) :: rest))) : W p l e R s m args below meth c H locs cells slots Q (F0 m pc ls (.int (zI y) :: .int (zI x) :: rest)) := lv_imul hC.1 hC.2.1 hd (by rw [zI_mul]; exact kk)
theorem z_iand_d (hC : zCx_d P p m c cc nL s args own) {x y : Int} (hd : decode cc pc = .ok (.iand, 1))
    (kk : W p l e R s m args below meth c H locs cells slots Q (F0 m (pc + 1) ls (.int (zI (bAnd x y)) :: rest))) : W p l e R s m args below meth c H locs cells slots Q (F0 m pc ls (.int (zI y) :: .int (zI x) :: rest)) := lv_iand hC.1 hC.2.1 hd (by rw [show zI (bAnd x y) = _ from zI_of _] at kk; exact kk)
theorem z_ior_d (hC : zCx_d P p m c cc nL s args own) {x y : Int} (hd : decode cc pc = .ok (.ior, 1))
    (kk : W p l e R s m args below meth c H locs cells slots Q (F0 m (pc + 1) ls (.int (zI (bOr x y)) :: rest))) : W p l e R s m args below meth c H locs cells slots Q (F0 m pc ls (.int (zI y) :: .int (zI x) :: rest)) := lv_ior hC.1 hC.2.1 hd (by rw [show zI (bOr x y) = _ from zI_of _] at kk; exact kk)
theorem z_ixor_d (hC : zCx_d P p m c cc nL s args own) {x y : Int} (hd : decode cc pc = .ok (.ixor, 1))
    (kk : W p l e R s m args below meth c H locs cells slots Q (F0 m (pc + 1) ls (.int (zI (bXor x y)) :: rest))) : W p l e R s m args below meth c H locs cells slots Q (F0 m pc ls (.int (zI y) :: .int (zI x) :: rest)) := lv_ixor hC.1 hC.2.1 hd (by rw [show zI (bXor x y) = _ from zI_of _] at kk; exact kk)
theorem z_ishl_d (hC : zCx_d P p m c cc nL s args own) {x y : Int} (hd : decode cc pc = .ok (.ishl, 1))
    (kk : W p l e R s m args below meth c H locs cells slots Q (F0 m (pc + 1) ls (.int (zI (bShl x y)) :: rest))) : W p l e R s m args below meth c H locs cells slots Q (F0 m pc ls (.int (zI y) :: .int (zI x) :: rest)) := lv_ishl hC.1 hC.2.1 hd (by rw [show zI (bShl x y) = _ from zI_of _] at kk; exact kk)
theorem z_ishr_d (hC : zCx_d P p m c cc nL s args own) {x y : Int} (hd : decode cc pc = .ok (.ishr, 1))
    (kk : W p l e R s m args below meth c H locs cells slots Q (F0 m (pc + 1) ls (.int (zI (bShr x y)) :: rest))) : W p l e R s m args below meth c H locs cells slots Q (F0 m pc ls (.int (zI y) :: .int (zI x) :: rest)) := lv_ishr hC.1 hC.2.1 hd (by rw [show zI (bShr x y) = _ from zI_of _] at kk; exact kk)
theorem z_iushr_d (hC : zCx_d P p m c cc nL s args own) {x y : Int} (hd : decode cc pc = .ok (.iushr, 1))
    (kk : W p l e R s m args below meth c H locs cells slots Q (F0 m (pc + 1) ls (.int (zI (bUshr x y)) :: rest))) : W p l e R s m args below meth c H locs cells slots Q (F0 m pc ls (.int (zI y) :: .int (zI x) :: rest)) := lv_iushr hC.1 hC.2.1 hd rfl (by rw [show zI (bUshr x y) = _ from zI_of _] at kk; exact kk)
theorem z_idiv_d (hC : zCx_d P p m c cc nL s args own) {x y : Int} (hy : inR y) {V : Prop} (hV : zn0 y ∧ V) (hd : decode cc pc = .ok (.idiv, 1))
    (kk : V → W p l e R s m args below meth c H locs cells slots Q (F0 m (pc + 1) ls (.int (zI (dDiv x y)) :: rest))) : W p l e R s m args below meth c H locs cells slots Q (F0 m pc ls (.int (zI y) :: .int (zI x) :: rest)) := lv_idiv hC.1 hC.2.1 hd (fun z => hV.1 ((zI_eq hy inR_0).mp z)) (by rw [show zI (dDiv x y) = _ from zI_of _] at kk; exact kk hV.2)
theorem z_irem_d (hC : zCx_d P p m c cc nL s args own) {x y : Int} (hy : inR y) {V : Prop} (hV : zn0 y ∧ V) (hd : decode cc pc = .ok (.irem, 1))
    (kk : V → W p l e R s m args below meth c H locs cells slots Q (F0 m (pc + 1) ls (.int (zI (dRem x y)) :: rest))) : W p l e R s m args below meth c H locs cells slots Q (F0 m pc ls (.int (zI y) :: .int (zI x) :: rest)) := lv_irem hC.1 hC.2.1 hd (fun z => hV.1 ((zI_eq hy inR_0).mp z)) (by rw [show zI (dRem x y) = _ from zI_of _] at kk; exact kk hV.2)
theorem z_ineg_d (hC : zCx_d P p m c cc nL s args own) {x : Int} (hd : decode cc pc = .ok (.ineg, 1))
    (kk : W p l e R s m args below meth c H locs cells slots Q (F0 m (pc + 1) ls (.int (zI (dNeg x)) :: rest))) : W p l e R s m args below meth c H locs cells slots Q (F0 m pc ls (.int (zI x) :: rest)) := lv_ineg hC.1 hC.2.1 hd (by rw [show zI (dNeg x) = _ from zI_of _] at kk; exact kk)
theorem z_dup_d (hC : zCx_d P p m c cc nL s args own) {v : Value} (hv : v.category = 1) (hd : decode cc pc = .ok (.dup, 1))
    (kk : W p l e R s m args below meth c H locs cells slots Q (F0 m (pc + 1) ls (v :: v :: rest))) : W p l e R s m args below meth c H locs cells slots Q (F0 m pc ls (v :: rest)) := lv_dup hC.1 hC.2.1 hd hv kk
theorem z_pop_d (hC : zCx_d P p m c cc nL s args own) {v : Value} (hv : v.category = 1) (hd : decode cc pc = .ok (.pop, 1))
    (kk : W p l e R s m args below meth c H locs cells slots Q (F0 m (pc + 1) ls rest)) : W p l e R s m args below meth c H locs cells slots Q (F0 m pc ls (v :: rest)) := lv_pop hC.1 hC.2.1 hd hv kk
theorem z_dup2_d (hC : zCx_d P p m c cc nL s args own) {v w : Value} (hv : v.category = 1) (hw : w.category = 1) (hd : decode cc pc = .ok (.dup2, 1))
    (kk : W p l e R s m args below meth c H locs cells slots Q (F0 m (pc + 1) ls (v :: w :: v :: w :: rest))) : W p l e R s m args below meth c H locs cells slots Q (F0 m pc ls (v :: w :: rest)) := lv_dup2_11 hC.1 hC.2.1 hd hv hw kk
theorem z_dup_x1_d (hC : zCx_d P p m c cc nL s args own) {v w : Value} (hv : v.category = 1) (hw : w.category = 1) (hd : decode cc pc = .ok (.dup_x1, 1))
    (kk : W p l e R s m args below meth c H locs cells slots Q (F0 m (pc + 1) ls (v :: w :: v :: rest))) : W p l e R s m args below meth c H locs cells slots Q (F0 m pc ls (v :: w :: rest)) := lv_dup_x1 hC.1 hC.2.1 hd hv hw kk
theorem z_null_d (hC : zCx_d P p m c cc nL s args own) (hd : decode cc pc = .ok (.aconst_null, 1))
    (kk : W p l e R s m args below meth c H locs cells slots Q (F0 m (pc + 1) ls (zrv P none :: rest))) : W p l e R s m args below meth c H locs cells slots Q (F0 m pc ls rest) := lv_null hC.1 hC.2.1 hd kk
theorem z_goto_d (hC : zCx_d P p m c cc nL s args own) {off : Int} {tgt : Nat} (hd : decode cc pc = .ok (.goto off, 3)) (ht : (pc : Int) + off = (tgt : Int))
    (kk : W p l e R s m args below meth c H locs cells slots Q (F0 m tgt ls rest)) : W p l e R s m args below meth c H locs cells slots Q (F0 m pc ls rest) := lv_goto hC.1 hC.2.1 hd ht kk
theorem z_icmp_eq_d (hC : zCx_d P p m c cc nL s args own) {x y : Int} {off : Int} {tgt : Nat} {VA VB : Prop} (hx : inR x) (hy : inR y) (hV : zbr (x = y) VA VB) (hd : decode cc pc = .ok (.if_icmp .eq off, 3)) (ht : (pc : Int) + off = (tgt : Int))
    (kt : VA → W p l e R s m args below meth c H locs cells slots Q (F0 m tgt ls rest)) (kf : VB → W p l e R s m args below meth c H locs cells slots Q (F0 m (pc + 3) ls rest)) : W p l e R s m args below meth c H locs cells slots Q (F0 m pc ls (.int (zI y) :: .int (zI x) :: rest)) :=
  lv_icmp_eq hC.1 hC.2.1 hd ht (fun z => kt (hV.1 ((zI_eq hx hy).mp z))) (fun z => kf (hV.2 (fun w => z ((zI_eq hx hy).mpr w))))
theorem z_if_eq_d (hC : zCx_d P p m c cc nL s args own) {x : Int} {off : Int} {tgt : Nat} {VA VB : Prop} (hx : inR x) (hV : zbr (x = 0) VA VB) (hd : decode cc pc = .ok (.ifCond .eq off, 3)) (ht : (pc : Int) + off = (tgt : Int))
    (kt : VA → W p l e R s m args below meth c H locs cells slots Q (F0 m tgt ls rest)) (kf : VB → W p l e R s m args below meth c H locs cells slots Q (F0 m (pc + 3) ls rest)) : W p l e R s m args below meth c H locs cells slots Q (F0 m pc ls (.int (zI x) :: rest)) :=
  lv_if_eq hC.1 hC.2.1 hd ht (fun z => kt (hV.1 ((zI_eq hx inR_0).mp z))) (fun z => kf (hV.2 (fun w => z ((zI_eq hx inR_0).mpr w))))
theorem z_icmp_ne_d (hC : zCx_d P p m c cc nL s args own) {x y : Int} {off : Int} {tgt : Nat} {VA VB : Prop} (hx : inR x) (hy : inR y) (hV : zbr (x ≠ y) VA VB) (hd : decode cc pc = .ok (.if_icmp .ne off, 3)) (ht : (pc : Int) + off = (tgt : Int))
    (kt : VA → W p l e R s m args below meth c H locs cells slots Q (F0 m tgt ls rest)) (kf : VB → W p l e R s m args below meth c H locs cells slots Q (F0 m (pc + 3) ls rest)) : W p l e R s m args below meth c H locs cells slots Q (F0 m pc ls (.int (zI y) :: .int (zI x) :: rest)) :=
  lv_icmp_ne hC.1 hC.2.1 hd ht (fun z => kt (hV.1 (fun w => z ((zI_eq hx hy).mpr w)))) (fun z => kf (hV.2 (fun w => w ((zI_eq hx hy).mp z))))
theorem z_if_ne_d (hC : zCx_d P p m c cc nL s args own) {x : Int} {off : Int} {tgt : Nat} {VA VB : Prop} (hx : inR x) (hV : zbr (x ≠ 0) VA VB) (hd : decode cc pc = .ok (.ifCond .ne off, 3)) (ht : (pc : Int) + off = (tgt : Int))
    (kt : VA → W p l e R s m args below meth c H locs cells slots Q (F0 m tgt ls rest)) (kf : VB → W p l e R s m args below meth c H locs cells slots Q (F0 m (pc + 3) ls rest)) : W p l e R s m args below meth c H locs cells slots Q (F0 m pc ls (.int (zI x) :: rest)) :=
  lv_if_ne hC.1 hC.2.1 hd ht (fun z => kt (hV.1 (fun w => z ((zI_eq hx inR_0).mpr w)))) (fun z => kf (hV.2 (fun w => w ((zI_eq hx inR_0).mp z))))
theorem z_icmp_lt_d (hC : zCx_d P p m c cc nL s args own) {x y : Int} {off : Int} {tgt : Nat} {VA VB : Prop} (hx : inR x) (hy : inR y) (hV : zbr (x < y) VA VB) (hd : decode cc pc = .ok (.if_icmp .lt off, 3)) (ht : (pc : Int) + off = (tgt : Int))
    (kt : VA → W p l e R s m args below meth c H locs cells slots Q (F0 m tgt ls rest)) (kf : VB → W p l e R s m args below meth c H locs cells slots Q (F0 m (pc + 3) ls rest)) : W p l e R s m args below meth c H locs cells slots Q (F0 m pc ls (.int (zI y) :: .int (zI x) :: rest)) :=
  lv_icmp_lt hC.1 hC.2.1 hd ht (fun z => kt (hV.1 ((zI_lt hx hy).mp z))) (fun z => kf (hV.2 (fun w => z ((zI_lt hx hy).mpr w))))
theorem z_if_lt_d (hC : zCx_d P p m c cc nL s args own) {x : Int} {off : Int} {tgt : Nat} {VA VB : Prop} (hx : inR x) (hV : zbr (x < 0) VA VB) (hd : decode cc pc = .ok (.ifCond .lt off, 3)) (ht : (pc : Int) + off = (tgt : Int))
    (kt : VA → W p l e R s m args below meth c H locs cells slots Q (F0 m tgt ls rest)) (kf : VB → W p l e R s m args below meth c H locs cells slots Q (F0 m (pc + 3) ls rest)) : W p l e R s m args below meth c H locs cells slots Q (F0 m pc ls (.int (zI x) :: rest)) :=
  lv_if_lt hC.1 hC.2.1 hd ht (fun z => kt (hV.1 ((zI_lt hx inR_0).mp z))) (fun z => kf (hV.2 (fun w => z ((zI_lt hx inR_0).mpr w))))
theorem z_icmp_ge_d (hC : zCx_d P p m c cc nL s args own) {x y : Int} {off : Int} {tgt : Nat} {VA VB : Prop} (hx : inR x) (hy : inR y) (hV : zbr (y ≤ x) VA VB) (hd : decode cc pc = .ok (.if_icmp .ge off, 3)) (ht : (pc : Int) + off = (tgt : Int))
    (kt : VA → W p l e R s m args below meth c H locs cells slots Q (F0 m tgt ls rest)) (kf : VB → W p l e R s m args below meth c H locs cells slots Q (F0 m (pc + 3) ls rest)) : W p l e R s m args below meth c H locs cells slots Q (F0 m pc ls (.int (zI y) :: .int (zI x) :: rest)) :=
  lv_icmp_ge hC.1 hC.2.1 hd ht (fun z => kt (hV.1 ((zI_le hy hx).mp z))) (fun z => kf (hV.2 (fun w => z ((zI_le hy hx).mpr w))))
theorem z_if_ge_d (hC : zCx_d P p m c cc nL s args own) {x : Int} {off : Int} {tgt : Nat} {VA VB : Prop} (hx : inR x) (hV : zbr (0 ≤ x) VA VB) (hd : decode cc pc = .ok (.ifCond .ge off, 3)) (ht : (pc : Int) + off = (tgt : Int))
    (kt : VA → W p l e R s m args below meth c H locs cells slots Q (F0 m tgt ls rest)) (kf : VB → W p l e R s m args below meth c H locs cells slots Q (F0 m (pc + 3) ls rest)) : W p l e R s m args below meth c H locs cells slots Q (F0 m pc ls (.int (zI x) :: rest)) :=
  lv_if_ge hC.1 hC.2.1 hd ht (fun z => kt (hV.1 ((zI_le inR_0 hx).mp z))) (fun z => kf (hV.2 (fun w => z ((zI_le inR_0 hx).mpr w))))
theorem z_icmp_gt_d (hC : zCx_d P p m c cc nL s args own) {x y : Int} {off : Int} {tgt : Nat} {VA VB : Prop} (hx : inR x) (hy : inR y) (hV : zbr (y < x) VA VB) (hd : decode cc pc = .ok (.if_icmp .gt off, 3)) (ht : (pc : Int) + off = (tgt : Int))
    (kt : VA → W p l e R s m args below meth c H locs cells slots Q (F0 m tgt ls rest)) (kf : VB → W p l e R s m args below meth c H locs cells slots Q (F0 m (pc + 3) ls rest)) : W p l e R s m args below meth c H locs cells slots Q (F0 m pc ls (.int (zI y) :: .int (zI x) :: rest)) :=
  lv_icmp_gt hC.1 hC.2.1 hd ht (fun z => kt (hV.1 ((zI_lt hy hx).mp z))) (fun z => kf (hV.2 (fun w => z ((zI_lt hy hx).mpr w))))
theorem z_if_gt_d (hC : zCx_d P p m c cc nL s args own) {x : Int} {off : Int} {tgt : Nat} {VA VB : Prop} (hx : inR x) (hV : zbr (0 < x) VA VB) (hd : decode cc pc = .ok (.ifCond .gt off, 3)) (ht : (pc : Int) + off = (tgt : Int))
    (kt : VA → W p l e R s m args below meth c H locs cells slots Q (F0 m tgt ls rest)) (kf : VB → W p l e R s m args below meth c H locs cells slots Q (F0 m (pc + 3) ls rest)) : W p l e R s m args below meth c H locs cells slots Q (F0 m pc ls (.int (zI x) :: rest)) :=
  lv_if_gt hC.1 hC.2.1 hd ht (fun z => kt (hV.1 ((zI_lt inR_0 hx).mp z))) (fun z => kf (hV.2 (fun w => z ((zI_lt inR_0 hx).mpr w))))
theorem z_icmp_le_d (hC : zCx_d P p m c cc nL s args own) {x y : Int} {off : Int} {tgt : Nat} {VA VB : Prop} (hx : inR x) (hy : inR y) (hV : zbr (x ≤ y) VA VB) (hd : decode cc pc = .ok (.if_icmp .le off, 3)) (ht : (pc : Int) + off = (tgt : Int))
    (kt : VA → W p l e R s m args below meth c H locs cells slots Q (F0 m tgt ls rest)) (kf : VB → W p l e R s m args below meth c H locs cells slots Q (F0 m (pc + 3) ls rest)) : W p l e R s m args below meth c H locs cells slots Q (F0 m pc ls (.int (zI y) :: .int (zI x) :: rest)) :=
  lv_icmp_le hC.1 hC.2.1 hd ht (fun z => kt (hV.1 ((zI_le hx hy).mp z))) (fun z => kf (hV.2 (fun w => z ((zI_le hx hy).mpr w))))
theorem z_if_le_d (hC : zCx_d P p m c cc nL s args own) {x : Int} {off : Int} {tgt : Nat} {VA VB : Prop} (hx : inR x) (hV : zbr (x ≤ 0) VA VB) (hd : decode cc pc = .ok (.ifCond .le off, 3)) (ht : (pc : Int) + off = (tgt : Int))
    (kt : VA → W p l e R s m args below meth c H locs cells slots Q (F0 m tgt ls rest)) (kf : VB → W p l e R s m args below meth c H locs cells slots Q (F0 m (pc + 3) ls rest)) : W p l e R s m args below meth c H locs cells slots Q (F0 m pc ls (.int (zI x) :: rest)) :=
  lv_if_le hC.1 hC.2.1 hd ht (fun z => kt (hV.1 ((zI_le hx inR_0).mp z))) (fun z => kf (hV.2 (fun w => z ((zI_le hx inR_0).mpr w))))
theorem z_ifnull_d (hC : zCx_d P p m c cc nL s args own) {r : ZR} {off : Int} {tgt : Nat} {VA VB : Prop} (hV : zbr (r = none) VA VB) (hd : decode cc pc = .ok (.ifnull off, 3)) (ht : (pc : Int) + off = (tgt : Int))
    (kt : VA → W p l e R s m args below meth c H locs cells slots Q (F0 m tgt ls rest)) (kf : VB → W p l e R s m args below meth c H locs cells slots Q (F0 m (pc + 3) ls rest)) : W p l e R s m args below meth c H locs cells slots Q (F0 m pc ls (zrv P r :: rest)) := by
  rcases r with _ | a | o
  · exact lv_ifnullN hC.1 hC.2.1 hd ht (kt (hV.1 rfl))
  · exact lv_ifnull hC.1 hC.2.1 hd (kf (hV.2 (fun h => by cases h)))
  · exact lv_ifnull hC.1 hC.2.1 hd (kf (hV.2 (fun h => by cases h)))
theorem z_ifnonnull_d (hC : zCx_d P p m c cc nL s args own) {r : ZR} {off : Int} {tgt : Nat} {VA VB : Prop} (hV : zbr (r ≠ none) VA VB) (hd : decode cc pc = .ok (.ifnonnull off, 3)) (ht : (pc : Int) + off = (tgt : Int))
    (kt : VA → W p l e R s m args below meth c H locs cells slots Q (F0 m tgt ls rest)) (kf : VB → W p l e R s m args below meth c H locs cells slots Q (F0 m (pc + 3) ls rest)) : W p l e R s m args below meth c H locs cells slots Q (F0 m pc ls (zrv P r :: rest)) := by
  rcases r with _ | a | o
  · exact lv_ifnonnullN hC.1 hC.2.1 hd (kf (hV.2 (fun h => h rfl)))
  · exact lv_ifnonnull hC.1 hC.2.1 hd ht (kt (hV.1 (fun h => by cases h)))
  · exact lv_ifnonnull hC.1 hC.2.1 hd ht (kt (hV.1 (fun h => by cases h)))
end ZPS

/-! ROWS 4: contracts, returns, calls -/
theorem zKn_d.moved {P : ZP} {s U : State} (h : zKn_d P s) (hvm : s.vm.Alike U.vm) (hw : ∀ w ∈ znx, znxOk w = true → va_Nw w s → va_Nw w U) (hz : s.heap.size ≤ U.heap.size) : zKn_d P U :=
  ⟨fun c h1 h2 => u_Kn_moved hvm (h.1 c h1 h2), fun k hk => ⟨arrOfT_moved hvm (h.2.1 k hk).1, (h.2.1 k hk).2.moved hvm⟩, fun w h1 => ⟨(h.2.2.1 w h1).1, hw w h1 (h.2.2.1 w h1).1 (h.2.2.1 w h1).2⟩, h.2.2.2.1, Nat.le_trans h.2.2.2.2.1 hz, fun c hc d hd hn => (h.2.2.2.2.2.1 c hc d hd hn).moved hvm, fun c hc d hd hn => (h.2.2.2.2.2.2 c hc d hd hn).moved hvm⟩
/-- a method's start: its arguments, and the heap holds the abstract state -/
def zPc_d (P : ZP) (G : ZG) (av : List Value) : Array Value → State → Prop := va_Pc av (fun U => Rel_d P G U.heap ∧ zKn_d P U ∧ zSt P U U.heap)
def zQi_d (P : ZP) (Q : Int → ZG → Prop) : Array Value → State → Outcome → State → Prop := va_Qi (S := Int × ZG) (fun r u => r = zI u.1 ∧ inR u.1 ∧ Q u.1 u.2) (fun u t => Rel_d P u.2 t.heap) (zAr P)
def zQz_d (P : ZP) (Q : Int → ZG → Prop) : Array Value → State → Outcome → State → Prop := va_Qi (S := Int × ZG) (fun r u => r = zI u.1 ∧ (u.1 = 0 ∨ u.1 = 1) ∧ Q u.1 u.2) (fun u t => Rel_d P u.2 t.heap) (zAr P)
def zQv_d (P : ZP) (Q : ZG → Prop) : Array Value → State → Outcome → State → Prop := va_Qv (S := ZG) (fun u => Q u) (fun u t => Rel_d P u t.heap) (zAr P)
def zQr_d (P : ZP) (Q : ZR → ZG → Prop) : Array Value → State → Outcome → State → Prop := fun _ st oc t => (∃ (r : ZR) (G' : ZG), oc = .returned (some (zrv P r)) ∧ Q r G' ∧ Rel_d P G' t.heap) ∧ va_F (zAr P) st t
theorem zPc_d.blind {P : ZP} {G : ZG} {av : List Value} : FrameBlind (zPc_d P G av) := by
  intro a U g mk q
  obtain ⟨q0, qR, qK, qS⟩ := q
  exact ⟨q0, qR, qK.moved (U := U.calling g mk a) (Vm.Alike.refl U.vm) (fun w _ h1 h2 => znx_same h1 (by rfl) h2) (Nat.le_refl _), qS.step (U := U.calling g mk a) (Vm.Alike.refl U.vm) (fun _ _ _ => rfl)⟩
theorem zMet_d {l : Launch} {P : ZP} {G : ZG} {y : MethodName} {cc : ByteArray} {maxL : Nat} {ret : Option FieldType} {rm : Room} {av : List Value} {Qc : Array Value → State → Outcome → State → Prop} {mc ms : Nat} (own : String) (hy : plainFor y = true) (hown : y.cls = own) (hcs : zcs av) (hlen : av.length ≤ maxL)
    (body : ∀ (p : Program) (e : Env) (s : State) (m : MethodId) (args : Array Value) (below : List Frame) (meth : Method) (c : Code) (ls : Array Slot), zCx_d P p m c cc maxL s args own → meth.sig.returnType = ret → meth.locks = false → meth.name = y.name → zS_d P s G s.heap [] → zL ls maxL (zargs 0 av) →
      W p l e rm s m args below meth c s.heap [] 0 0 (MQ below Qc args s mc ms (zAr P)) (F0 m 0 ls [])) : Met l y (ws_ y cc maxL ret) rm (zPc_d P G av) Qc mc ms (zAr P) := by
  refine zofW (cc := cc) (maxL := maxL) (ret := ret) hy rfl ?_
  intro p e s m args below meth c s₁ B hml hv
  obtain ⟨rfl, hR, hK, hSt⟩ := hv
  have hts := atoms_spec (ws := ws_ y cc maxL ret) B.pre
  have hts : ∀ w ∈ lw_all, w.before _ s = true := fun w h => hts w (List.mem_cons_of_mem _ h)
  have hl := lv_entry av (n := maxL) (by rw [zlg_len av hcs]; exact hlen)
  rw [lg_entry_eq]
  rw [zargs_lv av 0 hcs] at hl
  have ho : s.vm.findClass own = some m.cls := by rw [← hown]; exact findClass_of_methodNamed B.named
  exact body p e s m _ below meth c _ ⟨B.exec, B.bytes, hml, ho, hts, hK, hSt⟩ B.returns B.notSynchronized (name_of_methodNamed B.named B.method).1 ⟨hR, va_S.rf⟩ ⟨hl, zargs_c1 av 0 hcs⟩
section ZCA
variable {p : Program} {l : Launch} {e : Env} {R : Room} {s : State} {m : MethodId} {args : Array Value} {below : List Frame} {meth : Method} {c : Code} {H : Heap} {locs : List Loc} {cells slots : Nat} {Q : State → Prop}
variable {cc : ByteArray} {pc nL : Nat} {ls : Array Slot} {rest : List Value} {P : ZP} {G : ZG} {own : String} {mc ms : Nat}
theorem z_iret_d (hC : zCx_d P p m c cc nL s args own) (hG : zS_d P s G H locs) (hr : meth.sig.returnType = some .int) (hk : meth.locks = false) {q : Int → ZG → Prop} {x : Int} (hx : inR x) (hV : q x G) (hc : cells ≤ mc) (hs : slots ≤ ms) (hd : decode cc pc = .ok (.ireturn, 1)) :
    W p l e R s m args below meth c H locs cells slots (MQ below (zQi_d P q) args s mc ms (zAr P)) (F0 m pc ls [.int (zI x)]) := by
  refine W.widen hc hs ?_
  exact W.iret hC.1 hC.2.1 hr (fun t ht hW => ⟨⟨zI x, (x, G), rfl, ⟨rfl, hx, hV⟩, (show Rel_d P G t.heap by rw [ht]; exact hG.1)⟩, hG.2.F ht⟩) hG.2.2.2 hd hk
theorem z_zret_d (hC : zCx_d P p m c cc nL s args own) (hG : zS_d P s G H locs) (hr : meth.sig.returnType = some .boolean) (hk : meth.locks = false) {q : Int → ZG → Prop} {x : Int} (hx : x = 0 ∨ x = 1) (hV : q x G) (hc : cells ≤ mc) (hs : slots ≤ ms) (hd : decode cc pc = .ok (.ireturn, 1)) :
    W p l e R s m args below meth c H locs cells slots (MQ below (zQz_d P q) args s mc ms (zAr P)) (F0 m pc ls [.int (zI x)]) := by
  refine W.widen hc hs ?_
  exact W.zret hC.1 hC.2.1 hr (znarrow (Or.inr ⟨rfl, hx⟩)).1 (fun t ht hW => ⟨⟨zI x, (x, G), rfl, ⟨rfl, hx, hV⟩, (show Rel_d P G t.heap by rw [ht]; exact hG.1)⟩, hG.2.F ht⟩) hG.2.2.2 hd hk
theorem z_vret_d (hC : zCx_d P p m c cc nL s args own) (hG : zS_d P s G H locs) (hr : meth.sig.returnType = none) (hk : meth.locks = false) {q : ZG → Prop} (hV : q G) (hc : cells ≤ mc) (hs : slots ≤ ms) (hd : decode cc pc = .ok (.return_, 1)) :
    W p l e R s m args below meth c H locs cells slots (MQ below (zQv_d P q) args s mc ms (zAr P)) (F0 m pc ls []) := by
  refine W.widen hc hs ?_
  exact W.vret hC.1 hC.2.1 hr (fun t ht hW => ⟨⟨G, rfl, hV, (show Rel_d P G t.heap by rw [ht]; exact hG.1)⟩, hG.2.F ht⟩) hG.2.2.2 hd hk
theorem z_aret_d (hC : zCx_d P p m c cc nL s args own) (hG : zS_d P s G H locs) {rt : FieldType} (hr : meth.sig.returnType = some rt) (hk : meth.locks = false) (hrt : (∃ n, rt = .object n) ∨ ∃ t, rt = .array t) {q : ZR → ZG → Prop} {r : ZR} (hV : q r G) (hc : cells ≤ mc) (hs : slots ≤ ms) (hd : decode cc pc = .ok (.areturn, 1)) :
    W p l e R s m args below meth c H locs cells slots (MQ below (zQr_d P q) args s mc ms (zAr P)) (F0 m pc ls [zrv P r]) := by
  refine W.widen hc hs ?_
  exact W.aret hC.1 hC.2.1 hr hrt (zrv_ref P r) (fun t ht hW => ⟨⟨r, G, rfl, hV, (show Rel_d P G t.heap by rw [ht]; exact hG.1)⟩, hG.2.F ht⟩) hG.2.2.2 hd hk
/-! calls: what is asked of the tables -/
variable {y : MethodName} {cc' : ByteArray} {maxL idx n mc' ms' : Nat} {ret : Option FieldType} {rm : Room} {av st0 : List Value} {G0 : ZG}
theorem zPre_d (hC : zCx_d P p m c cc nL s args own) (hG : zS_d P s G H locs) : ∀ U : State, U.heap = H → s.WarmedH U.vm → zPc_d P G av av.toArray U := by
  intro U hU hW
  refine ⟨rfl, by rw [hU]; exact hG.1, hC.2.2.2.2.2.1.moved hW.alike (fun w _ h1 h2 => znx_warm h1 hW h2) (by rw [hU]; exact hG.2.1), ?_⟩
  rw [hU]
  exact hC.2.2.2.2.2.2.step hW.alike hG.2.2.1
theorem zrecv_d (hC : zCx_d P p m c cc nL s args own) {ci a : Nat} {V : Nat → Value} (h1 : 1 ≤ ci) (h2 : ci ≤ 16) (hO : t_OB a (P.1.1 ci) (cN ci) (P.1.2 ci) H V) : ∃ cellB : Cell, H[a]? = some cellB ∧ cellB.vm.isStatics = false ∧ s.vm.findClass (cR ci) = some cellB.cls := by
  obtain ⟨cell, q1, q2, q3, -⟩ := hO
  exact ⟨cell, q1, by rw [q3]; rfl, by rw [q2]; exact (hC.2.2.2.2.2.1.1 ci h1 h2).2.1⟩
theorem zrunS_d {Qc : Array Value → State → Outcome → State → Prop} (hC : zCx_d P p m c cc nL s args own) (hG : zS_d P s G H locs) (hM : Met l y (ws_ y cc' maxL ret) rm (zPc_d P G av) Qc mc' ms' (zAr P)) (hl : zLS own idx y cc' maxL ret n) (hn : av.length = n) (hc : rm.cells = mc') (hs : rm.slots = ms') (hR : zRm R rm maxL) (hf : cells + mc' ≤ R.cells ∧ slots + ms' ≤ R.slots)
    (hst : st0 = av.reverse ++ rest) (hrest : zsum rest) (hsz : ls.size = nL) (hd : decode cc pc = .ok (.invokestatic idx, 3)) : va_Run p l e R s m args below meth c H locs cells slots mc' ms' (F0 m pc ls st0) rest (Qc av.toArray) (zAr P) :=
  va_runS (As := av) ⟨hC.1, hC.2.1, hC.2.2.1, hC.2.2.2.1, hC.2.2.2.2.1⟩ hM (va_cwS n hC.2.2.2.2.1 hl.1 rfl hc hs hl.2 hR) ⟨zPc_d.blind, zPre_d hC hG⟩ rfl hn hsz hst (zsum_le hrest) hd hf
theorem zrunV_d {Qc : Array Value → State → Outcome → State → Prop} {ci b : Nat} {V : Nat → Value} (hC : zCx_d P p m c cc nL s args own) (hG : zS_d P s G H locs) (h1 : 1 ≤ ci) (h2 : ci ≤ 16) (hO : t_OB b (P.1.1 ci) (cN ci) (P.1.2 ci) H V) (hM : Met l y (ws_ y cc' maxL ret) rm (zPc_d P G (.ref b :: av)) Qc mc' ms' (zAr P)) (hl : zLV own idx (cR ci) y cc' maxL ret n) (hn : av.length = n) (hc : rm.cells = mc') (hs : rm.slots = ms') (hR : zRm R rm maxL) (hf : cells + mc' ≤ R.cells ∧ slots + ms' ≤ R.slots)
    (hst : st0 = av.reverse ++ .ref b :: rest) (hrest : zsum rest) (hsz : ls.size = nL) (hd : decode cc pc = .ok (.invokevirtual idx, 3)) : va_Run p l e R s m args below meth c H locs cells slots mc' ms' (F0 m pc ls st0) rest (Qc (Value.ref b :: av).toArray) (zAr P) :=
  va_runV (As := av) ⟨hC.1, hC.2.1, hC.2.2.1, hC.2.2.2.1, hC.2.2.2.2.1⟩ hM (cwV n hC.2.2.2.2.1 hl.1 rfl hc hs ⟨hl.2.1, hl.2.2⟩ hR) ⟨zPc_d.blind, zrecv_d hC h1 h2 hO, zPre_d hC hG⟩ rfl hn hsz hst (zsum_le hrest) hd hf
theorem z_call_i_d {q : Int → ZG → Prop} {a : Array Value} (hG : zS_d P s G H locs) (hr : va_Run p l e R s m args below meth c H locs cells slots mc' ms' (F0 m pc ls st0) rest (zQi_d P q a) (zAr P))
    (kk : ∀ x G1 H1 locs1, inR x → q x G1 → zS_d P s G1 H1 locs1 → W p l e R s m args below meth c H1 locs1 (cells + mc') (slots + ms') Q (F0 m (pc + 3) ls (.int (zI x) :: rest))) : W p l e R s m args below meth c H locs cells slots Q (F0 m pc ls st0) := by
  refine va_calli hr hG.2 (fun q _ h => h) (fun q h => h) (fun r u t H1 locs1 ht hvm hw hB hz hk hS => ?_)
  obtain ⟨rfl, hx, hq⟩ := hw
  exact kk u.1 u.2 H1 locs1 hx hq ⟨by rw [← ht]; exact hB, hS⟩
theorem z_call_z_d {q : Int → ZG → Prop} {a : Array Value} (hG : zS_d P s G H locs) (hr : va_Run p l e R s m args below meth c H locs cells slots mc' ms' (F0 m pc ls st0) rest (zQz_d P q a) (zAr P))
    (kk : ∀ x G1 H1 locs1, (x = 0 ∨ x = 1) → q x G1 → zS_d P s G1 H1 locs1 → W p l e R s m args below meth c H1 locs1 (cells + mc') (slots + ms') Q (F0 m (pc + 3) ls (.int (zI x) :: rest))) : W p l e R s m args below meth c H locs cells slots Q (F0 m pc ls st0) := by
  refine va_calli hr hG.2 (fun q _ h => h) (fun q h => h) (fun r u t H1 locs1 ht hvm hw hB hz hk hS => ?_)
  obtain ⟨rfl, hx, hq⟩ := hw
  exact kk u.1 u.2 H1 locs1 hx hq ⟨by rw [← ht]; exact hB, hS⟩
theorem z_call_v_d {q : ZG → Prop} {a : Array Value} (hG : zS_d P s G H locs) (hr : va_Run p l e R s m args below meth c H locs cells slots mc' ms' (F0 m pc ls st0) rest (zQv_d P q a) (zAr P))
    (kk : ∀ G1 H1 locs1, q G1 → zS_d P s G1 H1 locs1 → W p l e R s m args below meth c H1 locs1 (cells + mc') (slots + ms') Q (F0 m (pc + 3) ls rest)) : W p l e R s m args below meth c H locs cells slots Q (F0 m pc ls st0) := by
  refine va_callv hr hG.2 (fun q _ h => h) (fun q h => h) (fun u t H1 locs1 ht hvm hw hB hz hk hS => ?_)
  exact kk u H1 locs1 hw ⟨by rw [← ht]; exact hB, hS⟩
theorem z_call_r_d {q : ZR → ZG → Prop} {a : Array Value} (hG : zS_d P s G H locs) (hr : va_Run p l e R s m args below meth c H locs cells slots mc' ms' (F0 m pc ls st0) rest (zQr_d P q a) (zAr P))
    (kk : ∀ r G1 H1 locs1, q r G1 → zS_d P s G1 H1 locs1 → W p l e R s m args below meth c H1 locs1 (cells + mc') (slots + ms') Q (F0 m (pc + 3) ls (zrv P r :: rest))) : W p l e R s m args below meth c H locs cells slots Q (F0 m pc ls st0) := by
  intro T hT X
  obtain ⟨v, st₀, t, T', L, h0, X', hL, e1, e2, ⟨⟨r, G', hv, hq, hB⟩, hz, hk⟩, st⟩ := hr T hT X
  cases hv
  rw [h0] at hz hk
  have hS : va_S (fun q => zB P ≤ q) s.heap T'.heap (locs ++ L) := ⟨Nat.le_trans hG.2.1 (by rw [e1]; exact hz), fun q h1 h2 => by rw [e1, hk q (Nat.lt_of_lt_of_le h1 hG.2.1) h2]; exact hG.2.2.1 q h1 h2, fun q hq => by
      rcases List.mem_append.mp hq with h | h
      · exact hG.2.2.2 q h
      · exact hL q h⟩
  obtain ⟨t2, a1, b1⟩ := kk r G' T'.heap (locs ++ L) hq ⟨by rw [e1]; exact hB, hS⟩ T' rfl X'
  exact ⟨t2, st t2 a1, b1⟩
end ZCA

/-! ROWS 5: names for values, lengths, grids, switches -/
section ZMO
variable {p : Program} {l : Launch} {e : Env} {R : Room} {s : State} {m : MethodId} {args : Array Value} {below : List Frame} {meth : Method} {c : Code} {H : Heap} {locs : List Loc} {cells slots : Nat} {Q : State → Prop}
variable {cc : ByteArray} {pc nL : Nat} {ls : Array Slot} {rest : List Value} {P : ZP} {G : ZG} {own : String}
theorem z_iincV_d (lv' : Int → List (Nat × Value)) (hC : zCx_d P p m c cc nL s args own) {i k : Nat} {n x : Int} {lv : List (Nat × Value)} {V : Int → Prop} (h : zL ls nL lv) (hk : lv[k]? = some (i, .int (zI x))) (hn : i < nL) (hl : ∀ y, (i, .int (zI y)) :: zdel i lv = lv' y) (hV : zlt1 (w32 (x + n)) V) (hd : decode cc pc = .ok (.iinc i n, 3))
    (kk : ∀ y, inR y → V y → ∀ ls' : Array Slot, zL ls' nL (lv' y) → W p l e R s m args below meth c H locs cells slots Q (F0 m (pc + 3) ls' rest)) : W p l e R s m args below meth c H locs cells slots Q (F0 m pc ls rest) :=
  z_iinc_d hC h hk hn (hl _) hd (kk _ (inR_w _) (hV _ rfl))
theorem z_ldc_d (hC : zCx_d P p m c cc nL s args own) {idx : Nat} {v : Int32} {n : Int} (hw : Cond.constant own idx v ∈ lw_all) (hv : v = zI n) (hd : decode cc pc = .ok (.ldc idx, 2))
    (kk : W p l e R s m args below meth c H locs cells slots Q (F0 m (pc + 2) ls (.int (zI n) :: rest))) : W p l e R s m args below meth c H locs cells slots Q (F0 m pc ls rest) := by
  subst hv
  exact W.ldc hC.1 hC.2.1 hC.2.2.2.1 (hC.2.2.2.2.1 _ hw) rfl hd kk
theorem z_ldcw_d (hC : zCx_d P p m c cc nL s args own) {idx : Nat} {v : Int32} {n : Int} (hw : Cond.constant own idx v ∈ lw_all) (hv : v = zI n) (hd : decode cc pc = .ok (.ldc_w idx, 3))
    (kk : W p l e R s m args below meth c H locs cells slots Q (F0 m (pc + 3) ls (.int (zI n) :: rest))) : W p l e R s m args below meth c H locs cells slots Q (F0 m pc ls rest) := by
  subst hv
  exact lv_ldcw hC.1 hC.2.1 hC.2.2.2.1 (hC.2.2.2.2.1 _ hw) hd kk
theorem z_tsw_d (hC : zCx_d P p m c cc nL s args own) {x dflt lo hi : Int} {offs : Array Int} {len tgt : Nat} (hx : inR x) (hd : decode cc pc = .ok (.tableswitch dflt lo hi offs, len)) (ht : (pc : Int) + (if x < lo ∨ hi < x then dflt else (offs[(x - lo).toNat]?).getD 0) = (tgt : Int)) (hs : ∀ i : Nat, (i : Int) ≤ hi - lo → i < offs.size)
    (kk : W p l e R s m args below meth c H locs cells slots Q (F0 m tgt ls rest)) : W p l e R s m args below meth c H locs cells slots Q (F0 m pc ls (.int (zI x) :: rest)) := by
  by_cases h : x < lo ∨ hi < x
  · rw [if_pos h] at ht
    exact lv_tableOut hC.1 hC.2.1 hd (by rw [zI_toInt hx]; exact h) ht kk
  · rw [if_neg h] at ht
    have hi2 : (x - lo).toNat < offs.size := hs _ (by omega)
    rw [Array.getElem?_eq_getElem hi2, Option.getD_some] at ht
    exact lv_tableIn hC.1 hC.2.1 hd (by rw [zI_toInt hx]; omega) (by rw [zI_toInt hx]; omega) (by rw [zI_toInt hx]; exact Array.getElem?_eq_getElem hi2) ht kk
end ZMO

/-! ROWS 6: dynamic cells -/
section ZDY
variable {p : Program} {l : Launch} {e : Env} {R : Room} {s : State} {m : MethodId} {args : Array Value} {below : List Frame} {meth : Method} {c : Code} {H : Heap} {locs : List Loc} {cells slots : Nat} {Q : State → Prop}
variable {cc : ByteArray} {pc nL : Nat} {ls : Array Slot} {rest : List Value} {P : ZP} {G : ZG} {own : String}
theorem zdob_d (hG : zS_d P s G H locs) {a ci : Nat} {fs : List ZF} (hj : zsj G a = some (.inr (.inr (ci, fs)))) : t_OB a (P.1.1 ci) (cN ci) (P.1.2 ci) H (fun q => zfv P (fs.getD q (.inl 0))) ∧ 1 ≤ ci ∧ ci ≤ 16 ∧ fs.length = cN ci ∧ (∀ x, .inl x ∈ fs → inR x) ∧ zB P ≤ a := by
  obtain ⟨h1, ⟨h2, h3, h4, h5⟩, h6, -⟩ := hG.1.2.1 a _ hj
  exact ⟨h1, h2, h3, h4, h5, h6⟩
theorem zdia_d (hG : zS_d P s G H locs) {a : Nat} {l : List Int} (hj : zsj G a = some (.inl (0, l))) : H[a]? = some (arrV (P.2.1 0) l.length (fun q => .int (zI (l.getD q 0)))) ∧ (∀ x ∈ l, inR x) ∧ zB P ≤ a ∧ l.length ≤ 100000000 := by
  obtain ⟨h1, ⟨h2, h3⟩, h6, -⟩ := hG.1.2.1 a _ hj
  exact ⟨h1, h2, h6, h3⟩
theorem zdra_d (hG : zS_d P s G H locs) {a k : Nat} {l : List ZR} (hj : zsj G a = some (.inr (.inl (k, l)))) : H[a]? = some (arrV (P.2.1 k) l.length (fun q => zrv P (l.getD q none))) ∧ (3 ≤ k ∧ k ≤ 6) ∧ zB P ≤ a ∧ l.length ≤ 100000000 := by
  obtain ⟨h1, ⟨h2, h3, h4⟩, h6, -⟩ := hG.1.2.1 a _ hj
  exact ⟨h1, ⟨h2, h3⟩, h6, h4⟩
theorem z_dI_d (hC : zCx_d P p m c cc nL s args own) (hG : zS_d P s G H locs) {r : ZR} {ci k idx : Nat} {V : Int → Prop} (hF : zFL own idx ci k) (hV : zdI G r ci k V) (hd : decode cc pc = .ok (.getfield idx, 3))
    (kk : ∀ x, inR x → V x → W p l e R s m args below meth c H locs cells slots Q (F0 m (pc + 3) ls (.int (zI x) :: rest))) : W p l e R s m args below meth c H locs cells slots Q (F0 m pc ls (zrv P r :: rest)) := by
  obtain ⟨a, fs, x, rfl, hj, hx, hV⟩ := hV
  obtain ⟨hO, -, -, -, h5, -⟩ := zdob_d hG hj
  refine zgetf_d hC hF hO hd ?_
  have e : zfv P (fs.getD k (.inl 0)) = .int (zI x) := by rw [List.getD_eq_getElem?_getD, hx]; rfl
  rw [e]
  exact kk x (h5 x (List.mem_of_getElem? hx)) hV
theorem z_dR_d (hC : zCx_d P p m c cc nL s args own) (hG : zS_d P s G H locs) {r : ZR} {ci k idx : Nat} {V : ZR → Prop} (hF : zFL own idx ci k) (hV : zdR G r ci k V) (hd : decode cc pc = .ok (.getfield idx, 3))
    (kk : ∀ x, V x → W p l e R s m args below meth c H locs cells slots Q (F0 m (pc + 3) ls (zrv P x :: rest))) : W p l e R s m args below meth c H locs cells slots Q (F0 m pc ls (zrv P r :: rest)) := by
  obtain ⟨a, fs, x, rfl, hj, hx, hV⟩ := hV
  obtain ⟨hO, -, -, -, h5, -⟩ := zdob_d hG hj
  refine zgetf_d hC hF hO hd ?_
  have e : zfv P (fs.getD k (.inl 0)) = zrv P x := by rw [List.getD_eq_getElem?_getD, hx]; rfl
  rw [e]
  exact kk x hV
/-- a field of a dynamic object is written -/
theorem z_dP_d (hC : zCx_d P p m c cc nL s args own) (hG : zS_d P s G H locs) {r : ZR} {ci k idx : Nat} {v : ZF} {V : ZG → Prop} (hF : zFL own idx ci k) (hfin : (cT ci k).2.2.2 = false) (hnm : ∀ q, q < cN ci → q ≠ k → (cT ci q).2.1 ≠ (cT ci k).2.1) (hty : zty (cF ci k) v) (hv : zvR v) (hV : zdP G r ci k v V) (hd : decode cc pc = .ok (.putfield idx, 3))
    (kk : ∀ G1 H1 locs1, zS_d P s G1 H1 locs1 → V G1 → W p l e R s m args below meth c H1 locs1 cells slots Q (F0 m (pc + 3) ls rest)) : W p l e R s m args below meth c H locs cells slots Q (F0 m pc ls (zfv P v :: zrv P r :: rest)) := by
  obtain ⟨a, fs, rfl, hj, hV⟩ := hV
  obtain ⟨hO, h1, h2, h4, h5, hB⟩ := zdob_d hG hj
  have hk : k < fs.length := by rw [h4]; exact hF.1
  refine zputf_d hC hF hO hfin (zfv_ty hty).1 (zfv_ty hty).2 hd fun H1 i W1 hO1 w1 w2 w3 z oq => ?_
  refine kk _ _ _ (hG.put (hG.1.dyn hj (c := .inr (.inr (ci, fs.set k v))) ⟨h1, h2, by rw [List.length_set]; exact h4, zset_in h5 hv⟩ ?_ oq) z oq hB) hV
  refine t_OB.to hO1 fun q hq => ?_
  rw [zset_getD hk]
  by_cases e : q = k
  · subst e
    rw [w1, if_pos rfl]
  · rw [w2 q hq (hnm q hq e), if_neg e]
/-- a final field, in the constructor -/
theorem z_dPF_d (hC : zCx_d P p m c cc nL s args own) (hG : zS_d P s G H locs) {r : ZR} {ci k idx : Nat} {v : ZF} {V : ZG → Prop} (hF : zFL own idx ci k) (hfin : (cT ci k).2.2.2 = true) (hin2 : meth.name = "<init>") (hdecl : (cT ci k).1 = own) (hnest : ∀ ref host, Cond.fieldLinkNest own idx ref (cT ci k).2.1 (cT ci k).2.2.1 host ∉ znx) (hnm : ∀ q, q < cN ci → q ≠ k → (cT ci q).2.1 ≠ (cT ci k).2.1) (hty : zty (cF ci k) v) (hv : zvR v) (hV : zdP G r ci k v V) (hd : decode cc pc = .ok (.putfield idx, 3))
    (kk : ∀ G1 H1 locs1, zS_d P s G1 H1 locs1 → V G1 → W p l e R s m args below meth c H1 locs1 cells slots Q (F0 m (pc + 3) ls rest)) : W p l e R s m args below meth c H locs cells slots Q (F0 m pc ls (zfv P v :: zrv P r :: rest)) := by
  obtain ⟨a, fs, rfl, hj, hV⟩ := hV
  obtain ⟨hO, h1, h2, h4, h5, hB⟩ := zdob_d hG hj
  have hk : k < fs.length := by rw [h4]; exact hF.1
  refine zputfF_d hC hF hO hfin hin2 hdecl (zfv_ty hty).1 (zfv_ty hty).2 hnest hd fun H1 i W1 hO1 w1 w2 w3 z oq => ?_
  refine kk _ _ _ (hG.put (hG.1.dyn hj (c := .inr (.inr (ci, fs.set k v))) ⟨h1, h2, by rw [List.length_set]; exact h4, zset_in h5 hv⟩ ?_ oq) z oq hB) hV
  refine t_OB.to hO1 fun q hq => ?_
  rw [zset_getD hk]
  by_cases e : q = k
  · subst e
    rw [w1, if_pos rfl]
  · rw [w2 q hq (hnm q hq e), if_neg e]
/-- a final field with a namesake k2, in the constructor -/
theorem z_dTF_d (hC : zCx_d P p m c cc nL s args own) (hG : zS_d P s G H locs) {r : ZR} {ci k k2 idx : Nat} {v : ZF} {V : ZG → Prop} (hF : zFL own idx ci k) (hfin : (cT ci k).2.2.2 = true) (hin2 : meth.name = "<init>") (hdecl : (cT ci k).1 = own) (hnest : ∀ ref host, Cond.fieldLinkNest own idx ref (cT ci k).2.1 (cT ci k).2.2.1 host ∉ znx) (hk2 : k2 < cN ci) (hne : k2 ≠ k) (hnm : ∀ q, q < cN ci → q ≠ k → q ≠ k2 → (cT ci q).2.1 ≠ (cT ci k).2.1) (hty : zty (cF ci k) v) (hv : zvR v) (hV : zdT G r ci k k2 v V) (hd : decode cc pc = .ok (.putfield idx, 3))
    (kk : ∀ G1 H1 locs1, zS_d P s G1 H1 locs1 → V G1 → W p l e R s m args below meth c H1 locs1 cells slots Q (F0 m (pc + 3) ls rest)) : W p l e R s m args below meth c H locs cells slots Q (F0 m pc ls (zfv P v :: zrv P r :: rest)) := by
  obtain ⟨a, fs, rfl, hj, hV⟩ := hV
  obtain ⟨hO, h1, h2, h4, h5, hB⟩ := zdob_d hG hj
  have hk : k < fs.length := by rw [h4]; exact hF.1
  have hk2' : k2 < fs.length := by rw [h4]; exact hk2
  refine zputfF_d hC hF hO hfin hin2 hdecl (zfv_ty hty).1 (zfv_ty hty).2 hnest hd fun H1 i W1 hO1 w1 w2 w3 z oq => ?_
  have key : ∀ u, W1 k2 = zfv P u → (u = fs.getD k2 (.inl 0) ∨ u = v) → W p l e R s m args below meth c H1 (locs ++ [⟨a, i⟩]) cells slots Q (F0 m (pc + 3) ls rest) := by
    intro u hu hor
    have hvu : zvR u := by
      rcases hor with rfl | rfl
      · intro x hx
        refine h5 x ?_
        rw [← hx, List.getD_eq_getElem?_getD, List.getElem?_eq_getElem hk2', Option.getD_some]
        exact List.getElem_mem hk2'
      · exact hv
    refine kk _ _ _ (hG.put (hG.1.dyn hj (c := .inr (.inr (ci, (fs.set k v).set k2 u))) ⟨h1, h2, by rw [List.length_set, List.length_set]; exact h4, zset_in (zset_in h5 hv) hvu⟩ ?_ oq) z oq hB) (hV u hor)
    refine t_OB.to hO1 fun q hq => ?_
    rw [zset_getD (by rw [List.length_set]; exact hk2'), zset_getD hk]
    by_cases e2 : q = k2
    · subst e2
      rw [hu, if_pos rfl]
    · rw [if_neg e2]
      by_cases e : q = k
      · subst e
        rw [w1, if_pos rfl]
      · rw [w2 q hq (hnm q hq e e2), if_neg e]
  rcases w3 k2 hk2 with h | h
  · exact key _ h (Or.inl rfl)
  · exact key _ h (Or.inr rfl)
/-! dynamic arrays -/
theorem z_eald_d (hC : zCx_d P p m c cc nL s args own) (hG : zS_d P s G H locs) {r : ZR} {i : Int} {V : Int → Prop} (hi : inR i) (hV : zeI G r i V) (hd : decode cc pc = .ok (.iaload, 1))
    (kk : ∀ x, inR x → V x → W p l e R s m args below meth c H locs cells slots Q (F0 m (pc + 1) ls (.int (zI x) :: rest))) : W p l e R s m args below meth c H locs cells slots Q (F0 m pc ls (.int (zI i) :: zrv P r :: rest)) := by
  obtain ⟨a, l', x, rfl, hj, h0, hx, hV⟩ := hV
  obtain ⟨hat, h5, -, -⟩ := zdia_d hG hj
  have hlt : i.toNat < l'.length := (List.getElem?_eq_some_iff.mp hx).1
  have har : ArrOfT s (P.2.1 0) .int := (hC.2.2.2.2.2.1.2.1 0 (by omega)).1
  refine W.iald (v := .int (zI x)) hC.1 hC.2.1 hat (har _ _) (fun q => by cases q) (by rw [arrV_size]; exact zI_in hi h0 (by omega)) ?_ rfl rfl hd (kk x (h5 x (List.mem_of_getElem? hx)) hV)
  rw [zI_clamp hi, arrV_read _ _ hlt, List.getD_eq_getElem?_getD, hx]
  rfl
theorem z_east_d (hC : zCx_d P p m c cc nL s args own) (hG : zS_d P s G H locs) {r : ZR} {i x : Int} {V : ZG → Prop} (hi : inR i) (hx : inR x) (hV : zeS G r i x V) (hd : decode cc pc = .ok (.iastore, 1))
    (kk : ∀ G1 H1 locs1, zS_d P s G1 H1 locs1 → V G1 → W p l e R s m args below meth c H1 locs1 cells slots Q (F0 m (pc + 1) ls rest)) : W p l e R s m args below meth c H locs cells slots Q (F0 m pc ls (.int (zI x) :: .int (zI i) :: zrv P r :: rest)) := by
  obtain ⟨a, l', rfl, hj, h0, hlt, hV⟩ := hV
  obtain ⟨hat, h5, hB, hL9⟩ := zdia_d hG hj
  have har : ArrOfT s (P.2.1 0) .int := (hC.2.2.2.2.2.1.2.1 0 (by omega)).1
  refine W.iast hC.1 hC.2.1 hat (har _ _) (fun q => by cases q) (by rw [arrV_size]; exact zI_in hi h0 (by omega)) rfl rfl hd fun H1 e1 z oq => ?_
  refine kk _ _ _ (hG.put (hG.1.dyn hj (c := .inl (0, l'.set i.toNat x)) ⟨?_, by rw [List.length_set]; exact hL9⟩ ?_ oq) z oq hB) hV
  · intro y hy
    rcases List.mem_or_eq_of_mem_set hy with h1 | h1
    · exact h5 y h1
    · rw [h1]; exact hx
  · refine Eq.trans e1 (congrArg some ?_)
    rw [arrV_store, zI_clamp hi, List.length_set]
    refine arrV_congr fun q hq => ?_
    rw [zset_getD hlt]
    by_cases h : q = i.toNat
    · simp [updV, h]
    · simp [updV, h]
theorem z_erld_d (hC : zCx_d P p m c cc nL s args own) (hG : zS_d P s G H locs) {r : ZR} {i : Int} {V : ZR → Prop} (hi : inR i) (hV : zeR G r i V) (hd : decode cc pc = .ok (.aaload, 1))
    (kk : ∀ x, V x → W p l e R s m args below meth c H locs cells slots Q (F0 m (pc + 1) ls (zrv P x :: rest))) : W p l e R s m args below meth c H locs cells slots Q (F0 m pc ls (.int (zI i) :: zrv P r :: rest)) := by
  obtain ⟨a, k, l', x, rfl, hj, h0, hx, hV⟩ := hV
  obtain ⟨hat, hk, -, -⟩ := zdra_d hG hj
  have hlt : i.toNat < l'.length := (List.getElem?_eq_some_iff.mp hx).1
  have har : ArrOfT s (P.2.1 k) (aT k) := (hC.2.2.2.2.2.1.2.1 k (by omega)).1
  refine W.aald (v := zrv P x) hC.1 hC.2.1 hat (har _ _) (aT_ref hk) (fun q => by cases q) (by rw [arrV_size]; exact zI_in hi h0 (by omega)) ?_ rfl rfl hd (kk x hV)
  rw [zI_clamp hi, arrV_read _ _ hlt, List.getD_eq_getElem?_getD, hx]
  rfl
theorem z_alenD_d (hC : zCx_d P p m c cc nL s args own) (hG : zS_d P s G H locs) {r : ZR} {V : Int → Prop} (hV : zeN G r V) (hd : decode cc pc = .ok (.arraylength, 1))
    (kk : ∀ x, inR x → V x → W p l e R s m args below meth c H locs cells slots Q (F0 m (pc + 1) ls (.int (zI x) :: rest))) : W p l e R s m args below meth c H locs cells slots Q (F0 m pc ls (zrv P r :: rest)) := by
  have key : ∀ (a k n : Nat) (f : Nat → Value), k ≤ 6 → n ≤ 100000000 → H[a]? = some (arrV (P.2.1 k) n f) → V (n : Int) → W p l e R s m args below meth c H locs cells slots Q (F0 m pc ls (.ref a :: rest)) := by
    intro a k n f hk hn hat hV
    have har : ArrOfT s (P.2.1 k) (aT k) := (hC.2.2.2.2.2.1.2.1 k hk).1
    refine W.alen (n := zI n) hC.1 hC.2.1 hat (har n _) ?_ rfl rfl hd (kk n ⟨by omega, by omega⟩ hV)
    rw [arrV_size, zI_nat]
  rcases hV with ⟨a, rfl, ⟨t, l', hj, hV⟩ | ⟨k, l', hj, hV⟩⟩ | ⟨rfl, hV⟩
  · obtain ⟨h1, ⟨h2, h3⟩, -⟩ := hG.1.2.1 a _ hj
    match t, hj, h1 with
    | 0, hj, h1 => exact key a 0 _ _ (by omega) h3 h1 hV
    | 1, hj, h1 => exact key a 1 _ _ (by omega) h3 h1 hV
    | t + 2, hj, h1 => exact key a 2 _ _ (by omega) h3 h1 hV
  · exact key a k _ _ (zdra_d hG hj).2.1.2 (zdra_d hG hj).2.2.2 (zdra_d hG hj).1 hV
  · exact va_tlen (v := zI 0) hC.1 hC.2.1 hC.2.2.2.2.2.2.2.2.2.2.2.2.1 hG.2 rfl hd (kk 0 inR_0 hV)
/-! references in arrays -/
theorem zany_d (hC : zCx_d P p m c cc nL s args own) (hG : zS_d P s G H locs) {a k : Nat} {E : String} (hE : E = zkn k) (hz : zel G k (some (.inl a))) (hk : k = 3 ∨ k = 4) : va_Any E s H a := by
  have hx := hC.2.2.2.2.2.1.2.2.1
  rcases hz with h | ⟨b, ci, fs, hb, hj, hor⟩ | ⟨b, l', hb, hj, hor⟩
  · cases h.1
  · cases hb
    obtain ⟨⟨cell, q1, q2, q3, -⟩, h1, h2, -⟩ := zdob_d hG hj
    obtain ⟨kC, hkC, -⟩ := Vm.findClass_spec ((hC.2.2.2.2.2.1.1 ci h1 h2).2.1)
    refine ⟨cell, q1, by rw [q3]; rfl, ⟨kC, by rw [q2]; exact hkC⟩, fun comp hcomp => ?_⟩
    have hfc := (hC.2.2.2.2.2.1.1 ci h1 h2).2.1
    rw [q2]
    rcases hor with rfl | ⟨rfl, hp⟩
    · subst hE; exact vb_asgC (hx _ (zcaO_in ci h1 h2)).2 comp _ hcomp hfc
    · subst hE; exact vb_asgC (hx _ (zcaP_in ci hp)).2 comp _ hcomp hfc
  · cases hb
    have hk3 : k = 3 := by omega
    subst hk3
    subst hE
    have hat := (zdia_d hG hj).1
    have hra : s.vm.findClass "[I" = some (P.2.1 0) := (hC.2.2.2.2.2.1.2.1 0 (by omega)).2
    obtain ⟨kC, hkC, -⟩ := Vm.findClass_spec hra
    exact ⟨_, hat, rfl, ⟨kC, hkC⟩, fun comp hcomp => vb_asgC (hx _ xq2344).2 comp _ hcomp hra⟩
/-- a store into an array of objects or patterns -/
theorem z_eust_d (hC : zCx_d P p m c cc nL s args own) (hG : zS_d P s G H locs) {r x : ZR} {i : Int} {V : ZG → Prop} (hi : inR i) (hV : zeU G r i x V) (hd : decode cc pc = .ok (.aastore, 1))
    (kk : ∀ G1 H1 locs1, zS_d P s G1 H1 locs1 → V G1 → W p l e R s m args below meth c H1 locs1 cells slots Q (F0 m (pc + 1) ls rest)) : W p l e R s m args below meth c H locs cells slots Q (F0 m pc ls (zrv P x :: .int (zI i) :: zrv P r :: rest)) := by
  obtain ⟨a, k, l', rfl, hj, h0, hlt, hz, hV⟩ := hV
  obtain ⟨hat, hk, hB, hL9⟩ := zdra_d hG hj
  have hin : ¬ (zI i < 0 ∨ l'.length ≤ (zI i).toNatClampNeg) := zI_in hi h0 (by omega)
  have fin : ∀ (H1 : Heap), H1[a]? = some ((arrV (P.2.1 k) l'.length (fun q => zrv P (l'.getD q none))).setSlot (zI i).toNatClampNeg (zrv P x)) → H1.size = H.size → (∀ q, q ≠ a → H1[q]? = H[q]?) → W p l e R s m args below meth c H1 (locs ++ [⟨a, (zI i).toNatClampNeg⟩]) cells slots Q (F0 m (pc + 1) ls rest) := by
    intro H1 e1 z oq
    refine kk _ _ _ (hG.put (hG.1.dyn hj (c := .inr (.inl (k, l'.set i.toNat x))) ⟨hk.1, hk.2, by rw [List.length_set]; exact hL9⟩ ?_ oq) z oq hB) hV
    refine Eq.trans e1 (congrArg some ?_)
    rw [arrV_store, zI_clamp hi, List.length_set]
    refine arrV_congr fun q hq => ?_
    rw [zset_getD hlt]
    by_cases h : q = i.toNat
    · simp [updV, h]
    · simp [updV, h]
  have har : ∀ n f, s.isArrayOf (arrV (P.2.1 k) n f) (aT k) := fun n f => (hC.2.2.2.2.2.1.2.1 k (by omega)).1 n f
  have nul : k = 3 ∨ k = 4 → x = none → W p l e R s m args below meth c H locs cells slots Q (F0 m pc ls (zrv P x :: .int (zI i) :: .ref a :: rest)) := by
    rintro hk2 rfl
    have h9 : ∃ C, aT k = .object C := by rcases hk2 with rfl | rfl <;> exact ⟨_, rfl⟩
    obtain ⟨C, hC9⟩ := h9
    exact va_WaastN (C := C) hC.1 hC.2.1 hat (by rw [← hC9]; exact har _ _) (fun h => by cases h) (by rw [arrV_size]; exact hin) rfl rfl hd fun H1 e z oq => fin H1 e z oq
  have obj : ∀ v, x = some (.inl v) → k = 3 ∨ k = 4 → W p l e R s m args below meth c H locs cells slots Q (F0 m pc ls (zrv P x :: .int (zI i) :: .ref a :: rest)) := by
    intro v hx hk2
    have hT : aT k = .object (zkn k) := by rcases hk2 with rfl | rfl <;> rfl
    rw [hx] at hz
    obtain ⟨cellV, g1, g3, ⟨kC, hkC⟩, hasg⟩ := zany_d hC hG rfl hz hk2
    have hra := (hC.2.2.2.2.2.1.2.1 k (by omega)).2
    rw [hT] at hra
    obtain ⟨kA, comp, k1, k2, k3, -⟩ := hra
    obtain ⟨kE, hkE, -⟩ := Vm.findClass_spec k3
    rw [hx] at fin ⊢
    exact W.aast hC.1 hC.2.1 hat (fun q h => by cases h) (fun h => by cases h) k1 k2 rfl hkE ⟨fun h => hin (Or.inl h), by rw [arrV_size]; exact Nat.not_le.mp fun h => hin (Or.inr h)⟩ g1 (fun q h => by rw [h] at g3; cases g3) hkC (hasg _ k3) rfl rfl hd fun H1 e z oq => fin H1 e z oq
  rcases (show k = 3 ∨ k = 4 ∨ k = 5 ∨ k = 6 by omega) with hk3 | hk3 | hk3 | hk3
  · rcases x with _ | v | o
    · exact nul (Or.inl hk3) rfl
    · exact obj v rfl (Or.inl hk3)
    · rcases hz with h | ⟨b, ci, fs, hb, -⟩ | ⟨b, l2, hb, -⟩
      · cases h.1
      · cases hb
      · cases hb
  · rcases x with _ | v | o
    · exact nul (Or.inr hk3) rfl
    · exact obj v rfl (Or.inr hk3)
    · rcases hz with h | ⟨b, ci, fs, hb, -⟩ | ⟨b, l2, hb, -⟩
      · cases h.1
      · cases hb
      · cases hb
  · rcases hz with h | ⟨b, ci, fs, hb, hj2, hor⟩ | ⟨b, l2, hb, hj2, hor⟩
    · omega
    · omega
    · subst hb
      subst hk3
      have hx := hC.2.2.2.2.2.1.2.2.1
      obtain ⟨comp, cA, kA, f1, f2, f3, f4⟩ := Cond.arrayOver_specA (hx _ xq172).2
      have hra : s.vm.findClass "[I" = some (P.2.1 0) := (hC.2.2.2.2.2.1.2.1 0 (by omega)).2
      have hrb : s.vm.findClass "[[I" = some (P.2.1 5) := (hC.2.2.2.2.2.1.2.1 5 (by omega)).2
      have hcA : cA = P.2.1 5 := Option.some.inj (f4.symm.trans hrb)
      have hcm : comp = P.2.1 0 := Option.some.inj (f1.symm.trans hra)
      subst hcm
      obtain ⟨kC, hkC, -⟩ := Vm.findClass_spec hra
      exact W.aast hC.1 hC.2.1 hat (fun q h => by cases h) (fun h => by cases h) (by rw [← hcA]; exact f2) f3 rfl hkC ⟨fun h => hin (Or.inl h), by rw [arrV_size]; exact Nat.not_le.mp fun h => hin (Or.inr h)⟩ (zdia_d hG hj2).1 (fun q h => by cases h) hkC (va_asg _ _) rfl rfl hd fun H1 e z oq => fin H1 e z oq
  · rcases hz with h | ⟨b, ci, fs, hb, hj2, hor⟩ | ⟨b, l2, hb, hj2, hor⟩
    · omega
    · omega
    · omega
end ZDY

/-! ROWS 7: new cells, casts, comparisons of references, copies -/
section ZNE
variable {p : Program} {l : Launch} {e : Env} {R : Room} {s : State} {m : MethodId} {args : Array Value} {below : List Frame} {meth : Method} {c : Code} {H : Heap} {locs : List Loc} {cells slots : Nat} {Q : State → Prop}
variable {cc : ByteArray} {pc nL : Nat} {ls : Array Slot} {rest : List Value} {P : ZP} {G : ZG} {own : String}
theorem zS_d.new {d : ZC} {H1 : Heap} (hC : zCx_d P p m c cc nL s args own) (hG : zS_d P s G H locs) (hc : zce d) (hat : zat P H.size (zdx P d) H1) (hz : H1.size = H.size + 1) (oq : ∀ q, q < H.size → H1[q]? = H[q]?) : zsj G H.size = none ∧ zS_d P s (zsc G H.size d) H1 locs := by
  obtain ⟨h1, h2⟩ := hG.1.new (hC.base hG) hc hat oq
  exact ⟨h1, hG.grow h2 (by omega) oq⟩
/-- newarray -/
theorem z_newI_d (hC : zCx_d P p m c cc nL s args own) (hG : zS_d P s G H locs) {t : Nat} {aty : ArrayType} (ht : newarray.typeOf aty = aT t) (ht2 : t ≤ 2) (harr : Cond.arrayClass (aT t) ∈ lw_all) {n : Int} {mx : Nat} {V : ZR → ZG → Prop} (hn : inR n) (hmx : mx ≤ 10000000) (hV : znI0 G t n mx V) (hcells : cells + 1 ≤ R.cells) (hslots : slots + mx ≤ R.slots) (hd : decode cc pc = .ok (.newarray aty, 2))
    (kk : ∀ r G1 H1, zS_d P s G1 H1 locs → V r G1 → W p l e R s m args below meth c H1 locs (cells + 1) (slots + mx) Q (F0 m (pc + 2) ls (zrv P r :: rest))) : W p l e R s m args below meth c H locs cells slots Q (F0 m pc ls (.int (zI n) :: rest)) := by
  obtain ⟨h0, hle, hV⟩ := hV
  have hsz : componentBytes (aT t) ≤ 8 := by
    rcases (show t = 0 ∨ t = 1 ∨ t = 2 by omega) with rfl | rfl | rfl <;> decide
  refine va_newaK hC.1 hC.2.1 (by rw [ht]; exact hC.2.2.2.2.1 _ harr) rfl hd rfl (zI_neg hn h0) (zI_clamp hn) (by rw [ht]; calc n.toNat * componentBytes (aT t) ≤ 10000000 * 8 := Nat.mul_le_mul (by omega) hsz
                                                                                                                     _ ≤ 536870912 := by decide) hcells (by omega) rfl fun H1 cA e1 z1 o1 hAr hNm => ?_
  rw [ht] at e1 hNm
  have hcA : cA = P.2.1 t := by
    have h2 := (hC.2.2.2.2.2.1.2.1 t (by omega)).2
    rcases (show t = 0 ∨ t = 1 ∨ t = 2 by omega) with rfl | rfl | rfl <;> exact Option.some.inj (hNm.symm.trans h2)
  subst hcA
  have hz : zce (.inl (t, List.replicate n.toNat 0)) := ⟨fun x hx => by rw [(List.mem_replicate.mp hx).2]; exact inR_0, by rw [List.length_replicate]; omega⟩
  obtain ⟨g1, g2⟩ := hG.new hC (d := .inl (t, List.replicate n.toNat 0)) hz (by
    rcases (show t = 0 ∨ t = 1 ∨ t = 2 by omega) with rfl | rfl | rfl
    · refine Eq.trans e1 (congrArg some ?_)
      simp only [List.length_replicate]
      exact arrV_congr fun q hq => by rw [zrep_D]; rfl
    · refine Eq.trans e1 (congrArg some ?_)
      simp only [List.length_replicate]
      exact arrV_congr fun q hq => by rw [zrep_D]; rfl
    · refine Eq.trans e1 (congrArg some ?_)
      simp only [List.length_replicate]
      exact arrV_congr fun q hq => by rw [zrep_D]; rfl) z1 o1
  exact W.widen (Nat.le_refl _) (by omega) (kk (some (.inl H.size)) _ H1 g2 (hV _ g1))
/-- new -/
theorem z_new_d (hC : zCx_d P p m c cc nL s args own) (hG : zS_d P s G H locs) {ci n idx : Nat} {V : ZR → ZG → Prop} (h1 : 1 ≤ ci) (h2 : ci ≤ 16) (hdk : zdok ci = true) (hcl : Cond.classLink own idx (cR ci) ∈ lw_all) (hins : Cond.instantiable (cR ci) n ∈ lw_all) (hini : Cond.initialized (cR ci) ∈ lw_all) (hV : znw G (.inr (.inr (ci, zdf ci))) V) (hcells : cells + 1 ≤ R.cells) (hslots : slots + n ≤ R.slots) (hd : decode cc pc = .ok (.new idx, 3))
    (kk : ∀ r G1 H1, zS_d P s G1 H1 locs → V r G1 → W p l e R s m args below meth c H1 locs (cells + 1) (slots + n) Q (F0 m (pc + 3) ls (zrv P r :: rest))) : W p l e R s m args below meth c H locs cells slots Q (F0 m pc ls rest) := by
  have hKn := hC.2.2.2.2.2.1.1 ci h1 h2
  have hts := hC.2.2.2.2.1
  refine W.newcK hC.1 hC.2.1 hC.2.2.2.1 (hts _ hcl) (hts _ hins) (hts _ hini) rfl hd hcells hslots hKn.2.1 rfl fun H1 kC hkC e1 z1 o1 => ?_
  obtain ⟨g1, g2⟩ := hG.new hC (d := .inr (.inr (ci, zdf ci))) ⟨h1, h2, zdf_len ci, zdf_in ci⟩ ((u_born (cF ci) hts (cin ci h1 h2) hKn hkC e1 (cty ci h1 h2)).to fun k hk => zdf_at hdk hk) z1 o1
  exact kk (some (.inl H.size)) _ H1 g2 (hV _ g1)
/-- anewarray of objects or patterns -/
theorem z_anew_d (hC : zCx_d P p m c cc nL s args own) (hG : zS_d P s G H locs) {k idx : Nat} (hk : k = 3 ∨ k = 4) (hcl : Cond.classLink own idx (zkn k) ∈ lw_all) (hov : Cond.arrayOver (.object (zkn k)) ∈ znx) {n : Int} {mx : Nat} {V : ZR → ZG → Prop} (hn : inR n) (hmx : mx ≤ 10000000) (hV : znR0 G k n mx V) (hcells : cells + 1 ≤ R.cells) (hslots : slots + mx ≤ R.slots) (hd : decode cc pc = .ok (.anewarray idx, 3))
    (kk : ∀ r G1 H1, zS_d P s G1 H1 locs → V r G1 → W p l e R s m args below meth c H1 locs (cells + 1) (slots + mx) Q (F0 m (pc + 3) ls (zrv P r :: rest))) : W p l e R s m args below meth c H locs cells slots Q (F0 m pc ls (.int (zI n) :: rest)) := by
  obtain ⟨h0, hle, hV⟩ := hV
  have hT : aT k = .object (zkn k) := by rcases hk with rfl | rfl <;> rfl
  refine W.anew hC.1 hC.2.1 hC.2.2.2.1 (hC.2.2.2.2.1 _ hcl) (va_AO.use (hC.2.2.2.2.2.1.2.2.1 _ hov).2) rfl hd rfl (zI_neg hn h0) (by rw [zI_clamp hn]; omega) hcells (by rw [zI_clamp hn]; omega) fun cA kA comp f1 f2 f3 f4 => ?_
  rw [zI_clamp hn]
  generalize hH1 : H.push ({ cls := cA, slots := Array.replicate n.toNat .null, vm := .none } : Cell) = H1
  have z1 : H1.size = H.size + 1 := by rw [← hH1, Array.size_push]
  have e1 : H1[H.size]? = some (arrV cA n.toNat (fun _ => .null)) := by rw [← hH1, Array.getElem?_push_size, ← arrV_new]
  have o1 : ∀ q : Nat, q < H.size → H1[q]? = H[q]? := fun q hq => by rw [← hH1, Array.getElem?_push, if_neg (Nat.ne_of_lt hq)]
  have hcA : cA = P.2.1 k := by
    have h2 := (hC.2.2.2.2.2.1.2.1 k (by omega)).2
    rw [hT] at h2
    obtain ⟨_, _, -, -, -, h5⟩ := h2
    exact Option.some.inj (f1.symm.trans h5)
  subst hcA
  obtain ⟨g1, g2⟩ := hG.new hC (d := .inr (.inl (k, List.replicate n.toNat none))) ⟨by omega, by omega, by rw [List.length_replicate]; omega⟩ (by
    refine Eq.trans e1 (congrArg some ?_)
    simp only [List.length_replicate]
    exact arrV_congr fun q hq => by rw [zrep_D]; rfl) z1 o1
  exact W.widen (Nat.le_refl _) (by omega) (kk (some (.inl H.size)) _ H1 g2 (hV _ g1))
theorem zclsAt_d (hC : zCx_d P p m c cc nL s args own) {ci : Nat} (h1 : 1 ≤ ci) (h2 : ci ≤ 16) : ClassAt s (cR ci) (P.1.1 ci) := by
  obtain ⟨hS, hfc, kC, hkC, hkind⟩ := hC.2.2.2.2.2.1.1 ci h1 h2
  exact ⟨hfc, kC, hkC, hkind⟩
theorem zrecvO_d (hC : zCx_d P p m c cc nL s args own) (hG : zS_d P s G H locs) {a ci : Nat} {fs : List ZF} (hj : zsj G a = some (.inr (.inr (ci, fs)))) : ∃ cell : Cell, H[a]? = some cell ∧ cell.vm.isStatics = false ∧ s.vm.findClass (cR ci) = some cell.cls := by
  obtain ⟨hO, h1, h2, -⟩ := zdob_d hG hj
  obtain ⟨cell, q1, q2, q3⟩ := zrecv_d hC h1 h2 hO
  exact ⟨cell, q1, q2, q3⟩
/-- instanceof a kind of pattern -/
theorem z_inst_d (hC : zCx_d P p m c cc nL s args own) (hG : zS_d P s G H locs) {r : ZR} {ci idx : Nat} {V : Int → Prop} (hp : ci ∈ zpat) (hcl : Cond.classLink own idx (cR ci) ∈ lw_all) (hV : ziO G r ci V) (hd : decode cc pc = .ok (.instanceof idx, 3))
    (kk : ∀ x, (x = 0 ∨ x = 1) → V x → W p l e R s m args below meth c H locs cells slots Q (F0 m (pc + 3) ls (.int (zI x) :: rest))) : W p l e R s m args below meth c H locs cells slots Q (F0 m pc ls (zrv P r :: rest)) := by
  obtain ⟨a, k, fs, rfl, hj, hkp, hV⟩ := hV
  have hr := zrecvO_d hC hG hj
  have hci : 1 ≤ ci ∧ ci ≤ 16 := by simp [zpat] at hp; omega
  by_cases h : k = ci
  · subst h
    rw [if_pos rfl] at hV
    exact va_instS hC.1 hC.2.1 hC.2.2.2.1 (hC.2.2.2.2.1 _ hcl) (zclsAt_d hC hci.1 hci.2) hr hd (kk 1 (Or.inr rfl) hV)
  · rw [if_neg h] at hV
    exact va_instNo hC.1 hC.2.1 hC.2.2.2.1 (hC.2.2.2.2.1 _ hcl) (hC.2.2.2.2.2.1.2.2.2.2.2.1 k (by simp [zpat]; omega) ci hp h) hr hd (kk 0 (Or.inl rfl) hV)
/-- checkcast to a class of ours -/
theorem z_cast_d (hC : zCx_d P p m c cc nL s args own) (hG : zS_d P s G H locs) {r : ZR} {ci idx : Nat} {V : Prop} (h1 : 1 ≤ ci) (h2 : ci ≤ 16) (hcl : Cond.classLink own idx (cR ci) ∈ lw_all) (hV : zca G r ci ∧ V) (hd : decode cc pc = .ok (.checkcast idx, 3))
    (kk : V → W p l e R s m args below meth c H locs cells slots Q (F0 m (pc + 3) ls (zrv P r :: rest))) : W p l e R s m args below meth c H locs cells slots Q (F0 m pc ls (zrv P r :: rest)) := by
  obtain ⟨h, hV⟩ := hV
  rcases h with rfl | ⟨a, fs, rfl, hj⟩
  · exact lv_castN hC.1 hC.2.1 hd (kk hV)
  · exact va_castS hC.1 hC.2.1 hC.2.2.2.1 (hC.2.2.2.2.1 _ hcl) (zclsAt_d hC h1 h2) (zrecvO_d hC hG hj) hd (kk hV)
/-- checkcast to an array of ints -/
theorem z_castI_d (hC : zCx_d P p m c cc nL s args own) (hG : zS_d P s G H locs) {r : ZR} {idx : Nat} {V : Prop} (hcl : Cond.classLink own idx "[I" ∈ lw_all) (hV : zcaI G r ∧ V) (hd : decode cc pc = .ok (.checkcast idx, 3))
    (kk : V → W p l e R s m args below meth c H locs cells slots Q (F0 m (pc + 3) ls (zrv P r :: rest))) : W p l e R s m args below meth c H locs cells slots Q (F0 m pc ls (zrv P r :: rest)) := by
  obtain ⟨⟨a, l', rfl, hj⟩, hV⟩ := hV
  have hat := (zdia_d hG hj).1
  refine va_castA (D := P.1) (cl := []) (ws := [(a, .inl (P.2.1 0, (l'.length, .inl (fun q => zI (l'.getD q 0)))))]) hC.1 hC.2.1 hC.2.2.2.1 (hC.2.2.2.2.1 _ hcl) (fun k q hq => ?_) 0 rfl (hC.2.2.2.2.2.1.2.1 0 (by omega)).2 hd (kk hV)
  have hz : k < 1 := (List.getElem?_eq_some_iff.mp hq).1
  rw [show k = 0 by omega] at hq
  cases hq
  show H[a]? = some (vp_cell _ _)
  rw [vp_cell_i]
  exact hat
theorem zP1_d (hG : zS_d P s G H locs) {a k : Nat} {l' : List ZR} (hj : zsj G a = some (.inr (.inl (k, l')))) : va_P P.1 [] [(a, .inl (P.2.1 k, (l'.length, .inr (.inr (.inr (.inr (fun q => zro P (l'.getD q none))))))))] H := by
  intro k q hq
  have hz : k < 1 := (List.getElem?_eq_some_iff.mp hq).1
  rw [show k = 0 by omega] at hq
  cases hq
  show H[a]? = some (vp_cell _ _)
  rw [vp_cell_q, (zdra_d hG hj).1]
  exact congrArg some (arrV_congr fun q _ => (zro_rf P _).symm)
/-- checkcast to an array of objects -/
theorem z_castO_d (hC : zCx_d P p m c cc nL s args own) (hG : zS_d P s G H locs) {r : ZR} {idx : Nat} {V : Prop} (hcl : Cond.classLink own idx "[Ljava/lang/Object;" ∈ lw_all) (hV : zcaO G r ∧ V) (hd : decode cc pc = .ok (.checkcast idx, 3))
    (kk : V → W p l e R s m args below meth c H locs cells slots Q (F0 m (pc + 3) ls (zrv P r :: rest))) : W p l e R s m args below meth c H locs cells slots Q (F0 m pc ls (zrv P r :: rest)) := by
  obtain ⟨⟨a, l', rfl, hj⟩, hV⟩ := hV
  exact va_castA (D := P.1) (cl := []) hC.1 hC.2.1 hC.2.2.2.1 (hC.2.2.2.2.1 _ hcl) (zP1_d hG hj) 0 rfl (va_nmO (hC.2.2.2.2.2.1.2.1 3 (by omega)).2 rfl) hd (kk hV)
/-! references that are the same -/
theorem zro_inj_d (hC : zCx_d P p m c cc nL s args own) (hG : zS_d P s G H locs) {x y : ZR} (hx : zok G x) (hy : zok G y) (hf : zfam x y) : zro P x = zro P y ↔ x = y := by
  refine ⟨fun h => ?_, fun h => by rw [h]⟩
  obtain ⟨h16, hP⟩ := hC.2.2.2.2.2.1.2.2.2.1.2.2
  by_cases h18 : x = some (.inr 18)
  · rw [h18, hf.1.mp h18]
  have h18y : ¬ y = some (.inr 18) := fun z => h18 (hf.1.mpr z)
  have key : ∀ z : ZR, zok G z → ¬ z = some (.inr 18) → z = none ∨ (∃ a, z = some (.inl a) ∧ zB P ≤ a) ∨ (∃ o, z = some (.inr o) ∧ (o = 16 ∨ (20 ≤ o ∧ o < 24)) ∧ zA P o 0 0 < zB P) := by
    intro z hz hne
    rcases hz with rfl | ⟨a, d, rfl, hd⟩ | ⟨i, rfl, hi⟩ | rfl | rfl
    · exact Or.inl rfl
    · exact Or.inr (Or.inl ⟨a, rfl, (hG.1.2.1 a d hd).2.2.1⟩)
    · exact Or.inr (Or.inr ⟨_, rfl, by omega, (hP _ (by omega) (by omega)).1⟩)
    · exact Or.inr (Or.inr ⟨_, rfl, by omega, h16⟩)
    · exact absurd rfl hne
  rcases key x hx h18 with rfl | ⟨a, rfl, ha⟩ | ⟨o, rfl, o1, o2⟩ <;> rcases key y hy h18y with rfl | ⟨b, rfl, hb⟩ | ⟨o', rfl, o3, o4⟩ <;> simp only [zro] at h
  · rfl
  · cases h
  · cases h
  · cases h
  · rw [Option.some.inj h]
  · have := Option.some.inj h
    omega
  · cases h
  · have := Option.some.inj h
    omega
  · rcases hf.2 o o' rfl rfl with e | ⟨e1, e2⟩
    · rw [e]
    · rw [(hP o e1 (by omega)).2 o' e2 (by omega) (Option.some.inj h)]
theorem z_acmp_eq_d (hC : zCx_d P p m c cc nL s args own) (hG : zS_d P s G H locs) {x y : ZR} {off : Int} {tgt : Nat} {VA VB : Prop} (hV : zok G x ∧ zok G y ∧ zfam x y ∧ zbr (x = y) VA VB) (hd : decode cc pc = .ok (.if_acmp .eq off, 3)) (ht : (pc : Int) + off = (tgt : Int))
    (kt : VA → W p l e R s m args below meth c H locs cells slots Q (F0 m tgt ls rest)) (kf : VB → W p l e R s m args below meth c H locs cells slots Q (F0 m (pc + 3) ls rest)) : W p l e R s m args below meth c H locs cells slots Q (F0 m pc ls (zrv P y :: zrv P x :: rest)) := by
  rw [← zro_rf P x, ← zro_rf P y]
  exact lv_acmp_eq hC.1 hC.2.1 hd ht (fun h => kt (hV.2.2.2.1 ((zro_inj_d hC hG hV.1 hV.2.1 hV.2.2.1).mp h))) (fun h => kf (hV.2.2.2.2 fun z => h ((zro_inj_d hC hG hV.1 hV.2.1 hV.2.2.1).mpr z)))
theorem z_acmp_ne_d (hC : zCx_d P p m c cc nL s args own) (hG : zS_d P s G H locs) {x y : ZR} {off : Int} {tgt : Nat} {VA VB : Prop} (hV : zok G x ∧ zok G y ∧ zfam x y ∧ zbr (x ≠ y) VA VB) (hd : decode cc pc = .ok (.if_acmp .ne off, 3)) (ht : (pc : Int) + off = (tgt : Int))
    (kt : VA → W p l e R s m args below meth c H locs cells slots Q (F0 m tgt ls rest)) (kf : VB → W p l e R s m args below meth c H locs cells slots Q (F0 m (pc + 3) ls rest)) : W p l e R s m args below meth c H locs cells slots Q (F0 m pc ls (zrv P y :: zrv P x :: rest)) := by
  rw [← zro_rf P x, ← zro_rf P y]
  exact lv_acmp_ne hC.1 hC.2.1 hd ht (fun h => kt (hV.2.2.2.1 fun z => h ((zro_inj_d hC hG hV.1 hV.2.1 hV.2.2.1).mpr z))) (fun h => kf (hV.2.2.2.2 fun z => z ((zro_inj_d hC hG hV.1 hV.2.1 hV.2.2.1).mp h)))
/-! statics -/
theorem z_getsT_d (hC : zCx_d P p m c cc nL s args own) (hG : zS_d P s G H locs) {i o idx : Nat} (hi : i < 4) (ho : 20 + i = o) (hl : Cond.fieldLink own idx "Patternforge$Test" (zen i) "LPatternforge$Test;" ∈ lw_all) (hd : decode cc pc = .ok (.getstatic idx, 3))
    (kk : W p l e R s m args below meth c H locs cells slots Q (F0 m (pc + 3) ls (zrv P (some (.inr o)) :: rest))) : W p l e R s m args below meth c H locs cells slots Q (F0 m pc ls rest) := by
  subst ho
  exact va_gets hC.1 hC.2.1 (hC.2.2.2.2.2.2.1 i hi).1 hG.2 hC.2.2.2.1 (hC.2.2.2.2.1 _ hl) (fun x h => h) hd kk
theorem z_getsD_d (hC : zCx_d P p m c cc nL s args own) (hG : zS_d P s G H locs) {idx : Nat} (hl : Cond.fieldLink own idx "java/util/ArrayList" "DEFAULTCAPACITY_EMPTY_ELEMENTDATA" "[Ljava/lang/Object;" ∈ lw_all) (hd : decode cc pc = .ok (.getstatic idx, 3))
    (kk : W p l e R s m args below meth c H locs cells slots Q (F0 m (pc + 3) ls (zrv P (some (.inr 16)) :: rest))) : W p l e R s m args below meth c H locs cells slots Q (F0 m pc ls rest) := by
  exact va_gets hC.1 hC.2.1 hC.2.2.2.2.2.2.2.2.1 hG.2 hC.2.2.2.1 (hC.2.2.2.2.1 _ hl) (fun x h => h) hd kk
theorem z_getsV_d (hC : zCx_d P p m c cc nL s args own) (hG : zS_d P s G H locs) {idx : Nat} (hl : Cond.fieldLink own idx "Patternforge$Test" "$VALUES" "[LPatternforge$Test;" ∈ lw_all) (hd : decode cc pc = .ok (.getstatic idx, 3))
    (kk : W p l e R s m args below meth c H locs cells slots Q (F0 m (pc + 3) ls (.ref (zA P 17 0 0) :: rest))) : W p l e R s m args below meth c H locs cells slots Q (F0 m pc ls rest) :=
  va_gets hC.1 hC.2.1 hC.2.2.2.2.2.2.2.2.2.1 hG.2 hC.2.2.2.1 (hC.2.2.2.2.1 _ hl) (fun x h => h) hd kk
/-- the constants' number -/
theorem z_ordF_d (hC : zCx_d P p m c cc nL s args own) (hG : zS_d P s G H locs) {i idx : Nat} (hi : i < 4) (hl : Cond.fieldLink own idx "java/lang/Enum" "ordinal" "I" ∈ lw_all) (hd : decode cc pc = .ok (.getfield idx, 3))
    (kk : W p l e R s m args below meth c H locs cells slots Q (F0 m (pc + 3) ls (.int (zI i) :: rest))) : W p l e R s m args below meth c H locs cells slots Q (F0 m pc ls (.ref (zA P (20 + i) 0 0) :: rest)) :=
  vk_getf hC.1 hC.2.1 (hC.2.2.2.2.2.2.1 i hi).2.2 hG.2 hC.2.2.2.1 (hC.2.2.2.2.1 _ hl) (fun x h => h) hd kk
/-! the views -/
theorem zI5_d (hC : zCx_d P p m c cc nL s args own) : ∃ (kA kI : Class), s.vm.classes[P.2.1 5]? = some kA ∧ kA.kind = .array (P.2.1 0) (.array .int) ∧ s.vm.classes[P.2.1 0]? = some kI := by
  have hx := hC.2.2.2.2.2.1.2.2.1
  obtain ⟨comp, cA, kA, f1, f2, f3, f4⟩ := Cond.arrayOver_specA (hx _ xq172).2
  have hra : s.vm.findClass "[I" = some (P.2.1 0) := (hC.2.2.2.2.2.1.2.1 0 (by omega)).2
  have hrb : s.vm.findClass "[[I" = some (P.2.1 5) := (hC.2.2.2.2.2.1.2.1 5 (by omega)).2
  have hcA : cA = P.2.1 5 := Option.some.inj (f4.symm.trans hrb)
  have hcm : comp = P.2.1 0 := Option.some.inj (f1.symm.trans hra)
  subst hcA
  subst hcm
  obtain ⟨kC, hkC, -⟩ := Vm.findClass_spec hra
  exact ⟨kA, kC, f2, f3, hkC⟩
/-! the grid -/
/-! copies -/
theorem z_acpI_d (hC : zCx_d P p m c cc nL s args own) (hG : zS_d P s G H locs) {x y : ZR} {sp dp n : Int} {idx : Nat} {V : ZG → Prop} (hsz : ls.size = nL) (hl : zarr own idx) (hsp : inR sp) (hdp : inR dp) (hn : inR n) (hV : zcpI G x sp y dp n V) (hrest : zsum rest) (hR : 1 ≤ R.frames ∧ 8 + (nativeFrameWords "java/lang/System" "arraycopy" 5 + 11) ≤ R.locals) (hd : decode cc pc = .ok (.invokestatic idx, 3))
    (kk : ∀ G1 H1 locs1, zS_d P s G1 H1 locs1 → V G1 → W p l e R s m args below meth c H1 locs1 cells slots Q (F0 m (pc + 3) ls rest)) : W p l e R s m args below meth c H locs cells slots Q (F0 m pc ls (.int (zI n) :: .int (zI dp) :: zrv P y :: .int (zI sp) :: zrv P x :: rest)) := by
  obtain ⟨a0, f, a, g, rfl, hj0, rfl, hj, p1, p2, p3, p4, p5, hV⟩ := hV
  obtain ⟨hc0, hf9, -, -⟩ := zdia_d hG hj0
  obtain ⟨hc1, hg9, hB, hL9⟩ := zdia_d hG hj
  have hts := hC.2.2.2.2.1
  obtain ⟨q1, q2, q3, q4⟩ := hl
  have har : ArrOfT s (P.2.1 0) .int := (hC.2.2.2.2.2.1.2.1 0 (by omega)).1
  obtain ⟨-, k0, hk0, cm0, hkk0⟩ := har f.length (fun q => .int (zI (f.getD q 0)))
  intro T hT X
  have hrest9 := zsum_le hrest
  obtain ⟨vm', X', step⟩ := X.arraycopy hC.1 hC.2.2.2.1 (hts _ q1) (hts _ q2) (hts _ q3) (hts _ q4) (src := a0) (dst := a) (cs := arrV (P.2.1 0) f.length (fun q => .int (zI (f.getD q 0)))) (cd := arrV (P.2.1 0) g.length (fun q => .int (zI (g.getD q 0)))) (srcPos := zI sp) (destPos := zI dp) (n := zI n) (by rw [hT]; exact hc0) (by rw [hT]; exact hc1)
    (fun _ h => by cases h) (fun _ h => by cases h) (fun h => by cases h) (fun h => by cases h) hk0 hk0 hkk0 hkk0 (by simp) (zI_neg hsp p1) (zI_neg hdp p2) (zI_neg hn p3)
    (by rw [zI_toInt hsp, zI_toInt hn, arrV_size]; omega) (by rw [zI_toInt hdp, zI_toInt hn, arrV_size]; omega)
    (fun vm₁ _ i hi => by
      rw [zI_clamp hn] at hi
      have e : (arrV (P.2.1 0) f.length (fun q => .int (zI (f.getD q 0)))).slots.getD ((zI sp).toNatClampNeg + i) .null = .int (zI (f.getD (sp.toNat + i) 0)) := by
        rw [zI_clamp hsp, Array.getD_eq_getD_getElem?, arrV_read _ _ (by omega)]
        rfl
      rw [e]
      exact ⟨rfl, trivial⟩)
    (g := F0 m pc ls (.int (zI n) :: .int (zI dp) :: .ref a :: .int (zI sp) :: .ref a0 :: rest)) rfl (by rw [hC.2.2.1]; exact hsz) (rest := rest) rfl (by rw [hC.2.1]; exact hd) hR.1 (by have h9 := hR.2; show 2 * 0 + _ + _ ≤ _; omega)
  have e1 : copied (arrV (P.2.1 0) f.length (fun q => .int (zI (f.getD q 0)))) (arrV (P.2.1 0) g.length (fun q => .int (zI (g.getD q 0)))) (zI sp) (zI dp) (zI n) = arrV (P.2.1 0) g.length (fun q => .int (zI ((zcpl f g sp.toNat dp.toNat n.toNat).getD q 0))) := by
    refine Eq.trans (va_copied (fun z => Value.int (zI z)) (P.2.1 0) (P.2.1 0) (fun q => f.getD q 0) (fun q => g.getD q 0) (by rw [zI_clamp hsp, zI_clamp hn]; omega)) ?_
    rw [zI_clamp hsp, zI_clamp hdp, zI_clamp hn]
    refine arrV_congr fun q hq => ?_
    rw [zcpl_get (by omega) (by omega)]
    rfl
  rw [e1] at X' step
  generalize hcN : arrV (P.2.1 0) g.length (fun q => Value.int (zI ((zcpl f g sp.toNat dp.toNat n.toNat).getD q 0))) = cN' at X' step
  have hl : a < H.size := (Array.getElem?_eq_some_iff.mp hc1).1
  have hheap : ((T.setVm vm').setCell a cN').heap = H.setIfInBounds a cN' := by rw [← hT]; rfl
  have oq : ∀ q : Nat, q ≠ a → (H.setIfInBounds a cN')[q]? = H[q]? := fun q hq => by simp [Array.getElem?_setIfInBounds, Ne.symm hq]
  have h1 : (H.setIfInBounds a cN')[a]? = some cN' := by simp [Array.getElem?_setIfInBounds, hl]
  have hlen : (zcpl f g sp.toNat dp.toNat n.toNat).length = g.length := zcpl_len (by omega) (by omega)
  have hRel : Rel_d P (zsc G a (.inl (0, zcpl f g sp.toNat dp.toNat n.toNat))) (H.setIfInBounds a cN') := by
    refine hG.1.dyn hj ⟨fun z hz => (zcpl_mem hz).elim (hf9 z) (hg9 z), by rw [hlen]; exact hL9⟩ (Eq.trans h1 (congrArg some ?_)) oq
    rw [← hcN]
    simp only [hlen]
  obtain ⟨t, a1, b1⟩ := kk _ _ _ ⟨hRel, by simp; exact hG.2.1, fun q g1 g2 => by
      rw [oq q (fun e => g2 (by rw [e]; exact hB))]
      exact hG.2.2.1 q g1 g2, fun q hq => by
      rcases List.mem_append.mp hq with h | h
      · exact hG.2.2.2 q h
      · obtain ⟨z, -, hz⟩ := List.mem_map.mp h
        rw [← hz]
        exact hB⟩ hV _ hheap X'
  exact ⟨t, step t a1, b1⟩
theorem z_acpR_d (hC : zCx_d P p m c cc nL s args own) (hG : zS_d P s G H locs) {x y : ZR} {sp dp n : Int} {idx : Nat} {V : ZG → Prop} (hsz : ls.size = nL) (hl : zarr own idx) (hsp : inR sp) (hdp : inR dp) (hn : inR n) (hV : zcpR G x sp y dp n V) (hrest : zsum rest) (hR : 1 ≤ R.frames ∧ 8 + (nativeFrameWords "java/lang/System" "arraycopy" 5 + 11) ≤ R.locals) (hd : decode cc pc = .ok (.invokestatic idx, 3))
    (kk : ∀ G1 H1 locs1, zS_d P s G1 H1 locs1 → V G1 → W p l e R s m args below meth c H1 locs1 cells slots Q (F0 m (pc + 3) ls rest)) : W p l e R s m args below meth c H locs cells slots Q (F0 m pc ls (.int (zI n) :: .int (zI dp) :: zrv P y :: .int (zI sp) :: zrv P x :: rest)) := by
  obtain ⟨a0, f, a, g, rfl, hj0, rfl, hj, p1, p2, p3, p4, p5, hel, hV⟩ := hV
  obtain ⟨hc0, -, -, -⟩ := zdra_d hG hj0
  obtain ⟨hc1, hk9, hB, hL9⟩ := zdra_d hG hj
  have hts := hC.2.2.2.2.1
  obtain ⟨q1, q2, q3, q4⟩ := hl
  have har : ArrOfT s (P.2.1 3) (.object "java/lang/Object") := (hC.2.2.2.2.2.1.2.1 3 (by omega)).1
  have hra : va_RA s (P.2.1 3) (.object "java/lang/Object") := (hC.2.2.2.2.2.1.2.1 3 (by omega)).2
  obtain ⟨-, k0, hk0, cm0, hkk0⟩ := har f.length (fun q => zrv P (f.getD q none))
  intro T hT X
  have hrest9 := zsum_le hrest
  obtain ⟨vm', X', step⟩ := X.arraycopy hC.1 hC.2.2.2.1 (hts _ q1) (hts _ q2) (hts _ q3) (hts _ q4) (src := a0) (dst := a) (cs := arrV (P.2.1 3) f.length (fun q => zrv P (f.getD q none))) (cd := arrV (P.2.1 3) g.length (fun q => zrv P (g.getD q none))) (srcPos := zI sp) (destPos := zI dp) (n := zI n) (by rw [hT]; exact hc0) (by rw [hT]; exact hc1)
    (fun _ h => by cases h) (fun _ h => by cases h) (fun h => by cases h) (fun h => by cases h) hk0 hk0 hkk0 hkk0 rfl (zI_neg hsp p1) (zI_neg hdp p2) (zI_neg hn p3)
    (by rw [zI_toInt hsp, zI_toInt hn, arrV_size]; omega) (by rw [zI_toInt hdp, zI_toInt hn, arrV_size]; omega)
    (fun vm₁ hal i hi => by
      rw [zI_clamp hn] at hi
      have e : (arrV (P.2.1 3) f.length (fun q => zrv P (f.getD q none))).slots.getD ((zI sp).toNatClampNeg + i) .null = zrv P (f.getD (sp.toNat + i) none) := by
        rw [zI_clamp hsp, Array.getD_eq_getD_getElem?, arrV_read _ _ (by omega)]
        rfl
      rw [e]
      have hz : zel G 3 (f.getD (sp.toNat + i) none) := by
        refine hel _ ?_
        rw [List.getD_eq_getElem?_getD, List.getElem?_eq_getElem (by omega), Option.getD_some]
        exact List.mem_iff_getElem.mpr ⟨i, by simp only [List.length_take, List.length_drop]; omega, by simp⟩
      cases hy : f.getD (sp.toNat + i) none with
      | none => exact ⟨rfl, trivial⟩
      | some y =>
        rw [hy] at hz
        cases y with
        | inr o =>
          rcases hz with h | ⟨b, ci, fs, hb, -⟩ | ⟨b, l2, hb, -⟩
          · cases h.1
          · cases hb
          · cases hb
        | inl y =>
        obtain ⟨cellV, g1, g2, ⟨kC, hkC⟩, hasg⟩ := zany_d hC hG rfl hz (Or.inl rfl)
        obtain ⟨kA, comp, r1, r2, r3, -⟩ := hra
        cases hk0.symm.trans r1
        cases hkk0.symm.trans r2
        obtain ⟨kE, hkE, -⟩ := Vm.findClass_spec r3
        obtain ⟨kC', hkC', -⟩ := hal.2.2 _ _ hkC
        obtain ⟨kE', hkE', -⟩ := hal.2.2 _ _ hkE
        refine ⟨rfl, cellV, (show T.heap[y]? = some cellV by rw [hT]; exact g1), (fun q h => by rw [h] at g2; cases g2), ⟨kC', hkC'⟩, ?_, ?_⟩
        · exact ⟨kE', hkE'⟩
        · show vm₁.assignable _ _ = true
          rw [hal.assignable]
          exact hasg _ r3)
    (g := F0 m pc ls (.int (zI n) :: .int (zI dp) :: .ref a :: .int (zI sp) :: .ref a0 :: rest)) rfl (by rw [hC.2.2.1]; exact hsz) (rest := rest) rfl (by rw [hC.2.1]; exact hd) hR.1 (by have h9 := hR.2; show 2 * 0 + _ + _ ≤ _; omega)
  have e1 : copied (arrV (P.2.1 3) f.length (fun q => zrv P (f.getD q none))) (arrV (P.2.1 3) g.length (fun q => zrv P (g.getD q none))) (zI sp) (zI dp) (zI n) = arrV (P.2.1 3) g.length (fun q => zrv P ((zcpl f g sp.toNat dp.toNat n.toNat).getD q none)) := by
    refine Eq.trans (va_copied (fun z => zrv P z) (P.2.1 3) (P.2.1 3) (fun q => f.getD q none) (fun q => g.getD q none) (by rw [zI_clamp hsp, zI_clamp hn]; omega)) ?_
    rw [zI_clamp hsp, zI_clamp hdp, zI_clamp hn]
    refine arrV_congr fun q hq => ?_
    rw [zcpl_get (by omega) (by omega)]
    rfl
  rw [e1] at X' step
  generalize hcN : arrV (P.2.1 3) g.length (fun q => zrv P ((zcpl f g sp.toNat dp.toNat n.toNat).getD q none)) = cN' at X' step
  have hl : a < H.size := (Array.getElem?_eq_some_iff.mp hc1).1
  have hheap : ((T.setVm vm').setCell a cN').heap = H.setIfInBounds a cN' := by rw [← hT]; rfl
  have oq : ∀ q : Nat, q ≠ a → (H.setIfInBounds a cN')[q]? = H[q]? := fun q hq => by simp [Array.getElem?_setIfInBounds, Ne.symm hq]
  have h1 : (H.setIfInBounds a cN')[a]? = some cN' := by simp [Array.getElem?_setIfInBounds, hl]
  have hlen : (zcpl f g sp.toNat dp.toNat n.toNat).length = g.length := zcpl_len (by omega) (by omega)
  have hRel : Rel_d P (zsc G a (.inr (.inl (3, zcpl f g sp.toNat dp.toNat n.toNat)))) (H.setIfInBounds a cN') := by
    refine hG.1.dyn hj ⟨by omega, by omega, by rw [hlen]; exact hL9⟩ (Eq.trans h1 (congrArg some ?_)) oq
    rw [← hcN]
    simp only [hlen]
  obtain ⟨t, a1, b1⟩ := kk _ _ _ ⟨hRel, by simp; exact hG.2.1, fun q g1 g2 => by
      rw [oq q (fun e => g2 (by rw [e]; exact hB))]
      exact hG.2.2.1 q g1 g2, fun q hq => by
      rcases List.mem_append.mp hq with h | h
      · exact hG.2.2.2 q h
      · obtain ⟨z, -, hz⟩ := List.mem_map.mp h
        rw [← hz]
        exact hB⟩ hV _ hheap X'
  exact ⟨t, step t a1, b1⟩
/-! clone -/
theorem z_cloneRaw_d (hC : zCx_d P p m c cc nL s args own) {a idx k n : Nat} {ad : String} {f : Nat → Value} (hsz : ls.size = nL) (hl : zcln own idx ad) (hk : k ≤ 6) {cell : Cell} (hc0 : H[a]? = some cell) (hcc : cell.cls = P.2.1 k) (hcv : (∀ q, cell.vm ≠ .statics q) ∧ cell.vm ≠ .unknown) (hcs : cell.slots = (arrV (P.2.1 k) n f).slots) (hnm : s.vm.findClass ad = some (P.2.1 k)) (hfit : ∀ q, q < n → fits (aT k) (f q) = true) (hrest : zsum rest) (hR : 1 ≤ R.frames ∧ 8 + 14 ≤ R.locals) (hcells : cells + 1 ≤ R.cells) (hslots : slots + n ≤ R.slots) (hd : decode cc pc = .ok (.invokevirtual idx, 3))
    (kk : ∀ H1, H1[H.size]? = some (arrV (P.2.1 k) n f) → H1.size = H.size + 1 → (∀ q : Nat, q < H.size → H1[q]? = H[q]?) → W p l e R s m args below meth c H1 locs (cells + 1) (slots + n) Q (F0 m (pc + 3) ls (.ref H.size :: rest))) : W p l e R s m args below meth c H locs cells slots Q (F0 m pc ls (.ref a :: rest)) := by
  have hts := hC.2.2.2.2.1
  obtain ⟨l1, l2, l3, l4, l5, l6⟩ := hl
  obtain ⟨c0, t0', f1, f2, f3⟩ := Cond.castable_spec (va_Nw.use (A := args) rfl (hC.2.2.2.2.2.1.2.2.1 _ l6).2)
  cases hnm.symm.trans f1
  have har := (hC.2.2.2.2.2.1.2.1 k hk).1
  have hrest9 := zsum_le hrest
  intro T hT X
  obtain ⟨-, kA, hkA, comp, hkind⟩ := State.isArrayOf_alike X.warmed.alike (har 0 (fun _ => .null))
  obtain ⟨-, kS, hkS, compS, hkindS⟩ := har 0 (fun _ => .null)
  obtain ⟨vm', X', st⟩ := X.cloneArray hC.1 hC.2.2.2.1 (hts _ l1) (hts _ l2) (hts _ l3) (hts _ l4) (hts _ l5) (a := a) (cell := cell) (by rw [hT]; exact hc0) hcv.1 hcv.2 (by rw [hcc]; exact hnm) f2 (by rw [hcc]; exact f3)
    (fun i v hv => by
      rw [hcs] at hv
      rw [hcc]
      have hk' : T.vm.classes[P.2.1 k]? = some kA := hkA
      have hv' : fits (aT k) v = true := by
        have hi : i < n := by
          have := (Array.getElem?_eq_some_iff.mp hv).1
          rwa [arrV_size] at this
        rw [arrV_read _ _ hi] at hv
        cases hv
        exact hfit i hi
      simpa [State.fitsSlot, State.slotType?, arrV, hk', hkind] using hv')
    (g := F0 m pc ls (.ref a :: rest)) rfl (by rw [hC.2.2.1]; exact hsz) rfl (by rw [hC.2.1]; exact hd) hR.1 (by have h9 := hR.2; show 2 * 0 + _ + 14 ≤ _; omega) hcells (by rw [hcs, arrV_size]; exact hslots) (hloader := by rw [hcc]; exact Vm.clonesLoader_of_array hkS hkindS)
  have hcellE : ({ cls := cell.cls, slots := cell.slots } : Cell) = arrV (P.2.1 k) n f := by rw [hcc, hcs]; rfl
  rw [hcellE, hcs, arrV_size] at X'
  generalize hH1 : H.push (arrV (P.2.1 k) n f) = H1
  have z1 : H1.size = H.size + 1 := by rw [← hH1, Array.size_push]
  have e1 : H1[H.size]? = some (arrV (P.2.1 k) n f) := by rw [← hH1, Array.getElem?_push_size]
  have o1 : ∀ q : Nat, q < H.size → H1[q]? = H[q]? := fun q hq => by rw [← hH1, Array.getElem?_push, if_neg (Nat.ne_of_lt hq)]
  obtain ⟨t, b1, b2⟩ := kk H1 e1 z1 o1 ((T.setVm vm').pushCell (arrV (P.2.1 k) n f)) (by rw [← hH1, ← hT]; rfl) X'
  refine ⟨t, st t ?_, b2⟩
  rw [hcellE, hT]
  exact b1
theorem z_cloneI_d (hC : zCx_d P p m c cc nL s args own) (hG : zS_d P s G H locs) {r : ZR} {idx mx : Nat} {V : ZR → ZG → Prop} (hsz : ls.size = nL) (hl : zcln own idx "[I") (hV : zclI G r mx V) (hrest : zsum rest) (hR : 1 ≤ R.frames ∧ 8 + 14 ≤ R.locals) (hcells : cells + 1 ≤ R.cells) (hslots : slots + mx ≤ R.slots) (hd : decode cc pc = .ok (.invokevirtual idx, 3))
    (kk : ∀ r G1 H1, zS_d P s G1 H1 locs → V r G1 → W p l e R s m args below meth c H1 locs (cells + 1) (slots + mx) Q (F0 m (pc + 3) ls (zrv P r :: rest))) : W p l e R s m args below meth c H locs cells slots Q (F0 m pc ls (zrv P r :: rest)) := by
  obtain ⟨a, f, rfl, hj, hle, hV⟩ := hV
  obtain ⟨hc0, hf9, hB, hL9⟩ := zdia_d hG hj
  refine z_cloneRaw_d hC (k := 0) hsz hl (by omega) hc0 rfl ⟨fun q h => (by cases h), fun h => (by cases h)⟩ rfl (hC.2.2.2.2.2.1.2.1 0 (by omega)).2 (fun _ _ => rfl) hrest hR hcells (by omega) hd fun H1 e1 z1 o1 => ?_
  obtain ⟨g1, g2⟩ := hG.new hC (d := .inl (0, f)) ⟨hf9, hL9⟩ e1 z1 o1
  exact W.widen (Nat.le_refl _) (by omega) (kk (some (.inl H.size)) _ H1 g2 (hV _ g1))
/-- checkcast to the constants' array -/
theorem z_castV_d (hC : zCx_d P p m c cc nL s args own) (hG : zS_d P s G H locs) {r : ZR} {idx : Nat} {V : Prop} (hcl : Cond.classLink own idx "[LPatternforge$Test;" ∈ lw_all) (hV : (∃ a l', r = some (.inl a) ∧ zsj G a = some (.inr (.inl (6, l')))) ∧ V) (hd : decode cc pc = .ok (.checkcast idx, 3))
    (kk : V → W p l e R s m args below meth c H locs cells slots Q (F0 m (pc + 3) ls (zrv P r :: rest))) : W p l e R s m args below meth c H locs cells slots Q (F0 m pc ls (zrv P r :: rest)) := by
  obtain ⟨⟨a, l', rfl, hj⟩, hV⟩ := hV
  exact va_castA (D := P.1) (cl := []) hC.1 hC.2.1 hC.2.2.2.1 (hC.2.2.2.2.1 _ hcl) (zP1_d hG hj) 0 rfl (va_nmO (hC.2.2.2.2.2.1.2.1 6 (by omega)).2 rfl) hd (kk hV)
/-- Object.<init> -/
theorem z_obj_d (hC : zCx_d P p m c cc nL s args own) {a idx : Nat} (hsz : ls.size = nL) (hl : Cond.methodLink own idx Lib.objectInit ∈ lw_all ∧ Cond.instanceMethod Lib.objectInit ∈ lw_all ∧ Cond.code Lib.objectInit ⟨#[0xb1]⟩ 1 none ∈ lw_all) (hrest : zsum rest) (hR : 1 ≤ R.frames ∧ 8 + 12 ≤ R.locals) (hd : decode cc pc = .ok (.invokespecial idx, 3))
    (kk : W p l e R s m args below meth c H locs cells slots Q (F0 m (pc + 3) ls rest)) : W p l e R s m args below meth c H locs cells slots Q (F0 m pc ls (.ref a :: rest)) := by
  have hrest9 := zsum_le hrest
  have h9 := hR.2
  exact W.objInit hC.1 hC.2.1 hC.2.2.2.1 (hC.2.2.2.2.1 _ hl.1) (hC.2.2.2.2.1 _ hl.2.1) (hC.2.2.2.2.1 _ hl.2.2) rfl (by rw [hC.2.2.1]; exact hsz) rfl hd hR.1 (by show 2 * 0 + _ + 12 ≤ _; omega) kk
/-- the class of an array of objects, and the same by its name -/
theorem z_getC_d (hC : zCx_d P p m c cc nL s args own) (hG : zS_d P s G H locs) {r : ZR} {idx : Nat} {V : Prop} (hsz : ls.size = nL) (hl : Cond.methodLink own idx ⟨"java/lang/Object", "getClass", "()Ljava/lang/Class;"⟩ ∈ lw_all ∧ Cond.declares ⟨"java/lang/Object", "getClass", "()Ljava/lang/Class;"⟩ ∈ znx ∧ Cond.selects "[Ljava/lang/Object;" ⟨"java/lang/Object", "getClass", "()Ljava/lang/Class;"⟩ ⟨"java/lang/Object", "getClass", "()Ljava/lang/Class;"⟩ ∈ lw_all ∧ Cond.instanceMethod ⟨"java/lang/Object", "getClass", "()Ljava/lang/Class;"⟩ ∈ lw_all ∧ Cond.native ⟨"java/lang/Object", "getClass", "()Ljava/lang/Class;"⟩ ∈ lw_all)
    (hV : zcaO G r ∧ V) (hrest : zsum rest) (hR : 1 ≤ R.frames ∧ 8 + 14 ≤ R.locals) (hd : decode cc pc = .ok (.invokevirtual idx, 3))
    (kk : V → W p l e R s m args below meth c H locs cells slots Q (F0 m (pc + 3) ls (zrv P (some (.inr 18)) :: rest))) : W p l e R s m args below meth c H locs cells slots Q (F0 m pc ls (zrv P r :: rest)) := by
  obtain ⟨⟨a, l', rfl, hj⟩, hV⟩ := hV
  obtain ⟨l1, l2, l3, l4, l5⟩ := hl
  have hts := hC.2.2.2.2.1
  have h9 := hR.2
  have h8 := zsum_le hrest
  exact va_getC hC.1 hC.2.1 (hC.2.2.1.trans hsz.symm) hC.2.2.2.1 (hts _ l1) (va_Nw.use rfl (hC.2.2.2.2.2.1.2.2.1 _ l2).2) (hts _ l3) (hts _ l4) (hts _ l5) hC.2.2.2.2.2.2.2.1 ⟨_, (zdra_d hG hj).1, rfl, va_nmO (hC.2.2.2.2.2.1.2.1 3 (by omega)).2 rfl⟩ hR.1 (by omega) hd (kk hV)
theorem z_ldcM_d (hC : zCx_d P p m c cc nL s args own) {idx : Nat} (hcl : Cond.classLink own idx "[Ljava/lang/Object;" ∈ lw_all) (hd : decode cc pc = .ok (.ldc idx, 2))
    (kk : W p l e R s m args below meth c H locs cells slots Q (F0 m (pc + 2) ls (zrv P (some (.inr 18)) :: rest))) : W p l e R s m args below meth c H locs cells slots Q (F0 m pc ls rest) :=
  va_ldcM hC.1 hC.2.1 hC.2.2.2.1 (hC.2.2.2.2.1 _ hcl) hC.2.2.2.2.2.2.2.1 hd kk
end ZNE

/-! ROWS 8: calls of all kinds; methods that throw -/
section ZC2
variable {p : Program} {l : Launch} {e : Env} {R : Room} {s : State} {m : MethodId} {args : Array Value} {below : List Frame} {meth : Method} {c : Code} {H : Heap} {locs : List Loc} {cells slots : Nat} {Q : State → Prop}
variable {cc : ByteArray} {pc nL : Nat} {ls : Array Slot} {rest : List Value} {P : ZP} {G : ZG} {own : String} {mc ms : Nat}
variable {x y : MethodName} {cc' : ByteArray} {maxL idx n mc' ms' : Nat} {ret : Option FieldType} {rm : Room} {av st0 : List Value} {Qc : Array Value → State → Outcome → State → Prop} {C owner host : String} {b : Nat}
theorem zcwU_d (hC : zCx_d P p m c cc nL s args own) (hl : zLU own idx C owner x y cc' maxL ret n) (hc : rm.cells = mc') (hs : rm.slots = ms') (hR : zRm R rm maxL) : va_CU R s args own C owner idx x y cc' maxL ret (ws_ y cc' maxL ret) rm mc' ms' n := by
  obtain ⟨h1 | h1, hd⟩ := hl
  · rcases h1.2 with h2 | h2
    · exact va_cwU n hC.2.2.2.2.1 h1.1 rfl hc hs h2 hd hR
    · exact va_cwA n hC.2.2.2.2.1 h1.1 rfl hc hs (hC.2.2.2.2.2.1.2.2.1 _ h2).2 hd hR
  · obtain ⟨h1, b0, m0, r0, h0⟩ := h1
    exact va_cwO n hC.2.2.2.2.1 h1 rfl hc hs h0 hd hR
theorem zrunU_d (hC : zCx_d P p m c cc nL s args own) (hG : zS_d P s G H locs) (hO : ∃ cellB : Cell, H[b]? = some cellB ∧ cellB.vm.isStatics = false ∧ s.vm.findClass C = some cellB.cls) (hM : Met l y (ws_ y cc' maxL ret) rm (zPc_d P G (.ref b :: av)) Qc mc' ms' (zAr P)) (hl : zLU own idx C owner x y cc' maxL ret n) (hn : av.length = n) (hc : rm.cells = mc') (hs : rm.slots = ms') (hR : zRm R rm maxL) (hf : cells + mc' ≤ R.cells ∧ slots + ms' ≤ R.slots)
    (hst : st0 = av.reverse ++ .ref b :: rest) (hrest : zsum rest) (hsz : ls.size = nL) (hd : decode cc pc = .ok (.invokevirtual idx, 3)) : va_Run p l e R s m args below meth c H locs cells slots mc' ms' (F0 m pc ls st0) rest (Qc (Value.ref b :: av).toArray) (zAr P) :=
  va_runU (As := av) ⟨hC.1, hC.2.1, hC.2.2.1, hC.2.2.2.1, hC.2.2.2.2.1⟩ hM (zcwU_d hC hl hc hs hR) ⟨zPc_d.blind, hO, zPre_d hC hG⟩ rfl hn hsz hst (zsum_le hrest) hd hf
theorem zrunVD_d {r : ZR} {ci : Nat} (hC : zCx_d P p m c cc nL s args own) (hG : zS_d P s G H locs) (hO : zisO G r ci) (hM : Met l y (ws_ y cc' maxL ret) rm (zPc_d P G (zrv P r :: av)) Qc mc' ms' (zAr P)) (hl : zLV own idx (cR ci) y cc' maxL ret n) (hn : av.length = n) (hc : rm.cells = mc') (hs : rm.slots = ms') (hR : zRm R rm maxL) (hf : cells + mc' ≤ R.cells ∧ slots + ms' ≤ R.slots)
    (hst : st0 = av.reverse ++ zrv P r :: rest) (hrest : zsum rest) (hsz : ls.size = nL) (hd : decode cc pc = .ok (.invokevirtual idx, 3)) : va_Run p l e R s m args below meth c H locs cells slots mc' ms' (F0 m pc ls st0) rest (Qc (zrv P r :: av).toArray) (zAr P) := by
  obtain ⟨a, fs, rfl, hj⟩ := hO
  obtain ⟨hO, h1, h2, -⟩ := zdob_d hG hj
  exact zrunV_d hC hG h1 h2 hO hM hl hn hc hs hR hf hst hrest hsz hd
theorem zcnB_d (hC : zCx_d P p m c cc nL s args own) (hl : zLN own idx host y cc' maxL ret n) (hc : rm.cells = mc') (hs : rm.slots = ms') (hR : zRm R rm maxL) : va_CN R s args own idx y host cc' maxL ret (ws_ y cc' maxL ret) rm mc' ms' n :=
  va_cnB n hC.2.2.2.2.1 (lw_meth hl.2.1) rfl hc hs (hC.2.2.2.2.2.1.2.2.1 _ hl.1).2 (hC.2.2.2.2.1 _ hl.2.2.1) hl.2.2.2 hR
theorem zrunSN_d (hC : zCx_d P p m c cc nL s args own) (hG : zS_d P s G H locs) (hM : Met l y (ws_ y cc' maxL ret) rm (zPc_d P G av) Qc mc' ms' (zAr P)) (hl : zLN own idx host y cc' maxL ret n ∧ Cond.static y ∈ lw_all) (hn : av.length = n) (hc : rm.cells = mc') (hs : rm.slots = ms') (hR : zRm R rm maxL) (hf : cells + mc' ≤ R.cells ∧ slots + ms' ≤ R.slots)
    (hst : st0 = av.reverse ++ rest) (hrest : zsum rest) (hsz : ls.size = nL) (hd : decode cc pc = .ok (.invokestatic idx, 3)) : va_Run p l e R s m args below meth c H locs cells slots mc' ms' (F0 m pc ls st0) rest (Qc av.toArray) (zAr P) :=
  va_runSN (As := av) ⟨hC.1, hC.2.1, hC.2.2.1, hC.2.2.2.1, hC.2.2.2.2.1⟩ hM ⟨zcnB_d hC hl.1 hc hs hR, hC.2.2.2.2.1 _ hl.2, trivial⟩ ⟨zPc_d.blind, zPre_d hC hG⟩ rfl hn hsz hst (zsum_le hrest) hd hf
theorem zrunVN_d {ci : Nat} {V : Nat → Value} (hC : zCx_d P p m c cc nL s args own) (hG : zS_d P s G H locs) (h1 : 1 ≤ ci) (h2 : ci ≤ 16) (hO : t_OB b (P.1.1 ci) (cN ci) (P.1.2 ci) H V) (hM : Met l y (ws_ y cc' maxL ret) rm (zPc_d P G (.ref b :: av)) Qc mc' ms' (zAr P)) (hl : zLN own idx host y cc' maxL ret n ∧ Cond.instanceMethod y ∈ lw_all ∧ Cond.selects (cR ci) y y ∈ lw_all) (hn : av.length = n) (hc : rm.cells = mc') (hs : rm.slots = ms') (hR : zRm R rm maxL) (hf : cells + mc' ≤ R.cells ∧ slots + ms' ≤ R.slots)
    (hst : st0 = av.reverse ++ .ref b :: rest) (hrest : zsum rest) (hsz : ls.size = nL) (hd : decode cc pc = .ok (.invokevirtual idx, 3)) : va_Run p l e R s m args below meth c H locs cells slots mc' ms' (F0 m pc ls st0) rest (Qc (Value.ref b :: av).toArray) (zAr P) :=
  va_runVN (As := av) ⟨hC.1, hC.2.1, hC.2.2.1, hC.2.2.2.1, hC.2.2.2.2.1⟩ hM ⟨zcnB_d hC hl.1 hc hs hR, hC.2.2.2.2.1 _ hl.2.1, hC.2.2.2.2.1 _ hl.2.2⟩ ⟨zPc_d.blind, zrecv_d hC h1 h2 hO, zPre_d hC hG⟩ rfl hn hsz hst (zsum_le hrest) hd hf
theorem zrunP_d {ci : Nat} {V : Nat → Value} (hC : zCx_d P p m c cc nL s args own) (hG : zS_d P s G H locs) (h1 : 1 ≤ ci) (h2 : ci ≤ 16) (hO : t_OB b (P.1.1 ci) (cN ci) (P.1.2 ci) H V) (hM : Met l y (ws_ y cc' maxL ret) rm (zPc_d P G (.ref b :: av)) Qc mc' ms' (zAr P)) (hl : zLP own idx (cR ci) y cc' maxL ret n) (hn : av.length = n) (hc : rm.cells = mc') (hs : rm.slots = ms') (hR : zRm R rm maxL) (hf : cells + mc' ≤ R.cells ∧ slots + ms' ≤ R.slots)
    (hst : st0 = av.reverse ++ .ref b :: rest) (hrest : zsum rest) (hsz : ls.size = nL) (hd : decode cc pc = .ok (.invokevirtual idx, 3)) : va_Run p l e R s m args below meth c H locs cells slots mc' ms' (F0 m pc ls st0) rest (Qc (Value.ref b :: av).toArray) (zAr P) := by
  obtain ⟨k1, k2, k3, k4, k5, k6⟩ := hl
  have hts := hC.2.2.2.2.1
  exact va_runV (As := av) ⟨hC.1, hC.2.1, hC.2.2.1, hC.2.2.2.1, hC.2.2.2.2.1⟩ hM ⟨callB_of n hts (lw_meth k5) rfl hc hs (hts _ k4) (hts _ k1) k6 hR, hts _ k2, va_Nw.use rfl (hC.2.2.2.2.2.1.2.2.1 _ k3).2⟩ ⟨zPc_d.blind, zrecv_d hC h1 h2 hO, zPre_d hC hG⟩ rfl hn hsz hst (zsum_le hrest) hd hf
/-- constructors -/
theorem zrunI_d {r : ZR} (hC : zCx_d P p m c cc nL s args own) (hG : zS_d P s G H locs) (hO : znn r) (hM : Met l y (ws_ y cc' maxL none) rm (zPc_d P G (zrv P r :: av)) Qc mc' ms' (zAr P)) (hl : zLI own idx y cc' maxL n) (hn : av.length = n) (hc : rm.cells = mc') (hs : rm.slots = ms') (hR : zRm R rm maxL) (hf : cells + mc' ≤ R.cells ∧ slots + ms' ≤ R.slots)
    (hst : st0 = av.reverse ++ zrv P r :: rest) (hrest : zsum rest) (hsz : ls.size = nL) (hd : decode cc pc = .ok (.invokespecial idx, 3)) : va_Run p l e R s m args below meth c H locs cells slots mc' ms' (F0 m pc ls st0) rest (Qc (zrv P r :: av).toArray) (zAr P) := by
  obtain ⟨a, rfl⟩ := hO
  obtain ⟨k1, k2, k3, k4, k5, k6⟩ := hl
  have hts := hC.2.2.2.2.1
  exact va_runI (As := av) ⟨hC.1, hC.2.1, hC.2.2.1, hC.2.2.2.1, hC.2.2.2.2.1⟩ hM ⟨callB_of n hts (lw_meth k2) rfl hc hs (hts _ k3) (hts _ k1) k4 hR, k5, hts _ k6⟩ ⟨zPc_d.blind, zPre_d hC hG⟩ rfl hn hsz hst (zsum_le hrest) hd hf
theorem zrunIN_d {r : ZR} (hC : zCx_d P p m c cc nL s args own) (hG : zS_d P s G H locs) (hO : znn r) (hM : Met l y (ws_ y cc' maxL none) rm (zPc_d P G (zrv P r :: av)) Qc mc' ms' (zAr P)) (hl : zLN own idx host y cc' maxL none n ∧ y.name = "<init>" ∧ Cond.instanceMethod y ∈ lw_all) (hn : av.length = n) (hc : rm.cells = mc') (hs : rm.slots = ms') (hR : zRm R rm maxL) (hf : cells + mc' ≤ R.cells ∧ slots + ms' ≤ R.slots)
    (hst : st0 = av.reverse ++ zrv P r :: rest) (hrest : zsum rest) (hsz : ls.size = nL) (hd : decode cc pc = .ok (.invokespecial idx, 3)) : va_Run p l e R s m args below meth c H locs cells slots mc' ms' (F0 m pc ls st0) rest (Qc (zrv P r :: av).toArray) (zAr P) := by
  obtain ⟨a, rfl⟩ := hO
  exact va_runIN (As := av) ⟨hC.1, hC.2.1, hC.2.2.1, hC.2.2.2.1, hC.2.2.2.2.1⟩ hM ⟨zcnB_d hC hl.1 hc hs hR, hl.2.1, hC.2.2.2.2.1 _ hl.2.2⟩ ⟨zPc_d.blind, zPre_d hC hG⟩ rfl hn hsz hst (zsum_le hrest) hd hf
theorem z_objD_d (hC : zCx_d P p m c cc nL s args own) {r : ZR} {V : Prop} (hV : znn r ∧ V) (hsz : ls.size = nL) (hl : Cond.methodLink own idx Lib.objectInit ∈ lw_all ∧ Cond.instanceMethod Lib.objectInit ∈ lw_all ∧ Cond.code Lib.objectInit ⟨#[0xb1]⟩ 1 none ∈ lw_all) (hrest : zsum rest) (hR : 1 ≤ R.frames ∧ 8 + 12 ≤ R.locals) (hd : decode cc pc = .ok (.invokespecial idx, 3))
    (kk : V → W p l e R s m args below meth c H locs cells slots Q (F0 m (pc + 3) ls rest)) : W p l e R s m args below meth c H locs cells slots Q (F0 m pc ls (zrv P r :: rest)) := by
  obtain ⟨⟨a, rfl⟩, hV⟩ := hV
  exact z_obj_d hC hsz hl hrest hR hd (kk hV)
/-! methods that throw -/
def zXc_d (P : ZP) (X : Nat → ZG → Prop) : String → State → State → Prop := vx_X (S := Nat × ZG) (fun u => X u.1 u.2) (fun E u t => E = zxn u.1 ∧ Rel_d P u.2 t.heap) (zAr P)
theorem zMetX_d {l : Launch} {rm : Room} {mc ms : Nat} {X : Nat → ZG → Prop} (hown : y.cls = own) (hy : plainName y.cls = true) (hcs : zcs av) (hlen : av.length ≤ maxL)
    (body : ∀ (p : Program) (e : Env) (s : State) (m : MethodId) (args : Array Value) (below : List Frame) (meth : Method) (c : Code) (ls : Array Slot), zCx_d P p m c cc maxL s args own → meth.sig.returnType = ret → meth.locks = false → meth.name = y.name → (∀ x ∈ c.exceptionTable.toList, False) → zS_d P s G s.heap [] → zL ls maxL (zargs 0 av) → W p l e rm s m args below meth c s.heap [] 0 0 (vx_MQ below Qc (zXc_d P X) args s mc ms (zAr P)) (F0 m 0 ls [])) : vx_Met l y (ws_ y cc maxL ret) rm (zPc_d P G av) Qc (zXc_d P X) mc ms (zAr P) := by
  refine vx_ofW (cc := cc) (maxL := maxL) (ret := ret) hy rfl ?_
  intro p e s m args below meth c s₁ B hml hnt hv
  obtain ⟨rfl, hR, hK, hSt⟩ := hv
  have hts := atoms_spec (ws := ws_ y cc maxL ret) B.pre
  have hts : ∀ w ∈ lw_all, w.before _ s = true := fun w h => hts w (List.mem_cons_of_mem _ h)
  have hl := lv_entry av (n := maxL) (by rw [zlg_len av hcs]; exact hlen)
  rw [lg_entry_eq]
  rw [zargs_lv av 0 hcs] at hl
  have ho : s.vm.findClass own = some m.cls := by rw [← hown]; exact findClass_of_methodNamed B.named
  exact body p e s m _ below meth c _ ⟨B.exec, B.bytes, hml, ho, hts, hK, hSt⟩ B.returns B.notSynchronized (name_of_methodNamed B.named B.method).1 hnt ⟨hR, va_S.rf⟩ ⟨hl, zargs_c1 av 0 hcs⟩
theorem zrunSX_d {XC : String → State → State → Prop} (hC : zCx_d P p m c cc nL s args own) (hG : zS_d P s G H locs) (hM : vx_Met l y (ws_ y cc' maxL ret) rm (zPc_d P G av) Qc XC mc' ms' (zAr P)) (hl : zLS own idx y cc' maxL ret n) (hn : av.length = n) (hc : rm.cells = mc') (hs : rm.slots = ms') (hR : zRm R rm maxL) (hf : cells + mc' ≤ R.cells ∧ slots + ms' ≤ R.slots)
    (hst : st0 = av.reverse ++ rest) (hrest : zsum rest) (hsz : ls.size = nL) (hd : decode cc pc = .ok (.invokestatic idx, 3)) : vx_Run p l e R s m args below meth c H locs cells slots mc' ms' (F0 m pc ls st0) rest (Qc av.toArray) XC (zAr P) :=
  vx_runS (As := av) ⟨hC.1, hC.2.1, hC.2.2.1, hC.2.2.2.1, hC.2.2.2.2.1⟩ hM (va_cwS n hC.2.2.2.2.1 hl.1 rfl hc hs hl.2 hR) ⟨zPc_d.blind, zPre_d hC hG⟩ rfl hn hsz hst (zsum_le hrest) hd hf
theorem zrunVX_d {ci : Nat} {V : Nat → Value} {XC : String → State → State → Prop} (hC : zCx_d P p m c cc nL s args own) (hG : zS_d P s G H locs) (h1 : 1 ≤ ci) (h2 : ci ≤ 16) (hO : t_OB b (P.1.1 ci) (cN ci) (P.1.2 ci) H V) (hM : vx_Met l y (ws_ y cc' maxL ret) rm (zPc_d P G (.ref b :: av)) Qc XC mc' ms' (zAr P)) (hl : zLV own idx (cR ci) y cc' maxL ret n) (hn : av.length = n) (hc : rm.cells = mc') (hs : rm.slots = ms') (hR : zRm R rm maxL) (hf : cells + mc' ≤ R.cells ∧ slots + ms' ≤ R.slots)
    (hst : st0 = av.reverse ++ .ref b :: rest) (hrest : zsum rest) (hsz : ls.size = nL) (hd : decode cc pc = .ok (.invokevirtual idx, 3)) : vx_Run p l e R s m args below meth c H locs cells slots mc' ms' (F0 m pc ls st0) rest (Qc (Value.ref b :: av).toArray) XC (zAr P) :=
  vx_runV (As := av) ⟨hC.1, hC.2.1, hC.2.2.1, hC.2.2.2.1, hC.2.2.2.2.1⟩ hM (cwV n hC.2.2.2.2.1 hl.1 rfl hc hs ⟨hl.2.1, hl.2.2⟩ hR) ⟨zPc_d.blind, zrecv_d hC h1 h2 hO, zPre_d hC hG⟩ rfl hn hsz hst (zsum_le hrest) hd hf
/-- what comes after a call that may throw: on, or out with the same exception -/
theorem z_xcallG_d {U : Type} {val : U → Option Value} {post : U → Prop} {gg : U → ZG} {Qa : State → Outcome → State → Prop} {X : Nat → ZG → Prop} (hQ : ∀ st o t, Qa st o t → (∃ u, o = .returned (val u) ∧ post u ∧ Rel_d P (gg u) t.heap) ∧ va_F (zAr P) st t) (hG : zS_d P s G H locs) (hnt : ∀ x ∈ c.exceptionTable.toList, False) (hlk : meth.locks = false)
    (hr : vx_Run p l e R s m args below meth c H locs cells slots mc' ms' (F0 m pc ls st0) rest Qa (zXc_d P X) (zAr P)) (hc : cells + mc' ≤ mc) (hs : slots + ms' ≤ ms)
    (kk : ∀ u H1 locs1, post u → zS_d P s (gg u) H1 locs1 → W p l e R s m args below meth c H1 locs1 (cells + mc') (slots + ms') (vx_MQ below Qc (zXc_d P X) args s mc ms (zAr P)) (F0 m (pc + 3) ls ((val u).toList ++ rest))) : W p l e R s m args below meth c H locs cells slots (vx_MQ below Qc (zXc_d P X) args s mc ms (zAr P)) (F0 m pc ls st0) := by
  intro T hT Y
  rcases hr T hT Y with ⟨v, st₀, t, T', L, h0, X', hL, e1, e2, hq, st⟩ | ⟨q, st₀, t, T', L, E, ce, h0, X', hL, e1, e2, ⟨u, hp, ⟨hE, hb⟩, hF⟩, hce, hcv, hcl, st⟩
  · obtain ⟨⟨u, hv, hp, hb⟩, hF⟩ := hQ _ _ _ hq
    cases hv
    obtain ⟨k1, k2, k3⟩ := vx_keep h0 e1 hG.2 (fun q _ h => h) (fun q h => h) hL hF
    obtain ⟨t2, a1, b1⟩ := kk u T'.heap (locs ++ L) hp ⟨by rw [e1]; exact hb, k3⟩ T' rfl X'
    exact ⟨t2, st t2 a1, b1⟩
  · obtain ⟨k1, k2, k3⟩ := vx_keep h0 e1 hG.2 (fun q _ h => h) (fun q h => h) hL hF
    obtain ⟨t2, a1, b1⟩ := vx_out (Qc := Qc) (XC := zXc_d P X) (pc := pc) (ls := ls) (rest := rest) (mc := mc) (ms := ms) (free := zAr P) (fun x hx => (hnt x hx).elim) hlk (by rw [e1]; exact hce) hcv hcl (fun t2 ht2 _ => ⟨u, hp, ⟨hE, (by rw [ht2, e1]; exact hb)⟩, k3.F ht2⟩) (fun z hz => k3.2.2 z hz) hc hs T' rfl X'
    exact ⟨t2, st.trans a1, b1⟩
theorem z_xcall_i_d {q : Int → ZG → Prop} {a : Array Value} {X : Nat → ZG → Prop} (hG : zS_d P s G H locs) (hnt : ∀ x ∈ c.exceptionTable.toList, False) (hlk : meth.locks = false) (hr : vx_Run p l e R s m args below meth c H locs cells slots mc' ms' (F0 m pc ls st0) rest (zQi_d P q a) (zXc_d P X) (zAr P)) (hc : cells + mc' ≤ mc) (hs : slots + ms' ≤ ms)
    (kk : ∀ x G1 H1 locs1, inR x → q x G1 → zS_d P s G1 H1 locs1 → W p l e R s m args below meth c H1 locs1 (cells + mc') (slots + ms') (vx_MQ below Qc (zXc_d P X) args s mc ms (zAr P)) (F0 m (pc + 3) ls (.int (zI x) :: rest))) : W p l e R s m args below meth c H locs cells slots (vx_MQ below Qc (zXc_d P X) args s mc ms (zAr P)) (F0 m pc ls st0) :=
  z_xcallG_d (U := Int × ZG) (val := fun u => some (.int (zI u.1))) (post := fun u => inR u.1 ∧ q u.1 u.2) (gg := fun u => u.2) (fun st o t ⟨⟨r, u, hv, ⟨hr, hi, hq⟩, hb⟩, hF⟩ => ⟨⟨u, by rw [hv, hr], ⟨hi, hq⟩, hb⟩, hF⟩) hG hnt hlk hr hc hs (fun u H1 locs1 hp hS => kk u.1 u.2 H1 locs1 hp.1 hp.2 hS)
theorem z_xcall_z_d {q : Int → ZG → Prop} {a : Array Value} {X : Nat → ZG → Prop} (hG : zS_d P s G H locs) (hnt : ∀ x ∈ c.exceptionTable.toList, False) (hlk : meth.locks = false) (hr : vx_Run p l e R s m args below meth c H locs cells slots mc' ms' (F0 m pc ls st0) rest (zQz_d P q a) (zXc_d P X) (zAr P)) (hc : cells + mc' ≤ mc) (hs : slots + ms' ≤ ms)
    (kk : ∀ x G1 H1 locs1, (x = 0 ∨ x = 1) → q x G1 → zS_d P s G1 H1 locs1 → W p l e R s m args below meth c H1 locs1 (cells + mc') (slots + ms') (vx_MQ below Qc (zXc_d P X) args s mc ms (zAr P)) (F0 m (pc + 3) ls (.int (zI x) :: rest))) : W p l e R s m args below meth c H locs cells slots (vx_MQ below Qc (zXc_d P X) args s mc ms (zAr P)) (F0 m pc ls st0) :=
  z_xcallG_d (U := Int × ZG) (val := fun u => some (.int (zI u.1))) (post := fun u => (u.1 = 0 ∨ u.1 = 1) ∧ q u.1 u.2) (gg := fun u => u.2) (fun st o t ⟨⟨r, u, hv, ⟨hr, hi, hq⟩, hb⟩, hF⟩ => ⟨⟨u, by rw [hv, hr], ⟨hi, hq⟩, hb⟩, hF⟩) hG hnt hlk hr hc hs (fun u H1 locs1 hp hS => kk u.1 u.2 H1 locs1 hp.1 hp.2 hS)
theorem z_xcall_v_d {q : ZG → Prop} {a : Array Value} {X : Nat → ZG → Prop} (hG : zS_d P s G H locs) (hnt : ∀ x ∈ c.exceptionTable.toList, False) (hlk : meth.locks = false) (hr : vx_Run p l e R s m args below meth c H locs cells slots mc' ms' (F0 m pc ls st0) rest (zQv_d P q a) (zXc_d P X) (zAr P)) (hc : cells + mc' ≤ mc) (hs : slots + ms' ≤ ms)
    (kk : ∀ G1 H1 locs1, q G1 → zS_d P s G1 H1 locs1 → W p l e R s m args below meth c H1 locs1 (cells + mc') (slots + ms') (vx_MQ below Qc (zXc_d P X) args s mc ms (zAr P)) (F0 m (pc + 3) ls rest)) : W p l e R s m args below meth c H locs cells slots (vx_MQ below Qc (zXc_d P X) args s mc ms (zAr P)) (F0 m pc ls st0) :=
  z_xcallG_d (U := ZG) (val := fun u => none) (post := fun u => q u) (gg := fun u => u) (fun st o t ⟨⟨u, hv, hq, hb⟩, hF⟩ => ⟨⟨u, hv, hq, hb⟩, hF⟩) hG hnt hlk hr hc hs (fun u H1 locs1 hp hS => kk u H1 locs1 hp hS)
theorem z_xcall_r_d {q : ZR → ZG → Prop} {a : Array Value} {X : Nat → ZG → Prop} (hG : zS_d P s G H locs) (hnt : ∀ x ∈ c.exceptionTable.toList, False) (hlk : meth.locks = false) (hr : vx_Run p l e R s m args below meth c H locs cells slots mc' ms' (F0 m pc ls st0) rest (zQr_d P q a) (zXc_d P X) (zAr P)) (hc : cells + mc' ≤ mc) (hs : slots + ms' ≤ ms)
    (kk : ∀ x G1 H1 locs1, q x G1 → zS_d P s G1 H1 locs1 → W p l e R s m args below meth c H1 locs1 (cells + mc') (slots + ms') (vx_MQ below Qc (zXc_d P X) args s mc ms (zAr P)) (F0 m (pc + 3) ls (zrv P x :: rest))) : W p l e R s m args below meth c H locs cells slots (vx_MQ below Qc (zXc_d P X) args s mc ms (zAr P)) (F0 m pc ls st0) :=
  z_xcallG_d (U := ZR × ZG) (val := fun u => some (zrv P u.1)) (post := fun u => q u.1 u.2) (gg := fun u => u.2) (fun st o t ⟨⟨r, G', hv, hq, hb⟩, hF⟩ => ⟨⟨(r, G'), hv, hq, hb⟩, hF⟩) hG hnt hlk hr hc hs (fun u H1 locs1 hp hS => kk u.1 u.2 H1 locs1 hp hS)
theorem z_throw_d {X : Nat → ZG → Prop} {names : List String} {ik ic k : Nat} (hC : zCx_d P p m c cc nL s args own) (hG : zS_d P s G H locs) (hst : l.stackTraces = false) (hnt : ∀ x ∈ c.exceptionTable.toList, False) (hlk : meth.locks = false) (hl : zthr own (zxn k) names ik ic) (hV : X k G) (hsz : ls.size = nL)
    (d0 : decode cc pc = .ok (.new ik, 3)) (d3 : decode cc (pc + 3) = .ok (.dup, 1)) (d4 : decode cc (pc + 4) = .ok (.invokespecial ic, 3)) (d7 : decode cc (pc + 7) = .ok (.athrow, 1)) (hR : names.length + 3 < R.frames ∧ 13 * (names.length + 1) + 42 ≤ R.locals) (hRc : cells + 1 ≤ R.cells ∧ slots + 6 ≤ R.slots) (hc : cells + 1 ≤ mc) (hs : slots + 6 ≤ ms) :
    W p l e R s m args below meth c H locs cells slots (vx_MQ below Qc (zXc_d P X) args s mc ms (zAr P)) (F0 m pc ls []) := by
  obtain ⟨t1, t2, t3, t4, t5, t6⟩ := hl
  have hts := hC.2.2.2.2.1
  have hSt := hC.2.2.2.2.2.2
  refine vx_throw0 (A := zAr P) hC.1 hC.2.1 hst hC.2.2.2.1 t1 t2 (hts _ t3) (hts _ t4) (fun w hw => ?_) t6 hSt.2.2.2.2.1 hSt.2.2.2.2.2.1 hG.2 (by rw [hC.2.2.1]; exact hsz) d0 d3 d4 d7 (fun x hx => (hnt x hx).elim) hR.1 (by simpa using hR.2) hRc.1 hRc.2 hlk (fun t hvm hz ho => ?_) (fun z hz => hG.2.2.2 z hz) hc hs
  · rcases t5 w hw with h | h
    · exact hts w h
    · exact va_Nw.use h.2 (hC.2.2.2.2.2.1.2.2.1 w h.1).2
  · refine ⟨(k, G), hV, ⟨rfl, ?_⟩, Nat.le_trans hG.2.1 hz, fun q h1 h2 => (ho q (Nat.lt_of_lt_of_le h1 hG.2.1)).trans (hG.2.2.1 q h1 h2)⟩
    exact ⟨fun o j i hv => (hG.1.1 o j i hv).kept (ho _ (hG.1.1 o j i hv).lt), fun a d hd => ⟨(hG.1.2.1 a d hd).1.kept (ho _ (hG.1.2.1 a d hd).1.lt), (hG.1.2.1 a d hd).2⟩, hG.1.2.2⟩
end ZC2

/-! ROWS 9: what the constructors make -/
section ZCT
variable {p : Program} {l : Launch} {e : Env} {R : Room} {s : State} {m : MethodId} {args : Array Value} {below : List Frame} {meth : Method} {c : Code} {H : Heap} {locs : List Loc} {cells slots : Nat} {Q : State → Prop}
variable {cc : ByteArray} {pc nL : Nat} {ls : Array Slot} {rest : List Value} {P : ZP} {G : ZG} {own : String} {mc ms : Nat}
variable {x y : MethodName} {cc' : ByteArray} {maxL idx n mc' ms' : Nat} {ret : Option FieldType} {rm : Room} {av st0 : List Value} {Qc : Array Value → State → Outcome → State → Prop} {C owner host : String} {b : Nat}
theorem zrunUD_d {r : ZR} {ci : Nat} (hC : zCx_d P p m c cc nL s args own) (hG : zS_d P s G H locs) (hO : zisO G r ci) (hM : Met l y (ws_ y cc' maxL ret) rm (zPc_d P G (zrv P r :: av)) Qc mc' ms' (zAr P)) (hl : zLU own idx (cR ci) owner x y cc' maxL ret n) (hn : av.length = n) (hc : rm.cells = mc') (hs : rm.slots = ms') (hR : zRm R rm maxL) (hf : cells + mc' ≤ R.cells ∧ slots + ms' ≤ R.slots)
    (hst : st0 = av.reverse ++ zrv P r :: rest) (hrest : zsum rest) (hsz : ls.size = nL) (hd : decode cc pc = .ok (.invokevirtual idx, 3)) : va_Run p l e R s m args below meth c H locs cells slots mc' ms' (F0 m pc ls st0) rest (Qc (zrv P r :: av).toArray) (zAr P) := by
  obtain ⟨a, fs, rfl, hj⟩ := hO
  exact zrunU_d hC hG (zrecvO_d hC hG hj) hM hl hn hc hs hR hf hst hrest hsz hd
/-- anewarray of arrays of ints -/
theorem z_anewI_d (hC : zCx_d P p m c cc nL s args own) (hG : zS_d P s G H locs) {idx : Nat} (hcl : Cond.classLink own idx "[I" ∈ lw_all) (hov : Cond.arrayOver (.array .int) ∈ znx) {n : Int} {mx : Nat} {V : ZR → ZG → Prop} (hn : inR n) (hmx : mx ≤ 10000000) (hV : znR0 G 5 n mx V) (hcells : cells + 1 ≤ R.cells) (hslots : slots + mx ≤ R.slots) (hd : decode cc pc = .ok (.anewarray idx, 3))
    (kk : ∀ r G1 H1, zS_d P s G1 H1 locs → V r G1 → W p l e R s m args below meth c H1 locs (cells + 1) (slots + mx) Q (F0 m (pc + 3) ls (zrv P r :: rest))) : W p l e R s m args below meth c H locs cells slots Q (F0 m pc ls (.int (zI n) :: rest)) := by
  obtain ⟨h0, hle, hV⟩ := hV
  refine W.anewA (t := .int) hC.1 hC.2.1 hC.2.2.2.1 (hC.2.2.2.2.1 _ hcl) (hC.2.2.2.2.2.1.2.2.1 _ hov).2 rfl hd rfl (zI_neg hn h0) (by rw [zI_clamp hn]; omega) hcells (by rw [zI_clamp hn]; omega) fun cA kA comp f1 f2 f3 f4 => ?_
  rw [zI_clamp hn]
  generalize hH1 : H.push ({ cls := cA, slots := Array.replicate n.toNat .null, vm := .none } : Cell) = H1
  have z1 : H1.size = H.size + 1 := by rw [← hH1, Array.size_push]
  have e1 : H1[H.size]? = some (arrV cA n.toNat (fun _ => .null)) := by rw [← hH1, Array.getElem?_push_size, ← arrV_new]
  have o1 : ∀ q : Nat, q < H.size → H1[q]? = H[q]? := fun q hq => by rw [← hH1, Array.getElem?_push, if_neg (Nat.ne_of_lt hq)]
  have hcA : cA = P.2.1 5 := Option.some.inj (f1.symm.trans (hC.2.2.2.2.2.1.2.1 5 (by omega)).2)
  subst hcA
  obtain ⟨g1, g2⟩ := hG.new hC (d := .inr (.inl (5, List.replicate n.toNat none))) ⟨by omega, by omega, by rw [List.length_replicate]; omega⟩ (by
    refine Eq.trans e1 (congrArg some ?_)
    simp only [List.length_replicate]
    exact arrV_congr fun q hq => by rw [zrep_D]; rfl) z1 o1
  exact W.widen (Nat.le_refl _) (by omega) (kk (some (.inl H.size)) _ H1 g2 (hV _ g1))
/-- the frame rule for the grid -/
theorem Rel_d.grid {P : ZP} {G : ZG} {H H1 : Heap} (hR : Rel_d P G H) (hb : zB P ≤ H.size) {n k : Nat} (hn : n ≤ 100000000) (hk : k ≤ 100000000)
    (ho : H1[H.size]? = some (arrV (P.2.1 5) n (fun q => .ref (H.size + 1 + q)))) (hi : ∀ j, j < n → H1[H.size + 1 + j]? = some (arrV (P.2.1 0) k (fun _ => .int 0))) (oq : ∀ q, q < H.size → H1[q]? = H[q]?) : (∀ b, H.size ≤ b → zsj G b = none) ∧ Rel_d P (zscG G H.size n k) H1 := by
  have hnone : ∀ b, H.size ≤ b → zsj G b = none := by
    intro b hb2
    cases hg : zsj G b with
    | none => rfl
    | some d => exact absurd (hR.2.1 _ _ hg).1.lt (Nat.not_lt.mpr hb2)
  refine ⟨hnone, fun o j i hv => (hR.1 o j i hv).kept (oq _ (hR.1 o j i hv).lt), fun b d hd => ?_, hR.2.2⟩
  have hfix : H.size ≤ b → ∀ o j i, zvd_d o j i = true → zA P o j i ≠ b := fun hb2 o j i hv z => absurd (hR.1 o j i hv).lt (by rw [z]; exact Nat.not_lt.mpr hb2)
  simp only [zsj, zscG] at hd
  by_cases e : b = H.size
  · subst e
    rw [if_pos rfl] at hd
    cases hd
    refine ⟨?_, ⟨by omega, by omega, by simpa using hn⟩, hb, hfix (Nat.le_refl _)⟩
    refine Eq.trans ho (congrArg some ?_)
    simp only [List.length_map, List.length_range]
    refine arrV_congr fun q hq => ?_
    rw [List.getD_eq_getElem?_getD, List.getElem?_map, List.getElem?_range hq]
    rfl
  · rw [if_neg e] at hd
    by_cases e2 : H.size < b ∧ b ≤ H.size + n
    · rw [if_pos e2] at hd
      cases hd
      refine ⟨?_, ⟨fun x hx => by rw [(List.mem_replicate.mp hx).2]; exact inR_0, by rw [List.length_replicate]; exact hk⟩, by omega, hfix (by omega)⟩
      have h9 := hi (b - H.size - 1) (by omega)
      rw [show H.size + 1 + (b - H.size - 1) = b by omega] at h9
      refine Eq.trans h9 (congrArg some ?_)
      simp only [List.length_replicate]
      exact arrV_congr fun q hq => by rw [zrep_D]; rfl
    · rw [if_neg e2] at hd
      obtain ⟨g1, g2, g3, g4⟩ := hR.2.1 b d hd
      exact ⟨g1.kept (oq b g1.lt), g2, g3, g4⟩
theorem z_multi_d (hC : zCx_d P p m c cc nL s args own) (hG : zS_d P s G H locs) {idx n k : Nat} (hcl : Cond.classLink own idx "[[I" ∈ lw_all) (hov : Cond.arrayOver (.array .int) ∈ znx) (harr : Cond.arrayClass .int ∈ lw_all) {V : ZR → ZG → Prop} (hn : n ≤ 100000) (hk : k ≤ 100000) (hV : znG G n k V) (hcells : cells + (1 + n) ≤ R.cells) (hslots : slots + (n + n * k) ≤ R.slots) (hd : decode cc pc = .ok (.multianewarray idx 2, 4))
    (kk : ∀ r G1 H1 locs1, zS_d P s G1 H1 locs1 → V r G1 → W p l e R s m args below meth c H1 locs1 (cells + (1 + n)) (slots + (n + n * k)) Q (F0 m (pc + 4) ls (zrv P r :: rest))) : W p l e R s m args below meth c H locs cells slots Q (F0 m pc ls (.int (zI k) :: .int (zI n) :: rest)) := by
  have hin : inR (n : Int) := ⟨by omega, by omega⟩
  have hik : inR (k : Int) := ⟨by omega, by omega⟩
  have en : (zI (n : Int)).toNatClampNeg = n := by rw [zI_clamp hin]; omega
  have ek : (zI (k : Int)).toNatClampNeg = k := by rw [zI_clamp hik]; omega
  intro T hT X
  obtain ⟨vm₁, cA, comp, hW, f1, f2, hA, hI, X', st⟩ := X.multianewarray2K hC.1 (ty := .int) hC.2.2.2.1 (hC.2.2.2.2.1 _ hcl) (hC.2.2.2.2.2.1.2.2.1 _ hov).2 (hC.2.2.2.2.1 _ harr) (g := F0 m pc ls (.int (zI k) :: .int (zI n) :: rest)) rfl (by rw [hC.2.1]; exact hd) (n := zI n) (k := zI k) rfl (zI_neg hin (by omega)) (zI_neg hik (by omega)) (by rw [en]; omega) (by rw [ek]; show k * 4 ≤ _; omega) (by rw [ek]; omega) rfl rfl (by rw [en]; exact hcells) (by rw [en, ek]; exact hslots)
  rw [en, ek] at X' st
  have hcA : cA = P.2.1 5 := Option.some.inj (f1.symm.trans (hC.2.2.2.2.2.1.2.1 5 (by omega)).2)
  have hcI : comp = P.2.1 0 := Option.some.inj (f2.symm.trans (hC.2.2.2.2.2.1.2.1 0 (by omega)).2)
  subst hcA
  subst hcI
  generalize hF : Jvm.Free.Multi.fill (T.setVm vm₁) (P.2.1 5) (P.2.1 0) n k (defaultValue .int) n = TF at X' st
  have hTH : (T.setVm vm₁).heap = H := hT
  obtain ⟨z1, o1, -, -⟩ := Jvm.Free.Multi.fill_facts (T.setVm vm₁) (P.2.1 5) (P.2.1 0) n k (defaultValue .int) n
  have i1 := Jvm.Free.Multi.fill_inner (T.setVm vm₁) (P.2.1 5) (P.2.1 0) n k (defaultValue .int) n
  have k1 : ∀ a, a < H.size → TF.heap[a]? = H[a]? := fun a ha => by
    rw [← hF, Jvm.Free.Multi.fill_old _ _ _ _ _ _ (by rw [hTH]; exact ha)]
    exact congrArg (·[a]?) hTH
  rw [hF, hTH] at z1 o1
  simp only [hF, hTH] at i1
  have e1 : Jvm.Free.Multi.outerC (P.2.1 5) n H.size n = arrV (P.2.1 5) n (fun q => .ref (H.size + 1 + q)) := by
    obtain ⟨a1, a2, a3⟩ := Jvm.Free.Multi.outerC_facts (P.2.1 5) n H.size n
    have a4 := Jvm.Free.Multi.outerC_slot (P.2.1 5) n H.size n
    obtain ⟨a5, a6⟩ := z_outer (P.2.1 5) n H.size n
    generalize Jvm.Free.Multi.outerC (P.2.1 5) n H.size n = oc at a1 a2 a3 a4 a5 a6
    have hs : oc.slots = (arrV (P.2.1 5) n (fun q => Value.ref (H.size + 1 + q))).slots := by
      apply Array.ext_getElem?
      intro i
      by_cases hi : i < n
      · rw [a4 i hi, arrV_read _ _ hi, if_pos hi]
      · rw [Array.getElem?_eq_none (by rw [a3]; omega), Array.getElem?_eq_none (by rw [arrV_size]; omega)]
    obtain ⟨o1, o2, o3, o4, o5⟩ := oc
    simp only at a1 a2 a5 a6 hs
    subst a1; subst a2; subst a5; subst a6; subst hs
    rfl
  obtain ⟨g1, g2⟩ := hG.1.grid (hC.base hG) (n := n) (k := k) (by omega) (by omega) (by rw [o1, e1]) (fun j hj => by
    rw [i1 j hj]
    show some (Jvm.Free.Multi.innerC (P.2.1 0) k (.int 0)) = _
    rw [show Jvm.Free.Multi.innerC (P.2.1 0) k (.int 0) = arrV (P.2.1 0) k (fun _ => .int 0) from (by rw [← arrV_new]; rfl)]) k1
  have hzS : zS_d P s (zscG G H.size n k) TF.heap (locs ++ (List.range n).map fun j => ⟨T.heap.size, j⟩) := by
    refine ⟨g2, Nat.le_trans hG.2.1 (by omega), fun q h1 h2 => (k1 q (Nat.lt_of_lt_of_le h1 hG.2.1)).trans (hG.2.2.1 q h1 h2), fun q hq => ?_⟩
    rcases List.mem_append.mp hq with h | h
    · exact hG.2.2.2 q h
    · obtain ⟨z, -, hz⟩ := List.mem_map.mp h
      rw [← hz]
      show zB P ≤ T.heap.size
      rw [hT]
      exact hC.base hG
  obtain ⟨t, b1, b2⟩ := kk (some (.inl H.size)) _ TF.heap _ hzS (hV _ g1) TF rfl (by rw [show cells + (1 + n) = cells + 1 + n by omega, show slots + (n + n * k) = slots + n + n * k by omega]; exact X')
  refine ⟨t, st t ?_, b2⟩
  rw [hT]
  exact b1
end ZCT

