/-! ROWS 7: new cells, casts, comparisons of references, copies -/
set_option maxRecDepth 100000
def zdf (ci : Nat) : List ZF := (List.range (cN ci)).map fun k => match cF ci k with | .int => .inl 0 | .boolean => .inl 0 | _ => .inr none
def zdok (ci : Nat) : Bool := (List.range (cN ci)).all fun k => match cF ci k with | .int => true | .boolean => true | .object _ => true | .array _ => true | _ => false
theorem zdf_len (ci : Nat) : (zdf ci).length = cN ci := by simp [zdf]
theorem zdf_in (ci : Nat) : ∀ x, .inl x ∈ zdf ci → inR x := by
  intro x hx
  simp only [zdf, List.mem_map] at hx
  obtain ⟨k, -, hk⟩ := hx
  split at hk <;> cases hk <;> exact inR_0
theorem zdf_at {P : ZP} {ci k : Nat} (hd : zdok ci = true) (hk : k < cN ci) : defaultValue (cF ci k) = zfv P ((zdf ci).getD k (.inl 0)) := by
  have h := List.all_eq_true.mp hd k (List.mem_range.mpr hk)
  have e : (zdf ci).getD k (.inl 0) = (match cF ci k with | .int => .inl 0 | .boolean => .inl 0 | _ => .inr none) := by
    rw [List.getD_eq_getElem?_getD]
    simp [zdf, hk]
  rw [e]
  cases hc : cF ci k with
  | int => rfl
  | boolean => rfl
  | object n => rfl
  | array t => rfl
  | _ => rw [hc] at h; cases h
section ZNE
variable {p : Program} {l : Launch} {e : Env} {R : Room} {s : State} {m : MethodId} {args : Array Value} {below : List Frame} {meth : Method} {c : Code} {H : Heap} {locs : List Loc} {cells slots : Nat} {Q : State → Prop}
variable {cc : ByteArray} {pc nL : Nat} {ls : Array Slot} {rest : List Value} {P : ZP} {G : ZG} {own : String}
theorem zS.new {d : ZC} {H1 : Heap} (hC : zCx P p m c cc nL s args own) (hG : zS P s G H locs) (hc : zce d) (hat : zat P H.size (zdx P d) H1) (hz : H1.size = H.size + 1) (oq : ∀ q, q < H.size → H1[q]? = H[q]?) : zsj G H.size = none ∧ zS P s (zsc G H.size d) H1 locs := by
  obtain ⟨h1, h2⟩ := hG.1.new (hC.base hG) hc hat oq
  exact ⟨h1, hG.grow h2 (by omega) oq⟩
theorem zrep_D {α : Type} {n q : Nat} {d : α} : (List.replicate n d).getD q d = d := by
  rw [List.getD_eq_getElem?_getD, List.getElem?_replicate]
  split <;> rfl
/-- newarray -/
theorem z_newI (hC : zCx P p m c cc nL s args own) (hG : zS P s G H locs) {t : Nat} {aty : ArrayType} (ht : newarray.typeOf aty = aT t) (ht2 : t ≤ 2) (harr : Cond.arrayClass (aT t) ∈ lw_all) {n : Int} {mx : Nat} {V : ZR → ZG → Prop} (hn : inR n) (hmx : mx ≤ 10000000) (hV : znI0 G t n mx V) (hcells : cells + 1 ≤ R.cells) (hslots : slots + mx ≤ R.slots) (hd : decode cc pc = .ok (.newarray aty, 2))
    (kk : ∀ r G1 H1, zS P s G1 H1 locs → V r G1 → W p l e R s m args below meth c H1 locs (cells + 1) (slots + mx) Q (F0 m (pc + 2) ls (zrv P r :: rest))) : W p l e R s m args below meth c H locs cells slots Q (F0 m pc ls (.int (zI n) :: rest)) := by
  obtain ⟨h0, hle, hV⟩ := hV
  have hsz : componentBytes (aT t) ≤ 8 := by
    rcases (show t = 0 ∨ t = 1 ∨ t = 2 by omega) with rfl | rfl | rfl <;> decide
  refine va_newaK hC.1 hC.2.1 (by rw [ht]; exact hC.2.2.2.2.1 _ harr) rfl hd rfl (zI_neg hn h0) (zI_clamp hn) (by rw [ht]; calc n.toNat * componentBytes (aT t) ≤ 10000000 * 8 := Nat.mul_le_mul (by omega) hsz
                                                                                                                     _ ≤ 536870912 := by decide) hcells (by omega) rfl fun H1 cA e1 z1 o1 hAr hNm => ?_
  rw [ht] at e1 hNm
  have hcA : cA = P.2.1 t := by
    have h2 := (hC.2.2.2.2.2.1.2.1 t (by omega)).2
    rcases (show t = 0 ∨ t = 1 ∨ t = 2 by omega) with rfl | rfl | rfl <;> exact Option.some.inj (hNm.symm.trans h2)
  subst hcA
  have hz : zce (.inl (t, List.replicate n.toNat 0)) := ⟨fun x hx => by rw [(List.mem_replicate.mp hx).2]; exact inR_0, by rw [List.length_replicate]; omega⟩
  obtain ⟨g1, g2⟩ := hG.new hC (d := .inl (t, List.replicate n.toNat 0)) hz (by
    rcases (show t = 0 ∨ t = 1 ∨ t = 2 by omega) with rfl | rfl | rfl
    · refine Eq.trans e1 (congrArg some ?_)
      simp only [List.length_replicate]
      exact arrV_congr fun q hq => by rw [zrep_D]; rfl
    · refine Eq.trans e1 (congrArg some ?_)
      simp only [List.length_replicate]
      exact arrV_congr fun q hq => by rw [zrep_D]; rfl
    · refine Eq.trans e1 (congrArg some ?_)
      simp only [List.length_replicate]
      exact arrV_congr fun q hq => by rw [zrep_D]; rfl) z1 o1
  exact W.widen (Nat.le_refl _) (by omega) (kk (some (.inl H.size)) _ H1 g2 (hV _ g1))
/-- new -/
theorem z_new (hC : zCx P p m c cc nL s args own) (hG : zS P s G H locs) {ci n idx : Nat} {V : ZR → ZG → Prop} (h1 : 1 ≤ ci) (h2 : ci ≤ 16) (hdk : zdok ci = true) (hcl : Cond.classLink own idx (cR ci) ∈ lw_all) (hins : Cond.instantiable (cR ci) n ∈ lw_all) (hini : Cond.initialized (cR ci) ∈ lw_all) (hV : znw G (.inr (.inr (ci, zdf ci))) V) (hcells : cells + 1 ≤ R.cells) (hslots : slots + n ≤ R.slots) (hd : decode cc pc = .ok (.new idx, 3))
    (kk : ∀ r G1 H1, zS P s G1 H1 locs → V r G1 → W p l e R s m args below meth c H1 locs (cells + 1) (slots + n) Q (F0 m (pc + 3) ls (zrv P r :: rest))) : W p l e R s m args below meth c H locs cells slots Q (F0 m pc ls rest) := by
  have hKn := hC.2.2.2.2.2.1.1 ci h1 h2
  have hts := hC.2.2.2.2.1
  refine W.newcK hC.1 hC.2.1 hC.2.2.2.1 (hts _ hcl) (hts _ hins) (hts _ hini) rfl hd hcells hslots hKn.2.1 rfl fun H1 kC hkC e1 z1 o1 => ?_
  obtain ⟨g1, g2⟩ := hG.new hC (d := .inr (.inr (ci, zdf ci))) ⟨h1, h2, zdf_len ci, zdf_in ci⟩ ((u_born (cF ci) hts (cin ci h1 h2) hKn hkC e1 (cty ci h1 h2)).to fun k hk => zdf_at hdk hk) z1 o1
  exact kk (some (.inl H.size)) _ H1 g2 (hV _ g1)
/-- anewarray of objects or patterns -/
theorem z_anew (hC : zCx P p m c cc nL s args own) (hG : zS P s G H locs) {k idx : Nat} (hk : k = 3 ∨ k = 4) (hcl : Cond.classLink own idx (zkn k) ∈ lw_all) (hov : Cond.arrayOver (.object (zkn k)) ∈ znx) {n : Int} {mx : Nat} {V : ZR → ZG → Prop} (hn : inR n) (hmx : mx ≤ 10000000) (hV : znR0 G k n mx V) (hcells : cells + 1 ≤ R.cells) (hslots : slots + mx ≤ R.slots) (hd : decode cc pc = .ok (.anewarray idx, 3))
    (kk : ∀ r G1 H1, zS P s G1 H1 locs → V r G1 → W p l e R s m args below meth c H1 locs (cells + 1) (slots + mx) Q (F0 m (pc + 3) ls (zrv P r :: rest))) : W p l e R s m args below meth c H locs cells slots Q (F0 m pc ls (.int (zI n) :: rest)) := by
  obtain ⟨h0, hle, hV⟩ := hV
  have hT : aT k = .object (zkn k) := by rcases hk with rfl | rfl <;> rfl
  refine W.anew hC.1 hC.2.1 hC.2.2.2.1 (hC.2.2.2.2.1 _ hcl) (va_AO.use (hC.2.2.2.2.2.1.2.2.1 _ hov).2) rfl hd rfl (zI_neg hn h0) (by rw [zI_clamp hn]; omega) hcells (by rw [zI_clamp hn]; omega) fun cA kA comp f1 f2 f3 f4 => ?_
  rw [zI_clamp hn]
  generalize hH1 : H.push ({ cls := cA, slots := Array.replicate n.toNat .null, vm := .none } : Cell) = H1
  have z1 : H1.size = H.size + 1 := by rw [← hH1, Array.size_push]
  have e1 : H1[H.size]? = some (arrV cA n.toNat (fun _ => .null)) := by rw [← hH1, Array.getElem?_push_size, ← arrV_new]
  have o1 : ∀ q : Nat, q < H.size → H1[q]? = H[q]? := fun q hq => by rw [← hH1, Array.getElem?_push, if_neg (Nat.ne_of_lt hq)]
  have hcA : cA = P.2.1 k := by
    have h2 := (hC.2.2.2.2.2.1.2.1 k (by omega)).2
    rw [hT] at h2
    obtain ⟨_, _, -, -, -, h5⟩ := h2
    exact Option.some.inj (f1.symm.trans h5)
  subst hcA
  obtain ⟨g1, g2⟩ := hG.new hC (d := .inr (.inl (k, List.replicate n.toNat none))) ⟨by omega, by omega, by rw [List.length_replicate]; omega⟩ (by
    refine Eq.trans e1 (congrArg some ?_)
    simp only [List.length_replicate]
    exact arrV_congr fun q hq => by rw [zrep_D]; rfl) z1 o1
  exact W.widen (Nat.le_refl _) (by omega) (kk (some (.inl H.size)) _ H1 g2 (hV _ g1))
theorem zclsAt (hC : zCx P p m c cc nL s args own) {ci : Nat} (h1 : 1 ≤ ci) (h2 : ci ≤ 16) : ClassAt s (cR ci) (P.1.1 ci) := by
  obtain ⟨hS, hfc, kC, hkC, hkind⟩ := hC.2.2.2.2.2.1.1 ci h1 h2
  exact ⟨hfc, kC, hkC, hkind⟩
theorem zrecvO (hC : zCx P p m c cc nL s args own) (hG : zS P s G H locs) {a ci : Nat} {fs : List ZF} (hj : zsj G a = some (.inr (.inr (ci, fs)))) : ∃ cell : Cell, H[a]? = some cell ∧ cell.vm.isStatics = false ∧ s.vm.findClass (cR ci) = some cell.cls := by
  obtain ⟨hO, h1, h2, -⟩ := zdob hG hj
  obtain ⟨cell, q1, q2, q3⟩ := zrecv hC h1 h2 hO
  exact ⟨cell, q1, q2, q3⟩
/-- instanceof a kind of pattern -/
theorem z_inst (hC : zCx P p m c cc nL s args own) (hG : zS P s G H locs) {r : ZR} {ci idx : Nat} {V : Int → Prop} (hp : ci ∈ zpat) (hcl : Cond.classLink own idx (cR ci) ∈ lw_all) (hV : ziO G r ci V) (hd : decode cc pc = .ok (.instanceof idx, 3))
    (kk : ∀ x, (x = 0 ∨ x = 1) → V x → W p l e R s m args below meth c H locs cells slots Q (F0 m (pc + 3) ls (.int (zI x) :: rest))) : W p l e R s m args below meth c H locs cells slots Q (F0 m pc ls (zrv P r :: rest)) := by
  obtain ⟨a, k, fs, rfl, hj, hkp, hV⟩ := hV
  have hr := zrecvO hC hG hj
  have hci : 1 ≤ ci ∧ ci ≤ 16 := by simp [zpat] at hp; omega
  by_cases h : k = ci
  · subst h
    rw [if_pos rfl] at hV
    exact va_instS hC.1 hC.2.1 hC.2.2.2.1 (hC.2.2.2.2.1 _ hcl) (zclsAt hC hci.1 hci.2) hr hd (kk 1 (Or.inr rfl) hV)
  · rw [if_neg h] at hV
    exact va_instNo hC.1 hC.2.1 hC.2.2.2.1 (hC.2.2.2.2.1 _ hcl) (hC.2.2.2.2.2.1.2.2.2.2.2.1 k (by simp [zpat]; omega) ci hp h) hr hd (kk 0 (Or.inl rfl) hV)
/-- checkcast to a class of ours -/
theorem z_cast (hC : zCx P p m c cc nL s args own) (hG : zS P s G H locs) {r : ZR} {ci idx : Nat} {V : Prop} (h1 : 1 ≤ ci) (h2 : ci ≤ 16) (hcl : Cond.classLink own idx (cR ci) ∈ lw_all) (hV : zca G r ci ∧ V) (hd : decode cc pc = .ok (.checkcast idx, 3))
    (kk : V → W p l e R s m args below meth c H locs cells slots Q (F0 m (pc + 3) ls (zrv P r :: rest))) : W p l e R s m args below meth c H locs cells slots Q (F0 m pc ls (zrv P r :: rest)) := by
  obtain ⟨h, hV⟩ := hV
  rcases h with rfl | ⟨a, fs, rfl, hj⟩
  · exact lv_castN hC.1 hC.2.1 hd (kk hV)
  · exact va_castS hC.1 hC.2.1 hC.2.2.2.1 (hC.2.2.2.2.1 _ hcl) (zclsAt hC h1 h2) (zrecvO hC hG hj) hd (kk hV)
/-- checkcast to a list, a fixed object -/
theorem z_castL (hC : zCx P p m c cc nL s args own) (hG : zS P s G H locs) {r : ZR} {ci idx : Nat} {V : Nat → Prop} (h1 : 1 ≤ ci) (h2 : ci ≤ 16) (hcl : Cond.classLink own idx (cR ci) ∈ lw_all) (hV : zcaL r ci V) (hd : decode cc pc = .ok (.checkcast idx, 3))
    (kk : ∀ o, tCls o = ci → V o → W p l e R s m args below meth c H locs cells slots Q (F0 m (pc + 3) ls (.ref (zA P o 0 0) :: rest))) : W p l e R s m args below meth c H locs cells slots Q (F0 m pc ls (zrv P r :: rest)) := by
  obtain ⟨o, rfl, ho, hV⟩ := hV
  obtain ⟨cell, q1, q2, q3⟩ := zrecv hC h1 h2 (zobj hG ho h1 h2)
  exact va_castS hC.1 hC.2.1 hC.2.2.2.1 (hC.2.2.2.2.1 _ hcl) (zclsAt hC h1 h2) ⟨cell, q1, q2, q3⟩ hd (kk o ho hV)
/-- checkcast to an array of ints -/
theorem z_castI (hC : zCx P p m c cc nL s args own) (hG : zS P s G H locs) {r : ZR} {idx : Nat} {V : Prop} (hcl : Cond.classLink own idx "[I" ∈ lw_all) (hV : zcaI G r ∧ V) (hd : decode cc pc = .ok (.checkcast idx, 3))
    (kk : V → W p l e R s m args below meth c H locs cells slots Q (F0 m (pc + 3) ls (zrv P r :: rest))) : W p l e R s m args below meth c H locs cells slots Q (F0 m pc ls (zrv P r :: rest)) := by
  obtain ⟨⟨a, l', rfl, hj⟩, hV⟩ := hV
  have hat := (zdia hG hj).1
  refine va_castA (D := P.1) (cl := []) (ws := [(a, .inl (P.2.1 0, (l'.length, .inl (fun q => zI (l'.getD q 0)))))]) hC.1 hC.2.1 hC.2.2.2.1 (hC.2.2.2.2.1 _ hcl) (fun k q hq => ?_) 0 rfl (hC.2.2.2.2.2.1.2.1 0 (by omega)).2 hd (kk hV)
  have hz : k < 1 := (List.getElem?_eq_some_iff.mp hq).1
  rw [show k = 0 by omega] at hq
  cases hq
  show H[a]? = some (vp_cell _ _)
  rw [vp_cell_i]
  exact hat
theorem zP1 (hG : zS P s G H locs) {a k : Nat} {l' : List ZR} (hj : zsj G a = some (.inr (.inl (k, l')))) : va_P P.1 [] [(a, .inl (P.2.1 k, (l'.length, .inr (.inr (.inr (.inr (fun q => zro P (l'.getD q none))))))))] H := by
  intro k q hq
  have hz : k < 1 := (List.getElem?_eq_some_iff.mp hq).1
  rw [show k = 0 by omega] at hq
  cases hq
  show H[a]? = some (vp_cell _ _)
  rw [vp_cell_q, (zdra hG hj).1]
  exact congrArg some (arrV_congr fun q _ => (zro_rf P _).symm)
/-- checkcast to an array of objects -/
theorem z_castO (hC : zCx P p m c cc nL s args own) (hG : zS P s G H locs) {r : ZR} {idx : Nat} {V : Prop} (hcl : Cond.classLink own idx "[Ljava/lang/Object;" ∈ lw_all) (hV : zcaO G r ∧ V) (hd : decode cc pc = .ok (.checkcast idx, 3))
    (kk : V → W p l e R s m args below meth c H locs cells slots Q (F0 m (pc + 3) ls (zrv P r :: rest))) : W p l e R s m args below meth c H locs cells slots Q (F0 m pc ls (zrv P r :: rest)) := by
  obtain ⟨⟨a, l', rfl, hj⟩, hV⟩ := hV
  exact va_castA (D := P.1) (cl := []) hC.1 hC.2.1 hC.2.2.2.1 (hC.2.2.2.2.1 _ hcl) (zP1 hG hj) 0 rfl (va_nmO (hC.2.2.2.2.2.1.2.1 3 (by omega)).2 rfl) hd (kk hV)
/-! references that are the same -/
/-- which references may be told apart -/
def zfam (x y : ZR) : Prop := (x = some (.inr 18) ↔ y = some (.inr 18)) ∧ ∀ o o', x = some (.inr o) → y = some (.inr o') → o = o' ∨ (20 ≤ o ∧ 20 ≤ o')
theorem zro_inj (hC : zCx P p m c cc nL s args own) (hG : zS P s G H locs) {x y : ZR} (hx : zok G x) (hy : zok G y) (hf : zfam x y) : zro P x = zro P y ↔ x = y := by
  refine ⟨fun h => ?_, fun h => by rw [h]⟩
  obtain ⟨h16, hP⟩ := hC.2.2.2.2.2.1.2.2.2.1.2.2
  by_cases h18 : x = some (.inr 18)
  · rw [h18, hf.1.mp h18]
  have h18y : ¬ y = some (.inr 18) := fun z => h18 (hf.1.mpr z)
  have key : ∀ z : ZR, zok G z → ¬ z = some (.inr 18) → z = none ∨ (∃ a, z = some (.inl a) ∧ zB P ≤ a) ∨ (∃ o, z = some (.inr o) ∧ (o = 16 ∨ (20 ≤ o ∧ o < 24)) ∧ zA P o 0 0 < zB P) := by
    intro z hz hne
    rcases hz with rfl | ⟨a, d, rfl, hd⟩ | ⟨i, rfl, hi⟩ | rfl | rfl
    · exact Or.inl rfl
    · exact Or.inr (Or.inl ⟨a, rfl, (hG.1.2.1 a d hd).2.2.1⟩)
    · exact Or.inr (Or.inr ⟨_, rfl, by omega, (hP _ (by omega) (by omega)).1⟩)
    · exact Or.inr (Or.inr ⟨_, rfl, by omega, h16⟩)
    · exact absurd rfl hne
  rcases key x hx h18 with rfl | ⟨a, rfl, ha⟩ | ⟨o, rfl, o1, o2⟩ <;> rcases key y hy h18y with rfl | ⟨b, rfl, hb⟩ | ⟨o', rfl, o3, o4⟩ <;> simp only [zro] at h
  · rfl
  · cases h
  · cases h
  · cases h
  · rw [Option.some.inj h]
  · have := Option.some.inj h
    omega
  · cases h
  · have := Option.some.inj h
    omega
  · rcases hf.2 o o' rfl rfl with e | ⟨e1, e2⟩
    · rw [e]
    · rw [(hP o e1 (by omega)).2 o' e2 (by omega) (Option.some.inj h)]
theorem z_acmp_eq (hC : zCx P p m c cc nL s args own) (hG : zS P s G H locs) {x y : ZR} {off : Int} {tgt : Nat} {VA VB : Prop} (hV : zok G x ∧ zok G y ∧ zfam x y ∧ zbr (x = y) VA VB) (hd : decode cc pc = .ok (.if_acmp .eq off, 3)) (ht : (pc : Int) + off = (tgt : Int))
    (kt : VA → W p l e R s m args below meth c H locs cells slots Q (F0 m tgt ls rest)) (kf : VB → W p l e R s m args below meth c H locs cells slots Q (F0 m (pc + 3) ls rest)) : W p l e R s m args below meth c H locs cells slots Q (F0 m pc ls (zrv P y :: zrv P x :: rest)) := by
  rw [← zro_rf P x, ← zro_rf P y]
  exact lv_acmp_eq hC.1 hC.2.1 hd ht (fun h => kt (hV.2.2.2.1 ((zro_inj hC hG hV.1 hV.2.1 hV.2.2.1).mp h))) (fun h => kf (hV.2.2.2.2 fun z => h ((zro_inj hC hG hV.1 hV.2.1 hV.2.2.1).mpr z)))
theorem z_acmp_ne (hC : zCx P p m c cc nL s args own) (hG : zS P s G H locs) {x y : ZR} {off : Int} {tgt : Nat} {VA VB : Prop} (hV : zok G x ∧ zok G y ∧ zfam x y ∧ zbr (x ≠ y) VA VB) (hd : decode cc pc = .ok (.if_acmp .ne off, 3)) (ht : (pc : Int) + off = (tgt : Int))
    (kt : VA → W p l e R s m args below meth c H locs cells slots Q (F0 m tgt ls rest)) (kf : VB → W p l e R s m args below meth c H locs cells slots Q (F0 m (pc + 3) ls rest)) : W p l e R s m args below meth c H locs cells slots Q (F0 m pc ls (zrv P y :: zrv P x :: rest)) := by
  rw [← zro_rf P x, ← zro_rf P y]
  exact lv_acmp_ne hC.1 hC.2.1 hd ht (fun h => kt (hV.2.2.2.1 fun z => h ((zro_inj hC hG hV.1 hV.2.1 hV.2.2.1).mpr z))) (fun h => kf (hV.2.2.2.2 fun z => z ((zro_inj hC hG hV.1 hV.2.1 hV.2.2.1).mp h)))
/-! statics -/
theorem z_getsT (hC : zCx P p m c cc nL s args own) (hG : zS P s G H locs) {i o idx : Nat} (hi : i < 4) (ho : 20 + i = o) (hl : Cond.fieldLink own idx "Patternforge$Test" (zen i) "LPatternforge$Test;" ∈ lw_all) (hd : decode cc pc = .ok (.getstatic idx, 3))
    (kk : W p l e R s m args below meth c H locs cells slots Q (F0 m (pc + 3) ls (zrv P (some (.inr o)) :: rest))) : W p l e R s m args below meth c H locs cells slots Q (F0 m pc ls rest) := by
  subst ho
  exact va_gets hC.1 hC.2.1 (hC.2.2.2.2.2.2.1 i hi).1 hG.2 hC.2.2.2.1 (hC.2.2.2.2.1 _ hl) (fun x h => h) hd kk
theorem z_getsD (hC : zCx P p m c cc nL s args own) (hG : zS P s G H locs) {idx : Nat} (hl : Cond.fieldLink own idx "java/util/ArrayList" "DEFAULTCAPACITY_EMPTY_ELEMENTDATA" "[Ljava/lang/Object;" ∈ lw_all) (hd : decode cc pc = .ok (.getstatic idx, 3))
    (kk : W p l e R s m args below meth c H locs cells slots Q (F0 m (pc + 3) ls (zrv P (some (.inr 16)) :: rest))) : W p l e R s m args below meth c H locs cells slots Q (F0 m pc ls rest) := by
  exact va_gets hC.1 hC.2.1 hC.2.2.2.2.2.2.2.2.1 hG.2 hC.2.2.2.1 (hC.2.2.2.2.1 _ hl) (fun x h => h) hd kk
theorem z_getsV (hC : zCx P p m c cc nL s args own) (hG : zS P s G H locs) {idx : Nat} (hl : Cond.fieldLink own idx "Patternforge$Test" "$VALUES" "[LPatternforge$Test;" ∈ lw_all) (hd : decode cc pc = .ok (.getstatic idx, 3))
    (kk : W p l e R s m args below meth c H locs cells slots Q (F0 m (pc + 3) ls (.ref (zA P 17 0 0) :: rest))) : W p l e R s m args below meth c H locs cells slots Q (F0 m pc ls rest) :=
  va_gets hC.1 hC.2.1 hC.2.2.2.2.2.2.2.2.2.1 hG.2 hC.2.2.2.1 (hC.2.2.2.2.1 _ hl) (fun x h => h) hd kk
/-- the constants' number -/
theorem z_ordF (hC : zCx P p m c cc nL s args own) (hG : zS P s G H locs) {i idx : Nat} (hi : i < 4) (hl : Cond.fieldLink own idx "java/lang/Enum" "ordinal" "I" ∈ lw_all) (hd : decode cc pc = .ok (.getfield idx, 3))
    (kk : W p l e R s m args below meth c H locs cells slots Q (F0 m (pc + 3) ls (.int (zI i) :: rest))) : W p l e R s m args below meth c H locs cells slots Q (F0 m pc ls (.ref (zA P (20 + i) 0 0) :: rest)) :=
  vk_getf hC.1 hC.2.1 (hC.2.2.2.2.2.2.1 i hi).2.2 hG.2 hC.2.2.2.1 (hC.2.2.2.2.1 _ hl) (fun x h => h) hd kk
/-! the views -/
theorem z_uald (hC : zCx P p m c cc nL s args own) (hG : zS P s G H locs) {o ci k n : Nat} {i : Int} {V : ZR → Prop} (hc : tCls o = ci) (hk : tAk ci k = 4) (hn : tAl ci k = n) (hi : inR i) (hV : zuL G o k n i V) (hd : decode cc pc = .ok (.aaload, 1))
    (kk : ∀ x, V x → W p l e R s m args below meth c H locs cells slots Q (F0 m (pc + 1) ls (zrv P x :: rest))) : W p l e R s m args below meth c H locs cells slots Q (F0 m pc ls (.int (zI i) :: .ref (zA P o (k + 1) 0) :: rest)) := by
  obtain ⟨h0, h1, hV⟩ := hV
  have hat := hG.1.1 o (k + 1) 0 (zvd_arr hc hk)
  subst hc
  simp only [zfx, hk, hn] at hat
  have har : ArrOfT s (P.2.1 5) (aT 5) := (hC.2.2.2.2.2.1.2.1 5 (by omega)).1
  refine W.aald (v := zrv P (zsr G o k i)) hC.1 hC.2.1 hat (har _ _) rfl (fun q => by cases q) (by rw [arrV_size]; exact zI_in hi h0 h1) ?_ rfl rfl hd (kk _ hV)
  rw [zI_clamp hi, arrV_read _ _ (by omega), show ((i.toNat : Nat) : Int) = i by omega]
theorem zI5 (hC : zCx P p m c cc nL s args own) : ∃ (kA kI : Class), s.vm.classes[P.2.1 5]? = some kA ∧ kA.kind = .array (P.2.1 0) (.array .int) ∧ s.vm.classes[P.2.1 0]? = some kI := by
  have hx := hC.2.2.2.2.2.1.2.2.1
  obtain ⟨comp, cA, kA, f1, f2, f3, f4⟩ := Cond.arrayOver_specA (hx _ xq172).2
  have hra : s.vm.findClass "[I" = some (P.2.1 0) := (hC.2.2.2.2.2.1.2.1 0 (by omega)).2
  have hrb : s.vm.findClass "[[I" = some (P.2.1 5) := (hC.2.2.2.2.2.1.2.1 5 (by omega)).2
  have hcA : cA = P.2.1 5 := Option.some.inj (f4.symm.trans hrb)
  have hcm : comp = P.2.1 0 := Option.some.inj (f1.symm.trans hra)
  subst hcA
  subst hcm
  obtain ⟨kC, hkC, -⟩ := Vm.findClass_spec hra
  exact ⟨kA, kC, f2, f3, hkC⟩
theorem z_uast (hC : zCx P p m c cc nL s args own) (hG : zS P s G H locs) {o ci k n : Nat} {i : Int} {x : ZR} {V : ZG → Prop} (hc : tCls o = ci) (h1 : 1 ≤ ci) (h2 : ci ≤ 90) (hf : tFk ci k = 1) (hk : tAk ci k = 4) (hn : tAl ci k = n) (hi : inR i) (hV : zuS G o k n i x V) (hd : decode cc pc = .ok (.aastore, 1))
    (kk : ∀ G1 H1 locs1, zS P s G1 H1 locs1 → V G1 → W p l e R s m args below meth c H1 locs1 cells slots Q (F0 m (pc + 1) ls rest)) : W p l e R s m args below meth c H locs cells slots Q (F0 m pc ls (zrv P x :: .int (zI i) :: .ref (zA P o (k + 1) 0) :: rest)) := by
  obtain ⟨h0, hlt, ⟨b, l', rfl, hj⟩, hV⟩ := hV
  have hP := hC.2.2.2.2.2.1.2.2.2.1
  have hv := zvd_arr hc hk
  have h16 := zlt16 hc h1 h2
  have hat := hG.1.1 o (k + 1) 0 hv
  subst hc
  simp only [zfx, hk, hn] at hat
  obtain ⟨kA, kI, f1, f2, f3⟩ := zI5 hC
  refine W.aast hC.1 hC.2.1 hat (fun q h => by cases h) (fun h => by cases h) f1 f2 rfl f3 ⟨zI_neg hi h0, by rw [arrV_size, zI_clamp hi]; omega⟩ (zdia hG hj).1 (fun q h => by cases h) f3 (va_asg _ _) rfl rfl hd fun H1 e1 z oq => ?_
  refine kk _ _ _ (hG.put (hG.1.refS hP hv h16 hf (by rw [hk]; decide) ?_ oq) z oq (hP.2.1 o (k + 1) 0 hv h16)) hV
  simp only [zfx, hk, hn]
  refine Eq.trans e1 (congrArg some ?_)
  rw [arrV_store, zI_clamp hi]
  refine arrV_congr fun q hq => ?_
  rw [zsr_su]
  by_cases h : q = i.toNat
  · subst h
    rw [if_pos ⟨rfl, rfl, by omega⟩]
    simp [updV, zrv]
  · rw [if_neg (fun z => h (by omega))]
    simp [updV, h]
/-! the grid -/
theorem z_row (hC : zCx P p m c cc nL s args own) (hG : zS P s G H locs) {o ci k n : Nat} {r : Int} {V : Prop} (hc : tCls o = ci) (hk : tAk ci k = 5) (hn : tAl ci k = n) (hr : inR r) (hV : zin n r ∧ V) (hd : decode cc pc = .ok (.aaload, 1))
    (kk : zin n r → V → W p l e R s m args below meth c H locs cells slots Q (F0 m (pc + 1) ls (.ref (zA P o (k + 1) (r.toNat + 1)) :: rest))) : W p l e R s m args below meth c H locs cells slots Q (F0 m pc ls (.int (zI r) :: .ref (zA P o (k + 1) 0) :: rest)) := by
  obtain ⟨hz, hV⟩ := hV
  have hat := hG.1.1 o (k + 1) 0 (zvd_arr hc hk)
  subst hc
  simp only [zfx, hk, hn] at hat
  have har : ArrOfT s (P.2.1 5) (aT 5) := (hC.2.2.2.2.2.1.2.1 5 (by omega)).1
  have hlt := hz.2
  refine W.aald (v := .ref (zA P o (k + 1) (r.toNat + 1))) hC.1 hC.2.1 hat (har _ _) rfl (fun q => by cases q) (by rw [arrV_size]; exact zI_in hr hz.1 hz.2) ?_ rfl rfl hd (kk hz hV)
  rw [zI_clamp hr, arrV_read _ _ (by have := hz.1; omega)]
theorem z_xald (hC : zCx P p m c cc nL s args own) (hG : zS P s G H locs) {o ci k : Nat} {r i : Int} {V : Int → Prop} (hc : tCls o = ci) (hk : tAk ci k = 5) (hr : zin 500 r) (hi : inR i) (hV : zxL G o k r i V) (hd : decode cc pc = .ok (.iaload, 1))
    (kk : ∀ x, inR x → V x → W p l e R s m args below meth c H locs cells slots Q (F0 m (pc + 1) ls (.int (zI x) :: rest))) : W p l e R s m args below meth c H locs cells slots Q (F0 m pc ls (.int (zI i) :: .ref (zA P o (k + 1) (r.toNat + 1)) :: rest)) := by
  obtain ⟨h0, h1, hV⟩ := hV
  obtain ⟨r0, r1⟩ := hr
  have hat := hG.1.1 o (k + 1) (r.toNat + 1) (zvd_row hc hk (by omega))
  subst hc
  simp only [zfx] at hat
  have har : ArrOfT s (P.2.1 0) .int := (hC.2.2.2.2.2.1.2.1 0 (by omega)).1
  refine W.iald (v := .int (zI (zsg G o k (10 * r + i)))) hC.1 hC.2.1 hat (har _ _) (fun q => by cases q) (by rw [arrV_size]; exact zI_in hi h0 h1) ?_ rfl rfl hd (kk _ (hG.1.2.2 _ _ _) hV)
  rw [zI_clamp hi, arrV_read _ _ (by omega), show ((r.toNat : Nat) : Int) = r by omega, show ((i.toNat : Nat) : Int) = i by omega]
theorem z_xast (hC : zCx P p m c cc nL s args own) (hG : zS P s G H locs) {o ci k : Nat} {r i x : Int} {V : ZG → Prop} (hc : tCls o = ci) (h1 : 1 ≤ ci) (h2 : ci ≤ 90) (hf : tFk ci k = 1) (hk : tAk ci k = 5) (hr : zin 500 r) (hi : inR i) (hx : inR x) (hV : zxS G o k r i x V) (hd : decode cc pc = .ok (.iastore, 1))
    (kk : ∀ G1 H1 locs1, zS P s G1 H1 locs1 → V G1 → W p l e R s m args below meth c H1 locs1 cells slots Q (F0 m (pc + 1) ls rest)) : W p l e R s m args below meth c H locs cells slots Q (F0 m pc ls (.int (zI x) :: .int (zI i) :: .ref (zA P o (k + 1) (r.toNat + 1)) :: rest)) := by
  obtain ⟨h0, hlt, hV⟩ := hV
  obtain ⟨r0, r1⟩ := hr
  have hP := hC.2.2.2.2.2.1.2.2.2.1
  have hv := zvd_row hc hk (r := r.toNat) (by omega)
  have h16 := zlt16 hc h1 h2
  have hat := hG.1.1 o (k + 1) (r.toNat + 1) hv
  subst hc
  simp only [zfx] at hat
  have har : ArrOfT s (P.2.1 0) .int := (hC.2.2.2.2.2.1.2.1 0 (by omega)).1
  have er : 10 * r + i = 10 * ((r.toNat : Nat) : Int) + ((i.toNat : Nat) : Int) := by omega
  refine W.iast hC.1 hC.2.1 hat (har _ _) (fun q => by cases q) (by rw [arrV_size]; exact zI_in hi h0 hlt) rfl rfl hd fun H1 e1 z oq => ?_
  rw [er] at hV
  refine kk _ _ _ (hG.put (hG.1.rowS hP hv h16 (by rw [hf]; decide) hk (c := i.toNat) (by omega) hx ?_ oq) z oq (hP.2.1 o (k + 1) _ hv h16)) hV
  simp only [zfx]
  refine Eq.trans e1 (congrArg some ?_)
  rw [arrV_store, zI_clamp hi]
  refine arrV_congr fun q hq => ?_
  rw [zsg_ss]
  by_cases h : q = i.toNat
  · subst h
    rw [if_pos ⟨rfl, rfl, rfl⟩]
    simp [updV]
  · rw [if_neg (fun z => h (by omega))]
    simp [updV, h]
/-! copies -/
theorem zcpl_len {α : Type} {f g : List α} {sp dp n : Nat} (h1 : sp + n ≤ f.length) (h2 : dp + n ≤ g.length) : (zcpl f g sp dp n).length = g.length := by
  simp only [zcpl, List.length_append, List.length_take, List.length_drop]
  omega
theorem zcpl_get {α : Type} {f g : List α} {sp dp n : Nat} {d : α} (h1 : sp + n ≤ f.length) (h2 : dp + n ≤ g.length) {q : Nat} : (zcpl f g sp dp n).getD q d = if dp ≤ q ∧ q < dp + n then f.getD (sp + (q - dp)) d else g.getD q d := by
  simp only [List.getD_eq_getElem?_getD, zcpl]
  by_cases h : dp ≤ q ∧ q < dp + n
  · rw [if_pos h, List.getElem?_append_right (by rw [List.length_take]; omega), List.getElem?_append_left (by simp only [List.length_take, List.length_drop]; omega), List.length_take, Nat.min_eq_left (by omega), List.getElem?_take_of_lt (by omega), List.getElem?_drop]
  · rw [if_neg h]
    by_cases h3 : q < dp
    · rw [List.getElem?_append_left (by rw [List.length_take]; omega), List.getElem?_take_of_lt h3]
    · rw [List.getElem?_append_right (by rw [List.length_take]; omega), List.getElem?_append_right (by simp only [List.length_take, List.length_drop]; omega), List.getElem?_drop]
      simp only [List.length_take, List.length_drop]
      congr 2
      omega
theorem zcpl_mem {α : Type} {f g : List α} {sp dp n : Nat} {x : α} (h : x ∈ zcpl f g sp dp n) : x ∈ f ∨ x ∈ g := by
  simp only [zcpl, List.mem_append] at h
  rcases h with h | h | h
  · exact Or.inr (List.mem_of_mem_take h)
  · exact Or.inl (List.mem_of_mem_drop (List.mem_of_mem_take h))
  · exact Or.inr (List.mem_of_mem_drop h)
theorem zI_toInt' {z : Int} (h : inR z) (h0 : 0 ≤ z) : (zI z).toInt = ((zI z).toNatClampNeg : Int) := by
  rw [zI_toInt h, zI_clamp h]
  omega
def zarr (own : String) (index : Nat) : Prop := Cond.methodLink own index arraycopyName ∈ lw_all ∧ Cond.native arraycopyName ∈ lw_all ∧ Cond.static arraycopyName ∈ lw_all ∧ Cond.initialized "java/lang/System" ∈ lw_all
theorem z_acpI (hC : zCx P p m c cc nL s args own) (hG : zS P s G H locs) {x y : ZR} {sp dp n : Int} {idx : Nat} {V : ZG → Prop} (hsz : ls.size = nL) (hl : zarr own idx) (hsp : inR sp) (hdp : inR dp) (hn : inR n) (hV : zcpI G x sp y dp n V) (hrest : zsum rest) (hR : 1 ≤ R.frames ∧ 8 + (nativeFrameWords "java/lang/System" "arraycopy" 5 + 11) ≤ R.locals) (hd : decode cc pc = .ok (.invokestatic idx, 3))
    (kk : ∀ G1 H1 locs1, zS P s G1 H1 locs1 → V G1 → W p l e R s m args below meth c H1 locs1 cells slots Q (F0 m (pc + 3) ls rest)) : W p l e R s m args below meth c H locs cells slots Q (F0 m pc ls (.int (zI n) :: .int (zI dp) :: zrv P y :: .int (zI sp) :: zrv P x :: rest)) := by
  obtain ⟨a0, f, a, g, rfl, hj0, rfl, hj, p1, p2, p3, p4, p5, hV⟩ := hV
  obtain ⟨hc0, hf9, -, -⟩ := zdia hG hj0
  obtain ⟨hc1, hg9, hB, hL9⟩ := zdia hG hj
  have hts := hC.2.2.2.2.1
  obtain ⟨q1, q2, q3, q4⟩ := hl
  have har : ArrOfT s (P.2.1 0) .int := (hC.2.2.2.2.2.1.2.1 0 (by omega)).1
  obtain ⟨-, k0, hk0, cm0, hkk0⟩ := har f.length (fun q => .int (zI (f.getD q 0)))
  intro T hT X
  have hrest9 := zsum_le hrest
  obtain ⟨vm', X', step⟩ := X.arraycopy hC.1 hC.2.2.2.1 (hts _ q1) (hts _ q2) (hts _ q3) (hts _ q4) (src := a0) (dst := a) (cs := arrV (P.2.1 0) f.length (fun q => .int (zI (f.getD q 0)))) (cd := arrV (P.2.1 0) g.length (fun q => .int (zI (g.getD q 0)))) (srcPos := zI sp) (destPos := zI dp) (n := zI n) (by rw [hT]; exact hc0) (by rw [hT]; exact hc1)
    (fun _ h => by cases h) (fun _ h => by cases h) (fun h => by cases h) (fun h => by cases h) hk0 hk0 hkk0 hkk0 (by simp) (zI_neg hsp p1) (zI_neg hdp p2) (zI_neg hn p3)
    (by rw [zI_toInt hsp, zI_toInt hn, arrV_size]; omega) (by rw [zI_toInt hdp, zI_toInt hn, arrV_size]; omega)
    (fun vm₁ _ i hi => by
      rw [zI_clamp hn] at hi
      have e : (arrV (P.2.1 0) f.length (fun q => .int (zI (f.getD q 0)))).slots.getD ((zI sp).toNatClampNeg + i) .null = .int (zI (f.getD (sp.toNat + i) 0)) := by
        rw [zI_clamp hsp, Array.getD_eq_getD_getElem?, arrV_read _ _ (by omega)]
        rfl
      rw [e]
      exact ⟨rfl, trivial⟩)
    (g := F0 m pc ls (.int (zI n) :: .int (zI dp) :: .ref a :: .int (zI sp) :: .ref a0 :: rest)) rfl (by rw [hC.2.2.1]; exact hsz) (rest := rest) rfl (by rw [hC.2.1]; exact hd) hR.1 (by have h9 := hR.2; show 2 * 0 + _ + _ ≤ _; omega)
  have e1 : copied (arrV (P.2.1 0) f.length (fun q => .int (zI (f.getD q 0)))) (arrV (P.2.1 0) g.length (fun q => .int (zI (g.getD q 0)))) (zI sp) (zI dp) (zI n) = arrV (P.2.1 0) g.length (fun q => .int (zI ((zcpl f g sp.toNat dp.toNat n.toNat).getD q 0))) := by
    refine Eq.trans (va_copied (fun z => Value.int (zI z)) (P.2.1 0) (P.2.1 0) (fun q => f.getD q 0) (fun q => g.getD q 0) (by rw [zI_clamp hsp, zI_clamp hn]; omega)) ?_
    rw [zI_clamp hsp, zI_clamp hdp, zI_clamp hn]
    refine arrV_congr fun q hq => ?_
    rw [zcpl_get (by omega) (by omega)]
    rfl
  rw [e1] at X' step
  generalize hcN : arrV (P.2.1 0) g.length (fun q => Value.int (zI ((zcpl f g sp.toNat dp.toNat n.toNat).getD q 0))) = cN' at X' step
  have hl : a < H.size := (Array.getElem?_eq_some_iff.mp hc1).1
  have hheap : ((T.setVm vm').setCell a cN').heap = H.setIfInBounds a cN' := by rw [← hT]; rfl
  have oq : ∀ q : Nat, q ≠ a → (H.setIfInBounds a cN')[q]? = H[q]? := fun q hq => by simp [Array.getElem?_setIfInBounds, Ne.symm hq]
  have h1 : (H.setIfInBounds a cN')[a]? = some cN' := by simp [Array.getElem?_setIfInBounds, hl]
  have hlen : (zcpl f g sp.toNat dp.toNat n.toNat).length = g.length := zcpl_len (by omega) (by omega)
  have hRel : Rel P (zsc G a (.inl (0, zcpl f g sp.toNat dp.toNat n.toNat))) (H.setIfInBounds a cN') := by
    refine hG.1.dyn hj ⟨fun z hz => (zcpl_mem hz).elim (hf9 z) (hg9 z), by rw [hlen]; exact hL9⟩ (Eq.trans h1 (congrArg some ?_)) oq
    rw [← hcN]
    simp only [hlen]
  obtain ⟨t, a1, b1⟩ := kk _ _ _ ⟨hRel, by simp; exact hG.2.1, fun q g1 g2 => by
      rw [oq q (fun e => g2 (by rw [e]; exact hB))]
      exact hG.2.2.1 q g1 g2, fun q hq => by
      rcases List.mem_append.mp hq with h | h
      · exact hG.2.2.2 q h
      · obtain ⟨z, -, hz⟩ := List.mem_map.mp h
        rw [← hz]
        exact hB⟩ hV _ hheap X'
  exact ⟨t, step t a1, b1⟩
theorem z_acpR (hC : zCx P p m c cc nL s args own) (hG : zS P s G H locs) {x y : ZR} {sp dp n : Int} {idx : Nat} {V : ZG → Prop} (hsz : ls.size = nL) (hl : zarr own idx) (hsp : inR sp) (hdp : inR dp) (hn : inR n) (hV : zcpR G x sp y dp n V) (hrest : zsum rest) (hR : 1 ≤ R.frames ∧ 8 + (nativeFrameWords "java/lang/System" "arraycopy" 5 + 11) ≤ R.locals) (hd : decode cc pc = .ok (.invokestatic idx, 3))
    (kk : ∀ G1 H1 locs1, zS P s G1 H1 locs1 → V G1 → W p l e R s m args below meth c H1 locs1 cells slots Q (F0 m (pc + 3) ls rest)) : W p l e R s m args below meth c H locs cells slots Q (F0 m pc ls (.int (zI n) :: .int (zI dp) :: zrv P y :: .int (zI sp) :: zrv P x :: rest)) := by
  obtain ⟨a0, f, a, g, rfl, hj0, rfl, hj, p1, p2, p3, p4, p5, hel, hV⟩ := hV
  obtain ⟨hc0, -, -, -⟩ := zdra hG hj0
  obtain ⟨hc1, hk9, hB, hL9⟩ := zdra hG hj
  have hts := hC.2.2.2.2.1
  obtain ⟨q1, q2, q3, q4⟩ := hl
  have har : ArrOfT s (P.2.1 3) (.object "java/lang/Object") := (hC.2.2.2.2.2.1.2.1 3 (by omega)).1
  have hra : va_RA s (P.2.1 3) (.object "java/lang/Object") := (hC.2.2.2.2.2.1.2.1 3 (by omega)).2
  obtain ⟨-, k0, hk0, cm0, hkk0⟩ := har f.length (fun q => zrv P (f.getD q none))
  intro T hT X
  have hrest9 := zsum_le hrest
  obtain ⟨vm', X', step⟩ := X.arraycopy hC.1 hC.2.2.2.1 (hts _ q1) (hts _ q2) (hts _ q3) (hts _ q4) (src := a0) (dst := a) (cs := arrV (P.2.1 3) f.length (fun q => zrv P (f.getD q none))) (cd := arrV (P.2.1 3) g.length (fun q => zrv P (g.getD q none))) (srcPos := zI sp) (destPos := zI dp) (n := zI n) (by rw [hT]; exact hc0) (by rw [hT]; exact hc1)
    (fun _ h => by cases h) (fun _ h => by cases h) (fun h => by cases h) (fun h => by cases h) hk0 hk0 hkk0 hkk0 rfl (zI_neg hsp p1) (zI_neg hdp p2) (zI_neg hn p3)
    (by rw [zI_toInt hsp, zI_toInt hn, arrV_size]; omega) (by rw [zI_toInt hdp, zI_toInt hn, arrV_size]; omega)
    (fun vm₁ hal i hi => by
      rw [zI_clamp hn] at hi
      have e : (arrV (P.2.1 3) f.length (fun q => zrv P (f.getD q none))).slots.getD ((zI sp).toNatClampNeg + i) .null = zrv P (f.getD (sp.toNat + i) none) := by
        rw [zI_clamp hsp, Array.getD_eq_getD_getElem?, arrV_read _ _ (by omega)]
        rfl
      rw [e]
      have hz : zel G 3 (f.getD (sp.toNat + i) none) := by
        refine hel _ ?_
        rw [List.getD_eq_getElem?_getD, List.getElem?_eq_getElem (by omega), Option.getD_some]
        exact List.mem_iff_getElem.mpr ⟨i, by simp only [List.length_take, List.length_drop]; omega, by simp⟩
      cases hy : f.getD (sp.toNat + i) none with
      | none => exact ⟨rfl, trivial⟩
      | some y =>
        rw [hy] at hz
        cases y with
        | inr o =>
          rcases hz with h | ⟨b, ci, fs, hb, -⟩ | ⟨b, l2, hb, -⟩
          · cases h.1
          · cases hb
          · cases hb
        | inl y =>
        obtain ⟨cellV, g1, g2, ⟨kC, hkC⟩, hasg⟩ := zany hC hG rfl hz (Or.inl rfl)
        obtain ⟨kA, comp, r1, r2, r3, -⟩ := hra
        cases hk0.symm.trans r1
        cases hkk0.symm.trans r2
        obtain ⟨kE, hkE, -⟩ := Vm.findClass_spec r3
        obtain ⟨kC', hkC', -⟩ := hal.2.2 _ _ hkC
        obtain ⟨kE', hkE', -⟩ := hal.2.2 _ _ hkE
        refine ⟨rfl, cellV, (show T.heap[y]? = some cellV by rw [hT]; exact g1), (fun q h => by rw [h] at g2; cases g2), ⟨kC', hkC'⟩, ?_, ?_⟩
        · exact ⟨kE', hkE'⟩
        · show vm₁.assignable _ _ = true
          rw [hal.assignable]
          exact hasg _ r3)
    (g := F0 m pc ls (.int (zI n) :: .int (zI dp) :: .ref a :: .int (zI sp) :: .ref a0 :: rest)) rfl (by rw [hC.2.2.1]; exact hsz) (rest := rest) rfl (by rw [hC.2.1]; exact hd) hR.1 (by have h9 := hR.2; show 2 * 0 + _ + _ ≤ _; omega)
  have e1 : copied (arrV (P.2.1 3) f.length (fun q => zrv P (f.getD q none))) (arrV (P.2.1 3) g.length (fun q => zrv P (g.getD q none))) (zI sp) (zI dp) (zI n) = arrV (P.2.1 3) g.length (fun q => zrv P ((zcpl f g sp.toNat dp.toNat n.toNat).getD q none)) := by
    refine Eq.trans (va_copied (fun z => zrv P z) (P.2.1 3) (P.2.1 3) (fun q => f.getD q none) (fun q => g.getD q none) (by rw [zI_clamp hsp, zI_clamp hn]; omega)) ?_
    rw [zI_clamp hsp, zI_clamp hdp, zI_clamp hn]
    refine arrV_congr fun q hq => ?_
    rw [zcpl_get (by omega) (by omega)]
    rfl
  rw [e1] at X' step
  generalize hcN : arrV (P.2.1 3) g.length (fun q => zrv P ((zcpl f g sp.toNat dp.toNat n.toNat).getD q none)) = cN' at X' step
  have hl : a < H.size := (Array.getElem?_eq_some_iff.mp hc1).1
  have hheap : ((T.setVm vm').setCell a cN').heap = H.setIfInBounds a cN' := by rw [← hT]; rfl
  have oq : ∀ q : Nat, q ≠ a → (H.setIfInBounds a cN')[q]? = H[q]? := fun q hq => by simp [Array.getElem?_setIfInBounds, Ne.symm hq]
  have h1 : (H.setIfInBounds a cN')[a]? = some cN' := by simp [Array.getElem?_setIfInBounds, hl]
  have hlen : (zcpl f g sp.toNat dp.toNat n.toNat).length = g.length := zcpl_len (by omega) (by omega)
  have hRel : Rel P (zsc G a (.inr (.inl (3, zcpl f g sp.toNat dp.toNat n.toNat)))) (H.setIfInBounds a cN') := by
    refine hG.1.dyn hj ⟨by omega, by omega, by rw [hlen]; exact hL9⟩ (Eq.trans h1 (congrArg some ?_)) oq
    rw [← hcN]
    simp only [hlen]
  obtain ⟨t, a1, b1⟩ := kk _ _ _ ⟨hRel, by simp; exact hG.2.1, fun q g1 g2 => by
      rw [oq q (fun e => g2 (by rw [e]; exact hB))]
      exact hG.2.2.1 q g1 g2, fun q hq => by
      rcases List.mem_append.mp hq with h | h
      · exact hG.2.2.2 q h
      · obtain ⟨z, -, hz⟩ := List.mem_map.mp h
        rw [← hz]
        exact hB⟩ hV _ hheap X'
  exact ⟨t, step t a1, b1⟩
/-! clone -/
def zcln (own : String) (idx : Nat) (ad : String) : Prop := Cond.methodLink own idx ⟨ad, "clone", "()Ljava/lang/Object;"⟩ ∈ lw_all ∧ Cond.sameMethod ad "java/lang/Object" "clone" "()Ljava/lang/Object;" ∈ lw_all ∧ Cond.native ⟨"java/lang/Object", "clone", "()Ljava/lang/Object;"⟩ ∈ lw_all ∧ Cond.instanceMethod ⟨"java/lang/Object", "clone", "()Ljava/lang/Object;"⟩ ∈ lw_all ∧ Cond.selects ad ⟨ad, "clone", "()Ljava/lang/Object;"⟩ ⟨"java/lang/Object", "clone", "()Ljava/lang/Object;"⟩ ∈ lw_all ∧ Cond.castable ad "java/lang/Cloneable" ∈ znx
theorem z_cloneRaw (hC : zCx P p m c cc nL s args own) {a idx k n : Nat} {ad : String} {f : Nat → Value} (hsz : ls.size = nL) (hl : zcln own idx ad) (hk : k ≤ 6) {cell : Cell} (hc0 : H[a]? = some cell) (hcc : cell.cls = P.2.1 k) (hcv : (∀ q, cell.vm ≠ .statics q) ∧ cell.vm ≠ .unknown) (hcs : cell.slots = (arrV (P.2.1 k) n f).slots) (hnm : s.vm.findClass ad = some (P.2.1 k)) (hfit : ∀ q, q < n → fits (aT k) (f q) = true) (hrest : zsum rest) (hR : 1 ≤ R.frames ∧ 8 + 14 ≤ R.locals) (hcells : cells + 1 ≤ R.cells) (hslots : slots + n ≤ R.slots) (hd : decode cc pc = .ok (.invokevirtual idx, 3))
    (kk : ∀ H1, H1[H.size]? = some (arrV (P.2.1 k) n f) → H1.size = H.size + 1 → (∀ q : Nat, q < H.size → H1[q]? = H[q]?) → W p l e R s m args below meth c H1 locs (cells + 1) (slots + n) Q (F0 m (pc + 3) ls (.ref H.size :: rest))) : W p l e R s m args below meth c H locs cells slots Q (F0 m pc ls (.ref a :: rest)) := by
  have hts := hC.2.2.2.2.1
  obtain ⟨l1, l2, l3, l4, l5, l6⟩ := hl
  obtain ⟨c0, t0', f1, f2, f3⟩ := Cond.castable_spec (va_Nw.use (A := args) rfl (hC.2.2.2.2.2.1.2.2.1 _ l6).2)
  cases hnm.symm.trans f1
  have har := (hC.2.2.2.2.2.1.2.1 k hk).1
  have hrest9 := zsum_le hrest
  intro T hT X
  obtain ⟨-, kA, hkA, comp, hkind⟩ := State.isArrayOf_alike X.warmed.alike (har 0 (fun _ => .null))
  obtain ⟨-, kS, hkS, compS, hkindS⟩ := har 0 (fun _ => .null)
  obtain ⟨vm', X', st⟩ := X.cloneArray hC.1 hC.2.2.2.1 (hts _ l1) (hts _ l2) (hts _ l3) (hts _ l4) (hts _ l5) (a := a) (cell := cell) (by rw [hT]; exact hc0) hcv.1 hcv.2 (by rw [hcc]; exact hnm) f2 (by rw [hcc]; exact f3)
    (fun i v hv => by
      rw [hcs] at hv
      rw [hcc]
      have hk' : T.vm.classes[P.2.1 k]? = some kA := hkA
      have hv' : fits (aT k) v = true := by
        have hi : i < n := by
          have := (Array.getElem?_eq_some_iff.mp hv).1
          rwa [arrV_size] at this
        rw [arrV_read _ _ hi] at hv
        cases hv
        exact hfit i hi
      simpa [State.fitsSlot, State.slotType?, arrV, hk', hkind] using hv')
    (g := F0 m pc ls (.ref a :: rest)) rfl (by rw [hC.2.2.1]; exact hsz) rfl (by rw [hC.2.1]; exact hd) hR.1 (by have h9 := hR.2; show 2 * 0 + _ + 14 ≤ _; omega) hcells (by rw [hcs, arrV_size]; exact hslots) (hloader := by rw [hcc]; exact Vm.clonesLoader_of_array hkS hkindS)
  have hcellE : ({ cls := cell.cls, slots := cell.slots } : Cell) = arrV (P.2.1 k) n f := by rw [hcc, hcs]; rfl
  rw [hcellE, hcs, arrV_size] at X'
  generalize hH1 : H.push (arrV (P.2.1 k) n f) = H1
  have z1 : H1.size = H.size + 1 := by rw [← hH1, Array.size_push]
  have e1 : H1[H.size]? = some (arrV (P.2.1 k) n f) := by rw [← hH1, Array.getElem?_push_size]
  have o1 : ∀ q : Nat, q < H.size → H1[q]? = H[q]? := fun q hq => by rw [← hH1, Array.getElem?_push, if_neg (Nat.ne_of_lt hq)]
  obtain ⟨t, b1, b2⟩ := kk H1 e1 z1 o1 ((T.setVm vm').pushCell (arrV (P.2.1 k) n f)) (by rw [← hH1, ← hT]; rfl) X'
  refine ⟨t, st t ?_, b2⟩
  rw [hcellE, hT]
  exact b1
theorem z_cloneI (hC : zCx P p m c cc nL s args own) (hG : zS P s G H locs) {r : ZR} {idx mx : Nat} {V : ZR → ZG → Prop} (hsz : ls.size = nL) (hl : zcln own idx "[I") (hV : zclI G r mx V) (hrest : zsum rest) (hR : 1 ≤ R.frames ∧ 8 + 14 ≤ R.locals) (hcells : cells + 1 ≤ R.cells) (hslots : slots + mx ≤ R.slots) (hd : decode cc pc = .ok (.invokevirtual idx, 3))
    (kk : ∀ r G1 H1, zS P s G1 H1 locs → V r G1 → W p l e R s m args below meth c H1 locs (cells + 1) (slots + mx) Q (F0 m (pc + 3) ls (zrv P r :: rest))) : W p l e R s m args below meth c H locs cells slots Q (F0 m pc ls (zrv P r :: rest)) := by
  obtain ⟨a, f, rfl, hj, hle, hV⟩ := hV
  obtain ⟨hc0, hf9, hB, hL9⟩ := zdia hG hj
  refine z_cloneRaw hC (k := 0) hsz hl (by omega) hc0 rfl ⟨fun q h => (by cases h), fun h => (by cases h)⟩ rfl (hC.2.2.2.2.2.1.2.1 0 (by omega)).2 (fun _ _ => rfl) hrest hR hcells (by omega) hd fun H1 e1 z1 o1 => ?_
  obtain ⟨g1, g2⟩ := hG.new hC (d := .inl (0, f)) ⟨hf9, hL9⟩ e1 z1 o1
  exact W.widen (Nat.le_refl _) (by omega) (kk (some (.inl H.size)) _ H1 g2 (hV _ g1))
theorem z_cloneV (hC : zCx P p m c cc nL s args own) (hG : zS P s G H locs) {idx : Nat} {V : ZR → ZG → Prop} (hsz : ls.size = nL) (hl : zcln own idx "[LPatternforge$Test;") (hV : zclV G V) (hrest : zsum rest) (hR : 1 ≤ R.frames ∧ 8 + 14 ≤ R.locals) (hcells : cells + 1 ≤ R.cells) (hslots : slots + 4 ≤ R.slots) (hd : decode cc pc = .ok (.invokevirtual idx, 3))
    (kk : ∀ r G1 H1, zS P s G1 H1 locs → V r G1 → W p l e R s m args below meth c H1 locs (cells + 1) (slots + 4) Q (F0 m (pc + 3) ls (zrv P r :: rest))) : W p l e R s m args below meth c H locs cells slots Q (F0 m pc ls (.ref (zA P 17 0 0) :: rest)) := by
  obtain ⟨cell, c1, c2, c3, c4, c5, c6⟩ := (hC.2.2.2.2.2.2.step (Vm.Alike.refl _) hG.2.2.1 : zSt P s H).2.2.2.2.2.2.2
  have hnm : s.vm.findClass "[LPatternforge$Test;" = some (P.2.1 6) := va_nmO (hC.2.2.2.2.2.1.2.1 6 (by omega)).2 rfl
  refine z_cloneRaw hC (k := 6) (n := 4) (f := fun q => .ref (zA P (20 + q) 0 0)) hsz hl (by omega) c1 c2 ⟨c3, c4⟩ c5 hnm (fun _ _ => rfl) hrest hR hcells hslots hd fun H1 e1 z1 o1 => ?_
  obtain ⟨g1, g2⟩ := hG.new hC (d := .inr (.inl (6, [some (.inr 20), some (.inr 21), some (.inr 22), some (.inr 23)]))) ⟨by omega, by omega, by simp⟩ (by
    refine Eq.trans e1 (congrArg some (arrV_congr fun q hq => ?_))
    have h4 : q < 4 := hq
    match q, h4 with
    | 0, _ => rfl
    | 1, _ => rfl
    | 2, _ => rfl
    | 3, _ => rfl
    | n + 4, h => omega) z1 o1
  exact kk (some (.inl H.size)) _ H1 g2 (hV _ g1)
/-- checkcast to the constants' array -/
theorem z_castV (hC : zCx P p m c cc nL s args own) (hG : zS P s G H locs) {r : ZR} {idx : Nat} {V : Prop} (hcl : Cond.classLink own idx "[LPatternforge$Test;" ∈ lw_all) (hV : (∃ a l', r = some (.inl a) ∧ zsj G a = some (.inr (.inl (6, l')))) ∧ V) (hd : decode cc pc = .ok (.checkcast idx, 3))
    (kk : V → W p l e R s m args below meth c H locs cells slots Q (F0 m (pc + 3) ls (zrv P r :: rest))) : W p l e R s m args below meth c H locs cells slots Q (F0 m pc ls (zrv P r :: rest)) := by
  obtain ⟨⟨a, l', rfl, hj⟩, hV⟩ := hV
  exact va_castA (D := P.1) (cl := []) hC.1 hC.2.1 hC.2.2.2.1 (hC.2.2.2.2.1 _ hcl) (zP1 hG hj) 0 rfl (va_nmO (hC.2.2.2.2.2.1.2.1 6 (by omega)).2 rfl) hd (kk hV)
/-- Object.<init> -/
theorem z_obj (hC : zCx P p m c cc nL s args own) {a idx : Nat} (hsz : ls.size = nL) (hl : Cond.methodLink own idx Lib.objectInit ∈ lw_all ∧ Cond.instanceMethod Lib.objectInit ∈ lw_all ∧ Cond.code Lib.objectInit ⟨#[0xb1]⟩ 1 none ∈ lw_all) (hrest : zsum rest) (hR : 1 ≤ R.frames ∧ 8 + 12 ≤ R.locals) (hd : decode cc pc = .ok (.invokespecial idx, 3))
    (kk : W p l e R s m args below meth c H locs cells slots Q (F0 m (pc + 3) ls rest)) : W p l e R s m args below meth c H locs cells slots Q (F0 m pc ls (.ref a :: rest)) := by
  have hrest9 := zsum_le hrest
  have h9 := hR.2
  exact W.objInit hC.1 hC.2.1 hC.2.2.2.1 (hC.2.2.2.2.1 _ hl.1) (hC.2.2.2.2.1 _ hl.2.1) (hC.2.2.2.2.1 _ hl.2.2) rfl (by rw [hC.2.2.1]; exact hsz) rfl hd hR.1 (by show 2 * 0 + _ + 12 ≤ _; omega) kk
/-- a reference known as a fixed object -/
theorem z_fix {r : ZR} {ci : Nat} {V : Nat → Prop} (hV : zcaL r ci V)
    (kk : ∀ o, tCls o = ci → V o → W p l e R s m args below meth c H locs cells slots Q (F0 m pc ls (.ref (zA P o 0 0) :: rest))) : W p l e R s m args below meth c H locs cells slots Q (F0 m pc ls (zrv P r :: rest)) := by
  obtain ⟨o, rfl, ho, hV⟩ := hV
  exact kk o ho hV
/-- the class of an array of objects, and the same by its name -/
theorem z_getC (hC : zCx P p m c cc nL s args own) (hG : zS P s G H locs) {r : ZR} {idx : Nat} {V : Prop} (hsz : ls.size = nL) (hl : Cond.methodLink own idx ⟨"java/lang/Object", "getClass", "()Ljava/lang/Class;"⟩ ∈ lw_all ∧ Cond.declares ⟨"java/lang/Object", "getClass", "()Ljava/lang/Class;"⟩ ∈ znx ∧ Cond.selects "[Ljava/lang/Object;" ⟨"java/lang/Object", "getClass", "()Ljava/lang/Class;"⟩ ⟨"java/lang/Object", "getClass", "()Ljava/lang/Class;"⟩ ∈ lw_all ∧ Cond.instanceMethod ⟨"java/lang/Object", "getClass", "()Ljava/lang/Class;"⟩ ∈ lw_all ∧ Cond.native ⟨"java/lang/Object", "getClass", "()Ljava/lang/Class;"⟩ ∈ lw_all)
    (hV : zcaO G r ∧ V) (hrest : zsum rest) (hR : 1 ≤ R.frames ∧ 8 + 14 ≤ R.locals) (hd : decode cc pc = .ok (.invokevirtual idx, 3))
    (kk : V → W p l e R s m args below meth c H locs cells slots Q (F0 m (pc + 3) ls (zrv P (some (.inr 18)) :: rest))) : W p l e R s m args below meth c H locs cells slots Q (F0 m pc ls (zrv P r :: rest)) := by
  obtain ⟨⟨a, l', rfl, hj⟩, hV⟩ := hV
  obtain ⟨l1, l2, l3, l4, l5⟩ := hl
  have hts := hC.2.2.2.2.1
  have h9 := hR.2
  have h8 := zsum_le hrest
  exact va_getC hC.1 hC.2.1 (hC.2.2.1.trans hsz.symm) hC.2.2.2.1 (hts _ l1) (va_Nw.use rfl (hC.2.2.2.2.2.1.2.2.1 _ l2).2) (hts _ l3) (hts _ l4) (hts _ l5) hC.2.2.2.2.2.2.2.1 ⟨_, (zdra hG hj).1, rfl, va_nmO (hC.2.2.2.2.2.1.2.1 3 (by omega)).2 rfl⟩ hR.1 (by omega) hd (kk hV)
theorem z_ldcM (hC : zCx P p m c cc nL s args own) {idx : Nat} (hcl : Cond.classLink own idx "[Ljava/lang/Object;" ∈ lw_all) (hd : decode cc pc = .ok (.ldc idx, 2))
    (kk : W p l e R s m args below meth c H locs cells slots Q (F0 m (pc + 2) ls (zrv P (some (.inr 18)) :: rest))) : W p l e R s m args below meth c H locs cells slots Q (F0 m pc ls rest) :=
  va_ldcM hC.1 hC.2.1 hC.2.2.2.1 (hC.2.2.2.2.1 _ hcl) hC.2.2.2.2.2.2.2.1 hd kk
/-- no link of a nest at this place of the pool -/
def znl (own : String) (idx : Nat) : Bool := znx.all fun w => match w with | .fieldLinkNest o i _ _ _ _ => !(decide (o = own) && decide (i = idx)) | _ => true
theorem znl_use {own : String} {idx : Nat} (h : znl own idx = true) {n d : String} : ∀ ref host, Cond.fieldLinkNest own idx ref n d host ∉ znx := by
  intro ref host hm
  have := List.all_eq_true.mp h _ hm
  simp at this
end ZNE
