/-! ROWS 9: what the constructors make -/
set_option maxRecDepth 100000
def zscG (G : ZG) (a n k : Nat) : ZG := (G.1, G.2.1, fun b => if b = a then some (.inr (.inl (5, (List.range n).map fun j => some (.inl (a + 1 + j))))) else if a < b ∧ b ≤ a + n then some (.inl (0, List.replicate k 0)) else G.2.2 b)
/-- a new grid -/
def znG (G : ZG) (n k : Nat) (Q : ZR → ZG → Prop) : Prop := ∀ a, (∀ b, a ≤ b → zsj G b = none) → Q (some (.inl a)) (zscG G a n k)
section ZCT
variable {p : Program} {l : Launch} {e : Env} {R : Room} {s : State} {m : MethodId} {args : Array Value} {below : List Frame} {meth : Method} {c : Code} {H : Heap} {locs : List Loc} {cells slots : Nat} {Q : State → Prop}
variable {cc : ByteArray} {pc nL : Nat} {ls : Array Slot} {rest : List Value} {P : ZP} {G : ZG} {own : String} {mc ms : Nat}
variable {x y : MethodName} {cc' : ByteArray} {maxL idx n mc' ms' : Nat} {ret : Option FieldType} {rm : Room} {av st0 : List Value} {Qc : Array Value → State → Outcome → State → Prop} {C owner host : String} {b : Nat}
theorem zrunUD {r : ZR} {ci : Nat} (hC : zCx P p m c cc nL s args own) (hG : zS P s G H locs) (hO : zisO G r ci) (hM : Met l y (ws_ y cc' maxL ret) rm (zPc P G (zrv P r :: av)) Qc mc' ms' (zAr P)) (hl : zLU own idx (cR ci) owner x y cc' maxL ret n) (hn : av.length = n) (hc : rm.cells = mc') (hs : rm.slots = ms') (hR : zRm R rm maxL) (hf : cells + mc' ≤ R.cells ∧ slots + ms' ≤ R.slots)
    (hst : st0 = av.reverse ++ zrv P r :: rest) (hrest : zsum rest) (hsz : ls.size = nL) (hd : decode cc pc = .ok (.invokevirtual idx, 3)) : va_Run p l e R s m args below meth c H locs cells slots mc' ms' (F0 m pc ls st0) rest (Qc (zrv P r :: av).toArray) (zAr P) := by
  obtain ⟨a, fs, rfl, hj⟩ := hO
  exact zrunU hC hG (zrecvO hC hG hj) hM hl hn hc hs hR hf hst hrest hsz hd
/-- anewarray of arrays of ints -/
theorem z_anewI (hC : zCx P p m c cc nL s args own) (hG : zS P s G H locs) {idx : Nat} (hcl : Cond.classLink own idx "[I" ∈ lw_all) (hov : Cond.arrayOver (.array .int) ∈ znx) {n : Int} {mx : Nat} {V : ZR → ZG → Prop} (hn : inR n) (hmx : mx ≤ 10000000) (hV : znR0 G 5 n mx V) (hcells : cells + 1 ≤ R.cells) (hslots : slots + mx ≤ R.slots) (hd : decode cc pc = .ok (.anewarray idx, 3))
    (kk : ∀ r G1 H1, zS P s G1 H1 locs → V r G1 → W p l e R s m args below meth c H1 locs (cells + 1) (slots + mx) Q (F0 m (pc + 3) ls (zrv P r :: rest))) : W p l e R s m args below meth c H locs cells slots Q (F0 m pc ls (.int (zI n) :: rest)) := by
  obtain ⟨h0, hle, hV⟩ := hV
  refine W.anewA (t := .int) hC.1 hC.2.1 hC.2.2.2.1 (hC.2.2.2.2.1 _ hcl) (hC.2.2.2.2.2.1.2.2.1 _ hov).2 rfl hd rfl (zI_neg hn h0) (by rw [zI_clamp hn]; omega) hcells (by rw [zI_clamp hn]; omega) fun cA kA comp f1 f2 f3 f4 => ?_
  rw [zI_clamp hn]
  generalize hH1 : H.push ({ cls := cA, slots := Array.replicate n.toNat .null, vm := .none } : Cell) = H1
  have z1 : H1.size = H.size + 1 := by rw [← hH1, Array.size_push]
  have e1 : H1[H.size]? = some (arrV cA n.toNat (fun _ => .null)) := by rw [← hH1, Array.getElem?_push_size, ← arrV_new]
  have o1 : ∀ q : Nat, q < H.size → H1[q]? = H[q]? := fun q hq => by rw [← hH1, Array.getElem?_push, if_neg (Nat.ne_of_lt hq)]
  have hcA : cA = P.2.1 5 := Option.some.inj (f1.symm.trans (hC.2.2.2.2.2.1.2.1 5 (by omega)).2)
  subst hcA
  obtain ⟨g1, g2⟩ := hG.new hC (d := .inr (.inl (5, List.replicate n.toNat none))) ⟨by omega, by omega, by rw [List.length_replicate]; omega⟩ (by
    refine Eq.trans e1 (congrArg some ?_)
    simp only [List.length_replicate]
    exact arrV_congr fun q hq => by rw [zrep_D]; rfl) z1 o1
  exact W.widen (Nat.le_refl _) (by omega) (kk (some (.inl H.size)) _ H1 g2 (hV _ g1))
theorem z_outer (c : ClassId) (N h0 : Nat) : ∀ i, (Jvm.Free.Multi.outerC c N h0 i).monitor = {} ∧ (Jvm.Free.Multi.outerC c N h0 i).hash = none
  | 0 => ⟨rfl, rfl⟩
  | i + 1 => by
    obtain ⟨a, b⟩ := z_outer c N h0 i
    exact ⟨by simp [Jvm.Free.Multi.outerC, Cell.setSlot, a], by simp [Jvm.Free.Multi.outerC, Cell.setSlot, b]⟩
/-- the frame rule for the grid -/
theorem Rel.grid {P : ZP} {G : ZG} {H H1 : Heap} (hR : Rel P G H) (hb : zB P ≤ H.size) {n k : Nat} (hn : n ≤ 100000000) (hk : k ≤ 100000000)
    (ho : H1[H.size]? = some (arrV (P.2.1 5) n (fun q => .ref (H.size + 1 + q)))) (hi : ∀ j, j < n → H1[H.size + 1 + j]? = some (arrV (P.2.1 0) k (fun _ => .int 0))) (oq : ∀ q, q < H.size → H1[q]? = H[q]?) : (∀ b, H.size ≤ b → zsj G b = none) ∧ Rel P (zscG G H.size n k) H1 := by
  have hnone : ∀ b, H.size ≤ b → zsj G b = none := by
    intro b hb2
    cases hg : zsj G b with
    | none => rfl
    | some d => exact absurd (hR.2.1 _ _ hg).1.lt (Nat.not_lt.mpr hb2)
  refine ⟨hnone, fun o j i hv => (hR.1 o j i hv).kept (oq _ (hR.1 o j i hv).lt), fun b d hd => ?_, hR.2.2⟩
  have hfix : H.size ≤ b → ∀ o j i, zvd o j i = true → zA P o j i ≠ b := fun hb2 o j i hv z => absurd (hR.1 o j i hv).lt (by rw [z]; exact Nat.not_lt.mpr hb2)
  simp only [zsj, zscG] at hd
  by_cases e : b = H.size
  · subst e
    rw [if_pos rfl] at hd
    cases hd
    refine ⟨?_, ⟨by omega, by omega, by simpa using hn⟩, hb, hfix (Nat.le_refl _)⟩
    refine Eq.trans ho (congrArg some ?_)
    simp only [List.length_map, List.length_range]
    refine arrV_congr fun q hq => ?_
    rw [List.getD_eq_getElem?_getD, List.getElem?_map, List.getElem?_range hq]
    rfl
  · rw [if_neg e] at hd
    by_cases e2 : H.size < b ∧ b ≤ H.size + n
    · rw [if_pos e2] at hd
      cases hd
      refine ⟨?_, ⟨fun x hx => by rw [(List.mem_replicate.mp hx).2]; exact inR_0, by rw [List.length_replicate]; exact hk⟩, by omega, hfix (by omega)⟩
      have h9 := hi (b - H.size - 1) (by omega)
      rw [show H.size + 1 + (b - H.size - 1) = b by omega] at h9
      refine Eq.trans h9 (congrArg some ?_)
      simp only [List.length_replicate]
      exact arrV_congr fun q hq => by rw [zrep_D]; rfl
    · rw [if_neg e2] at hd
      obtain ⟨g1, g2, g3, g4⟩ := hR.2.1 b d hd
      exact ⟨g1.kept (oq b g1.lt), g2, g3, g4⟩
theorem z_multi (hC : zCx P p m c cc nL s args own) (hG : zS P s G H locs) {idx n k : Nat} (hcl : Cond.classLink own idx "[[I" ∈ lw_all) (hov : Cond.arrayOver (.array .int) ∈ znx) (harr : Cond.arrayClass .int ∈ lw_all) {V : ZR → ZG → Prop} (hn : n ≤ 100000) (hk : k ≤ 100000) (hV : znG G n k V) (hcells : cells + (1 + n) ≤ R.cells) (hslots : slots + (n + n * k) ≤ R.slots) (hd : decode cc pc = .ok (.multianewarray idx 2, 4))
    (kk : ∀ r G1 H1 locs1, zS P s G1 H1 locs1 → V r G1 → W p l e R s m args below meth c H1 locs1 (cells + (1 + n)) (slots + (n + n * k)) Q (F0 m (pc + 4) ls (zrv P r :: rest))) : W p l e R s m args below meth c H locs cells slots Q (F0 m pc ls (.int (zI k) :: .int (zI n) :: rest)) := by
  have hin : inR (n : Int) := ⟨by omega, by omega⟩
  have hik : inR (k : Int) := ⟨by omega, by omega⟩
  have en : (zI (n : Int)).toNatClampNeg = n := by rw [zI_clamp hin]; omega
  have ek : (zI (k : Int)).toNatClampNeg = k := by rw [zI_clamp hik]; omega
  intro T hT X
  obtain ⟨vm₁, cA, comp, hW, f1, f2, hA, hI, X', st⟩ := X.multianewarray2K hC.1 (ty := .int) hC.2.2.2.1 (hC.2.2.2.2.1 _ hcl) (hC.2.2.2.2.2.1.2.2.1 _ hov).2 (hC.2.2.2.2.1 _ harr) (g := F0 m pc ls (.int (zI k) :: .int (zI n) :: rest)) rfl (by rw [hC.2.1]; exact hd) (n := zI n) (k := zI k) rfl (zI_neg hin (by omega)) (zI_neg hik (by omega)) (by rw [en]; omega) (by rw [ek]; show k * 4 ≤ _; omega) (by rw [ek]; omega) rfl rfl (by rw [en]; exact hcells) (by rw [en, ek]; exact hslots)
  rw [en, ek] at X' st
  have hcA : cA = P.2.1 5 := Option.some.inj (f1.symm.trans (hC.2.2.2.2.2.1.2.1 5 (by omega)).2)
  have hcI : comp = P.2.1 0 := Option.some.inj (f2.symm.trans (hC.2.2.2.2.2.1.2.1 0 (by omega)).2)
  subst hcA
  subst hcI
  generalize hF : Jvm.Free.Multi.fill (T.setVm vm₁) (P.2.1 5) (P.2.1 0) n k (defaultValue .int) n = TF at X' st
  have hTH : (T.setVm vm₁).heap = H := hT
  obtain ⟨z1, o1, -, -⟩ := Jvm.Free.Multi.fill_facts (T.setVm vm₁) (P.2.1 5) (P.2.1 0) n k (defaultValue .int) n
  have i1 := Jvm.Free.Multi.fill_inner (T.setVm vm₁) (P.2.1 5) (P.2.1 0) n k (defaultValue .int) n
  have k1 : ∀ a, a < H.size → TF.heap[a]? = H[a]? := fun a ha => by
    rw [← hF, Jvm.Free.Multi.fill_old _ _ _ _ _ _ (by rw [hTH]; exact ha)]
    exact congrArg (·[a]?) hTH
  rw [hF, hTH] at z1 o1
  simp only [hF, hTH] at i1
  have e1 : Jvm.Free.Multi.outerC (P.2.1 5) n H.size n = arrV (P.2.1 5) n (fun q => .ref (H.size + 1 + q)) := by
    obtain ⟨a1, a2, a3⟩ := Jvm.Free.Multi.outerC_facts (P.2.1 5) n H.size n
    have a4 := Jvm.Free.Multi.outerC_slot (P.2.1 5) n H.size n
    obtain ⟨a5, a6⟩ := z_outer (P.2.1 5) n H.size n
    generalize Jvm.Free.Multi.outerC (P.2.1 5) n H.size n = oc at a1 a2 a3 a4 a5 a6
    have hs : oc.slots = (arrV (P.2.1 5) n (fun q => Value.ref (H.size + 1 + q))).slots := by
      apply Array.ext_getElem?
      intro i
      by_cases hi : i < n
      · rw [a4 i hi, arrV_read _ _ hi, if_pos hi]
      · rw [Array.getElem?_eq_none (by rw [a3]; omega), Array.getElem?_eq_none (by rw [arrV_size]; omega)]
    obtain ⟨o1, o2, o3, o4, o5⟩ := oc
    simp only at a1 a2 a5 a6 hs
    subst a1; subst a2; subst a5; subst a6; subst hs
    rfl
  obtain ⟨g1, g2⟩ := hG.1.grid (hC.base hG) (n := n) (k := k) (by omega) (by omega) (by rw [o1, e1]) (fun j hj => by
    rw [i1 j hj]
    show some (Jvm.Free.Multi.innerC (P.2.1 0) k (.int 0)) = _
    rw [show Jvm.Free.Multi.innerC (P.2.1 0) k (.int 0) = arrV (P.2.1 0) k (fun _ => .int 0) from (by rw [← arrV_new]; rfl)]) k1
  have hzS : zS P s (zscG G H.size n k) TF.heap (locs ++ (List.range n).map fun j => ⟨T.heap.size, j⟩) := by
    refine ⟨g2, Nat.le_trans hG.2.1 (by omega), fun q h1 h2 => (k1 q (Nat.lt_of_lt_of_le h1 hG.2.1)).trans (hG.2.2.1 q h1 h2), fun q hq => ?_⟩
    rcases List.mem_append.mp hq with h | h
    · exact hG.2.2.2 q h
    · obtain ⟨z, -, hz⟩ := List.mem_map.mp h
      rw [← hz]
      show zB P ≤ T.heap.size
      rw [hT]
      exact hC.base hG
  obtain ⟨t, b1, b2⟩ := kk (some (.inl H.size)) _ TF.heap _ hzS (hV _ g1) TF rfl (by rw [show cells + (1 + n) = cells + 1 + n by omega, show slots + (n + n * k) = slots + n + n * k by omega]; exact X')
  refine ⟨t, st t ?_, b2⟩
  rw [hT]
  exact b1
end ZCT
