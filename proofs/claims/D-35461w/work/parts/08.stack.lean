/-! ROWS 3: the stack, locals, arithmetic, branches -/
set_option maxRecDepth 100000
section ZPS
variable {p : Program} {l : Launch} {e : Env} {R : Room} {s : State} {m : MethodId} {args : Array Value} {below : List Frame} {meth : Method} {c : Code} {H : Heap} {locs : List Loc} {cells slots : Nat} {Q : State → Prop}
variable {cc : ByteArray} {pc nL : Nat} {ls : Array Slot} {rest : List Value} {P : ZP} {G : ZG} {own : String}
theorem zrv_cat (P : ZP) (r : ZR) : (zrv P r).category = 1 := by
  rcases r with _ | a | o <;> rfl
theorem zrv_ref (P : ZP) (r : ZR) : zrv P r = .null ∨ ∃ a, zrv P r = .ref a := by
  rcases r with _ | a | o
  · exact Or.inl rfl
  · exact Or.inr ⟨_, rfl⟩
  · exact Or.inr ⟨_, rfl⟩
/-- a value of a reference -/
def zvr (v : Value) : Prop := v = .null ∨ ∃ a, v = .ref a
theorem zvr_a {a : Nat} : zvr (.ref a) := Or.inr ⟨_, rfl⟩
theorem zvr_r {P : ZP} {r : ZR} : zvr (zrv P r) := zrv_ref P r
theorem zvr_cat {v : Value} (h : zvr v) : v.category = 1 := by rcases h with rfl | ⟨a, rfl⟩ <;> rfl
theorem z_iconst (hC : zCx P p m c cc nL s args own) {n : Int} (hd : decode cc pc = .ok (.iconst n, 1))
    (kk : W p l e R s m args below meth c H locs cells slots Q (F0 m (pc + 1) ls (.int (zI n) :: rest))) : W p l e R s m args below meth c H locs cells slots Q (F0 m pc ls rest) := lv_iconst hC.1 hC.2.1 hd rfl kk
theorem z_bipush (hC : zCx P p m c cc nL s args own) {n : Int} (hv : (Int8.ofInt n).toInt32 = zI n) (hd : decode cc pc = .ok (.bipush n, 2))
    (kk : W p l e R s m args below meth c H locs cells slots Q (F0 m (pc + 2) ls (.int (zI n) :: rest))) : W p l e R s m args below meth c H locs cells slots Q (F0 m pc ls rest) := lv_bipush hC.1 hC.2.1 hd hv kk
theorem z_sipush (hC : zCx P p m c cc nL s args own) {n : Int} (hv : (Int16.ofInt n).toInt32 = zI n) (hd : decode cc pc = .ok (.sipush n, 3))
    (kk : W p l e R s m args below meth c H locs cells slots Q (F0 m (pc + 3) ls (.int (zI n) :: rest))) : W p l e R s m args below meth c H locs cells slots Q (F0 m pc ls rest) := lv_sipush hC.1 hC.2.1 hd hv kk
theorem z_iload_n (hC : zCx P p m c cc nL s args own) {k : Fin 4} {i : Nat} {x : Int} (hi : (k : Nat) = i) (hl : ls[i]? = some (.val (.int (zI x)))) (hd : decode cc pc = .ok (.iload_n k, 1))
    (kk : W p l e R s m args below meth c H locs cells slots Q (F0 m (pc + 1) ls (.int (zI x) :: rest))) : W p l e R s m args below meth c H locs cells slots Q (F0 m pc ls rest) := lv_iload_n hC.1 hC.2.1 hd hi hl kk
theorem z_iload (hC : zCx P p m c cc nL s args own) {i : Nat} {x : Int} (hl : ls[i]? = some (.val (.int (zI x)))) (hd : decode cc pc = .ok (.iload i, 2))
    (kk : W p l e R s m args below meth c H locs cells slots Q (F0 m (pc + 2) ls (.int (zI x) :: rest))) : W p l e R s m args below meth c H locs cells slots Q (F0 m pc ls rest) := lv_iload hC.1 hC.2.1 hd hl kk
theorem z_aload_n (hC : zCx P p m c cc nL s args own) {k : Fin 4} {i : Nat} {v : Value} (hr : zvr v) (hi : (k : Nat) = i) (hl : ls[i]? = some (.val v)) (hd : decode cc pc = .ok (.aload_n k, 1))
    (kk : W p l e R s m args below meth c H locs cells slots Q (F0 m (pc + 1) ls (v :: rest))) : W p l e R s m args below meth c H locs cells slots Q (F0 m pc ls rest) := by
  rcases hr with rfl | ⟨a, rfl⟩
  · exact lv_aload_nN hC.1 hC.2.1 hd hi hl kk
  · exact lv_aload_n hC.1 hC.2.1 hd hi hl kk
theorem z_aload (hC : zCx P p m c cc nL s args own) {i : Nat} {v : Value} (hr : zvr v) (hl : ls[i]? = some (.val v)) (hd : decode cc pc = .ok (.aload i, 2))
    (kk : W p l e R s m args below meth c H locs cells slots Q (F0 m (pc + 2) ls (v :: rest))) : W p l e R s m args below meth c H locs cells slots Q (F0 m pc ls rest) := by
  rcases hr with rfl | ⟨a, rfl⟩
  · exact lv_aloadN hC.1 hC.2.1 hd hl kk
  · exact lv_aload hC.1 hC.2.1 hd hl kk
/-- the locals after a store: the place's old value gone, the new one ahead -/
def zdel (i : Nat) (l : List (Nat × Value)) : List (Nat × Value) := l.filter (fun q => !(q.1 == i))
def zc1 (l : List (Nat × Value)) : Prop := ∀ q ∈ l, q.2.category = 1
theorem zdel_eq {i : Nat} {l : List (Nat × Value)} (h : zc1 l) : l.filter (fun q => !(q.1 == i) && !(q.1 + 1 == i && q.2.category == 2)) = zdel i l := by
  unfold zdel
  refine List.filter_congr fun q hq => ?_
  rw [h q hq]
  simp
theorem zc1_nil : zc1 [] := fun _ h => by cases h
theorem zc1_cons {i : Nat} {v : Value} {l : List (Nat × Value)} (hv : v.category = 1) (h : zc1 l) : zc1 ((i, v) :: l) := by
  intro q hq
  rcases List.mem_cons.mp hq with rfl | hq
  · exact hv
  · exact h q hq
theorem zc1_del {i : Nat} {l : List (Nat × Value)} (h : zc1 l) : zc1 (zdel i l) := fun q hq => h q (List.mem_filter.mp hq).1
/-- locals held -/
def zL (ls : Array Slot) (nL : Nat) (l : List (Nat × Value)) : Prop := lv_has ls nL l ∧ zc1 l
theorem zL.at {ls : Array Slot} {nL : Nat} {l : List (Nat × Value)} (h : zL ls nL l) (k : Nat) {i : Nat} {v : Value} (hk : l[k]? = some (i, v)) : ls[i]? = some (.val v) := lv_at h.1 k hk
theorem zL.sub {ls : Array Slot} {nL : Nat} {l l' : List (Nat × Value)} (h : zL ls nL l) (ks : List Nat) (hl : lv_pick l ks = l') : zL ls nL l' := by
  refine ⟨lv_sub h.1 ks hl, fun q hq => ?_⟩
  rw [← hl] at hq
  obtain ⟨k, -, hk⟩ := List.mem_filterMap.mp hq
  exact h.2 q (List.mem_of_getElem? hk)
theorem z_istore_n (hC : zCx P p m c cc nL s args own) {k : Fin 4} {i : Nat} {x : Int} (hi : (k : Nat) = i) {lv lv' : List (Nat × Value)} (h : zL ls nL lv) (hn : i < nL) (hl : (i, .int (zI x)) :: zdel i lv = lv') (hd : decode cc pc = .ok (.istore_n k, 1))
    (kk : ∀ ls' : Array Slot, zL ls' nL lv' → W p l e R s m args below meth c H locs cells slots Q (F0 m (pc + 1) ls' rest)) : W p l e R s m args below meth c H locs cells slots Q (F0 m pc ls (.int (zI x) :: rest)) := lv_istore_n hC.1 hC.2.1 hd hi h.1 hn rfl (fun ls' hl' => kk ls' ⟨by rw [← hl, ← zdel_eq h.2]; exact hl', by rw [← hl]; exact zc1_cons rfl (zc1_del h.2)⟩)
theorem z_istore (hC : zCx P p m c cc nL s args own) {i : Nat} {x : Int} {lv lv' : List (Nat × Value)} (h : zL ls nL lv) (hn : i < nL) (hl : (i, .int (zI x)) :: zdel i lv = lv') (hd : decode cc pc = .ok (.istore i, 2))
    (kk : ∀ ls' : Array Slot, zL ls' nL lv' → W p l e R s m args below meth c H locs cells slots Q (F0 m (pc + 2) ls' rest)) : W p l e R s m args below meth c H locs cells slots Q (F0 m pc ls (.int (zI x) :: rest)) := lv_istore hC.1 hC.2.1 hd h.1 hn rfl (fun ls' hl' => kk ls' ⟨by rw [← hl, ← zdel_eq h.2]; exact hl', by rw [← hl]; exact zc1_cons rfl (zc1_del h.2)⟩)
theorem z_astore_n (hC : zCx P p m c cc nL s args own) {k : Fin 4} {i : Nat} {v : Value} (hr : zvr v) (hi : (k : Nat) = i) {lv lv' : List (Nat × Value)} (h : zL ls nL lv) (hn : i < nL) (hl : (i, v) :: zdel i lv = lv') (hd : decode cc pc = .ok (.astore_n k, 1))
    (kk : ∀ ls' : Array Slot, zL ls' nL lv' → W p l e R s m args below meth c H locs cells slots Q (F0 m (pc + 1) ls' rest)) : W p l e R s m args below meth c H locs cells slots Q (F0 m pc ls (v :: rest)) := by
  have hc := zvr_cat hr
  rcases hr with rfl | ⟨a, rfl⟩
  · exact lv_astore_nN hC.1 hC.2.1 hd hi h.1 hn rfl (fun ls' hl' => kk ls' ⟨by rw [← hl, ← zdel_eq h.2]; exact hl', by rw [← hl]; exact zc1_cons rfl (zc1_del h.2)⟩)
  · exact lv_astore_n hC.1 hC.2.1 hd hi h.1 hn rfl (fun ls' hl' => kk ls' ⟨by rw [← hl, ← zdel_eq h.2]; exact hl', by rw [← hl]; exact zc1_cons rfl (zc1_del h.2)⟩)
theorem z_astore (hC : zCx P p m c cc nL s args own) {i : Nat} {v : Value} (hr : zvr v) {lv lv' : List (Nat × Value)} (h : zL ls nL lv) (hn : i < nL) (hl : (i, v) :: zdel i lv = lv') (hd : decode cc pc = .ok (.astore i, 2))
    (kk : ∀ ls' : Array Slot, zL ls' nL lv' → W p l e R s m args below meth c H locs cells slots Q (F0 m (pc + 2) ls' rest)) : W p l e R s m args below meth c H locs cells slots Q (F0 m pc ls (v :: rest)) := by
  have hc := zvr_cat hr
  rcases hr with rfl | ⟨a, rfl⟩
  · exact lv_astoreN hC.1 hC.2.1 hd h.1 hn rfl (fun ls' hl' => kk ls' ⟨by rw [← hl, ← zdel_eq h.2]; exact hl', by rw [← hl]; exact zc1_cons rfl (zc1_del h.2)⟩)
  · exact lv_astore hC.1 hC.2.1 hd h.1 hn rfl (fun ls' hl' => kk ls' ⟨by rw [← hl, ← zdel_eq h.2]; exact hl', by rw [← hl]; exact zc1_cons rfl (zc1_del h.2)⟩)
theorem z_iinc (hC : zCx P p m c cc nL s args own) {i k : Nat} {n x : Int} {lv lv' : List (Nat × Value)} (h : zL ls nL lv) (hk : lv[k]? = some (i, .int (zI x))) (hn : i < nL) (hl : (i, .int (zI (w32 (x + n)))) :: zdel i lv = lv') (hd : decode cc pc = .ok (.iinc i n, 3))
    (kk : ∀ ls' : Array Slot, zL ls' nL lv' → W p l e R s m args below meth c H locs cells slots Q (F0 m (pc + 3) ls' rest)) : W p l e R s m args below meth c H locs cells slots Q (F0 m pc ls rest) := lv_iinc hC.1 hC.2.1 hd h.1 hk (zI_add x n) hn rfl (fun ls' hl' => kk ls' ⟨by rw [← hl, ← zdel_eq h.2]; exact hl', by rw [← hl]; exact zc1_cons rfl (zc1_del h.2)⟩)
theorem z_iadd (hC : zCx P p m c cc nL s args own) {x y : Int} (hd : decode cc pc = .ok (.iadd, 1))
    (kk : W p l e R s m args below meth c H locs cells slots Q (F0 m (pc + 1) ls (.int (zI (w32 (x + y))) :: rest))) : W p l e R s m args below meth c H locs cells slots Q (F0 m pc ls (.int (zI y) :: .int (zI x) :: rest)) := lv_iadd hC.1 hC.2.1 hd (by rw [zI_add]; exact kk)
theorem z_isub (hC : zCx P p m c cc nL s args own) {x y : Int} (hd : decode cc pc = .ok (.isub, 1))
    (kk : W p l e R s m args below meth c H locs cells slots Q (F0 m (pc + 1) ls (.int (zI (w32 (x - y))) :: rest))) : W p l e R s m args below meth c H locs cells slots Q (F0 m pc ls (.int (zI y) :: .int (zI x) :: rest)) := lv_isub hC.1 hC.2.1 hd (by rw [zI_sub]; exact kk)
theorem z_imul (hC : zCx P p m c cc nL s args own) {x y : Int} (hd : decode cc pc = .ok (.imul, 1))
    (kk : W p l e R s m args below meth c H locs cells slots Q (F0 m (pc + 1) ls (.int (zI (w32 (x * y))) :: rest))) : W p l e R s m args below meth c H locs cells slots Q (F0 m pc ls (.int (zI y) :: .int (zI x) :: rest)) := lv_imul hC.1 hC.2.1 hd (by rw [zI_mul]; exact kk)
theorem z_iand (hC : zCx P p m c cc nL s args own) {x y : Int} (hd : decode cc pc = .ok (.iand, 1))
    (kk : W p l e R s m args below meth c H locs cells slots Q (F0 m (pc + 1) ls (.int (zI (bAnd x y)) :: rest))) : W p l e R s m args below meth c H locs cells slots Q (F0 m pc ls (.int (zI y) :: .int (zI x) :: rest)) := lv_iand hC.1 hC.2.1 hd (by rw [show zI (bAnd x y) = _ from zI_of _] at kk; exact kk)
theorem z_ior (hC : zCx P p m c cc nL s args own) {x y : Int} (hd : decode cc pc = .ok (.ior, 1))
    (kk : W p l e R s m args below meth c H locs cells slots Q (F0 m (pc + 1) ls (.int (zI (bOr x y)) :: rest))) : W p l e R s m args below meth c H locs cells slots Q (F0 m pc ls (.int (zI y) :: .int (zI x) :: rest)) := lv_ior hC.1 hC.2.1 hd (by rw [show zI (bOr x y) = _ from zI_of _] at kk; exact kk)
theorem z_ixor (hC : zCx P p m c cc nL s args own) {x y : Int} (hd : decode cc pc = .ok (.ixor, 1))
    (kk : W p l e R s m args below meth c H locs cells slots Q (F0 m (pc + 1) ls (.int (zI (bXor x y)) :: rest))) : W p l e R s m args below meth c H locs cells slots Q (F0 m pc ls (.int (zI y) :: .int (zI x) :: rest)) := lv_ixor hC.1 hC.2.1 hd (by rw [show zI (bXor x y) = _ from zI_of _] at kk; exact kk)
theorem z_ishl (hC : zCx P p m c cc nL s args own) {x y : Int} (hd : decode cc pc = .ok (.ishl, 1))
    (kk : W p l e R s m args below meth c H locs cells slots Q (F0 m (pc + 1) ls (.int (zI (bShl x y)) :: rest))) : W p l e R s m args below meth c H locs cells slots Q (F0 m pc ls (.int (zI y) :: .int (zI x) :: rest)) := lv_ishl hC.1 hC.2.1 hd (by rw [show zI (bShl x y) = _ from zI_of _] at kk; exact kk)
theorem z_ishr (hC : zCx P p m c cc nL s args own) {x y : Int} (hd : decode cc pc = .ok (.ishr, 1))
    (kk : W p l e R s m args below meth c H locs cells slots Q (F0 m (pc + 1) ls (.int (zI (bShr x y)) :: rest))) : W p l e R s m args below meth c H locs cells slots Q (F0 m pc ls (.int (zI y) :: .int (zI x) :: rest)) := lv_ishr hC.1 hC.2.1 hd (by rw [show zI (bShr x y) = _ from zI_of _] at kk; exact kk)
theorem z_iushr (hC : zCx P p m c cc nL s args own) {x y : Int} (hd : decode cc pc = .ok (.iushr, 1))
    (kk : W p l e R s m args below meth c H locs cells slots Q (F0 m (pc + 1) ls (.int (zI (bUshr x y)) :: rest))) : W p l e R s m args below meth c H locs cells slots Q (F0 m pc ls (.int (zI y) :: .int (zI x) :: rest)) := lv_iushr hC.1 hC.2.1 hd rfl (by rw [show zI (bUshr x y) = _ from zI_of _] at kk; exact kk)
theorem z_idiv (hC : zCx P p m c cc nL s args own) {x y : Int} (hy : inR y) {V : Prop} (hV : zn0 y ∧ V) (hd : decode cc pc = .ok (.idiv, 1))
    (kk : V → W p l e R s m args below meth c H locs cells slots Q (F0 m (pc + 1) ls (.int (zI (dDiv x y)) :: rest))) : W p l e R s m args below meth c H locs cells slots Q (F0 m pc ls (.int (zI y) :: .int (zI x) :: rest)) := lv_idiv hC.1 hC.2.1 hd (fun z => hV.1 ((zI_eq hy inR_0).mp z)) (by rw [show zI (dDiv x y) = _ from zI_of _] at kk; exact kk hV.2)
theorem z_irem (hC : zCx P p m c cc nL s args own) {x y : Int} (hy : inR y) {V : Prop} (hV : zn0 y ∧ V) (hd : decode cc pc = .ok (.irem, 1))
    (kk : V → W p l e R s m args below meth c H locs cells slots Q (F0 m (pc + 1) ls (.int (zI (dRem x y)) :: rest))) : W p l e R s m args below meth c H locs cells slots Q (F0 m pc ls (.int (zI y) :: .int (zI x) :: rest)) := lv_irem hC.1 hC.2.1 hd (fun z => hV.1 ((zI_eq hy inR_0).mp z)) (by rw [show zI (dRem x y) = _ from zI_of _] at kk; exact kk hV.2)
theorem z_ineg (hC : zCx P p m c cc nL s args own) {x : Int} (hd : decode cc pc = .ok (.ineg, 1))
    (kk : W p l e R s m args below meth c H locs cells slots Q (F0 m (pc + 1) ls (.int (zI (dNeg x)) :: rest))) : W p l e R s m args below meth c H locs cells slots Q (F0 m pc ls (.int (zI x) :: rest)) := lv_ineg hC.1 hC.2.1 hd (by rw [show zI (dNeg x) = _ from zI_of _] at kk; exact kk)
theorem z_dup (hC : zCx P p m c cc nL s args own) {v : Value} (hv : v.category = 1) (hd : decode cc pc = .ok (.dup, 1))
    (kk : W p l e R s m args below meth c H locs cells slots Q (F0 m (pc + 1) ls (v :: v :: rest))) : W p l e R s m args below meth c H locs cells slots Q (F0 m pc ls (v :: rest)) := lv_dup hC.1 hC.2.1 hd hv kk
theorem z_pop (hC : zCx P p m c cc nL s args own) {v : Value} (hv : v.category = 1) (hd : decode cc pc = .ok (.pop, 1))
    (kk : W p l e R s m args below meth c H locs cells slots Q (F0 m (pc + 1) ls rest)) : W p l e R s m args below meth c H locs cells slots Q (F0 m pc ls (v :: rest)) := lv_pop hC.1 hC.2.1 hd hv kk
theorem z_dup2 (hC : zCx P p m c cc nL s args own) {v w : Value} (hv : v.category = 1) (hw : w.category = 1) (hd : decode cc pc = .ok (.dup2, 1))
    (kk : W p l e R s m args below meth c H locs cells slots Q (F0 m (pc + 1) ls (v :: w :: v :: w :: rest))) : W p l e R s m args below meth c H locs cells slots Q (F0 m pc ls (v :: w :: rest)) := lv_dup2_11 hC.1 hC.2.1 hd hv hw kk
theorem z_dup_x1 (hC : zCx P p m c cc nL s args own) {v w : Value} (hv : v.category = 1) (hw : w.category = 1) (hd : decode cc pc = .ok (.dup_x1, 1))
    (kk : W p l e R s m args below meth c H locs cells slots Q (F0 m (pc + 1) ls (v :: w :: v :: rest))) : W p l e R s m args below meth c H locs cells slots Q (F0 m pc ls (v :: w :: rest)) := lv_dup_x1 hC.1 hC.2.1 hd hv hw kk
theorem z_null (hC : zCx P p m c cc nL s args own) (hd : decode cc pc = .ok (.aconst_null, 1))
    (kk : W p l e R s m args below meth c H locs cells slots Q (F0 m (pc + 1) ls (zrv P none :: rest))) : W p l e R s m args below meth c H locs cells slots Q (F0 m pc ls rest) := lv_null hC.1 hC.2.1 hd kk
theorem z_goto (hC : zCx P p m c cc nL s args own) {off : Int} {tgt : Nat} (hd : decode cc pc = .ok (.goto off, 3)) (ht : (pc : Int) + off = (tgt : Int))
    (kk : W p l e R s m args below meth c H locs cells slots Q (F0 m tgt ls rest)) : W p l e R s m args below meth c H locs cells slots Q (F0 m pc ls rest) := lv_goto hC.1 hC.2.1 hd ht kk
theorem z_icmp_eq (hC : zCx P p m c cc nL s args own) {x y : Int} {off : Int} {tgt : Nat} {VA VB : Prop} (hx : inR x) (hy : inR y) (hV : zbr (x = y) VA VB) (hd : decode cc pc = .ok (.if_icmp .eq off, 3)) (ht : (pc : Int) + off = (tgt : Int))
    (kt : VA → W p l e R s m args below meth c H locs cells slots Q (F0 m tgt ls rest)) (kf : VB → W p l e R s m args below meth c H locs cells slots Q (F0 m (pc + 3) ls rest)) : W p l e R s m args below meth c H locs cells slots Q (F0 m pc ls (.int (zI y) :: .int (zI x) :: rest)) :=
  lv_icmp_eq hC.1 hC.2.1 hd ht (fun z => kt (hV.1 ((zI_eq hx hy).mp z))) (fun z => kf (hV.2 (fun w => z ((zI_eq hx hy).mpr w))))
theorem z_if_eq (hC : zCx P p m c cc nL s args own) {x : Int} {off : Int} {tgt : Nat} {VA VB : Prop} (hx : inR x) (hV : zbr (x = 0) VA VB) (hd : decode cc pc = .ok (.ifCond .eq off, 3)) (ht : (pc : Int) + off = (tgt : Int))
    (kt : VA → W p l e R s m args below meth c H locs cells slots Q (F0 m tgt ls rest)) (kf : VB → W p l e R s m args below meth c H locs cells slots Q (F0 m (pc + 3) ls rest)) : W p l e R s m args below meth c H locs cells slots Q (F0 m pc ls (.int (zI x) :: rest)) :=
  lv_if_eq hC.1 hC.2.1 hd ht (fun z => kt (hV.1 ((zI_eq hx inR_0).mp z))) (fun z => kf (hV.2 (fun w => z ((zI_eq hx inR_0).mpr w))))
theorem z_icmp_ne (hC : zCx P p m c cc nL s args own) {x y : Int} {off : Int} {tgt : Nat} {VA VB : Prop} (hx : inR x) (hy : inR y) (hV : zbr (x ≠ y) VA VB) (hd : decode cc pc = .ok (.if_icmp .ne off, 3)) (ht : (pc : Int) + off = (tgt : Int))
    (kt : VA → W p l e R s m args below meth c H locs cells slots Q (F0 m tgt ls rest)) (kf : VB → W p l e R s m args below meth c H locs cells slots Q (F0 m (pc + 3) ls rest)) : W p l e R s m args below meth c H locs cells slots Q (F0 m pc ls (.int (zI y) :: .int (zI x) :: rest)) :=
  lv_icmp_ne hC.1 hC.2.1 hd ht (fun z => kt (hV.1 (fun w => z ((zI_eq hx hy).mpr w)))) (fun z => kf (hV.2 (fun w => w ((zI_eq hx hy).mp z))))
theorem z_if_ne (hC : zCx P p m c cc nL s args own) {x : Int} {off : Int} {tgt : Nat} {VA VB : Prop} (hx : inR x) (hV : zbr (x ≠ 0) VA VB) (hd : decode cc pc = .ok (.ifCond .ne off, 3)) (ht : (pc : Int) + off = (tgt : Int))
    (kt : VA → W p l e R s m args below meth c H locs cells slots Q (F0 m tgt ls rest)) (kf : VB → W p l e R s m args below meth c H locs cells slots Q (F0 m (pc + 3) ls rest)) : W p l e R s m args below meth c H locs cells slots Q (F0 m pc ls (.int (zI x) :: rest)) :=
  lv_if_ne hC.1 hC.2.1 hd ht (fun z => kt (hV.1 (fun w => z ((zI_eq hx inR_0).mpr w)))) (fun z => kf (hV.2 (fun w => w ((zI_eq hx inR_0).mp z))))
theorem z_icmp_lt (hC : zCx P p m c cc nL s args own) {x y : Int} {off : Int} {tgt : Nat} {VA VB : Prop} (hx : inR x) (hy : inR y) (hV : zbr (x < y) VA VB) (hd : decode cc pc = .ok (.if_icmp .lt off, 3)) (ht : (pc : Int) + off = (tgt : Int))
    (kt : VA → W p l e R s m args below meth c H locs cells slots Q (F0 m tgt ls rest)) (kf : VB → W p l e R s m args below meth c H locs cells slots Q (F0 m (pc + 3) ls rest)) : W p l e R s m args below meth c H locs cells slots Q (F0 m pc ls (.int (zI y) :: .int (zI x) :: rest)) :=
  lv_icmp_lt hC.1 hC.2.1 hd ht (fun z => kt (hV.1 ((zI_lt hx hy).mp z))) (fun z => kf (hV.2 (fun w => z ((zI_lt hx hy).mpr w))))
theorem z_if_lt (hC : zCx P p m c cc nL s args own) {x : Int} {off : Int} {tgt : Nat} {VA VB : Prop} (hx : inR x) (hV : zbr (x < 0) VA VB) (hd : decode cc pc = .ok (.ifCond .lt off, 3)) (ht : (pc : Int) + off = (tgt : Int))
    (kt : VA → W p l e R s m args below meth c H locs cells slots Q (F0 m tgt ls rest)) (kf : VB → W p l e R s m args below meth c H locs cells slots Q (F0 m (pc + 3) ls rest)) : W p l e R s m args below meth c H locs cells slots Q (F0 m pc ls (.int (zI x) :: rest)) :=
  lv_if_lt hC.1 hC.2.1 hd ht (fun z => kt (hV.1 ((zI_lt hx inR_0).mp z))) (fun z => kf (hV.2 (fun w => z ((zI_lt hx inR_0).mpr w))))
theorem z_icmp_ge (hC : zCx P p m c cc nL s args own) {x y : Int} {off : Int} {tgt : Nat} {VA VB : Prop} (hx : inR x) (hy : inR y) (hV : zbr (y ≤ x) VA VB) (hd : decode cc pc = .ok (.if_icmp .ge off, 3)) (ht : (pc : Int) + off = (tgt : Int))
    (kt : VA → W p l e R s m args below meth c H locs cells slots Q (F0 m tgt ls rest)) (kf : VB → W p l e R s m args below meth c H locs cells slots Q (F0 m (pc + 3) ls rest)) : W p l e R s m args below meth c H locs cells slots Q (F0 m pc ls (.int (zI y) :: .int (zI x) :: rest)) :=
  lv_icmp_ge hC.1 hC.2.1 hd ht (fun z => kt (hV.1 ((zI_le hy hx).mp z))) (fun z => kf (hV.2 (fun w => z ((zI_le hy hx).mpr w))))
theorem z_if_ge (hC : zCx P p m c cc nL s args own) {x : Int} {off : Int} {tgt : Nat} {VA VB : Prop} (hx : inR x) (hV : zbr (0 ≤ x) VA VB) (hd : decode cc pc = .ok (.ifCond .ge off, 3)) (ht : (pc : Int) + off = (tgt : Int))
    (kt : VA → W p l e R s m args below meth c H locs cells slots Q (F0 m tgt ls rest)) (kf : VB → W p l e R s m args below meth c H locs cells slots Q (F0 m (pc + 3) ls rest)) : W p l e R s m args below meth c H locs cells slots Q (F0 m pc ls (.int (zI x) :: rest)) :=
  lv_if_ge hC.1 hC.2.1 hd ht (fun z => kt (hV.1 ((zI_le inR_0 hx).mp z))) (fun z => kf (hV.2 (fun w => z ((zI_le inR_0 hx).mpr w))))
theorem z_icmp_gt (hC : zCx P p m c cc nL s args own) {x y : Int} {off : Int} {tgt : Nat} {VA VB : Prop} (hx : inR x) (hy : inR y) (hV : zbr (y < x) VA VB) (hd : decode cc pc = .ok (.if_icmp .gt off, 3)) (ht : (pc : Int) + off = (tgt : Int))
    (kt : VA → W p l e R s m args below meth c H locs cells slots Q (F0 m tgt ls rest)) (kf : VB → W p l e R s m args below meth c H locs cells slots Q (F0 m (pc + 3) ls rest)) : W p l e R s m args below meth c H locs cells slots Q (F0 m pc ls (.int (zI y) :: .int (zI x) :: rest)) :=
  lv_icmp_gt hC.1 hC.2.1 hd ht (fun z => kt (hV.1 ((zI_lt hy hx).mp z))) (fun z => kf (hV.2 (fun w => z ((zI_lt hy hx).mpr w))))
theorem z_if_gt (hC : zCx P p m c cc nL s args own) {x : Int} {off : Int} {tgt : Nat} {VA VB : Prop} (hx : inR x) (hV : zbr (0 < x) VA VB) (hd : decode cc pc = .ok (.ifCond .gt off, 3)) (ht : (pc : Int) + off = (tgt : Int))
    (kt : VA → W p l e R s m args below meth c H locs cells slots Q (F0 m tgt ls rest)) (kf : VB → W p l e R s m args below meth c H locs cells slots Q (F0 m (pc + 3) ls rest)) : W p l e R s m args below meth c H locs cells slots Q (F0 m pc ls (.int (zI x) :: rest)) :=
  lv_if_gt hC.1 hC.2.1 hd ht (fun z => kt (hV.1 ((zI_lt inR_0 hx).mp z))) (fun z => kf (hV.2 (fun w => z ((zI_lt inR_0 hx).mpr w))))
theorem z_icmp_le (hC : zCx P p m c cc nL s args own) {x y : Int} {off : Int} {tgt : Nat} {VA VB : Prop} (hx : inR x) (hy : inR y) (hV : zbr (x ≤ y) VA VB) (hd : decode cc pc = .ok (.if_icmp .le off, 3)) (ht : (pc : Int) + off = (tgt : Int))
    (kt : VA → W p l e R s m args below meth c H locs cells slots Q (F0 m tgt ls rest)) (kf : VB → W p l e R s m args below meth c H locs cells slots Q (F0 m (pc + 3) ls rest)) : W p l e R s m args below meth c H locs cells slots Q (F0 m pc ls (.int (zI y) :: .int (zI x) :: rest)) :=
  lv_icmp_le hC.1 hC.2.1 hd ht (fun z => kt (hV.1 ((zI_le hx hy).mp z))) (fun z => kf (hV.2 (fun w => z ((zI_le hx hy).mpr w))))
theorem z_if_le (hC : zCx P p m c cc nL s args own) {x : Int} {off : Int} {tgt : Nat} {VA VB : Prop} (hx : inR x) (hV : zbr (x ≤ 0) VA VB) (hd : decode cc pc = .ok (.ifCond .le off, 3)) (ht : (pc : Int) + off = (tgt : Int))
    (kt : VA → W p l e R s m args below meth c H locs cells slots Q (F0 m tgt ls rest)) (kf : VB → W p l e R s m args below meth c H locs cells slots Q (F0 m (pc + 3) ls rest)) : W p l e R s m args below meth c H locs cells slots Q (F0 m pc ls (.int (zI x) :: rest)) :=
  lv_if_le hC.1 hC.2.1 hd ht (fun z => kt (hV.1 ((zI_le hx inR_0).mp z))) (fun z => kf (hV.2 (fun w => z ((zI_le hx inR_0).mpr w))))
theorem z_ifnull (hC : zCx P p m c cc nL s args own) {r : ZR} {off : Int} {tgt : Nat} {VA VB : Prop} (hV : zbr (r = none) VA VB) (hd : decode cc pc = .ok (.ifnull off, 3)) (ht : (pc : Int) + off = (tgt : Int))
    (kt : VA → W p l e R s m args below meth c H locs cells slots Q (F0 m tgt ls rest)) (kf : VB → W p l e R s m args below meth c H locs cells slots Q (F0 m (pc + 3) ls rest)) : W p l e R s m args below meth c H locs cells slots Q (F0 m pc ls (zrv P r :: rest)) := by
  rcases r with _ | a | o
  · exact lv_ifnullN hC.1 hC.2.1 hd ht (kt (hV.1 rfl))
  · exact lv_ifnull hC.1 hC.2.1 hd (kf (hV.2 (fun h => by cases h)))
  · exact lv_ifnull hC.1 hC.2.1 hd (kf (hV.2 (fun h => by cases h)))
theorem z_ifnonnull (hC : zCx P p m c cc nL s args own) {r : ZR} {off : Int} {tgt : Nat} {VA VB : Prop} (hV : zbr (r ≠ none) VA VB) (hd : decode cc pc = .ok (.ifnonnull off, 3)) (ht : (pc : Int) + off = (tgt : Int))
    (kt : VA → W p l e R s m args below meth c H locs cells slots Q (F0 m tgt ls rest)) (kf : VB → W p l e R s m args below meth c H locs cells slots Q (F0 m (pc + 3) ls rest)) : W p l e R s m args below meth c H locs cells slots Q (F0 m pc ls (zrv P r :: rest)) := by
  rcases r with _ | a | o
  · exact lv_ifnonnullN hC.1 hC.2.1 hd (kf (hV.2 (fun h => h rfl)))
  · exact lv_ifnonnull hC.1 hC.2.1 hd ht (kt (hV.1 (fun h => by cases h)))
  · exact lv_ifnonnull hC.1 hC.2.1 hd ht (kt (hV.1 (fun h => by cases h)))
end ZPS
