/-! ROWS 5: names for values, lengths, grids, switches -/
set_option maxRecDepth 100000
section ZMO
variable {p : Program} {l : Launch} {e : Env} {R : Room} {s : State} {m : MethodId} {args : Array Value} {below : List Frame} {meth : Method} {c : Code} {H : Heap} {locs : List Loc} {cells slots : Nat} {Q : State → Prop}
variable {cc : ByteArray} {pc nL : Nat} {ls : Array Slot} {rest : List Value} {P : ZP} {G : ZG} {own : String}
theorem z_top {x : Int} {V : Int → Prop} (hV : zlt1 x V) (hx : inR x) (kk : ∀ y, inR y → V y → W p l e R s m args below meth c H locs cells slots Q (F0 m pc ls (.int (zI y) :: rest))) : W p l e R s m args below meth c H locs cells slots Q (F0 m pc ls (.int (zI x) :: rest)) := kk x hx (hV x rfl)
theorem z_topb {x : Int} {V : Int → Prop} (hV : zlt1 x V) (hx : x = 0 ∨ x = 1) (kk : ∀ y, (y = 0 ∨ y = 1) → V y → W p l e R s m args below meth c H locs cells slots Q (F0 m pc ls (.int (zI y) :: rest))) : W p l e R s m args below meth c H locs cells slots Q (F0 m pc ls (.int (zI x) :: rest)) := kk x hx (hV x rfl)
theorem z_iincV (lv' : Int → List (Nat × Value)) (hC : zCx P p m c cc nL s args own) {i k : Nat} {n x : Int} {lv : List (Nat × Value)} {V : Int → Prop} (h : zL ls nL lv) (hk : lv[k]? = some (i, .int (zI x))) (hn : i < nL) (hl : ∀ y, (i, .int (zI y)) :: zdel i lv = lv' y) (hV : zlt1 (w32 (x + n)) V) (hd : decode cc pc = .ok (.iinc i n, 3))
    (kk : ∀ y, inR y → V y → ∀ ls' : Array Slot, zL ls' nL (lv' y) → W p l e R s m args below meth c H locs cells slots Q (F0 m (pc + 3) ls' rest)) : W p l e R s m args below meth c H locs cells slots Q (F0 m pc ls rest) :=
  z_iinc hC h hk hn (hl _) hd (kk _ (inR_w _) (hV _ rfl))
theorem z_ldc (hC : zCx P p m c cc nL s args own) {idx : Nat} {v : Int32} {n : Int} (hw : Cond.constant own idx v ∈ lw_all) (hv : v = zI n) (hd : decode cc pc = .ok (.ldc idx, 2))
    (kk : W p l e R s m args below meth c H locs cells slots Q (F0 m (pc + 2) ls (.int (zI n) :: rest))) : W p l e R s m args below meth c H locs cells slots Q (F0 m pc ls rest) := by
  subst hv
  exact W.ldc hC.1 hC.2.1 hC.2.2.2.1 (hC.2.2.2.2.1 _ hw) rfl hd kk
theorem z_ldcw (hC : zCx P p m c cc nL s args own) {idx : Nat} {v : Int32} {n : Int} (hw : Cond.constant own idx v ∈ lw_all) (hv : v = zI n) (hd : decode cc pc = .ok (.ldc_w idx, 3))
    (kk : W p l e R s m args below meth c H locs cells slots Q (F0 m (pc + 3) ls (.int (zI n) :: rest))) : W p l e R s m args below meth c H locs cells slots Q (F0 m pc ls rest) := by
  subst hv
  exact lv_ldcw hC.1 hC.2.1 hC.2.2.2.1 (hC.2.2.2.2.1 _ hw) hd kk
theorem z_alenA (hC : zCx P p m c cc nL s args own) (hG : zS P s G H locs) {o ci k n : Nat} (hc : tCls o = ci) (hk : tAk ci k = 1) (hn : tAl ci k = n) (hd : decode cc pc = .ok (.arraylength, 1))
    (kk : W p l e R s m args below meth c H locs cells slots Q (F0 m (pc + 1) ls (.int (zI n) :: rest))) : W p l e R s m args below meth c H locs cells slots Q (F0 m pc ls (.ref (zA P o (k + 1) 0) :: rest)) := by
  have hat := hG.1.1 o (k + 1) 0 (zvd_arr hc hk)
  subst hc
  simp only [zfx, hk, hn] at hat
  have har : ArrOfT s (P.2.1 0) .int := (hC.2.2.2.2.2.1.2.1 0 (by omega)).1
  refine W.alen (n := zI n) hC.1 hC.2.1 hat (har n _) ?_ rfl rfl hd kk
  rw [arrV_size, zI_nat]
theorem z_tsw (hC : zCx P p m c cc nL s args own) {x dflt lo hi : Int} {offs : Array Int} {len tgt : Nat} (hx : inR x) (hd : decode cc pc = .ok (.tableswitch dflt lo hi offs, len)) (ht : (pc : Int) + (if x < lo ∨ hi < x then dflt else (offs[(x - lo).toNat]?).getD 0) = (tgt : Int)) (hs : ∀ i : Nat, (i : Int) ≤ hi - lo → i < offs.size)
    (kk : W p l e R s m args below meth c H locs cells slots Q (F0 m tgt ls rest)) : W p l e R s m args below meth c H locs cells slots Q (F0 m pc ls (.int (zI x) :: rest)) := by
  by_cases h : x < lo ∨ hi < x
  · rw [if_pos h] at ht
    exact lv_tableOut hC.1 hC.2.1 hd (by rw [zI_toInt hx]; exact h) ht kk
  · rw [if_neg h] at ht
    have hi2 : (x - lo).toNat < offs.size := hs _ (by omega)
    rw [Array.getElem?_eq_getElem hi2, Option.getD_some] at ht
    exact lv_tableIn hC.1 hC.2.1 hd (by rw [zI_toInt hx]; omega) (by rw [zI_toInt hx]; omega) (by rw [zI_toInt hx]; exact Array.getElem?_eq_getElem hi2) ht kk
/-- a case of a switch -/
theorem z_case {g : JFrame} {x v : Int} {VA VB : Prop} (hV : zbr (x = v) VA VB) (kt : x = v → VA → W p l e R s m args below meth c H locs cells slots Q g) (kf : x ≠ v → VB → W p l e R s m args below meth c H locs cells slots Q g) : W p l e R s m args below meth c H locs cells slots Q g := by
  by_cases h : x = v
  · exact kt h (hV.1 h)
  · exact kf h (hV.2 h)
end ZMO
