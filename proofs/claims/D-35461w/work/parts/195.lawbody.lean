/-! ROWS 11: the law's own body -/
set_option maxRecDepth 100000
def zsL (xs : Nat → Int32) (L : Nat) (i : Int) (Q : Int → Prop) : Prop := 0 ≤ i ∧ i < (L : Int) ∧ Q (xs i.toNat).toInt
def zcmp (x y : Int) : Int := if x < y then -1 else if x = y then 0 else 1
theorem zcmp_in (x y : Int) : inR (zcmp x y) := by unfold zcmp inR; split <;> first | omega | (split <;> omega)
def zLSW (own : String) (idx : Nat) (y : MethodName) (cc : ByteArray) (maxL : Nat) (ret : Option FieldType) (hh : List (Nat × Nat × Nat × Nat)) (n : Nat) : Prop := GoodIn lw_all (va_wsS own idx y (wsW_ y cc maxL ret hh)) ∧ zPd y n
section ZLB
variable {p : Program} {l : Launch} {e : Env} {R : Room} {s : State} {m : MethodId} {args : Array Value} {below : List Frame} {meth : Method} {c : Code} {H : Heap} {locs : List Loc} {cells slots : Nat} {Q : State → Prop}
variable {cc : ByteArray} {pc nL : Nat} {ls : Array Slot} {rest st0 : List Value} {P : ZP} {G : ZG} {own : String} {mc ms mc' ms' : Nat}
/-- the script is there, and nobody writes it -/
def zScr (P : ZP) (s : State) (b L : Nat) (xs : Nat → Int32) : Prop := va_X b L xs s s.heap ∧ b < s.heap.size ∧ ¬ zB P ≤ b
theorem z_sld (hC : zCx P p m c cc nL s args own) (hG : zS P s G H locs) {b L : Nat} {xs : Nat → Int32} (hX : zScr P s b L xs) {i : Int} {V : Int → Prop} (hi : inR i) (hV : zsL xs L i V) (hd : decode cc pc = .ok (.iaload, 1))
    (kk : ∀ x, inR x → V x → W p l e R s m args below meth c H locs cells slots Q (F0 m (pc + 1) ls (.int (zI x) :: rest))) : W p l e R s m args below meth c H locs cells slots Q (F0 m pc ls (.int (zI i) :: .ref b :: rest)) := by
  obtain ⟨h0, h1, hV⟩ := hV
  refine va_sld hC.1 hC.2.1 hX.1 hX.2.1 hX.2.2 hG.2 (zI_in hi h0 h1) hd ?_
  rw [zI_clamp hi, ← zI_of (xs i.toNat)]
  exact kk _ (inR_toInt _) hV
theorem z_slen (hC : zCx P p m c cc nL s args own) (hG : zS P s G H locs) {b L : Nat} {xs : Nat → Int32} (hX : zScr P s b L xs) (hd : decode cc pc = .ok (.arraylength, 1))
    (kk : W p l e R s m args below meth c H locs cells slots Q (F0 m (pc + 1) ls (.int (zI L) :: rest))) : W p l e R s m args below meth c H locs cells slots Q (F0 m pc ls (.ref b :: rest)) := by
  refine va_slen hC.1 hC.2.1 hX.1 hX.2.1 hX.2.2 hG.2 hd ?_
  rw [← zI_nat]
  exact kk
theorem z_outL (hC : zCx P p m c cc nL s args own) (hG : zS P s G H locs) {V : Int → Prop} (hV : zgF G 6 0 V) (hd : decode cc pc = .ok (.laload, 1))
    (kk : ∀ x, inR x → V x → W p l e R s m args below meth c H locs cells slots Q (F0 m (pc + 1) ls (.long (Int64.ofInt x) :: rest))) : W p l e R s m args below meth c H locs cells slots Q (F0 m pc ls (.int (zI 0) :: .ref (zA P 6 1 0) :: rest)) := by
  have hat := hG.1.1 6 1 0 rfl
  have hat : H[zA P 6 1 0]? = some (arrV (P.2.1 2) 1 (fun q => .long (Int64.ofInt (zsg G 6 0 q)))) := hat
  have har : ArrOfT s (P.2.1 2) .long := (hC.2.2.2.2.2.1.2.1 2 (by omega)).1
  refine W.lald (v := .long (Int64.ofInt (zsg G 6 0 0))) hC.1 hC.2.1 hat (har _ _) (fun q => by cases q) (by rw [arrV_size]; exact zI_in inR_0 (by omega) (by omega)) ?_ rfl rfl hd (kk _ (hG.1.2.2 6 0 0) hV)
  rw [zI_clamp inR_0, arrV_read _ _ (by decide)]
  rfl
theorem z_runSW {y : MethodName} {cc' : ByteArray} {maxL idx n : Nat} {ret : Option FieldType} {hh : List (Nat × Nat × Nat × Nat)} {rm : Room} {av : List Value} {Qc : Array Value → State → Outcome → State → Prop} (hC : zCx P p m c cc nL s args own) (hG : zS P s G H locs) (hM : Met l y (wsW_ y cc' maxL ret hh) rm (zPc P G av) Qc mc' ms' (zAr P)) (hl : zLSW own idx y cc' maxL ret hh n) (hn : av.length = n) (hc : rm.cells = mc') (hs : rm.slots = ms') (hR : zRm R rm maxL) (hf : cells + mc' ≤ R.cells ∧ slots + ms' ≤ R.slots)
    (hst : st0 = av.reverse ++ rest) (hrest : zsum rest) (hsz : ls.size = nL) (hd : decode cc pc = .ok (.invokestatic idx, 3)) : va_Run p l e R s m args below meth c H locs cells slots mc' ms' (F0 m pc ls st0) rest (Qc av.toArray) (zAr P) :=
  vx_runSW (As := av) ⟨hC.1, hC.2.1, hC.2.2.1, hC.2.2.2.1, hC.2.2.2.2.1⟩ hM (vx_cwSW n hC.2.2.2.2.1 hl.1 rfl hc hs hl.2 hR) ⟨zPc.blind, zPre hC hG⟩ rfl hn hsz hst (zsum_le hrest) hd hf
theorem z_lcmp (hC : zCx P p m c cc nL s args own) {x y : Int} (hx : inR x) (hy : inR y) (hd : decode cc pc = .ok (.lcmp, 1))
    (kk : W p l e R s m args below meth c H locs cells slots Q (F0 m (pc + 1) ls (.int (zI (zcmp x y)) :: rest))) : W p l e R s m args below meth c H locs cells slots Q (F0 m pc ls (.long (Int64.ofInt y) :: .long (Int64.ofInt x) :: rest)) := by
  refine W.lcmp hC.1 hC.2.1 hd ?_
  have tx : (Int64.ofInt x).toInt = x := by unfold inR at hx; exact Int64.toInt_ofInt_of_le (by omega) (by omega)
  have ty : (Int64.ofInt y).toInt = y := by unfold inR at hy; exact Int64.toInt_ofInt_of_le (by omega) (by omega)
  have e : lg_cmp (Int64.ofInt x) (Int64.ofInt y) = zI (zcmp x y) := by
    unfold lg_cmp zcmp
    simp only [Int64.lt_iff_toInt_lt, ← Int64.toInt_inj, tx, ty]
    split <;> split <;> first | rfl | omega | (split <;> first | rfl | omega)
  rw [e]
  exact kk
end ZLB
