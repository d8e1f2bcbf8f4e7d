/-! ROWS 8: calls of all kinds; methods that throw -/
set_option maxRecDepth 100000
/-- not null -/
def znn (r : ZR) : Prop := ∃ a, r = some (.inl a)
theorem zisO.nn {G : ZG} {r : ZR} {ci : Nat} (h : zisO G r ci) : znn r := by obtain ⟨a, fs, rfl, -⟩ := h; exact ⟨a, rfl⟩
def zLU (own : String) (idx : Nat) (C owner : String) (x y : MethodName) (cc : ByteArray) (maxL : Nat) (ret : Option FieldType) (n : Nat) : Prop :=
  ((GoodIn lw_all (va_wsU own idx C owner x y (ws_ y cc maxL ret)) ∧ (y = ⟨owner, x.name, x.desc⟩ ∨ Cond.declares ⟨owner, x.name, x.desc⟩ ∈ znx)) ∨ (GoodIn lw_all (va_wsO own idx C owner x y (ws_ y cc maxL ret)) ∧ ∃ b0 m0 r0, Cond.code ⟨owner, x.name, x.desc⟩ b0 m0 r0 ∈ lw_all)) ∧
  (owner ≠ "java/lang/invoke/MethodHandle" ∧ owner ≠ "java/lang/invoke/VarHandle" ∧ (parseMethodDescriptor x.desc).map (fun d => d.parameters.length) = some n)
def zLN (own : String) (idx : Nat) (host : String) (y : MethodName) (cc : ByteArray) (maxL : Nat) (ret : Option FieldType) (n : Nat) : Prop := Cond.methodLinkNest own idx y host ∈ znx ∧ Cond.code y cc maxL ret ∈ lw_all ∧ Cond.initialized y.cls ∈ lw_all ∧ zPd y n
def zLI (own : String) (idx : Nat) (y : MethodName) (cc : ByteArray) (maxL : Nat) (n : Nat) : Prop := Cond.methodLink own idx y ∈ lw_all ∧ Cond.code y cc maxL none ∈ lw_all ∧ Cond.initialized y.cls ∈ lw_all ∧ zPd y n ∧ y.name = "<init>" ∧ Cond.instanceMethod y ∈ lw_all
theorem zmc {w : Cond} {l B : List Cond} (h : w ∈ B) (t : ∀ x ∈ l, x ∈ B) : ∀ x ∈ w :: l, x ∈ B := fun x hx => (List.mem_cons.mp hx).elim (fun e => by rw [e]; exact h) (t x)
section ZC2
variable {p : Program} {l : Launch} {e : Env} {R : Room} {s : State} {m : MethodId} {args : Array Value} {below : List Frame} {meth : Method} {c : Code} {H : Heap} {locs : List Loc} {cells slots : Nat} {Q : State → Prop}
variable {cc : ByteArray} {pc nL : Nat} {ls : Array Slot} {rest : List Value} {P : ZP} {G : ZG} {own : String} {mc ms : Nat}
variable {x y : MethodName} {cc' : ByteArray} {maxL idx n mc' ms' : Nat} {ret : Option FieldType} {rm : Room} {av st0 : List Value} {Qc : Array Value → State → Outcome → State → Prop} {C owner host : String} {b : Nat}
theorem zcwU (hC : zCx P p m c cc nL s args own) (hl : zLU own idx C owner x y cc' maxL ret n) (hc : rm.cells = mc') (hs : rm.slots = ms') (hR : zRm R rm maxL) : va_CU R s args own C owner idx x y cc' maxL ret (ws_ y cc' maxL ret) rm mc' ms' n := by
  obtain ⟨h1 | h1, hd⟩ := hl
  · rcases h1.2 with h2 | h2
    · exact va_cwU n hC.2.2.2.2.1 h1.1 rfl hc hs h2 hd hR
    · exact va_cwA n hC.2.2.2.2.1 h1.1 rfl hc hs (hC.2.2.2.2.2.1.2.2.1 _ h2).2 hd hR
  · obtain ⟨h1, b0, m0, r0, h0⟩ := h1
    exact va_cwO n hC.2.2.2.2.1 h1 rfl hc hs h0 hd hR
theorem zrunU (hC : zCx P p m c cc nL s args own) (hG : zS P s G H locs) (hO : ∃ cellB : Cell, H[b]? = some cellB ∧ cellB.vm.isStatics = false ∧ s.vm.findClass C = some cellB.cls) (hM : Met l y (ws_ y cc' maxL ret) rm (zPc P G (.ref b :: av)) Qc mc' ms' (zAr P)) (hl : zLU own idx C owner x y cc' maxL ret n) (hn : av.length = n) (hc : rm.cells = mc') (hs : rm.slots = ms') (hR : zRm R rm maxL) (hf : cells + mc' ≤ R.cells ∧ slots + ms' ≤ R.slots)
    (hst : st0 = av.reverse ++ .ref b :: rest) (hrest : zsum rest) (hsz : ls.size = nL) (hd : decode cc pc = .ok (.invokevirtual idx, 3)) : va_Run p l e R s m args below meth c H locs cells slots mc' ms' (F0 m pc ls st0) rest (Qc (Value.ref b :: av).toArray) (zAr P) :=
  va_runU (As := av) ⟨hC.1, hC.2.1, hC.2.2.1, hC.2.2.2.1, hC.2.2.2.2.1⟩ hM (zcwU hC hl hc hs hR) ⟨zPc.blind, hO, zPre hC hG⟩ rfl hn hsz hst (zsum_le hrest) hd hf
theorem zrunVD {r : ZR} {ci : Nat} (hC : zCx P p m c cc nL s args own) (hG : zS P s G H locs) (hO : zisO G r ci) (hM : Met l y (ws_ y cc' maxL ret) rm (zPc P G (zrv P r :: av)) Qc mc' ms' (zAr P)) (hl : zLV own idx (cR ci) y cc' maxL ret n) (hn : av.length = n) (hc : rm.cells = mc') (hs : rm.slots = ms') (hR : zRm R rm maxL) (hf : cells + mc' ≤ R.cells ∧ slots + ms' ≤ R.slots)
    (hst : st0 = av.reverse ++ zrv P r :: rest) (hrest : zsum rest) (hsz : ls.size = nL) (hd : decode cc pc = .ok (.invokevirtual idx, 3)) : va_Run p l e R s m args below meth c H locs cells slots mc' ms' (F0 m pc ls st0) rest (Qc (zrv P r :: av).toArray) (zAr P) := by
  obtain ⟨a, fs, rfl, hj⟩ := hO
  obtain ⟨hO, h1, h2, -⟩ := zdob hG hj
  exact zrunV hC hG h1 h2 hO hM hl hn hc hs hR hf hst hrest hsz hd
theorem zcnB (hC : zCx P p m c cc nL s args own) (hl : zLN own idx host y cc' maxL ret n) (hc : rm.cells = mc') (hs : rm.slots = ms') (hR : zRm R rm maxL) : va_CN R s args own idx y host cc' maxL ret (ws_ y cc' maxL ret) rm mc' ms' n :=
  va_cnB n hC.2.2.2.2.1 (lw_meth hl.2.1) rfl hc hs (hC.2.2.2.2.2.1.2.2.1 _ hl.1).2 (hC.2.2.2.2.1 _ hl.2.2.1) hl.2.2.2 hR
theorem zrunSN (hC : zCx P p m c cc nL s args own) (hG : zS P s G H locs) (hM : Met l y (ws_ y cc' maxL ret) rm (zPc P G av) Qc mc' ms' (zAr P)) (hl : zLN own idx host y cc' maxL ret n ∧ Cond.static y ∈ lw_all) (hn : av.length = n) (hc : rm.cells = mc') (hs : rm.slots = ms') (hR : zRm R rm maxL) (hf : cells + mc' ≤ R.cells ∧ slots + ms' ≤ R.slots)
    (hst : st0 = av.reverse ++ rest) (hrest : zsum rest) (hsz : ls.size = nL) (hd : decode cc pc = .ok (.invokestatic idx, 3)) : va_Run p l e R s m args below meth c H locs cells slots mc' ms' (F0 m pc ls st0) rest (Qc av.toArray) (zAr P) :=
  va_runSN (As := av) ⟨hC.1, hC.2.1, hC.2.2.1, hC.2.2.2.1, hC.2.2.2.2.1⟩ hM ⟨zcnB hC hl.1 hc hs hR, hC.2.2.2.2.1 _ hl.2, trivial⟩ ⟨zPc.blind, zPre hC hG⟩ rfl hn hsz hst (zsum_le hrest) hd hf
theorem zrunVN {ci : Nat} {V : Nat → Value} (hC : zCx P p m c cc nL s args own) (hG : zS P s G H locs) (h1 : 1 ≤ ci) (h2 : ci ≤ 16) (hO : t_OB b (P.1.1 ci) (cN ci) (P.1.2 ci) H V) (hM : Met l y (ws_ y cc' maxL ret) rm (zPc P G (.ref b :: av)) Qc mc' ms' (zAr P)) (hl : zLN own idx host y cc' maxL ret n ∧ Cond.instanceMethod y ∈ lw_all ∧ Cond.selects (cR ci) y y ∈ lw_all) (hn : av.length = n) (hc : rm.cells = mc') (hs : rm.slots = ms') (hR : zRm R rm maxL) (hf : cells + mc' ≤ R.cells ∧ slots + ms' ≤ R.slots)
    (hst : st0 = av.reverse ++ .ref b :: rest) (hrest : zsum rest) (hsz : ls.size = nL) (hd : decode cc pc = .ok (.invokevirtual idx, 3)) : va_Run p l e R s m args below meth c H locs cells slots mc' ms' (F0 m pc ls st0) rest (Qc (Value.ref b :: av).toArray) (zAr P) :=
  va_runVN (As := av) ⟨hC.1, hC.2.1, hC.2.2.1, hC.2.2.2.1, hC.2.2.2.2.1⟩ hM ⟨zcnB hC hl.1 hc hs hR, hC.2.2.2.2.1 _ hl.2.1, hC.2.2.2.2.1 _ hl.2.2⟩ ⟨zPc.blind, zrecv hC h1 h2 hO, zPre hC hG⟩ rfl hn hsz hst (zsum_le hrest) hd hf
/-- a private method of Matching, by an object of a class below -/
def zLP (own : String) (idx : Nat) (C : String) (y : MethodName) (cc : ByteArray) (maxL : Nat) (ret : Option FieldType) (n : Nat) : Prop := Cond.methodLink own idx y ∈ lw_all ∧ Cond.instanceMethod y ∈ lw_all ∧ Cond.selects C y y ∈ znx ∧ Cond.initialized y.cls ∈ lw_all ∧ Cond.code y cc maxL ret ∈ lw_all ∧ zPd y n
theorem zrunP {ci : Nat} {V : Nat → Value} (hC : zCx P p m c cc nL s args own) (hG : zS P s G H locs) (h1 : 1 ≤ ci) (h2 : ci ≤ 16) (hO : t_OB b (P.1.1 ci) (cN ci) (P.1.2 ci) H V) (hM : Met l y (ws_ y cc' maxL ret) rm (zPc P G (.ref b :: av)) Qc mc' ms' (zAr P)) (hl : zLP own idx (cR ci) y cc' maxL ret n) (hn : av.length = n) (hc : rm.cells = mc') (hs : rm.slots = ms') (hR : zRm R rm maxL) (hf : cells + mc' ≤ R.cells ∧ slots + ms' ≤ R.slots)
    (hst : st0 = av.reverse ++ .ref b :: rest) (hrest : zsum rest) (hsz : ls.size = nL) (hd : decode cc pc = .ok (.invokevirtual idx, 3)) : va_Run p l e R s m args below meth c H locs cells slots mc' ms' (F0 m pc ls st0) rest (Qc (Value.ref b :: av).toArray) (zAr P) := by
  obtain ⟨k1, k2, k3, k4, k5, k6⟩ := hl
  have hts := hC.2.2.2.2.1
  exact va_runV (As := av) ⟨hC.1, hC.2.1, hC.2.2.1, hC.2.2.2.1, hC.2.2.2.2.1⟩ hM ⟨callB_of n hts (lw_meth k5) rfl hc hs (hts _ k4) (hts _ k1) k6 hR, hts _ k2, va_Nw.use rfl (hC.2.2.2.2.2.1.2.2.1 _ k3).2⟩ ⟨zPc.blind, zrecv hC h1 h2 hO, zPre hC hG⟩ rfl hn hsz hst (zsum_le hrest) hd hf
/-- constructors -/
theorem zrunI {r : ZR} (hC : zCx P p m c cc nL s args own) (hG : zS P s G H locs) (hO : znn r) (hM : Met l y (ws_ y cc' maxL none) rm (zPc P G (zrv P r :: av)) Qc mc' ms' (zAr P)) (hl : zLI own idx y cc' maxL n) (hn : av.length = n) (hc : rm.cells = mc') (hs : rm.slots = ms') (hR : zRm R rm maxL) (hf : cells + mc' ≤ R.cells ∧ slots + ms' ≤ R.slots)
    (hst : st0 = av.reverse ++ zrv P r :: rest) (hrest : zsum rest) (hsz : ls.size = nL) (hd : decode cc pc = .ok (.invokespecial idx, 3)) : va_Run p l e R s m args below meth c H locs cells slots mc' ms' (F0 m pc ls st0) rest (Qc (zrv P r :: av).toArray) (zAr P) := by
  obtain ⟨a, rfl⟩ := hO
  obtain ⟨k1, k2, k3, k4, k5, k6⟩ := hl
  have hts := hC.2.2.2.2.1
  exact va_runI (As := av) ⟨hC.1, hC.2.1, hC.2.2.1, hC.2.2.2.1, hC.2.2.2.2.1⟩ hM ⟨callB_of n hts (lw_meth k2) rfl hc hs (hts _ k3) (hts _ k1) k4 hR, k5, hts _ k6⟩ ⟨zPc.blind, zPre hC hG⟩ rfl hn hsz hst (zsum_le hrest) hd hf
theorem zrunIN {r : ZR} (hC : zCx P p m c cc nL s args own) (hG : zS P s G H locs) (hO : znn r) (hM : Met l y (ws_ y cc' maxL none) rm (zPc P G (zrv P r :: av)) Qc mc' ms' (zAr P)) (hl : zLN own idx host y cc' maxL none n ∧ y.name = "<init>" ∧ Cond.instanceMethod y ∈ lw_all) (hn : av.length = n) (hc : rm.cells = mc') (hs : rm.slots = ms') (hR : zRm R rm maxL) (hf : cells + mc' ≤ R.cells ∧ slots + ms' ≤ R.slots)
    (hst : st0 = av.reverse ++ zrv P r :: rest) (hrest : zsum rest) (hsz : ls.size = nL) (hd : decode cc pc = .ok (.invokespecial idx, 3)) : va_Run p l e R s m args below meth c H locs cells slots mc' ms' (F0 m pc ls st0) rest (Qc (zrv P r :: av).toArray) (zAr P) := by
  obtain ⟨a, rfl⟩ := hO
  exact va_runIN (As := av) ⟨hC.1, hC.2.1, hC.2.2.1, hC.2.2.2.1, hC.2.2.2.2.1⟩ hM ⟨zcnB hC hl.1 hc hs hR, hl.2.1, hC.2.2.2.2.1 _ hl.2.2⟩ ⟨zPc.blind, zPre hC hG⟩ rfl hn hsz hst (zsum_le hrest) hd hf
theorem z_objD (hC : zCx P p m c cc nL s args own) {r : ZR} {V : Prop} (hV : znn r ∧ V) (hsz : ls.size = nL) (hl : Cond.methodLink own idx Lib.objectInit ∈ lw_all ∧ Cond.instanceMethod Lib.objectInit ∈ lw_all ∧ Cond.code Lib.objectInit ⟨#[0xb1]⟩ 1 none ∈ lw_all) (hrest : zsum rest) (hR : 1 ≤ R.frames ∧ 8 + 12 ≤ R.locals) (hd : decode cc pc = .ok (.invokespecial idx, 3))
    (kk : V → W p l e R s m args below meth c H locs cells slots Q (F0 m (pc + 3) ls rest)) : W p l e R s m args below meth c H locs cells slots Q (F0 m pc ls (zrv P r :: rest)) := by
  obtain ⟨⟨a, rfl⟩, hV⟩ := hV
  exact z_obj hC hsz hl hrest hR hd (kk hV)
/-! methods that throw -/
def zXc (P : ZP) (X : Nat → ZG → Prop) : String → State → State → Prop := vx_X (S := Nat × ZG) (fun u => X u.1 u.2) (fun E u t => E = zxn u.1 ∧ Rel P u.2 t.heap) (zAr P)
theorem zMetX {l : Launch} {rm : Room} {mc ms : Nat} {X : Nat → ZG → Prop} (hown : y.cls = own) (hy : plainName y.cls = true) (hcs : zcs av) (hlen : av.length ≤ maxL)
    (body : ∀ (p : Program) (e : Env) (s : State) (m : MethodId) (args : Array Value) (below : List Frame) (meth : Method) (c : Code) (ls : Array Slot), zCx P p m c cc maxL s args own → meth.sig.returnType = ret → meth.locks = false → meth.name = y.name → (∀ x ∈ c.exceptionTable.toList, False) → zS P s G s.heap [] → zL ls maxL (zargs 0 av) → W p l e rm s m args below meth c s.heap [] 0 0 (vx_MQ below Qc (zXc P X) args s mc ms (zAr P)) (F0 m 0 ls [])) : vx_Met l y (ws_ y cc maxL ret) rm (zPc P G av) Qc (zXc P X) mc ms (zAr P) := by
  refine vx_ofW (cc := cc) (maxL := maxL) (ret := ret) hy rfl ?_
  intro p e s m args below meth c s₁ B hml hnt hv
  obtain ⟨rfl, hR, hK, hSt⟩ := hv
  have hts := atoms_spec (ws := ws_ y cc maxL ret) B.pre
  have hts : ∀ w ∈ lw_all, w.before _ s = true := fun w h => hts w (List.mem_cons_of_mem _ h)
  have hl := lv_entry av (n := maxL) (by rw [zlg_len av hcs]; exact hlen)
  rw [lg_entry_eq]
  rw [zargs_lv av 0 hcs] at hl
  have ho : s.vm.findClass own = some m.cls := by rw [← hown]; exact findClass_of_methodNamed B.named
  exact body p e s m _ below meth c _ ⟨B.exec, B.bytes, hml, ho, hts, hK, hSt⟩ B.returns B.notSynchronized (name_of_methodNamed B.named B.method).1 hnt ⟨hR, va_S.rf⟩ ⟨hl, zargs_c1 av 0 hcs⟩
theorem zrunSX {XC : String → State → State → Prop} (hC : zCx P p m c cc nL s args own) (hG : zS P s G H locs) (hM : vx_Met l y (ws_ y cc' maxL ret) rm (zPc P G av) Qc XC mc' ms' (zAr P)) (hl : zLS own idx y cc' maxL ret n) (hn : av.length = n) (hc : rm.cells = mc') (hs : rm.slots = ms') (hR : zRm R rm maxL) (hf : cells + mc' ≤ R.cells ∧ slots + ms' ≤ R.slots)
    (hst : st0 = av.reverse ++ rest) (hrest : zsum rest) (hsz : ls.size = nL) (hd : decode cc pc = .ok (.invokestatic idx, 3)) : vx_Run p l e R s m args below meth c H locs cells slots mc' ms' (F0 m pc ls st0) rest (Qc av.toArray) XC (zAr P) :=
  vx_runS (As := av) ⟨hC.1, hC.2.1, hC.2.2.1, hC.2.2.2.1, hC.2.2.2.2.1⟩ hM (va_cwS n hC.2.2.2.2.1 hl.1 rfl hc hs hl.2 hR) ⟨zPc.blind, zPre hC hG⟩ rfl hn hsz hst (zsum_le hrest) hd hf
theorem zrunVX {ci : Nat} {V : Nat → Value} {XC : String → State → State → Prop} (hC : zCx P p m c cc nL s args own) (hG : zS P s G H locs) (h1 : 1 ≤ ci) (h2 : ci ≤ 16) (hO : t_OB b (P.1.1 ci) (cN ci) (P.1.2 ci) H V) (hM : vx_Met l y (ws_ y cc' maxL ret) rm (zPc P G (.ref b :: av)) Qc XC mc' ms' (zAr P)) (hl : zLV own idx (cR ci) y cc' maxL ret n) (hn : av.length = n) (hc : rm.cells = mc') (hs : rm.slots = ms') (hR : zRm R rm maxL) (hf : cells + mc' ≤ R.cells ∧ slots + ms' ≤ R.slots)
    (hst : st0 = av.reverse ++ .ref b :: rest) (hrest : zsum rest) (hsz : ls.size = nL) (hd : decode cc pc = .ok (.invokevirtual idx, 3)) : vx_Run p l e R s m args below meth c H locs cells slots mc' ms' (F0 m pc ls st0) rest (Qc (Value.ref b :: av).toArray) XC (zAr P) :=
  vx_runV (As := av) ⟨hC.1, hC.2.1, hC.2.2.1, hC.2.2.2.1, hC.2.2.2.2.1⟩ hM (cwV n hC.2.2.2.2.1 hl.1 rfl hc hs ⟨hl.2.1, hl.2.2⟩ hR) ⟨zPc.blind, zrecv hC h1 h2 hO, zPre hC hG⟩ rfl hn hsz hst (zsum_le hrest) hd hf
/-- what comes after a call that may throw: on, or out with the same exception -/
theorem z_xcallG {U : Type} {val : U → Option Value} {post : U → Prop} {gg : U → ZG} {Qa : State → Outcome → State → Prop} {X : Nat → ZG → Prop} (hQ : ∀ st o t, Qa st o t → (∃ u, o = .returned (val u) ∧ post u ∧ Rel P (gg u) t.heap) ∧ va_F (zAr P) st t) (hG : zS P s G H locs) (hnt : ∀ x ∈ c.exceptionTable.toList, False) (hlk : meth.locks = false)
    (hr : vx_Run p l e R s m args below meth c H locs cells slots mc' ms' (F0 m pc ls st0) rest Qa (zXc P X) (zAr P)) (hc : cells + mc' ≤ mc) (hs : slots + ms' ≤ ms)
    (kk : ∀ u H1 locs1, post u → zS P s (gg u) H1 locs1 → W p l e R s m args below meth c H1 locs1 (cells + mc') (slots + ms') (vx_MQ below Qc (zXc P X) args s mc ms (zAr P)) (F0 m (pc + 3) ls ((val u).toList ++ rest))) : W p l e R s m args below meth c H locs cells slots (vx_MQ below Qc (zXc P X) args s mc ms (zAr P)) (F0 m pc ls st0) := by
  intro T hT Y
  rcases hr T hT Y with ⟨v, st₀, t, T', L, h0, X', hL, e1, e2, hq, st⟩ | ⟨q, st₀, t, T', L, E, ce, h0, X', hL, e1, e2, ⟨u, hp, ⟨hE, hb⟩, hF⟩, hce, hcv, hcl, st⟩
  · obtain ⟨⟨u, hv, hp, hb⟩, hF⟩ := hQ _ _ _ hq
    cases hv
    obtain ⟨k1, k2, k3⟩ := vx_keep h0 e1 hG.2 (fun q _ h => h) (fun q h => h) hL hF
    obtain ⟨t2, a1, b1⟩ := kk u T'.heap (locs ++ L) hp ⟨by rw [e1]; exact hb, k3⟩ T' rfl X'
    exact ⟨t2, st t2 a1, b1⟩
  · obtain ⟨k1, k2, k3⟩ := vx_keep h0 e1 hG.2 (fun q _ h => h) (fun q h => h) hL hF
    obtain ⟨t2, a1, b1⟩ := vx_out (Qc := Qc) (XC := zXc P X) (pc := pc) (ls := ls) (rest := rest) (mc := mc) (ms := ms) (free := zAr P) (fun x hx => (hnt x hx).elim) hlk (by rw [e1]; exact hce) hcv hcl (fun t2 ht2 _ => ⟨u, hp, ⟨hE, (by rw [ht2, e1]; exact hb)⟩, k3.F ht2⟩) (fun z hz => k3.2.2 z hz) hc hs T' rfl X'
    exact ⟨t2, st.trans a1, b1⟩
theorem z_xcall_i {q : Int → ZG → Prop} {a : Array Value} {X : Nat → ZG → Prop} (hG : zS P s G H locs) (hnt : ∀ x ∈ c.exceptionTable.toList, False) (hlk : meth.locks = false) (hr : vx_Run p l e R s m args below meth c H locs cells slots mc' ms' (F0 m pc ls st0) rest (zQi P q a) (zXc P X) (zAr P)) (hc : cells + mc' ≤ mc) (hs : slots + ms' ≤ ms)
    (kk : ∀ x G1 H1 locs1, inR x → q x G1 → zS P s G1 H1 locs1 → W p l e R s m args below meth c H1 locs1 (cells + mc') (slots + ms') (vx_MQ below Qc (zXc P X) args s mc ms (zAr P)) (F0 m (pc + 3) ls (.int (zI x) :: rest))) : W p l e R s m args below meth c H locs cells slots (vx_MQ below Qc (zXc P X) args s mc ms (zAr P)) (F0 m pc ls st0) :=
  z_xcallG (U := Int × ZG) (val := fun u => some (.int (zI u.1))) (post := fun u => inR u.1 ∧ q u.1 u.2) (gg := fun u => u.2) (fun st o t ⟨⟨r, u, hv, ⟨hr, hi, hq⟩, hb⟩, hF⟩ => ⟨⟨u, by rw [hv, hr], ⟨hi, hq⟩, hb⟩, hF⟩) hG hnt hlk hr hc hs (fun u H1 locs1 hp hS => kk u.1 u.2 H1 locs1 hp.1 hp.2 hS)
theorem z_xcall_z {q : Int → ZG → Prop} {a : Array Value} {X : Nat → ZG → Prop} (hG : zS P s G H locs) (hnt : ∀ x ∈ c.exceptionTable.toList, False) (hlk : meth.locks = false) (hr : vx_Run p l e R s m args below meth c H locs cells slots mc' ms' (F0 m pc ls st0) rest (zQz P q a) (zXc P X) (zAr P)) (hc : cells + mc' ≤ mc) (hs : slots + ms' ≤ ms)
    (kk : ∀ x G1 H1 locs1, (x = 0 ∨ x = 1) → q x G1 → zS P s G1 H1 locs1 → W p l e R s m args below meth c H1 locs1 (cells + mc') (slots + ms') (vx_MQ below Qc (zXc P X) args s mc ms (zAr P)) (F0 m (pc + 3) ls (.int (zI x) :: rest))) : W p l e R s m args below meth c H locs cells slots (vx_MQ below Qc (zXc P X) args s mc ms (zAr P)) (F0 m pc ls st0) :=
  z_xcallG (U := Int × ZG) (val := fun u => some (.int (zI u.1))) (post := fun u => (u.1 = 0 ∨ u.1 = 1) ∧ q u.1 u.2) (gg := fun u => u.2) (fun st o t ⟨⟨r, u, hv, ⟨hr, hi, hq⟩, hb⟩, hF⟩ => ⟨⟨u, by rw [hv, hr], ⟨hi, hq⟩, hb⟩, hF⟩) hG hnt hlk hr hc hs (fun u H1 locs1 hp hS => kk u.1 u.2 H1 locs1 hp.1 hp.2 hS)
theorem z_xcall_v {q : ZG → Prop} {a : Array Value} {X : Nat → ZG → Prop} (hG : zS P s G H locs) (hnt : ∀ x ∈ c.exceptionTable.toList, False) (hlk : meth.locks = false) (hr : vx_Run p l e R s m args below meth c H locs cells slots mc' ms' (F0 m pc ls st0) rest (zQv P q a) (zXc P X) (zAr P)) (hc : cells + mc' ≤ mc) (hs : slots + ms' ≤ ms)
    (kk : ∀ G1 H1 locs1, q G1 → zS P s G1 H1 locs1 → W p l e R s m args below meth c H1 locs1 (cells + mc') (slots + ms') (vx_MQ below Qc (zXc P X) args s mc ms (zAr P)) (F0 m (pc + 3) ls rest)) : W p l e R s m args below meth c H locs cells slots (vx_MQ below Qc (zXc P X) args s mc ms (zAr P)) (F0 m pc ls st0) :=
  z_xcallG (U := ZG) (val := fun u => none) (post := fun u => q u) (gg := fun u => u) (fun st o t ⟨⟨u, hv, hq, hb⟩, hF⟩ => ⟨⟨u, hv, hq, hb⟩, hF⟩) hG hnt hlk hr hc hs (fun u H1 locs1 hp hS => kk u H1 locs1 hp hS)
theorem z_xcall_r {q : ZR → ZG → Prop} {a : Array Value} {X : Nat → ZG → Prop} (hG : zS P s G H locs) (hnt : ∀ x ∈ c.exceptionTable.toList, False) (hlk : meth.locks = false) (hr : vx_Run p l e R s m args below meth c H locs cells slots mc' ms' (F0 m pc ls st0) rest (zQr P q a) (zXc P X) (zAr P)) (hc : cells + mc' ≤ mc) (hs : slots + ms' ≤ ms)
    (kk : ∀ x G1 H1 locs1, q x G1 → zS P s G1 H1 locs1 → W p l e R s m args below meth c H1 locs1 (cells + mc') (slots + ms') (vx_MQ below Qc (zXc P X) args s mc ms (zAr P)) (F0 m (pc + 3) ls (zrv P x :: rest))) : W p l e R s m args below meth c H locs cells slots (vx_MQ below Qc (zXc P X) args s mc ms (zAr P)) (F0 m pc ls st0) :=
  z_xcallG (U := ZR × ZG) (val := fun u => some (zrv P u.1)) (post := fun u => q u.1 u.2) (gg := fun u => u.2) (fun st o t ⟨⟨r, G', hv, hq, hb⟩, hF⟩ => ⟨⟨(r, G'), hv, hq, hb⟩, hF⟩) hG hnt hlk hr hc hs (fun u H1 locs1 hp hS => kk u.1 u.2 H1 locs1 hp hS)
/-- throw new E() -/
def zthr (own cls : String) (names : List String) (ik ic : Nat) : Prop := Bundle.fit cls = true ∧ (∀ n ∈ names, Bundle.fit n = true) ∧ Cond.classLink own ik cls ∈ lw_all ∧ Cond.initialized cls ∈ lw_all ∧ (∀ w ∈ vx_at0 own ic cls names, w ∈ lw_all ∨ (w ∈ znx ∧ w.onTables = true)) ∧ (∀ w ∈ Cond.classLink own ik cls :: Cond.initialized cls :: vx_at0 own ic cls names, vx_ot w = true)
theorem z_throw {X : Nat → ZG → Prop} {names : List String} {ik ic k : Nat} (hC : zCx P p m c cc nL s args own) (hG : zS P s G H locs) (hst : l.stackTraces = false) (hnt : ∀ x ∈ c.exceptionTable.toList, False) (hlk : meth.locks = false) (hl : zthr own (zxn k) names ik ic) (hV : X k G) (hsz : ls.size = nL)
    (d0 : decode cc pc = .ok (.new ik, 3)) (d3 : decode cc (pc + 3) = .ok (.dup, 1)) (d4 : decode cc (pc + 4) = .ok (.invokespecial ic, 3)) (d7 : decode cc (pc + 7) = .ok (.athrow, 1)) (hR : names.length + 3 < R.frames ∧ 13 * (names.length + 1) + 42 ≤ R.locals) (hRc : cells + 1 ≤ R.cells ∧ slots + 6 ≤ R.slots) (hc : cells + 1 ≤ mc) (hs : slots + 6 ≤ ms) :
    W p l e R s m args below meth c H locs cells slots (vx_MQ below Qc (zXc P X) args s mc ms (zAr P)) (F0 m pc ls []) := by
  obtain ⟨t1, t2, t3, t4, t5, t6⟩ := hl
  have hts := hC.2.2.2.2.1
  have hSt := hC.2.2.2.2.2.2
  refine vx_throw0 (A := zAr P) hC.1 hC.2.1 hst hC.2.2.2.1 t1 t2 (hts _ t3) (hts _ t4) (fun w hw => ?_) t6 hSt.2.2.2.2.1 hSt.2.2.2.2.2.1 hG.2 (by rw [hC.2.2.1]; exact hsz) d0 d3 d4 d7 (fun x hx => (hnt x hx).elim) hR.1 (by simpa using hR.2) hRc.1 hRc.2 hlk (fun t hvm hz ho => ?_) (fun z hz => hG.2.2.2 z hz) hc hs
  · rcases t5 w hw with h | h
    · exact hts w h
    · exact va_Nw.use h.2 (hC.2.2.2.2.2.1.2.2.1 w h.1).2
  · refine ⟨(k, G), hV, ⟨rfl, ?_⟩, Nat.le_trans hG.2.1 hz, fun q h1 h2 => (ho q (Nat.lt_of_lt_of_le h1 hG.2.1)).trans (hG.2.2.1 q h1 h2)⟩
    exact ⟨fun o j i hv => (hG.1.1 o j i hv).kept (ho _ (hG.1.1 o j i hv).lt), fun a d hd => ⟨(hG.1.2.1 a d hd).1.kept (ho _ (hG.1.2.1 a d hd).1.lt), (hG.1.2.1 a d hd).2⟩, hG.1.2.2⟩
end ZC2
