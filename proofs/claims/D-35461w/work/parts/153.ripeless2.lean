/-! the entry of such a contract, and its call -/
set_option maxRecDepth 100000
def zMetE (l : Launch) (y : MethodName) (ws : List Cond) (rm : Room) (Pc : Array Value → State → Prop) (Qc : Array Value → State → Outcome → State → Prop) (mc ms : Nat) (free : Addr → Prop) : Prop :=
  zMetN l y (headSpec ws rm) Pc (fun a st o t => Qc a st o t ∧ ∃ L, FrameEnd st o t L mc ms ∧ ∀ q ∈ L, free q.base)
theorem zMetE_of {l : Launch} {P : ZP} {G : ZG} {y : MethodName} {cc : ByteArray} {maxL : Nat} {ret : Option FieldType} {rm : Room} {av : List Value} {Qc : Array Value → State → Outcome → State → Prop} {mc ms : Nat} (own : String) (hy : plainFor y = true) (hown : y.cls = own) (hcs : zcs av) (hlen : av.length ≤ maxL)
    (body : ∀ (p : Program) (e : Env) (s : State) (m : MethodId) (args : Array Value) (below : List Frame) (meth : Method) (c : Code) (ls : Array Slot), zCx P p m c cc maxL s args own → meth.sig.returnType = ret → meth.locks = false → meth.name = y.name → zS P s G s.heap [] → zL ls maxL (zargs 0 av) →
      W p l e rm s m args below meth c s.heap [] 0 0 (MQ below Qc args s mc ms (zAr P)) (F0 m 0 ls [])) : zMetE l y (ws_ y cc maxL ret) rm (zPc P G av) Qc mc ms (zAr P) := by
  refine zMetN_of (code := cc) (maxLocals := maxL) (ret := ret) hy ?_ ?_
  · intro args s m h hn
    obtain ⟨meth, c, h1, h2, h3, h4, h5, h6, -, -⟩ := Cond.code_spec hn (atoms_spec (ws := ws_ y cc maxL ret) h _ List.mem_cons_self)
    exact ⟨meth, c, h1, h2, h3, h4, h5, h6⟩
  · intro p e s m args below meth c s₁ hexec hname hpre hbytes hml hret hlk hheap X hv
    obtain ⟨rfl, hR, hK, hSt⟩ := hv
    have hts := atoms_spec (ws := ws_ y cc maxL ret) hpre
    have hts : ∀ w ∈ lw_all, w.before _ s = true := fun w h => hts w (List.mem_cons_of_mem _ h)
    have hl := lv_entry av (n := maxL) (by rw [zlg_len av hcs]; exact hlen)
    rw [lg_entry_eq]
    rw [zargs_lv av 0 hcs] at hl
    have ho : s.vm.findClass own = some m.cls := by rw [← hown]; exact findClass_of_methodNamed hname
    obtain ⟨t, a1, o, b1, b2, b3⟩ := body p e s m _ below meth c _ ⟨hexec, hbytes, hml, ho, hts, hK, hSt⟩ hret hlk (name_of_methodNamed hname X.method).1 ⟨hR, va_S.rf⟩ ⟨hl, zargs_c1 av 0 hcs⟩ s₁ hheap X
    exact ⟨t, o, a1, b1, b2, b3⟩
theorem zrunE {p : Program} {l : Launch} {e : Env} {R : Room} {s : State} {m : MethodId} {args : Array Value} {below : List Frame} {meth : Method} {c : Code} {H : Heap} {locs : List Loc} {cells slots : Nat} {cc : ByteArray} {pc nL : Nat} {ls : Array Slot} {rest : List Value} {P : ZP} {G : ZG} {own : String}
    {x y : MethodName} {cc' : ByteArray} {maxL idx n mc' ms' : Nat} {ret : Option FieldType} {rm : Room} {av st0 : List Value} {Qc : Array Value → State → Outcome → State → Prop} {C owner : String} {b : Nat}
    (hC : zCx P p m c cc nL s args own) (hG : zS P s G H locs) (hO : ∃ cellB : Cell, H[b]? = some cellB ∧ cellB.vm.isStatics = false ∧ s.vm.findClass C = some cellB.cls) (hM : zMetE l y (ws_ y cc' maxL ret) rm (zPc P G (.ref b :: av)) Qc mc' ms' (zAr P))
    (hlink : Cond.methodLink own idx x ∈ lw_all) (hsame : Cond.sameMethod x.cls owner x.name x.desc ∈ lw_all) (hdecl : Cond.declares ⟨owner, x.name, x.desc⟩ ∈ znx) (hsel : Cond.selects C x y ∈ lw_all) (hinst : Cond.instanceMethod y ∈ lw_all) (hcode : Cond.code y cc' maxL ret ∈ lw_all)
    (hd0 : owner ≠ "java/lang/invoke/MethodHandle" ∧ owner ≠ "java/lang/invoke/VarHandle" ∧ (parseMethodDescriptor x.desc).map (fun d => d.parameters.length) = some n) (hn : av.length = n) (hc : rm.cells = mc') (hs : rm.slots = ms') (hR : zRm R rm maxL) (hf : cells + mc' ≤ R.cells ∧ slots + ms' ≤ R.slots)
    (hst : st0 = av.reverse ++ .ref b :: rest) (hrest : zsum rest) (hsz : ls.size = nL) (hd : decode cc pc = .ok (.invokevirtual idx, 3)) : va_Run p l e R s m args below meth c H locs cells slots mc' ms' (F0 m pc ls st0) rest (Qc (Value.ref b :: av).toArray) (zAr P) := by
  have hts := hC.2.2.2.2.1
  have hG9 : GoodIn lw_all (ws_ y cc' maxL ret) := lw_meth hcode
  have hK : Back l R p e below s args y 3 8 (PreOf R mc' ms' (zPc P G (.ref b :: av))) (PostOf Qc mc' ms' (zAr P)) := zBackN (bytes := cc') (maxL := maxL) (ret := ret) hM zPc.blind hc hs hR.1 hR.2 (pay_in hts hG9) List.mem_cons_self
  obtain ⟨cellB, hcB, hoB, hclB⟩ := hO
  intro T hT X
  obtain ⟨v, vm₁, ⟨U', l2, c2, s2⟩, hW₁, X', ⟨g', mk, t, L, e1, e2, hq, h1, hL, h2, h3⟩, st⟩ := va_callVU X hC.1 (C := C) (owner := owner) (bytes := cc') (maxL := maxL) (ret := ret) hC.2.2.2.1 (hts _ hlink) (hts _ hsame) (va_Decl.abs (hC.2.2.2.2.2.1.2.2.1 _ hdecl).2) ⟨hd0.1, hd0.2.1⟩ (hts _ hsel) (hts _ hinst) (hts _ hcode) hK (by rw [hT]; exact hcB) hoB hclB (g := F0 m pc ls st0) rfl (hsz.trans hC.2.2.1.symm) (argsL := av) (rest := rest) (fun sig h => by
      have h2 := hd0.2.2
      rw [h] at h2
      exact hn.trans (Option.some.inj h2).symm) hst (zsum_le hrest) (by rw [hC.2.1]; exact hd)
    (fun vm₁ hW₁ => ⟨hf.1, hf.2, zPre hC hG (T.setVm vm₁) hT hW₁⟩)
  dsimp only [Pt.U, Pt.locs, Pt.cells, Pt.slots] at X' e1 e2 h1 h2 h3 st
  subst h1; subst h2; subst h3
  exact ⟨v, (T.setVm vm₁).calling g' mk (Value.ref b :: av).toArray, t, U', L, hT, X', hL, e1, e2, hq, st⟩
