/-! ROWS 4: contracts, returns, calls -/
set_option maxRecDepth 100000
theorem znx_same {w : Cond} (hw : znxOk w = true) {s U : State} (hW : s.vm = U.vm) (h : va_Nw w s) : va_Nw w U := by
  cases w with
  | arrayOver t =>
    have h2 : (Cond.arrayOver t).before #[] (s.setVm U.vm) = true := by rw [Cond.arrayOver_setVmC (by rw [hW]; exact Vm.Alike.refl _)]; exact h
    exact h2
  | fieldLinkNest a i b n d hh => exact va_Nw.same rfl hW h
  | methodLinkNest a i x hh => exact va_Nw.same rfl hW h
  | castable C T => exact va_Nw.same rfl hW h
  | declares x => exact va_Nw.same rfl hW h
  | _ => exact va_Nw.same (by simp [znxOk] at hw; first | exact hw.1 | exact hw) hW h
theorem zKn.moved {P : ZP} {s U : State} (h : zKn P s) (hvm : s.vm.Alike U.vm) (hw : ∀ w ∈ znx, znxOk w = true → va_Nw w s → va_Nw w U) (hz : s.heap.size ≤ U.heap.size) : zKn P U :=
  ⟨fun c h1 h2 => u_Kn_moved hvm (h.1 c h1 h2), fun k hk => ⟨arrOfT_moved hvm (h.2.1 k hk).1, (h.2.1 k hk).2.moved hvm⟩, fun w h1 => ⟨(h.2.2.1 w h1).1, hw w h1 (h.2.2.1 w h1).1 (h.2.2.1 w h1).2⟩, h.2.2.2.1, Nat.le_trans h.2.2.2.2.1 hz, fun c hc d hd hn => (h.2.2.2.2.2.1 c hc d hd hn).moved hvm, fun c hc d hd hn => (h.2.2.2.2.2.2 c hc d hd hn).moved hvm⟩
/-- a method's start: its arguments, and the heap holds the abstract state -/
def zPc (P : ZP) (G : ZG) (av : List Value) : Array Value → State → Prop := va_Pc av (fun U => Rel P G U.heap ∧ zKn P U ∧ zSt P U U.heap)
def zAr (P : ZP) : Nat → Prop := fun q => zB P ≤ q
def zQi (P : ZP) (Q : Int → ZG → Prop) : Array Value → State → Outcome → State → Prop := va_Qi (S := Int × ZG) (fun r u => r = zI u.1 ∧ inR u.1 ∧ Q u.1 u.2) (fun u t => Rel P u.2 t.heap) (zAr P)
def zQz (P : ZP) (Q : Int → ZG → Prop) : Array Value → State → Outcome → State → Prop := va_Qi (S := Int × ZG) (fun r u => r = zI u.1 ∧ (u.1 = 0 ∨ u.1 = 1) ∧ Q u.1 u.2) (fun u t => Rel P u.2 t.heap) (zAr P)
def zQv (P : ZP) (Q : ZG → Prop) : Array Value → State → Outcome → State → Prop := va_Qv (S := ZG) (fun u => Q u) (fun u t => Rel P u t.heap) (zAr P)
def zQr (P : ZP) (Q : ZR → ZG → Prop) : Array Value → State → Outcome → State → Prop := fun _ st oc t => (∃ (r : ZR) (G' : ZG), oc = .returned (some (zrv P r)) ∧ Q r G' ∧ Rel P G' t.heap) ∧ va_F (zAr P) st t
theorem zPc.blind {P : ZP} {G : ZG} {av : List Value} : FrameBlind (zPc P G av) := by
  intro a U g mk q
  obtain ⟨q0, qR, qK, qS⟩ := q
  exact ⟨q0, qR, qK.moved (U := U.calling g mk a) (Vm.Alike.refl U.vm) (fun w _ h1 h2 => znx_same h1 (by rfl) h2) (Nat.le_refl _), qS.step (U := U.calling g mk a) (Vm.Alike.refl U.vm) (fun _ _ _ => rfl)⟩
def zargs : Nat → List Value → List (Nat × Value)
  | _, [] => []
  | i, v :: vs => (i, v) :: zargs (i + 1) vs
def zcs (l : List Value) : Prop := ∀ v ∈ l, v.category = 1
theorem zcs_0 : zcs [] := fun _ h => by cases h
theorem zcs_c {v : Value} {l : List Value} (h : v.category = 1) (t : zcs l) : zcs (v :: l) := by
  intro w hw
  rcases List.mem_cons.mp hw with rfl | hw
  · exact h
  · exact t w hw
theorem zargs_lv : ∀ (vs : List Value) (i : Nat), zcs vs → lv_args i vs = zargs i vs
  | [], _, _ => rfl
  | v :: vs, i, h => by
    have h1 : ¬ v.category = 2 := by rw [h v List.mem_cons_self]; decide
    have ih := zargs_lv vs (i + 1) (fun w hw => h w (List.mem_cons_of_mem _ hw))
    simp only [lv_args, h1, if_false, zargs, ih]
theorem zargs_c1 : ∀ (vs : List Value) (i : Nat), zcs vs → zc1 (zargs i vs)
  | [], _, _ => zc1_nil
  | v :: vs, i, h => zc1_cons (h v List.mem_cons_self) (zargs_c1 vs (i + 1) (fun w hw => h w (List.mem_cons_of_mem _ hw)))
theorem zlg_len : ∀ (vs : List Value), zcs vs → (lg_sl vs).length = vs.length
  | [], _ => rfl
  | v :: vs, h => by
    have h1 : ¬ v.category = 2 := by rw [h v List.mem_cons_self]; decide
    have ih := zlg_len vs (fun w hw => h w (List.mem_cons_of_mem _ hw))
    show ((if v.category = 2 then [Slot.val v, Slot.second] else [Slot.val v]) ++ lg_sl vs).length = vs.length + 1
    rw [if_neg h1, List.length_append, ih, List.length_singleton, Nat.add_comm]
theorem zofW {l : Launch} {y : MethodName} {ws ws' : List Cond} {rm : Room} {Pc : Array Value → State → Prop} {Qc : Array Value → State → Outcome → State → Prop} {mc ms : Nat} {free : Addr → Prop} {cc : ByteArray} {maxL : Nat} {ret : Option FieldType}
    (hy : plainFor y = true) (hw : ws = Cond.code y cc maxL ret :: ws')
    (body : ∀ p e s m args below meth c s₁, BodyLoose p l y (headSpec ws rm) cc maxL ret e s m args below meth c s₁ → c.maxLocals = maxL → Pc args s →
      W p l e (headSpec ws rm).room s m args below meth c s.heap [] 0 0 (MQ below Qc args s mc ms free) (entryFrame m args maxL)) : Met l y ws rm Pc Qc mc ms free := by
  refine MetFree.of_bodySF (code := cc) (maxLocals := maxL) (ret := ret) hy ?_ ?_
  · intro args s m h hn
    obtain ⟨meth, c, h1, h2, h3, h4, h5, h6, -, -⟩ := Cond.code_spec hn (atoms_spec (ws := ws) h _ (by rw [hw]; exact List.mem_cons_self))
    exact ⟨meth, c, h1, h2, h3, h4, h5, h6⟩
  · intro p e s m args below meth c s₁ B hml hP _
    have hh0 : s₁.heap = s.heap := by rw [B.state]; rfl
    obtain ⟨t, a1, o, b1, b2, b3⟩ := body p e s m args below meth c s₁ B hml hP s₁ hh0 (Stand.of_body B)
    exact ⟨t, o, a1, b1, b2, b3⟩
theorem zMet {l : Launch} {P : ZP} {G : ZG} {y : MethodName} {cc : ByteArray} {maxL : Nat} {ret : Option FieldType} {rm : Room} {av : List Value} {Qc : Array Value → State → Outcome → State → Prop} {mc ms : Nat} (own : String) (hy : plainFor y = true) (hown : y.cls = own) (hcs : zcs av) (hlen : av.length ≤ maxL)
    (body : ∀ (p : Program) (e : Env) (s : State) (m : MethodId) (args : Array Value) (below : List Frame) (meth : Method) (c : Code) (ls : Array Slot), zCx P p m c cc maxL s args own → meth.sig.returnType = ret → meth.locks = false → meth.name = y.name → zS P s G s.heap [] → zL ls maxL (zargs 0 av) →
      W p l e rm s m args below meth c s.heap [] 0 0 (MQ below Qc args s mc ms (zAr P)) (F0 m 0 ls [])) : Met l y (ws_ y cc maxL ret) rm (zPc P G av) Qc mc ms (zAr P) := by
  refine zofW (cc := cc) (maxL := maxL) (ret := ret) hy rfl ?_
  intro p e s m args below meth c s₁ B hml hv
  obtain ⟨rfl, hR, hK, hSt⟩ := hv
  have hts := atoms_spec (ws := ws_ y cc maxL ret) B.pre
  have hts : ∀ w ∈ lw_all, w.before _ s = true := fun w h => hts w (List.mem_cons_of_mem _ h)
  have hl := lv_entry av (n := maxL) (by rw [zlg_len av hcs]; exact hlen)
  rw [lg_entry_eq]
  rw [zargs_lv av 0 hcs] at hl
  have ho : s.vm.findClass own = some m.cls := by rw [← hown]; exact findClass_of_methodNamed B.named
  exact body p e s m _ below meth c _ ⟨B.exec, B.bytes, hml, ho, hts, hK, hSt⟩ B.returns B.notSynchronized (name_of_methodNamed B.named B.method).1 ⟨hR, va_S.rf⟩ ⟨hl, zargs_c1 av 0 hcs⟩
section ZCA
variable {p : Program} {l : Launch} {e : Env} {R : Room} {s : State} {m : MethodId} {args : Array Value} {below : List Frame} {meth : Method} {c : Code} {H : Heap} {locs : List Loc} {cells slots : Nat} {Q : State → Prop}
variable {cc : ByteArray} {pc nL : Nat} {ls : Array Slot} {rest : List Value} {P : ZP} {G : ZG} {own : String} {mc ms : Nat}
theorem z_iret (hC : zCx P p m c cc nL s args own) (hG : zS P s G H locs) (hr : meth.sig.returnType = some .int) (hk : meth.locks = false) {q : Int → ZG → Prop} {x : Int} (hx : inR x) (hV : q x G) (hc : cells ≤ mc) (hs : slots ≤ ms) (hd : decode cc pc = .ok (.ireturn, 1)) :
    W p l e R s m args below meth c H locs cells slots (MQ below (zQi P q) args s mc ms (zAr P)) (F0 m pc ls [.int (zI x)]) := by
  refine W.widen hc hs ?_
  exact W.iret hC.1 hC.2.1 hr (fun t ht hW => ⟨⟨zI x, (x, G), rfl, ⟨rfl, hx, hV⟩, (show Rel P G t.heap by rw [ht]; exact hG.1)⟩, hG.2.F ht⟩) hG.2.2.2 hd hk
theorem z_zret (hC : zCx P p m c cc nL s args own) (hG : zS P s G H locs) (hr : meth.sig.returnType = some .boolean) (hk : meth.locks = false) {q : Int → ZG → Prop} {x : Int} (hx : x = 0 ∨ x = 1) (hV : q x G) (hc : cells ≤ mc) (hs : slots ≤ ms) (hd : decode cc pc = .ok (.ireturn, 1)) :
    W p l e R s m args below meth c H locs cells slots (MQ below (zQz P q) args s mc ms (zAr P)) (F0 m pc ls [.int (zI x)]) := by
  refine W.widen hc hs ?_
  exact W.zret hC.1 hC.2.1 hr (znarrow (Or.inr ⟨rfl, hx⟩)).1 (fun t ht hW => ⟨⟨zI x, (x, G), rfl, ⟨rfl, hx, hV⟩, (show Rel P G t.heap by rw [ht]; exact hG.1)⟩, hG.2.F ht⟩) hG.2.2.2 hd hk
theorem z_vret (hC : zCx P p m c cc nL s args own) (hG : zS P s G H locs) (hr : meth.sig.returnType = none) (hk : meth.locks = false) {q : ZG → Prop} (hV : q G) (hc : cells ≤ mc) (hs : slots ≤ ms) (hd : decode cc pc = .ok (.return_, 1)) :
    W p l e R s m args below meth c H locs cells slots (MQ below (zQv P q) args s mc ms (zAr P)) (F0 m pc ls []) := by
  refine W.widen hc hs ?_
  exact W.vret hC.1 hC.2.1 hr (fun t ht hW => ⟨⟨G, rfl, hV, (show Rel P G t.heap by rw [ht]; exact hG.1)⟩, hG.2.F ht⟩) hG.2.2.2 hd hk
theorem z_aret (hC : zCx P p m c cc nL s args own) (hG : zS P s G H locs) {rt : FieldType} (hr : meth.sig.returnType = some rt) (hk : meth.locks = false) (hrt : (∃ n, rt = .object n) ∨ ∃ t, rt = .array t) {q : ZR → ZG → Prop} {r : ZR} (hV : q r G) (hc : cells ≤ mc) (hs : slots ≤ ms) (hd : decode cc pc = .ok (.areturn, 1)) :
    W p l e R s m args below meth c H locs cells slots (MQ below (zQr P q) args s mc ms (zAr P)) (F0 m pc ls [zrv P r]) := by
  refine W.widen hc hs ?_
  exact W.aret hC.1 hC.2.1 hr hrt (zrv_ref P r) (fun t ht hW => ⟨⟨r, G, rfl, hV, (show Rel P G t.heap by rw [ht]; exact hG.1)⟩, hG.2.F ht⟩) hG.2.2.2 hd hk
/-! calls: what is asked of the tables -/
def zPd (y : MethodName) (n : Nat) : Prop := y.cls ≠ "java/lang/invoke/MethodHandle" ∧ y.cls ≠ "java/lang/invoke/VarHandle" ∧ (parseMethodDescriptor y.desc).map (fun d => d.parameters.length) = some n
def zLV (own : String) (idx : Nat) (C : String) (y : MethodName) (cc : ByteArray) (maxL : Nat) (ret : Option FieldType) (n : Nat) : Prop := GoodIn lw_all (wsV own idx C y (ws_ y cc maxL ret)) ∧ y.cls = C ∧ zPd y n
def zLS (own : String) (idx : Nat) (y : MethodName) (cc : ByteArray) (maxL : Nat) (ret : Option FieldType) (n : Nat) : Prop := GoodIn lw_all (va_wsS own idx y (ws_ y cc maxL ret)) ∧ zPd y n
def zsum (l : List Value) : Prop := zcs l ∧ l.length ≤ 8
theorem zsum_le {l : List Value} (h : zsum l) : 2 * 0 + (l.map fun v => v.category).sum ≤ 8 := by
  have e : ∀ l : List Value, zcs l → (l.map fun v => v.category).sum = l.length := by
    intro l
    induction l with
    | nil => intro _; rfl
    | cons v vs ih =>
      intro h
      rw [List.map_cons, List.sum_cons, h v List.mem_cons_self, ih (fun w hw => h w (List.mem_cons_of_mem _ hw)), List.length_cons]
      omega
  rw [e l h.1]
  have := h.2
  omega
/-- the room of a call -/
def zRm (R rm : Room) (maxL : Nat) : Prop := rm.frames + 1 ≤ R.frames ∧ 8 + (maxL + 11) + rm.locals ≤ R.locals
variable {y : MethodName} {cc' : ByteArray} {maxL idx n mc' ms' : Nat} {ret : Option FieldType} {rm : Room} {av st0 : List Value} {G0 : ZG}
theorem zPre (hC : zCx P p m c cc nL s args own) (hG : zS P s G H locs) : ∀ U : State, U.heap = H → s.WarmedH U.vm → zPc P G av av.toArray U := by
  intro U hU hW
  refine ⟨rfl, by rw [hU]; exact hG.1, hC.2.2.2.2.2.1.moved hW.alike (fun w _ h1 h2 => znx_warm h1 hW h2) (by rw [hU]; exact hG.2.1), ?_⟩
  rw [hU]
  exact hC.2.2.2.2.2.2.step hW.alike hG.2.2.1
theorem zrecv (hC : zCx P p m c cc nL s args own) {ci a : Nat} {V : Nat → Value} (h1 : 1 ≤ ci) (h2 : ci ≤ 16) (hO : t_OB a (P.1.1 ci) (cN ci) (P.1.2 ci) H V) : ∃ cellB : Cell, H[a]? = some cellB ∧ cellB.vm.isStatics = false ∧ s.vm.findClass (cR ci) = some cellB.cls := by
  obtain ⟨cell, q1, q2, q3, -⟩ := hO
  exact ⟨cell, q1, by rw [q3]; rfl, by rw [q2]; exact (hC.2.2.2.2.2.1.1 ci h1 h2).2.1⟩
theorem zrunS {Qc : Array Value → State → Outcome → State → Prop} (hC : zCx P p m c cc nL s args own) (hG : zS P s G H locs) (hM : Met l y (ws_ y cc' maxL ret) rm (zPc P G av) Qc mc' ms' (zAr P)) (hl : zLS own idx y cc' maxL ret n) (hn : av.length = n) (hc : rm.cells = mc') (hs : rm.slots = ms') (hR : zRm R rm maxL) (hf : cells + mc' ≤ R.cells ∧ slots + ms' ≤ R.slots)
    (hst : st0 = av.reverse ++ rest) (hrest : zsum rest) (hsz : ls.size = nL) (hd : decode cc pc = .ok (.invokestatic idx, 3)) : va_Run p l e R s m args below meth c H locs cells slots mc' ms' (F0 m pc ls st0) rest (Qc av.toArray) (zAr P) :=
  va_runS (As := av) ⟨hC.1, hC.2.1, hC.2.2.1, hC.2.2.2.1, hC.2.2.2.2.1⟩ hM (va_cwS n hC.2.2.2.2.1 hl.1 rfl hc hs hl.2 hR) ⟨zPc.blind, zPre hC hG⟩ rfl hn hsz hst (zsum_le hrest) hd hf
theorem zrunV {Qc : Array Value → State → Outcome → State → Prop} {ci b : Nat} {V : Nat → Value} (hC : zCx P p m c cc nL s args own) (hG : zS P s G H locs) (h1 : 1 ≤ ci) (h2 : ci ≤ 16) (hO : t_OB b (P.1.1 ci) (cN ci) (P.1.2 ci) H V) (hM : Met l y (ws_ y cc' maxL ret) rm (zPc P G (.ref b :: av)) Qc mc' ms' (zAr P)) (hl : zLV own idx (cR ci) y cc' maxL ret n) (hn : av.length = n) (hc : rm.cells = mc') (hs : rm.slots = ms') (hR : zRm R rm maxL) (hf : cells + mc' ≤ R.cells ∧ slots + ms' ≤ R.slots)
    (hst : st0 = av.reverse ++ .ref b :: rest) (hrest : zsum rest) (hsz : ls.size = nL) (hd : decode cc pc = .ok (.invokevirtual idx, 3)) : va_Run p l e R s m args below meth c H locs cells slots mc' ms' (F0 m pc ls st0) rest (Qc (Value.ref b :: av).toArray) (zAr P) :=
  va_runV (As := av) ⟨hC.1, hC.2.1, hC.2.2.1, hC.2.2.2.1, hC.2.2.2.2.1⟩ hM (cwV n hC.2.2.2.2.1 hl.1 rfl hc hs ⟨hl.2.1, hl.2.2⟩ hR) ⟨zPc.blind, zrecv hC h1 h2 hO, zPre hC hG⟩ rfl hn hsz hst (zsum_le hrest) hd hf
theorem z_call_i {q : Int → ZG → Prop} {a : Array Value} (hG : zS P s G H locs) (hr : va_Run p l e R s m args below meth c H locs cells slots mc' ms' (F0 m pc ls st0) rest (zQi P q a) (zAr P))
    (kk : ∀ x G1 H1 locs1, inR x → q x G1 → zS P s G1 H1 locs1 → W p l e R s m args below meth c H1 locs1 (cells + mc') (slots + ms') Q (F0 m (pc + 3) ls (.int (zI x) :: rest))) : W p l e R s m args below meth c H locs cells slots Q (F0 m pc ls st0) := by
  refine va_calli hr hG.2 (fun q _ h => h) (fun q h => h) (fun r u t H1 locs1 ht hvm hw hB hz hk hS => ?_)
  obtain ⟨rfl, hx, hq⟩ := hw
  exact kk u.1 u.2 H1 locs1 hx hq ⟨by rw [← ht]; exact hB, hS⟩
theorem z_call_z {q : Int → ZG → Prop} {a : Array Value} (hG : zS P s G H locs) (hr : va_Run p l e R s m args below meth c H locs cells slots mc' ms' (F0 m pc ls st0) rest (zQz P q a) (zAr P))
    (kk : ∀ x G1 H1 locs1, (x = 0 ∨ x = 1) → q x G1 → zS P s G1 H1 locs1 → W p l e R s m args below meth c H1 locs1 (cells + mc') (slots + ms') Q (F0 m (pc + 3) ls (.int (zI x) :: rest))) : W p l e R s m args below meth c H locs cells slots Q (F0 m pc ls st0) := by
  refine va_calli hr hG.2 (fun q _ h => h) (fun q h => h) (fun r u t H1 locs1 ht hvm hw hB hz hk hS => ?_)
  obtain ⟨rfl, hx, hq⟩ := hw
  exact kk u.1 u.2 H1 locs1 hx hq ⟨by rw [← ht]; exact hB, hS⟩
theorem z_call_v {q : ZG → Prop} {a : Array Value} (hG : zS P s G H locs) (hr : va_Run p l e R s m args below meth c H locs cells slots mc' ms' (F0 m pc ls st0) rest (zQv P q a) (zAr P))
    (kk : ∀ G1 H1 locs1, q G1 → zS P s G1 H1 locs1 → W p l e R s m args below meth c H1 locs1 (cells + mc') (slots + ms') Q (F0 m (pc + 3) ls rest)) : W p l e R s m args below meth c H locs cells slots Q (F0 m pc ls st0) := by
  refine va_callv hr hG.2 (fun q _ h => h) (fun q h => h) (fun u t H1 locs1 ht hvm hw hB hz hk hS => ?_)
  exact kk u H1 locs1 hw ⟨by rw [← ht]; exact hB, hS⟩
theorem z_call_r {q : ZR → ZG → Prop} {a : Array Value} (hG : zS P s G H locs) (hr : va_Run p l e R s m args below meth c H locs cells slots mc' ms' (F0 m pc ls st0) rest (zQr P q a) (zAr P))
    (kk : ∀ r G1 H1 locs1, q r G1 → zS P s G1 H1 locs1 → W p l e R s m args below meth c H1 locs1 (cells + mc') (slots + ms') Q (F0 m (pc + 3) ls (zrv P r :: rest))) : W p l e R s m args below meth c H locs cells slots Q (F0 m pc ls st0) := by
  intro T hT X
  obtain ⟨v, st₀, t, T', L, h0, X', hL, e1, e2, ⟨⟨r, G', hv, hq, hB⟩, hz, hk⟩, st⟩ := hr T hT X
  cases hv
  rw [h0] at hz hk
  have hS : va_S (fun q => zB P ≤ q) s.heap T'.heap (locs ++ L) := ⟨Nat.le_trans hG.2.1 (by rw [e1]; exact hz), fun q h1 h2 => by rw [e1, hk q (Nat.lt_of_lt_of_le h1 hG.2.1) h2]; exact hG.2.2.1 q h1 h2, fun q hq => by
      rcases List.mem_append.mp hq with h | h
      · exact hG.2.2.2 q h
      · exact hL q h⟩
  obtain ⟨t2, a1, b1⟩ := kk r G' T'.heap (locs ++ L) hq ⟨by rw [e1]; exact hB, hS⟩ T' rfl X'
  exact ⟨t2, st t2 a1, b1⟩
end ZCA
