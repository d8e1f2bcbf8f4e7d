/-! ROWS 10: the law's own methods: they catch -/
set_option maxRecDepth 100000
theorem z_i64 {x : Int} (h : inR x) : (zI x).toInt64 = Int64.ofInt x := by
  rw [← Int64.toInt_inj, Int32.toInt_toInt64, zI_toInt h]
  unfold inR at h
  exact (Int64.toInt_ofInt_of_le (by omega) (by omega)).symm
theorem zMetW {l : Launch} {P : ZP} {G : ZG} {y : MethodName} {cc : ByteArray} {maxL : Nat} {ret : Option FieldType} {hh : List (Nat × Nat × Nat × Nat)} {rm : Room} {av : List Value} {Qc : Array Value → State → Outcome → State → Prop} {mc ms : Nat} (own : String) (hy : plainName y.cls = true) (hown : y.cls = own) (hcs : zcs av) (hlen : av.length ≤ maxL)
    (body : ∀ (p : Program) (e : Env) (s : State) (m : MethodId) (args : Array Value) (below : List Frame) (meth : Method) (c : Code) (ls : Array Slot), zCx P p m c cc maxL s args own → meth.sig.returnType = ret → meth.locks = false → c.exceptionTable.toList = tableOf hh → zS P s G s.heap [] → zL ls maxL (zargs 0 av) →
      W p l e rm s m args below meth c s.heap [] 0 0 (MQ below Qc args s mc ms (zAr P)) (F0 m 0 ls [])) : Met l y (wsW_ y cc maxL ret hh) rm (zPc P G av) Qc mc ms (zAr P) := by
  refine MetFree.of_bodyS (code := cc) (maxLocals := maxL) (ret := ret) hy ?_ ?_
  · intro args s m h hn
    obtain ⟨m9, meth, c, hn9, h1, h2, h3, h4, -, h5, h6, -⟩ := Cond.codeWith_spec (atoms_spec (ws := wsW_ y cc maxL ret hh) h _ List.mem_cons_self)
    cases hn.symm.trans hn9
    exact ⟨meth, c, h1, h2, h3, h4, h5, h6⟩
  · intro p e s m args below meth c s₁ B hml hP _
    have hh0 : s₁.heap = s.heap := by rw [B.state]; rfl
    have htab : c.exceptionTable.toList = tableOf hh := vx_table (x := y) B (atoms_spec (ws := wsW_ y cc maxL ret hh) B.pre _ List.mem_cons_self)
    obtain ⟨rfl, hR, hK, hSt⟩ := hP
    have hts := atoms_spec (ws := wsW_ y cc maxL ret hh) B.pre
    have hts : ∀ w ∈ lw_all, w.before _ s = true := fun w h => hts w (List.mem_cons_of_mem _ h)
    have hl := lv_entry av (n := maxL) (by rw [zlg_len av hcs]; exact hlen)
    rw [lg_entry_eq]
    rw [zargs_lv av 0 hcs] at hl
    have ho : s.vm.findClass own = some m.cls := by rw [← hown]; exact findClass_of_methodNamed B.named
    obtain ⟨t, a1, o, b1, b2, b3⟩ := body p e s m _ below meth c _ ⟨B.exec, B.bytes, hml, ho, hts, hK, hSt⟩ B.returns B.notSynchronized htab ⟨hR, va_S.rf⟩ ⟨hl, zargs_c1 av 0 hcs⟩ s₁ hh0 (Stand.of_body B)
    exact ⟨t, o, a1, b1, b2, b3⟩
section ZLW
variable {p : Program} {l : Launch} {e : Env} {R : Room} {s : State} {m : MethodId} {args : Array Value} {below : List Frame} {meth : Method} {c : Code} {H : Heap} {locs : List Loc} {cells slots : Nat} {Q : State → Prop}
variable {cc : ByteArray} {pc nL : Nat} {ls : Array Slot} {rest st0 : List Value} {P : ZP} {G : ZG} {own : String} {mc ms mc' ms' : Nat} {a : Array Value}
theorem z_lcall_i {q : Int → ZG → Prop} {X : Nat → ZG → Prop} (hG : zS P s G H locs) (hr : vx_Run p l e R s m args below meth c H locs cells slots mc' ms' (F0 m pc ls st0) rest (zQi P q a) (zXc P X) (zAr P))
    (kx : ∀ k G1 H1 locs1 ce q9, X k G1 → zS P s G1 H1 locs1 → H1[q9]? = some ce → ce.vm = .none → s.vm.findClass (zxn k) = some ce.cls → vx_W p l e R s m args below meth c H1 locs1 (cells + mc') (slots + ms') Q (F0 m pc ls rest) q9)
    (kk : ∀ x G1 H1 locs1, inR x → q x G1 → zS P s G1 H1 locs1 → W p l e R s m args below meth c H1 locs1 (cells + mc') (slots + ms') Q (F0 m (pc + 3) ls (.int (zI x) :: rest))) : W p l e R s m args below meth c H locs cells slots Q (F0 m pc ls st0) := by
  refine vx_calli hr hG.2 (fun q _ h => h) (fun q h => h) (fun q _ h => h) (fun E ce q9 u t H1 locs1 ht hvm hp hb hz hk hS h1 h2 h3 => ?_) (fun r u t H1 locs1 ht hvm hw hB hz hk hS => ?_)
  · obtain ⟨rfl, hb⟩ := hb
    exact kx u.1 u.2 H1 locs1 ce q9 hp ⟨by rw [← ht]; exact hb, hS⟩ h1 h2 h3
  · obtain ⟨rfl, hx, hq⟩ := hw
    exact kk u.1 u.2 H1 locs1 hx hq ⟨by rw [← ht]; exact hB, hS⟩
theorem z_lcall_z {q : Int → ZG → Prop} {X : Nat → ZG → Prop} (hG : zS P s G H locs) (hr : vx_Run p l e R s m args below meth c H locs cells slots mc' ms' (F0 m pc ls st0) rest (zQz P q a) (zXc P X) (zAr P))
    (kx : ∀ k G1 H1 locs1 ce q9, X k G1 → zS P s G1 H1 locs1 → H1[q9]? = some ce → ce.vm = .none → s.vm.findClass (zxn k) = some ce.cls → vx_W p l e R s m args below meth c H1 locs1 (cells + mc') (slots + ms') Q (F0 m pc ls rest) q9)
    (kk : ∀ x G1 H1 locs1, (x = 0 ∨ x = 1) → q x G1 → zS P s G1 H1 locs1 → W p l e R s m args below meth c H1 locs1 (cells + mc') (slots + ms') Q (F0 m (pc + 3) ls (.int (zI x) :: rest))) : W p l e R s m args below meth c H locs cells slots Q (F0 m pc ls st0) := by
  refine vx_calli hr hG.2 (fun q _ h => h) (fun q h => h) (fun q _ h => h) (fun E ce q9 u t H1 locs1 ht hvm hp hb hz hk hS h1 h2 h3 => ?_) (fun r u t H1 locs1 ht hvm hw hB hz hk hS => ?_)
  · obtain ⟨rfl, hb⟩ := hb
    exact kx u.1 u.2 H1 locs1 ce q9 hp ⟨by rw [← ht]; exact hb, hS⟩ h1 h2 h3
  · obtain ⟨rfl, hx, hq⟩ := hw
    exact kk u.1 u.2 H1 locs1 hx hq ⟨by rw [← ht]; exact hB, hS⟩
theorem zxc_in : ∀ k, k < 3 → Cond.castable (zxn k) (zxn k) ∈ znx := by
  intro k hk
  rcases (show k = 0 ∨ k = 1 ∨ k = 2 by omega) with rfl | rfl | rfl
  · exact xq560
  · exact xq590
  · exact xq626
theorem z_catch {k hpc : Nat} {ce : Cell} {q9 : Nat} (hC : zCx P p m c cc nL s args own) (hh1 hh2 : List (Nat × Nat × Nat × Nat)) (en : Nat × Nat × Nat × Nat) (ht : c.exceptionTable.toList = tableOf (hh1 ++ en :: hh2)) (hk : k < 3) (hpre : ∀ z ∈ hh1, z.2.2.2 ≠ 0 ∧ ∃ d, d < 3 ∧ k ≠ d ∧ Cond.classLink own z.2.2.2 (zxn d) ∈ lw_all) (hx : (decide (en.1 ≤ pc) && decide (pc < en.2.1)) = true) (h0 : en.2.2.2 ≠ 0) (hl : Cond.classLink own en.2.2.2 (zxn k) ∈ lw_all) (he : en.2.2.1 = hpc) (hcell : H[q9]? = some ce) (hv : ce.vm = .none) (hcl : s.vm.findClass (zxn k) = some ce.cls)
    (kk : W p l e R s m args below meth c H locs cells slots Q (F0 m hpc ls [.ref q9])) : vx_W p l e R s m args below meth c H locs cells slots Q (F0 m pc ls rest) q9 := by
  subst he
  refine vx_catch (name := zxn k) (E := zxn k) hC.2.2.2.1 (tableOf hh1) ⟨en.1, en.2.1, en.2.2.1, en.2.2.2⟩ (tableOf hh2) (by rw [ht]; simp [tableOf]) (fun z hz => ?_) hx h0 (hC.2.2.2.2.1 _ hl) (va_Nw.use rfl (hC.2.2.2.2.2.1.2.2.1 _ (zxc_in k hk)).2) hcell hv hcl kk
  obtain ⟨w, hw, rfl⟩ := List.mem_map.mp hz
  obtain ⟨h1, d, hd, hkd, hl2⟩ := hpre w hw
  exact Or.inr ⟨h1, zxn d, hC.2.2.2.2.1 _ hl2, hC.2.2.2.2.2.1.2.2.2.2.2.2 k hk d hd hkd⟩
/-- the answer is laid into the law's cell -/
theorem z_outS (hC : zCx P p m c cc nL s args own) (hG : zS P s G H locs) {x : Int} {y : Int64} (hx : inR x) (hy : y = Int64.ofInt x) (hd : decode cc pc = .ok (.lastore, 1))
    (kk : ∀ H1 locs1, zS P s (zss G 6 0 0 x) H1 locs1 → W p l e R s m args below meth c H1 locs1 cells slots Q (F0 m (pc + 1) ls rest)) : W p l e R s m args below meth c H locs cells slots Q (F0 m pc ls (.long y :: .int (zI 0) :: .ref (zA P 6 1 0) :: rest)) := by
  subst hy
  have hP := hC.2.2.2.2.2.1.2.2.2.1
  have hv : zvd 6 1 0 = true := rfl
  have hat := hG.1.1 6 1 0 hv
  have hat : H[zA P 6 1 0]? = some (arrV (P.2.1 2) 1 (fun q => .long (Int64.ofInt (zsg G 6 0 q)))) := hat
  have har : ArrOfT s (P.2.1 2) .long := (hC.2.2.2.2.2.1.2.1 2 (by omega)).1
  refine W.last hC.1 hC.2.1 hat (har _ _) (fun q => by cases q) (by rw [arrV_size]; exact zI_in inR_0 (by omega) (by omega)) rfl rfl hd fun H1 e1 z oq => ?_
  refine kk _ _ (hG.put (hG.1.arrS hP hv (by omega) (by decide) (by decide) hx ?_ oq) z oq (hP.2.1 6 1 0 hv (by omega)))
  show H1[zA P 6 1 0]? = some (arrV (P.2.1 2) 1 (fun q => .long (Int64.ofInt (zsg (zss G 6 0 0 x) 6 0 q))))
  refine Eq.trans e1 (congrArg some ?_)
  rw [arrV_store, zI_clamp inR_0]
  refine arrV_congr fun q hq => ?_
  have hq0 : q = 0 := by omega
  subst hq0
  rw [zsg_ss, if_pos ⟨rfl, rfl, rfl⟩]
  simp [updV]
theorem z_i2l (hC : zCx P p m c cc nL s args own) {x : Int} (hx : inR x) (hd : decode cc pc = .ok (.i2l, 1))
    (kk : W p l e R s m args below meth c H locs cells slots Q (F0 m (pc + 1) ls (.long (Int64.ofInt x) :: rest))) : W p l e R s m args below meth c H locs cells slots Q (F0 m pc ls (.int (zI x) :: rest)) := lv_i2l hC.1 hC.2.1 hd (z_i64 hx) kk
theorem z_lconst (hC : zCx P p m c cc nL s args own) {n : Fin 2} {x : Int} (hn : Int64.ofNat (n : Nat) = Int64.ofInt x) (hd : decode cc pc = .ok (.lconst n, 1))
    (kk : W p l e R s m args below meth c H locs cells slots Q (F0 m (pc + 1) ls (.long (Int64.ofInt x) :: rest))) : W p l e R s m args below meth c H locs cells slots Q (F0 m pc ls rest) := lv_lconst hC.1 hC.2.1 hd hn kk
end ZLW
