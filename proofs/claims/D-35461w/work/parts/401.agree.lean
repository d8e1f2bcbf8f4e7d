/-! TREES: patterns and values that are added change no tree -/
set_option maxRecDepth 100000
/-- the same for trees -/
def Agr (D D' : ZD) : Prop := (∀ j, (j = 1 ∨ j = 2 ∨ j = 3 ∨ (20 ≤ j ∧ j ≤ 28)) → D' j = D j) ∧ ∀ n, 0 ≤ n → n < D 9 0 → D' 10 n = D 10 n ∧ D' 11 n = D 11 n ∧ D' 12 n = D 12 n ∧ ∀ k, 0 ≤ k → k < 3 → D' 13 (3 * n + k) = D 13 (3 * n + k)
theorem agr_prt {D D' : ZD} (h : Agr D D') {n k : Int} (h0 : 0 ≤ n) (h1 : n < D 9 0) (k0 : 0 ≤ k) (k3 : k < 3) : prt D' n k = prt D n k := (h.2 n h0 h1).2.2.2 k k0 k3
theorem agr_chs {D D' : ZD} (h : Agr D D') {n p j : Int} (h0 : 0 ≤ n) (h1 : n < D 9 0) : chs D' n p j = chs D n p j := by
  unfold chs
  simp only [List.filterMap_cons, List.filterMap_nil]
  rw [agr_prt h h0 h1 (k := 0) (by omega) (by omega), agr_prt h h0 h1 (k := 1) (by omega) (by omega), agr_prt h h0 h1 (k := 2) (by omega) (by omega)]
theorem agr_hold {σ : Type} {D D' : ZD} {C : σ → σ} (h : Agr D D') (hM : MIp D) : ∀ (f : Nat) (n x : Int) (s : σ), 0 ≤ n → n < D 9 0 → hold D' C f n x s = hold D C f n x s
  | 0, _, _, _, _, _ => rfl
  | f + 1, n, x, s, h0, h1 => by
    obtain ⟨a10, a11, a12, a13⟩ := h.2 n h0 h1
    rw [hold_s, hold_s, a10, a11, a12, agr_prt h h0 h1 (k := 0) (by omega) (by omega), agr_prt h h0 h1 (k := 1) (by omega) (by omega)]
    by_cases h4 : D 10 n = 4
    · have c1 := (hM.2.2 n h0 h1).2.2.2.2.2.2.2.2.2.2.2.2.2.2.2.1 h4
      have q0 := pch hM h0 h1 (k := 0) (by omega) (by omega) (by omega)
      have q1 := pch hM h0 h1 (k := 1) (by omega) (by omega) (by omega)
      rw [if_pos h4, if_pos h4, agr_hold h hM f _ x s q0.1 q0.2.1, agr_hold h hM f _ x _ q1.1 q1.2.1]
    · rw [if_neg h4, if_neg h4]
theorem fm_congr {α β : Type} {f g : α → List β} : ∀ {L : List α}, (∀ x ∈ L, f x = g x) → L.flatMap f = L.flatMap g
  | [], _ => rfl
  | x :: L, h => by rw [List.flatMap_cons, List.flatMap_cons, h x List.mem_cons_self, fm_congr (fun y hy => h y (List.mem_cons_of_mem _ hy))]
theorem al_congr {σ : Type} {M N : Int → Int → σ → Int × σ} : ∀ (L : List (Int × Int)), (∀ c ∈ L, ∀ t, M c.1 c.2 t = N c.1 c.2 t) → ∀ t, al M L t = al N L t
  | [], _, t => rfl
  | c :: L, h, t => by
    rw [al_s, al_s, h c List.mem_cons_self t]
    split
    · exact al_congr L (fun d hd => h d (List.mem_cons_of_mem _ hd)) _
    · rfl
theorem agr_mt {σ : Type} {D D' : ZD} {A V : Int → Int → σ → Int × σ} {C : σ → σ} (h : Agr D D') (hM : MI D) : ∀ (f : Nat) (n p : Int) (s : σ × (Int → Int)), 0 ≤ n → n < D 9 0 → mt D' A V C f n p s = mt D A V C f n p s := by
  intro f
  induction f with
  | zero => intro n p s _ _; rfl
  | succ f ih =>
    intro n p s h0 h1
    have hpw := hM.2.2.1.2.2 n h0 h1
    obtain ⟨a10, a11, a12, a13⟩ := h.2 n h0 h1
    obtain ⟨hform, -, -, -, -, -, -, -, -, -, -, f0, f1, f2, f3, f4, f5, f6⟩ := id hpw
    have p0 := agr_prt h h0 h1 (k := 0) (by omega) (by omega)
    have p1 := agr_prt h h0 h1 (k := 1) (by omega) (by omega)
    have parts : ∀ j t, al (mt D' A V C f) (chs D' n p j) t = al (mt D A V C f) (chs D n p j) t := fun j t => by
      rw [agr_chs h h0 h1]
      refine al_congr _ (fun c hc t => ?_) t
      obtain ⟨i, i0, i3, hi, rfl⟩ := chs_mem hc
      have qi := pch hM.2.2.1 h0 h1 i0 i3 hi
      exact ih _ _ _ qi.1 qi.2.1
    rw [mt_s, mt_s, a10, a11]
    by_cases e1 : D 10 n = 1
    · have c1 := f1 e1
      have q0 := pch hM.2.2.1 h0 h1 (k := 0) (by omega) (by omega) (by omega)
      rw [if_pos e1, if_pos e1, p0, ih _ p s q0.1 q0.2.1]
    rw [if_neg e1, if_neg e1]
    by_cases e2 : D 10 n = 2
    · rw [if_pos e2, if_pos e2, a12]
    rw [if_neg e2, if_neg e2]
    by_cases e3 : D 10 n = 3
    · rw [if_pos e3, if_pos e3, parts]
    rw [if_neg e3, if_neg e3]
    by_cases e4 : D 10 n = 4
    · have c4 := f4 e4
      have q0 := pch hM.2.2.1 h0 h1 (k := 0) (by omega) (by omega) (by omega)
      have q1 := pch hM.2.2.1 h0 h1 (k := 1) (by omega) (by omega) (by omega)
      rw [if_pos e4, if_pos e4, p0, p1, ih _ p s q0.1 q0.2.1, ih _ p _ q1.1 q1.2.1]
    rw [if_neg e4, if_neg e4]
    by_cases e5 : D 10 n = 5
    · have c5 := f5 e5
      have q0 := pch hM.2.2.1 h0 h1 (k := 0) (by omega) (by omega) (by omega)
      rw [if_pos e5, if_pos e5, p0, agr_hold h hM.2.2.1 40 _ _ _ q0.1 q0.2.1]
    rw [if_neg e5, if_neg e5]
    by_cases e6 : D 10 n = 6
    · have ef : ∀ x, fitl D' n x = fitl D n x := fun x => by unfold fitl; rw [a11, a12]
      have eb : ∀ x, begl D' n x = begl D n x := fun x => by unfold begl; rw [a11, a12]
      rw [if_pos e6, if_pos e6, ef, eb, parts]
    rw [if_neg e6, if_neg e6]
theorem agr_ndl {D D' : ZD} {e : PT} (h : Agr D D') (hM : MI D) : ∀ (f : Nat) (n p : Int), 0 ≤ n → n < D 9 0 → ndl D' e f n p = ndl D e f n p := by
  intro f
  induction f with
  | zero => intro n p _ _; rfl
  | succ f ih =>
    intro n p h0 h1
    have hpw := hM.2.2.1.2.2 n h0 h1
    obtain ⟨a10, a11, a12, a13⟩ := h.2 n h0 h1
    obtain ⟨hform, -, -, -, -, -, -, -, -, -, -, f0, f1, f2, f3, f4, f5, f6⟩ := id hpw
    have p0 := agr_prt h h0 h1 (k := 0) (by omega) (by omega)
    have p1 := agr_prt h h0 h1 (k := 1) (by omega) (by omega)
    have parts : ∀ j, (chs D' n p j).flatMap (fun x => ndl D' e f x.1 x.2) = (chs D n p j).flatMap (fun x => ndl D e f x.1 x.2) := fun j => by
      rw [agr_chs h h0 h1]
      refine fm_congr (fun c hc => ?_)
      obtain ⟨i, i0, i3, hi, rfl⟩ := chs_mem hc
      have qi := pch hM.2.2.1 h0 h1 i0 i3 hi
      exact ih _ _ qi.1 qi.2.1
    have ef : ∀ x, fitl D' n x = fitl D n x := fun x => by unfold fitl; rw [a11, a12]
    have eb : ∀ x, begl D' n x = begl D n x := fun x => by unfold begl; rw [a11, a12]
    rw [ndl_s, ndl_s, a10, a11]
    by_cases e1 : D 10 n = 1
    · have c1 := f1 e1
      have q0 := pch hM.2.2.1 h0 h1 (k := 0) (by omega) (by omega) (by omega)
      rw [if_pos e1, if_pos e1, p0, ih _ p q0.1 q0.2.1]
    rw [if_neg e1, if_neg e1]
    by_cases e4 : D 10 n = 4
    · have c4 := f4 e4
      have q0 := pch hM.2.2.1 h0 h1 (k := 0) (by omega) (by omega) (by omega)
      have q1 := pch hM.2.2.1 h0 h1 (k := 1) (by omega) (by omega) (by omega)
      rw [if_pos e4, if_pos e4, p0, p1, ih _ p q0.1 q0.2.1, ih _ p q1.1 q1.2.1]
    rw [if_neg e4, if_neg e4, parts, ef, eb, parts]
theorem agr_cols {D D' : ZD} (h : Agr D D') (c : Int) : cols D' c = cols D c := by
  unfold cols; rw [h.1 21 (by omega), h.1 24 (by omega)]
theorem agr_csl {D D' : ZD} (h : Agr D D') : csl D' = csl D := by unfold csl; rw [h.1 23 (by omega)]
theorem agr_mca {σ : Type} {D D' : ZD} {A V : Int → Int → σ → Int × σ} {C : σ → σ} (h : Agr D D') (hM : MI D) {c : Int} (hc : 0 ≤ c ∧ c < D 23 0) (s : σ) : mca D' A V C c s = mca D A V C c s := by
  have key : ∀ f t, al (mt D' A V C f) (cols D' c) t = al (mt D A V C f) (cols D c) t := fun f t => by
    rw [agr_cols h]
    refine al_congr _ (fun x hx t => ?_) t
    obtain ⟨i, i0, i1, _, g0, g1, _⟩ := cols_tq (e := []) hM hc hx
    exact agr_mt h hM f _ _ _ g0 g1
  unfold mca
  exact key 40 _
theorem agr_ndc {D D' : ZD} {e : PT} (h : Agr D D') (hM : MI D) {c : Int} (hc : 0 ≤ c ∧ c < D 23 0) : ndc D' e c = ndc D e c := by
  unfold ndc
  rw [agr_cols h]
  refine fm_congr (fun x hx => ?_)
  obtain ⟨i, i0, i1, _, g0, g1, _⟩ := cols_tq (e := []) hM hc hx
  exact agr_ndl h hM 40 _ _ g0 g1
theorem agr_tmc {D D' : ZD} {e : PT} (h : Agr D D') (hM : MI D) {c : Int} (hc : 0 ≤ c ∧ c < D 23 0) (s : TS) : tmc D' e c s = tmc D e c s := by
  unfold tmc; exact agr_mca h hM hc s
theorem agr_scan {D D' : ZD} {e : PT} (h : Agr D D') (hM : MI D) : ∀ (L : List Int), (∀ c ∈ L, 0 ≤ c ∧ c < D 23 0) → scan D' e L = scan D e L
  | [], _ => rfl
  | c :: L, hL => by
    rw [scan_c, scan_c, agr_tmc h hM (hL c List.mem_cons_self), agr_scan h hM L (fun d hd => hL d (List.mem_cons_of_mem _ hd))]
theorem agr_elig {D D' : ZD} {e : PT} (h : Agr D D') (hM : MI D) {c : Int} (hc : 0 ≤ c ∧ c < D 23 0) : elig D' e c = elig D e c := by
  unfold elig; rw [agr_tmc h hM hc]
theorem argb_congr {w w' : Int → Nat} (h : ∀ q, w' q = w q) : ∀ (L : List Int), argb w' L = argb w L := fun L => by rw [show w' = w from funext h]
theorem agr_best {D D' : ZD} {e : PT} (h : Agr D D') (hM : MI D) : best D' e = best D e := by
  unfold best
  have e1 : allp D' e = allp D e := by
    unfold allp
    rw [agr_csl h]
    refine fm_congr (fun c hc => ?_)
    rw [agr_elig h hM (csl_mem hc), agr_ndc h hM (csl_mem hc)]
  rw [e1]
  refine argb_congr (fun q => ?_) _
  unfold cntp
  rw [agr_csl h]
  congr 1
  refine List.filter_congr (fun c hc => ?_)
  rw [agr_elig h hM (csl_mem hc), agr_ndc h hM (csl_mem hc)]
theorem agr_kd {D D' : ZD} {e : PT} (h : Agr D D') : ∀ (f : Nat) (p : Int), kd D' e f p = kd D e f p
  | 0, _ => rfl
  | f + 1, p => by rw [kd_s, kd_s, agr_kd h f, h.1 22 (by omega), h.1 3 (by omega)]
theorem agr_ways {D D' : ZD} (h : Agr D D') (k : Int) : ways D' k = ways D k := by unfold ways; rw [h.1 1 (by omega)]
theorem agr_lab {D D' : ZD} {eng : Int} {e : PT} (h : Agr D D') (hM : MI D) : lab D' eng e = lab D eng e := by
  unfold lab
  rw [agr_csl h, agr_scan h hM _ (fun c hc => csl_mem hc)]
  cases scan D e (csl D) with
  | none => rfl
  | some x =>
    obtain ⟨c, r, s⟩ := x
    dsimp only
    rw [agr_best h hM, agr_kd h, agr_kd h, agr_ways h, agr_ways h, h.1 26 (by omega), h.1 20 (by omega)]
theorem agr_nl {D D' : ZD} {eng : Int} (h : Agr D D') (hM : MI D) (e : PT) : nl D' eng e = nl D eng e := by
  match e with
  | [] => exact agr_lab h hM
  | st :: e =>
    have en : ∀ D : ZD, nl D eng (st :: e) = if st.1 = 3 ∧ st.2.2.2 = 0 then (0, st.2.1, 0, 0) else if st.1 = 3 ∧ D 26 st.2.1 = 3 then (1, st.2.1, 0, 0) else lab D eng (st :: e) := fun D => rfl
    rw [en, en, h.1 26 (by omega), agr_lab h hM]
theorem agr_isN {D D' : ZD} {eng : Int} (h : Agr D D') (hM : MI D) : ∀ (e : PT), isN D' eng e ↔ isN D eng e
  | [] => Iff.rfl
  | st :: e => by
    have ih := agr_isN (eng := eng) h hM e
    unfold isN
    rw [ih, agr_nl h hM]
theorem agr_big {D D' : ZD} {eng : Int} (h : Agr D D') (hM : MI D) (hB : Big D eng) : Big D' eng := by
  obtain ⟨L, l1, l2, l3⟩ := hB
  exact ⟨L, l1, fun e he => (agr_isN h hM e).mpr (l2 e he), l3⟩
theorem agr_tc {D D' : ZD} {eng : Int} {o : Nat} {G : ZG} (h : Agr D D') (hM : MI D) (hT : TC D eng o G) : TC D' eng o G := by
  rcases hT with ⟨a, b, c⟩ | ⟨S, h0, h1, h2, h3⟩
  · exact Or.inl ⟨a, b, agr_big h hM c⟩
  · refine Or.inr ⟨S, h0, ⟨h1.1, h1.2.1, h1.2.2.1, h1.2.2.2.1, fun q hq => (agr_isN h hM q).mpr (h1.2.2.2.2 q hq)⟩, h2, fun i q hi => ?_⟩
    have := h3 i q hi
    unfold Row at this ⊢
    rw [agr_nl h hM]; exact this
theorem agr_tri {D D' : ZD} {o : Nat} {G : ZG} (h : Agr D D') (hM : MI D) (hT : TrI D o G) : TrI D' o G := ⟨hT.1, fun h11 => agr_tc h hM (hT.2 h11)⟩
theorem agr_tm {D D' : ZD} {eng : Int} {K : ZG} (h : Agr D D') (hM : MI D) (hT : TM D eng K) : TM D' eng K := by
  rcases hT with ⟨a, b, b2⟩ | ⟨a, L, t1, t2, t3, t4, t5, t6, t7⟩
  · exact Or.inl ⟨a, agr_big h hM b, b2⟩
  · refine Or.inr ⟨a, L, t1, t2, t3, t4, fun i e hi => ⟨(agr_isN h hM e).mpr (t5 i e hi).1, (t5 i e hi).2⟩, fun i e hi => ?_, t7⟩
    rw [agr_nl h hM, agr_lab h hM]; exact t6 i e hi
