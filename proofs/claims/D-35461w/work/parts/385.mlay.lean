/-! REFERENCE: a node finds what it asks; the tree is built -/
set_option maxRecDepth 100000
theorem allp_ne {D : ZD} {e : PT} {c : Int} {s : TS} (h : scan D e (csl D) = some (c, 2, s)) (h5 : s.1 = 5) : allp D e ≠ [] := by
  obtain ⟨h1, h2, h3, h4, h5'⟩ := scan_ok _ _ _ _ h
  intro z
  have hm : s.2.2 ∈ allp D e := by
    unfold allp
    refine List.mem_flatMap.mpr ⟨c, h1, ?_⟩
    have hel : elig D e c = true := by unfold elig; rw [h2, decide_eq_true (by omega)]; rfl
    rw [if_pos hel, ← h5']
    exact tmc_ndc h4 (by rw [h5']; exact h5)
  rw [z] at hm; cases hm
theorem lab_some {D : ZD} {eng : Int} {e : PT} {c r : Int} {s : TS} (h : scan D e (csl D) = some (c, r, s)) : lab D eng e = if r = 1 then (if D 26 c = -1 then (0, c, 0, 0) else (3, c, 0, 2)) else if s.1 = 4 then (4, s.2.1, s.2.2, D 20 (4 * s.2.1 + 3)) else if eng = 3 then (5, kd D e 8 (best D e), best D e, ways D (kd D e 8 (best D e))) else (5, kd D e 8 s.2.2, s.2.2, ways D (kd D e 8 s.2.2)) := by
  unfold lab; rw [h]
theorem lab_none {D : ZD} {eng : Int} {e : PT} (h : scan D e (csl D) = none) : lab D eng e = (2, 0, 0, 0) := by unfold lab; rw [h]
theorem scan_c (D : ZD) (e : PT) (x : Int) (L : List Int) : scan D e (x :: L) = if ff e x = true then scan D e L else if (tmc D e x (0, 0, 0)).1 = 0 then scan D e L else some (x, (tmc D e x (0, 0, 0)).1, (tmc D e x (0, 0, 0)).2.1) := rfl
theorem w6_layn {D : ZD} {eng : Int} {K0 : ZG} {L : List PT} {k : Nat} {e : PT} {Q : Int → ZG → Prop} (hM : MI D) (hL : LIN D) (hT : TT D eng K0 L k) (hk : L[k]? = some e) (h9 : nl D eng e = lab D eng e ∧ zsg K0 5 60 k = 0 ∧ 0 ≤ zsg K0 5 61 k ∧ zsg K0 5 62 k = 0) (hK : ∀ j, 1 ≤ j → j ≤ 29 → zsg K0 5 j = D j) (h40 : zsg K0 5 40 0 = 0) (h47 : inR (zsg K0 5 47 0))
    (hQ1 : ∀ K', FT K0 K' → zsg K' 5 40 0 = 0 → TT D eng K' (L ++ kids (nl D eng e) e) ((k : Int) + 1) → Q 1 K') (hQ0 : Big D eng → ∀ K', FT K0 K' → 0 ≤ zsg K' 5 56 0 ∧ zsg K' 5 56 0 ≤ 500 → Q 0 K') : vX6_lay k eng K0 Q := by
  have m23 : 0 ≤ D 23 0 ∧ D 23 0 ≤ 8 := ⟨hM.2.2.2.2.1.2.2.2.1, hM.2.2.2.2.1.2.2.2.2.1⟩
  obtain ⟨t1, t2, t3, t4, t5, t6, t7⟩ := id hT
  have hkl := (List.getElem?_eq_some_iff.mp hk).1
  have hn := (t5 k e hk).1
  have hNd := (t5 k e hk).2
  obtain ⟨hP, hV⟩ := isN_P hM e hn
  have hv := isN_v hM hn
  have hlo := lab_ok hM hP eng
  obtain ⟨hnl, h60, h61, h62⟩ := h9
  -- the node with what it asks, and those behind it
  have fin : ∀ (kind w p m c : Int) (H : ZG), nl D eng e = (kind, w, p, m) → 3 ≤ kind → 0 ≤ m → m ≤ 10 → (kind = 3 → w = c) → (0 ≤ c ∧ c < 8) → FT K0 H → zsg H 5 40 0 = 0 → (∀ j, 56 ≤ j → j ≤ 62 → ∀ x, x ≠ (k : Int) ∨ (j ≠ 59 ∧ j ≠ 60) → zsg H 5 j x = zsg K0 5 j x) → zsg H 5 59 k = w → zsg H 5 60 k = p → (∀ j, 1 ≤ j → j ≤ 29 → zsg H 5 j = D j) →
      zaS H 5 58 512 k kind fun (G3 : ZG) => zgF G3 5 56 fun (x1 : Int) => zbr (w32 (x1 + m) ≤ 500) (zgF G3 5 56 fun (x2 : Int) => zaS G3 5 61 512 k x2 fun (G4 : ZG) => zaS G4 5 62 512 k m fun (G5 : ZG) => zl2 (fun (P311 : Int → ZG → Prop) (a311_8 : Int) (K311 : ZG) => zbr (m ≤ a311_8) (Q 1 K311) (zjn (fun (z344_0 : Int) => zjn (fun (z368_2 : Int) => vX6_node k z368_2 c 0 K311 fun (x3 : Int) (G6 : ZG) => zlt1 (w32 (a311_8 + 1)) fun (x4 : Int) => P311 x4 G6) fun J368 => zbr (z344_0 = 0) (J368 (-9)) (zbr (a311_8 ≠ 0) (J368 1) (J368 0))) fun J344 => zjn (fun (_ : Unit) => J344 0) fun J343 => zbr (kind ≠ 3) (J343 ()) (zjn (fun (_ : Unit) => J344 1) fun J339 => zbr (a311_8 = 0) (J339 ()) (zaL K311 5 26 8 c fun (x5 : Int) => zbr (x5 ≠ 3) (J343 ()) (J339 ()))))) 0 G5) (Q 0 G3) := by
    intro kind w p m c H hl k3 m0 m10 h3 hc hF hH40 hj hw hp hHK
    have e56 : zsg H 5 56 0 = (L.length : Int) := by rw [hj 56 (by omega) (by omega) 0 (Or.inr (by omega)), t1]
    refine zaS_i (by omega) (by omega) ?_
    rw [zgF_e, z5_ne (by omega), e56, w32_eq (by omega) (by omega)]
    refine zbr_i (fun hle => ?_) (fun hgt => ?_)
    · rw [zgF_e, z5_ne (by omega), e56]
      refine zaS_i (by omega) (by omega) (zaS_i (by omega) (by omega) ?_)
      have mo3 := (((Mo.refl H).ss 58 (k : Int) kind).ss 61 (k : Int) (L.length : Int)).ss 62 (k : Int) m
      have g56 : zsg (zss (zss (zss H 5 58 k kind) 5 61 k (L.length)) 5 62 k m) 5 56 0 = (L.length : Int) := by rw [z5_ne (by omega), z5_ne (by omega), z5_ne (by omega), e56]
      have gj : ∀ j, j ≠ 58 → j ≠ 61 → j ≠ 62 → zsg (zss (zss (zss H 5 58 k kind) 5 61 k (L.length)) 5 62 k m) 5 j = zsg H 5 j := fun j j1 j2 j3 => by rw [z5_ne j3, z5_ne j2, z5_ne j1]
      have g58 : ∀ x, zsg (zss (zss (zss H 5 58 k kind) 5 61 k (L.length)) 5 62 k m) 5 58 x = if x = (k : Int) then kind else zsg H 5 58 x := fun x => by rw [z5_ne (by omega), z5_ne (by omega), z5_eq]
      have g61 : ∀ x, zsg (zss (zss (zss H 5 58 k kind) 5 61 k (L.length)) 5 62 k m) 5 61 x = if x = (k : Int) then (L.length : Int) else zsg H 5 61 x := fun x => by rw [z5_ne (by omega), z5_eq]; dsimp only; rw [z5_ne (by omega)]
      have g62 : ∀ x, zsg (zss (zss (zss H 5 58 k kind) 5 61 k (L.length)) 5 62 k m) 5 62 x = if x = (k : Int) then m else zsg H 5 62 x := fun x => by rw [z5_eq]; dsimp only; rw [z5_ne (by omega), z5_ne (by omega)]
      generalize zss (zss (zss H 5 58 k kind) 5 61 k (L.length)) 5 62 k m = J at mo3 g56 gj g58 g61 g62
      refine w6_kids (D := D) (fun j j1 j2 => by rw [gj j (by omega) (by omega) (by omega), hHK j j1 j2]) hc g56 (by omega) m0 hle (fun K' mo' hK' h56' hold' hnew' => ?_)
      have hF' : FT K0 K' := hF.trans ⟨mo3.trans mo', fun j j1 j2 j3 => by rw [hK' j (by omega), gj j (by omega) (by omega) (by omega)]⟩
      have hm : (nl D eng e).2.2.2 = m := by rw [hl]
      have hk1 : (nl D eng e).1 = kind := by rw [hl]
      have hk2 : (nl D eng e).2.1 = w := by rw [hl]
      have hk4 : (nl D eng e).2.2.1 = p := by rw [hl]
      refine hQ1 K' hF' (by rw [hK' 40 (by omega), gj 40 (by omega) (by omega) (by omega), hH40]) ?_
      refine hT.add hk (fun _ => hnl) (by rw [hm]; omega) (by rw [hm]; omega) (by rw [hm, h56']) (fun j j1 j2 x hx hxk => ?_) (by rw [hold' 58 (by omega) (by omega) k (by omega), g58, if_pos rfl, hk1]) (fun _ => by rw [hold' 59 (by omega) (by omega) k (by omega), gj 59 (by omega) (by omega) (by omega), hw, hk2]) (fun _ => by rw [hold' 60 (by omega) (by omega) k (by omega), gj 60 (by omega) (by omega) (by omega), hp, hk4]) (fun _ => by rw [hold' 61 (by omega) (by omega) k (by omega), g61, if_pos rfl]) (by rw [hold' 61 (by omega) (by omega) k (by omega), g61, if_pos rfl]; omega) (by rw [hold' 62 (by omega) (by omega) k (by omega), g62, if_pos rfl, hm]) (Or.inr (by rw [hk1]; exact k3)) (fun u u0 u1 => ?_)
      · rw [hold' j j1 j2 x hx]
        rcases hxk with hxk | rfl
        · have hjx := hj j (by omega) j2 x (Or.inl hxk)
          by_cases e58 : j = 58
          · subst e58; rw [g58, if_neg hxk]; exact hjx
          · by_cases e61 : j = 61
            · subst e61; rw [g61, if_neg hxk]; exact hjx
            · by_cases e62 : j = 62
              · subst e62; rw [g62, if_neg hxk]; exact hjx
              · rw [gj j e58 e61 e62]; exact hjx
        · rw [gj 57 (by omega) (by omega) (by omega)]
          exact hj 57 (by omega) (by omega) x (Or.inr (by omega))
      · rw [hm] at u1
        obtain ⟨n1, n2, n3, n4, n5, n6⟩ := hnew' u u0 u1
        rw [hk1, hk2]
        refine ⟨n1, ?_, fun h33 => by rw [n3, h3 h33], n4, n5, n6⟩
        rw [n2]
        unfold nask
        by_cases h33 : kind = 3
        · rw [h3 h33]
        · rw [if_neg (fun z => h33 z.1), if_neg (fun z => h33 z.1), if_neg (fun z => h33 z.1), if_neg (fun z => h33 z.1)]
    · refine hQ0 ⟨L ++ kids (nl D eng e) e, ?_, fun q hq => ?_, ?_⟩ _ (hF.trans ⟨(Mo.refl H).ss _ _ _, fun j j1 j2 j3 => by rw [z5_ne (by omega)]⟩) (by rw [z5_ne (by omega), e56]; omega)
      · exact kids_app t3 hk (fun j st q hj => by
          obtain ⟨a0, a1, a2⟩ := t7 j st q hj
          exact ⟨_, by omega, a2⟩)
      · rcases List.mem_append.mp hq with hq | hq
        · obtain ⟨i, hi⟩ := List.mem_iff_getElem?.mp hq
          exact (t5 i q hi).1
        · exact kids_isN hn hq
      · rw [List.length_append, kids_len, hl]
        show 500 < L.length + m.toNat
        omega
  -- a node with nothing behind it
  have leaf : ∀ (a b : Int) (H : ZG), nl D eng e = (a, b, 0, 0) → a ≤ 2 → FT K0 H → zsg H 5 40 0 = 0 → (∀ j, 56 ≤ j → j ≤ 62 → ∀ x, x ≠ (k : Int) ∨ (j ≠ 58 ∧ j ≠ 59) → zsg H 5 j x = zsg K0 5 j x) → zsg H 5 58 k = a → (a ≠ 2 → zsg H 5 59 k = b) → Q 1 H := by
    intro a b H hl ha hF hH40 hj h58 h59
    have hm : (nl D eng e).2.2.2 = 0 := by rw [hl]
    have hk1 : (nl D eng e).1 = a := by rw [hl]
    have hk2 : (nl D eng e).2.1 = b := by rw [hl]
    refine hQ1 H hF hH40 ?_
    refine hT.add hk (fun _ => hnl) (by rw [hm]; omega) (by rw [hm]; omega) (by rw [hm, hj 56 (by omega) (by omega) 0 (Or.inr (by omega)), t1]; omega) (fun j j1 j2 x hx hxk => ?_) (by rw [h58, hk1]) (fun z => by rw [h59 (by rw [← hk1]; exact z), hk2]) (fun z => by omega) (fun z => by omega) (by rw [hj 61 (by omega) (by omega) k (Or.inr (by omega))]; exact h61) (by rw [hj 62 (by omega) (by omega) k (Or.inr (by omega)), h62, hm]) (Or.inl hm) (fun u u0 u1 => by omega)
    rcases hxk with hxk | rfl
    · exact hj j (by omega) j2 x (Or.inl hxk)
    · exact hj 57 (by omega) (by omega) x (Or.inr (by omega))
  unfold vX6_lay
  rw [zpF_e]
  have b40 : zsg (zss K0 5 41 0 k) 5 40 0 = 0 := by rw [z5_ne (by omega), h40]
  have bj : ∀ j, j ≠ 41 → zsg (zss K0 5 41 0 k) 5 j = zsg K0 5 j := fun j hj => by rw [z5_ne hj]
  have b41 : zsg (zss K0 5 41 0 k) 5 41 0 = k := by rw [zsg_ss, if_pos ⟨rfl, rfl, rfl⟩]
  have moB : Mo K0 (zss K0 5 41 0 k) := (Mo.refl K0).ss _ _ _
  generalize zss K0 5 41 0 k = B at b40 bj b41 moB
  have hNB : Nd B e (zsg B 5 41 0) := by rw [b41]; exact hNd.of (fun j j1 j2 => bj j (by omega))
  have hKB : ∀ j, 1 ≤ j → j ≤ 29 → zsg B 5 j = D j := fun j j1 j2 => by rw [bj j (by omega), hK j j1 j2]
  refine zl4_of (fun x t b K => 0 ≤ x ∧ x ≤ D 23 0 ∧ Mo B K ∧ (∀ j, ¬ (32 ≤ j ∧ j ≤ 39) → ¬ (42 ≤ j ∧ j ≤ 45) → zsg K 5 j = zsg B 5 j) ∧ ((b = 1 ∧ scan D e ((csl D).drop x.toNat) = scan D e (csl D)) ∨ (b = 0 ∧ x < D 23 0 ∧ ∃ s, (scan D e (csl D) = some (x, 1, s) ∧ t = 0) ∨ (scan D e (csl D) = some (x, 2, s) ∧ t = 2 ∧ AsT K s)))) (fun x _ b _ => (2 * (D 23 0 - x) + b).toNat) (fun P x t b K hI hPP => ?_) ⟨by omega, m23.1, Mo.refl B, fun _ _ _ => rfl, Or.inl ⟨rfl, rfl⟩⟩
  obtain ⟨x0, x1, mo, hKK, hst⟩ := hI
  have kN : Nd K e (zsg K 5 41 0) := by
    rw [hKK 41 (by omega) (by omega)]; exact hNB.of (fun j j1 j2 => hKK j (by omega) (by omega))
  have kD : ∀ j, 1 ≤ j → j ≤ 29 → zsg K 5 j = D j := fun j j1 j2 => by rw [hKK j (by omega) (by omega), hKB j j1 j2]
  have k40 : zsg K 5 40 0 = 0 := by rw [hKK 40 (by omega) (by omega), b40]
  have k47 : inR (zsg K 5 47 0) := by rw [hKK 47 (by omega) (by omega), bj 47 (by omega)]; exact h47
  have kF : FT K0 K := ⟨moB.trans mo, fun j j1 j2 j3 => by rw [hKK j (by omega) (by omega), bj j (by omega)]⟩
  have kT : ∀ j, 56 ≤ j → j ≤ 62 → zsg K 5 j = zsg K0 5 j := fun j j1 j2 => by rw [hKK j (by omega) (by omega), bj j (by omega)]
  dsimp only [zjn]
  -- a case is there, or none
  have none' : scan D e (csl D) = none → zaS K 5 58 512 k 2 fun (G14 : ZG) => Q 1 G14 := fun hs => by
    refine zaS_i (by omega) (by omega) ?_
    refine leaf 2 0 _ (by rw [hnl, lab_none hs]) (by omega) (kF.trans ⟨(Mo.refl K).ss _ _ _, fun j j1 j2 j3 => by rw [z5_ne (by omega)]⟩) (by rw [z5_ne (by omega), k40]) (fun j j1 j2 y hy => ?_) (by rw [zsg_ss, if_pos ⟨rfl, rfl, rfl⟩]) (fun z => absurd rfl z)
    rw [← kT j j1 j2, zsg_ss]
    rcases hy with hy | hy
    · rw [if_neg (fun z => hy z.2.2)]
    · rw [if_neg (fun z => hy.1 z.2.1)]
  rcases hst with ⟨rfl, hsc⟩ | ⟨rfl, hxl, s, hst⟩
  · refine zbr_i (fun z => absurd z (by omega)) (fun _ => ?_)
    rw [zgF_e, kD 23 (by omega) (by omega)]
    refine zbr_i (fun hx => ?_) (fun hx => ?_)
    · rw [zbr_neg (by omega)]
      rw [csl_end hx] at hsc
      exact none' hsc.symm
    · have hc : 0 ≤ x ∧ x < D 23 0 := ⟨x0, by omega⟩
      rw [csl_drop x0 hc.2, scan_c] at hsc
      have z0 : ∀ {A B : Prop}, A → zbr ((0 : Int) = 0) A B := fun h => zbr_i (fun _ => h) (fun z => absurd rfl z)
      have z1 : ∀ {A B : Prop}, B → zbr ((1 : Int) = 0) A B := fun h => zbr_i (fun z => absurd z (by omega)) (fun _ => h)
      have next : ∀ (t' : Int) (K' : ZG), Mo B K' → (∀ j, ¬ (32 ≤ j ∧ j ≤ 39) → ¬ (42 ≤ j ∧ j ≤ 45) → zsg K' 5 j = zsg B 5 j) → scan D e ((csl D).drop (x + 1).toNat) = scan D e (csl D) → zlt1 (w32 (x + 1)) fun (x22 : Int) => P x22 t' 1 K' := fun t' K' mo' hK' hs => by
        rw [zlt1_e, w32_eq (by omega) (by omega)]
        exact hPP _ _ _ _ ⟨by omega, by omega, mo', hK', Or.inl ⟨rfl, hs⟩⟩ (by omega)
      have found : ∀ (t' : Int) (K' : ZG) (s : TS), Mo B K' → (∀ j, ¬ (32 ≤ j ∧ j ≤ 39) → ¬ (42 ≤ j ∧ j ≤ 45) → zsg K' 5 j = zsg B 5 j) → ((scan D e (csl D) = some (x, 1, s) ∧ t' = 0) ∨ (scan D e (csl D) = some (x, 2, s) ∧ t' = 2 ∧ AsT K' s)) → zlt1 (w32 (x + 0)) fun (x22 : Int) => P x22 t' 0 K' := fun t' K' s mo' hK' hs => by
        rw [zlt1_e, w32_eq (by omega) (by omega), Int.add_zero]
        exact hPP _ _ _ _ ⟨by omega, by omega, mo', hK', Or.inr ⟨rfl, hc.2, s, hs⟩⟩ (by omega)
      refine w6_hasFailed (e := e) kN ?_
      cases hf : ff e x with
      | true =>
        rw [if_pos hf] at hsc
        refine zbr_i (fun z => absurd z (by simp [bb])) (fun _ => ?_)
        rw [zbr_neg (by omega)]
        exact z1 (next 1 K mo hKK hsc)
      | false =>
        rw [if_neg (by rw [hf]; simp)] at hsc
        refine zbr_i (fun _ => ?_) (fun z => absurd rfl z)
        have fr : ∀ {K' : ZG}, (∀ j, ¬ (32 ≤ j ∧ j ≤ 39) → ¬ (42 ≤ j ∧ j ≤ 45) → zsg K' 5 j = zsg K 5 j) → ∀ j, ¬ (32 ≤ j ∧ j ≤ 39) → ¬ (42 ≤ j ∧ j ≤ 45) → zsg K' 5 j = zsg B 5 j := fun h j j1 j2 => by rw [h j j1 j2, hKK j j1 j2]
        refine w6_tryT (eng := eng) hM hL hn kN kD k40 k47 hc (fun h1 K' mo' hK' _ => ?_) (fun h1 K' mo' hK' => ?_) (fun h1 K' mo' hK' hAs => ?_)
        · rw [if_neg (by omega), h1] at hsc
          rw [zbr_pos (by omega)]
          exact z0 (found 0 K' _ (mo.trans mo') (fr hK') (Or.inl ⟨hsc.symm, rfl⟩))
        · rw [if_pos h1] at hsc
          rw [zbr_neg (by omega)]
          exact z1 (next 1 K' (mo.trans mo') (fr hK') hsc)
        · rw [if_neg (by omega), h1] at hsc
          rw [zbr_pos (by omega)]
          exact z0 (found 2 K' _ (mo.trans mo') (fr hK') (Or.inr ⟨hsc.symm, rfl, hAs⟩))
  · rw [zbr_pos rfl]
    refine zbr_i (fun _ => ?_) (fun z => absurd rfl z)
    refine zaS_i (by omega) (by omega) ?_
    have cD : ∀ j, 1 ≤ j → j ≤ 29 → zsg (zss K 5 59 k x) 5 j = D j := fun j j1 j2 => by rw [z5_ne (by omega), kD j j1 j2]
    have cF : FT K0 (zss K 5 59 k x) := kF.trans ⟨(Mo.refl K).ss _ _ _, fun j j1 j2 j3 => by rw [z5_ne (by omega)]⟩
    have c40 : zsg (zss K 5 59 k x) 5 40 0 = 0 := by rw [z5_ne (by omega), k40]
    have c47 : inR (zsg (zss K 5 59 k x) 5 47 0) := by rw [z5_ne (by omega)]; exact k47
    have c59 : ∀ y, zsg (zss K 5 59 k x) 5 59 y = if y = (k : Int) then x else zsg K0 5 59 y := fun y => by rw [z5_eq]; dsimp only; rw [kT 59 (by omega) (by omega)]
    have cT : ∀ j, 56 ≤ j → j ≤ 62 → j ≠ 59 → zsg (zss K 5 59 k x) 5 j = zsg K0 5 j := fun j j1 j2 j3 => by rw [z5_ne j3, kT j j1 j2]
    have cA : ∀ j, 41 ≤ j → j ≤ 44 → zsg (zss K 5 59 k x) 5 j = zsg K 5 j := fun j j1 j2 => by rw [z5_ne (by omega)]
    have cNd : Nd (zss K 5 59 k x) e (zsg (zss K 5 59 k x) 5 41 0) := by
      rw [z5_ne (by omega), hKK 41 (by omega) (by omega), b41]
      refine Nd.lay t7 (fun i _ => by rw [cT 57 (by omega) (by omega) (by omega)]) (fun j j1 j2 i i0 i1 => ?_) hk hNd
      by_cases e59 : j = 59
      · subst e59; rw [c59, if_neg (by omega)]
      · rw [cT j (by omega) (by omega) e59]
    generalize zss K 5 59 k x = C at cD cF c40 c47 c59 cT cA cNd
    have hxc : 0 ≤ x ∧ x < 8 := ⟨x0, by omega⟩
    rcases hst with ⟨hsc, rfl⟩ | ⟨hsc, rfl, hAs⟩
    · have hlab := lab_some (eng := eng) hsc
      rw [if_pos rfl] at hlab
      rw [zbr_neg (by omega)]
      refine zaL_i x0 (by omega) ?_
      rw [cD 26 (by omega) (by omega)]
      refine zbr_i (fun h26 => ?_) (fun h26 => ?_)
      · rw [if_neg h26] at hlab
        rw [zbr_neg (by omega), zbr_pos (by omega), zbr_pos (by omega)]
        refine fin 3 x 0 2 x C (by rw [hnl, hlab]) (by omega) (by omega) (by omega) (fun _ => rfl) hxc cF c40 (fun j j1 j2 y hy => ?_) (by rw [c59, if_pos rfl]) (by rw [cT 60 (by omega) (by omega) (by omega), h60]) cD
        by_cases e59 : j = 59
        · subst e59
          rw [c59, if_neg (by
            rcases hy with hy | hy
            · exact hy
            · omega)]
        · rw [cT j j1 j2 e59]
      · rw [if_pos (Decidable.of_not_not h26)] at hlab
        refine zaS_i (by omega) (by omega) ?_
        refine leaf 0 x _ (by rw [hnl, hlab]) (by omega) (cF.trans ⟨(Mo.refl C).ss _ _ _, fun j j1 j2 j3 => by rw [z5_ne (by omega)]⟩) (by rw [z5_ne (by omega), c40]) (fun j j1 j2 y hy => ?_) (by rw [zsg_ss, if_pos ⟨rfl, rfl, rfl⟩]) (fun _ => by rw [z5_ne (by omega), c59, if_pos rfl])
        by_cases e59 : j = 59
        · subst e59
          rw [z5_ne (by omega), c59, if_neg (by
            rcases hy with hy | hy
            · exact hy
            · omega)]
        · by_cases e58 : j = 58
          · subst e58
            rw [z5_eq]
            dsimp only
            rw [if_neg (by
              rcases hy with hy | hy
              · exact hy
              · omega), cT 58 (by omega) (by omega) (by omega)]
          · rw [z5_ne e58, cT j j1 j2 e59]
    · have hlab := lab_some (eng := eng) hsc
      rw [if_neg (by omega)] at hlab
      have hsc' := scan_ok _ _ _ _ hsc
      have hA := (tmc_ask hM hP (csl_mem hsc'.1) (0, 0, 0)).2 hsc'.2.2.2.1
      rw [hsc'.2.2.2.2] at hA
      obtain ⟨a42, a44, a43⟩ := hAs
      rw [zbr_pos (by omega), zbr_pos (by omega), zgF_e, cA 42 (by omega) (by omega), a42]
      by_cases h4 : s.1 = 4
      · rw [if_pos h4] at hlab
        have hv2 : 0 ≤ s.2.1 ∧ s.2.1 ≤ 2 := by
          rcases hA with z | z
          · omega
          · exact z.2.1
        have hw := hM.2.2.2.1 s.2.1 hv2.1 (by omega)
        rw [zbr_neg (by omega), zgF_e, cA 43 (by omega) (by omega), a43 h4]
        refine zaS_i (by omega) (by omega) ?_
        rw [zgF_e, z5_ne (by omega), cA 44 (by omega) (by omega), a44]
        refine zaS_i (by omega) (by omega) ?_
        rw [zgF_e, z5_ne (by omega), z5_ne (by omega), cA 43 (by omega) (by omega), a43 h4, w32_eq (x := 4 * s.2.1) (by omega) (by omega), w32_eq (x := 4 * s.2.1 + 3) (by omega) (by omega)]
        refine zaL_i (by omega) (by omega) ?_
        rw [z5_ne (by omega), z5_ne (by omega), cD 20 (by omega) (by omega), h4]
        refine fin 4 s.2.1 s.2.2 (D 20 (4 * s.2.1 + 3)) x _ (by rw [hnl, hlab]) (by omega) (by omega) (by omega) (fun z => by omega) hxc (cF.trans ⟨((Mo.refl C).ss _ _ _).ss _ _ _, fun j j1 j2 j3 => by rw [z5_ne (by omega), z5_ne (by omega)]⟩) (by rw [z5_ne (by omega), z5_ne (by omega), c40]) (fun j j1 j2 y hy => ?_) ?_ (by rw [zsg_ss, if_pos ⟨rfl, rfl, rfl⟩]) (fun j j1 j2 => by rw [z5_ne (by omega), z5_ne (by omega), cD j j1 j2])
        · by_cases e59 : j = 59
          · subst e59
            have hy2 : y ≠ (k : Int) := by
              rcases hy with hy | hy
              · exact hy
              · omega
            rw [z5_ne (by omega), z5_eq]
            dsimp only
            rw [if_neg hy2, c59, if_neg hy2]
          · by_cases e60 : j = 60
            · subst e60
              have hy2 : y ≠ (k : Int) := by
                rcases hy with hy | hy
                · exact hy
                · omega
              rw [z5_eq]
              dsimp only
              rw [if_neg hy2, z5_ne (by omega), cT 60 (by omega) (by omega) (by omega)]
            · rw [z5_ne e60, z5_ne e59, cT j j1 j2 e59]
        · rw [z5_ne (by omega), zsg_ss, if_pos ⟨rfl, rfl, rfl⟩]
      · rw [if_neg h4] at hlab
        have h55 : s.1 = 5 := by
          rcases hA with z | z
          · exact z.1
          · exact absurd z.1 h4
        have hne := allp_ne hsc h55
        rw [h55, zbr_pos (by omega), zbr_neg (by omega)]
        -- the place is found; its kind and what is behind it
        have place : ∀ (q : Int) (H : ZG), lab D eng e = (5, kd D e 8 q, q, ways D (kd D e 8 q)) → Mo C H → (∀ j, j ≠ 30 → ¬ (32 ≤ j ∧ j ≤ 39) → ¬ (42 ≤ j ∧ j ≤ 45) → ¬ (64 ≤ j ∧ j ≤ 68) → zsg H 5 j = zsg C 5 j) → zaS H 5 60 512 k q fun (G7 : ZG) => zaL G7 5 60 512 k fun (x6 : Int) => vX6_kindOf x6 G7 fun (x7 : Int) (G8 : ZG) => zaS G8 5 59 512 k x7 fun (G9 : ZG) => zaL G9 5 59 512 k fun (x8 : Int) => zbr (x8 ≠ 4) (zaL G9 5 59 512 k fun (x9 : Int) => zbr (x9 ≠ 5) (zaL G9 5 59 512 k fun (x10 : Int) => zaL G9 5 1 4 x10 fun (x11 : Int) => zaS G9 5 58 512 k 5 fun (G3 : ZG) => zgF G3 5 56 fun (x1 : Int) => zbr (w32 (x1 + x11) ≤ 500) (zgF G3 5 56 fun (x2 : Int) => zaS G3 5 61 512 k x2 fun (G4 : ZG) => zaS G4 5 62 512 k x11 fun (G5 : ZG) => zl2 (fun (P311 : Int → ZG → Prop) (a311_8 : Int) (K311 : ZG) => zbr (x11 ≤ a311_8) (Q 1 K311) (zjn (fun (z344_0 : Int) => zjn (fun (z368_2 : Int) => vX6_node k z368_2 x 0 K311 fun (x3 : Int) (G6 : ZG) => zlt1 (w32 (a311_8 + 1)) fun (x4 : Int) => P311 x4 G6) fun J368 => zbr (z344_0 = 0) (J368 (-9)) (zbr (a311_8 ≠ 0) (J368 1) (J368 0))) fun J344 => zjn (fun (_ : Unit) => J344 0) fun J343 => zbr ((5 : Int) ≠ 3) (J343 ()) (zjn (fun (_ : Unit) => J344 1) fun J339 => zbr (a311_8 = 0) (J339 ()) (zaL K311 5 26 8 x fun (x5 : Int) => zbr (x5 ≠ 3) (J343 ()) (J339 ()))))) 0 G5) (Q 0 G3)) (zaS G9 5 58 512 k 5 fun (G3 : ZG) => zgF G3 5 56 fun (x1 : Int) => zbr (w32 (x1 + 4) ≤ 500) (zgF G3 5 56 fun (x2 : Int) => zaS G3 5 61 512 k x2 fun (G4 : ZG) => zaS G4 5 62 512 k 4 fun (G5 : ZG) => zl2 (fun (P311 : Int → ZG → Prop) (a311_8 : Int) (K311 : ZG) => zbr ((4 : Int) ≤ a311_8) (Q 1 K311) (zjn (fun (z344_0 : Int) => zjn (fun (z368_2 : Int) => vX6_node k z368_2 x 0 K311 fun (x3 : Int) (G6 : ZG) => zlt1 (w32 (a311_8 + 1)) fun (x4 : Int) => P311 x4 G6) fun J368 => zbr (z344_0 = 0) (J368 (-9)) (zbr (a311_8 ≠ 0) (J368 1) (J368 0))) fun J344 => zjn (fun (_ : Unit) => J344 0) fun J343 => zbr ((5 : Int) ≠ 3) (J343 ()) (zjn (fun (_ : Unit) => J344 1) fun J339 => zbr (a311_8 = 0) (J339 ()) (zaL K311 5 26 8 x fun (x5 : Int) => zbr (x5 ≠ 3) (J343 ()) (J339 ()))))) 0 G5) (Q 0 G3))) (zaS G9 5 58 512 k 5 fun (G3 : ZG) => zgF G3 5 56 fun (x1 : Int) => zbr (w32 (x1 + 10) ≤ 500) (zgF G3 5 56 fun (x2 : Int) => zaS G3 5 61 512 k x2 fun (G4 : ZG) => zaS G4 5 62 512 k 10 fun (G5 : ZG) => zl2 (fun (P311 : Int → ZG → Prop) (a311_8 : Int) (K311 : ZG) => zbr ((10 : Int) ≤ a311_8) (Q 1 K311) (zjn (fun (z344_0 : Int) => zjn (fun (z368_2 : Int) => vX6_node k z368_2 x 0 K311 fun (x3 : Int) (G6 : ZG) => zlt1 (w32 (a311_8 + 1)) fun (x4 : Int) => P311 x4 G6) fun J368 => zbr (z344_0 = 0) (J368 (-9)) (zbr (a311_8 ≠ 0) (J368 1) (J368 0))) fun J344 => zjn (fun (_ : Unit) => J344 0) fun J343 => zbr ((5 : Int) ≠ 3) (J343 ()) (zjn (fun (_ : Unit) => J344 1) fun J339 => zbr (a311_8 = 0) (J339 ()) (zaL K311 5 26 8 x fun (x5 : Int) => zbr (x5 ≠ 3) (J343 ()) (J339 ()))))) 0 G5) (Q 0 G3)) := by
          intro q H hlq moH hH
          have hl5 := hlo
          rw [hlq] at hl5
          obtain ⟨d, hd, hvp⟩ : ∃ d, d ≤ 3 ∧ vp D e d q := by
            rcases hl5 with z | ⟨_, z, _⟩ | ⟨_, z, _⟩ | ⟨_, _, z, _⟩ | ⟨k', q', z, _, d, hd, ht⟩
            · cases z
            · cases z
            · cases z
            · cases z
            · injection z with _ z
              injection z with _ z
              injection z with z _
              subst z
              exact ⟨d, hd, ht.1⟩
          have hkr := (vp_r hM hP d q (by omega) hvp).2.1
          have hFH : FT K0 H := cF.trans ⟨moH, fun j j1 j2 j3 => hH j j1 (by omega) (by omega) (by omega)⟩
          refine zaS_i (by omega) (by omega) (zaL_i (by omega) (by omega) ?_)
          rw [show zsg (zss H 5 60 k q) 5 60 k = q by rw [zsg_ss, if_pos ⟨rfl, rfl, rfl⟩]]
          have gN : Nd (zss H 5 60 k q) e (zsg (zss H 5 60 k q) 5 41 0) := by
            rw [z5_ne (by omega), hH 41 (by omega) (by omega) (by omega) (by omega), cA 41 (by omega) (by omega), hKK 41 (by omega) (by omega), b41]
            refine Nd.lay t7 (fun i _ => by rw [z5_ne (by omega), hH 57 (by omega) (by omega) (by omega) (by omega), cT 57 (by omega) (by omega) (by omega)]) (fun j j1 j2 i i0 i1 => ?_) hk hNd
            rw [zsg_ss, if_neg (by omega), hH j (by omega) (by omega) (by omega) (by omega)]
            by_cases e59 : j = 59
            · subst e59; rw [c59, if_neg (by omega)]
            · rw [cT j (by omega) (by omega) e59]
          refine w6_kindOf hM hP hv gN (fun j j1 j2 => by rw [z5_ne (by omega), hH j (by omega) (by omega) (by omega) (by omega), cD j j1 j2]) (by rw [z5_ne (by omega), hH 40 (by omega) (by omega) (by omega) (by omega), c40]) hd hvp (fun J moJ hJ => ?_)
          refine zaS_i (by omega) (by omega) (zaL_i (by omega) (by omega) ?_)
          rw [show zsg (zss J 5 59 k (kd D e 8 q)) 5 59 k = kd D e 8 q by rw [zsg_ss, if_pos ⟨rfl, rfl, rfl⟩]]
          have all : ∀ m, m = ways D (kd D e 8 q) → _ := fun m hm => fin 5 (kd D e 8 q) q m x (zss J 5 59 k (kd D e 8 q)) (by rw [hnl, hlq, hm]) (by omega) (by rw [hm]; exact (ways_le hM hkr.1 hkr.2).1) (by rw [hm]; exact (ways_le hM hkr.1 hkr.2).2) (fun z => by omega) hxc (hFH.trans ⟨((((Mo.refl H).ss _ _ _).trans moJ).ss _ _ _), fun j j1 j2 j3 => by rw [z5_ne (by omega), hJ j (by omega), z5_ne (by omega)]⟩) (by rw [z5_ne (by omega), hJ 40 (by omega), z5_ne (by omega), hH 40 (by omega) (by omega) (by omega) (by omega), c40]) (fun j j1 j2 y hy => by
            by_cases e59 : j = 59
            · subst e59
              have hy2 : y ≠ (k : Int) := by
                rcases hy with hy | hy
                · exact hy
                · omega
              rw [z5_eq]
              dsimp only
              rw [if_neg hy2, hJ 59 (by omega), z5_ne (by omega), hH 59 (by omega) (by omega) (by omega) (by omega), c59, if_neg hy2]
            · by_cases e60 : j = 60
              · subst e60
                have hy2 : y ≠ (k : Int) := by
                  rcases hy with hy | hy
                  · exact hy
                  · omega
                rw [z5_ne (by omega), hJ 60 (by omega), z5_eq]
                dsimp only
                rw [if_neg hy2, hH 60 (by omega) (by omega) (by omega) (by omega), cT 60 (by omega) (by omega) (by omega)]
              · rw [z5_ne e59, hJ j (by omega), z5_ne e60, hH j (by omega) (by omega) (by omega) (by omega), cT j j1 j2 e59]) (by rw [zsg_ss, if_pos ⟨rfl, rfl, rfl⟩]) (by rw [z5_ne (by omega), hJ 60 (by omega), zsg_ss, if_pos ⟨rfl, rfl, rfl⟩]) (fun j j1 j2 => by rw [z5_ne (by omega), hJ j (by omega), z5_ne (by omega), hH j (by omega) (by omega) (by omega) (by omega), cD j j1 j2])
          refine zbr_i (fun k4 => ?_) (fun k4 => ?_)
          · refine zaL_i (by omega) (by omega) ?_
            rw [show zsg (zss J 5 59 k (kd D e 8 q)) 5 59 k = kd D e 8 q by rw [zsg_ss, if_pos ⟨rfl, rfl, rfl⟩]]
            refine zbr_i (fun k5 => ?_) (fun k5 => ?_)
            · refine zaL_i (by omega) (by omega) ?_
              rw [show zsg (zss J 5 59 k (kd D e 8 q)) 5 59 k = kd D e 8 q by rw [zsg_ss, if_pos ⟨rfl, rfl, rfl⟩]]
              refine zaL_i hkr.1 (by omega) ?_
              rw [z5_ne (by omega), hJ 1 (by omega), z5_ne (by omega), hH 1 (by omega) (by omega) (by omega) (by omega), cD 1 (by omega) (by omega)]
              exact all _ (by rw [ways_t (by omega)])
            · exact all 4 (by rw [Decidable.of_not_not k5, ways_5])
          · exact all 10 (by rw [Decidable.of_not_not k4, ways_4])
        refine zbr_i (fun he => ?_) (fun he => ?_)
        · rw [if_neg he] at hlab
          rw [zgF_e, cA 44 (by omega) (by omega), a44]
          exact place _ C hlab (Mo.refl C) (fun _ _ _ _ _ => rfl)
        · rw [if_pos (Decidable.of_not_not he)] at hlab
          refine w6_most (eng := eng) hM hL hn cNd cD c40 c47 hne (fun H moH hH => ?_)
          exact place _ H hlab moH hH
