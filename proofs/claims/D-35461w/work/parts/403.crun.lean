/-! COMPONENT: a run, whole -/
set_option maxRecDepth 100000
theorem Ru.rebase {D : ZD} {g : Int → Int} {b : Bool} {S : List Nat} {G0 G G' : ZG} {s : RS} {bd : Int → Int} (h : Ru D g b G0 G s bd) (f : Fr S G G') (h1 : 1 ∉ S) : Ru D g b G' G' s bd := by
  obtain ⟨r1, r2, r3, r4, r5, r6, r7, r8, r9⟩ := h
  refine ⟨Fr.refl _ f.2.1, fun i i0 i1 => ?_, ?_, ?_, ?_, fun k x hx => ?_, fun i i0 i1 => ?_, r8, r9⟩
  · rw [f.g h1]; exact r2 i i0 i1
  · rw [f.g h1]; exact r3
  · rw [f.g h1]; exact r4
  · rw [f.g h1]; exact r5
  · rw [f.g h1, f.g h1, f.g h1]; exact r6 k x hx
  · rw [f.g h1]; exact r7 i i0 i1
theorem w1_start {D : ZD} {g : Int → Int} {K : ZG} {Q : ZG → Prop} (hS : Sep K) (h2 : ∀ i, 0 ≤ i → i < D 21 0 → zsg K 1 2 i = g i) (hQ : ∀ G', Ru D g true K G' (0, []) (fun _ => -1) → Q G') : vX3_begin K Q := by
  unfold vX3_begin
  rw [zpF_e, zpF_e, zpF_e]
  have hR : Ru D g true K (zss (zss (zss K 1 6 0 0) 1 7 0 0) 1 8 0 1) (0, []) (fun i => zsg K 1 0 i) := by
    refine ⟨(((Fr.refl [1] hS).ss 6 0 0 (by simp) (by omega)).ss 7 0 0 (by simp) (by omega)).ss 8 0 1 (by simp) (by omega), fun i i0 i1 => ?_, ?_, ?_, ?_, fun k x hx => ?_, fun i i0 i1 => ?_, ⟨List.nodup_nil, fun x hx => by cases hx⟩, ?_⟩
    · rw [zsg_ss, if_neg (by omega), zsg_ss, if_neg (by omega), zsg_ss, if_neg (by omega)]; exact h2 i i0 i1
    · rw [zsg_ss, if_neg (by omega), zsg_ss, if_neg (by omega), zsg_ss, if_pos ⟨rfl, rfl, rfl⟩]; rfl
    · rw [zsg_ss, if_neg (by omega), zsg_ss, if_pos ⟨rfl, rfl, rfl⟩]
    · rw [zsg_ss, if_pos ⟨rfl, rfl, rfl⟩]; rfl
    · simp at hx
    · rw [zsg_ss, if_neg (by omega), zsg_ss, if_neg (by omega), zsg_ss, if_neg (by omega)]
    · show inR 0
      unfold inR; omega
  exact w1_clear hR hQ
/-- what is kept of codes and trees -/
def KI (G : ZG) (D : ZD) : Prop := AuI G D ∧ TrI D 2 G ∧ TrI D 3 G
theorem TrI.fr {S : List Nat} {G G' : ZG} {D : ZD} {o : Nat} (h : TrI D o G) (f : Fr S G G') (ho : o ∉ S) : TrI D o G' := ⟨by rw [f.g ho]; exact h.1, fun h11 => by
  rw [f.g ho] at h11
  exact (h.2 h11).of (fun j i _ => f.g ho j i)⟩
theorem AuI.fr {S : List Nat} {G G' : ZG} {D : ZD} (h : AuI G D) (f : Fr S G G') (ho : 4 ∉ S) : AuI G' D := by
  obtain ⟨⟨N, m, M, h1, h2⟩, h3⟩ := h
  refine ⟨⟨N, m, M, h1.fr f ho, h2⟩, fun h4 => ?_⟩
  rw [f.g ho] at h4
  obtain ⟨N, m, M, e, g1, g2⟩ := h3 h4
  exact ⟨N, m, M, e, g1.fr f ho, g2⟩
theorem AuB.fr {S : List Nat} {G G' : ZG} {D : ZD} (h : AuB G D) (f : Fr S G G') (ho : 4 ∉ S) : AuB G' D := by
  obtain ⟨N, m, M, e, g1, g2⟩ := h
  exact ⟨N, m, M, e, g1.fr f ho, g2⟩
theorem KI.fr {S : List Nat} {G G' : ZG} {D : ZD} (h : KI G D) (f : Fr S G G') (h2 : 2 ∉ S) (h3 : 3 ∉ S) (h4 : 4 ∉ S) : KI G' D := ⟨h.1.fr f h4, h.2.1.fr f h2, h.2.2.fr f h3⟩
/-- a tree is refreshed -/
theorem w1_treeAt {G : ZG} {D : ZD} {p : Int} {Q : ZR → ZG → Prop} (hp : p = 2 ∨ p = 3) (hC : CDx G D) (hM : MI D) (hK : KI G D) (hQ : ∀ G', Fr [p.toNat] G G' → KI G' D → TC D p p.toNat G' → Q (some (.inr p.toNat)) G') : vX1_treeAt p G Q := by
  unfold vX1_treeAt
  dsimp only [zjn]
  rcases hp with rfl | rfl
  · refine zbr_i (fun z => absurd rfl z) (fun _ => ?_)
    exact w4_refresh (o := 2) (Or.inl rfl) hC hM hK.2.1 (fun G' f t tc => hQ G' f ⟨hK.1.fr f (by simp), t, hK.2.2.fr f (by simp)⟩ tc)
  · refine zbr_i (fun _ => ?_) (fun z => absurd (Decidable.of_not_not z) (by omega))
    exact w4_refresh (o := 3) (Or.inr rfl) hC hM hK.2.2 (fun G' f t tc => hQ G' f ⟨hK.1.fr f (by simp), hK.2.1.fr f (by simp), t⟩ tc)
/-- how a run goes out: the looking, the case taken (-1: none), its names -/
def Out (D : ZD) (p : Int) (g : Int → Int) (s : RS) (c : Int) (bd : Int → Int) : Prop :=
  (p < 2 ∧ s = (plain D g (csl D) (0, [])).2 ∧ ((c = -1 ∧ (plain D g (csl D) (0, [])).1 = none) ∨ ((0 ≤ c ∧ c < D 23 0) ∧ (plain D g (csl D) (0, [])).1 = some (c, bd)))) ∨
  (2 ≤ p ∧ s = (wk D p g 489 [] (0, [])).2 ∧ ((c = -1 ∧ (nl D p (wk D p g 489 [] (0, [])).1).1 = 2) ∨ ((0 ≤ c ∧ c < D 23 0) ∧ (nl D p (wk D p g 489 [] (0, [])).1).1 ≠ 2 ∧ c = (nl D p (wk D p g 489 [] (0, [])).1).2.1 ∧ bd = (pca D (hd D g) (fn s.2) c).2.2)))
def rKd (D : ZD) (a b c : Int) : Prop := ∀ k, 0 ≤ k → k < D 21 0 → D 5 (pk a b c k) = D 22 k
/-- a run, from its values on -/
def txtRun (p : Int) (r : ZR) (Q : Int → ZG → Prop) (H : ZG) : Prop := zl2 (fun (P148 : Int → ZG → Prop) (a148_7 : Int) (K148 : ZG) => zgF K148 0 5 fun (x8 : Int) => zbr (x8 ≤ a148_7) (vX3_begin K148 fun (G6 : ZG) => vX5_refresh 1000 70000 G6 fun (G7 : ZG) => zjn (fun (z228_1 : Int) (H228 : ZG) => zpF H228 0 11 z228_1 fun (G8 : ZG) => vX2_clearNamesR G8 fun (G9 : ZG) => zgF G9 0 11 fun (x9 : Int) => zbr (x9 ≠ (-1)) (zgF G9 0 11 fun (x10 : Int) => vJ2_get 10 x10 G9 fun (x11 : ZR) => zca G9 x11 16 ∧ vX3_binds x11 G9 fun (G10 : ZG) => vX3_guards x11 G10 fun (x12 : Int) => zbr (x12 ≠ 2) (zdI G10 x11 16 5 fun (x13 : Int) => zdP G10 x11 16 5 (.inl (w32 (x13 + 1))) fun (G11 : ZG) => zdI G11 x11 16 1 fun (x14 : Int) => Q x14 G11) (Q (-2) G10)) (Q (-1) G9)) fun J228 => zbr (p ≠ 0) (zbr (p ≠ 1) (vX1_treeAt p G7 fun (x15 : ZR) (G12 : ZG) => zcaL x15 4 fun (o16 : Nat) => vX1_tryTree o16 G12 fun (x17 : Int) (G13 : ZG) => J228 x17 G13) (vX5_go G7 fun (x18 : Int) (G14 : ZG) => J228 x18 G14)) (vX1_tryPlain G7 fun (x19 : Int) (G15 : ZG) => J228 x19 G15)) (zeI K148 r a148_7 fun (x20 : Int) => zaS K148 1 2 3 a148_7 x20 fun (G16 : ZG) => zlt1 (w32 (a148_7 + 1)) fun (x21 : Int) => P148 x21 G16)) 0 H
theorem gd_3 {D : ZD} {g bd : Int → Int} {c : Int} : gd D g bd c = 0 ∨ gd D g bd c = 1 ∨ gd D g bd c = 2 := by
  unfold gd
  split
  · omega
  · split
    · split <;> omega
    · split
      · split <;> omega
      · split
        · split <;> omega
        · split <;> omega
theorem w1_run2 {K : ZG} {D : ZD} {p a b c : Int} {x : Nat} {Q : Int → ZG → Prop} (hC : CDx K D) (hM : MI D) (hK : KI K D) (hg : GV D (pk a b c)) (hp : 0 ≤ p ∧ p ≤ 3) (hx : HI K x (.inl (0, ints 3 (pk a b c)))) (hB : 2 ≤ p → ¬ Big D p)
    (hQ : ∀ s cs bd, Out D p (pk a b c) s cs bd → ∀ G', Fr [0, 1, 2, 3, 4, 16] K G' → KI G' D → (∀ D', RnD D D' s cs bd (decide (¬ (cs ≠ -1 ∧ gd D (pk a b c) bd cs = 2))) → CD G' D') → Q (if cs = -1 then -1 else if gd D (pk a b c) bd cs = 2 then -2 else D 25 cs) G') : txtRun p (some (.inl x)) Q K := by
  have m21 : 0 ≤ D 21 0 ∧ D 21 0 ≤ 3 := ⟨hM.2.2.2.2.1.1, hM.2.2.2.2.1.2.1⟩
  unfold txtRun
  refine zl2_of (fun i H => 0 ≤ i ∧ i ≤ D 21 0 ∧ Fr [1] K H ∧ ∀ k, 0 ≤ k → k < i → zsg H 1 2 k = pk a b c k) (fun i _ => (D 21 0 - i).toNat) (fun P i H hI hPP => ?_) ⟨by omega, m21.1, Fr.refl _ hC.1, fun k k0 k1 => by omega⟩
  obtain ⟨i0, i1, fH, hv⟩ := hI
  have hCH := hC.fr fH (by omega)
  have hKH := hK.fr fH (by simp) (by simp) (by simp)
  rw [zgF_e, hCH.2.2.2.2.2.1.1]
  refine zbr_i (fun hi => ?_) (fun hi => ?_)
  · have ei : i = D 21 0 := by omega
    subst ei
    refine w1_start hCH.1 hv (fun G6 hR6 => ?_)
    have hC6 := hCH.fr hR6.1 (by omega)
    have hK6 := hKH.fr hR6.1 (by simp) (by simp) (by simp)
    refine w5_refresh hC6 hM hK6.1 (fun G7 f7 hA7 hB7 => ?_)
    have hC7 := hC6.fr f7 (by omega)
    have hK7 : KI G7 D := ⟨hA7, hK6.2.1.fr f7 (by simp), hK6.2.2.fr f7 (by simp)⟩
    have hR7 := hR6.rebase f7 (by simp)
    have fK7 : Fr [0, 1, 2, 3, 4, 16] K G7 := ((fH.mono (by simp)).trans (hR6.1.mono (by simp))).trans (f7.mono (by simp))
    dsimp only [zjn]
    have fin : ∀ (B : ZG), CDx B D → KI B D → Fr [0, 1, 2, 3, 4, 16] K B → ∀ (H : ZG) (s : RS) (bd0 : Int → Int) (cs : Int), Ru D (pk a b c) true B H s bd0 → (cs = -1 ∨ ((0 ≤ cs ∧ cs < D 23 0) ∧ (pca D (hd D (pk a b c)) (fn s.2) cs).1 = 1)) → (∀ bd, (cs ≠ -1 → bd = (pca D (hd D (pk a b c)) (fn s.2) cs).2.2) → Out D p (pk a b c) s cs bd) → zpF H 0 11 cs fun (G8 : ZG) => vX2_clearNamesR G8 fun (G9 : ZG) => zgF G9 0 11 fun (x9 : Int) => zbr (x9 ≠ (-1)) (zgF G9 0 11 fun (x10 : Int) => vJ2_get 10 x10 G9 fun (x11 : ZR) => zca G9 x11 16 ∧ vX3_binds x11 G9 fun (G10 : ZG) => vX3_guards x11 G10 fun (x12 : Int) => zbr (x12 ≠ 2) (zdI G10 x11 16 5 fun (x13 : Int) => zdP G10 x11 16 5 (.inl (w32 (x13 + 1))) fun (G11 : ZG) => zdI G11 x11 16 1 fun (x14 : Int) => Q x14 G11) (Q (-2) G10)) (Q (-1) G9) := fun B hCB hKB fB H s bd0 cs hRH hcs hO => by
      refine w1_fin hCB hM hg hRH hcs (fun e G' f hcd => ?_) (fun e bd hbd G' f hcd => ?_)
      · have q := hQ s cs (fun _ => -1) (hO _ (fun z => absurd e z)) G' (fB.trans (f.mono (by simp))) (hKB.fr f (by simp) (by simp) (by simp))
        rw [if_pos e] at q
        refine q (fun D' hD => hcd D' (fun _ => -1) ?_)
        have hne : ¬ (cs ≠ -1 ∧ gd D (pk a b c) (fun _ => -1) cs = 2) := fun z => z.1 e
        rw [decide_eq_true hne, e] at hD
        exact hD
      · have q := hQ s cs bd (hO bd (fun _ => hbd)) G' (fB.trans (f.mono (by simp))) (hKB.fr f (by simp) (by simp) (by simp))
        rw [if_neg e] at q
        refine q (fun D' hD => hcd D' ?_)
        have ed : decide (¬ (cs ≠ -1 ∧ gd D (pk a b c) bd cs = 2)) = decide (gd D (pk a b c) bd cs ≠ 2) := by
          by_cases z : gd D (pk a b c) bd cs = 2
          · rw [decide_eq_false (fun y => y ⟨e, z⟩), decide_eq_false (fun y => y z)]
          · have hne : ¬ (cs ≠ -1 ∧ gd D (pk a b c) bd cs = 2) := fun y => z y.2
            rw [decide_eq_true hne, decide_eq_true z]
        rw [ed] at hD
        exact hD
    have pln : ∀ (H : ZG) (cs : Int) (bd' bd0 : Int → Int), p < 2 → (plain D (pk a b c) (csl D) (0, [])).1 = some (cs, bd') → Ru D (pk a b c) true G7 H (plain D (pk a b c) (csl D) (0, [])).2 bd0 → _ := fun H cs bd' bd0 hp2 hs hRH =>
      fin G7 hC7 hK7 fK7 H _ bd0 cs hRH (Or.inr ⟨csl_mem (plain_log _ _ _ _ hs).1, (plain_log _ _ _ _ hs).2.1⟩) (fun bd hbd => by
        have hpl := plain_log _ _ _ _ hs
        have hcs := csl_mem hpl.1
        refine Or.inl ⟨hp2, rfl, Or.inr ⟨hcs, ?_⟩⟩
        rw [hs, hbd (by omega), hpl.2.2.1])
    have pln0 : ∀ (H : ZG) (bd0 : Int → Int), p < 2 → (plain D (pk a b c) (csl D) (0, [])).1 = none → Ru D (pk a b c) true G7 H (plain D (pk a b c) (csl D) (0, [])).2 bd0 → _ := fun H bd0 hp2 hs hRH =>
      fin G7 hC7 hK7 fK7 H _ bd0 (-1) hRH (Or.inl rfl) (fun bd hbd => Or.inl ⟨hp2, rfl, Or.inl ⟨rfl, hs⟩⟩)
    refine zbr_i (fun h0 => zbr_i (fun h1 => ?_) (fun h1 => ?_)) (fun h0 => ?_)
    · have hp23 : p = 2 ∨ p = 3 := by omega
      refine w1_treeAt hp23 hC7 hM hK7 (fun G12 f12 hK12 htc => ?_)
      have ho : tob p.toNat := by unfold tob; omega
      have eo : ((p.toNat : Nat) : Int) = p := by omega
      have hC12 := hC7.fr f12 (by omega)
      have hR12 := hR7.rebase f12 (by rw [List.mem_singleton]; omega)
      refine ⟨p.toNat, rfl, ?_, ?_⟩
      · rcases hp23 with rfl | rfl <;> rfl
      rcases htc with ⟨_, _, hBig⟩ | ⟨S, s0, s1, _, s3⟩
      · exact absurd hBig (hB (by omega))
      have hw : WI D p (pk a b c) [] ((0, []) : RS) := WI.start rfl (by show inR 0; unfold inR; omega)
      refine w4_tryTree (g := pk a b c) (s := (0, [])) ho hC12 hM hg s0 (by rw [eo]; exact s1) (fun i q hi => by rw [eo]; exact s3 i q hi) hR12 (by rw [eo]; exact hw) (fun H bd' cs hRH hwi hle hcs => ?_)
      rw [eo] at hRH hwi hle hcs
      have fK12 : Fr [0, 1, 2, 3, 4, 16] K G12 := fK7.trans (f12.mono (by
        intro y hy
        rw [List.mem_singleton] at hy
        rcases hp23 with rfl | rfl
        · rw [hy]; decide
        · rw [hy]; decide))
      have he := wi_end hM hwi (by omega) (by omega) (by omega)
      by_cases h2 : (nl D p (wk D p (pk a b c) 489 [] (0, [])).1).1 = 2
      · rw [if_pos h2] at hcs
        exact fin G12 hC12 hK12 fK12 H _ bd' cs hRH (Or.inl hcs) (fun bd hbd => Or.inr ⟨by omega, rfl, Or.inl ⟨hcs, h2⟩⟩)
      · rw [if_neg h2] at hcs
        obtain ⟨h01, hcr, hpp, _⟩ := he.resolve_left h2
        rw [← hcs] at hcr hpp
        exact fin G12 hC12 hK12 fK12 H _ bd' cs hRH (Or.inr ⟨hcr, hpp⟩) (fun bd hbd => Or.inr ⟨by omega, rfl, Or.inr ⟨hcr, h2, hcs, hbd (by omega)⟩⟩)
    · exact w5_go hC7 hM hg hB7 hR7 (fun hs H bd' hRH => pln0 H bd' (by omega) hs hRH) (fun cs bd' hs H b2 hRH => pln H cs bd' b2 (by omega) hs hRH)
    · exact w1_plain hC7 hM hg hR7 (fun hs H bd' hRH => pln0 H bd' (by omega) hs hRH) (fun cs bd' hs hcs H hRH => pln H cs bd' bd' (by omega) hs hRH)
  · refine zeI_i (fH.hk hx).1 i0 (ints_get i0 (by omega)) ?_
    refine zaS_i i0 (by omega) ?_
    rw [zlt1_e, w32_eq (by omega) (by omega)]
    refine hPP _ _ ⟨by omega, by omega, fH.ss _ _ _ (by simp) (by omega), fun k k0 k1 => ?_⟩ (by omega)
    rw [zsg_ss]
    by_cases hki : k = i
    · rw [if_pos ⟨rfl, rfl, hki⟩, hki]
    · rw [if_neg (by omega)]; exact hv k k0 (by omega)
theorem k1_run {G : ZG} {D : ZD} {p a b c : Int} {X : Nat → ZG → Prop} {Q : Int → ZG → Prop} (hC : CD G D) (hM : MI D) (hK : KI G D)
    (hX0 : ¬ ((0 ≤ p ∧ p ≤ 3) ∧ rpI (D 21 0) (D 4 0) a b c) → ∀ G', Fr [] G G' → X 0 G')
    (hX1 : (0 ≤ p ∧ p ≤ 3) ∧ rpI (D 21 0) (D 4 0) a b c → ¬ (rpN (D 21 0) a b c ∧ rKd D a b c) → ∀ G', Fr [] G G' → X 1 G')
    (hX2 : (0 ≤ p ∧ p ≤ 3) ∧ rpI (D 21 0) (D 4 0) a b c → rpN (D 21 0) a b c ∧ rKd D a b c → ¬ (0 < D 21 0 ∧ (p < 2 ∨ ¬ Big D p)) → ∀ G', Fr [2, 3] G G' → KI G' D → X 2 G')
    (hQ : (0 ≤ p ∧ p ≤ 3) ∧ rpI (D 21 0) (D 4 0) a b c → rpN (D 21 0) a b c ∧ rKd D a b c → 0 < D 21 0 ∧ (p < 2 ∨ ¬ Big D p) → ∀ s cs bd, Out D p (pk a b c) s cs bd → ∀ G', Fr [0, 1, 2, 3, 4, 16] G G' → KI G' D → (∀ D', RnD D D' s cs bd (decide (¬ (cs ≠ -1 ∧ gd D (pk a b c) bd cs = 2))) → CD G' D') → Q (if cs = -1 then -1 else if gd D (pk a b c) bd cs = 2 then -2 else D 25 cs) G') : vX1_run p a b c G X Q := by
  have hS := hC.1
  have m21 : 0 ≤ D 21 0 ∧ D 21 0 ≤ 3 := ⟨hM.2.2.2.2.1.1, hM.2.2.2.2.1.2.1⟩
  have m4 : 0 ≤ D 4 0 ∧ D 4 0 ≤ 40 := ⟨hM.2.1.1, hM.2.1.2.1⟩
  have hCx := hC.x
  obtain ⟨-, hCt, hCv, hCp, hCw, hCk, hCc⟩ := id hCx
  obtain ⟨va, vb, hLv, hv⟩ := id hCv
  unfold vX1_run
  rw [eX1_inRange, eX1_reqI]
  by_cases hpn : ¬ (0 ≤ p ∧ p ≤ 3)
  · rw [if_neg (by simp; omega)]; exact hX0 (fun z => hpn z.1) G (Fr.refl _ hS)
  have hp := Decidable.of_not_not hpn
  rw [if_pos (by simp; omega), zgF_e, hCk.1, eJ2_size, hLv.1, refs_len, show (((D 4 0).toNat : Nat) : Int) = D 4 0 by omega]
  refine sX1_requireParts m21.1 m21.2 m4.1 (by omega) hS (fun q K f => hX0 (fun z => q z.2) K f) (fun q1 q2 K f => hX1 ⟨hp, q1⟩ (fun z => q2 z.1) K f) (fun hI hN K1 f1 => ?_)
  have hok1 : (0 ≤ p ∧ p ≤ 3) ∧ rpI (D 21 0) (D 4 0) a b c := ⟨hp, hI⟩
  refine ⟨by omega, by omega, fun x hx => ?_⟩
  refine zeS_i (zsj_eq _ _ _) (by omega) (by simp) ?_
  refine zeS_i (zsj_eq _ _ _) (by omega) (by simp) ?_
  refine zeS_i (zsj_eq _ _ _) (by omega) (by simp) ?_
  rw [zsc_zsc, zsc_zsc, zsc_zsc]
  have f5 : Fr [] G (zsc K1 x (.inl (0, ints 3 (pk a b c)))) := f1.new hS hx
  have hj : HI (zsc K1 x (.inl (0, ints 3 (pk a b c)))) x (.inl (0, ints 3 (pk a b c))) := f5.hi (by simp) hS (f1.1.old hx) (zsj_eq _ _ _) (by unfold imm kc; simp)
  rw [show (((List.replicate (Int.toNat 3) (0 : Int)).set (Int.toNat 0) a).set (Int.toNat 1) b).set (Int.toNat 2) c = ints 3 (pk a b c) from rfl]
  show vX1_row _ _
  rw [eX1_row]
  generalize zsc K1 x (.inl (0, ints 3 (pk a b c))) = G5 at f5 hj
  have hC5 := (hC.of f5).x
  have hK5 := hK.fr f5 (by simp) (by simp) (by simp)
  have hLv5 := f5.lst ⟨by omega, by omega⟩ (by simp) hLv
  refine zl2_of (fun z i => 0 ≤ i ∧ i ≤ D 21 0 ∧ ((z = 1 ∧ ∀ k, 0 ≤ k → k < i → D 5 (pk a b c k) = D 22 k) ∨ (z = 0 ∧ ¬ rKd D a b c))) (fun _ i => (D 21 0 - i).toNat) (fun P z i hI2 hPP => ?_) ⟨by omega, m21.1, Or.inl ⟨rfl, fun k k0 k1 => by omega⟩⟩
  obtain ⟨i0, i1, hz⟩ := hI2
  rw [zgF_e, hC5.2.2.2.2.2.1.1]
  dsimp only [zjn]
  have done : ((z = 1 ∧ rKd D a b c) ∨ (z = 0 ∧ ¬ rKd D a b c)) → vX1_requireArgument z G5 X fun _ => zgF G5 0 5 fun (x7 : Int) => zbr (x7 ≤ 0) (vX1_requireState 0 G5 X fun _ => txtRun p (some (.inl x)) Q G5) (zbr (p < 2) (vX1_requireState 1 G5 X fun _ => txtRun p (some (.inl x)) Q G5) (vX1_treeAt p G5 fun (x22 : ZR) (G17 : ZG) => zcaL x22 4 fun (o23 : Nat) => zgF G17 o23 10 fun (x24 : Int) => zbr (x24 ≠ 0) (vX1_requireState 0 G17 X fun _ => txtRun p (some (.inl x)) Q G17) (vX1_requireState 1 G17 X fun _ => txtRun p (some (.inl x)) Q G17))) := fun hzz => by
    rcases hzz with ⟨rfl, hk⟩ | ⟨rfl, hk⟩
    · rw [reqA1, zgF_e, hC5.2.2.2.2.2.1.1]
      have hok2 : rpN (D 21 0) a b c ∧ rKd D a b c := ⟨hN, hk⟩
      have hg : GV D (pk a b c) := fun k k0 k1 => ⟨(hI k k0 k1).1, (hI k k0 k1).2, hk k k0 k1⟩
      have run : ∀ K, CDx K D → KI K D → Fr [2, 3] G K → HI K x (.inl (0, ints 3 (pk a b c))) → 0 < D 21 0 → (2 ≤ p → ¬ Big D p) → txtRun p (some (.inl x)) Q K := fun K hCK hKK fK hxK h21 hBig => by
        refine w1_run2 hCK hM hKK hg hp hxK hBig (fun s cs bd hO G' f hKG hcd => ?_)
        refine hQ hok1 hok2 ⟨h21, ?_⟩ s cs bd hO G' ((fK.mono (by simp)).trans f) hKG hcd
        by_cases h2 : p < 2
        · exact Or.inl h2
        · exact Or.inr (hBig (by omega))
      refine zbr_i (fun h0 => ?_) (fun h0 => ?_)
      · rw [reqS0]; exact hX2 hok1 hok2 (fun z => by omega) G5 (f5.mono (by simp)) hK5
      · refine zbr_i (fun h2 => ?_) (fun h2 => ?_)
        · rw [reqS1]; exact run G5 hC5 hK5 (f5.mono (by simp)) hj (by omega) (fun z => by omega)
        · have hp23 : p = 2 ∨ p = 3 := by omega
          refine w1_treeAt hp23 hC5 hM hK5 (fun G12 f12 hK12 htc => ⟨p.toNat, rfl, by rcases hp23 with rfl | rfl <;> rfl, ?_⟩)
          have f23 : Fr [2, 3] G G12 := (f5.mono (by simp)).trans (f12.mono (by
            intro y hy
            rw [List.mem_singleton] at hy
            rcases hp23 with rfl | rfl
            · rw [hy]; decide
            · rw [hy]; decide))
          dsimp only
          rw [zgF_e]
          rcases htc with ⟨h10, _, hBig⟩ | ⟨S, s0, s1, _, s3⟩
          · rw [h10]
            refine zbr_i (fun _ => ?_) (fun z => absurd (by omega) z)
            rw [reqS0]
            exact hX2 hok1 hok2 (fun z => z.2.elim (fun y => by omega) (fun y => y hBig)) G12 f23 hK12
          · rw [s1.1]
            refine zbr_i (fun z => absurd rfl z) (fun _ => ?_)
            rw [reqS1]
            exact run G12 (hC5.fr f12 (by omega)) hK12 f23 (f12.hk hj) (by omega) (fun _ => (enu_c s0 s1 s3).big)
    · rw [reqA0]; exact hX1 hok1 (fun z => hk z.2) G5 f5
  refine zbr_i (fun hi => ?_) (fun hi => ?_)
  · have ei : i = D 21 0 := by omega
    subst ei
    exact done (hz.imp (fun q => ⟨q.1, q.2⟩) id)
  · refine zbr_i (fun h0 => ?_) (fun h0 => ?_)
    · exact done (hz.elim (fun q => by omega) Or.inr)
    · have hz1 := hz.resolve_right (fun q => h0 q.1)
      refine zeI_i hj.1 i0 (ints_get i0 (by omega)) ?_
      have hki := hI i i0 (by omega)
      have hV5 : ∀ i : Nat, (i : Int) < D 4 0 → HI G5 (va i) (.inr (.inr (7, [.inl (D 5 i), .inl (D 6 i), .inr (some (.inl (vb i))), .inl (D 8 i)]))) ∧ HI G5 (vb i) (.inl (0, ints (vn D i) fun k => D 7 (3 * i + k))) := fun i hi => ⟨f5.hk (hv i hi).1, f5.hk (hv i hi).2⟩
      refine vcell hLv5 hV5 hki.1 hki.2 (fun hc7 _ => ⟨zca_i hc7, zisO_i hc7, ?_⟩)
      unfold vX7_kind
      rw [zdI_e hc7 rfl]
      refine zaL_i i0 (by omega) ?_
      rw [hC5.2.2.2.2.2.1.2 i i0 (by omega)]
      have next : ∀ z', ((z' = 1 ∧ ∀ k, 0 ≤ k → k < i + 1 → D 5 (pk a b c k) = D 22 k) ∨ (z' = 0 ∧ ¬ rKd D a b c)) → zlt1 (w32 (i + 1)) fun x30 => P z' x30 := fun z' hz' => by
        rw [zlt1_e, w32_eq (by omega) (by omega)]
        exact hPP _ _ ⟨by omega, by omega, hz'⟩ (by omega)
      refine zbr_i (fun hne => next 0 (Or.inr ⟨rfl, fun q => hne (q i i0 (by omega))⟩)) (fun he => next 1 (Or.inl ⟨rfl, fun k k0 k1 => ?_⟩))
      by_cases hk : k = i
      · rw [hk]; exact Decidable.of_not_not he
      · exact hz1.2 k k0 (by omega)
