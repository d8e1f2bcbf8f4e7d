/-! COMPONENT: what is missing; which cases are used -/
set_option maxRecDepth 100000
theorem nd_filter {α : Type} {f : α → Bool} {S : List α} (h : S.Nodup) : (S.filter f).Nodup := List.Nodup.sublist List.filter_sublist h
theorem ENU.cnt {D : ZD} {eng : Int} {S T : List PT} (h : ENU D eng S) (g : ENU D eng T) (f : PT → Bool) : (S.filter f).length = (T.filter f).length := by
  have a := nd_le (S.filter f) (T.filter f) (nd_filter h.1) (fun q hq => by
    obtain ⟨q1, q2⟩ := List.mem_filter.mp hq
    exact List.mem_filter.mpr ⟨(g.2.2 q).mpr ((h.2.2 q).mp q1), q2⟩)
  have b := nd_le (T.filter f) (S.filter f) (nd_filter g.1) (fun q hq => by
    obtain ⟨q1, q2⟩ := List.mem_filter.mp hq
    exact List.mem_filter.mpr ⟨(h.2.2 q).mpr ((g.2.2 q).mp q1), q2⟩)
  omega
theorem take_f {α : Type} {f : α → Bool} {S : List α} {i : Nat} {q : α} (h : S[i]? = some q) : ((S.take (i + 1)).filter f).length = ((S.take i).filter f).length + (if f q = true then 1 else 0) := by
  have hl := (List.getElem?_eq_some_iff.mp h).1
  rw [List.take_succ, h, List.filter_append, List.length_append]
  simp only [Option.toList_some]
  by_cases hf : f q = true
  · rw [if_pos hf, List.filter_cons_of_pos hf, List.filter_nil]; rfl
  · rw [if_neg hf, List.filter_cons_of_neg hf, List.filter_nil]; rfl
/-- a node where nothing is taken -/
def fM (D : ZD) (q : PT) : Bool := decide ((nl D 2 q).1 = 2)
/-- how many ways out there are: -3: too many nodes -/
def MsA (D : ZD) (r : Int) : Prop := (Big D 2 ∧ r = -3) ∨ ∃ S, ENU D 2 S ∧ r = ((S.filter (fM D)).length : Int)
theorem MsA.uniq {D : ZD} {r r' : Int} (h : MsA D r) (h' : MsA D r') : r = r' := by
  rcases h with ⟨b, rfl⟩ | ⟨S, hS, rfl⟩
  · rcases h' with ⟨_, rfl⟩ | ⟨T, hT, _⟩
    · rfl
    · exact absurd b hT.big
  · rcases h' with ⟨b, _⟩ | ⟨T, hT, rfl⟩
    · exact absurd b hS.big
    · rw [hS.cnt hT]
theorem ck_5 {x : Int} (h : 0 ≤ x ∧ x ≤ 5) : ck x = 5 ↔ x = 2 := by unfold ck; split <;> omega
theorem ck_34 {x : Int} (h : 0 ≤ x ∧ x ≤ 5) : (ck x = 3 ↔ x = 0) ∧ (ck x = 4 ↔ x = 1) := by unfold ck; split <;> omega
theorem w4_many5 {D : ZD} {o : Nat} {G : ZG} {S : List PT} {Q : Int → Prop} (hM : MI D) (hN : Nrm D 2 o G S) (hRow : ∀ (i : Nat) q, S[i]? = some q → Row D 2 o G S i q) (hQ : Q ((S.filter (fM D)).length : Int)) : vX4_manyOfKind o 5 G Q := by
  unfold vX4_manyOfKind
  have hl5 := hN.2.2.1
  refine zl2_of (fun m i => ∃ n : Nat, i = (n : Int) ∧ n ≤ S.length ∧ m = (((S.take n).filter (fM D)).length : Int)) (fun _ i => ((S.length : Int) - i).toNat) (fun P m i hI hPP => ?_) ⟨0, rfl, by omega, by simp⟩
  obtain ⟨n, rfl, hn, rfl⟩ := hI
  have hle : ((S.take n).filter (fM D)).length ≤ 500 := by
    have a := List.length_filter_le (fM D) (S.take n)
    have b := List.length_take_le n S
    omega
  rw [zgF_e, hN.2.1]
  refine zbr_i (fun hi => ?_) (fun hi => ?_)
  · have e : n = S.length := by omega
    subst e
    rw [List.take_length]; exact hQ
  · obtain ⟨q, hq⟩ : ∃ q, S[n]? = some q := ⟨_, List.getElem?_eq_getElem (by omega)⟩
    have hr := hRow n q hq
    have h1 := isN_1 hM (hN.2.2.2.2 q (List.mem_iff_getElem?.mpr ⟨_, hq⟩))
    have e1 := take_f (f := fM D) hq
    refine zaL_i (by omega) (by omega) ?_
    rw [hr.1]
    dsimp only [zjn]
    have next : ∀ x, x = (if fM D q = true then (1 : Int) else 0) → zlt1 (w32 ((((S.take n).filter (fM D)).length : Int) + x)) fun x3 => zlt1 (w32 ((n : Int) + 1)) fun x4 => P x3 x4 := fun x hx => by
      have x01 : 0 ≤ x ∧ x ≤ 1 := by rw [hx]; split <;> omega
      rw [zlt1_e, zlt1_e, w32_eq (by omega) (by omega), w32_eq (by omega) (by omega)]
      refine hPP _ _ ⟨n + 1, by push_cast; rfl, by omega, ?_⟩ (by omega)
      rw [e1, hx]
      split <;> push_cast <;> rfl
    refine zbr_i (fun hn => next 0 ?_) (fun hn => next 1 ?_)
    · unfold fM; rw [decide_eq_false (fun z => hn ((ck_5 h1).mpr z))]; rfl
    · unfold fM; rw [decide_eq_true ((ck_5 h1).mp (Decidable.of_not_not hn))]; rfl
theorem k1_missing {G : ZG} {D : ZD} {X : Nat → ZG → Prop} {Q : Int → ZG → Prop} (hC : CD G D) (hM : MI D) (hK : KI G D) (hX : ¬ 0 < D 21 0 → X 2 G) (hQ : 0 < D 21 0 → ∀ r, MsA D r → ∀ G', Fr [2] G G' → KI G' D → Q r G') : vX1_missing G X Q := by
  unfold vX1_missing
  rw [zgF_e, hC.2.2.2.2.2.1.1]
  dsimp only [zjn]
  refine zbr_i (fun h => ?_) (fun h => ?_)
  · rw [reqS0]; exact hX (by omega)
  · rw [reqS1]
    refine w1_treeAt (Or.inl rfl) hC.x hM hK (fun G' f hK' tc => ⟨2, rfl, rfl, ?_⟩)
    have tc : TC D 2 2 G' := tc
    have q := fun r hr => hQ (by omega) r hr G' f hK'
    dsimp only
    rw [zgF_e]
    rcases tc with ⟨h10, _, hBig⟩ | ⟨S, s0, s1, _, s3⟩
    · rw [h10]
      exact zbr_i (fun z => by cases z) (fun _ => q _ (Or.inl ⟨hBig, rfl⟩))
    · rw [s1.1]
      refine zbr_i (fun _ => ?_) (fun z => absurd rfl z)
      exact w4_many5 hM s1 s3 (q _ (Or.inr ⟨S, enu_c s0 s1 s3, rfl⟩))
/-- a case is used -/
def Us (D : ZD) (c : Int) (q : PT) : Prop := ((nl D 2 q).1 = 0 ∨ (nl D 2 q).1 = 1) ∧ (nl D 2 q).2.1 = c
def UsA (D : ZD) (c r : Int) : Prop := (r = 1 ∧ ∃ q, isN D 2 q ∧ Us D c q) ∨ (r = 0 ∧ ¬ ∃ q, isN D 2 q ∧ Us D c q)
theorem UsA.uniq {D : ZD} {c r r' : Int} (h : UsA D c r) (h' : UsA D c r') : r = r' := by
  rcases h with ⟨rfl, a⟩ | ⟨rfl, a⟩ <;> rcases h' with ⟨rfl, b⟩ | ⟨rfl, b⟩
  · rfl
  · exact absurd a b
  · exact absurd b a
  · rfl
theorem k1_isUsed {G : ZG} {D : ZD} {c : Int} {X : Nat → ZG → Prop} {Q : Int → ZG → Prop} (hC : CD G D) (hM : MI D) (hK : KI G D) (hX0 : ¬ (0 ≤ c ∧ c < D 23 0) → X 0 G) (hX2 : (0 ≤ c ∧ c < D 23 0) → Big D 2 → ∀ G', Fr [2] G G' → KI G' D → X 2 G')
    (hQ : (0 ≤ c ∧ c < D 23 0) → ¬ Big D 2 → ∀ r, UsA D c r → ∀ G', Fr [2] G G' → KI G' D → Q r G') : vX1_isUsed c G X Q := by
  obtain ⟨ka, kb, hLc, hcc⟩ := hC.2.2.2.2.2.2.1
  unfold vX1_isUsed
  refine sX1_caseAt hM hLc hcc hX0 (fun hc _ => ?_)
  refine w1_treeAt (Or.inl rfl) hC.x hM hK (fun G' f hK' tc => ⟨2, rfl, rfl, ?_⟩)
  have tc : TC D 2 2 G' := tc
  dsimp only [zjn]
  rw [zgF_e]
  rcases tc with ⟨h10, _, hBig⟩ | ⟨S, s0, s1, _, s3⟩
  · rw [h10]
    refine zbr_i (fun _ => ?_) (fun z => absurd (by omega) z)
    rw [reqS0]; exact hX2 hc hBig G' f hK'
  · rw [s1.1]
    refine zbr_i (fun z => absurd rfl z) (fun _ => ?_)
    rw [reqS1]
    have hE := enu_c s0 s1 s3
    have hl5 := s1.2.2.1
    refine zl2_of (fun m i => ∃ n : Nat, i = (n : Int) ∧ n ≤ S.length ∧ ((m = 1 ∧ ∃ q, isN D 2 q ∧ Us D c q) ∨ (m = 0 ∧ ∀ (j : Nat) q, j < n → S[j]? = some q → ¬ Us D c q))) (fun _ i => ((S.length : Int) - i).toNat) (fun P m i hI hPP => ?_) ⟨0, rfl, by omega, Or.inr ⟨rfl, fun j q hj => by omega⟩⟩
    obtain ⟨n, rfl, hn, hm⟩ := hI
    rw [zgF_e, s1.2.1]
    refine zbr_i (fun hi => ?_) (fun hi => ?_)
    · refine hQ hc hE.big m ?_ G' f hK'
      rcases hm with ⟨rfl, h⟩ | ⟨rfl, h⟩
      · exact Or.inl ⟨rfl, h⟩
      · refine Or.inr ⟨rfl, fun ⟨q, h1, h2⟩ => ?_⟩
        obtain ⟨j, hj⟩ := List.mem_iff_getElem?.mp ((hE.2.2 q).mpr h1)
        have := (List.getElem?_eq_some_iff.mp hj).1
        exact h j q (by omega) hj h2
    · obtain ⟨q, hq⟩ : ∃ q, S[n]? = some q := ⟨_, List.getElem?_eq_getElem (by omega)⟩
      have hr := s3 n q hq
      have hqN := s1.2.2.2.2 q (List.mem_iff_getElem?.mpr ⟨_, hq⟩)
      have h1 := isN_1 hM hqN
      have next : ∀ m', ((m' = 1 ∧ ∃ q, isN D 2 q ∧ Us D c q) ∨ (m' = 0 ∧ ∀ (j : Nat) q, j < n + 1 → S[j]? = some q → ¬ Us D c q)) → zlt1 (w32 ((n : Int) + 1)) fun x6 => P m' x6 := fun m' hm' => by
        rw [zlt1_e, w32_eq (by omega) (by omega)]
        exact hPP _ _ ⟨n + 1, by push_cast; rfl, by omega, hm'⟩ (by omega)
      have yes : Us D c q → zlt1 (w32 ((n : Int) + 1)) fun x6 => P 1 x6 := fun h => next 1 (Or.inl ⟨rfl, q, hqN, h⟩)
      have nope : m = 0 → ¬ Us D c q → zlt1 (w32 ((n : Int) + 1)) fun x6 => P 0 x6 := fun h h2 => by
        have hm0 := (hm.resolve_left (fun z => by omega)).2
        refine next 0 (Or.inr ⟨rfl, fun j q' hj hq' => ?_⟩)
        by_cases hjn : j = n
        · subst hjn
          rw [hq] at hq'
          rw [← Option.some.inj hq']; exact h2
        · exact hm0 j q' (by omega) hq'
      refine zbr_i (fun hm1 => next 1 (Or.inl ⟨rfl, (hm.resolve_right (fun z => hm1 z.1)).2⟩)) (fun hm0 => ?_)
      have hm0 := Decidable.of_not_not hm0
      refine zaL_i (by omega) (by omega) ?_
      rw [hr.2.2.1]
      refine zbr_i (fun hne => nope hm0 (fun z => hne z.2)) (fun he => ?_)
      have he := Decidable.of_not_not he
      refine zaL_i (by omega) (by omega) ?_
      rw [hr.1]
      refine zbr_i (fun h3 => yes ⟨Or.inl ((ck_34 h1).1.mp h3), he⟩) (fun h3 => ?_)
      refine zaL_i (by omega) (by omega) ?_
      rw [hr.1]
      exact zbr_i (fun h4 => nope hm0 (fun z => z.1.elim (fun y => h3 ((ck_34 h1).1.mpr y)) (fun y => h4 ((ck_34 h1).2.mpr y)))) (fun h4 => yes ⟨Or.inr ((ck_34 h1).2.mp (Decidable.of_not_not h4)), he⟩)
