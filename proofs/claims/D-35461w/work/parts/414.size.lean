/-! BOTH: how large a tree is -/
set_option maxRecDepth 100000
/-- the size of the tree of an engine; shared where k is not 0 -/
def SzA (D : ZD) (p k r : Int) : Prop := (Big D p ∧ r = -3) ∨ (¬ Big D p ∧ (k = 0 → ∃ S, ENU D p S ∧ r = (S.length : Int)) ∧ (k ≠ 0 → ShA D p r))
theorem SzA.uniq {D : ZD} {p k r r' : Int} (h : SzA D p k r) (h' : SzA D p k r') : r = r' := by
  rcases h with ⟨b, rfl⟩ | ⟨b, h1, h2⟩ <;> rcases h' with ⟨c, rfl⟩ | ⟨c, g1, g2⟩
  · rfl
  · exact absurd b c
  · exact absurd c b
  · by_cases hk : k = 0
    · obtain ⟨S, hS, rfl⟩ := h1 hk
      obtain ⟨T, hT, rfl⟩ := g1 hk
      rw [hS.len hT]
    · exact (h2 hk).uniq (g2 hk)
theorem k1_size {G : ZG} {D : ZD} {p k : Int} {X : Nat → ZG → Prop} {Q : Int → ZG → Prop} (hC : CD G D) (hM : MI D) (hK : KI G D) (hX0 : ¬ (2 ≤ p ∧ p ≤ 3) → X 0 G) (hX2 : 2 ≤ p ∧ p ≤ 3 → ¬ 0 < D 21 0 → X 2 G)
    (hQ : 2 ≤ p ∧ p ≤ 3 → 0 < D 21 0 → ∀ r, SzA D p k r → ∀ G', Fr [2, 3] G G' → KI G' D → Q r G') : vX1_size p k G X Q := by
  unfold vX1_size
  rw [eX1_inRange, eX1_reqI]
  by_cases hpn : ¬ (2 ≤ p ∧ p ≤ 3)
  · rw [if_neg (by simp; omega)]; exact hX0 hpn
  have hp := Decidable.of_not_not hpn
  rw [if_pos (by simp; omega), zgF_e, hC.2.2.2.2.2.1.1]
  dsimp only [zjn]
  refine zbr_i (fun h => ?_) (fun h => ?_)
  · rw [reqS0]; exact hX2 hp (by omega)
  · rw [reqS1]
    have hp23 : p = 2 ∨ p = 3 := by omega
    have ho : tob p.toNat := by unfold tob; omega
    have eo : ((p.toNat : Nat) : Int) = p := by omega
    refine w1_treeAt hp23 hC.x hM hK (fun G' f hK' tc => ⟨p.toNat, rfl, by rcases hp23 with rfl | rfl <;> rfl, ?_⟩)
    have f23 : Fr [2, 3] G G' := f.mono (by
      intro y hy
      rw [List.mem_singleton] at hy
      rcases hp23 with rfl | rfl
      · rw [hy]; decide
      · rw [hy]; decide)
    have q := fun r hr => hQ hp (by omega) r hr
    dsimp only
    rw [zgF_e]
    rcases id tc with ⟨h10, _, hBig⟩ | ⟨S, s0, s1, _, s3⟩
    · rw [h10]
      exact zbr_i (fun z => by cases z) (fun _ => q _ (Or.inl ⟨hBig, rfl⟩) G' f23 hK')
    · rw [s1.1]
      have hE := enu_c s0 s1 s3
      refine zbr_i (fun _ => ?_) (fun z => absurd rfl z)
      refine zbr_i (fun hk => ?_) (fun hk => ?_)
      · rw [zgF_e, s1.2.1]
        exact q _ (Or.inr ⟨hE.big, fun _ => ⟨S, hE, rfl⟩, fun z => absurd hk z⟩) G' f23 hK'
      · refine w4_shared (S := S) ho hM f.2.1 s0 (by rw [eo]; exact s1) (fun i q hi => by rw [eo]; exact s3 i q hi) (fun r hr G2 f2 h2 => ?_)
        rw [eo] at hr
        have tr : TrI D p.toNat G' → TrI D p.toNat G2 := fun t => ⟨by rw [h2 2 0 (by omega)]; exact t.1, fun h11 => by
          rw [h2 11 0 (by omega)] at h11
          exact (t.2 h11).of (fun j i hj => h2 j i (by omega))⟩
        have f223 : Fr [2, 3] G' G2 := f2.mono (by
          intro y hy
          rw [List.mem_singleton] at hy
          rcases hp23 with rfl | rfl
          · rw [hy]; decide
          · rw [hy]; decide)
        refine q r (Or.inr ⟨hE.big, fun z => absurd z hk, fun _ => hr⟩) G2 (f23.trans f223) ?_
        obtain ⟨k1, k2, k3⟩ := hK'
        rcases hp23 with rfl | rfl
        · exact ⟨k1.fr f2 (by decide), tr k2, k3.fr f2 (by decide)⟩
        · exact ⟨k1.fr f2 (by decide), k2.fr f2 (by decide), tr k3⟩
theorem k6_size {G : ZG} {D : ZD} {p k : Int} {Q : Int → ZG → Prop} (hM : MI D) (hL : LIN D) (hK : ∀ j, 1 ≤ j → j ≤ 29 → zsg G 5 j = D j) (hT : MTI G D) (h47 : inR (zsg G 5 47 0)) (h1 : ¬ (2 ≤ p ∧ p ≤ 3) → Q 0 (zss G 5 0 0 1)) (h2 : 2 ≤ p ∧ p ≤ 3 → ¬ 0 < D 21 0 → Q 0 (zss G 5 0 0 2))
    (hQ : 2 ≤ p ∧ p ≤ 3 → 0 < D 21 0 → ∀ r, SzA D p k r → ∀ G', FC G G' → MTI G' D → zsg G' 5 0 0 = 0 → Q r G') : vX6_size p k G Q := by
  have m21 : 0 ≤ D 21 0 ∧ D 21 0 ≤ 3 := ⟨hM.2.2.2.2.1.1, hM.2.2.2.2.1.2.1⟩
  unfold vX6_size
  rw [eX6_in]
  dsimp only [zjn]
  have n1 : (1 : Int) ≠ 0 := by omega
  by_cases hp : 2 ≤ p ∧ p ≤ 3
  · rw [decide_eq_true hp.1, decide_eq_true hp.2]
    refine zbr_i (fun _ => ?_) (fun z => absurd (Decidable.of_not_not z) n1)
    rw [zgF_e, hK 21 (by omega) (by omega)]
    refine zbr_i (fun h21 => ?_) (fun h21 => ?_)
    · rw [eX6_refused, decide_eq_false (fun z => z rfl)]
      refine zbr_i (fun _ => ?_) (fun z => absurd rfl z)
      have e0 : zsg (zss G 5 0 0 0) 5 0 0 = 0 := by rw [zsg_ss, if_pos ⟨rfl, rfl, rfl⟩]
      have eB : ∀ j, j ≠ 0 → zsg (zss G 5 0 0 0) 5 j = zsg G 5 j := fun j hj => by rw [z5_ne hj]
      have mB : Mo G (zss G 5 0 0 0) := (Mo.refl G).ss _ _ _
      have tB := hT.z 0
      generalize zss G 5 0 0 0 = B at e0 eB mB tB
      refine w6_build (eng := p) hM hL (fun j j1 j2 => by rw [eB j (by omega), hK j j1 j2]) (by rw [eB 47 (by omega)]; exact h47) (fun h => tB p (by omega) h) (fun K fK k54 hTM => ?_)
      have kT : MTI K D := fun eng he h54 => by
        rw [k54] at h54
        rw [← h54]; exact hTM
      have fC : FC G K := ⟨mB.trans fK.1, fun j j0 j1 j2 j3 => by rw [fK.2 j j1 j2 j3, eB j j0]⟩
      have k0 : zsg K 5 0 0 = 0 := by rw [fK.2 0 (by omega) (by omega) (by omega)]; exact e0
      have q := fun r hr => hQ hp (by omega) r hr
      rw [zgF_e]
      rcases hTM with ⟨k55, hBig, _⟩ | ⟨k55, L, hTT⟩
      · rw [k55]
        exact zbr_i (fun z => absurd z n1) (fun _ => q _ (Or.inl ⟨hBig, rfl⟩) K fC kT k0)
      · rw [k55]
        have hE := enu_m hTT
        refine zbr_i (fun _ => ?_) (fun z => absurd rfl z)
        refine zbr_i (fun hk => ?_) (fun hk => ?_)
        · rw [zgF_e, hTT.1]
          exact q _ (Or.inr ⟨hE.big, fun _ => ⟨L, hE, rfl⟩, fun z => absurd hk z⟩) K fC kT k0
        · refine w6_shared hM hTT (fun r hr G2 mo h2 => ?_)
          refine q r (Or.inr ⟨hE.big, fun z => absurd z hk, fun _ => hr⟩) G2 ⟨fC.1.trans mo, fun j j0 j1 j2 j3 => by rw [h2 j (by omega), fC.2 j j0 j1 j2 j3]⟩ (kT.of (fun j j1 j2 => h2 j (by omega))) (by rw [h2 0 (by omega)]; exact k0)
    · rw [eX6_refused, decide_eq_true (by omega)]
      exact zbr_i (fun z => absurd z n1) (fun _ => h2 hp (by have := Decidable.of_not_not h21; omega))
  · have : (decide (2 ≤ p) && decide (p ≤ 3)) = false := by simp; omega
    rw [this]
    refine zbr_i (fun z => absurd rfl z) (fun _ => ?_)
    rw [eX6_refused, decide_eq_true n1]
    exact zbr_i (fun z => absurd z n1) (fun _ => h1 hp)
