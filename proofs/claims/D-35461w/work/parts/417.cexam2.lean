/-! COMPONENT: an example, whole -/
set_option maxRecDepth 100000
/-- something is missing -/
def Msg (D : ZD) : Prop := ∃ e, isN D 2 e ∧ (nl D 2 e).1 = 2
theorem w4_example {D : ZD} {o : Nat} {G : ZG} {S : List PT} {p : Int} {Q : Int → Prop} (hM : MI D) (h0 : S[0]? = some []) (hN : Nrm D 2 o G S) (hPw : S.Pairwise plt) (hRow : ∀ (i : Nat) q, S[i]? = some q → Row D 2 o G S i q) (hm : Msg D) (hQ : ∀ r, ExA D p r → Q r) : vX4_example o p G Q := by
  have hl5 := hN.2.2.1
  have hE := enu_c h0 hN hRow
  have isn : ∀ {i : Nat} {q : PT}, S[i]? = some q → isN D 2 q := fun h => hN.2.2.2.2 _ (List.mem_iff_getElem?.mpr ⟨_, h⟩)
  obtain ⟨m, hm1, hm2⟩ := hm
  obtain ⟨w, hw⟩ := List.mem_iff_getElem?.mp ((hE.2.2 m).mpr hm1)
  have hwl := (List.getElem?_eq_some_iff.mp hw).1
  unfold vX4_example
  refine zl1_of (fun a => ∃ n : Nat, a = (n : Int) ∧ n ≤ w ∧ ∀ (j : Nat) q, j < n → S[j]? = some q → (nl D 2 q).1 ≠ 2) (fun a => ((w : Int) - a).toNat) (fun P a hI hPP => ?_) ⟨0, rfl, by omega, fun j q hj => by omega⟩
  obtain ⟨n, rfl, hn, hno⟩ := hI
  obtain ⟨e, he⟩ : ∃ e, S[n]? = some e := ⟨_, List.getElem?_eq_getElem (by omega)⟩
  have heN := isn he
  have h1 := isN_1 hM heN
  refine zaL_i (by omega) (by omega) ?_
  rw [(hRow n e he).1]
  refine zbr_i (fun h5 => ?_) (fun h5 => ?_)
  · have h2 := (ck_5 h1).mp h5
    refine w4_climb hM h0 hN hRow he (hQ _ ⟨e, ⟨heN, h2, fun e' hN' h2' hne => ?_⟩, rfl⟩)
    obtain ⟨j, hj⟩ := List.mem_iff_getElem?.mp ((hE.2.2 e').mpr hN')
    have hjl := (List.getElem?_eq_some_iff.mp hj).1
    have hnl := (List.getElem?_eq_some_iff.mp he).1
    have hnj : n < j := by
      rcases Nat.lt_trichotomy n j with z | z | z
      · exact z
      · subst z
        rw [he] at hj
        exact absurd (Option.some.inj hj).symm hne
      · exact absurd h2' (hno j e' z hj)
    have := List.pairwise_iff_getElem.mp hPw n j hnl hjl hnj
    rw [(List.getElem?_eq_some_iff.mp he).2, (List.getElem?_eq_some_iff.mp hj).2] at this
    exact plt_dv hM heN h2 hN' this
  · rw [zlt1_e, w32_eq (by omega) (by omega)]
    have hne : (nl D 2 e).1 ≠ 2 := fun z => h5 ((ck_5 h1).mpr z)
    have hnw : n ≠ w := fun z => by
      subst z
      rw [he] at hw
      have := Option.some.inj hw
      subst this
      exact hne hm2
    refine hPP _ ⟨n + 1, by push_cast; rfl, by omega, fun j q hj hq => ?_⟩ (by omega)
    by_cases hjn : j = n
    · subst hjn
      rw [he] at hq
      rw [← Option.some.inj hq]; exact hne
    · exact hno j q (by omega) hq
theorem k1_example {G : ZG} {D : ZD} {p : Int} {X : Nat → ZG → Prop} {Q : Int → ZG → Prop} (hC : CD G D) (hM : MI D) (hK : KI G D) (hX : ¬ (0 < D 21 0 ∧ ¬ Big D 2 ∧ Msg D) → ∀ G', Fr [2] G G' → KI G' D → X 2 G')
    (hQ : 0 < D 21 0 ∧ ¬ Big D 2 ∧ Msg D → ∀ r, ExA D p r → ∀ G', Fr [2] G G' → KI G' D → Q r G') : vX1_example p G X Q := by
  unfold vX1_example
  rw [zgF_e, hC.2.2.2.2.2.1.1]
  dsimp only [zjn]
  refine zbr_i (fun h => ?_) (fun h => ?_)
  · rw [reqS0]; exact hX (fun z => by omega) G (Fr.refl _ hC.1) hK
  · refine w1_treeAt (Or.inl rfl) hC.x hM hK (fun G' f hK' tc => ⟨2, rfl, rfl, ?_⟩)
    have f : Fr [2] G G' := f
    have tc : TC D 2 2 G' := tc
    dsimp only
    rw [zgF_e]
    rcases tc with ⟨h10, _, hBig⟩ | ⟨S, s0, s1, s2, s3⟩
    · rw [h10]
      refine zbr_i (fun _ => ?_) (fun z => absurd (by omega) z)
      rw [reqS0]; exact hX (fun z => z.2.1 hBig) G' f hK'
    · rw [s1.1]
      have hE := enu_c s0 s1 s3
      refine zbr_i (fun z => absurd rfl z) (fun _ => ?_)
      refine w4_many5 hM s1 s3 ?_
      refine zbr_i (fun h0 => ?_) (fun h0 => ?_)
      · rw [reqS0]
        refine hX (fun ⟨_, _, e, he, h2⟩ => ?_) G' f hK'
        have : e ∈ S.filter (fM D) := List.mem_filter.mpr ⟨(hE.2.2 e).mpr he, by unfold fM; exact decide_eq_true h2⟩
        have := List.length_pos_of_mem this
        omega
      · rw [reqS1]
        have hm : Msg D := by
          obtain ⟨e, he⟩ := List.length_pos_iff_exists_mem.mp (show 0 < (S.filter (fM D)).length by omega)
          obtain ⟨g1, g2⟩ := List.mem_filter.mp he
          exact ⟨e, (hE.2.2 e).mp g1, of_decide_eq_true g2⟩
        exact w4_example hM s0 s1 s2 s3 hm (fun r hr => hQ ⟨by omega, hE.big, hm⟩ r hr G' f hK')
