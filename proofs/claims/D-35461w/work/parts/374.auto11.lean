/-! COMPONENT: the automaton takes the case that plain trying takes -/
set_option maxRecDepth 100000
theorem plain_log {D : ZD} {g : Int → Int} : ∀ (L : List Int) (s : RS) (c : Int) (bd : Int → Int), (plain D g L s).1 = some (c, bd) → c ∈ L ∧ (pca D (hd D g) (fn (plain D g L s).2.2) c).1 = 1 ∧ (pca D (hd D g) (fn (plain D g L s).2.2) c).2.2 = bd ∧ gd D g bd c ≠ 1
  | [], s, c, bd, h => by cases h
  | x :: L, s, c, bd, h => by
    rw [plain_s] at h ⊢
    by_cases hc : (rmc D g true x s).1 = 1 ∧ gd D g (rmc D g true x s).2.2 x ≠ 1
    · rw [if_pos hc] at h ⊢
      have e := Option.some.inj h
      injection e with e1 e2
      subst e1 e2
      have := (rmc_log (D := D) (g := g) (b := true) (c := x) (s := s)).2 []
      rw [List.append_nil] at this
      exact ⟨List.mem_cons_self, by dsimp only; rw [← this.1]; exact hc.1, by dsimp only; rw [this.2], hc.2⟩
    · rw [if_neg hc] at h ⊢
      have := plain_log L _ c bd h
      exact ⟨List.mem_cons_of_mem _ this.1, this.2⟩
theorem csl_mem {D : ZD} {c : Int} (h : c ∈ csl D) : 0 ≤ c ∧ c < D 23 0 := by
  unfold csl at h
  obtain ⟨k, hk, rfl⟩ := List.mem_map.mp h
  have := List.mem_range.mp hk
  omega
theorem go_cases {D : ZD} {g : Int → Int} {G0 : ZG} {N m : Int} {M : Int → Int} {Q : Int → ZG → Prop} {P : Int → Int → ZG → Prop} (E : Go D g G0 N m M Q P) {e : Int} (heN : e + 5 ≤ N) (he8 : M e = 8) (ip : (Int → Int) → Int → Int → Int → Int → Int → Prop) (f : Nat) (hf : f = 40) (hip : ∀ n p a b fl, ip M n p a b fl = Imp D M f n p a b fl) :
    ∀ (L : List Int), (∀ c ∈ L, 0 ≤ c ∧ c < D 23 0) → ∀ (s : RS) (a v : Int) (bd : Int → Int) (K : ZG), Prg D ip M L a e → 0 ≤ a → Ru D g true G0 K s bd →
      ((plain D g L s).1 = none → ∀ K' bd', Ru D g true G0 K' (plain D g L s).2 bd' → Q (-1) K') → (∀ c bd', (plain D g L s).1 = some (c, bd') → ∀ K' b2, Ru D g true G0 K' (plain D g L s).2 b2 → Q c K') → P a v K := by
  obtain ⟨hM, hg, hC, am0, hN, hc⟩ := id E
  obtain ⟨ka, kb, hLc, hcc⟩ := hC.2.2.2.2.2.2
  intro L
  induction L with
  | nil =>
    intro _ s a v bd K hP a0 hR h0 _
    have hP : a = e := hP
    subst hP
    exact go_f hc (am0.fr hR.1 (by simp)) a0 heN hN (fun _ => h0 rfl K bd hR) (fun z => absurd he8 z)
  | cons c L ih =>
    intro hmem s a v bd K hP a0 hR h0 h1
    have hcr := hmem c List.mem_cons_self
    obtain ⟨x, ⟨mm, i1, i2, i3, i4, i5, i6, i7⟩, hP2⟩ := hP
    have l2 := ImL_le (L := L.map fun c => (c, 0)) (fun d _ x y z => ImC_le z) hP2
    have hrow : CRow G0 D (ka c.toNat) (kb c.toNat) c := by
      have := hcc.2 c.toNat (by omega)
      rw [show ((c.toNat : Nat) : Int) = c by omega] at this
      exact this
    have hcw := hM.2.2.2.2.1.2.2.2.2.2.2 c hcr.1 hcr.2
    rw [plain_s] at h0 h1
    have i1 : ImL (fun n p a b => Imp D M f n p a b x) (cols D c) a mm := by
      have e : (fun n p x' y => ip M n p x' y x) = (fun n p a b => Imp D M f n p a b x) := by
        funext n p a b; exact hip n p a b x
      rw [← e]; exact i1
    have next : ∀ K' v', Ru D g true G0 K' (rmc D g true c s).2.1 bd → ¬ ((rmc D g true c s).1 = 1 ∧ gd D g (rmc D g true c s).2.2 c ≠ 1) → P x v' K' := fun K' v' hR' hn => by
      rw [if_neg hn] at h0 h1
      exact ih (fun d hd => hmem d (List.mem_cons_of_mem _ hd)) _ x v' bd K' hP2 (by omega) hR' h0 h1
    have key : ∀ f, f = 40 → al (mt D (rA D g true) (rV D g) (tick true) f) (cols D c) (s, fun _ => -1) = rmc D g true c s := fun f hf => by subst hf; rfl
    have kf := key f hf
    refine go_l (N := N) (fl := x) (fun n p a b => Imp D M f n p a b x) (mt D (rA D g true) (rV D g) (tick true) f) (fun n p x y z => Imp_le z) (cols D c) (fun q hq s3 bd3 x3 y3 v3 K3 i3 z0 zN r3 y3' n3' => ?_) s (fun _ => -1) a mm v K i1 a0 (by omega) hR (fun g1 K' v' hR' => ?_) (fun g1 K' v' hR' => ?_)
    · obtain ⟨i, i0, i1', rfl⟩ := cols_mem hq
      have m21 : D 21 0 ≤ 3 := hM.2.2.2.2.1.2.1
      have how := hcw.1 i i0 i1'
      have hpw := hM.2.2.1.2.2 _ how.1 how.2.1
      have a15 := hpw.2.2.1
      have ht : tp D g 0 (i + 1) (D 22 i) := ⟨by omega, by omega, by congr 1; omega⟩
      exact go_mt E f _ _ (D 22 i) 0 s3 bd3 x3 y3 x v3 K3 how.1 how.2.1 ht how.2.2 (by omega) i3 z0 zN r3 y3' n3'
    · rw [kf] at g1 hR'
      have am' := am0.fr hR'.1 (by simp)
      have lg := (rmc_log (D := D) (g := g) (b := true) (c := c) (s := s)).2 []
      rw [List.append_nil] at lg
      refine go_f hc am' (by omega) (by omega) hN (fun z => by omega) (fun _ => ?_)
      rw [zbr_neg (by omega), zbr_neg (by omega), zbr_neg (by omega), zbr_neg (by omega), zbr_neg (by omega), zbr_pos i4, i5]
      obtain ⟨⟨nm0, th0, hk1, hnt⟩, hkb⟩ := id hrow
      refine sJ2_get (hR'.1.lst ⟨by omega, by omega⟩ (by simp) hLc) hcr.1 (refs_get hcr.1 hcr.2) ?_
      have hkk := hR'.1.2.2.2.2.1 (by simp) _ _ hk1 rfl
      refine ⟨zca_i hkk, w1_binds hC hM hg hcr hrow hR' (by rw [← lg.1]; exact g1) (fun G6 hR6 => ?_)⟩
      rw [← lg.2] at hR6
      refine sJ2_get (hR6.1.lst ⟨by omega, by omega⟩ (by simp) hLc) hcr.1 (refs_get hcr.1 hcr.2) ?_
      have hkk6 := hR6.1.2.2.2.2.1 (by simp) _ _ hk1 rfl
      refine ⟨zca_i hkk6, w1_guards hC hM hg hcr hrow hR6 (fun h26 => ?_) ?_⟩
      · have hw := hcw.2.2.2.2.2.1 h26
        exact mca_b hM hg hcr ⟨hw.1, hw.2.1⟩ g1 hw.2.2.2.2
      · have am6 := am0.fr hR6.1 (by simp)
        refine zbr_i (fun h2 => ?_) (fun h2 => ?_)
        · refine jG0 am6 (by omega) (by omega) hN ?_
          rw [i6]
          rw [if_neg (fun z => z.2 h2)] at h0 h1
          exact ih (fun d hd => hmem d (List.mem_cons_of_mem _ hd)) _ x v' _ G6 hP2 (by omega) hR6 h0 h1
        · rw [if_pos ⟨g1, h2⟩] at h1
          exact h1 c _ rfl G6 _ hR6
    · rw [kf] at g1 hR'
      exact next K' v' hR' (fun z => by have := z.1; omega)
theorem w5_go {G0 G : ZG} {D : ZD} {g : Int → Int} {s : RS} {bd : Int → Int} {Q : Int → ZG → Prop} (hC : CDx G0 D) (hM : MI D) (hg : GV D g) (hA : AuB G0 D) (hR : Ru D g true G0 G s bd)
    (h0 : (plain D g (csl D) s).1 = none → ∀ K' bd', Ru D g true G0 K' (plain D g (csl D) s).2 bd' → Q (-1) K') (h1 : ∀ c bd', (plain D g (csl D) s).1 = some (c, bd') → ∀ K' b2, Ru D g true G0 K' (plain D g (csl D) s).2 b2 → Q c K') : vX5_go G Q := by
  obtain ⟨N, m, M, e, am, hN, e0, e1, pg, e8⟩ := hA
  show zl3 (bodyG Q) 0 0 G
  intro P hc
  have E : Go D g G0 N m M Q P := ⟨hM, hg, hC, am, (gN2 hN).2, hc⟩
  have key : ∀ f, f = 40 → ∀ n p a b fl, IP D M n p a b fl = Imp D M f n p a b fl := fun f hf n p a b fl => by subst hf; rfl
  exact go_cases E e1 e8 (fun M n p a b fl => IP D M n p a b fl) 40 rfl (key 40 rfl) (csl D) (fun c hc => csl_mem hc) s 0 0 bd G pg (by omega) hR h0 h1
