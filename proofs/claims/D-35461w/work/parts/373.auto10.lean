/-! COMPONENT: the automaton goes through its codes -/
set_option maxRecDepth 100000
theorem Am.fr {S : List Nat} {G K : ZG} {N m : Int} {M : Int → Int} (h : Am G N m M) (f : Fr S G K) (h4 : 4 ∉ S) : Am K N m M := by
  obtain ⟨a, l, hc, hj, hN, hm, hM⟩ := h
  refine ⟨a, l, ?_, by rw [f.2.2.2.2.2 h4 a hc]; exact hj, hN, by rw [f.g h4]; exact hm, hM⟩
  unfold cod at hc ⊢
  rw [f.r h4]; exact hc
def jG (P : Int → Int → ZG → Prop) (a4_1 : Int) (y309_2 : Int) (y309_5 : Int) (H309 : ZG) : Prop := zbr (y309_5 = 0) (zgU H309 4 0 fun (x9 : ZR) => zeI H309 x9 (w32 (a4_1 + 4)) fun (x10 : Int) => P x10 y309_2 H309) (P (w32 (a4_1 + 5)) y309_2 H309)
def bodyG (Q : Int → ZG → Prop) (P4 : Int → Int → ZG → Prop) (a4_1 : Int) (a4_2 : Int) (K4 : ZG) : Prop := zgU K4 4 0 fun (x1 : ZR) => zeI K4 x1 a4_1 fun (x2 : Int) => zbr (x2 = 8) (Q (-1) K4) (zgU K4 4 0 fun (x3 : ZR) => zeI K4 x3 (w32 (a4_1 + 1)) fun (x4 : Int) => zgU K4 4 0 fun (x5 : ZR) => zeI K4 x5 (w32 (a4_1 + 2)) fun (x6 : Int) => zgU K4 4 0 fun (x7 : ZR) => zeI K4 x7 a4_1 fun (x8 : Int) => zbr (x8 = 0) (vX3_at x4 4 K4 fun (x11 : Int) (G1 : ZG) => zgU G1 4 0 fun (x12 : ZR) => zeI G1 x12 (w32 (a4_1 + 3)) fun (x13 : Int) => vX1_inRange x11 x6 x13 fun (x14 : Int) => jG P4 a4_1 a4_2 x14 G1) (zbr (x8 = 1) (vX3_at x4 0 K4 fun (x15 : Int) (G2 : ZG) => zbr (x15 ≠ x6) (jG P4 a4_1 a4_2 0 G2) (jG P4 a4_1 a4_2 1 G2)) (zbr (x8 = 2) (vX3_at x4 5 K4 fun (x16 : Int) (G3 : ZG) => zgU G3 4 0 fun (x17 : ZR) => zeI G3 x17 (w32 (a4_1 + 3)) fun (x18 : Int) => vX1_inRange x16 x6 x18 fun (x19 : Int) => jG P4 a4_1 a4_2 x19 G3) (zbr (x8 = 3) (vX3_seen x4 x6 K4 fun (x20 : Int) (G4 : ZG) => jG P4 a4_1 x20 1 G4) (zbr (x8 = 4) (zgF K4 1 7 fun (x21 : Int) => zpF K4 1 7 (w32 (x21 + 1)) fun (G5 : ZG) => vX1_inRange a4_2 x4 x6 fun (x22 : Int) => jG P4 a4_1 a4_2 x22 G5) (zbr (x8 = 6) (vJ2_get 10 x4 K4 fun (x23 : ZR) => zca K4 x23 16 ∧ vX3_binds x23 K4 fun (G6 : ZG) => vJ2_get 10 x4 G6 fun (x24 : ZR) => zca G6 x24 16 ∧ vX3_guards x24 G6 fun (x25 : Int) => zbr (x25 = 1) (jG P4 a4_1 a4_2 0 G6) (Q x4 G6)) (zbr (x8 = 7) (vX3_look x4 K4 fun (x26 : Int) => zbr (x26 ≠ x6) (jG P4 a4_1 a4_2 0 K4) (jG P4 a4_1 a4_2 1 K4)) (jG P4 a4_1 a4_2 0 K4))))))))
theorem jG1 {P : Int → Int → ZG → Prop} {a v y : Int} {H : ZG} (hy : y ≠ 0) (a0 : 0 ≤ a) (a1 : a ≤ 100000) (h : P (a + 5) v H) : jG P a v y H := by
  unfold jG
  rw [zbr_neg hy, w32_eq (by omega) (by omega)]; exact h
theorem jG0 {P : Int → Int → ZG → Prop} {a v : Int} {H : ZG} {N m : Int} {M : Int → Int} (am : Am H N m M) (a0 : 0 ≤ a) (a1 : a + 5 ≤ N) (hN : N ≤ 32000) (h : P (M (a + 4)) v H) : jG P a v 0 H := by
  unfold jG
  rw [zbr_pos rfl, zgU_e, w32_eq (by omega) (by omega)]
  exact am.get (by omega) (by omega) h
/-- a code is fetched -/
theorem go_f {Q : Int → ZG → Prop} {P : Int → Int → ZG → Prop} (hc : ∀ a v K, bodyG Q P a v K → P a v K) {K : ZG} {N m a v : Int} {M : Int → Int} (am : Am K N m M) (a0 : 0 ≤ a) (a1 : a + 5 ≤ N) (hN : N ≤ 32000) (h8 : M a = 8 → Q (-1) K)
    (h : M a ≠ 8 → zbr (M a = 0) (vX3_at (M (a + 1)) 4 K fun (x11 : Int) (G1 : ZG) => zgU G1 4 0 fun (x12 : ZR) => zeI G1 x12 (a + 3) fun (x13 : Int) => vX1_inRange x11 (M (a + 2)) x13 fun (x14 : Int) => jG P a v x14 G1) (zbr (M a = 1) (vX3_at (M (a + 1)) 0 K fun (x15 : Int) (G2 : ZG) => zbr (x15 ≠ M (a + 2)) (jG P a v 0 G2) (jG P a v 1 G2)) (zbr (M a = 2) (vX3_at (M (a + 1)) 5 K fun (x16 : Int) (G3 : ZG) => zgU G3 4 0 fun (x17 : ZR) => zeI G3 x17 (a + 3) fun (x18 : Int) => vX1_inRange x16 (M (a + 2)) x18 fun (x19 : Int) => jG P a v x19 G3) (zbr (M a = 3) (vX3_seen (M (a + 1)) (M (a + 2)) K fun (x20 : Int) (G4 : ZG) => jG P a x20 1 G4) (zbr (M a = 4) (zgF K 1 7 fun (x21 : Int) => zpF K 1 7 (w32 (x21 + 1)) fun (G5 : ZG) => vX1_inRange v (M (a + 1)) (M (a + 2)) fun (x22 : Int) => jG P a v x22 G5) (zbr (M a = 6) (vJ2_get 10 (M (a + 1)) K fun (x23 : ZR) => zca K x23 16 ∧ vX3_binds x23 K fun (G6 : ZG) => vJ2_get 10 (M (a + 1)) G6 fun (x24 : ZR) => zca G6 x24 16 ∧ vX3_guards x24 G6 fun (x25 : Int) => zbr (x25 = 1) (jG P a v 0 G6) (Q (M (a + 1)) G6)) (zbr (M a = 7) (vX3_look (M (a + 1)) K fun (x26 : Int) => zbr (x26 ≠ M (a + 2)) (jG P a v 0 K) (jG P a v 1 K)) (jG P a v 0 K)))))))) : P a v K := by
  refine hc a v K ?_
  unfold bodyG
  rw [zgU_e]
  refine am.get a0 (by omega) (zbr_i h8 (fun hn => ?_))
  rw [zgU_e, w32_eq (x := a + 1) (by omega) (by omega), w32_eq (x := a + 2) (by omega) (by omega), w32_eq (x := a + 3) (by omega) (by omega)]
  refine am.get (by omega) (by omega) ?_
  rw [zgU_e]
  refine am.get (by omega) (by omega) ?_
  rw [zgU_e]
  refine am.get a0 (by omega) ?_
  exact h hn
/-- what going needs -/
def Go (D : ZD) (g : Int → Int) (G0 : ZG) (N m : Int) (M : Int → Int) (Q : Int → ZG → Prop) (P : Int → Int → ZG → Prop) : Prop := MI D ∧ GV D g ∧ CDx G0 D ∧ Am G0 N m M ∧ N ≤ 32000 ∧ ∀ a v K, bodyG Q P a v K → P a v K
theorem go_hold {D : ZD} {g : Int → Int} {G0 : ZG} {N m : Int} {M : Int → Int} {Q : Int → ZG → Prop} {P : Int → Int → ZG → Prop} (E : Go D g G0 N m M Q P) {bd : Int → Int} {x : Int} : ∀ (f : Nat) (n : Int) (s : RS) (a b fl : Int) (K : ZG), ImG D M f n a b fl → 0 ≤ a → b ≤ N → Ru D g true G0 K s bd →
    ((hold D (tick true) f n x s).1 = true → ∀ K', Ru D g true G0 K' (hold D (tick true) f n x s).2 bd → P b x K') → ((hold D (tick true) f n x s).1 = false → ∀ K', Ru D g true G0 K' (hold D (tick true) f n x s).2 bd → P fl x K') → P a x K := by
  obtain ⟨hM, hg, hC, am0, hN, hc⟩ := E
  intro f
  induction f with
  | zero => intro n s a b fl K h; exact h.elim
  | succ f ih =>
    intro n s a b fl K h a0 bN hR hY hNo
    have am := am0.fr hR.1 (by simp)
    rw [ImG_s] at h
    have hE := hold_s D (tick true) f n x s
    generalize hold D (tick true) (f + 1) n x s = R at hE hY hNo
    by_cases h4 : D 10 n = 4
    · rw [if_pos h4] at h hE
      obtain ⟨mm, h1, h2, h3, h5, h6⟩ := h
      have l1 := ImG_le h1
      have l2 := ImG_le h6
      refine ih (prt D n 0) s a mm (mm + 5) K h1 a0 (by omega) hR (fun hT K' hR' => ?_) (fun hT K' hR' => ?_)
      · rw [if_pos hT] at hE
        subst hE
        have am' := am0.fr hR'.1 (by simp)
        refine go_f hc am' (by omega) (by omega) hN (fun z => by omega) (fun _ => ?_)
        rw [zbr_neg (by omega), zbr_neg (by omega), zbr_neg (by omega), zbr_neg (by omega), zbr_neg (by omega), zbr_neg (by omega), zbr_neg (by omega)]
        exact jG0 am' (by omega) (by omega) hN (by rw [h5]; exact hY hT K' hR')
      · rw [if_neg (by rw [hT]; simp)] at hE
        subst hE
        exact ih (prt D n 1) _ (mm + 5) b fl K' h6 (by omega) bN hR' hY hNo
    · rw [if_neg h4] at h hE
      by_cases h2 : D 10 n = 2
      · rw [if_pos h2] at h hE
        subst hE
        obtain ⟨h1, h3, h5, h6, h7⟩ := h
        refine go_f hc am a0 (by omega) hN (fun z => by omega) (fun _ => ?_)
        rw [zbr_neg (by omega), zbr_neg (by omega), zbr_neg (by omega), zbr_neg (by omega), zbr_pos h1, zgF_e, hR.2.2.2.1, zpF_e, eX1_inRange, h3, h5]
        have hR' : Ru D g true G0 (zss K 1 7 0 (w32 (s.1 + 1))) (tick true s) bd := Ru_tick hR
        have am' := am0.fr hR'.1 (by simp)
        dsimp only at hY hNo
        cases hb : (decide (D 11 n ≤ x) && decide (x ≤ D 12 n)) with
        | true => exact jG1 (by simp [bb]) a0 (by omega) (by rw [← h7]; exact hY hb _ hR')
        | false => exact jG0 am' a0 (by omega) hN (by rw [h6]; exact hNo hb _ hR')
      · rw [if_neg h2] at h hE
        subst hE
        rw [← h]
        exact hY rfl K hR
/-- a list of parts -/
theorem go_l {D : ZD} {g : Int → Int} {G0 : ZG} {N : Int} {P : Int → Int → ZG → Prop} {bd : Int → Int} {fl : Int} (I : Int → Int → Int → Int → Prop) (Mt : Int → Int → RS × (Int → Int) → Int × (RS × (Int → Int))) (hle : ∀ n p x y, I n p x y → x ≤ y ∧ (y - x) % 5 = 0) :
    ∀ (L : List (Int × Int)), (∀ c ∈ L, ∀ s bd0 x y v K, I c.1 c.2 x y → 0 ≤ x → y ≤ N → Ru D g true G0 K s bd → ((Mt c.1 c.2 (s, bd0)).1 = 1 → ∀ K' v', Ru D g true G0 K' (Mt c.1 c.2 (s, bd0)).2.1 bd → P y v' K') → ((Mt c.1 c.2 (s, bd0)).1 = 0 → ∀ K' v', Ru D g true G0 K' (Mt c.1 c.2 (s, bd0)).2.1 bd → P fl v' K') → P x v K) →
      ∀ s bd0 a b v K, ImL I L a b → 0 ≤ a → b ≤ N → Ru D g true G0 K s bd → ((al Mt L (s, bd0)).1 = 1 → ∀ K' v', Ru D g true G0 K' (al Mt L (s, bd0)).2.1 bd → P b v' K') → ((al Mt L (s, bd0)).1 = 0 → ∀ K' v', Ru D g true G0 K' (al Mt L (s, bd0)).2.1 bd → P fl v' K') → P a v K
  | [], _, s, bd0, a, b, v, K, h, _, _, hR, hY, _ => by
    have h : a = b := h
    subst h
    exact hY rfl K v hR
  | c :: L, hm, s, bd0, a, b, v, K, h, a0, bN, hR, hY, hNo => by
    obtain ⟨x, h1, h2⟩ := h
    have l1 := hle _ _ _ _ h1
    have l2 := ImL_le (fun e _ x y z => hle e.1 e.2 x y z) h2
    have e := al_s Mt c L (s, bd0)
    generalize al Mt (c :: L) (s, bd0) = R at e hY hNo
    refine hm c List.mem_cons_self s bd0 a x v K h1 a0 (by omega) hR (fun g1 K' v' hR' => ?_) (fun g1 K' v' hR' => ?_)
    · rw [if_pos g1] at e
      subst e
      exact go_l I Mt hle L (fun d hd => hm d (List.mem_cons_of_mem _ hd)) (Mt c.1 c.2 (s, bd0)).2.1 (Mt c.1 c.2 (s, bd0)).2.2 x b v' K' h2 (by omega) bN hR' hY hNo
    · rw [if_neg (by omega)] at e
      subst e
      exact hNo g1 K' v' hR'
theorem go_mt {D : ZD} {g : Int → Int} {G0 : ZG} {N m : Int} {M : Int → Int} {Q : Int → ZG → Prop} {P : Int → Int → ZG → Prop} (E : Go D g G0 N m M Q P) {bd : Int → Int} : ∀ (f : Nat) (n p k : Int) (d : Nat) (s : RS) (bd0 : Int → Int) (a b fl v : Int) (K : ZG), 0 ≤ n → n < D 9 0 → tp D g d p k → fitk D n k → (d : Int) + D 15 n ≤ 4 → Imp D M f n p a b fl → 0 ≤ a → b ≤ N → Ru D g true G0 K s bd →
    ((mt D (rA D g true) (rV D g) (tick true) f n p (s, bd0)).1 = 1 → ∀ K' v', Ru D g true G0 K' (mt D (rA D g true) (rV D g) (tick true) f n p (s, bd0)).2.1 bd → P b v' K') → ((mt D (rA D g true) (rV D g) (tick true) f n p (s, bd0)).1 = 0 → ∀ K' v', Ru D g true G0 K' (mt D (rA D g true) (rV D g) (tick true) f n p (s, bd0)).2.1 bd → P fl v' K') → P a v K := by
  obtain ⟨hM, hg, hC, am0, hN, hc⟩ := id E
  obtain ⟨hS, hCt, hCv, hCp, hCw, hCk, hCc⟩ := id hC
  intro f
  induction f with
  | zero => intro n p k d s bd0 a b fl v K h0 h1 hp hf hdp h; exact h.elim
  | succ f ih =>
    intro n p k d s bd0 a b fl v K h0 h1 hp hf hdp h a0 bN hR hY hNo
    have hpw := hM.2.2.1.2.2 n h0 h1
    have m15 := hpw.2.2.1
    have hd3 : d ≤ 3 := by omega
    have am := am0.fr hR.1 (by simp)
    have hh := hd_r hM hg (show d ≤ 7 by omega) hp
    have hE := mt_s D (rA D g true) (rV D g) (tick true) f n p (s, bd0)
    rw [Imp_s] at h
    generalize mt D (rA D g true) (rV D g) (tick true) (f + 1) n p (s, bd0) = R at hE hY hNo
    obtain ⟨hform, -, -, -, -, -, -, -, -, -, -, f0, f1, f2, f3, f4, f5, f6⟩ := id hpw
    by_cases e1 : D 10 n = 1
    · rw [if_pos e1] at h hE
      have c1 := f1 e1
      have q0 := pch hM.2.2.1 h0 h1 (k := 0) (by omega) (by omega) (by omega)
      refine ih (prt D n 0) p k d s bd0 a b fl v K q0.1 q0.2.1 hp (by unfold fitk at hf ⊢; rw [← c1.2.2.2.2.2.1]; exact hf) (by omega) h a0 bN hR (fun g1 K' v' hR' => ?_) (fun g1 K' v' hR' => ?_)
      · rw [if_pos g1] at hE
        subst hE
        exact hY rfl K' v' hR'
      · rw [if_neg (by omega)] at hE
        subst hE
        exact hNo g1 K' v' hR'
    rw [if_neg e1] at h hE
    have look : ∀ kk, (rA D g true p kk s).1 = hd D g p ∧ (rA D g true p kk s).2 = tick true s := fun _ => ⟨rfl, rfl⟩
    by_cases e2 : D 10 n = 2
    · rw [if_pos e2] at h hE
      obtain ⟨h2, h3, h4, h5, h6, h7⟩ := h
      have hx : (rA D g true p 4 s).1 = hd D g p := rfl
      rw [hx, if_neg (by omega)] at hE
      refine go_f hc am a0 (by omega) hN (fun z => by omega) (fun _ => ?_)
      rw [zbr_pos h2, h3]
      refine w1_at hM hg hCv hR hd3 hp (fun K' hR' => ?_)
      have am' := am0.fr hR'.1 (by simp)
      rw [zgU_e]
      refine am'.get (by omega) (by omega) ?_
      rw [eX1_inRange, h4, h5]
      by_cases hin : D 11 n ≤ hd D g p ∧ hd D g p ≤ D 12 n
      · rw [if_pos hin] at hE
        subst hE
        rw [decide_eq_true hin.1, decide_eq_true hin.2]
        exact jG1 (by simp [bb]) a0 (by omega) (by rw [← h7]; exact hY rfl K' v hR')
      · rw [if_neg hin] at hE
        subst hE
        rw [show (decide (D 11 n ≤ hd D g p) && decide (hd D g p ≤ D 12 n)) = false by simp; omega]
        exact jG0 am' a0 (by omega) hN (by rw [h6]; exact hNo rfl K' v hR')
    rw [if_neg e2] at h hE
    have hlI : ∀ n p x y, Imp D M f n p x y fl → x ≤ y ∧ (y - x) % 5 = 0 := fun n p x y z => Imp_le z
    have parts : ∀ (j : Int) (s2 : RS) (x y w : Int) (K : ZG), (∀ i, 0 ≤ i → i < 3 → prt D n i ≠ -1 → ∃ k', tp D g (d + 1) (5 * p + j + i + 1) k' ∧ fitk D (prt D n i) k' ∧ D 15 (prt D n i) + 1 ≤ D 15 n) → ImL (fun n p x y => Imp D M f n p x y fl) (chs D n p j) x y → 0 ≤ x → y ≤ N → Ru D g true G0 K s2 bd →
        ((al (mt D (rA D g true) (rV D g) (tick true) f) (chs D n p j) (s2, bd0)).1 = 1 → ∀ K' v', Ru D g true G0 K' (al (mt D (rA D g true) (rV D g) (tick true) f) (chs D n p j) (s2, bd0)).2.1 bd → P y v' K') → ((al (mt D (rA D g true) (rV D g) (tick true) f) (chs D n p j) (s2, bd0)).1 = 0 → ∀ K' v', Ru D g true G0 K' (al (mt D (rA D g true) (rV D g) (tick true) f) (chs D n p j) (s2, bd0)).2.1 bd → P fl v' K') → P x w K := by
      intro j s2 x y w K hch him x0 yN hR2 hY2 hN2
      refine go_l (fun n p x y => Imp D M f n p x y fl) (mt D (rA D g true) (rV D g) (tick true) f) hlI (chs D n p j) (fun c hc2 s3 bd3 x3 y3 v3 K3 i3 z0 zN r3 y3' n3' => ?_) s2 bd0 x y w K him x0 yN hR2 hY2 hN2
      obtain ⟨i, i0, i3', hi, rfl⟩ := chs_mem hc2
      have qi := pch hM.2.2.1 h0 h1 i0 i3' hi
      obtain ⟨k', hk1, hk2, hk3⟩ := hch i i0 i3' hi
      exact ih (prt D n i) _ k' (d + 1) s3 bd3 x3 y3 fl v3 K3 qi.1 qi.2.1 hk1 hk2 (by omega) i3 z0 zN r3 y3' n3'
    by_cases e3 : D 10 n = 3
    · rw [if_pos e3] at h hE
      have c3 := f3 e3
      have hk : k = D 11 n / 4 := by unfold fitk at hf; omega
      have e44 : 4 * (D 11 n / 4) + D 11 n % 4 = D 11 n := by omega
      have hck := c3.2.2.2.2.2
      obtain ⟨h2, h3, h4, h5, h6⟩ := h
      have l6 := ImL_le (fun c _ x y z => hlI c.1 c.2 x y z) h6
      rw [(look (D 11 n / 4)).1, (look (D 11 n / 4)).2, if_neg (by omega)] at hE
      refine go_f hc am a0 (by omega) hN (fun z => by omega) (fun _ => ?_)
      rw [zbr_neg (by omega), zbr_pos h2, h3]
      refine w1_at hM hg hCv hR hd3 hp (fun K' hR' => ?_)
      have am' := am0.fr hR'.1 (by simp)
      rw [h4]
      refine zbr_i (fun hx => ?_) (fun hx => ?_)
      · rw [if_neg hx] at hE
        subst hE
        exact jG0 am' a0 (by omega) hN (by rw [h5]; exact hNo rfl K' v hR')
      · have hx := Decidable.of_not_not hx
        rw [if_pos hx] at hE
        subst hE
        refine jG1 (by omega) a0 (by omega) ?_
        refine parts 0 (tick true s) (a + 5) b v K' (fun i i0 i3 hi => ?_) h6 (by omega) bN hR' hY hNo
        have i1 : i < D 2 (D 11 n) := Decidable.byContradiction fun z => hi ((hck i i0 i3).2 (by omega))
        have hci := (hck i i0 i3).1 i1
        exact ⟨_, tp_mk hM hg h0 h1 e3 hd3 hp hf hx i0 i1, hci.2.1, hci.2.2⟩
    rw [if_neg e3] at h hE
    by_cases e4 : D 10 n = 4
    · rw [if_pos e4] at h hE
      have c4 := f4 e4
      have q0 := pch hM.2.2.1 h0 h1 (k := 0) (by omega) (by omega) (by omega)
      have q1 := pch hM.2.2.1 h0 h1 (k := 1) (by omega) (by omega) (by omega)
      have ff := c4.2.2.2.2.2.1 k hf
      obtain ⟨mm, h2, h3, h5, h6, h7⟩ := h
      have l1 := Imp_le h2
      have l2 := Imp_le h7
      refine ih (prt D n 0) p k d s bd0 a mm (mm + 5) v K q0.1 q0.2.1 hp ff.1 (by omega) h2 a0 (by omega) hR (fun g1 K' v' hR' => ?_) (fun g1 K' v' hR' => ?_)
      · rw [if_neg (by omega)] at hE
        subst hE
        have am' := am0.fr hR'.1 (by simp)
        refine go_f hc am' (by omega) (by omega) hN (fun z => by omega) (fun _ => ?_)
        rw [zbr_neg (by omega), zbr_neg (by omega), zbr_neg (by omega), zbr_neg (by omega), zbr_neg (by omega), zbr_neg (by omega), zbr_neg (by omega)]
        exact jG0 am' (by omega) (by omega) hN (by rw [h6]; exact hY g1 K' v' hR')
      · rw [if_pos g1] at hE
        subst hE
        exact ih (prt D n 1) p k d (mt D (rA D g true) (rV D g) (tick true) f (prt D n 0) p (s, bd0)).2.1 (mt D (rA D g true) (rV D g) (tick true) f (prt D n 0) p (s, bd0)).2.2 (mm + 5) b fl v' K' q1.1 q1.2.1 hp ff.2 (by omega) h7 (by omega) bN hR' hY hNo
    rw [if_neg e4] at h hE
    by_cases e5 : D 10 n = 5
    · rw [if_pos e5] at h hE
      have c5 := f5 e5
      obtain ⟨h2, h3, h4, h5⟩ := h
      have l5 := ImG_le h5
      have hb := rV_RI (D := D) (g := g) (v := D 11 n) (p := p) hM hR.2.2.2.2.2.2.2.1 ⟨c5.1, c5.2.1⟩ (pl_apl hd3 (tp_vl hM hg d p k (by omega) hp).2.1)
      dsimp only at hE
      rw [if_neg (by omega)] at hE
      refine go_f hc am a0 (by omega) hN (fun z => by omega) (fun _ => ?_)
      rw [zbr_neg (by omega), zbr_neg (by omega), zbr_neg (by omega), zbr_pos h2, h3, h4]
      refine w1_seen hM hg hCv hCw hR hd3 hp ⟨c5.1, c5.2.1⟩ (fun K' hR' => ?_)
      refine jG1 (by omega) a0 (by omega) ?_
      have key := go_hold E (bd := bd) (x := (rV D g (D 11 n) p s).1) 40 (prt D n 0) (rV D g (D 11 n) p s).2 (a + 5) b fl K' h5 (by omega) bN hR'
      generalize hold D (tick true) 40 (prt D n 0) (rV D g (D 11 n) p s).1 (rV D g (D 11 n) p s).2 = hh2 at hE key
      subst hE
      exact key (fun hT K2 hR2 => hY (by show bb hh2.1 = 1; rw [hT]; rfl) K2 _ hR2) (fun hT K2 hR2 => hNo (by show bb hh2.1 = 0; rw [hT]; rfl) K2 _ hR2)
    rw [if_neg e5] at h hE
    by_cases e6 : D 10 n = 6
    · rw [if_pos e6] at h hE
      have c6 := f6 e6
      have hck := c6.2.2.2.2.2.2
      have hk : k = 5 := by unfold fitk at hf; omega
      obtain ⟨h2, h3, h4, h5, h6, h7⟩ := h
      have hl3 := hh.2.2.2.2.2 hk
      have l7 : a + 5 ≤ b := by
        by_cases z : D 12 n = 2
        · rw [if_pos z] at h7; exact (ImB_le hlI h7).1
        · rw [if_neg z] at h7; exact (ImL_le (fun c _ x y z => hlI c.1 c.2 x y z) h7).1
      rw [(look 5).1, (look 5).2, if_neg (by omega)] at hE
      refine go_f hc am a0 (by omega) hN (fun z => by omega) (fun _ => ?_)
      rw [zbr_neg (by omega), zbr_neg (by omega), zbr_pos h2, h3]
      refine w1_at hM hg hCv hR hd3 hp (fun K' hR' => ?_)
      have am' := am0.fr hR'.1 (by simp)
      rw [zgU_e]
      refine am'.get (by omega) (by omega) ?_
      rw [eX1_inRange, h4, h5]
      have efit : (decide (D 11 n ≤ hd D g p) && decide (hd D g p ≤ (if D 12 n = 0 then D 11 n else 3))) = fitl D n (hd D g p) := by
        unfold fitl
        by_cases z : D 12 n = 0
        · rw [if_pos z, if_pos z]
          by_cases y : hd D g p = D 11 n
          · rw [decide_eq_true y, decide_eq_true (by omega), decide_eq_true (by omega)]; rfl
          · rw [decide_eq_false y]; simp; omega
        · rw [if_neg z, if_neg z, decide_eq_true (p := hd D g p ≤ 3) hl3, Bool.and_true]
      rw [efit]
      cases hfit : fitl D n (hd D g p) with
      | false =>
        rw [if_neg (by rw [hfit]; simp)] at hE
        subst hE
        exact jG0 am' a0 (by omega) hN (by rw [h6]; exact hNo rfl K' v hR')
      | true =>
        rw [if_pos hfit] at hE
        subst hE
        refine jG1 (by simp [bb]) a0 (by omega) ?_
        have hb := begl_r hfit c6.1
        have hty : ∀ i, 0 ≤ i → i < 3 → prt D n i ≠ -1 → ∃ k', tp D g (d + 1) (5 * p + begl D n (hd D g p) + i + 1) k' ∧ fitk D (prt D n i) k' ∧ D 15 (prt D n i) + 1 ≤ D 15 n := fun i i0 i3 hi => by
          have i1 : i < D 11 n := Decidable.byContradiction fun z => hi ((hck i i0 i3).2 (by omega))
          have hci := (hck i i0 i3).1 i1
          exact ⟨4, tp_ls hM hg h0 h1 e6 hd3 hp hf hfit i0 i1, hci.2.1, hci.2.2⟩
        by_cases z : D 12 n = 2
        · rw [if_pos z] at h7
          have eb : begl D n (hd D g p) = hd D g p - D 11 n := by unfold begl; rw [if_pos z]
          rw [eb] at hty hY hNo hb
          have lens : ∀ (q : Nat) (x w : Int) (K : ZG), (4 : Int) - (q : Int) ≤ hd D g p → (q : Int) ≤ 4 → ImB D M (fun n p a b => Imp D M f n p a b fl) n p b q x → 0 ≤ x → Ru D g true G0 K (tick true s) bd → P x w K := by
            intro q
            induction q with
            | zero => intro x w K hq; omega
            | succ q ihq =>
              intro x w K hq hq4 him x0 hR2
              obtain ⟨j, b1, b2, b3, b4, b5, b6, b7, b8, b9⟩ := him
              have l9 := ImB_le hlI b9
              have am2 := am0.fr hR2.1 (by simp)
              refine go_f hc am2 x0 (by omega) hN (fun z => by omega) (fun _ => ?_)
              rw [zbr_neg (by omega), zbr_neg (by omega), zbr_neg (by omega), zbr_neg (by omega), zbr_neg (by omega), zbr_neg (by omega), zbr_pos b1, b2]
              refine w1_look hM hg (hCv.fr hR2.1 (by simp) (fun _ _ => rfl)) hR2.2.1 hd3 hp ?_
              rw [b3]
              refine zbr_i (fun hx => ?_) (fun hx => ?_)
              · refine jG0 am2 x0 (by omega) hN ?_
                rw [b4]
                exact ihq (j + 5) w K (by push_cast at hq; omega) (by omega) b9 (by omega) hR2
              · have hx := Decidable.of_not_not hx
                refine jG1 (by omega) x0 (by omega) ?_
                rw [← hx] at b5
                refine parts (hd D g p - D 11 n) (tick true s) (x + 5) j w K hty b5 (by omega) (by omega) hR2 (fun g1 K2 v2 hR3 => ?_) hNo
                have am3 := am0.fr hR3.1 (by simp)
                refine go_f hc am3 (by omega) (by omega) hN (fun z => by omega) (fun _ => ?_)
                rw [zbr_neg (by omega), zbr_neg (by omega), zbr_neg (by omega), zbr_neg (by omega), zbr_neg (by omega), zbr_neg (by omega), zbr_neg (by omega)]
                exact jG0 am3 (by omega) (by omega) hN (by rw [b8]; exact hY g1 K2 v2 hR3)
          exact lens (4 - D 11 n).toNat (a + 5) v K' (by omega) (by omega) h7 (by omega) hR'
        · rw [if_neg z] at h7
          have eb : begl D n (hd D g p) = 0 := by unfold begl; rw [if_neg z]
          rw [eb] at hty hY hNo
          exact parts 0 (tick true s) (a + 5) b v K' hty h7 (by omega) bN hR' hY hNo
    rw [if_neg e6] at h hE
    subst hE
    rw [← h]
    exact hY rfl K v hR
