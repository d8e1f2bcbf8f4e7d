/-! COMPONENT: how many codes there are; the automaton is kept -/
set_option maxRecDepth 100000
theorem sum_le {g s : Int → Int} {a b : Int} : ∀ (L : List Int), (∀ q ∈ L, 2 * g q ≤ a * s q + b) → 2 * (L.map g).sum ≤ a * (L.map s).sum + b * (L.length : Int)
  | [], _ => by simp
  | q :: L, h => by
    have a1 := h q List.mem_cons_self
    have a2 := sum_le L fun r hr => h r (List.mem_cons_of_mem _ hr)
    rw [List.map_cons, List.sum_cons, List.map_cons, List.sum_cons, List.length_cons, Int.mul_add, Int.mul_add]
    have : b * ((L.length + 1 : Nat) : Int) = b * (L.length : Int) + b := by push_cast; rw [Int.mul_add, Int.mul_one]
    omega
theorem sum_nat (g : Int → Nat) : ∀ (L : List Int), (((L.map g).sum : Nat) : Int) = (L.map fun q => (g q : Int)).sum
  | [] => rfl
  | q :: L => by rw [List.map_cons, List.sum_cons, List.map_cons, List.sum_cons, ← sum_nat g L]; push_cast; rfl
theorem chl_len {D : ZD} {n : Int} : (chl D n).length ≤ 3 := by
  unfold chl
  exact List.length_filterMap_le _ _
theorem kG_b {D : ZD} (hM : MIp D) : ∀ (f : Nat) (n : Int), 0 ≤ n → n < D 9 0 → (kG D f n : Int) ≤ D 16 n := by
  intro f
  induction f with
  | zero => intro n h0 h1; have := (hM.2.2 n h0 h1).2.2.2.1; show (0 : Int) ≤ _; omega
  | succ f ih =>
    intro n h0 h1
    have hpw := hM.2.2 n h0 h1
    have a16 := hpw.2.2.2.1
    rw [kG_s]
    by_cases h4 : D 10 n = 4
    · rw [if_pos h4]
      have c1 := hpw.2.2.2.2.2.2.2.2.2.2.2.2.2.2.2.1 h4
      have q0 := pch hM h0 h1 (k := 0) (by omega) (by omega) (by omega)
      have q1 := pch hM h0 h1 (k := 1) (by omega) (by omega) (by omega)
      have hsz := pat_sz hM h0 h1 h4
      have i0 := ih _ q0.1 q0.2.1
      have i1 := ih _ q1.1 q1.2.1
      push_cast; omega
    · rw [if_neg h4]
      split <;> (push_cast; omega)
theorem kW_b {D : ZD} (hM : MIp D) : ∀ (f : Nat) (n : Int), 0 ≤ n → n < D 9 0 → (2 * (kW D f n : Int) ≤ 13 * D 16 n + 5 ∧ (jW D f n : Int) ≤ D 16 n) ∧ (fitk D n 4 → (kW D f n : Int) ≤ D 16 n ∧ jW D f n = 0) := by
  intro f
  induction f with
  | zero =>
    intro n h0 h1
    have := (hM.2.2 n h0 h1).2.2.2.1
    show (2 * ((0 : Nat) : Int) ≤ _ ∧ ((0 : Nat) : Int) ≤ _) ∧ (_ → ((0 : Nat) : Int) ≤ _ ∧ 0 = 0)
    exact ⟨⟨by omega, by omega⟩, fun _ => ⟨by omega, rfl⟩⟩
  | succ f ih =>
    intro n h0 h1
    have hpw := hM.2.2 n h0 h1
    have a16 := hpw.2.2.2.1
    obtain ⟨hform, -, -, -, -, -, -, -, -, hsum, -, f0, f1, f2, f3, f4, f5, f6⟩ := id hpw
    have hch : ∀ q ∈ chl D n, 0 ≤ q ∧ q < D 9 0 ∧ D 16 q + 1 ≤ D 16 n := fun q hq => by
      have := psz hM h0 h1 hq
      exact ⟨this.1, by omega, this.2.2.1⟩
    have hl := chl_len (D := D) (n := n)
    rw [kW_s, jW_s]
    by_cases e1 : D 10 n = 1
    · rw [if_pos e1, if_pos e1]
      have c1 := f1 e1
      have q0 := pch hM h0 h1 (k := 0) (by omega) (by omega) (by omega)
      have i0 := ih _ q0.1 q0.2.1
      refine ⟨⟨by omega, by omega⟩, fun z => ?_⟩
      have := i0.2 (by unfold fitk at z ⊢; rw [← c1.2.2.2.2.2.1]; exact z)
      exact ⟨by omega, this.2⟩
    rw [if_neg e1, if_neg e1]
    by_cases e2 : D 10 n = 2
    · rw [if_pos e2, if_pos e2]
      refine ⟨⟨by omega, by omega⟩, fun _ => ⟨by omega, rfl⟩⟩
    rw [if_neg e2, if_neg e2]
    have sj := sum_le (g := fun q => (jW D f q : Int)) (s := fun q => D 16 q) (a := 2) (b := 0) (chl D n) (fun q hq => by have := (ih q (hch q hq).1 (hch q hq).2.1).1.2; omega)
    rw [← sum_nat] at sj
    by_cases e3 : D 10 n = 3
    · rw [if_pos e3, if_pos e3]
      have sk := sum_le (g := fun q => (kW D f q : Int)) (s := fun q => D 16 q) (a := 13) (b := 5) (chl D n) (fun q hq => (ih q (hch q hq).1 (hch q hq).2.1).1.1)
      rw [← sum_nat] at sk
      refine ⟨⟨by push_cast; omega, by omega⟩, fun z => ?_⟩
      have c3 := f3 e3
      unfold fitk at z
      omega
    rw [if_neg e3, if_neg e3]
    by_cases e4 : D 10 n = 4
    · rw [if_pos e4, if_pos e4]
      have c4 := f4 e4
      have q0 := pch hM h0 h1 (k := 0) (by omega) (by omega) (by omega)
      have q1 := pch hM h0 h1 (k := 1) (by omega) (by omega) (by omega)
      have hsz := pat_sz hM h0 h1 e4
      have i0 := ih _ q0.1 q0.2.1
      have i1 := ih _ q1.1 q1.2.1
      refine ⟨⟨by push_cast; omega, by push_cast; omega⟩, fun z => ?_⟩
      have ff := c4.2.2.2.2.2.1 4 z
      have j0 := i0.2 ff.1
      have j1 := i1.2 ff.2
      exact ⟨by push_cast; omega, by omega⟩
    rw [if_neg e4, if_neg e4]
    by_cases e5 : D 10 n = 5
    · rw [if_pos e5, if_pos e5]
      have c5 := f5 e5
      have q0 := pch hM h0 h1 (k := 0) (by omega) (by omega) (by omega)
      have i0 := kG_b hM 40 _ q0.1 q0.2.1
      generalize kG D 40 (prt D n 0) = z at i0
      refine ⟨⟨by push_cast; omega, by omega⟩, fun _ => ⟨by push_cast; omega, rfl⟩⟩
    rw [if_neg e5, if_neg e5]
    by_cases e6 : D 10 n = 6
    · rw [if_pos e6, if_pos e6]
      have c6 := f6 e6
      have hck := c6.2.2.2.2.2.2
      have hnf : ¬ fitk D n 4 := fun z => by unfold fitk at z; omega
      have hcl := chl_mk (D := D) (n := n) c6.1 (by omega) (fun i i0 i1 => ((hck i i0 (by omega)).1 i1).1) (fun i i0 i1 => (hck i (by omega) i1).2 i0)
      have hit : ∀ q ∈ chl D n, fitk D q 4 := fun q hq => by
        rw [hcl] at hq
        unfold ints at hq
        obtain ⟨u, hu, rfl⟩ := List.mem_map.mp hq
        have := List.mem_range.mp hu
        exact ((hck u (by omega) (by omega)).1 (by omega)).2.1
      have sk := sum_le (g := fun q => (kW D f q : Int)) (s := fun q => D 16 q) (a := 2) (b := 0) (chl D n) (fun q hq => by have := ((ih q (hch q hq).1 (hch q hq).2.1).2 (hit q hq)).1; omega)
      rw [← sum_nat] at sk
      have zj : ((chl D n).map (jW D f)).sum = 0 := by
        have : ∀ (L : List Int), (∀ q ∈ L, jW D f q = 0) → (L.map (jW D f)).sum = 0 := fun L => by
          induction L with
          | nil => intro _; rfl
          | cons q L ih2 => intro h; rw [List.map_cons, List.sum_cons, h q List.mem_cons_self, ih2 fun r hr => h r (List.mem_cons_of_mem _ hr)]
        exact this _ fun q hq => ((ih q (hch q hq).1 (hch q hq).2.1).2 (hit q hq)).2
      refine ⟨?_, fun z => absurd z hnf⟩
      rw [zj]
      have hlen : ((chl D n).length : Int) = D 11 n := by rw [hcl, ints_len]; omega
      generalize ((chl D n).map (kW D f)).sum = K at sk
      by_cases h2 : D 12 n = 2
      · rw [if_pos h2, if_pos h2]
        have hr : D 11 n = 0 ∨ D 11 n = 1 ∨ D 11 n = 2 := by omega
        rcases hr with r | r | r
        · rw [r]
          have hnil : chl D n = [] := List.eq_nil_of_length_eq_zero (by omega)
          rw [hnil] at sk hsum
          simp at sk hsum
          exact ⟨by push_cast; omega, by push_cast; omega⟩
        · rw [r]; exact ⟨by push_cast; omega, by push_cast; omega⟩
        · rw [r]; exact ⟨by push_cast; omega, by push_cast; omega⟩
      · rw [if_neg h2, if_neg h2]
        exact ⟨by push_cast; omega, by push_cast; omega⟩
    rw [if_neg e6, if_neg e6]
    exact ⟨⟨by omega, by omega⟩, fun _ => ⟨by omega, rfl⟩⟩
/-- the codes as they are kept -/
def IP (D : ZD) (M : Int → Int) (n p a b fl : Int) : Prop := Imp D M 40 n p a b fl
def AuB (G : ZG) (D : ZD) : Prop := ∃ N m M e, Am G N m M ∧ gN N ∧ 0 ≤ e ∧ e + 5 ≤ N ∧ Prg D (fun M n p a b fl => IP D M n p a b fl) M (csl D) 0 e ∧ M e = 8
def AuI (G : ZG) (D : ZD) : Prop := (∃ N m M, Am G N m M ∧ gN N) ∧ (zsg G 4 2 0 ≠ 0 → AuB G D)
theorem w5_refresh {G : ZG} {D : ZD} {Q : ZG → Prop} (hC : CDx G D) (hM : MI D) (hA : AuI G D) (hQ : ∀ G', Fr [4] G G' → AuI G' D → AuB G' D → Q G') : vX5_refresh 1000 70000 G Q := by
  have hC' := hC
  obtain ⟨hS, hCt, hCv, ⟨td, pa, pf, hL, hP⟩, hCw, hCk, ⟨ka, kb, hLc, hcc⟩⟩ := hC
  unfold vX5_refresh
  rw [zgF_e]
  dsimp only [zjn]
  refine zbr_i (fun hb => hQ G (Fr.refl _ hS) hA (hA.2 hb)) (fun hb => ?_)
  obtain ⟨N, m, M, am, hN⟩ := hA.1
  have key : ∀ f, f = 40 → ∀ c, 0 ≤ c → c < D 23 0 → ∀ i, 0 ≤ i → i < D 21 0 → Wr G (vX5_write 90 (some (.inl (pa (D 24 (3 * c + i)).toNat))) (i + 1)) (kW D f (D 24 (3 * c + i))) (jW D f (D 24 (3 * c + i))) (fun M a b fl => Imp D M f (D 24 (3 * c + i)) (i + 1) a b fl) := by
    intro f hf c c0 c1 i i0 i1
    have how := (hM.2.2.2.2.1.2.2.2.2.2.2 c c0 c1).1 i i0 i1
    have hpw := hM.2.2.1.2.2 _ how.1 how.2.1
    have a15 := hpw.2.2.1
    have a16 := hpw.2.2.2.1
    have m21 : D 21 0 ≤ 3 := hM.2.2.2.2.1.2.1
    have hpl : i + 1 ∈ pl 0 := by
      have : i = 0 ∨ i = 1 ∨ i = 2 := by omega
      rcases this with rfl | rfl | rfl <;> decide
    exact w5_write hM hS hP f (D 24 (3 * c + i)) (i + 1) 0 90 how.1 how.2.1 (by omega) hpl (by omega) (Or.inr (by omega))
  refine w5_build (I := fun M n p a b fl => IP D M n p a b fl) (kw := kW D 40) (jw := jW D 40) hM hS hL hP hCk hLc hcc (fun M n p a b fl h => Imp_le h) (fun n p => Imp_ich) (key 40 rfl) (fun n n0 n1 => ?_) (fun n n0 n1 => ?_) am hN (fun G' M' e f' e0 e1 e2 am' pg h8 => ?_)
  · have := (kW_b hM.2.2.1 40 n n0 n1).1.1
    have a16 := (hM.2.2.1.2.2 n n0 n1).2.2.2.1
    omega
  · have := (kW_b hM.2.2.1 40 n n0 n1).1.2
    have a16 := (hM.2.2.1.2.2 n n0 n1).2.2.2.1
    omega
  · have ab : AuB G' D := ⟨_, _, M', e, am', e2, e0, e1, pg, h8⟩
    exact hQ G' f' ⟨⟨_, _, M', am', e2⟩, fun _ => ab⟩ ab
