/-! COMPONENT: patterns of parts -/
set_option maxRecDepth 100000
def nmo (D : ZD) (a b c : Int) : Nat → Int
  | 0 => 0
  | k + 1 => bOr (nmo D a b c k) (D 17 (pk a b c k))
def dpo (D : ZD) (a b c : Int) : Nat → Int
  | 0 => 0
  | k + 1 => if dpo D a b c k < D 15 (pk a b c k) then D 15 (pk a b c k) else dpo D a b c k
def szo (D : ZD) (a b c : Int) : Nat → Int
  | 0 => 1
  | k + 1 => szo D a b c k + D 16 (pk a b c k)
def hvo (D : ZD) (a b c : Int) : Nat → Int
  | 0 => 0
  | k + 1 => if hvo D a b c k = 1 ∨ D 18 (pk a b c k) = 1 then 1 else 0
theorem hvo_b (D : ZD) (a b c : Int) (n : Nat) : hvo D a b c n = 0 ∨ hvo D a b c n = 1 := by
  cases n with
  | zero => exact Or.inl rfl
  | succ n => simp only [hvo]; split <;> simp
theorem dpo_b {D : ZD} {a b c : Int} {n : Nat} (h : ∀ k : Int, 0 ≤ k → k < n → 1 ≤ D 15 (pk a b c k) ∧ D 15 (pk a b c k) ≤ 4) : 0 ≤ dpo D a b c n ∧ dpo D a b c n ≤ 4 := by
  induction n with
  | zero => simp [dpo]
  | succ n ih =>
    have := ih (fun k k0 k1 => h k k0 (by omega))
    have h2 := h n (by omega) (by omega)
    simp only [dpo]; split <;> omega
theorem szo_b {D : ZD} {a b c : Int} {n : Nat} (h : ∀ k : Int, 0 ≤ k → k < n → 1 ≤ D 16 (pk a b c k) ∧ D 16 (pk a b c k) ≤ 40) : 1 ≤ szo D a b c n ∧ szo D a b c n ≤ 1 + 40 * n := by
  induction n with
  | zero => simp [szo]
  | succ n ih =>
    have := ih (fun k k0 k1 => h k k0 (by omega))
    have h2 := h n (by omega) (by omega)
    simp only [szo]; omega
theorem pcell_cls (D : ZD) (pa pf : Nat → Nat) (n : Nat) : ∃ c fs, pcell D pa pf n = .inr (.inr (c, fs)) ∧ (c = 8 ∨ (10 ≤ c ∧ c ≤ 15)) := by
  unfold pcell
  split
  · exact ⟨_, _, rfl, by omega⟩
  · split
    · exact ⟨_, _, rfl, by omega⟩
    · split
      · exact ⟨_, _, rfl, by omega⟩
      · split
        · exact ⟨_, _, rfl, by omega⟩
        · split
          · exact ⟨_, _, rfl, by omega⟩
          · split
            · exact ⟨_, _, rfl, by omega⟩
            · exact ⟨_, _, rfl, by omega⟩
/-- the array of the parts while it is filled -/
def parr (pa : Nat → Nat) (a b c : Int) (m k : Nat) : List ZR := (List.range k).map (fun (j : Nat) => (some (.inl (pa (pk a b c j).toNat)) : ZR)) ++ List.replicate (m - k) none
theorem parr_set {pa : Nat → Nat} {a b c : Int} {m k : Nat} (h : k < m) : (parr pa a b c m k).set k (some (.inl (pa (pk a b c k).toNat))) = parr pa a b c m (k + 1) := by
  unfold parr
  rw [List.set_append_right _ _ (by simp), List.range_succ, List.map_append, List.append_assoc]
  congr 1
  rw [show m - k = (m - (k + 1)) + 1 by omega, List.replicate_succ]
  simp
theorem parr_len (pa : Nat → Nat) (a b c : Int) (m k : Nat) (h : k ≤ m) : (parr pa a b c m k).length = m := by unfold parr; simp; omega
/-- the parts fit, and none binds a name twice -/
def pfit (D : ZD) (kf : Int → Int) (m a b c : Int) : Prop := ∀ k, 0 ≤ k → k < m → fitk D (pk a b c k) (kf k) ∧ bAnd (D 17 (pk a b c k)) (nmo D a b c k.toNat) = 0
theorem sX1_partsOf {G : ZG} {D : ZD} {td pa pf : Nat → Nat} {m nf a b c : Int} {kf : Int → Int} {px pq : Nat} {X : Nat → ZG → Prop} {Q : ZR → ZG → Prop} (hS : Sep G) (hM : MI D) (hL : Lst G 9 (refs (D 9 0) td)) (hP : CPo G D td pa pf)
    (h0 : 0 ≤ m) (h3 : m ≤ 3) (hmf : m ≤ nf) (hx : HI G px (.inl (0, ints m (pk a b c)))) (hq : HI G pq (.inl (0, ints nf kf))) (hI : rpI m (D 9 0) a b c)
    (hX : ¬ pfit D kf m a b c → ∀ K, Fr [] G K → X 1 K)
    (hQ : pfit D kf m a b c → ∀ K y, Fr [] G K → zsj G y = none → HI K y (.inr (.inl (4, parr pa a b c m.toNat m.toNat))) → Q (some (.inl y)) K) :
    vX1_partsOf (some (.inl px)) (some (.inl pq)) 6 130 G X Q := by
  unfold vX1_partsOf
  refine zeN_i hx.1 ?_
  rw [ints_len, show ((m.toNat : Nat) : Int) = m by omega]
  refine ⟨by omega, h0, by omega, fun y hy => ?_⟩
  have hfr : ∀ l, Fr [] G (zsc G y (.inr (.inl (4, l)))) := fun l => (Fr.refl [] hS).new hS hy
  refine zl5_of (fun nm k K kc ks => 0 ≤ k ∧ k ≤ m ∧ K = zsc G y (.inr (.inl (4, parr pa a b c m.toNat k.toNat))) ∧ nm = nmo D a b c k.toNat ∧ kc = 1 + k.toNat ∧ ks = 100 + 6 * k.toNat ∧ ∀ j, 0 ≤ j → j < k → fitk D (pk a b c j) (kf j) ∧ bAnd (D 17 (pk a b c j)) (nmo D a b c j.toNat) = 0) (fun _ k _ _ _ => (m - k).toNat) (fun P nm k K kc ks hJ hP2 => ?_) ⟨by omega, h0, by simp [parr], by simp [nmo], by simp, by simp, fun j _ _ => by omega⟩
  obtain ⟨k0, k1, rfl, rfl, ekc, eks, hJ⟩ := hJ
  have f := hfr (parr pa a b c m.toNat k.toNat)
  refine zeN_i (f.hk hx).1 ?_
  rw [ints_len, show ((m.toNat : Nat) : Int) = m by omega]
  by_cases hk : m ≤ k
  · rw [zbr_pos hk]
    have e : k = m := by omega
    subst e
    exact hQ (fun j j0 j1 => hJ j j0 j1) _ y f hy (f.hi (by simp) hS hy (zsj_eq _ _ _) imm_ref)
  · rw [zbr_neg hk]
    have hIk := hI k k0 (by omega)
    refine zeI_i (f.hk hx).1 k0 (ints_get k0 (by omega)) ?_
    refine sX1_told (f.lst ⟨by omega, by omega⟩ (by simp) hL) (hP.fr f (fun _ _ => rfl)) hIk.1 hIk.2 (fun ht => ?_)
    refine zeI_i (f.hk hq).1 k0 (ints_get k0 (by omega)) ⟨zisO_i ht.1, ?_⟩
    rw [Tl.fits ht]
    dsimp only [zjn]
    by_cases hf : fitk D (pk a b c k) (kf k)
    · rw [fkb_iff.mpr hf, zbr_neg (by simp [bb])]
      refine ⟨zisO_i ht.1, ?_⟩
      rw [Tl.names ht]
      by_cases hb : bAnd (D 17 (pk a b c k)) (nmo D a b c k.toNat) = 0
      · rw [zbr_neg (fun q => q hb), reqA1]
        refine ⟨by omega, zisO_i ht.1, ?_⟩
        rw [Tl.names ht, zlt1_e]
        refine ⟨zisO_i ht.1, ?_⟩
        rw [Tl.pat ht]
        obtain ⟨cc, fs, hc1, hc2⟩ := pcell_cls D pa pf (pk a b c k).toNat
        have hpc := f.hk (hP.2 (pk a b c k).toNat (by omega)).2.1
        rw [hc1] at hpc
        refine ⟨y, 4, _, rfl, zsj_eq _ _ _, k0, by rw [parr_len _ _ _ _ _ _ (by omega)]; omega, Or.inr (Or.inl ⟨_, cc, fs, rfl, hpc.1, Or.inr ⟨rfl, hc2⟩⟩), ?_⟩
        rw [zsc_zsc]
        dsimp only
        rw [zlt1_e, w32_eq (by omega) (by omega)]
        have ek : (k + 1).toNat = k.toNat + 1 := by omega
        have ek2 : ((k.toNat : Nat) : Int) = k := by omega
        refine hP2 _ _ _ _ _ ⟨by omega, by omega, ?_, ?_, by omega, by omega, fun j j0 j1 => ?_⟩ (by omega)
        · have := parr_set (pa := pa) (a := a) (b := b) (c := c) (m := m.toNat) (k := k.toNat) (by omega)
          rw [ek2] at this
          rw [this, ek]
        · rw [ek]; simp only [nmo]; rw [ek2]
        · by_cases hjk : j = k
          · rw [hjk]; exact ⟨hf, hb⟩
          · exact hJ j j0 (by omega)
      · rw [zbr_pos hb, reqA0]
        exact ⟨by omega, hX (fun z => hb (z k k0 (by omega)).2) _ f⟩
    · have hf2 : fkb D (pk a b c k) (kf k) = false := by
        cases h : fkb D (pk a b c k) (kf k) with
        | false => rfl
        | true => exact absurd (fkb_iff.mp h) hf
      rw [hf2, zbr_pos (show bb false = 0 from rfl), reqA0]
      exact ⟨by omega, hX (fun z => hf (z k k0 (by omega)).1) _ f⟩
theorem sX1_addMade {G K : ZG} {D : ZD} {td pa pf : Nat → Nat} {m a b c form head rest kind : Int} {x y px : Nat} {X : Nat → ZG → Prop} {Q : Int → ZG → Prop} (hC : CD G D) (hM : MI D) (hF : Fr [] G K) (hL : Lst K 9 (refs (D 9 0) td)) (hP : CPo K D td pa pf)
    (h0 : 0 ≤ m) (h3 : m ≤ 3) (hpx : HI K px (.inl (0, ints m (pk a b c)))) (hI : rpI m (D 9 0) a b c)
    (hx : HI K x (pcell (addP D (pv form head rest kind (dpo D a b c m.toNat + 1) (szo D a b c m.toNat) (nmo D a b c m.toNat) (hvo D a b c m.toNat) 0) a b c) (snoc (D 9 0) pa x) (snoc (D 9 0) pf y) (D 9 0).toNat)) (hnew : ∀ i : Nat, (i : Int) < D 9 0 → pa i ≠ x)
    (hy : HI K y (.inr (.inl (4, (chl (addP D (pv form head rest kind (dpo D a b c m.toNat + 1) (szo D a b c m.toNat) (nmo D a b c m.toNat) (hvo D a b c m.toNat) 0) a b c) (D 9 0)).map fun n => some (.inl (snoc (D 9 0) pa x n.toNat))))))
    (hX1 : ¬ (szo D a b c m.toNat ≤ 40 ∧ dpo D a b c m.toNat + 1 ≤ 4) → X 1 K) (hX2 : szo D a b c m.toNat ≤ 40 ∧ dpo D a b c m.toNat + 1 ≤ 4 → D 9 0 = 60 → X 2 K)
    (hQ : szo D a b c m.toNat ≤ 40 ∧ dpo D a b c m.toNat + 1 ≤ 4 → D 9 0 < 60 → ∀ G', Fr [9] G G' → CD G' (addP D (pv form head rest kind (dpo D a b c m.toNat + 1) (szo D a b c m.toNat) (nmo D a b c m.toNat) (hvo D a b c m.toNat) 0) a b c) → Q (D 9 0) G') :
    vX1_addMade (some (.inl x)) kind (some (.inl px)) K X Q := by
  unfold vX1_addMade
  refine zeN_i hpx.1 ?_
  rw [ints_len, show ((m.toNat : Nat) : Int) = m by omega]
  have pw : ∀ k : Int, 0 ≤ k → k < m → PW D (pk a b c k) := fun k k0 k1 => hM.2.2.1.2.2 _ (hI k k0 k1).1 (hI k k0 k1).2
  have d15 : ∀ n : Nat, (n : Int) ≤ m → 0 ≤ dpo D a b c n ∧ dpo D a b c n ≤ 4 := fun n hn => dpo_b (fun k k0 k1 => (pw k k0 (by omega)).2.2.1)
  have d16 : ∀ n : Nat, (n : Int) ≤ m → 1 ≤ szo D a b c n ∧ szo D a b c n ≤ 1 + 40 * n := fun n hn => szo_b (fun k k0 k1 => (pw k k0 (by omega)).2.2.2.1)
  refine zl5_of (fun nm dp sz pu k => 0 ≤ k ∧ k ≤ m ∧ nm = nmo D a b c k.toNat ∧ dp = dpo D a b c k.toNat ∧ sz = szo D a b c k.toNat ∧ pu = 1 - hvo D a b c k.toNat) (fun _ _ _ _ k => (m - k).toNat) (fun P nm dp sz pu k hJ hP2 => ?_) ⟨by omega, h0, rfl, rfl, rfl, rfl⟩
  obtain ⟨k0, k1, rfl, rfl, rfl, rfl⟩ := hJ
  by_cases hk : m ≤ k
  · rw [zbr_pos hk]
    have e : k = m := by omega
    subst e
    have := d15 k.toNat (by omega)
    rw [w32_eq (by omega) (by omega)]
    exact pAdd (v := pv form head rest kind (dpo D a b c k.toNat + 1) (szo D a b c k.toNat) (nmo D a b c k.toNat) (hvo D a b c k.toNat) 0) hC hM hF hL hP hx hnew (fun _ => hy) hX1 hX2 hQ
  · rw [zbr_neg hk]
    have hIk := hI k k0 (by omega)
    have pwk := pw k k0 (by omega)
    have ek : (k + 1).toNat = k.toNat + 1 := by omega
    have ek2 : ((k.toNat : Nat) : Int) = k := by omega
    refine zeI_i hpx.1 k0 (ints_get k0 (by omega)) ?_
    refine sX1_told hL hP hIk.1 hIk.2 (fun ht => ⟨zisO_i ht.1, ?_⟩)
    rw [Tl.names ht, zlt1_e]
    refine ⟨zisO_i ht.1, ?_⟩
    rw [Tl.depth ht, eJ4_max]
    refine ⟨zisO_i ht.1, ?_⟩
    have s1 := d16 k.toNat (by omega)
    have s2 := pwk.2.2.2.1
    rw [Tl.size ht, zlt1_e, w32_eq (x := szo D a b c k.toNat + D 16 (pk a b c k)) (by omega) (by omega)]
    dsimp only [zjn]
    have fin : ∀ u : Int, u = 1 - hvo D a b c (k.toNat + 1) → zlt1 (w32 (k + 1)) fun x14 => P (bOr (nmo D a b c k.toNat) (D 17 (pk a b c k))) (if dpo D a b c k.toNat < D 15 (pk a b c k) then D 15 (pk a b c k) else dpo D a b c k.toNat) (szo D a b c k.toNat + D 16 (pk a b c k)) u x14 := by
      rintro u rfl
      rw [zlt1_e, w32_eq (by omega) (by omega)]
      refine hP2 _ _ _ _ _ ⟨by omega, by omega, ?_, ?_, ?_, ?_⟩ (by omega)
      · rw [ek]; simp only [nmo]; rw [ek2]
      · rw [ek]; simp only [dpo]; rw [ek2]
      · rw [ek]; simp only [szo]; rw [ek2]
      · rw [ek]
    have hb := hvo_b D a b c k.toNat
    have hb2 := pwk.2.2.2.2.2.1
    simp only [hvo, ek2] at fin
    refine zbr_i (fun h => fin 0 (by rw [if_pos (by omega)]; rfl)) (fun h => ⟨zisO_i ht.1, ?_⟩)
    rw [Tl.pure ht hb2]
    refine zbr_i (fun h => fin 0 (by rw [if_pos (by omega)]; rfl)) (fun h => fin 1 (by rw [if_neg (by omega)]; rfl))
theorem chl_n {D : ZD} {v : Nat → Int} {m a b c s : Int} (h0 : 0 ≤ m) (h3 : m ≤ 3) (hI : rpI m s a b c) (hN : rpN m a b c) : chl (addP D v a b c) (D 9 0) = (List.range m.toNat).map fun (j : Nat) => pk a b c j := by
  rw [chl_e, addP_13n (by omega) (by omega), addP_13n (by omega) (by omega), addP_13n (by omega) (by omega)]
  have h : m = 0 ∨ m = 1 ∨ m = 2 ∨ m = 3 := by omega
  rcases h with rfl | rfl | rfl | rfl
  · rw [if_pos (hN 0 (by omega) (by omega)), if_pos (hN 1 (by omega) (by omega)), if_pos (hN 2 (by omega) (by omega))]; rfl
  · have i0 := hI 0 (by omega) (by omega)
    rw [if_neg (by omega), if_pos (hN 1 (by omega) (by omega)), if_pos (hN 2 (by omega) (by omega))]; rfl
  · have i0 := hI 0 (by omega) (by omega)
    have i1 := hI 1 (by omega) (by omega)
    rw [if_neg (by omega), if_neg (by omega), if_pos (hN 2 (by omega) (by omega))]; rfl
  · have i0 := hI 0 (by omega) (by omega)
    have i1 := hI 1 (by omega) (by omega)
    have i2 := hI 2 (by omega) (by omega)
    rw [if_neg (by omega), if_neg (by omega), if_neg (by omega)]; rfl
theorem parr_chl {D : ZD} {v : Nat → Int} {pa : Nat → Nat} {x : Nat} {m a b c : Int} (h0 : 0 ≤ m) (h3 : m ≤ 3) (hI : rpI m (D 9 0) a b c) (hN : rpN m a b c) :
    ((chl (addP D v a b c) (D 9 0)).map fun n => (some (.inl (snoc (D 9 0) pa x n.toNat)) : ZR)) = parr pa a b c m.toNat m.toNat := by
  rw [chl_n h0 h3 hI hN, List.map_map]
  unfold parr
  rw [Nat.sub_self, List.replicate_zero, List.append_nil]
  refine List.map_congr_left (fun j hj => ?_)
  have := hI j (by omega) (by have := List.mem_range.mp hj; omega)
  show (some (.inl (snoc (D 9 0) pa x (pk a b c j).toNat)) : ZR) = _
  rw [snoc_lt (by omega)]
def mOk1 (D : ZD) (t c a b d : Int) : Prop := (0 ≤ t ∧ t ≤ 3 ∧ 0 ≤ c ∧ c < D 1 t) ∧ rpI (D 2 (4 * t + c)) (D 9 0) a b d
def mOk2 (D : ZD) (nf : Int) (kf : Int → Int) (a b d : Int) : Prop := rpN nf a b d ∧ pfit D kf nf a b d ∧ szo D a b d nf.toNat ≤ 40 ∧ dpo D a b d nf.toNat + 1 ≤ 4
def mdv (D : ZD) (form head rest kind a b d : Int) (n : Nat) : Nat → Int := pv form head rest kind (dpo D a b d n + 1) (szo D a b d n) (nmo D a b d n) (hvo D a b d n) 0
theorem k1_make {G : ZG} {D : ZD} {t c a b d : Int} {X : Nat → ZG → Prop} {Q : Int → ZG → Prop} (hC : CD G D) (hM : MI D)
    (hX0 : ¬ mOk1 D t c a b d → ∀ G', Fr [] G G' → X 0 G')
    (hX1 : mOk1 D t c a b d → ¬ mOk2 D (D 2 (4 * t + c)) (fun k => D 3 (3 * (4 * t + c) + k)) a b d → ∀ G', Fr [] G G' → X 1 G')
    (hX2 : mOk1 D t c a b d → mOk2 D (D 2 (4 * t + c)) (fun k => D 3 (3 * (4 * t + c) + k)) a b d → D 9 0 = 60 → ∀ G', Fr [] G G' → X 2 G')
    (hQ : mOk1 D t c a b d → mOk2 D (D 2 (4 * t + c)) (fun k => D 3 (3 * (4 * t + c) + k)) a b d → D 9 0 < 60 → ∀ G', Fr [9] G G' → CD G' (addP D (mdv D 3 (4 * t + c) 0 t a b d (D 2 (4 * t + c)).toNat) a b d) → Q (D 9 0) G') :
    vX1_make t c a b d G X Q := by
  have hS := hC.1
  have m9 : 0 ≤ D 9 0 ∧ D 9 0 ≤ 60 := ⟨hM.2.2.1.1, hM.2.2.1.2.1⟩
  have e9n : (((D 9 0).toNat : Nat) : Int) = D 9 0 := by omega
  obtain ⟨td, pa, pf, hL, hP⟩ := hC.2.2.2.1
  unfold vX1_make
  refine sX1_fieldsOf hC.2.1 hM (fun q => hX0 (fun z => q z.1) G (Fr.refl _ hS)) (fun hok fa hfa => ?_)
  have m1 := hM.1 t hok.1 (by omega)
  have m2 := m1.2.2 c hok.2.2.1 hok.2.2.2
  generalize hnf : D 2 (4 * t + c) = nf at *
  refine zeN_i hfa.1 ?_
  rw [ints_len, eJ2_size, e9sz hM hL, show ((nf.toNat : Nat) : Int) = nf by omega]
  refine sX1_requireParts m2.1 m2.2.1 m9.1 (by omega) hS (fun q K f => hX0 (fun z => q (hnf ▸ z.2)) K f) (fun q1 q2 K f => hX1 ⟨hok, by rw [hnf]; exact q1⟩ (fun z => q2 z.1) K f) (fun hI hN K1 f1 => ?_)
  have hok1 : mOk1 D t c a b d := ⟨hok, by rw [hnf]; exact hI⟩
  refine zeN_i (f1.hk hfa).1 ?_
  rw [ints_len, show ((nf.toNat : Nat) : Int) = nf by omega]
  refine sX1_firstOf m2.1 m2.2.1 (fun y hy x hx => ?_)
  have f2 := f1.new hS (c := .inl (0, ints nf (pk a b d))) hy
  have hy2 := f2.hi (by simp) hS (f1.1.old hy) (zsj_eq _ _ _) (imm_int (t := 0) (l := ints nf (pk a b d)))
  generalize zsc K1 y (.inl (0, ints nf (pk a b d))) = K2 at f2 hy2 hx
  have f3 := f2.new hS (c := .inr (.inr (12, zdf 12))) hx
  have g3 := (Fr.refl [] f2.2.1).new f2.2.1 (c := .inr (.inr (12, zdf 12))) hx
  refine sX1_partsOf f3.2.1 hM (f3.lst ⟨by omega, by omega⟩ (by simp) hL) (hP.fr f3 (fun _ _ => rfl)) m2.1 m2.2.1 (Int.le_refl nf) (g3.hk hy2) (f3.hk hfa) hI
    (fun q K f => hX1 hok1 (fun z => q z.2.1) K (f3.trans f)) (fun hpf K z f hz hzk => ⟨⟨x, rfl⟩, ?_⟩)
  have hxK : ∃ fs, zsj K x = some (.inr (.inr (12, fs))) ∧ fs = zdf 12 := ⟨_, (f.hk (f3.hi (by simp) hS (f2.1.old hx) (zsj_eq _ _ _) (imm_obj (c := 12) (by omega)))).1, rfl⟩
  obtain ⟨_, hxK, rfl⟩ := hxK
  refine sX12_init hxK ?_
  have f4 := (f3.trans f).fresh hS (c := .inr (.inr (12, [.inl t, .inl c, .inr (some (.inl z))]))) (f2.1.old hx) (fun c' e => by rw [hxK] at e; cases e; rfl)
  have g4 := (g3.trans f).fresh f2.2.1 (c := .inr (.inr (12, [.inl t, .inl c, .inr (some (.inl z))]))) hx (fun c' e => by rw [hxK] at e; cases e; rfl)
  have hx4 := f4.hi (by simp) hS (f2.1.old hx) (zsj_eq _ _ _) (imm_obj (c := 12) (by omega))
  have hzx : z ≠ x := fun q => by subst q; rw [zsj_eq] at hz; cases hz
  have hz4 : HI (zsc K x (.inr (.inr (12, [.inl t, .inl c, .inr (some (.inl z))])))) z (.inr (.inl (4, parr pa a b d nf.toNat nf.toNat))) := by
    refine ⟨by rw [zsj_ne hzx]; exact hzk.1, hzk.2.1, fun q => ?_⟩
    exact hzk.2.2 q
  refine sX1_addMade (form := 3) (head := 4 * t + c) (rest := 0) (y := z) hC hM f4 (f4.lst ⟨by omega, by omega⟩ (by simp) hL) (hP.fr f4 (fun _ _ => rfl)) m2.1 m2.2.1 (g4.hk hy2) hI ?_ (pa_new (K := G) hP (f2.1.old hx)) ?_
    (fun q => hX1 hok1 (fun w => q w.2.2) _ f4) (fun q w => hX2 hok1 ⟨hN, hpf, q⟩ w _ f4) (fun q w G' f c => hQ hok1 ⟨hN, hpf, q⟩ w G' f c)
  · unfold pcell
    rw [e9n, addP_n (j := 10) (by omega), addP_n (j := 11) (by omega), snoc_at]
    have e1 : (4 * t + c) / 4 = t := by omega
    have e2 : (4 * t + c) % 4 = c := by omega
    show HI _ x (.inr (.inr (12, [.inl ((4 * t + c) / 4), .inl ((4 * t + c) % 4), .inr (some (.inl z))])))
    rw [e1, e2]
    exact hx4
  · rw [parr_chl m2.1 m2.2.1 hI hN]
    exact hz4
theorem k1_list {G : ZG} {D : ZD} {n a b r : Int} {X : Nat → ZG → Prop} {Q : Int → ZG → Prop} (hC : CD G D) (hM : MI D)
    (hX0 : ¬ ((0 ≤ r ∧ r ≤ 2) ∧ (0 ≤ n ∧ n ≤ 2 → rpI n (D 9 0) a b (-1))) → ∀ G', Fr [] G G' → X 0 G')
    (hX1 : ((0 ≤ r ∧ r ≤ 2) ∧ (0 ≤ n ∧ n ≤ 2 → rpI n (D 9 0) a b (-1))) → ¬ ((0 ≤ n ∧ n ≤ 2) ∧ mOk2 D n (fun _ => 4) a b (-1)) → ∀ G', Fr [] G G' → X 1 G')
    (hX2 : ((0 ≤ r ∧ r ≤ 2) ∧ (0 ≤ n ∧ n ≤ 2 → rpI n (D 9 0) a b (-1))) → ((0 ≤ n ∧ n ≤ 2) ∧ mOk2 D n (fun _ => 4) a b (-1)) → D 9 0 = 60 → ∀ G', Fr [] G G' → X 2 G')
    (hQ : ((0 ≤ r ∧ r ≤ 2) ∧ (0 ≤ n ∧ n ≤ 2 → rpI n (D 9 0) a b (-1))) → ((0 ≤ n ∧ n ≤ 2) ∧ mOk2 D n (fun _ => 4) a b (-1)) → D 9 0 < 60 → ∀ G', Fr [9] G G' → CD G' (addP D (mdv D 6 n r 5 a b (-1) n.toNat) a b (-1)) → Q (D 9 0) G') :
    vX1_list n a b r G X Q := by
  have hS := hC.1
  have m9 : 0 ≤ D 9 0 ∧ D 9 0 ≤ 60 := ⟨hM.2.2.1.1, hM.2.2.1.2.1⟩
  have e9n : (((D 9 0).toNat : Nat) : Int) = D 9 0 := by omega
  obtain ⟨td, pa, pf, hL, hP⟩ := hC.2.2.2.1
  simp only [vX1_list, eX1_inRange, eX1_reqI, eX1_reqA]
  by_cases hr : 0 ≤ r ∧ r ≤ 2
  · rw [if_pos (by simp; omega)]
    by_cases hn : 0 ≤ n ∧ n ≤ 2
    · rw [if_pos (by simp; omega), eJ2_size, e9sz hM hL]
      refine sX1_requireParts hn.1 (by omega) m9.1 (by omega) hS (fun q K f => hX0 (fun z => q (z.2 hn)) K f) (fun q1 q2 K f => hX1 ⟨hr, fun _ => q1⟩ (fun z => q2 z.2.1) K f) (fun hI hN K1 f1 => ?_)
      have hok1 := And.intro hr (fun (_ : 0 ≤ n ∧ n ≤ 2) => hI)
      refine sX1_firstOf hn.1 (by omega) (fun y hy x hx => ⟨by omega, by omega, fun w hw => ?_⟩)
      have f2 := f1.new hS (c := .inl (0, ints n (pk a b (-1)))) hy
      have hy2 := f2.hi (by simp) hS (f1.1.old hy) (zsj_eq _ _ _) (imm_int (t := 0) (l := ints n (pk a b (-1))))
      generalize zsc K1 y (.inl (0, ints n (pk a b (-1)))) = K2 at f2 hy2 hx hw
      have f3 := f2.new hS (c := .inr (.inr (15, zdf 15))) hx
      have g3 := (Fr.refl [] f2.2.1).new f2.2.1 (c := .inr (.inr (15, zdf 15))) hx
      have hx3 := f3.hi (by simp) hS (f2.1.old hx) (zsj_eq _ _ _) (imm_obj (c := 15) (fs := zdf 15) (by omega))
      generalize zsc K2 x (.inr (.inr (15, zdf 15))) = K3 at f3 g3 hw hx3
      refine zeS_i (zsj_eq _ _ _) (by omega) (by simp) ?_
      refine zeS_i (zsj_eq _ _ _) (by omega) (by simp) ?_
      rw [zsc_zsc, zsc_zsc, eX1_row]
      have f4 := f3.new hS (c := .inl (0, ints 2 fun _ => 4)) hw
      have g4 := (Fr.refl [] f3.2.1).new f3.2.1 (c := .inl (0, ints 2 fun _ => 4)) hw
      have hw4 := f4.hi (by simp) hS (f3.1.old hw) (zsj_eq _ _ _) (imm_int (t := 0) (l := ints 2 fun _ => 4))
      show vX1_partsOf _ _ 6 130 (zsc K3 w (.inl (0, ints 2 fun _ => 4))) X _
      generalize zsc K3 w (.inl (0, ints 2 fun _ => 4)) = K4 at f4 g4 hw4
      refine sX1_partsOf f4.2.1 hM (f4.lst ⟨by omega, by omega⟩ (by simp) hL) (hP.fr f4 (fun _ _ => rfl)) hn.1 (by omega) hn.2 (g4.hk (g3.hk hy2)) hw4 hI
        (fun q K f => hX1 hok1 (fun z => q z.2.2.1) K (f4.trans f)) (fun hpf K z f hz hzk => ⟨⟨x, rfl⟩, ?_⟩)
      have hxK := (f.hk (g4.hk hx3)).1
      refine sX15_init hxK ?_
      have f5 := (f4.trans f).fresh hS (c := .inr (.inr (15, [.inr (some (.inl z)), .inl r]))) (f2.1.old hx) (fun c' e => by rw [hxK] at e; cases e; rfl)
      have g5 := ((g3.trans g4).trans f).fresh f2.2.1 (c := .inr (.inr (15, [.inr (some (.inl z)), .inl r]))) hx (fun c' e => by rw [hxK] at e; cases e; rfl)
      have hx5 := f5.hi (by simp) hS (f2.1.old hx) (zsj_eq _ _ _) (imm_obj (c := 15) (by omega))
      have hzx : z ≠ x := fun q => by subst q; rw [(g4.hk hx3).1] at hz; cases hz
      have hz5 : HI (zsc K x (.inr (.inr (15, [.inr (some (.inl z)), .inl r])))) z (.inr (.inl (4, parr pa a b (-1) n.toNat n.toNat))) := by
        refine ⟨by rw [zsj_ne hzx]; exact hzk.1, hzk.2.1, fun q => ?_⟩
        exact hzk.2.2 q
      refine sX1_addMade (form := 6) (head := n) (rest := r) (y := z) hC hM f5 (f5.lst ⟨by omega, by omega⟩ (by simp) hL) (hP.fr f5 (fun _ _ => rfl)) hn.1 (by omega) (g5.hk hy2) hI ?_ (pa_new (K := G) hP (f2.1.old hx)) ?_
        (fun q => hX1 hok1 (fun w => q w.2.2.2) _ f5) (fun q w => hX2 hok1 ⟨hn, hN, hpf, q⟩ w _ f5) (fun q w G' f c => hQ hok1 ⟨hn, hN, hpf, q⟩ w G' f c)
      · unfold pcell
        rw [e9n, addP_n (j := 10) (by omega), addP_n (j := 12) (by omega), snoc_at]
        exact hx5
      · rw [parr_chl hn.1 (by omega) hI hN]
        exact hz5
    · rw [if_neg (by simp; omega)]
      exact hX1 ⟨hr, fun q => absurd q hn⟩ (fun q => hn q.1) G (Fr.refl _ hS)
  · rw [if_neg (by simp; omega)]
    exact hX0 (fun q => hr q.1) G (Fr.refl _ hS)
