/-! REFERENCE: nodes are laid -/
set_option maxRecDepth 100000
theorem w6_node {K : ZG} {n a b c d : Int} {Q : Int → ZG → Prop} (hn : zsg K 5 56 0 = n) (n0 : 0 ≤ n) (n1 : n < 512)
    (hQ : ∀ K', Mo K K' → (∀ j, ¬ (56 ≤ j ∧ j ≤ 62) → zsg K' 5 j = zsg K 5 j) → zsg K' 5 56 0 = n + 1 → (∀ i, zsg K' 5 57 i = if i = n then a else zsg K 5 57 i) → (∀ i, zsg K' 5 58 i = if i = n then b else zsg K 5 58 i) → (∀ i, zsg K' 5 59 i = if i = n then c else zsg K 5 59 i) → (∀ i, zsg K' 5 60 i = if i = n then d else zsg K 5 60 i) → (∀ i, zsg K' 5 61 i = if i = n then n else zsg K 5 61 i) → (∀ i, zsg K' 5 62 i = if i = n then 0 else zsg K 5 62 i) → Q n K') : vX6_node a b c d K Q := by
  have e : ∀ (H : ZG) (j : Nat) (i v : Int), j ≠ 56 → zsg (zss H 5 j i v) 5 56 0 = zsg H 5 56 0 := fun H j i v hj => by rw [z5_ne (by omega)]
  unfold vX6_node
  rw [zgF_e, hn]
  refine zaS_i n0 (by omega) ?_
  rw [zgF_e, e _ _ _ _ (by omega), hn]
  refine zaS_i n0 (by omega) ?_
  rw [zgF_e, e _ _ _ _ (by omega), e _ _ _ _ (by omega), hn]
  refine zaS_i n0 (by omega) ?_
  rw [zgF_e, e _ _ _ _ (by omega), e _ _ _ _ (by omega), e _ _ _ _ (by omega), hn]
  refine zaS_i n0 (by omega) ?_
  rw [zgF_e, zgF_e, e _ _ _ _ (by omega), e _ _ _ _ (by omega), e _ _ _ _ (by omega), e _ _ _ _ (by omega), hn]
  refine zaS_i n0 (by omega) ?_
  rw [zgF_e, e _ _ _ _ (by omega), e _ _ _ _ (by omega), e _ _ _ _ (by omega), e _ _ _ _ (by omega), e _ _ _ _ (by omega), hn]
  refine zaS_i n0 (by omega) ?_
  rw [zgF_e, e _ _ _ _ (by omega), e _ _ _ _ (by omega), e _ _ _ _ (by omega), e _ _ _ _ (by omega), e _ _ _ _ (by omega), e _ _ _ _ (by omega), hn, zpF_e, zgF_e, zsg_ss, if_pos ⟨rfl, rfl, rfl⟩, w32_eq (x := n + 1) (by omega) (by omega), w32_eq (by omega) (by omega), show n + 1 - 1 = n by omega]
  refine hQ _ ((((((((Mo.refl K).ss _ _ _).ss _ _ _).ss _ _ _).ss _ _ _).ss _ _ _).ss _ _ _).ss _ _ _) (fun j hj => ?_) ?_ (fun i => ?_) (fun i => ?_) (fun i => ?_) (fun i => ?_) (fun i => ?_) (fun i => ?_)
  · rw [z5_ne (by omega), z5_ne (by omega), z5_ne (by omega), z5_ne (by omega), z5_ne (by omega), z5_ne (by omega), z5_ne (by omega)]
  · rw [zsg_ss, if_pos ⟨rfl, rfl, rfl⟩]
  · rw [z5_ne (by omega), z5_ne (by omega), z5_ne (by omega), z5_ne (by omega), z5_ne (by omega), z5_ne (by omega), z5_eq]
  · rw [z5_ne (by omega), z5_ne (by omega), z5_ne (by omega), z5_ne (by omega), z5_ne (by omega), z5_eq]; dsimp only; rw [z5_ne (by omega)]
  · rw [z5_ne (by omega), z5_ne (by omega), z5_ne (by omega), z5_ne (by omega), z5_eq]; dsimp only; rw [z5_ne (by omega), z5_ne (by omega)]
  · rw [z5_ne (by omega), z5_ne (by omega), z5_ne (by omega), z5_eq]; dsimp only; rw [z5_ne (by omega), z5_ne (by omega), z5_ne (by omega)]
  · rw [z5_ne (by omega), z5_ne (by omega), z5_eq]; dsimp only; rw [z5_ne (by omega), z5_ne (by omega), z5_ne (by omega), z5_ne (by omega)]
  · rw [z5_ne (by omega), z5_eq]; dsimp only; rw [z5_ne (by omega), z5_ne (by omega), z5_ne (by omega), z5_ne (by omega), z5_ne (by omega)]
/-- what a laid node tells, with what is behind it -/
def Dn (K : ZG) (L : List PT) (i : Int) (e : PT) (l : Int × Int × Int × Int) : Prop :=
  zsg K 5 58 i = l.1 ∧ (l.1 ≠ 2 → zsg K 5 59 i = l.2.1) ∧ (3 ≤ l.1 → zsg K 5 60 i = l.2.2.1) ∧ zsg K 5 62 i = l.2.2.2 ∧ 0 ≤ zsg K 5 61 i ∧ ∀ v : Nat, (v : Int) < l.2.2.2 → L[(zsg K 5 61 i).toNat + v]? = some ((l.1, l.2.1, l.2.2.1, (v : Int)) :: e)
/-- the nodes that there are, of which k are laid -/
def TT (D : ZD) (eng : Int) (K : ZG) (L : List PT) (k : Int) : Prop :=
  zsg K 5 56 0 = (L.length : Int) ∧ L.length ≤ 500 ∧ L.Nodup ∧ L[0]? = some [] ∧
  (∀ (i : Nat) e, L[i]? = some e → isN D eng e ∧ Nd K e i) ∧
  (∀ (i : Nat) e, L[i]? = some e → (Dn K L i e (nl D eng e)) ∨ (k ≤ (i : Int) ∧ zsg K 5 58 i = -9 ∧ nl D eng e = lab D eng e ∧ zsg K 5 60 i = 0 ∧ 0 ≤ zsg K 5 61 i ∧ zsg K 5 62 i = 0)) ∧
  (∀ (j : Nat) st e, L[j]? = some (st :: e) → 0 ≤ zsg K 5 57 j ∧ zsg K 5 57 j < k ∧ L[(zsg K 5 57 j).toNat]? = some e)
/-- the tree is too large -/
def Big (D : ZD) (eng : Int) : Prop := ∃ L : List PT, L.Nodup ∧ (∀ e ∈ L, isN D eng e) ∧ 500 < L.length
/-- what building changes -/
def FT (K K' : ZG) : Prop := Mo K K' ∧ ∀ j, j ≠ 30 → ¬ (32 ≤ j ∧ j ≤ 45) → ¬ (56 ≤ j ∧ j ≤ 68) → zsg K' 5 j = zsg K 5 j
theorem FT.refl (K : ZG) : FT K K := ⟨Mo.refl K, fun _ _ _ _ => rfl⟩
theorem FT.trans {K H J : ZG} (h : FT K H) (g : FT H J) : FT K J := ⟨h.1.trans g.1, fun j j1 j2 j3 => by rw [g.2 j j1 j2 j3, h.2 j j1 j2 j3]⟩
/-- the nodes behind one -/
def kids (l : Int × Int × Int × Int) (e : PT) : List PT := (List.range l.2.2.2.toNat).map fun (v : Nat) => (l.1, l.2.1, l.2.2.1, (v : Int)) :: e
theorem kids_at {l : Int × Int × Int × Int} {e : PT} {v : Nat} (h : (v : Int) < l.2.2.2) : (kids l e)[v]? = some ((l.1, l.2.1, l.2.2.1, (v : Int)) :: e) := by
  unfold kids
  rw [List.getElem?_map, List.getElem?_range (by omega)]; rfl
theorem kids_len {l : Int × Int × Int × Int} {e : PT} : (kids l e).length = l.2.2.2.toNat := by unfold kids; rw [List.length_map, List.length_range]
theorem kids_mem {l : Int × Int × Int × Int} {e q : PT} (h : q ∈ kids l e) : ∃ v : Nat, (v : Int) < l.2.2.2 ∧ q = (l.1, l.2.1, l.2.2.1, (v : Int)) :: e := by
  unfold kids at h
  obtain ⟨v, hv, rfl⟩ := List.mem_map.mp h
  have := List.mem_range.mp hv
  exact ⟨v, by omega, rfl⟩
theorem kids_nd {l : Int × Int × Int × Int} {e : PT} : (kids l e).Nodup := by
  have : ∀ n : Nat, ((List.range n).map fun (v : Nat) => ((l.1, l.2.1, l.2.2.1, (v : Int)) :: e : PT)).Nodup := fun n => by
    induction n with
    | zero => exact List.nodup_nil
    | succ n ih =>
      rw [List.range_succ, List.map_append, List.nodup_append]
      refine ⟨ih, by simp, fun a ha b hb hab => ?_⟩
      obtain ⟨v, hv, rfl⟩ := List.mem_map.mp ha
      have hv := List.mem_range.mp hv
      simp only [List.map_cons, List.map_nil, List.mem_singleton] at hb
      subst hb
      injection hab with h1 h2
      injection h1 with _ h3
      injection h3 with _ h4
      injection h4 with _ h5
      omega
  exact this _
theorem kids_isN {D : ZD} {eng : Int} {e q : PT} (he : isN D eng e) (h : q ∈ kids (nl D eng e) e) : isN D eng q := by
  obtain ⟨v, hv, rfl⟩ := kids_mem h
  exact ⟨he, rfl, rfl, rfl, by show (0 : Int) ≤ (v : Int); omega, hv⟩
theorem kids_new {D : ZD} {eng : Int} {L : List PT} {k : Nat} {e : PT} (hnd : L.Nodup) (hk : L[k]? = some e) (h7 : ∀ (j : Nat) st e, L[j]? = some (st :: e) → ∃ i : Nat, (i : Int) < (k : Int) ∧ L[i]? = some e) : ∀ q ∈ kids (nl D eng e) e, q ∉ L := by
  intro q hq hL
  obtain ⟨v, hv, rfl⟩ := kids_mem hq
  obtain ⟨j, hj⟩ := List.mem_iff_getElem?.mp hL
  obtain ⟨i, hi, hie⟩ := h7 j _ _ hj
  have := nd_inj L hnd i k e hie hk
  omega
theorem kids_app {D : ZD} {eng : Int} {L : List PT} {k : Nat} {e : PT} (hnd : L.Nodup) (hk : L[k]? = some e) (h7 : ∀ (j : Nat) st e, L[j]? = some (st :: e) → ∃ i : Nat, (i : Int) < (k : Int) ∧ L[i]? = some e) : (L ++ kids (nl D eng e) e).Nodup := by
  rw [List.nodup_append]
  refine ⟨hnd, kids_nd, fun a ha b hb hab => ?_⟩
  subst hab
  exact kids_new hnd hk h7 a hb ha
theorem Dn.of {K K' : ZG} {L L' : List PT} {i : Int} {e : PT} {l : Int × Int × Int × Int} (h : Dn K L i e l) (hj : ∀ j, 58 ≤ j → j ≤ 62 → zsg K' 5 j i = zsg K 5 j i) (hL : ∀ (n : Nat) q, L[n]? = some q → L'[n]? = some q) : Dn K' L' i e l := by
  obtain ⟨h1, h2, h3, h4, h5, h6⟩ := h
  unfold Dn
  rw [hj 58 (by omega) (by omega), hj 59 (by omega) (by omega), hj 60 (by omega) (by omega), hj 61 (by omega) (by omega), hj 62 (by omega) (by omega)]
  exact ⟨h1, h2, h3, h4, h5, fun v hv => hL _ _ (h6 v hv)⟩
/-- nodes that were there are still reached when others are laid -/
theorem Nd.lay {K K' : ZG} {L : List PT} {k : Int} (h7 : ∀ (j : Nat) st e, L[j]? = some (st :: e) → 0 ≤ zsg K 5 57 j ∧ zsg K 5 57 j < k ∧ L[(zsg K 5 57 j).toNat]? = some e) (h57 : ∀ i : Nat, i < L.length → zsg K' 5 57 i = zsg K 5 57 i) (hj : ∀ j, 58 ≤ j → j ≤ 61 → ∀ i, 0 ≤ i → i < k → zsg K' 5 j i = zsg K 5 j i) : ∀ {e : PT} {i : Nat}, L[i]? = some e → Nd K e i → Nd K' e i
  | [], i, _, hn => hn
  | st :: e, i, hi, hn => by
    obtain ⟨h1, h2, h3, h4, h5, h6⟩ := hn
    obtain ⟨a0, a1, a2⟩ := h7 i st e hi
    have hl := (List.getElem?_eq_some_iff.mp hi).1
    unfold Nd
    rw [h57 i hl, hj 58 (by omega) (by omega) _ a0 a1, hj 59 (by omega) (by omega) _ a0 a1, hj 60 (by omega) (by omega) _ a0 a1, hj 61 (by omega) (by omega) _ a0 a1]
    have ea : (((zsg K 5 57 i).toNat : Nat) : Int) = zsg K 5 57 i := by omega
    refine ⟨h1, h2, h3, h4, ?_, h6⟩
    have := Nd.lay h7 h57 hj a2 (by rw [ea]; exact h5)
    rw [ea] at this
    exact this
/-- what a new node is to ask -/
def nask (D : ZD) (kind c u : Int) : Int := if kind = 3 ∧ u = 0 then 0 else if kind = 3 ∧ D 26 c = 3 then 1 else -9
theorem w6_kids {D : ZD} {G : ZG} {i c kind m n : Int} {Q : Int → ZG → Prop} (hK : ∀ j, 1 ≤ j → j ≤ 29 → zsg G 5 j = D j) (hc : 0 ≤ c ∧ c < 8) (hn : zsg G 5 56 0 = n) (n0 : 0 ≤ n) (m0 : 0 ≤ m) (hm : n + m ≤ 500)
    (hQ : ∀ K', Mo G K' → (∀ j, ¬ (56 ≤ j ∧ j ≤ 62) → zsg K' 5 j = zsg G 5 j) → zsg K' 5 56 0 = n + m → (∀ j, 57 ≤ j → j ≤ 62 → ∀ x, x < n → zsg K' 5 j x = zsg G 5 j x) → (∀ u, 0 ≤ u → u < m → zsg K' 5 57 (n + u) = i ∧ zsg K' 5 58 (n + u) = nask D kind c u ∧ zsg K' 5 59 (n + u) = c ∧ zsg K' 5 60 (n + u) = 0 ∧ zsg K' 5 61 (n + u) = n + u ∧ zsg K' 5 62 (n + u) = 0) → Q 1 K') :
    zl2 (fun (P311 : Int → ZG → Prop) (a311_8 : Int) (K311 : ZG) => zbr (m ≤ a311_8) (Q 1 K311) (zjn (fun (z344_0 : Int) => zjn (fun (z368_2 : Int) => vX6_node i z368_2 c 0 K311 fun (x3 : Int) (G6 : ZG) => zlt1 (w32 (a311_8 + 1)) fun (x4 : Int) => P311 x4 G6) fun J368 => zbr (z344_0 = 0) (J368 (-9)) (zbr (a311_8 ≠ 0) (J368 1) (J368 0))) fun J344 => zjn (fun (_ : Unit) => J344 0) fun J343 => zbr (kind ≠ 3) (J343 ()) (zjn (fun (_ : Unit) => J344 1) fun J339 => zbr (a311_8 = 0) (J339 ()) (zaL K311 5 26 8 c fun (x5 : Int) => zbr (x5 ≠ 3) (J343 ()) (J339 ()))))) 0 G := by
  refine zl2_of (fun v K => 0 ≤ v ∧ v ≤ m ∧ Mo G K ∧ (∀ j, ¬ (56 ≤ j ∧ j ≤ 62) → zsg K 5 j = zsg G 5 j) ∧ zsg K 5 56 0 = n + v ∧ (∀ j, 57 ≤ j → j ≤ 62 → ∀ x, x < n → zsg K 5 j x = zsg G 5 j x) ∧ ∀ u, 0 ≤ u → u < v → zsg K 5 57 (n + u) = i ∧ zsg K 5 58 (n + u) = nask D kind c u ∧ zsg K 5 59 (n + u) = c ∧ zsg K 5 60 (n + u) = 0 ∧ zsg K 5 61 (n + u) = n + u ∧ zsg K 5 62 (n + u) = 0) (fun v _ => (m - v).toNat) (fun P v K hI hPP => ?_) ⟨by omega, m0, Mo.refl G, fun _ _ => rfl, by omega, fun _ _ _ _ _ => rfl, fun u u0 u1 => by omega⟩
  obtain ⟨v0, v1, mo, hKK, h56, hold, hnew⟩ := hI
  refine zbr_i (fun hv => ?_) (fun hv => ?_)
  · have : v = m := by omega
    subst this
    exact hQ K mo hKK h56 hold hnew
  · dsimp only [zjn]
    have main : ∀ z, z = nask D kind c v → vX6_node i z c 0 K fun (x3 : Int) (G6 : ZG) => zlt1 (w32 (v + 1)) fun (x4 : Int) => P x4 G6 := fun z hz => by
      refine w6_node h56 (by omega) (by omega) (fun K' mo' hK' h56' h57 h58 h59 h60 h61 h62 => ?_)
      rw [zlt1_e, w32_eq (by omega) (by omega)]
      refine hPP _ _ ⟨by omega, by omega, mo.trans mo', fun j hj => by rw [hK' j hj, hKK j hj], by omega, fun j j1 j2 x hx => ?_, fun u u0 u1 => ?_⟩ (by omega)
      · have : j = 57 ∨ j = 58 ∨ j = 59 ∨ j = 60 ∨ j = 61 ∨ j = 62 := by omega
        rcases this with rfl | rfl | rfl | rfl | rfl | rfl
        · rw [h57, if_neg (by omega)]; exact hold _ (by omega) (by omega) x hx
        · rw [h58, if_neg (by omega)]; exact hold _ (by omega) (by omega) x hx
        · rw [h59, if_neg (by omega)]; exact hold _ (by omega) (by omega) x hx
        · rw [h60, if_neg (by omega)]; exact hold _ (by omega) (by omega) x hx
        · rw [h61, if_neg (by omega)]; exact hold _ (by omega) (by omega) x hx
        · rw [h62, if_neg (by omega)]; exact hold _ (by omega) (by omega) x hx
      · by_cases hu : u = v
        · subst hu
          rw [h57, h58, h59, h60, h61, h62, if_pos rfl, if_pos rfl, if_pos rfl, if_pos rfl, if_pos rfl, if_pos rfl]
          exact ⟨rfl, hz, rfl, rfl, rfl, rfl⟩
        · rw [h57, h58, h59, h60, h61, h62, if_neg (by omega), if_neg (by omega), if_neg (by omega), if_neg (by omega), if_neg (by omega), if_neg (by omega)]
          exact hnew u u0 (by omega)
    have z0 : ∀ {A B : Prop}, A → zbr ((0 : Int) = 0) A B := fun h => zbr_i (fun _ => h) (fun z => absurd rfl z)
    have z1 : ∀ {A B : Prop}, B → zbr ((1 : Int) = 0) A B := fun h => zbr_i (fun z => absurd z (by omega)) (fun _ => h)
    refine zbr_i (fun hk => z0 (main _ (by unfold nask; rw [if_neg (fun z => hk z.1), if_neg (fun z => hk z.1)]))) (fun hk => ?_)
    have hk := Decidable.of_not_not hk
    refine zbr_i (fun hv0 => z1 (zbr_i (fun z => absurd hv0 z) (fun _ => main _ (by unfold nask; rw [if_pos ⟨hk, hv0⟩])))) (fun hv0 => ?_)
    refine zaL_i hc.1 (by omega) ?_
    rw [hKK 26 (by omega), hK 26 (by omega) (by omega)]
    refine zbr_i (fun h26 => z0 (main _ (by unfold nask; rw [if_neg (fun z => hv0 z.2), if_neg (fun z => h26 z.2)]))) (fun h26 => z1 (zbr_i (fun _ => main _ (by unfold nask; rw [if_neg (fun z => hv0 z.2), if_pos ⟨hk, Decidable.of_not_not h26⟩])) (fun z => absurd hv0 z)))
/-- a node's children are laid behind all others -/
theorem TT.add {D : ZD} {eng : Int} {K K' : ZG} {L : List PT} {k : Nat} {e : PT} (hT : TT D eng K L k) (hk : L[k]? = some e) (hin : 0 < (nl D eng e).2.2.2 → nl D eng e = lab D eng e) (h500 : (L.length : Int) + (nl D eng e).2.2.2 ≤ 500) (hm0 : 0 ≤ (nl D eng e).2.2.2)
    (h56 : zsg K' 5 56 0 = (L.length : Int) + (nl D eng e).2.2.2) (hold : ∀ j, 57 ≤ j → j ≤ 62 → ∀ x, x < (L.length : Int) → x ≠ (k : Int) ∨ j = 57 → zsg K' 5 j x = zsg K 5 j x)
    (h58 : zsg K' 5 58 k = (nl D eng e).1) (h59 : (nl D eng e).1 ≠ 2 → zsg K' 5 59 k = (nl D eng e).2.1) (h60 : 3 ≤ (nl D eng e).1 → zsg K' 5 60 k = (nl D eng e).2.2.1) (h61 : 0 < (nl D eng e).2.2.2 → zsg K' 5 61 k = (L.length : Int)) (h61' : 0 ≤ zsg K' 5 61 k) (h62 : zsg K' 5 62 k = (nl D eng e).2.2.2) (h36 : (nl D eng e).2.2.2 = 0 ∨ 3 ≤ (nl D eng e).1)
    (hnew : ∀ u, 0 ≤ u → u < (nl D eng e).2.2.2 → zsg K' 5 57 ((L.length : Int) + u) = (k : Int) ∧ zsg K' 5 58 ((L.length : Int) + u) = nask D (nl D eng e).1 (nl D eng e).2.1 u ∧ ((nl D eng e).1 = 3 → zsg K' 5 59 ((L.length : Int) + u) = (nl D eng e).2.1) ∧ zsg K' 5 60 ((L.length : Int) + u) = 0 ∧ zsg K' 5 61 ((L.length : Int) + u) = (L.length : Int) + u ∧ zsg K' 5 62 ((L.length : Int) + u) = 0) : TT D eng K' (L ++ kids (nl D eng e) e) ((k : Int) + 1) := by
  obtain ⟨t1, t2, t3, t4, t5, t6, t7⟩ := hT
  have hkl := (List.getElem?_eq_some_iff.mp hk).1
  have t7' : ∀ (j : Nat) st e, L[j]? = some (st :: e) → ∃ i : Nat, (i : Int) < (k : Int) ∧ L[i]? = some e := fun j st e' hj => by
    obtain ⟨a0, a1, a2⟩ := t7 j st e' hj
    exact ⟨_, by omega, a2⟩
  have hlen : ((L ++ kids (nl D eng e) e).length : Int) = (L.length : Int) + (nl D eng e).2.2.2 := by rw [List.length_append, kids_len]; push_cast; omega
  have isN_e := (t5 k e hk).1
  have ndo : ∀ (i : Nat) q, L[i]? = some q → Nd K' q i := fun i q hi => Nd.lay t7 (fun x hx => hold 57 (by omega) (by omega) x (by omega) (Or.inr rfl)) (fun j j1 j2 x x0 x1 => hold j (by omega) (by omega) x (by omega) (Or.inl (by omega))) hi (t5 i q hi).2
  have gl : ∀ (n : Nat) q, L[n]? = some q → (L ++ kids (nl D eng e) e)[n]? = some q := fun n q hq => by
    rw [List.getElem?_append_left (List.getElem?_eq_some_iff.mp hq).1]; exact hq
  have gr : ∀ (u : Nat), (u : Int) < (nl D eng e).2.2.2 → (L ++ kids (nl D eng e) e)[L.length + u]? = some (((nl D eng e).1, (nl D eng e).2.1, (nl D eng e).2.2.1, (u : Int)) :: e) := fun u hu => by
    rw [List.getElem?_append_right (by omega), show L.length + u - L.length = u by omega]; exact kids_at hu
  have spl : ∀ (i : Nat) q, (L ++ kids (nl D eng e) e)[i]? = some q → (L[i]? = some q) ∨ (∃ u : Nat, i = L.length + u ∧ (u : Int) < (nl D eng e).2.2.2 ∧ q = ((nl D eng e).1, (nl D eng e).2.1, (nl D eng e).2.2.1, (u : Int)) :: e) := fun i q hq => by
    by_cases hi : i < L.length
    · rw [List.getElem?_append_left hi] at hq; exact Or.inl hq
    · refine Or.inr ⟨i - L.length, by omega, ?_, ?_⟩
      · have := (List.getElem?_eq_some_iff.mp hq).1
        rw [List.length_append, kids_len] at this
        omega
      · have hu : ((i - L.length : Nat) : Int) < (nl D eng e).2.2.2 := by
          have := (List.getElem?_eq_some_iff.mp hq).1
          rw [List.length_append, kids_len] at this
          omega
        have := gr (i - L.length) hu
        rw [show L.length + (i - L.length) = i by omega, hq] at this
        exact Option.some.inj this
  have dnk : Dn K' (L ++ kids (nl D eng e) e) k e (nl D eng e) := ⟨h58, h59, h60, h62, h61', fun v hv => by
    rw [h61 (by omega), show ((L.length : Int)).toNat = L.length by omega]
    exact gr v hv⟩
  refine ⟨by rw [h56, hlen], by omega, kids_app t3 hk t7', gl 0 _ t4, fun i q hi => ?_, fun i q hi => ?_, fun j st q hj => ?_⟩
  · rcases spl i q hi with hi | ⟨u, rfl, hu, rfl⟩
    · exact ⟨(t5 i q hi).1, ndo i q hi⟩
    · refine ⟨kids_isN isN_e (List.mem_iff_getElem?.mpr ⟨u, kids_at hu⟩), ?_⟩
      have w := hnew u (by omega) hu
      have ek : ((L.length + u : Nat) : Int) = (L.length : Int) + (u : Int) := by push_cast; rfl
      have h3 : 3 ≤ (nl D eng e).1 := by omega
      unfold Nd
      rw [ek, w.1, h58, h59 (by omega), h60 h3, h61 (by omega)]
      refine ⟨by omega, by omega, by omega, by omega, ndo k e hk, ?_⟩
      rw [show (L.length : Int) + (u : Int) - (L.length : Int) = (u : Int) by omega]
  · rcases spl i q hi with hi | ⟨u, rfl, hu, rfl⟩
    · have hil := (List.getElem?_eq_some_iff.mp hi).1
      by_cases hik : i = k
      · subst hik
        rw [hk] at hi; cases hi
        exact Or.inl dnk
      · rcases t6 i q hi with hd | ⟨g1, g2, g3, g4, g5, g6⟩
        · exact Or.inl (hd.of (fun j j1 j2 => hold j (by omega) j2 i (by omega) (Or.inl (by omega))) gl)
        · refine Or.inr ⟨by omega, ?_, g3, ?_, ?_, ?_⟩
          · rw [hold 58 (by omega) (by omega) i (by omega) (Or.inl (by omega))]; exact g2
          · rw [hold 60 (by omega) (by omega) i (by omega) (Or.inl (by omega))]; exact g4
          · rw [hold 61 (by omega) (by omega) i (by omega) (Or.inl (by omega))]; exact g5
          · rw [hold 62 (by omega) (by omega) i (by omega) (Or.inl (by omega))]; exact g6
    · have w := hnew u (by omega) hu
      have ek : ((L.length + u : Nat) : Int) = (L.length : Int) + (u : Int) := by push_cast; rfl
      rw [ek]
      have en : nl D eng (((nl D eng e).1, (nl D eng e).2.1, (nl D eng e).2.2.1, (u : Int)) :: e) = if (nl D eng e).1 = 3 ∧ (u : Int) = 0 then (0, (nl D eng e).2.1, 0, 0) else if (nl D eng e).1 = 3 ∧ D 26 (nl D eng e).2.1 = 3 then (1, (nl D eng e).2.1, 0, 0) else lab D eng (((nl D eng e).1, (nl D eng e).2.1, (nl D eng e).2.2.1, (u : Int)) :: e) := rfl
      have w58 := w.2.1
      unfold nask at w58
      by_cases c1 : (nl D eng e).1 = 3 ∧ (u : Int) = 0
      · rw [if_pos c1] at w58 en
        refine Or.inl ?_
        rw [en]
        exact ⟨w58, fun _ => w.2.2.1 c1.1, fun z => absurd z (by show ¬ (3 : Int) ≤ 0; omega), w.2.2.2.2.2, by rw [w.2.2.2.2.1]; omega, fun v hv => absurd hv (by show ¬ (v : Int) < 0; omega)⟩
      · rw [if_neg c1] at w58 en
        by_cases c2 : (nl D eng e).1 = 3 ∧ D 26 (nl D eng e).2.1 = 3
        · rw [if_pos c2] at w58 en
          refine Or.inl ?_
          rw [en]
          exact ⟨w58, fun _ => w.2.2.1 c2.1, fun z => absurd z (by show ¬ (3 : Int) ≤ 1; omega), w.2.2.2.2.2, by rw [w.2.2.2.2.1]; omega, fun v hv => absurd hv (by show ¬ (v : Int) < 0; omega)⟩
        · rw [if_neg c2] at w58 en
          exact Or.inr ⟨by omega, w58, en, w.2.2.2.1, by rw [w.2.2.2.2.1]; omega, w.2.2.2.2.2⟩
  · rcases spl j (st :: q) hj with hj | ⟨u, rfl, hu, he⟩
    · obtain ⟨a0, a1, a2⟩ := t7 j st q hj
      have hjl := (List.getElem?_eq_some_iff.mp hj).1
      rw [hold 57 (by omega) (by omega) j (by omega) (Or.inr rfl)]
      exact ⟨a0, by omega, gl _ _ a2⟩
    · injection he with he1 he2
      subst he2
      have w := hnew u (by omega) hu
      have ek : ((L.length + u : Nat) : Int) = (L.length : Int) + (u : Int) := by push_cast; rfl
      rw [ek, w.1]
      exact ⟨by omega, by omega, by rw [show ((k : Int)).toNat = k by omega]; exact gl _ _ hk⟩
theorem TT.of {D : ZD} {eng : Int} {K K' : ZG} {L : List PT} {k : Int} (h : TT D eng K L k) (hj : ∀ j, 56 ≤ j → j ≤ 62 → zsg K' 5 j = zsg K 5 j) : TT D eng K' L k := by
  obtain ⟨t1, t2, t3, t4, t5, t6, t7⟩ := h
  refine ⟨by rw [hj 56 (by omega) (by omega)]; exact t1, t2, t3, t4, fun i e hi => ⟨(t5 i e hi).1, (t5 i e hi).2.of (fun j j1 j2 => hj j (by omega) (by omega))⟩, fun i e hi => ?_, fun j st e hi => by rw [hj 57 (by omega) (by omega)]; exact t7 j st e hi⟩
  rw [hj 58 (by omega) (by omega), hj 60 (by omega) (by omega), hj 61 (by omega) (by omega), hj 62 (by omega) (by omega)]
  rcases t6 i e hi with z | z
  · exact Or.inl (z.of (fun j j1 j2 => by rw [hj j (by omega) (by omega)]) (fun _ _ h => h))
  · exact Or.inr z
