/-! COMPONENT: the tree that is there -/
set_option maxRecDepth 100000
/-- the tree of an engine, in the tables -/
def TC (D : ZD) (eng : Int) (o : Nat) (G : ZG) : Prop := Lrg D eng o G ∨ ∃ S : List PT, S[0]? = some [] ∧ Nrm D eng o G S ∧ S.Pairwise plt ∧ ∀ (i : Nat) q, S[i]? = some q → Row D eng o G S i q
theorem TC.of {D : ZD} {eng : Int} {o : Nat} {G G' : ZG} (h : TC D eng o G) (e : ∀ j i, (3 ≤ j ∧ j ≤ 7) ∨ j = 9 ∨ j = 10 → zsg G' o j i = zsg G o j i) : TC D eng o G' := by
  rcases h with h | ⟨S, h0, h1, h2, h3⟩
  · exact Or.inl (h.of (e 9 0 (by omega)) (e 10 0 (by omega)))
  · refine Or.inr ⟨S, h0, h1.of (e 9 0 (by omega)) (e 10 0 (by omega)), h2, fun i q hi => ?_⟩
    obtain ⟨a1, a2, a3, a4, a5⟩ := h3 i q hi
    refine ⟨by rw [e 3 _ (by omega)]; exact a1, by rw [e 4 _ (by omega)]; exact a2, by rw [e 5 _ (by omega)]; exact a3, by rw [e 7 _ (by omega)]; exact a4, fun k hk => ?_⟩
    obtain ⟨y, y1, y2, y3⟩ := a5 k hk
    exact ⟨y, by rw [e 6 _ (by omega)]; exact y1, y2, y3⟩
/-- what is kept of the trees -/
def TrI (D : ZD) (o : Nat) (G : ZG) : Prop := zsg G o 2 0 = bb (decide ((o : Int) = 3)) ∧ (zsg G o 11 0 ≠ 0 → TC D (o : Int) o G)
theorem w4_refresh {D : ZD} {o : Nat} {G : ZG} {Q : ZG → Prop} (ho : tob o) (hC : CDx G D) (hM : MI D) (hT : TrI D o G) (hQ : ∀ G', Fr [o] G G' → TrI D o G' → TC D (o : Int) o G' → Q G') : vX4_refresh o G Q := by
  unfold vX4_refresh
  rw [zgF_e]
  dsimp only [zjn]
  refine zbr_i (fun h => hQ G (Fr.refl _ hC.1) hT (hT.2 h)) (fun h => ?_)
  rw [zpF_e, zpF_e, zpF_e, zpF_e, zpF_e]
  have f0 : Fr [o] G (zss (zss (zss (zss (zss G o 11 0 1) o 9 0 0) o 10 0 0) o 15 0 0) o 16 0 0) := (((((Fr.refl [o] hC.1).ss 11 0 1 (by simp) (by unfold tob at ho; omega)).ss 9 0 0 (by simp) (by unfold tob at ho; omega)).ss 10 0 0 (by simp) (by unfold tob at ho; omega)).ss 15 0 0 (by simp) (by unfold tob at ho; omega)).ss 16 0 0 (by simp) (by unfold tob at ho; omega)
  have e2 : zsg (zss (zss (zss (zss (zss G o 11 0 1) o 9 0 0) o 10 0 0) o 15 0 0) o 16 0 0) o 2 0 = zsg G o 2 0 := by rw [zsg_ss, if_neg (by omega), zsg_ss, if_neg (by omega), zsg_ss, if_neg (by omega), zsg_ss, if_neg (by omega), zsg_ss, if_neg (by omega)]
  have e11 : zsg (zss (zss (zss (zss (zss G o 11 0 1) o 9 0 0) o 10 0 0) o 15 0 0) o 16 0 0) o 11 0 = 1 := by rw [zsg_ss, if_neg (by omega), zsg_ss, if_neg (by omega), zsg_ss, if_neg (by omega), zsg_ss, if_neg (by omega), zsg_ss, if_pos ⟨rfl, rfl, rfl⟩]
  have e9 : zsg (zss (zss (zss (zss (zss G o 11 0 1) o 9 0 0) o 10 0 0) o 15 0 0) o 16 0 0) o 9 0 = 0 := by rw [zsg_ss, if_neg (by omega), zsg_ss, if_neg (by omega), zsg_ss, if_neg (by omega), zsg_ss, if_pos ⟨rfl, rfl, rfl⟩]
  have e10 : zsg (zss (zss (zss (zss (zss G o 11 0 1) o 9 0 0) o 10 0 0) o 15 0 0) o 16 0 0) o 10 0 = 0 := by rw [zsg_ss, if_neg (by omega), zsg_ss, if_neg (by omega), zsg_ss, if_pos ⟨rfl, rfl, rfl⟩]
  have e15 : zsg (zss (zss (zss (zss (zss G o 11 0 1) o 9 0 0) o 10 0 0) o 15 0 0) o 16 0 0) o 15 0 = 0 := by rw [zsg_ss, if_neg (by omega), zsg_ss, if_pos ⟨rfl, rfl, rfl⟩]
  have e16 : zsg (zss (zss (zss (zss (zss G o 11 0 1) o 9 0 0) o 10 0 0) o 15 0 0) o 16 0 0) o 16 0 = 0 := by rw [zsg_ss, if_pos ⟨rfl, rfl, rfl⟩]
  generalize zss (zss (zss (zss (zss G o 11 0 1) o 9 0 0) o 10 0 0) o 15 0 0) o 16 0 0 = G5 at f0 e2 e11 e9 e10 e15 e16
  refine w4_build 489 (D := D) (eng := (o : Int)) 1600 [] ho hM trivial (by simp) (by omega) G5 [] _ ⟨hC.fr f0 (by unfold tob at ho; omega), ⟨by rw [e15]; rfl, by show 0 ≤ 600; omega, fun k x hx => by cases hx⟩, ⟨by rw [e16]; omega, fun c c0 c8 => ?_⟩, by rw [e2]; exact hT.1, Or.inr ⟨e10, by rw [e9]; rfl, by simp, List.nodup_nil, fun q hq => by cases hq⟩, trivial, rfl, fun q hq => by cases hq⟩ (fun r G' hBR => ?_)
  · rw [e16]
    have h0 := hs_tb ⟨0, by omega⟩ ⟨c.toNat, by omega⟩
    dsimp only at h0
    rw [show ((c.toNat : Nat) : Int) = c by omega] at h0
    rw [show (0 : Int) = ((0 : Nat) : Int) from rfl, h0, Nat.zero_testBit]; rfl
  · obtain ⟨w, b15, b16, h3⟩ := hBR
    have tc : TC D (o : Int) o G' := by
      rcases h3 with h3 | ⟨_, _, S, s1, s2, s3, s4, s5⟩
      · exact Or.inl h3
      · exact Or.inr ⟨S, s2, s1, s3, fun i q hi => s5 i q (Nat.zero_le _) hi⟩
    exact hQ G' (f0.trans w.1) ⟨by rw [w.2.1 2 0 (by omega), e2]; exact hT.1, fun _ => tc⟩ tc
/-- all nodes, each once -/
def ENU (D : ZD) (eng : Int) (S : List PT) : Prop := S.Nodup ∧ S.length ≤ 500 ∧ ∀ q, q ∈ S ↔ isN D eng q
theorem ENU.len {D : ZD} {eng : Int} {S T : List PT} (h : ENU D eng S) (g : ENU D eng T) : S.length = T.length := by
  have a := nd_le S T h.1 (fun q hq => (g.2.2 q).mpr ((h.2.2 q).mp hq))
  have b := nd_le T S g.1 (fun q hq => (h.2.2 q).mpr ((g.2.2 q).mp hq))
  omega
theorem ENU.big {D : ZD} {eng : Int} {S : List PT} (h : ENU D eng S) : ¬ Big D eng := fun ⟨L, l1, l2, l3⟩ => by
  have a := nd_le L S l1 (fun q hq => (h.2.2 q).mpr (l2 q hq))
  have := h.2.1
  omega
theorem enu_of {D : ZD} {eng : Int} {S : List PT} (hnd : S.Nodup) (hl : S.length ≤ 500) (h0 : [] ∈ S) (hN : ∀ q ∈ S, isN D eng q) (hch : ∀ q ∈ S, ∀ k : Nat, (k : Int) < (nl D eng q).2.2.2 → (stp (nl D eng q) k :: q) ∈ S) : ENU D eng S := by
  have key : ∀ (e : PT), isN D eng e → e ∈ S := fun e => by
    induction e with
    | nil => intro _; exact h0
    | cons st e ih =>
      intro h
      obtain ⟨hn, h1, h2, h3, h4, h5⟩ := h
      have := hch e (ih hn) st.2.2.2.toNat (by omega)
      unfold stp at this
      rw [h1, h2, h3, show ((st.2.2.2.toNat : Nat) : Int) = st.2.2.2 by omega] at this
      exact this
  exact ⟨hnd, hl, fun q => ⟨hN q, key q⟩⟩
theorem enu_c {D : ZD} {eng : Int} {o : Nat} {G : ZG} {S : List PT} (h0 : S[0]? = some []) (h1 : Nrm D eng o G S) (h3 : ∀ (i : Nat) q, S[i]? = some q → Row D eng o G S i q) : ENU D eng S := by
  refine enu_of h1.2.2.2.1 h1.2.2.1 (List.mem_iff_getElem?.mpr ⟨_, h0⟩) h1.2.2.2.2 (fun q hq k hk => ?_)
  obtain ⟨i, hi⟩ := List.mem_iff_getElem?.mp hq
  obtain ⟨_, _, _, _, h⟩ := h3 i q hi
  obtain ⟨y, _, _, y3⟩ := h k hk
  exact List.mem_iff_getElem?.mpr ⟨y, y3⟩
theorem enu_m {D : ZD} {eng : Int} {K : ZG} {L : List PT} (h : TT D eng K L (L.length : Int)) : ENU D eng L := by
  obtain ⟨t1, t2, t3, t4, t5, t6, t7⟩ := h
  refine enu_of t3 t2 (List.mem_iff_getElem?.mpr ⟨_, t4⟩) (fun q hq => ?_) (fun q hq k hk => ?_)
  · obtain ⟨i, hi⟩ := List.mem_iff_getElem?.mp hq
    exact (t5 i q hi).1
  · obtain ⟨i, hi⟩ := List.mem_iff_getElem?.mp hq
    have hlt := (List.getElem?_eq_some_iff.mp hi).1
    rcases t6 i q hi with z | z
    · exact List.mem_iff_getElem?.mpr ⟨_, z.2.2.2.2.2 k hk⟩
    · omega
