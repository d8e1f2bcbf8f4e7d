/-! WHAT THE COMPONENT HOLDS, by the reference's data D -/
set_option maxRecDepth 100000
def kc (c : ZC) : Nat × Nat := match c with | .inl (t, _) => (0, t) | .inr (.inl (k, _)) => (1, k) | .inr (.inr (c, _)) => (2, c)
/-- the array of the automaton's codes -/
def cod (G : ZG) (a : Nat) : Prop := zsr G 4 0 0 = some (.inl a)
def imm (c : ZC) : Prop := kc c ≠ (1, 3) ∧ kc c ≠ (2, 16)
/-- cells that nobody changes -/
def HI (G : ZG) (a : Nat) (c : ZC) : Prop := zsj G a = some c ∧ imm c ∧ ¬ cod G a
def Ext (G G' : ZG) : Prop := (∀ a c, zsj G a = some c → ∃ c', zsj G' a = some c' ∧ kc c' = kc c) ∧ (∀ a c, HI G a c → HI G' a c)
theorem Ext.refl (G : ZG) : Ext G G := ⟨fun _ c h => ⟨c, h, rfl⟩, fun _ _ h => h⟩
theorem Ext.trans {G K H : ZG} (h : Ext G K) (g : Ext K H) : Ext G H :=
  ⟨fun a c e => by
    obtain ⟨c', e1, e2⟩ := h.1 a c e
    obtain ⟨c2, e3, e4⟩ := g.1 a c' e1
    exact ⟨c2, e3, e4.trans e2⟩, fun a c e => g.2 a c (h.2 a c e)⟩
theorem Ext.old {G G' : ZG} (h : Ext G G') {a : Nat} (e : zsj G' a = none) : zsj G a = none := by
  cases q : zsj G a with
  | none => rfl
  | some c => obtain ⟨c', e1, _⟩ := h.1 a c q; rw [e] at e1; cases e1
theorem zel_ext {G G' : ZG} (h : Ext G G') {k : Nat} {x : ZR} (e : zel G k x) : zel G' k x := by
  rcases e with e | ⟨a, c, fs, e1, e2, e3⟩ | ⟨a, l, e1, e2, e3⟩
  · exact Or.inl e
  · obtain ⟨c', q1, q2⟩ := h.1 a _ e2
    match c', q2 with
    | .inr (.inr (c2, fs2)), q2 =>
      have : c2 = c := by simpa [kc] using q2
      subst this
      exact Or.inr (Or.inl ⟨a, c2, fs2, e1, q1, e3⟩)
    | .inr (.inl (c2, fs2)), q2 => simp [kc] at q2
    | .inl (c2, fs2), q2 => simp [kc] at q2
  · obtain ⟨c', q1, q2⟩ := h.1 a _ e2
    match c', q2 with
    | .inr (.inr (c2, fs2)), q2 => simp [kc] at q2
    | .inr (.inl (c2, fs2)), q2 => simp [kc] at q2
    | .inl (c2, fs2), q2 =>
      have : c2 = 0 := by simpa [kc] using q2
      subst this
      exact Or.inr (Or.inr ⟨a, fs2, e1, q1, e3⟩)
def isl (o : Nat) : Prop := 7 ≤ o ∧ o ≤ 14
/-- the lists' arrays are apart -/
def Sep (G : ZG) : Prop := (∀ o o' a, isl o → isl o' → zsr G o 1 0 = some (.inl a) → zsr G o' 1 0 = some (.inl a) → o = o') ∧ (∀ o a, isl o → zsr G o 1 0 = some (.inl a) → ∃ l, zsj G a = some (.inr (.inl (3, l)))) ∧ (∀ a, cod G a → ∃ l, zsj G a = some (.inl (0, l)))
/-- the cases' objects are as they were -/
def Cas (G G' : ZG) : Prop := ∀ a c, zsj G a = some c → kc c = (2, 16) → zsj G' a = some c
theorem Cas.refl (G : ZG) : Cas G G := fun _ _ h _ => h
theorem Cas.trans {G K H : ZG} (h : Cas G K) (g : Cas K H) : Cas G H := fun a c e k => g a c (h a c e k) k
/-- what a step of the component may change: the fixed objects S (16: the cases' objects) -/
def Fr (S : List Nat) (G G' : ZG) : Prop := Ext G G' ∧ Sep G' ∧ (∀ o, o ∉ S → ∀ j i, zsg G' o j i = zsg G o j i ∧ zsr G' o j i = zsr G o j i) ∧ (∀ o, isl o → o ∉ S → ∀ L, Lst G o L → Lst G' o L) ∧ (16 ∉ S → Cas G G') ∧ (4 ∉ S → ∀ a, cod G a → zsj G' a = zsj G a)
theorem Fr.refl (S : List Nat) {G : ZG} (h : Sep G) : Fr S G G := ⟨Ext.refl G, h, fun _ _ _ _ => ⟨rfl, rfl⟩, fun _ _ _ _ h => h, fun _ => Cas.refl G, fun _ _ _ => rfl⟩
theorem Fr.trans {S : List Nat} {G K H : ZG} (h : Fr S G K) (g : Fr S K H) : Fr S G H :=
  ⟨h.1.trans g.1, g.2.1, fun o ho j i => ⟨(g.2.2.1 o ho j i).1.trans (h.2.2.1 o ho j i).1, (g.2.2.1 o ho j i).2.trans (h.2.2.1 o ho j i).2⟩, fun o ho hs L hL => g.2.2.2.1 o ho hs L (h.2.2.2.1 o ho hs L hL), fun q => (h.2.2.2.2.1 q).trans (g.2.2.2.2.1 q), fun q a e => (g.2.2.2.2.2 q a (by unfold cod at e ⊢; rw [(h.2.2.1 4 q 0 0).2]; exact e)).trans (h.2.2.2.2.2 q a e)⟩
theorem Fr.mono {S S' : List Nat} {G K : ZG} (h : Fr S G K) (hs : ∀ o, o ∈ S → o ∈ S') : Fr S' G K :=
  ⟨h.1, h.2.1, fun o ho => h.2.2.1 o (fun q => ho (hs o q)), fun o ho hn => h.2.2.2.1 o ho (fun q => hn (hs o q)), fun hn => h.2.2.2.2.1 (fun q => hn (hs _ q)), fun hn => h.2.2.2.2.2 (fun q => hn (hs _ q))⟩
theorem LFr.fr {o : Nat} {G G' : ZG} {L' : List ZR} (h : LFr o G G') (hL' : Lst G' o L') (ho : isl o) (hs : Sep G) : Fr [o] G G' := by
  obtain ⟨h1, h2, h3, h4, h5, h6⟩ := h
  have h44 : zsr G' 4 0 0 = zsr G 4 0 0 := h2 4 0 0 (fun e => by have := ho.1; omega)
  refine ⟨⟨fun a c e => ?_, fun a c e => ?_⟩, ⟨?_, ?_, ?_⟩, fun o' q j i => ?_, fun o' q1 q2 L hL => ?_, fun _ a c e ek => ?_, fun _ a e => ?_⟩
  · by_cases q : zsr G o 1 0 = some (.inl a)
    · obtain ⟨l, hl⟩ := hs.2.1 o a ho q
      rw [hl] at e; cases e
      obtain ⟨l', hl'⟩ := h5 a l hl
      exact ⟨_, hl', rfl⟩
    · exact ⟨c, h3 a c e q, rfl⟩
  · obtain ⟨e1, e2, e3⟩ := e
    refine ⟨h3 a c e1 (fun q => ?_), e2, fun q => e3 (by unfold cod at q ⊢; rw [← h44]; exact q)⟩
    obtain ⟨l, hl⟩ := hs.2.1 o a ho q
    rw [hl] at e1; cases e1
    exact e2.1 rfl
  · intro o1 o2 a i1 i2 e1 e2
    by_cases c1 : o1 = o <;> by_cases c2 : o2 = o
    · rw [c1, c2]
    · subst c1
      rw [h2 o2 1 0 (fun q => absurd q c2)] at e2
      rcases h4 a e1 with z | z
      · exact hs.1 _ _ a i1 i2 z e2
      · obtain ⟨l, hl⟩ := hs.2.1 o2 a i2 e2
        rw [hl] at z; cases z
    · subst c2
      rw [h2 o1 1 0 (fun q => absurd q c1)] at e1
      rcases h4 a e2 with z | z
      · exact hs.1 _ _ a i1 i2 e1 z
      · obtain ⟨l, hl⟩ := hs.2.1 o1 a i1 e1
        rw [hl] at z; cases z
    · rw [h2 o1 1 0 (fun q => absurd q c1)] at e1
      rw [h2 o2 1 0 (fun q => absurd q c2)] at e2
      exact hs.1 _ _ a i1 i2 e1 e2
  · intro o1 a i1 e1
    by_cases c1 : o1 = o
    · subst c1
      rcases hL'.2 with ⟨e, _⟩ | ⟨b, r, z1, z2, _⟩
      · rw [e] at e1; cases e1
      · rw [z1] at e1; cases e1; exact ⟨_, z2⟩
    · rw [h2 o1 1 0 (fun q => absurd q c1)] at e1
      obtain ⟨l, hl⟩ := hs.2.1 o1 a i1 e1
      exact h5 a l hl
  · intro a e
    have e9 : cod G a := by unfold cod at e ⊢; rw [← h44]; exact e
    obtain ⟨l, hl⟩ := hs.2.2 a e9
    exact ⟨l, h3 a _ hl (fun q => by
      obtain ⟨l2, hl2⟩ := hs.2.1 o a ho q
      rw [hl2] at hl; cases hl)⟩
  · have q' : o' ≠ o := fun e => q (by rw [e]; exact List.mem_singleton.mpr rfl)
    exact ⟨h1 o' j i (fun e => absurd e q'), h2 o' j i (fun e => absurd e q')⟩
  · have q' : o' ≠ o := fun e => q2 (by rw [e]; exact List.mem_singleton.mpr rfl)
    refine ⟨(h1 o' 2 0 (fun e => absurd e q')).trans hL.1, ?_⟩
    rw [h2 o' 1 0 (fun e => absurd e q')]
    rcases hL.2 with ⟨e, e2⟩ | ⟨a, r, e1, e2, e3⟩
    · exact Or.inl ⟨e, e2⟩
    · refine Or.inr ⟨a, r, e1, h3 a _ e2 (fun z => q' (hs.1 _ _ a q1 ho e1 z)), e3⟩
  · refine h3 a c e (fun q => ?_)
    obtain ⟨l, hl⟩ := hs.2.1 o a ho q
    rw [hl] at e; cases e; simp [kc] at ek
  · obtain ⟨l, hl⟩ := hs.2.2 a e
    rw [hl, h3 a _ hl (fun q => by
      obtain ⟨l2, hl2⟩ := hs.2.1 o a ho q
      rw [hl2] at hl; cases hl)]
theorem Fr.ss {S : List Nat} {G K : ZG} (h : Fr S G K) {o : Nat} (j : Nat) (i v : Int) (ho : o ∈ S) (hl : o < 7) : Fr S G (zss K o j i v) := by
  obtain ⟨h1, h2, h3, h4, h5⟩ := h
  refine ⟨h1, h2, fun o' q j' i' => ⟨?_, (h3 o' q j' i').2⟩, fun o' q1 q2 L hL => ?_, h5⟩
  · rw [zsg_ss, if_neg (fun z => q (by rw [z.1]; exact ho))]; exact (h3 o' q j' i').1
  · have := h4 o' q1 q2 L hL
    refine ⟨?_, this.2⟩
    rw [zsg_ss, if_neg (fun z => by have := q1.1; omega)]; exact this.1
/-- a cell that is new since G may be written -/
theorem Fr.fresh {S : List Nat} {G K : ZG} (h : Fr S G K) (hs : Sep G) {a : Nat} {c : ZC} (ha : zsj G a = none) (hk : ∀ c', zsj K a = some c' → kc c' = kc c) : Fr S G (zsc K a c) := by
  obtain ⟨h1, h2, h3, h4, h5⟩ := h
  refine ⟨⟨fun b c' e => ?_, fun b c' e => ?_⟩, ⟨h2.1, fun o b ho e => ?_, fun b e => ?_⟩, h3, fun o' q1 q2 L hL => ?_, fun q b c' e ek => ?_, fun q b e => ?_⟩
  · obtain ⟨c2, e1, e2⟩ := h1.1 b c' e
    exact ⟨c2, by rw [zsj_ne (fun q => by subst q; rw [ha] at e; cases e)]; exact e1, e2⟩
  · obtain ⟨e1, e2, e3⟩ := h1.2 b c' e
    refine ⟨?_, e2, e3⟩
    have e9 := e.1
    rw [zsj_ne (fun q => by subst q; rw [ha] at e9; cases e9)]; exact e1
  · obtain ⟨l, hl⟩ := h2.2.1 o b ho e
    rw [zsj_sc]
    by_cases q : b = a
    · subst q
      have := hk _ hl
      rw [if_pos rfl]
      match c, this with
      | .inr (.inl (k, l')), this =>
        have e9 : k = 3 := by simpa [kc] using this.symm
        subst e9
        exact ⟨l', rfl⟩
      | .inr (.inr (k, l')), this => simp [kc] at this
      | .inl (k, l'), this => simp [kc] at this
    · rw [if_neg q]; exact ⟨l, hl⟩
  · obtain ⟨l, hl⟩ := h2.2.2 b e
    rw [zsj_sc]
    by_cases q : b = a
    · subst q
      have := hk _ hl
      rw [if_pos rfl]
      match c, this with
      | .inr (.inl (k, l')), this => simp [kc] at this
      | .inr (.inr (k, l')), this => simp [kc] at this
      | .inl (k, l'), this =>
        have e9 : k = 0 := by simpa [kc] using this.symm
        subst e9
        exact ⟨l', rfl⟩
    · rw [if_neg q]; exact ⟨l, hl⟩
  · have := h4 o' q1 q2 L hL
    refine ⟨this.1, ?_⟩
    rcases this.2 with ⟨e, e2⟩ | ⟨b, r, e1, e2, e3⟩
    · exact Or.inl ⟨e, e2⟩
    · refine Or.inr ⟨b, r, e1, ?_, e3⟩
      rw [zsj_ne (fun q => by
        subst q
        rcases hL.2 with ⟨e, _⟩ | ⟨b2, r2, z1, z2, _⟩
        · rw [(h3 o' q2 1 0).2, e] at e1; cases e1
        · rw [(h3 o' q2 1 0).2, z1] at e1; cases e1; rw [ha] at z2; cases z2)]
      exact e2
  · rw [zsj_ne (fun z => by subst z; rw [ha] at e; cases e)]; exact h5.1 q b c' e ek
  · rw [← h5.2 q b e]
    refine zsj_ne (fun z => ?_)
    subst z
    obtain ⟨l, hl⟩ := hs.2.2 _ e
    rw [ha] at hl; cases hl
theorem Fr.new {S : List Nat} {G K : ZG} (h : Fr S G K) (hs : Sep G) {a : Nat} {c : ZC} (ha : zsj K a = none) : Fr S G (zsc K a c) := h.fresh hs (h.1.old ha) (fun c' e => by rw [ha] at e; cases e)
theorem Fr.hi {S : List Nat} {G K : ZG} (h : Fr S G K) (h4 : 4 ∉ S) (hs : Sep G) {a : Nat} {c : ZC} (ha : zsj G a = none) (hk : zsj K a = some c) (hc : imm c) : HI K a c := by
  refine ⟨hk, hc, fun q => ?_⟩
  have q2 : cod G a := by unfold cod at q ⊢; rw [← (h.2.2.1 4 h4 0 0).2]; exact q
  obtain ⟨l, hl⟩ := hs.2.2 a q2
  rw [ha] at hl; cases hl
theorem Fr.lst {S : List Nat} {G K : ZG} (h : Fr S G K) {o : Nat} (ho : isl o) (hn : o ∉ S) {L : List ZR} (hL : Lst G o L) : Lst K o L := h.2.2.2.1 o ho hn L hL
theorem Fr.g {S : List Nat} {G K : ZG} (h : Fr S G K) {o : Nat} (hn : o ∉ S) (j : Nat) (i : Int) : zsg K o j i = zsg G o j i := (h.2.2.1 o hn j i).1
theorem Fr.r {S : List Nat} {G K : ZG} (h : Fr S G K) {o : Nat} (hn : o ∉ S) (j : Nat) (i : Int) : zsr K o j i = zsr G o j i := (h.2.2.1 o hn j i).2
theorem Fr.hk {S : List Nat} {G K : ZG} (h : Fr S G K) {a : Nat} {c : ZC} (e : HI G a c) : HI K a c := h.1.2 a c e
def ints (n : Int) (f : Int → Int) : List Int := (List.range n.toNat).map fun (k : Nat) => f (k : Int)
def refs (n : Int) (f : Nat → Nat) : List ZR := (List.range n.toNat).map fun (k : Nat) => some (.inl (f k))
theorem ints_len (n : Int) (f : Int → Int) : (ints n f).length = n.toNat := by simp [ints]
theorem refs_len (n : Int) (f : Nat → Nat) : (refs n f).length = n.toNat := by simp [refs]
theorem ints_get {n : Int} {f : Int → Int} {k : Int} (h0 : 0 ≤ k) (h1 : k < n) : (ints n f)[k.toNat]? = some (f k) := by
  simp only [ints, List.getElem?_map]
  rw [List.getElem?_range (by omega)]
  simp; congr 1; omega
theorem refs_get {n : Int} {f : Nat → Nat} {k : Int} (h0 : 0 ≤ k) (h1 : k < n) : (refs n f)[k.toNat]? = some (some (.inl (f k.toNat))) := by
  simp only [refs, List.getElem?_map]
  rw [List.getElem?_range (by omega)]
  rfl
theorem ints_succ {n : Int} (f g : Int → Int) (hn : 0 ≤ n) (h : ∀ k, 0 ≤ k → k < n → g k = f k) : ints (n + 1) g = ints n f ++ [g n] := by
  simp only [ints]
  rw [show (n + 1).toNat = n.toNat + 1 by omega, List.range_succ, List.map_append]
  congr 1
  · exact List.map_congr_left fun k hk => h _ (by omega) (by have := List.mem_range.mp hk; omega)
  · simp; congr 1; omega
theorem refs_succ {n : Int} (f g : Nat → Nat) (hn : 0 ≤ n) (h : ∀ k : Nat, (k : Int) < n → g k = f k) : refs (n + 1) g = refs n f ++ [some (.inl (g n.toNat))] := by
  simp only [refs]
  rw [show (n + 1).toNat = n.toNat + 1 by omega, List.range_succ, List.map_append]
  congr 1
  exact List.map_congr_left fun k hk => by rw [h _ (by have := List.mem_range.mp hk; omega)]
theorem refs_congr {n : Int} {f g : Nat → Nat} (h : ∀ k : Nat, (k : Int) < n → g k = f k) : refs n g = refs n f := by
  simp only [refs]
  exact List.map_congr_left fun k hk => by rw [h _ (by have := List.mem_range.mp hk; omega)]
theorem ints_congr {n : Int} {f g : Int → Int} (h : ∀ k, 0 ≤ k → k < n → g k = f k) : ints n g = ints n f := by
  simp only [ints]
  exact List.map_congr_left fun k hk => by rw [h _ (by omega) (by have := List.mem_range.mp hk; omega)]
/-- how many parts a value has -/
def vn (D : ZD) (i : Int) : Int := if D 5 i = 4 then 0 else if D 5 i = 5 then D 6 i else D 2 (4 * D 5 i + D 6 i)
/-- the parts of a pattern -/
def chl (D : ZD) (n : Int) : List Int := ([0, 1, 2] : List Int).filterMap fun k => if prt D n k = -1 then none else some (prt D n k)
def pcell (D : ZD) (pa pf : Nat → Nat) (n : Nat) : ZC :=
  if D 10 n = 1 then .inr (.inr (10, [.inl (D 11 n), .inr (some (.inl (pa (prt D n 0).toNat)))]))
  else if D 10 n = 2 then .inr (.inr (11, [.inl (D 11 n), .inl (D 12 n)]))
  else if D 10 n = 3 then .inr (.inr (12, [.inl (D 11 n / 4), .inl (D 11 n % 4), .inr (some (.inl (pf n)))]))
  else if D 10 n = 4 then .inr (.inr (13, [.inr (some (.inl (pa (prt D n 0).toNat))), .inr (some (.inl (pa (prt D n 1).toNat)))]))
  else if D 10 n = 5 then .inr (.inr (14, [.inl (D 11 n), .inr (some (.inl (pa (prt D n 0).toNat)))]))
  else if D 10 n = 6 then .inr (.inr (15, [.inr (some (.inl (pf n))), .inl (D 12 n)]))
  else .inr (.inr (8, []))
def CIt (G : ZG) (D : ZD) : Prop := Lst G 7 [some (.inr 11), some (.inr 12), some (.inr 13), some (.inr 14)] ∧
  ∀ t : Nat, t < 4 → ∃ ta : Nat → Nat, Lst G (11 + t) (refs (D 1 t) ta) ∧ ∀ c : Nat, (c : Int) < D 1 t → HI G (ta c) (.inl (0, ints (D 2 (4 * t + c)) fun k => D 3 (3 * (4 * t + c) + k)))
def CIv (G : ZG) (D : ZD) : Prop := ∃ va vb : Nat → Nat, Lst G 8 (refs (D 4 0) va) ∧ ∀ i : Nat, (i : Int) < D 4 0 →
  HI G (va i) (.inr (.inr (7, [.inl (D 5 i), .inl (D 6 i), .inr (some (.inl (vb i))), .inl (D 8 i)]))) ∧ HI G (vb i) (.inl (0, ints (vn D i) fun k => D 7 (3 * i + k)))
/-- patterns at pa, with the arrays of their parts at pf -/
def CPo (G : ZG) (D : ZD) (td pa pf : Nat → Nat) : Prop := (∀ i j : Nat, (i : Int) < D 9 0 → (j : Int) < D 9 0 → pa i = pa j → i = j) ∧ ∀ i : Nat, (i : Int) < D 9 0 →
  HI G (td i) (.inr (.inr (9, [.inr (some (.inl (pa i))), .inl (D 14 i), .inl (D 17 i), .inl (D 15 i), .inl (D 16 i), .inl (1 - D 18 i), .inl (D 19 i)]))) ∧
  HI G (pa i) (pcell D pa pf i) ∧ (D 10 i = 3 ∨ D 10 i = 6 → HI G (pf i) (.inr (.inl (4, (chl D i).map fun n => some (.inl (pa n.toNat))))))
def CIp (G : ZG) (D : ZD) : Prop := ∃ td pa pf : Nat → Nat, Lst G 9 (refs (D 9 0) td) ∧ CPo G D td pa pf
def CIw (G : ZG) (D : ZD) : Prop := ∀ v : Nat, v < 3 → ∃ a, zsr G 0 3 v = some (.inl a) ∧ HI G a (.inl (0, [D 20 (4 * v), D 20 (4 * v + 1), D 20 (4 * v + 2), D 20 (4 * v + 3)]))
def CIk (G : ZG) (D : ZD) : Prop := zsg G 0 5 0 = D 21 0 ∧ ∀ k, 0 ≤ k → k < 3 → zsg G 0 4 k = D 22 k
def grf (x : Int) : ZR := if x = -1 then none else some (.inr (20 + x.toNat))
/-- the cases at ka, their patterns at kb -/
def CCo (G : ZG) (D : ZD) (ka kb : Nat → Nat) : Prop := (∀ i j : Nat, (i : Int) < D 23 0 → (j : Int) < D 23 0 → ka i = ka j → i = j) ∧ ∀ i : Nat, (i : Int) < D 23 0 →
  (∃ nm th, zsj G (ka i) = some (.inr (.inr (16, [.inr (some (.inl (kb i))), .inl (D 25 i), .inr (grf (D 26 i)), .inl nm, .inl th, .inl (D 29 i)]))) ∧ (D 26 i ≠ -1 → nm = D 27 i ∧ th = D 28 i)) ∧
  HI G (kb i) (.inl (0, ints (D 21 0) fun k => D 24 (3 * i + k)))
def CIc (G : ZG) (D : ZD) : Prop := ∃ ka kb : Nat → Nat, Lst G 10 (refs (D 23 0) ka) ∧ CCo G D ka kb
def CIr (G : ZG) (D : ZD) : Prop := zsg G 1 6 0 = D 48 0 ∧ zsg G 1 7 0 = D 47 0 ∧ (∀ k, 0 ≤ k → k < D 48 0 → zsg G 1 3 k = D 49 k ∧ zsg G 1 4 k = D 50 k ∧ zsg G 1 5 k = D 51 k) ∧ zsg G 0 11 0 = D 52 0 ∧ (D 52 0 ≠ -1 → ∀ n, 0 ≤ n → n < 6 → zsg G 1 0 n = D 53 n)
/-! WHAT THE DATA ALWAYS ARE -/
def MIt (D : ZD) : Prop := ∀ t, 0 ≤ t → t < 4 → 0 ≤ D 1 t ∧ D 1 t ≤ 4 ∧ ∀ c, 0 ≤ c → c < D 1 t → 0 ≤ D 2 (4 * t + c) ∧ D 2 (4 * t + c) ≤ 3 ∧ ∀ k, 0 ≤ k → k < 3 → 0 ≤ D 3 (3 * (4 * t + c) + k) ∧ D 3 (3 * (4 * t + c) + k) ≤ 5
def VW (D : ZD) (i : Int) : Prop := 0 ≤ D 5 i ∧ D 5 i ≤ 5 ∧ 0 ≤ D 8 i ∧ D 8 i ≤ 96 ∧ (D 5 i = 4 → 0 ≤ D 6 i ∧ D 6 i ≤ 9) ∧
  (D 5 i = 5 → 0 ≤ D 6 i ∧ D 6 i ≤ 3 ∧ ∀ k, 0 ≤ k → k < D 6 i → 0 ≤ D 7 (3 * i + k) ∧ D 7 (3 * i + k) ≤ 9) ∧
  (D 5 i < 4 → 0 ≤ D 6 i ∧ D 6 i < D 1 (D 5 i) ∧ ∀ k, 0 ≤ k → k < D 2 (4 * D 5 i + D 6 i) → 0 ≤ D 7 (3 * i + k) ∧ D 7 (3 * i + k) < i ∧ D 5 (D 7 (3 * i + k)) = D 3 (3 * (4 * D 5 i + D 6 i) + k))
def MIv (D : ZD) : Prop := 0 ≤ D 4 0 ∧ D 4 0 ≤ 40 ∧ ∀ i, 0 ≤ i → i < D 4 0 → VW D i
/-- a pattern may stand where things of a kind are -/
def fitk (D : ZD) (n k : Int) : Prop := D 14 n = -1 ∨ D 14 n = k
def PW (D : ZD) (n : Int) : Prop :=
  (0 ≤ D 10 n ∧ D 10 n ≤ 6) ∧ (-1 ≤ D 14 n ∧ D 14 n ≤ 5) ∧ (1 ≤ D 15 n ∧ D 15 n ≤ 4) ∧ (1 ≤ D 16 n ∧ D 16 n ≤ 40) ∧ (0 ≤ D 17 n ∧ D 17 n ≤ 63) ∧ (D 18 n = 0 ∨ D 18 n = 1) ∧ (D 19 n = 0 ∨ D 19 n = 1) ∧ (D 19 n = 1 → D 17 n = 0) ∧
  (∀ k, 0 ≤ k → k < 3 → prt D n k = -1 ∨ (0 ≤ prt D n k ∧ prt D n k < n ∧ D 15 (prt D n k) ≤ D 15 n)) ∧
  D 16 n = 1 + ((chl D n).map fun p => D 16 p).sum ∧
  (∀ x, 0 ≤ x → x < 6 → hs (D 17 n) x = ((decide (D 10 n = 1) && decide (D 11 n = x)) || (chl D n).any fun p => hs (D 17 p) x)) ∧
  (D 10 n = 0 → chl D n = []) ∧
  (D 10 n = 1 → 0 ≤ D 11 n ∧ D 11 n ≤ 5 ∧ 0 ≤ prt D n 0 ∧ prt D n 1 = -1 ∧ prt D n 2 = -1 ∧ D 14 n = D 14 (prt D n 0) ∧ D 19 n = 0) ∧
  (D 10 n = 2 → 0 ≤ D 11 n ∧ D 11 n ≤ 9 ∧ 0 ≤ D 12 n ∧ D 12 n ≤ 9 ∧ chl D n = [] ∧ D 14 n = 4) ∧
  (D 10 n = 3 → 0 ≤ D 11 n ∧ D 11 n < 16 ∧ D 11 n % 4 < D 1 (D 11 n / 4) ∧ D 14 n = D 11 n / 4 ∧ D 19 n = 0 ∧ ∀ k, 0 ≤ k → k < 3 → (k < D 2 (D 11 n) → 0 ≤ prt D n k ∧ fitk D (prt D n k) (D 3 (3 * D 11 n + k)) ∧ D 15 (prt D n k) + 1 ≤ D 15 n) ∧ (D 2 (D 11 n) ≤ k → prt D n k = -1)) ∧
  (D 10 n = 4 → 0 ≤ prt D n 0 ∧ 0 ≤ prt D n 1 ∧ prt D n 2 = -1 ∧ D 17 (prt D n 0) = D 17 n ∧ D 17 (prt D n 1) = D 17 n ∧ (∀ k, fitk D n k → fitk D (prt D n 0) k ∧ fitk D (prt D n 1) k) ∧ (D 19 n = 1 → D 19 (prt D n 0) = 1 ∧ D 19 (prt D n 1) = 1)) ∧
  (D 10 n = 5 → 0 ≤ D 11 n ∧ D 11 n ≤ 2 ∧ 0 ≤ prt D n 0 ∧ prt D n 1 = -1 ∧ prt D n 2 = -1 ∧ D 19 (prt D n 0) = 1 ∧ D 14 n = -1 ∧ D 19 n = 0) ∧
  (D 10 n = 6 → 0 ≤ D 11 n ∧ D 11 n ≤ 2 ∧ 0 ≤ D 12 n ∧ D 12 n ≤ 2 ∧ D 14 n = 5 ∧ D 19 n = 0 ∧ ∀ k, 0 ≤ k → k < 3 → (k < D 11 n → 0 ≤ prt D n k ∧ fitk D (prt D n k) 4 ∧ D 15 (prt D n k) + 1 ≤ D 15 n) ∧ (D 11 n ≤ k → prt D n k = -1))
def MIp (D : ZD) : Prop := 0 ≤ D 9 0 ∧ D 9 0 ≤ 60 ∧ ∀ n, 0 ≤ n → n < D 9 0 → PW D n
def MIw (D : ZD) : Prop := ∀ v, 0 ≤ v → v < 3 → (-9 ≤ D 20 (4 * v) ∧ D 20 (4 * v) ≤ 9) ∧ (-9 ≤ D 20 (4 * v + 1) ∧ D 20 (4 * v + 1) ≤ 9) ∧ (-9 ≤ D 20 (4 * v + 2) ∧ D 20 (4 * v + 2) ≤ 9) ∧ 1 ≤ D 20 (4 * v + 3) ∧ D 20 (4 * v + 3) ≤ 10
def CW (D : ZD) (c : Int) : Prop := (∀ k, 0 ≤ k → k < D 21 0 → 0 ≤ D 24 (3 * c + k) ∧ D 24 (3 * c + k) < D 9 0 ∧ fitk D (D 24 (3 * c + k)) (D 22 k)) ∧ 0 ≤ D 25 c ∧ D 25 c ≤ 99 ∧ -1 ≤ D 26 c ∧ D 26 c ≤ 3 ∧
  (D 26 c ≠ -1 → 0 ≤ D 27 c ∧ D 27 c ≤ 5 ∧ 0 ≤ D 28 c ∧ D 28 c ≤ 9 ∧ ∃ k, 0 ≤ k ∧ k < D 21 0 ∧ hs (D 17 (D 24 (3 * c + k))) (D 27 c) = true) ∧ inR (D 29 c)
def MIc (D : ZD) : Prop := 0 ≤ D 21 0 ∧ D 21 0 ≤ 3 ∧ (∀ k, 0 ≤ k → k < 3 → 0 ≤ D 22 k ∧ D 22 k ≤ 5) ∧ 0 ≤ D 23 0 ∧ D 23 0 ≤ 8 ∧ (0 < D 23 0 → 0 < D 21 0) ∧ ∀ c, 0 ≤ c → c < D 23 0 → CW D c
def MIr (D : ZD) : Prop := 0 ≤ D 48 0 ∧ D 48 0 ≤ 360 ∧ (∀ k, 0 ≤ k → k < D 48 0 → 0 ≤ D 49 k ∧ D 49 k ≤ 2 ∧ 0 ≤ D 50 k ∧ D 50 k ≤ 500 ∧ 0 ≤ D 51 k ∧ D 51 k ≤ 9) ∧ inR (D 47 0) ∧ -1 ≤ D 52 0 ∧ D 52 0 ≤ 7
/-- the component but for what is kept of trees and codes -/
def CD (G : ZG) (D : ZD) : Prop := Sep G ∧ CIt G D ∧ CIv G D ∧ CIp G D ∧ CIw G D ∧ CIk G D ∧ CIc G D ∧ CIr G D
def MI (D : ZD) : Prop := MIt D ∧ MIv D ∧ MIp D ∧ MIw D ∧ MIc D ∧ MIr D
/-! reading cells -/
theorem zdI_e {G : ZG} {a c k : Nat} {fs : List ZF} {x : Int} (hj : zsj G a = some (.inr (.inr (c, fs)))) (hk : fs[k]? = some (.inl x)) (Q : Int → Prop) : zdI G (some (.inl a)) c k Q = Q x :=
  propext ⟨fun ⟨a', fs', x', h1, h2, h3, h4⟩ => by cases h1; rw [hj] at h2; cases h2; rw [hk] at h3; cases h3; exact h4, fun h => ⟨a, fs, x, rfl, hj, hk, h⟩⟩
theorem zdR_e {G : ZG} {a c k : Nat} {fs : List ZF} {x : ZR} (hj : zsj G a = some (.inr (.inr (c, fs)))) (hk : fs[k]? = some (.inr x)) (Q : ZR → Prop) : zdR G (some (.inl a)) c k Q = Q x :=
  propext ⟨fun ⟨a', fs', x', h1, h2, h3, h4⟩ => by cases h1; rw [hj] at h2; cases h2; rw [hk] at h3; cases h3; exact h4, fun h => ⟨a, fs, x, rfl, hj, hk, h⟩⟩
theorem zisO_i {G : ZG} {a c : Nat} {fs : List ZF} (hj : zsj G a = some (.inr (.inr (c, fs)))) : zisO G (some (.inl a)) c := ⟨a, fs, rfl, hj⟩
theorem zca_i {G : ZG} {a c : Nat} {fs : List ZF} (hj : zsj G a = some (.inr (.inr (c, fs)))) : zca G (some (.inl a)) c := Or.inr ⟨a, fs, rfl, hj⟩
theorem zeN_i {G : ZG} {a t : Nat} {l : List Int} (hj : zsj G a = some (.inl (t, l))) {Q : Int → Prop} (h : Q (l.length : Int)) : zeN G (some (.inl a)) Q := Or.inl ⟨a, rfl, Or.inl ⟨t, l, hj, h⟩⟩
theorem zeN_r {G : ZG} {a k : Nat} {l : List ZR} (hj : zsj G a = some (.inr (.inl (k, l)))) {Q : Int → Prop} (h : Q (l.length : Int)) : zeN G (some (.inl a)) Q := Or.inl ⟨a, rfl, Or.inr ⟨k, l, hj, h⟩⟩
theorem zeI_i {G : ZG} {a : Nat} {l : List Int} {i x : Int} (hj : zsj G a = some (.inl (0, l))) (h0 : 0 ≤ i) (hx : l[i.toNat]? = some x) {Q : Int → Prop} (h : Q x) : zeI G (some (.inl a)) i Q := ⟨a, l, x, rfl, hj, h0, hx, h⟩
theorem zeR_i {G : ZG} {a k : Nat} {l : List ZR} {i : Int} {x : ZR} (hj : zsj G a = some (.inr (.inl (k, l)))) (h0 : 0 ≤ i) (hx : l[i.toNat]? = some x) {Q : ZR → Prop} (h : Q x) : zeR G (some (.inl a)) i Q := ⟨a, k, l, x, rfl, hj, h0, hx, h⟩
theorem zeS_i {G : ZG} {a : Nat} {l : List Int} {i x : Int} (hj : zsj G a = some (.inl (0, l))) (h0 : 0 ≤ i) (hx : i.toNat < l.length) {Q : ZG → Prop} (h : Q (zsc G a (.inl (0, l.set i.toNat x)))) : zeS G (some (.inl a)) i x Q := ⟨a, l, rfl, hj, h0, hx, h⟩
theorem zdP_i {G : ZG} {a c k : Nat} {fs : List ZF} {v : ZF} (hj : zsj G a = some (.inr (.inr (c, fs)))) {Q : ZG → Prop} (h : Q (zsc G a (.inr (.inr (c, fs.set k v))))) : zdP G (some (.inl a)) c k v Q := ⟨a, fs, rfl, hj, h⟩
theorem CIt.fr {S : List Nat} {G G' : ZG} {D D' : ZD} (h : CIt G D) (f : Fr S G G') (hs : 7 ∉ S ∧ 11 ∉ S ∧ 12 ∉ S ∧ 13 ∉ S ∧ 14 ∉ S) (e1 : D' 1 = D 1) (e2 : D' 2 = D 2) (e3 : D' 3 = D 3) : CIt G' D' := by
  refine ⟨f.lst ⟨by omega, by omega⟩ hs.1 h.1, fun t ht => ?_⟩
  rw [e1, e2, e3]
  obtain ⟨ta, h1, h2⟩ := h.2 t ht
  refine ⟨ta, f.lst ⟨by omega, by omega⟩ ?_ h1, fun c hc => f.hk (h2 c hc)⟩
  have : t = 0 ∨ t = 1 ∨ t = 2 ∨ t = 3 := by omega
  rcases this with rfl | rfl | rfl | rfl
  · exact hs.2.1
  · exact hs.2.2.1
  · exact hs.2.2.2.1
  · exact hs.2.2.2.2
theorem CIv.fr {S : List Nat} {G G' : ZG} {D D' : ZD} (h : CIv G D) (f : Fr S G G') (hs : 8 ∉ S) (e : ∀ j, (4 ≤ j ∧ j ≤ 8) ∨ j = 2 → D' j = D j) : CIv G' D' := by
  obtain ⟨va, vb, h1, h2⟩ := h
  refine ⟨va, vb, ?_, fun i hi => ?_⟩
  · rw [e 4 (by omega)]; exact f.lst ⟨by omega, by omega⟩ hs h1
  · rw [e 4 (by omega)] at hi
    unfold vn
    rw [e 5 (by omega), e 6 (by omega), e 7 (by omega), e 8 (by omega), e 2 (by omega)]
    exact ⟨f.hk (h2 i hi).1, f.hk (h2 i hi).2⟩
theorem CPo.fr {S : List Nat} {G G' : ZG} {D D' : ZD} {td pa pf : Nat → Nat} (h : CPo G D td pa pf) (f : Fr S G G') (e : ∀ j, 9 ≤ j ∧ j ≤ 19 → D' j = D j) : CPo G' D' td pa pf := by
  obtain ⟨h1, h2⟩ := h
  unfold CPo pcell chl prt
  rw [e 9 (by omega), e 10 (by omega), e 11 (by omega), e 12 (by omega), e 13 (by omega), e 14 (by omega), e 15 (by omega), e 16 (by omega), e 17 (by omega), e 18 (by omega), e 19 (by omega)]
  exact ⟨h1, fun i hi => ⟨f.hk (h2 i hi).1, f.hk (h2 i hi).2.1, fun q => f.hk ((h2 i hi).2.2 q)⟩⟩
theorem CIp.fr {S : List Nat} {G G' : ZG} {D D' : ZD} (h : CIp G D) (f : Fr S G G') (hs : 9 ∉ S) (e : ∀ j, 9 ≤ j ∧ j ≤ 19 → D' j = D j) : CIp G' D' := by
  obtain ⟨td, pa, pf, h1, h2⟩ := h
  exact ⟨td, pa, pf, by rw [e 9 (by omega)]; exact f.lst ⟨by omega, by omega⟩ hs h1, h2.fr f e⟩
theorem CIw.fr {S : List Nat} {G G' : ZG} {D D' : ZD} (h : CIw G D) (f : Fr S G G') (hs : 0 ∉ S) (e : D' 20 = D 20) : CIw G' D' := by
  intro v hv
  obtain ⟨a, h1, h2⟩ := h v hv
  rw [e]
  exact ⟨a, (f.r hs 3 v).trans h1, f.hk h2⟩
theorem CIk.fr {S : List Nat} {G G' : ZG} {D D' : ZD} (h : CIk G D) (f : Fr S G G') (hs : 0 ∉ S) (e1 : D' 21 = D 21) (e2 : D' 22 = D 22) : CIk G' D' := by
  refine ⟨?_, fun k k0 k1 => ?_⟩
  · rw [f.g hs, e1]; exact h.1
  · rw [f.g hs, e2]; exact h.2 k k0 k1
theorem CCo.fr {S : List Nat} {G G' : ZG} {D D' : ZD} {ka kb : Nat → Nat} (h : CCo G D ka kb) (f : Fr S G G') (hs : 16 ∉ S) (e : ∀ j, 21 ≤ j ∧ j ≤ 29 → D' j = D j) : CCo G' D' ka kb := by
  obtain ⟨h1, h2⟩ := h
  unfold CCo
  rw [e 21 (by omega), e 23 (by omega), e 24 (by omega), e 25 (by omega), e 26 (by omega), e 27 (by omega), e 28 (by omega), e 29 (by omega)]
  refine ⟨h1, fun i hi => ⟨?_, f.hk (h2 i hi).2⟩⟩
  obtain ⟨nm, th, g1, g2⟩ := (h2 i hi).1
  exact ⟨nm, th, f.2.2.2.2.1 hs _ _ g1 rfl, g2⟩
theorem CIc.fr {S : List Nat} {G G' : ZG} {D D' : ZD} (h : CIc G D) (f : Fr S G G') (hs : 10 ∉ S ∧ 16 ∉ S) (e : ∀ j, 21 ≤ j ∧ j ≤ 29 → D' j = D j) : CIc G' D' := by
  obtain ⟨ka, kb, h1, h2⟩ := h
  exact ⟨ka, kb, by rw [e 23 (by omega)]; exact f.lst ⟨by omega, by omega⟩ hs.1 h1, h2.fr f hs.2 e⟩
theorem CIr.fr {S : List Nat} {G G' : ZG} {D D' : ZD} (h : CIr G D) (f : Fr S G G') (hs : 0 ∉ S ∧ 1 ∉ S) (e : ∀ j, 47 ≤ j ∧ j ≤ 53 → D' j = D j) : CIr G' D' := by
  unfold CIr at *
  rw [e 47 (by omega), e 48 (by omega), e 49 (by omega), e 50 (by omega), e 51 (by omega), e 52 (by omega), e 53 (by omega), f.g hs.2, f.g hs.2, f.g hs.1]
  refine ⟨h.1, h.2.1, fun k k0 k1 => ?_, h.2.2.2.1, fun q n n0 n1 => ?_⟩
  · rw [f.g hs.2, f.g hs.2, f.g hs.2]; exact h.2.2.1 k k0 k1
  · rw [f.g hs.2]; exact h.2.2.2.2 q n n0 n1
