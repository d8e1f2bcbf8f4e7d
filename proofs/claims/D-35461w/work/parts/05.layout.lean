/-! LAYOUT: where the abstract state lies in the heap -/
set_option maxRecDepth 100000
abbrev ZP : Type := va_G × (Nat → ClassId) × (Nat → Nat → Nat → Nat) × Nat
def zA (P : ZP) (o j i : Nat) : Nat := P.2.2.1 o j i
def zB (P : ZP) : Nat := P.2.2.2
def zrv (P : ZP) (r : ZR) : Value := match r with | none => .null | some (.inl a) => .ref a | some (.inr o) => .ref (zA P o 0 0)
def zfv (P : ZP) (v : ZF) : Value := match v with | .inl x => .int (zI x) | .inr r => zrv P r
/-- classes by number -/
def cR (c : Nat) : String := match c with | 1 => RX1 | 2 => RJ2 | 3 => RX3 | 4 => RX4 | 5 => RX5 | 6 => RX6 | 7 => RX7 | 8 => RX8 | 9 => RX9 | 10 => RX10 | 11 => RX11 | 12 => RX12 | 13 => RX13 | 14 => RX14 | 15 => RX15 | _ => RX16
def TX8 : u_T := fun _ => ("", "", "", false)
def cT (c : Nat) : u_T := match c with | 1 => TX1 | 2 => TJ2 | 3 => TX3 | 4 => TX4 | 5 => TX5 | 6 => TX6 | 7 => TX7 | 8 => TX8 | 9 => TX9 | 10 => TX10 | 11 => TX11 | 12 => TX12 | 13 => TX13 | 14 => TX14 | 15 => TX15 | _ => TX16
def cN (c : Nat) : Nat := match c with | 1 => 12 | 2 => 3 | 3 => 10 | 4 => 25 | 5 => 4 | 6 => 69 | 7 => 4 | 8 => 0 | 9 => 7 | 10 => 2 | 11 => 2 | 12 => 3 | 13 => 2 | 14 => 2 | 15 => 2 | _ => 6
def aT (k : Nat) : FieldType := match k with | 0 => .int | 1 => .boolean | 2 => .long | 3 => .object "java/lang/Object" | 4 => .object "Patternforge$Pattern" | 5 => .array .int | _ => .object "Patternforge$Test"
/-- fixed objects: their classes -/
def tCls (o : Nat) : Nat := match o with | 0 => 1 | 1 => 3 | 2 => 4 | 3 => 4 | 4 => 5 | 5 => 6 | 6 => 90 | 7 => 2 | 8 => 2 | 9 => 2 | 10 => 2 | 11 => 2 | 12 => 2 | 13 => 2 | 14 => 2 | _ => 0
/-- a cast to a list: a fixed object -/
def zcaL (r : ZR) (c : Nat) (Q : Nat → Prop) : Prop := ∃ o, r = some (.inr o) ∧ tCls o = c ∧ Q o
/-- kinds of their fields: 0 an int, 1 an array of their own, 2 a reference, 3 + o the fixed object o -/
def tFk (c k : Nat) : Nat := match c, k with
  | 1, 0 => 10 | 1, 1 => 11 | 1, 2 => 12 | 1, 3 => 1 | 1, 4 => 1 | 1, 5 => 0 | 1, 6 => 13 | 1, 7 => 4 | 1, 8 => 5 | 1, 9 => 6 | 1, 10 => 7 | 1, _ => 0
  | 3, 0 => 1 | 3, 1 => 3 | 3, 2 => 1 | 3, 3 => 1 | 3, 4 => 1 | 3, 5 => 1 | 3, 6 => 0 | 3, 7 => 0 | 3, 8 => 0 | 3, _ => 3
  | 4, 0 => 1 | 4, 1 => 3 | 4, 2 => 0 | 4, 3 => 1 | 4, 4 => 1 | 4, 5 => 1 | 4, 6 => 1 | 4, 7 => 1 | 4, 8 => 1 | 4, 9 => 0 | 4, 10 => 0 | 4, 11 => 0 | 4, 12 => 1 | 4, 13 => 1 | 4, 14 => 1 | 4, 15 => 0 | 4, 16 => 0 | 4, 17 => 0 | 4, 18 => 0 | 4, 19 => 0 | 4, 20 => 1 | 4, 21 => 1 | 4, 22 => 1 | 4, 23 => 0 | 4, _ => 3
  | 5, 0 => 2 | 5, 1 => 0 | 5, 2 => 0 | 5, _ => 3
  | 6, 0 => 0 | 6, 4 => 0 | 6, 9 => 0 | 6, 21 => 0 | 6, 23 => 0 | 6, 34 => 0 | 6, 38 => 0 | 6, 40 => 0 | 6, 41 => 0 | 6, 42 => 0 | 6, 43 => 0 | 6, 44 => 0 | 6, 47 => 0 | 6, 48 => 0 | 6, 52 => 0 | 6, 54 => 0 | 6, 55 => 0 | 6, 56 => 0 | 6, 67 => 0 | 6, _ => 1
  | 2, 0 => 0 | 2, 1 => 2 | 2, _ => 0
  | 90, 0 => 1
  | _, _ => 0
/-- their arrays: 1 int, 2 boolean, 3 long, 4 int rows (references), 5 a grid of 10 columns, 6 the empty Object array, 7 the constants; and lengths -/
def tAk (c k : Nat) : Nat := match c, k with
  | 1, 3 => 4 | 1, 4 => 1
  | 3, 0 => 1 | 3, 2 => 1 | 3, 3 => 1 | 3, 4 => 1 | 3, 5 => 1
  | 4, 0 => 1 | 4, 3 => 1 | 4, 4 => 1 | 4, 5 => 1 | 4, 6 => 5 | 4, 7 => 1 | 4, 8 => 1 | 4, 12 => 1 | 4, 13 => 1 | 4, 14 => 1 | 4, 20 => 1 | 4, 21 => 1 | 4, 22 => 1
  | 6, 0 => 0 | 6, 4 => 0 | 6, 9 => 0 | 6, 18 => 2 | 6, 19 => 2 | 6, 21 => 0 | 6, 23 => 0 | 6, 34 => 0 | 6, 38 => 0 | 6, 40 => 0 | 6, 41 => 0 | 6, 42 => 0 | 6, 43 => 0 | 6, 44 => 0 | 6, 47 => 0 | 6, 48 => 0 | 6, 52 => 0 | 6, 54 => 0 | 6, 55 => 0 | 6, 56 => 0 | 6, 67 => 0
  | 6, 1 => 1 | 6, 2 => 1 | 6, 3 => 1 | 6, 5 => 1 | 6, 6 => 1 | 6, 7 => 1 | 6, 8 => 1 | 6, 10 => 1 | 6, 11 => 1 | 6, 12 => 1 | 6, 13 => 1 | 6, 14 => 1 | 6, 15 => 1 | 6, 16 => 1 | 6, 17 => 1 | 6, 20 => 1 | 6, 22 => 1 | 6, 24 => 1 | 6, 25 => 1 | 6, 26 => 1 | 6, 27 => 1 | 6, 28 => 1 | 6, 29 => 1 | 6, 30 => 1 | 6, 31 => 1 | 6, 32 => 1 | 6, 33 => 1 | 6, 35 => 1 | 6, 36 => 1 | 6, 37 => 1 | 6, 39 => 1 | 6, 45 => 1 | 6, 46 => 1 | 6, 49 => 1 | 6, 50 => 1 | 6, 51 => 1 | 6, 53 => 1 | 6, 57 => 1 | 6, 58 => 1 | 6, 59 => 1 | 6, 60 => 1 | 6, 61 => 1 | 6, 62 => 1 | 6, 63 => 1 | 6, 64 => 1 | 6, 65 => 1 | 6, 66 => 1 | 6, 68 => 1
  | 90, 0 => 3 | 91, 0 => 6 | 92, 0 => 7
  | _, _ => 0
def tAl (c k : Nat) : Nat := match c, k with
  | 1, 3 => 3 | 1, 4 => 3
  | 3, 0 => 6 | 3, 2 => 3 | 3, _ => 600
  | 4, 0 => 6 | 4, 3 => 500 | 4, 4 => 500 | 4, 5 => 500 | 4, 6 => 500 | 4, 7 => 500 | 4, 8 => 500 | 4, _ => 600
  | 6, 1 => 4 | 6, 2 => 16 | 6, 3 => 48 | 6, 5 => 40 | 6, 6 => 40 | 6, 7 => 120 | 6, 8 => 40 | 6, 10 => 60 | 6, 11 => 60 | 6, 12 => 60 | 6, 13 => 180 | 6, 14 => 60 | 6, 15 => 60 | 6, 16 => 60 | 6, 17 => 60 | 6, 18 => 60 | 6, 19 => 60 | 6, 20 => 12 | 6, 22 => 3 | 6, 24 => 24 | 6, 25 => 8 | 6, 26 => 8 | 6, 27 => 8 | 6, 28 => 8 | 6, 29 => 8 | 6, 30 => 256 | 6, 31 => 256 | 6, 32 => 256 | 6, 33 => 256 | 6, 35 => 64 | 6, 36 => 64 | 6, 37 => 64 | 6, 39 => 6 | 6, 45 => 8 | 6, 46 => 3 | 6, 49 => 1500 | 6, 50 => 1500 | 6, 51 => 1500 | 6, 53 => 6 | 6, 57 => 512 | 6, 58 => 512 | 6, 59 => 512 | 6, 60 => 512 | 6, 61 => 512 | 6, 62 => 512 | 6, 63 => 512 | 6, 64 => 512 | 6, 65 => 512 | 6, 66 => 512 | 6, _ => 256
  | 90, _ => 1 | 91, _ => 0 | 92, _ => 4
  | _, _ => 0
/-- what a cell holds: an array (its class, its length, its elements), an object (its class, its fields) -/
abbrev ZV : Type := (Nat × Nat × (Nat → Value)) ⊕ (Nat × (Nat → Value))
def zat (P : ZP) (a : Nat) (c : ZV) (H : Heap) : Prop := match c with
  | .inl (k, n, f) => H[a]? = some (arrV (P.2.1 k) n f)
  | .inr (c, V) => t_OB a (P.1.1 c) (cN c) (P.1.2 c) H V
def zfld (P : ZP) (G : ZG) (o k : Nat) : Value := match tFk (tCls o) k with
  | 0 => .int (zI (zsg G o k 0))
  | 1 => .ref (zA P o (k + 1) 0)
  | 2 => zrv P (zsr G o k 0)
  | n + 3 => .ref (zA P n 0 0)
def zfx (P : ZP) (G : ZG) (o j i : Nat) : ZV := match j, i with
  | 0, _ => .inr (tCls o, zfld P G o)
  | k + 1, 0 => .inl (match tAk (tCls o) k with
    | 1 => (0, tAl (tCls o) k, fun q => .int (zI (zsg G o k q)))
    | 2 => (1, tAl (tCls o) k, fun q => .int (zI (zsg G o k q)))
    | 3 => (2, tAl (tCls o) k, fun q => .long (Int64.ofInt (zsg G o k q)))
    | 4 => (5, tAl (tCls o) k, fun q => zrv P (zsr G o k q))
    | 5 => (5, tAl (tCls o) k, fun q => .ref (zA P o (k + 1) (q + 1)))
    | 6 => (3, tAl (tCls o) k, fun _ => .null)
    | _ => (6, tAl (tCls o) k, fun q => .ref (zA P (20 + q) 0 0)))
  | k + 1, r + 1 => .inl (0, 10, fun c => .int (zI (zsg G o k (10 * (r : Int) + (c : Int)))))
/-- the fixed cells that are there -/
def zvd (o j i : Nat) : Bool := match j, i with
  | 0, 0 => decide (1 ≤ tCls o) && decide (tCls o ≤ 16)
  | 0, _ + 1 => false
  | k + 1, 0 => decide (tAk (tCls o) k ≠ 0)
  | k + 1, r + 1 => decide (tAk (tCls o) k = 5) && decide (r < 500)
def zdx (P : ZP) (c : ZC) : ZV := match c with
  | .inl (0, l) => .inl (0, l.length, fun q => .int (zI (l.getD q 0)))
  | .inl (1, l) => .inl (1, l.length, fun q => .int (zI (l.getD q 0)))
  | .inl (_, l) => .inl (2, l.length, fun q => .long (Int64.ofInt (l.getD q 0)))
  | .inr (.inl (k, l)) => .inl (k, l.length, fun q => zrv P (l.getD q none))
  | .inr (.inr (c, fs)) => .inr (c, fun q => zfv P (fs.getD q (.inl 0)))
def zce (c : ZC) : Prop := match c with
  | .inl (_, l) => (∀ x ∈ l, inR x) ∧ l.length ≤ 100000000
  | .inr (.inl (k, l)) => 3 ≤ k ∧ k ≤ 6 ∧ l.length ≤ 100000000
  | .inr (.inr (c, fs)) => 1 ≤ c ∧ c ≤ 16 ∧ fs.length = cN c ∧ ∀ x, .inl x ∈ fs → inR x
/-- the heap holds the abstract state -/
def Rel (P : ZP) (G : ZG) (H : Heap) : Prop :=
  (∀ o j i, zvd o j i = true → zat P (zA P o j i) (zfx P G o j i) H) ∧
  (∀ a c, zsj G a = some c → zat P a (zdx P c) H ∧ zce c ∧ zB P ≤ a ∧ ∀ o j i, zvd o j i = true → zA P o j i ≠ a) ∧
  (∀ o k i, inR (zsg G o k i))
/-- the layout itself -/
def zPok (P : ZP) : Prop :=
  (∀ o j i o' j' i', zvd o j i = true → zvd o' j' i' = true → o < 16 → zA P o j i = zA P o' j' i' → o = o' ∧ j = j' ∧ i = i') ∧
  (∀ o j i, zvd o j i = true → o < 16 → zB P ≤ zA P o j i) ∧
  zA P 16 0 0 < zB P ∧ (∀ o, 20 ≤ o → o < 24 → zA P o 0 0 < zB P ∧ ∀ o', 20 ≤ o' → o' < 24 → zA P o 0 0 = zA P o' 0 0 → o = o')
def zen (i : Nat) : String := match i with | 0 => "LESS" | 1 => "SAME" | 2 => "MORE" | _ => "RAISES"
def zec (i : Nat) : String := match i with | 0 => "Patternforge$Test$1" | 1 => "Patternforge$Test$2" | 2 => "Patternforge$Test$3" | _ => "Patternforge$Test$4"
/-- the array of the constants -/
def zTv (P : ZP) (H : Heap) : Prop := ∃ cell : Cell, H[zA P 17 0 0]? = some cell ∧ cell.cls = P.2.1 6 ∧ (∀ k, cell.vm ≠ .statics k) ∧ cell.vm ≠ .unknown ∧ cell.slots = Array.ofFn (n := 4) (fun j => Value.ref (zA P (20 + j.val) 0 0)) ∧ ¬ zB P ≤ zA P 17 0 0
theorem zTv.kept {P : ZP} {H H1 : Heap} (h : zTv P H) (hq : ∀ a : Nat, a < H.size → ¬ zB P ≤ a → H1[a]? = H[a]?) : zTv P H1 := by
  obtain ⟨cell, h1, h2, h3, h4, h5, h6⟩ := h
  exact ⟨cell, (hq _ (Array.getElem?_eq_some_iff.mp h1).1 h6).trans h1, h2, h3, h4, h5, h6⟩
/-- statics and constants, that nobody writes -/
def zSt (P : ZP) (U : State) (H : Heap) : Prop :=
  (∀ i, i < 4 → va_Z "Patternforge$Test" (zen i) "LPatternforge$Test;" (.ref (zA P (20 + i) 0 0)) (fun q => zB P ≤ q) U H ∧ va_O (zec i) (zA P (20 + i) 0 0) (fun q => zB P ≤ q) U H ∧ va_OF "java/lang/Enum" "ordinal" "I" (.int (zI i)) (zA P (20 + i) 0 0) (fun q => zB P ≤ q) U H) ∧
  va_Mi "[Ljava/lang/Object;" (zA P 18 0 0) U ∧
  va_Z "java/util/ArrayList" "DEFAULTCAPACITY_EMPTY_ELEMENTDATA" "[Ljava/lang/Object;" (.ref (zA P 16 0 0)) (fun q => zB P ≤ q) U H ∧
  va_Z "Patternforge$Test" "$VALUES" "[LPatternforge$Test;" (.ref (zA P 17 0 0)) (fun q => zB P ≤ q) U H ∧
  vx_Zq Bundle.tN "UNASSIGNED_STACK" Bundle.steD (fun q => zB P ≤ q) U H ∧ vx_Zq Bundle.tN "SUPPRESSED_SENTINEL" Bundle.listD (fun q => zB P ≤ q) U H ∧
  va_T (.object "java/lang/Object") (zA P 16 0 0) 0 (fun _ => .null) (fun q => zB P ≤ q) U H ∧ zTv P H
theorem zSt.step {P : ZP} {s U : State} {H H1 : Heap} (h : zSt P s H) (hvm : s.vm.Alike U.vm) (hq : ∀ a : Nat, a < H.size → ¬ zB P ≤ a → H1[a]? = H[a]?) : zSt P U H1 := by
  obtain ⟨h1, h2, h3, h4, h5, h6, h7, h8⟩ := h
  exact ⟨fun i hi => ⟨((h1 i hi).1.moved hvm).kept hq, ((h1 i hi).2.1.moved hvm).kept hq, ((h1 i hi).2.2.moved hvm).kept hq⟩, h2.moved hvm, (h3.moved hvm).kept hq, (h4.moved hvm).kept hq, (h5.moved hvm).kept hq, (h6.moved hvm).kept hq, (h7.moved hvm).kept hq, h8.kept hq⟩
/-- words that do not ride in the lists -/
def znxOk : Cond → Bool
  | .fieldLinkNest .. => true
  | .methodLinkNest .. => true
  | .castable .. => true
  | .declares .. => true
  | .arrayOver (.object _) => true
  | .arrayOver (.array _) => true
  | w => w.onTables && w.keeps
theorem znx_warm {w : Cond} (hw : znxOk w = true) {s U : State} (hW : s.WarmedH U.vm) (h : va_Nw w s) : va_Nw w U := by
  cases w with
  | fieldLinkNest a i b n d hh => exact va_Nw.warmF hW h
  | methodLinkNest a i x hh => exact va_Nw.warmM hW h
  | castable C T => exact va_Nw.warmC hW h
  | declares x => exact va_Nw.warmD hW h
  | arrayOver t =>
    have h2 : (Cond.arrayOver t).before #[] (s.setVm U.vm) = true := by rw [Cond.arrayOver_setVmC hW.alike]; exact h
    exact h2
  | _ => exact word_at hW (Or.inl (by simpa [znxOk] using hw)) h
