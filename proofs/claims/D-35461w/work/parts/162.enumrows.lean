/-! calls on the constants -/
set_option maxRecDepth 100000
def zgo (r : ZR) (n t : Int) (Q : Int → Prop) : Prop := ∃ i : Nat, i < 4 ∧ r = some (.inr (20 + i)) ∧ Q (match i with | 0 => if n < t then 0 else 1 | 1 => if n = t then 0 else 1 | 2 => if t < n then 0 else 1 | _ => if n = t then 2 else 0)
section ZEN
variable {p : Program} {l : Launch} {e : Env} {R : Room} {s : State} {m : MethodId} {args : Array Value} {below : List Frame} {meth : Method} {c : Code} {H : Heap} {locs : List Loc} {cells slots : Nat} {Q : State → Prop}
variable {cc : ByteArray} {pc nL idx : Nat} {ls : Array Slot} {rest : List Value} {P : ZP} {G : ZG} {own : String}
theorem z_ord (hC : zCx P p m c cc nL s args own) (hG : zS P s G H locs) {r : ZR} {V : Int → Prop} (hV : zord r V)
    (h1 : zLU own idx "Patternforge$Test$1" "java/lang/Enum" ⟨"Patternforge$Test", "ordinal", "()I"⟩ yJ17_ordinal cJ17_ordinal 1 (some .int) 0) (h2 : zLU own idx "Patternforge$Test$2" "java/lang/Enum" ⟨"Patternforge$Test", "ordinal", "()I"⟩ yJ17_ordinal cJ17_ordinal 1 (some .int) 0) (h3 : zLU own idx "Patternforge$Test$3" "java/lang/Enum" ⟨"Patternforge$Test", "ordinal", "()I"⟩ yJ17_ordinal cJ17_ordinal 1 (some .int) 0) (h4 : zLU own idx "Patternforge$Test$4" "java/lang/Enum" ⟨"Patternforge$Test", "ordinal", "()I"⟩ yJ17_ordinal cJ17_ordinal 1 (some .int) 0) 
    (hR : 1 + 1 ≤ R.frames ∧ 8 + (3 + 11) + 12 ≤ R.locals) (hf : cells + 0 ≤ R.cells ∧ slots + 0 ≤ R.slots) (hrest : zsum rest) (hsz : ls.size = nL) (hd : decode cc pc = .ok (.invokevirtual idx, 3))
    (kk : ∀ x H1 locs1, inR x → V x → zS P s G H1 locs1 → W p l e R s m args below meth c H1 locs1 cells slots Q (F0 m (pc + 3) ls (.int (zI x) :: rest))) : W p l e R s m args below meth c H locs cells slots Q (F0 m pc ls (zrv P r :: rest)) := by
  obtain ⟨i, hi, rfl, hV⟩ := hV
  have hO := va_Orecv (hC.2.2.2.2.2.2.1 i hi).2.1 hG.2
  have hM := mJ17_ordinal l P G i hi (Q := fun x => x = i) rfl
  have hR2 : zRm R rJ17_ordinal 1 := ⟨hR.1, by have := hR.2; show 8 + (1 + 11) + 12 ≤ _; omega⟩
  have fin : va_Run p l e R s m args below meth c H locs cells slots 0 0 (F0 m pc ls (zrv P (some (.inr (20 + i))) :: rest)) rest (zQi P (fun r G2 => G = G2 ∧ r = (i : Int)) [Value.ref (zA P (20 + i) 0 0)].toArray) (zAr P) → W p l e R s m args below meth c H locs cells slots Q (F0 m pc ls (zrv P (some (.inr (20 + i))) :: rest)) := by
    intro hr
    refine z_call_i hG hr ?_
    rintro x _ H1 locs1 hx ⟨rfl, rfl⟩ hG1
    exact kk _ H1 locs1 hx hV hG1
  rcases (show i = 0 ∨ i = 1 ∨ i = 2 ∨ i = 3 by omega) with rfl | rfl | rfl | rfl
  · exact fin (zrunU hC hG hO hM h1 rfl rfl rfl hR2 hf rfl hrest hsz hd)
  · exact fin (zrunU hC hG hO hM h2 rfl rfl rfl hR2 hf rfl hrest hsz hd)
  · exact fin (zrunU hC hG hO hM h3 rfl rfl rfl hR2 hf rfl hrest hsz hd)
  · exact fin (zrunU hC hG hO hM h4 rfl rfl rfl hR2 hf rfl hrest hsz hd)
theorem z_goes (hC : zCx P p m c cc nL s args own) (hG : zS P s G H locs) {r : ZR} {n t : Int} {V : Int → Prop} (hV : zgo r n t V) (hn : inR n) (ht : inR t) (hl : Cond.methodLink own idx ⟨"Patternforge$Test", "goesOut", "(II)I"⟩ ∈ lw_all)
    (hR : 1 + 1 ≤ R.frames ∧ 8 + (3 + 11) + 12 ≤ R.locals) (hf : cells + 0 ≤ R.cells ∧ slots + 0 ≤ R.slots) (hrest : zsum rest) (hsz : ls.size = nL) (hd : decode cc pc = .ok (.invokevirtual idx, 3))
    (kk : ∀ x H1 locs1, inR x → V x → zS P s G H1 locs1 → W p l e R s m args below meth c H1 locs1 cells slots Q (F0 m (pc + 3) ls (.int (zI x) :: rest))) : W p l e R s m args below meth c H locs cells slots Q (F0 m pc ls (.int (zI t) :: .int (zI n) :: zrv P r :: rest)) := by
  obtain ⟨i, hi, rfl, hV⟩ := hV
  have hO := va_Orecv (hC.2.2.2.2.2.2.1 i hi).2.1 hG.2
  have hd0 : "Patternforge$Test" ≠ "java/lang/invoke/MethodHandle" ∧ "Patternforge$Test" ≠ "java/lang/invoke/VarHandle" ∧ (parseMethodDescriptor "(II)I").map (fun d => d.parameters.length) = some 2 := ⟨by decide +kernel, by decide +kernel, by decide +kernel⟩
  have fin : ∀ v : Int, V v → va_Run p l e R s m args below meth c H locs cells slots 0 0 (F0 m pc ls (.int (zI t) :: .int (zI n) :: zrv P (some (.inr (20 + i))) :: rest)) rest (zQi P (fun r G2 => G = G2 ∧ r = v) [Value.ref (zA P (20 + i) 0 0), .int (zI n), .int (zI t)].toArray) (zAr P) → W p l e R s m args below meth c H locs cells slots Q (F0 m pc ls (.int (zI t) :: .int (zI n) :: zrv P (some (.inr (20 + i))) :: rest)) := by
    intro v hv hr
    refine z_call_i hG hr ?_
    rintro x _ H1 locs1 hx ⟨rfl, rfl⟩ hG1
    exact kk _ H1 locs1 hx hv hG1
  rcases (show i = 0 ∨ i = 1 ∨ i = 2 ∨ i = 3 by omega) with rfl | rfl | rfl | rfl
  · have hM := mX18_goesOut l P G 0 hi n hn t ht (Q := fun x => x = (if n < t then 0 else 1)) (by
      unfold vX18_goesOut zjn zbr
      split <;> constructor <;> intro h <;> omega)
    exact fin _ hV (zrunE (x := ⟨"Patternforge$Test", "goesOut", "(II)I"⟩) (av := [.int (zI n), .int (zI t)]) hC hG hO hM hl q1644 xq1643 q1645 q1646 q1647 hd0 rfl rfl rfl hR hf rfl hrest hsz hd)
  · have hM := mX19_goesOut l P G 1 hi n hn t ht (Q := fun x => x = (if n = t then 0 else 1)) (by
      unfold vX19_goesOut zjn zbr
      split <;> constructor <;> intro h <;> omega)
    exact fin _ hV (zrunE (x := ⟨"Patternforge$Test", "goesOut", "(II)I"⟩) (av := [.int (zI n), .int (zI t)]) hC hG hO hM hl q1644 xq1643 q1648 q1649 q1650 hd0 rfl rfl rfl hR hf rfl hrest hsz hd)
  · have hM := mX20_goesOut l P G 2 hi n hn t ht (Q := fun x => x = (if t < n then 0 else 1)) (by
      unfold vX20_goesOut zjn zbr
      split <;> constructor <;> intro h <;> omega)
    exact fin _ hV (zrunE (x := ⟨"Patternforge$Test", "goesOut", "(II)I"⟩) (av := [.int (zI n), .int (zI t)]) hC hG hO hM hl q1644 xq1643 q1651 q1652 q1653 hd0 rfl rfl rfl hR hf rfl hrest hsz hd)
  · have hM := mX21_goesOut l P G 3 hi n hn t ht (Q := fun x => x = (if n = t then 2 else 0)) (by
      unfold vX21_goesOut zjn zbr
      split <;> constructor <;> intro h <;> omega)
    exact fin _ hV (zrunE (x := ⟨"Patternforge$Test", "goesOut", "(II)I"⟩) (av := [.int (zI n), .int (zI t)]) hC hG hO hM hl q1644 xq1643 q1654 q1655 q1656 hd0 rfl rfl rfl hR hf rfl hrest hsz hd)
end ZEN
