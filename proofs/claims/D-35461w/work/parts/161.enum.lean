set_option maxRecDepth 100000
abbrev rJ17_ordinal : Room := { frames := 1, cells := 0, slots := 0, locals := 12 }
def vJ17_ordinal (i0 : Nat) (Q : Int → Prop) : Prop := Q (i0 : Int)
set_option maxHeartbeats 4000000 in
theorem mJ17_ordinal (l : Launch) (P : ZP) (G : ZG) (i0 : Nat) (hi0 : i0 < 4) {Q : Int → Prop} (hV : vJ17_ordinal i0 Q) : Met l yJ17_ordinal (ws_ yJ17_ordinal cJ17_ordinal 1 (some .int)) rJ17_ordinal (zPc P G [.ref (zA P (20 + i0) 0 0)]) (zQi P (fun r G2 => G = G2 ∧ Q r)) 0 0 (zAr P) := by
  refine zMet RJ17 (by decide +kernel) rfl (zcs_c rfl zcs_0) (Nat.le_of_ble_eq_true rfl) (fun p e s m args below meth c ls hC hr hk hn hG hL => ?_)
  unfold vJ17_ordinal at hV
  refine z_aload_n hC zvr_a rfl (hL.at 0 rfl) dJ17_ordinal_0 ?_
  refine z_ordF hC hG hi0 q2351 dJ17_ordinal_1 ?_
  exact z_iret hC hG hr hk (⟨by omega, by omega⟩ : inR (i0 : Int)) ⟨rfl, hV⟩ (Nat.le_of_ble_eq_true rfl) (Nat.le_of_ble_eq_true rfl) dJ17_ordinal_4
abbrev rX18_goesOut : Room := { frames := 1, cells := 0, slots := 0, locals := 12 }
def vX18_goesOut (i0 : Nat) (p0 : Int) (p1 : Int) (Q : Int → Prop) : Prop := zjn (fun (z10_0 : Int) => Q z10_0) fun J10 => zbr (p1 ≤ p0) (J10 1) (J10 0)
set_option maxHeartbeats 4000000 in
theorem mX18_goesOut (l : Launch) (P : ZP) (G : ZG) (i0 : Nat) (hi0 : i0 < 4) (p0 : Int) (hp0 : inR p0) (p1 : Int) (hp1 : inR p1) {Q : Int → Prop} (hV : vX18_goesOut i0 p0 p1 Q) : zMetE l yX18_goesOut (ws_ yX18_goesOut cX18_goesOut 3 (some .int)) rX18_goesOut (zPc P G [.ref (zA P (20 + i0) 0 0), .int (zI p0), .int (zI p1)]) (zQi P (fun r G2 => G = G2 ∧ Q r)) 0 0 (zAr P) := by
  refine zMetE_of RX18 (plainFor_of_name (by decide)) rfl (zcs_c rfl (zcs_c rfl (zcs_c rfl zcs_0))) (Nat.le_of_ble_eq_true rfl) (fun p e s m args below meth c ls hC hr hk hn hG hL => ?_)
  unfold vX18_goesOut at hV
  refine z_iload_n hC rfl (hL.at 1 rfl) dX18_goesOut_0 ?_
  refine z_iload_n hC rfl (hL.at 2 rfl) dX18_goesOut_1 ?_
  obtain ⟨J10, eJ10, hV⟩ := zjn_abs hV
  have hJ10 : ∀ {H : Heap} {locs : List Loc}, zS P s G H locs → ∀ (z10_0 : Int), (z10_0 = 0 ∨ z10_0 = 1) → J10 z10_0 → ∀ (ls : Array Slot), zL ls 3 [] → W p l e rX18_goesOut s m args below meth c H locs 0 0 (MQ below (zQi P (fun r G2 => G = G2 ∧ Q r)) args s 0 0 (zAr P)) (F0 m 10 ls [.int (zI z10_0)]) := by
    intro H locs hG z10_0 hz10_0 hV ls hL
    rw [eJ10] at hV
    exact z_iret hC hG hr hk (inR_b hz10_0) ⟨rfl, hV⟩ (Nat.le_of_ble_eq_true rfl) (Nat.le_of_ble_eq_true rfl) dX18_goesOut_10
  refine z_icmp_ge (tgt := 9) hC hp0 hp1 hV dX18_goesOut_2 (by decide) ?_ ?_
  · intro hV
    refine z_iconst hC dX18_goesOut_9 ?_
    exact hJ10 hG 1 (Or.inr rfl) hV _ (hL.sub [] rfl)
  · intro hV
    refine z_iconst hC dX18_goesOut_5 ?_
    refine z_goto (tgt := 10) hC dX18_goesOut_6 (by decide) ?_
    exact hJ10 hG 0 (Or.inl rfl) hV _ (hL.sub [] rfl)
abbrev rX19_goesOut : Room := { frames := 1, cells := 0, slots := 0, locals := 12 }
def vX19_goesOut (i0 : Nat) (p0 : Int) (p1 : Int) (Q : Int → Prop) : Prop := zjn (fun (z10_0 : Int) => Q z10_0) fun J10 => zbr (p0 ≠ p1) (J10 1) (J10 0)
set_option maxHeartbeats 4000000 in
theorem mX19_goesOut (l : Launch) (P : ZP) (G : ZG) (i0 : Nat) (hi0 : i0 < 4) (p0 : Int) (hp0 : inR p0) (p1 : Int) (hp1 : inR p1) {Q : Int → Prop} (hV : vX19_goesOut i0 p0 p1 Q) : zMetE l yX19_goesOut (ws_ yX19_goesOut cX19_goesOut 3 (some .int)) rX19_goesOut (zPc P G [.ref (zA P (20 + i0) 0 0), .int (zI p0), .int (zI p1)]) (zQi P (fun r G2 => G = G2 ∧ Q r)) 0 0 (zAr P) := by
  refine zMetE_of RX19 (plainFor_of_name (by decide)) rfl (zcs_c rfl (zcs_c rfl (zcs_c rfl zcs_0))) (Nat.le_of_ble_eq_true rfl) (fun p e s m args below meth c ls hC hr hk hn hG hL => ?_)
  unfold vX19_goesOut at hV
  refine z_iload_n hC rfl (hL.at 1 rfl) dX19_goesOut_0 ?_
  refine z_iload_n hC rfl (hL.at 2 rfl) dX19_goesOut_1 ?_
  obtain ⟨J10, eJ10, hV⟩ := zjn_abs hV
  have hJ10 : ∀ {H : Heap} {locs : List Loc}, zS P s G H locs → ∀ (z10_0 : Int), (z10_0 = 0 ∨ z10_0 = 1) → J10 z10_0 → ∀ (ls : Array Slot), zL ls 3 [] → W p l e rX19_goesOut s m args below meth c H locs 0 0 (MQ below (zQi P (fun r G2 => G = G2 ∧ Q r)) args s 0 0 (zAr P)) (F0 m 10 ls [.int (zI z10_0)]) := by
    intro H locs hG z10_0 hz10_0 hV ls hL
    rw [eJ10] at hV
    exact z_iret hC hG hr hk (inR_b hz10_0) ⟨rfl, hV⟩ (Nat.le_of_ble_eq_true rfl) (Nat.le_of_ble_eq_true rfl) dX19_goesOut_10
  refine z_icmp_ne (tgt := 9) hC hp0 hp1 hV dX19_goesOut_2 (by decide) ?_ ?_
  · intro hV
    refine z_iconst hC dX19_goesOut_9 ?_
    exact hJ10 hG 1 (Or.inr rfl) hV _ (hL.sub [] rfl)
  · intro hV
    refine z_iconst hC dX19_goesOut_5 ?_
    refine z_goto (tgt := 10) hC dX19_goesOut_6 (by decide) ?_
    exact hJ10 hG 0 (Or.inl rfl) hV _ (hL.sub [] rfl)
abbrev rX20_goesOut : Room := { frames := 1, cells := 0, slots := 0, locals := 12 }
def vX20_goesOut (i0 : Nat) (p0 : Int) (p1 : Int) (Q : Int → Prop) : Prop := zjn (fun (z10_0 : Int) => Q z10_0) fun J10 => zbr (p0 ≤ p1) (J10 1) (J10 0)
set_option maxHeartbeats 4000000 in
theorem mX20_goesOut (l : Launch) (P : ZP) (G : ZG) (i0 : Nat) (hi0 : i0 < 4) (p0 : Int) (hp0 : inR p0) (p1 : Int) (hp1 : inR p1) {Q : Int → Prop} (hV : vX20_goesOut i0 p0 p1 Q) : zMetE l yX20_goesOut (ws_ yX20_goesOut cX20_goesOut 3 (some .int)) rX20_goesOut (zPc P G [.ref (zA P (20 + i0) 0 0), .int (zI p0), .int (zI p1)]) (zQi P (fun r G2 => G = G2 ∧ Q r)) 0 0 (zAr P) := by
  refine zMetE_of RX20 (plainFor_of_name (by decide)) rfl (zcs_c rfl (zcs_c rfl (zcs_c rfl zcs_0))) (Nat.le_of_ble_eq_true rfl) (fun p e s m args below meth c ls hC hr hk hn hG hL => ?_)
  unfold vX20_goesOut at hV
  refine z_iload_n hC rfl (hL.at 1 rfl) dX20_goesOut_0 ?_
  refine z_iload_n hC rfl (hL.at 2 rfl) dX20_goesOut_1 ?_
  obtain ⟨J10, eJ10, hV⟩ := zjn_abs hV
  have hJ10 : ∀ {H : Heap} {locs : List Loc}, zS P s G H locs → ∀ (z10_0 : Int), (z10_0 = 0 ∨ z10_0 = 1) → J10 z10_0 → ∀ (ls : Array Slot), zL ls 3 [] → W p l e rX20_goesOut s m args below meth c H locs 0 0 (MQ below (zQi P (fun r G2 => G = G2 ∧ Q r)) args s 0 0 (zAr P)) (F0 m 10 ls [.int (zI z10_0)]) := by
    intro H locs hG z10_0 hz10_0 hV ls hL
    rw [eJ10] at hV
    exact z_iret hC hG hr hk (inR_b hz10_0) ⟨rfl, hV⟩ (Nat.le_of_ble_eq_true rfl) (Nat.le_of_ble_eq_true rfl) dX20_goesOut_10
  refine z_icmp_le (tgt := 9) hC hp0 hp1 hV dX20_goesOut_2 (by decide) ?_ ?_
  · intro hV
    refine z_iconst hC dX20_goesOut_9 ?_
    exact hJ10 hG 1 (Or.inr rfl) hV _ (hL.sub [] rfl)
  · intro hV
    refine z_iconst hC dX20_goesOut_5 ?_
    refine z_goto (tgt := 10) hC dX20_goesOut_6 (by decide) ?_
    exact hJ10 hG 0 (Or.inl rfl) hV _ (hL.sub [] rfl)
abbrev rX21_goesOut : Room := { frames := 1, cells := 0, slots := 0, locals := 12 }
def vX21_goesOut (i0 : Nat) (p0 : Int) (p1 : Int) (Q : Int → Prop) : Prop := zjn (fun (z10_0 : Int) => Q z10_0) fun J10 => zbr (p0 ≠ p1) (J10 0) (J10 2)
set_option maxHeartbeats 4000000 in
theorem mX21_goesOut (l : Launch) (P : ZP) (G : ZG) (i0 : Nat) (hi0 : i0 < 4) (p0 : Int) (hp0 : inR p0) (p1 : Int) (hp1 : inR p1) {Q : Int → Prop} (hV : vX21_goesOut i0 p0 p1 Q) : zMetE l yX21_goesOut (ws_ yX21_goesOut cX21_goesOut 3 (some .int)) rX21_goesOut (zPc P G [.ref (zA P (20 + i0) 0 0), .int (zI p0), .int (zI p1)]) (zQi P (fun r G2 => G = G2 ∧ Q r)) 0 0 (zAr P) := by
  refine zMetE_of RX21 (plainFor_of_name (by decide)) rfl (zcs_c rfl (zcs_c rfl (zcs_c rfl zcs_0))) (Nat.le_of_ble_eq_true rfl) (fun p e s m args below meth c ls hC hr hk hn hG hL => ?_)
  unfold vX21_goesOut at hV
  refine z_iload_n hC rfl (hL.at 1 rfl) dX21_goesOut_0 ?_
  refine z_iload_n hC rfl (hL.at 2 rfl) dX21_goesOut_1 ?_
  obtain ⟨J10, eJ10, hV⟩ := zjn_abs hV
  have hJ10 : ∀ {H : Heap} {locs : List Loc}, zS P s G H locs → ∀ (z10_0 : Int), inR z10_0 → J10 z10_0 → ∀ (ls : Array Slot), zL ls 3 [] → W p l e rX21_goesOut s m args below meth c H locs 0 0 (MQ below (zQi P (fun r G2 => G = G2 ∧ Q r)) args s 0 0 (zAr P)) (F0 m 10 ls [.int (zI z10_0)]) := by
    intro H locs hG z10_0 hz10_0 hV ls hL
    rw [eJ10] at hV
    exact z_iret hC hG hr hk hz10_0 ⟨rfl, hV⟩ (Nat.le_of_ble_eq_true rfl) (Nat.le_of_ble_eq_true rfl) dX21_goesOut_10
  refine z_icmp_ne (tgt := 9) hC hp0 hp1 hV dX21_goesOut_2 (by decide) ?_ ?_
  · intro hV
    refine z_iconst hC dX21_goesOut_9 ?_
    exact hJ10 hG 0 (inR_lit rfl) hV _ (hL.sub [] rfl)
  · intro hV
    refine z_iconst hC dX21_goesOut_5 ?_
    refine z_goto (tgt := 10) hC dX21_goesOut_6 (by decide) ?_
    exact hJ10 hG 2 (inR_lit rfl) hV _ (hL.sub [] rfl)
