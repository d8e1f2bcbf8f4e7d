set_option maxRecDepth 100000
abbrev rX6_thrown : Room := { frames := 1, cells := 0, slots := 0, locals := 12 }
def vX6_thrown (G : ZG) (Q : Int → Prop) : Prop := zgF G 5 0 fun (x1 : Int) => Q x1
set_option maxHeartbeats 4000000 in
theorem mX6_thrown (l : Launch) (P : ZP) (G : ZG) {Q : Int → Prop} (hV : vX6_thrown G Q) : Met l yX6_thrown (ws_ yX6_thrown cX6_thrown 1 (some .int)) rX6_thrown (zPc P G [.ref (zA P 5 0 0)]) (zQi P (fun r G2 => G = G2 ∧ Q r)) 0 0 (zAr P) := by
  refine zMet RX6 (plainFor_of_name (by decide)) rfl (zcs_c rfl zcs_0) (Nat.le_of_ble_eq_true rfl) (fun p e s m args below meth c ls hC hr hk hn hG hL => ?_)
  unfold vX6_thrown at hV
  refine z_aload_n hC zvr_a rfl (hL.at 0 rfl) dX6_thrown_0 ?_
  refine z_getF hC hG kFX6_168_6 rfl rfl hV dX6_thrown_1 ?_
  intro x1 hx1 hV
  exact z_iret hC hG hr hk hx1 ⟨rfl, hV⟩ (Nat.le_of_ble_eq_true rfl) (Nat.le_of_ble_eq_true rfl) dX6_thrown_4
abbrev rX6_in : Room := { frames := 1, cells := 0, slots := 0, locals := 12 }
def vX6_in (p0 : Int) (p1 : Int) (p2 : Int) (Q : Int → Prop) : Prop := zjn (fun (z15_0 : Int) => Q z15_0) fun J15 => zjn (fun (_ : Unit) => J15 0) fun J14 => zbr (p0 < p1) (J14 ()) (zbr (p2 < p0) (J14 ()) (J15 1))
set_option maxHeartbeats 4000000 in
theorem mX6_in (l : Launch) (P : ZP) (G : ZG) (p0 : Int) (hp0 : inR p0) (p1 : Int) (hp1 : inR p1) (p2 : Int) (hp2 : inR p2) {Q : Int → Prop} (hV : vX6_in p0 p1 p2 Q) : Met l yX6_in (ws_ yX6_in cX6_in 3 (some .boolean)) rX6_in (zPc P G [.int (zI p0), .int (zI p1), .int (zI p2)]) (zQz P (fun r G2 => G = G2 ∧ Q r)) 0 0 (zAr P) := by
  refine zMet RX6 (plainFor_of_name (by decide)) rfl (zcs_c rfl (zcs_c rfl (zcs_c rfl zcs_0))) (Nat.le_of_ble_eq_true rfl) (fun p e s m args below meth c ls hC hr hk hn hG hL => ?_)
  unfold vX6_in at hV
  refine z_iload_n hC rfl (hL.at 0 rfl) dX6_in_0 ?_
  refine z_iload_n hC rfl (hL.at 1 rfl) dX6_in_1 ?_
  obtain ⟨J15, eJ15, hV⟩ := zjn_abs hV
  have hJ15 : ∀ {H : Heap} {locs : List Loc}, zS P s G H locs → ∀ (z15_0 : Int), (z15_0 = 0 ∨ z15_0 = 1) → J15 z15_0 → ∀ (ls : Array Slot), zL ls 3 [] → W p l e rX6_in s m args below meth c H locs 0 0 (MQ below (zQz P (fun r G2 => G = G2 ∧ Q r)) args s 0 0 (zAr P)) (F0 m 15 ls [.int (zI z15_0)]) := by
    intro H locs hG z15_0 hz15_0 hV ls hL
    rw [eJ15] at hV
    exact z_zret hC hG hr hk hz15_0 ⟨rfl, hV⟩ (Nat.le_of_ble_eq_true rfl) (Nat.le_of_ble_eq_true rfl) dX6_in_15
  obtain ⟨J14, eJ14, hV⟩ := zjn_abs hV
  have hJ14 : ∀ {H : Heap} {locs : List Loc}, zS P s G H locs → J14 () → ∀ (ls : Array Slot), zL ls 3 [] → W p l e rX6_in s m args below meth c H locs 0 0 (MQ below (zQz P (fun r G2 => G = G2 ∧ Q r)) args s 0 0 (zAr P)) (F0 m 14 ls []) := by
    intro H locs hG hV ls hL
    rw [eJ14] at hV
    refine z_iconst hC dX6_in_14 ?_
    exact hJ15 hG 0 (Or.inl rfl) hV _ hL
  refine z_icmp_lt (tgt := 14) hC hp0 hp1 hV dX6_in_2 (by decide) ?_ ?_
  · intro hV
    exact hJ14 hG hV _ (hL.sub [] rfl)
  · intro hV
    refine z_iload_n hC rfl (hL.at 0 rfl) dX6_in_5 ?_
    refine z_iload_n hC rfl (hL.at 2 rfl) dX6_in_6 ?_
    refine z_icmp_gt (tgt := 14) hC hp0 hp2 hV dX6_in_7 (by decide) ?_ ?_
    · intro hV
      exact hJ14 hG hV _ (hL.sub [] rfl)
    · intro hV
      refine z_iconst hC dX6_in_10 ?_
      refine z_goto (tgt := 15) hC dX6_in_11 (by decide) ?_
      exact hJ15 hG 1 (Or.inr rfl) hV _ (hL.sub [] rfl)
abbrev rX6_pick : Room := { frames := 1, cells := 0, slots := 0, locals := 12 }
def vX6_pick (p0 : Int) (p1 : Int) (p2 : Int) (p3 : Int) (Q : Int → Prop) : Prop := zjn (fun (z18_0 : Int) => Q z18_0) fun J18 => zbr (p3 ≠ 0) (zbr (p3 ≠ 1) (J18 p2) (J18 p1)) (J18 p0)
set_option maxHeartbeats 4000000 in
theorem mX6_pick (l : Launch) (P : ZP) (G : ZG) (p0 : Int) (hp0 : inR p0) (p1 : Int) (hp1 : inR p1) (p2 : Int) (hp2 : inR p2) (p3 : Int) (hp3 : inR p3) {Q : Int → Prop} (hV : vX6_pick p0 p1 p2 p3 Q) : Met l yX6_pick (ws_ yX6_pick cX6_pick 4 (some .int)) rX6_pick (zPc P G [.int (zI p0), .int (zI p1), .int (zI p2), .int (zI p3)]) (zQi P (fun r G2 => G = G2 ∧ Q r)) 0 0 (zAr P) := by
  refine zMet RX6 (plainFor_of_name (by decide)) rfl (zcs_c rfl (zcs_c rfl (zcs_c rfl (zcs_c rfl zcs_0)))) (Nat.le_of_ble_eq_true rfl) (fun p e s m args below meth c ls hC hr hk hn hG hL => ?_)
  unfold vX6_pick at hV
  refine z_iload_n hC rfl (hL.at 3 rfl) dX6_pick_0 ?_
  obtain ⟨J18, eJ18, hV⟩ := zjn_abs hV
  have hJ18 : ∀ {H : Heap} {locs : List Loc}, zS P s G H locs → ∀ (z18_0 : Int), inR z18_0 → J18 z18_0 → ∀ (ls : Array Slot), zL ls 4 [] → W p l e rX6_pick s m args below meth c H locs 0 0 (MQ below (zQi P (fun r G2 => G = G2 ∧ Q r)) args s 0 0 (zAr P)) (F0 m 18 ls [.int (zI z18_0)]) := by
    intro H locs hG z18_0 hz18_0 hV ls hL
    rw [eJ18] at hV
    exact z_iret hC hG hr hk hz18_0 ⟨rfl, hV⟩ (Nat.le_of_ble_eq_true rfl) (Nat.le_of_ble_eq_true rfl) dX6_pick_18
  refine z_if_ne (tgt := 8) hC hp3 hV dX6_pick_1 (by decide) ?_ ?_
  · intro hV
    refine z_iload_n hC rfl (hL.at 3 rfl) dX6_pick_8 ?_
    refine z_iconst hC dX6_pick_9 ?_
    refine z_icmp_ne (tgt := 17) hC hp3 (inR_lit rfl) hV dX6_pick_10 (by decide) ?_ ?_
    · intro hV
      refine z_iload_n hC rfl (hL.at 2 rfl) dX6_pick_17 ?_
      exact hJ18 hG p2 hp2 hV _ (hL.sub [] rfl)
    · intro hV
      refine z_iload_n hC rfl (hL.at 1 rfl) dX6_pick_13 ?_
      refine z_goto (tgt := 18) hC dX6_pick_14 (by decide) ?_
      exact hJ18 hG p1 hp1 hV _ (hL.sub [] rfl)
  · intro hV
    refine z_iload_n hC rfl (hL.at 0 rfl) dX6_pick_4 ?_
    refine z_goto (tgt := 18) hC dX6_pick_5 (by decide) ?_
    exact hJ18 hG p0 hp0 hV _ (hL.sub [] rfl)
abbrev rX6_isKind : Room := { frames := 2, cells := 0, slots := 0, locals := 34 }
def vX6_isKind (p0 : Int) (Q : Int → Prop) : Prop := vX6_in p0 0 5 fun (x1 : Int) => Q x1
set_option maxHeartbeats 4000000 in
theorem mX6_isKind (l : Launch) (P : ZP) (G : ZG) (p0 : Int) (hp0 : inR p0) {Q : Int → Prop} (hV : vX6_isKind p0 Q) : Met l yX6_isKind (ws_ yX6_isKind cX6_isKind 1 (some .boolean)) rX6_isKind (zPc P G [.int (zI p0)]) (zQz P (fun r G2 => G = G2 ∧ Q r)) 0 0 (zAr P) := by
  refine zMet RX6 (plainFor_of_name (by decide)) rfl (zcs_c rfl zcs_0) (Nat.le_of_ble_eq_true rfl) (fun p e s m args below meth c ls hC hr hk hn hG hL => ?_)
  unfold vX6_isKind at hV
  refine z_iload_n hC rfl (hL.at 0 rfl) dX6_isKind_0 ?_
  refine z_iconst hC dX6_isKind_1 ?_
  refine z_iconst hC dX6_isKind_2 ?_
  refine z_call_z hG (zrunS hC hG (mX6_in l P G p0 hp0 0 (inR_lit rfl) 5 (inR_lit rfl) hV) kSX6_171 rfl rfl rfl ⟨(Nat.le_of_ble_eq_true rfl), (Nat.le_of_ble_eq_true rfl)⟩ ⟨(Nat.le_of_ble_eq_true rfl), (Nat.le_of_ble_eq_true rfl)⟩ rfl ⟨zcs_0, (Nat.le_of_ble_eq_true rfl)⟩ hL.1.1 dX6_isKind_3) ?_
  rintro x1 _ _ _ hx1 ⟨rfl, hV⟩ hG
  exact z_zret hC hG hr hk hx1 ⟨rfl, hV⟩ (Nat.le_of_ble_eq_true rfl) (Nat.le_of_ble_eq_true rfl) dX6_isKind_6
abbrev rX6_refused : Room := { frames := 1, cells := 0, slots := 0, locals := 12 }
def vX6_refused (p0 : Int) (G : ZG) (Q : Int → ZG → Prop) : Prop := zpF G 5 0 p0 fun (G1 : ZG) => zjn (fun (z14_0 : Int) => Q z14_0 G1) fun J14 => zbr (p0 = 0) (J14 0) (J14 1)
set_option maxHeartbeats 4000000 in
theorem mX6_refused (l : Launch) (P : ZP) (G : ZG) (p0 : Int) (hp0 : inR p0) {Q : Int → ZG → Prop} (hV : vX6_refused p0 G Q) : Met l yX6_refused (ws_ yX6_refused cX6_refused 2 (some .boolean)) rX6_refused (zPc P G [.ref (zA P 5 0 0), .int (zI p0)]) (zQz P Q) 0 0 (zAr P) := by
  refine zMet RX6 (plainFor_of_name (by decide)) rfl (zcs_c rfl (zcs_c rfl zcs_0)) (Nat.le_of_ble_eq_true rfl) (fun p e s m args below meth c ls hC hr hk hn hG hL => ?_)
  unfold vX6_refused at hV
  refine z_aload_n hC zvr_a rfl (hL.at 0 rfl) dX6_refused_0 ?_
  refine z_iload_n hC rfl (hL.at 1 rfl) dX6_refused_1 ?_
  refine z_putF hC hG kFX6_168_6 rfl rfl rfl rfl nk_6_0 hp0 (Or.inl rfl) hV dX6_refused_2 ?_
  intro G1 _ _ hG hV
  refine z_iload_n hC rfl (hL.at 1 rfl) dX6_refused_5 ?_
  obtain ⟨J14, eJ14, hV⟩ := zjn_abs hV
  have hJ14 : ∀ {H : Heap} {locs : List Loc}, zS P s G1 H locs → ∀ (z14_0 : Int), (z14_0 = 0 ∨ z14_0 = 1) → J14 z14_0 → ∀ (ls : Array Slot), zL ls 2 [] → W p l e rX6_refused s m args below meth c H locs 0 0 (MQ below (zQz P Q) args s 0 0 (zAr P)) (F0 m 14 ls [.int (zI z14_0)]) := by
    intro H locs hG z14_0 hz14_0 hV ls hL
    rw [eJ14] at hV
    exact z_zret hC hG hr hk hz14_0 hV (Nat.le_of_ble_eq_true rfl) (Nat.le_of_ble_eq_true rfl) dX6_refused_14
  refine z_if_eq (tgt := 13) hC hp0 hV dX6_refused_6 (by decide) ?_ ?_
  · intro hV
    refine z_iconst hC dX6_refused_13 ?_
    exact hJ14 hG 0 (Or.inl rfl) hV _ (hL.sub [] rfl)
  · intro hV
    refine z_iconst hC dX6_refused_9 ?_
    refine z_goto (tgt := 14) hC dX6_refused_10 (by decide) ?_
    exact hJ14 hG 1 (Or.inr rfl) hV _ (hL.sub [] rfl)
abbrev rX6_constructor : Room := { frames := 3, cells := 0, slots := 0, locals := 54 }
def vX6_constructor (p0 : Int) (p1 : Int) (p2 : Int) (p3 : Int) (p4 : Int) (G : ZG) (Q : Int → ZG → Prop) : Prop := vX6_in p1 0 3 fun (x1 : Int) => zl2 (fun (P11 : Int → Int → Prop) (a11_6 : Int) (a11_7 : Int) => zbr (3 ≤ a11_7) (vX6_in p0 0 3 fun (x2 : Int) => zjn (fun (z107_1 : Int) => vX6_refused z107_1 G fun (x3 : Int) (G1 : ZG) => zbr (x3 = 0) (zaL G1 5 1 4 p0 fun (x4 : Int) => zlt1 (w32 ((w32 (4 * p0)) + x4)) fun (x5 : Int) => zaS G1 5 2 16 x5 p1 fun (G2 : ZG) => zl2 (fun (P138 : Int → ZG → Prop) (a138_8 : Int) (K138 : ZG) => zbr (3 ≤ a138_8) (zaL K138 5 1 4 p0 fun (x6 : Int) => zaS K138 5 1 4 p0 (w32 (x6 + 1)) fun (G3 : ZG) => zpF G3 5 54 (-1) fun (G4 : ZG) => zaL G4 5 1 4 p0 fun (x7 : Int) => Q (w32 (x7 - 1)) G4) (vX6_pick p2 p3 p4 a138_8 fun (x8 : Int) => zaS K138 5 3 48 (w32 ((w32 (3 * x5)) + a138_8)) x8 fun (G5 : ZG) => zlt1 (w32 (a138_8 + 1)) fun (x9 : Int) => P138 x9 G5)) 0 G2) (Q 0 G1)) fun J107 => zbr (x2 ≠ 0) (zbr (a11_6 ≠ 0) (zaL G 5 1 4 p0 fun (x10 : Int) => zbr (x10 ≠ 4) (J107 0) (J107 3)) (J107 2)) (J107 1)) (vX6_pick p2 p3 p4 a11_7 fun (x11 : Int) => zjn (fun (z61_0 : Int) => zlt1 (w32 (a11_7 + 1)) fun (x12 : Int) => P11 z61_0 x12) fun J61 => zjn (fun (_ : Unit) => J61 0) fun J60 => zbr (a11_6 = 0) (J60 ()) (zjn (fun (_ : Unit) => J61 1) fun J56 => zbr (p1 ≤ a11_7) (zbr (x11 ≠ 0) (J60 ()) (J56 ())) (vX6_isKind x11 fun (x13 : Int) => zbr (x13 = 0) (J60 ()) (J56 ()))))) x1 0
set_option maxHeartbeats 4000000 in
theorem mX6_constructor (l : Launch) (P : ZP) (G : ZG) (p0 : Int) (hp0 : inR p0) (p1 : Int) (hp1 : inR p1) (p2 : Int) (hp2 : inR p2) (p3 : Int) (hp3 : inR p3) (p4 : Int) (hp4 : inR p4) {Q : Int → ZG → Prop} (hV : vX6_constructor p0 p1 p2 p3 p4 G Q) : Met l yX6_constructor (ws_ yX6_constructor cX6_constructor 9 (some .int)) rX6_constructor (zPc P G [.ref (zA P 5 0 0), .int (zI p0), .int (zI p1), .int (zI p2), .int (zI p3), .int (zI p4)]) (zQi P Q) 0 0 (zAr P) := by
  refine zMet RX6 (plainFor_of_name (by decide)) rfl (zcs_c rfl (zcs_c rfl (zcs_c rfl (zcs_c rfl (zcs_c rfl (zcs_c rfl zcs_0)))))) (Nat.le_of_ble_eq_true rfl) (fun p e s m args below meth c ls hC hr hk hn hG hL => ?_)
  unfold vX6_constructor at hV
  refine z_iload_n hC rfl (hL.at 2 rfl) dX6_constructor_0 ?_
  refine z_iconst hC dX6_constructor_1 ?_
  refine z_iconst hC dX6_constructor_2 ?_
  refine z_call_z hG (zrunS hC hG (mX6_in l P G p1 hp1 0 (inR_lit rfl) 3 (inR_lit rfl) hV) kSX6_171 rfl rfl rfl ⟨(Nat.le_of_ble_eq_true rfl), (Nat.le_of_ble_eq_true rfl)⟩ ⟨(Nat.le_of_ble_eq_true rfl), (Nat.le_of_ble_eq_true rfl)⟩ rfl ⟨zcs_0, (Nat.le_of_ble_eq_true rfl)⟩ hL.1.1 dX6_constructor_3) ?_
  rintro x1 _ _ _ hx1 ⟨rfl, hV⟩ hG
  refine z_istore (lv' := [(6, .int (zI x1)), (0, .ref (zA P 5 0 0)), (1, .int (zI p0)), (2, .int (zI p1)), (3, .int (zI p2)), (4, .int (zI p3)), (5, .int (zI p4))]) hC hL (by decide) rfl dX6_constructor_6 (fun ls hL => ?_)
  refine z_iconst hC dX6_constructor_8 ?_
  refine z_istore (lv' := [(7, .int (zI 0)), (6, .int (zI x1)), (0, .ref (zA P 5 0 0)), (1, .int (zI p0)), (2, .int (zI p1)), (3, .int (zI p2)), (4, .int (zI p3)), (5, .int (zI p4))]) hC hL (by decide) rfl dX6_constructor_9 (fun ls hL => ?_)
  refine zl2_use hV (fun (a11_6 : Int) (a11_7 : Int) => (a11_6 = 0 ∨ a11_6 = 1) → inR a11_7 → ∀ (H : Heap) (locs : List Loc), zS P s G H locs → ∀ (ls : Array Slot), zL ls 9 [(0, .ref (zA P 5 0 0)), (1, .int (zI p0)), (2, .int (zI p1)), (3, .int (zI p2)), (4, .int (zI p3)), (5, .int (zI p4)), (6, .int (zI a11_6)), (7, .int (zI a11_7))] → W p l e rX6_constructor s m args below meth c H locs 0 0 (MQ below (zQi P Q) args s 0 0 (zAr P)) (F0 m 11 ls [])) ?_ hx1 (inR_lit rfl) _ _ hG _ (hL.sub [2, 3, 4, 5, 6, 7, 1, 0] rfl)
  intro P11 a11_6 a11_7 hP11 hV ha11_6 ha11_7 H locs hG ls hL
  refine z_iload hC (hL.at 7 rfl) dX6_constructor_11 ?_
  refine z_iconst hC dX6_constructor_13 ?_
  refine z_icmp_ge (tgt := 69) hC ha11_7 (inR_lit rfl) hV dX6_constructor_14 (by decide) ?_ ?_
  · intro hV
    refine z_aload_n hC zvr_a rfl (hL.at 0 rfl) dX6_constructor_69 ?_
    refine z_iload_n hC rfl (hL.at 1 rfl) dX6_constructor_70 ?_
    refine z_iconst hC dX6_constructor_71 ?_
    refine z_iconst hC dX6_constructor_72 ?_
    refine z_call_z hG (zrunS hC hG (mX6_in l P G p0 hp0 0 (inR_lit rfl) 3 (inR_lit rfl) hV) kSX6_171 rfl rfl rfl ⟨(Nat.le_of_ble_eq_true rfl), (Nat.le_of_ble_eq_true rfl)⟩ ⟨(Nat.le_of_ble_eq_true rfl), (Nat.le_of_ble_eq_true rfl)⟩ rfl ⟨(zcs_c rfl zcs_0), (Nat.le_of_ble_eq_true rfl)⟩ hL.1.1 dX6_constructor_73) ?_
    rintro x2 _ _ _ hx2 ⟨rfl, hV⟩ hG
    obtain ⟨J107, eJ107, hV⟩ := zjn_abs hV
    have hJ107 : ∀ {H : Heap} {locs : List Loc}, zS P s G H locs → ∀ (z107_1 : Int), inR z107_1 → J107 z107_1 → ∀ (ls : Array Slot), zL ls 9 [(0, .ref (zA P 5 0 0)), (1, .int (zI p0)), (2, .int (zI p1)), (3, .int (zI p2)), (4, .int (zI p3)), (5, .int (zI p4))] → W p l e rX6_constructor s m args below meth c H locs 0 0 (MQ below (zQi P Q) args s 0 0 (zAr P)) (F0 m 107 ls [.int (zI z107_1), .ref (zA P 5 0 0)]) := by
      intro H locs hG z107_1 hz107_1 hV ls hL
      rw [eJ107] at hV
      refine z_call_z hG (zrunV (ci := 6) hC hG (Nat.le_of_ble_eq_true rfl) (Nat.le_of_ble_eq_true rfl) (zobj hG rfl (Nat.le_of_ble_eq_true rfl) (Nat.le_of_ble_eq_true rfl)) (mX6_refused l P G z107_1 hz107_1 hV) kVX6_183 rfl rfl rfl ⟨(Nat.le_of_ble_eq_true rfl), (Nat.le_of_ble_eq_true rfl)⟩ ⟨(Nat.le_of_ble_eq_true rfl), (Nat.le_of_ble_eq_true rfl)⟩ rfl ⟨zcs_0, (Nat.le_of_ble_eq_true rfl)⟩ hL.1.1 dX6_constructor_107) ?_
      rintro x3 G1 _ _ hx3 hV hG
      refine z_if_eq (tgt := 115) hC (inR_b hx3) hV dX6_constructor_110 (by decide) ?_ ?_
      · intro hV
        refine z_iconst hC dX6_constructor_115 ?_
        refine z_iload_n hC rfl (hL.at 1 rfl) dX6_constructor_116 ?_
        refine z_imul hC dX6_constructor_117 ?_
        refine z_aload_n hC zvr_a rfl (hL.at 0 rfl) dX6_constructor_118 ?_
        refine z_getA hC hG kFX6_7_6 rfl rfl dX6_constructor_119 ?_
        refine z_iload_n hC rfl (hL.at 1 rfl) dX6_constructor_122 ?_
        refine z_iald hC hG rfl rfl rfl hp0 hV dX6_constructor_123 ?_
        intro x4 hx4 hV
        refine z_iadd hC dX6_constructor_124 ?_
        refine z_top hV (inR_w _) ?_
        intro x5 hx5 hV
        refine z_istore (lv' := [(7, .int (zI x5)), (0, .ref (zA P 5 0 0)), (1, .int (zI p0)), (2, .int (zI p1)), (3, .int (zI p2)), (4, .int (zI p3)), (5, .int (zI p4))]) hC hL (by decide) rfl dX6_constructor_125 (fun ls hL => ?_)
        refine z_aload_n hC zvr_a rfl (hL.at 1 rfl) dX6_constructor_127 ?_
        refine z_getA hC hG kFX6_13_6 rfl rfl dX6_constructor_128 ?_
        refine z_iload hC (hL.at 0 rfl) dX6_constructor_131 ?_
        refine z_iload_n hC rfl (hL.at 3 rfl) dX6_constructor_133 ?_
        refine z_iast hC hG rfl (Nat.le_of_ble_eq_true rfl) (Nat.le_of_ble_eq_true rfl) rfl rfl rfl hx5 hp1 hV dX6_constructor_134 ?_
        intro G2 _ _ hG hV
        refine z_iconst hC dX6_constructor_135 ?_
        refine z_istore (lv' := [(8, .int (zI 0)), (7, .int (zI x5)), (0, .ref (zA P 5 0 0)), (1, .int (zI p0)), (2, .int (zI p1)), (3, .int (zI p2)), (4, .int (zI p3)), (5, .int (zI p4))]) hC hL (by decide) rfl dX6_constructor_136 (fun ls hL => ?_)
        refine zl2_use hV (fun (a138_8 : Int) (K138 : ZG) => inR a138_8 → ∀ (H : Heap) (locs : List Loc), zS P s K138 H locs → ∀ (ls : Array Slot), zL ls 9 [(0, .ref (zA P 5 0 0)), (1, .int (zI p0)), (3, .int (zI p2)), (4, .int (zI p3)), (5, .int (zI p4)), (7, .int (zI x5)), (8, .int (zI a138_8))] → W p l e rX6_constructor s m args below meth c H locs 0 0 (MQ below (zQi P Q) args s 0 0 (zAr P)) (F0 m 138 ls [])) ?_ (inR_lit rfl) _ _ hG _ (hL.sub [2, 3, 5, 6, 7, 1, 0] rfl)
        intro P138 a138_8 K138 hP138 hV ha138_8 H locs hG ls hL
        refine z_iload hC (hL.at 6 rfl) dX6_constructor_138 ?_
        refine z_iconst hC dX6_constructor_140 ?_
        refine z_icmp_ge (tgt := 172) hC ha138_8 (inR_lit rfl) hV dX6_constructor_141 (by decide) ?_ ?_
        · intro hV
          refine z_aload_n hC zvr_a rfl (hL.at 0 rfl) dX6_constructor_172 ?_
          refine z_getA hC hG kFX6_7_6 rfl rfl dX6_constructor_173 ?_
          refine z_iload_n hC rfl (hL.at 1 rfl) dX6_constructor_176 ?_
          refine z_dup2 hC rfl rfl dX6_constructor_177 ?_
          refine z_iald hC hG rfl rfl rfl hp0 hV dX6_constructor_178 ?_
          intro x6 hx6 hV
          refine z_iconst hC dX6_constructor_179 ?_
          refine z_iadd hC dX6_constructor_180 ?_
          refine z_iast hC hG rfl (Nat.le_of_ble_eq_true rfl) (Nat.le_of_ble_eq_true rfl) rfl rfl rfl hp0 (inR_w _) hV dX6_constructor_181 ?_
          intro G3 _ _ hG hV
          refine z_aload_n hC zvr_a rfl (hL.at 0 rfl) dX6_constructor_182 ?_
          refine z_iconst hC dX6_constructor_183 ?_
          refine z_putF hC hG kFX6_161_6 rfl rfl rfl rfl nk_6_54 (inR_lit rfl) (Or.inl rfl) hV dX6_constructor_184 ?_
          intro G4 _ _ hG hV
          refine z_aload_n hC zvr_a rfl (hL.at 0 rfl) dX6_constructor_187 ?_
          refine z_getA hC hG kFX6_7_6 rfl rfl dX6_constructor_188 ?_
          refine z_iload_n hC rfl (hL.at 1 rfl) dX6_constructor_191 ?_
          refine z_iald hC hG rfl rfl rfl hp0 hV dX6_constructor_192 ?_
          intro x7 hx7 hV
          refine z_iconst hC dX6_constructor_193 ?_
          refine z_isub hC dX6_constructor_194 ?_
          exact z_iret hC hG hr hk (inR_w _) hV (Nat.le_of_ble_eq_true rfl) (Nat.le_of_ble_eq_true rfl) dX6_constructor_195
        · intro hV
          refine z_aload_n hC zvr_a rfl (hL.at 0 rfl) dX6_constructor_144 ?_
          refine z_getA hC hG kFX6_16_6 rfl rfl dX6_constructor_145 ?_
          refine z_iconst hC dX6_constructor_148 ?_
          refine z_iload hC (hL.at 5 rfl) dX6_constructor_149 ?_
          refine z_imul hC dX6_constructor_151 ?_
          refine z_iload hC (hL.at 6 rfl) dX6_constructor_152 ?_
          refine z_iadd hC dX6_constructor_154 ?_
          refine z_iload_n hC rfl (hL.at 2 rfl) dX6_constructor_155 ?_
          refine z_iload hC (hL.at 3 rfl) dX6_constructor_156 ?_
          refine z_iload hC (hL.at 4 rfl) dX6_constructor_158 ?_
          refine z_iload hC (hL.at 6 rfl) dX6_constructor_160 ?_
          refine z_call_i hG (zrunS hC hG (mX6_pick l P K138 p2 hp2 p3 hp3 p4 hp4 a138_8 ha138_8 hV) kSX6_175 rfl rfl rfl ⟨(Nat.le_of_ble_eq_true rfl), (Nat.le_of_ble_eq_true rfl)⟩ ⟨(Nat.le_of_ble_eq_true rfl), (Nat.le_of_ble_eq_true rfl)⟩ rfl ⟨(zcs_c rfl (zcs_c rfl zcs_0)), (Nat.le_of_ble_eq_true rfl)⟩ hL.1.1 dX6_constructor_162) ?_
          rintro x8 _ _ _ hx8 ⟨rfl, hV⟩ hG
          refine z_iast hC hG rfl (Nat.le_of_ble_eq_true rfl) (Nat.le_of_ble_eq_true rfl) rfl rfl rfl (inR_w _) hx8 hV dX6_constructor_165 ?_
          intro G5 _ _ hG hV
          refine z_iincV (fun x9 => [(8, .int (zI x9)), (0, .ref (zA P 5 0 0)), (1, .int (zI p0)), (3, .int (zI p2)), (4, .int (zI p3)), (5, .int (zI p4)), (7, .int (zI x5))]) hC hL (k := 6) rfl (by decide) (fun _ => rfl) hV dX6_constructor_166 ?_
          intro x9 hx9 hV ls hL
          refine z_goto (tgt := 138) hC dX6_constructor_169 (by decide) ?_
          exact hP138 x9 G5 hV hx9 _ _ hG _ (hL.sub [1, 2, 3, 4, 5, 6, 0] rfl)
      · intro hV
        refine z_iconst hC dX6_constructor_113 ?_
        exact z_iret hC hG hr hk (inR_lit rfl) hV (Nat.le_of_ble_eq_true rfl) (Nat.le_of_ble_eq_true rfl) dX6_constructor_114
    refine z_if_ne (tgt := 83) hC (inR_b hx2) hV dX6_constructor_76 (by decide) ?_ ?_
    · intro hV
      refine z_iload hC (hL.at 6 rfl) dX6_constructor_83 ?_
      refine z_if_ne (tgt := 92) hC (inR_b ha11_6) hV dX6_constructor_85 (by decide) ?_ ?_
      · intro hV
        refine z_aload_n hC zvr_a rfl (hL.at 0 rfl) dX6_constructor_92 ?_
        refine z_getA hC hG kFX6_7_6 rfl rfl dX6_constructor_93 ?_
        refine z_iload_n hC rfl (hL.at 1 rfl) dX6_constructor_96 ?_
        refine z_iald hC hG rfl rfl rfl hp0 hV dX6_constructor_97 ?_
        intro x10 hx10 hV
        refine z_iconst hC dX6_constructor_98 ?_
        refine z_icmp_ne (tgt := 106) hC hx10 (inR_lit rfl) hV dX6_constructor_99 (by decide) ?_ ?_
        · intro hV
          refine z_iconst hC dX6_constructor_106 ?_
          exact hJ107 hG 0 (inR_lit rfl) hV _ (hL.sub [0, 1, 2, 3, 4, 5] rfl)
        · intro hV
          refine z_iconst hC dX6_constructor_102 ?_
          refine z_goto (tgt := 107) hC dX6_constructor_103 (by decide) ?_
          exact hJ107 hG 3 (inR_lit rfl) hV _ (hL.sub [0, 1, 2, 3, 4, 5] rfl)
      · intro hV
        refine z_iconst hC dX6_constructor_88 ?_
        refine z_goto (tgt := 107) hC dX6_constructor_89 (by decide) ?_
        exact hJ107 hG 2 (inR_lit rfl) hV _ (hL.sub [0, 1, 2, 3, 4, 5] rfl)
    · intro hV
      refine z_iconst hC dX6_constructor_79 ?_
      refine z_goto (tgt := 107) hC dX6_constructor_80 (by decide) ?_
      exact hJ107 hG 1 (inR_lit rfl) hV _ (hL.sub [0, 1, 2, 3, 4, 5] rfl)
  · intro hV
    refine z_iload_n hC rfl (hL.at 3 rfl) dX6_constructor_17 ?_
    refine z_iload hC (hL.at 4 rfl) dX6_constructor_18 ?_
    refine z_iload hC (hL.at 5 rfl) dX6_constructor_20 ?_
    refine z_iload hC (hL.at 7 rfl) dX6_constructor_22 ?_
    refine z_call_i hG (zrunS hC hG (mX6_pick l P G p2 hp2 p3 hp3 p4 hp4 a11_7 ha11_7 hV) kSX6_175 rfl rfl rfl ⟨(Nat.le_of_ble_eq_true rfl), (Nat.le_of_ble_eq_true rfl)⟩ ⟨(Nat.le_of_ble_eq_true rfl), (Nat.le_of_ble_eq_true rfl)⟩ rfl ⟨zcs_0, (Nat.le_of_ble_eq_true rfl)⟩ hL.1.1 dX6_constructor_24) ?_
    rintro x11 _ _ _ hx11 ⟨rfl, hV⟩ hG
    refine z_istore (lv' := [(8, .int (zI x11)), (0, .ref (zA P 5 0 0)), (1, .int (zI p0)), (2, .int (zI p1)), (3, .int (zI p2)), (4, .int (zI p3)), (5, .int (zI p4)), (6, .int (zI a11_6)), (7, .int (zI a11_7))]) hC hL (by decide) rfl dX6_constructor_27 (fun ls hL => ?_)
    refine z_iload hC (hL.at 7 rfl) dX6_constructor_29 ?_
    obtain ⟨J61, eJ61, hV⟩ := zjn_abs hV
    have hJ61 : ∀ {H : Heap} {locs : List Loc}, zS P s G H locs → ∀ (z61_0 : Int), (z61_0 = 0 ∨ z61_0 = 1) → J61 z61_0 → ∀ (ls : Array Slot), zL ls 9 [(0, .ref (zA P 5 0 0)), (1, .int (zI p0)), (2, .int (zI p1)), (3, .int (zI p2)), (4, .int (zI p3)), (5, .int (zI p4)), (7, .int (zI a11_7))] → W p l e rX6_constructor s m args below meth c H locs 0 0 (MQ below (zQi P Q) args s 0 0 (zAr P)) (F0 m 61 ls [.int (zI z61_0)]) := by
      intro H locs hG z61_0 hz61_0 hV ls hL
      rw [eJ61] at hV
      refine z_istore (lv' := [(6, .int (zI z61_0)), (0, .ref (zA P 5 0 0)), (1, .int (zI p0)), (2, .int (zI p1)), (3, .int (zI p2)), (4, .int (zI p3)), (5, .int (zI p4)), (7, .int (zI a11_7))]) hC hL (by decide) rfl dX6_constructor_61 (fun ls hL => ?_)
      refine z_iincV (fun x12 => [(7, .int (zI x12)), (6, .int (zI z61_0)), (0, .ref (zA P 5 0 0)), (1, .int (zI p0)), (2, .int (zI p1)), (3, .int (zI p2)), (4, .int (zI p3)), (5, .int (zI p4))]) hC hL (k := 7) rfl (by decide) (fun _ => rfl) hV dX6_constructor_63 ?_
      intro x12 hx12 hV ls hL
      refine z_goto (tgt := 11) hC dX6_constructor_66 (by decide) ?_
      exact hP11 z61_0 x12 hV hz61_0 hx12 _ _ hG _ (hL.sub [2, 3, 4, 5, 6, 7, 1, 0] rfl)
    obtain ⟨J60, eJ60, hV⟩ := zjn_abs hV
    have hJ60 : ∀ {H : Heap} {locs : List Loc}, zS P s G H locs → J60 () → ∀ (ls : Array Slot), zL ls 9 [(0, .ref (zA P 5 0 0)), (1, .int (zI p0)), (2, .int (zI p1)), (3, .int (zI p2)), (4, .int (zI p3)), (5, .int (zI p4)), (7, .int (zI a11_7))] → W p l e rX6_constructor s m args below meth c H locs 0 0 (MQ below (zQi P Q) args s 0 0 (zAr P)) (F0 m 60 ls []) := by
      intro H locs hG hV ls hL
      rw [eJ60] at hV
      refine z_iconst hC dX6_constructor_60 ?_
      exact hJ61 hG 0 (Or.inl rfl) hV _ hL
    refine z_if_eq (tgt := 60) hC (inR_b ha11_6) hV dX6_constructor_31 (by decide) ?_ ?_
    · intro hV
      exact hJ60 hG hV _ (hL.sub [1, 2, 3, 4, 5, 6, 8] rfl)
    · intro hV
      refine z_iload hC (hL.at 8 rfl) dX6_constructor_34 ?_
      refine z_iload_n hC rfl (hL.at 3 rfl) dX6_constructor_36 ?_
      obtain ⟨J56, eJ56, hV⟩ := zjn_abs hV
      have hJ56 : ∀ {H : Heap} {locs : List Loc}, zS P s G H locs → J56 () → ∀ (ls : Array Slot), zL ls 9 [(0, .ref (zA P 5 0 0)), (1, .int (zI p0)), (2, .int (zI p1)), (3, .int (zI p2)), (4, .int (zI p3)), (5, .int (zI p4)), (7, .int (zI a11_7))] → W p l e rX6_constructor s m args below meth c H locs 0 0 (MQ below (zQi P Q) args s 0 0 (zAr P)) (F0 m 56 ls []) := by
        intro H locs hG hV ls hL
        rw [eJ56] at hV
        refine z_iconst hC dX6_constructor_56 ?_
        refine z_goto (tgt := 61) hC dX6_constructor_57 (by decide) ?_
        exact hJ61 hG 1 (Or.inr rfl) hV _ hL
      refine z_icmp_ge (tgt := 51) hC ha11_7 hp1 hV dX6_constructor_37 (by decide) ?_ ?_
      · intro hV
        refine z_iload hC (hL.at 0 rfl) dX6_constructor_51 ?_
        refine z_if_ne (tgt := 60) hC hx11 hV dX6_constructor_53 (by decide) ?_ ?_
        · intro hV
          exact hJ60 hG hV _ (hL.sub [1, 2, 3, 4, 5, 6, 8] rfl)
        · intro hV
          exact hJ56 hG hV _ (hL.sub [1, 2, 3, 4, 5, 6, 8] rfl)
      · intro hV
        refine z_iload hC (hL.at 0 rfl) dX6_constructor_40 ?_
        refine z_call_z hG (zrunS hC hG (mX6_isKind l P G x11 hx11 hV) kSX6_179 rfl rfl rfl ⟨(Nat.le_of_ble_eq_true rfl), (Nat.le_of_ble_eq_true rfl)⟩ ⟨(Nat.le_of_ble_eq_true rfl), (Nat.le_of_ble_eq_true rfl)⟩ rfl ⟨zcs_0, (Nat.le_of_ble_eq_true rfl)⟩ hL.1.1 dX6_constructor_42) ?_
        rintro x13 _ _ _ hx13 ⟨rfl, hV⟩ hG
        refine z_if_eq (tgt := 60) hC (inR_b hx13) hV dX6_constructor_45 (by decide) ?_ ?_
        · intro hV
          exact hJ60 hG hV _ (hL.sub [1, 2, 3, 4, 5, 6, 8] rfl)
        · intro hV
          refine z_goto (tgt := 56) hC dX6_constructor_48 (by decide) ?_
          exact hJ56 hG hV _ (hL.sub [1, 2, 3, 4, 5, 6, 8] rfl)
abbrev rX6_value : Room := { frames := 1, cells := 0, slots := 0, locals := 12 }
def vX6_value (p0 : Int) (p1 : Int) (p2 : Int) (p3 : Int) (p4 : Int) (p5 : Int) (G : ZG) (Q : Int → ZG → Prop) : Prop := zgF G 5 4 fun (x1 : Int) => zaS G 5 5 40 x1 p0 fun (G1 : ZG) => zgF G1 5 4 fun (x2 : Int) => zaS G1 5 6 40 x2 p1 fun (G2 : ZG) => zgF G2 5 4 fun (x3 : Int) => zaS G2 5 7 120 (w32 (3 * x3)) p2 fun (G3 : ZG) => zgF G3 5 4 fun (x4 : Int) => zaS G3 5 7 120 (w32 ((w32 (3 * x4)) + 1)) p3 fun (G4 : ZG) => zgF G4 5 4 fun (x5 : Int) => zaS G4 5 7 120 (w32 ((w32 (3 * x5)) + 2)) p4 fun (G5 : ZG) => zgF G5 5 4 fun (x6 : Int) => zn0 97 ∧ zaS G5 5 8 40 x6 (dRem p5 97) fun (G6 : ZG) => zgF G6 5 4 fun (x7 : Int) => zpF G6 5 4 (w32 (x7 + 1)) fun (G7 : ZG) => zgF G7 5 4 fun (x8 : Int) => Q (w32 (x8 - 1)) G7
set_option maxHeartbeats 4000000 in
theorem mX6_value (l : Launch) (P : ZP) (G : ZG) (p0 : Int) (hp0 : inR p0) (p1 : Int) (hp1 : inR p1) (p2 : Int) (hp2 : inR p2) (p3 : Int) (hp3 : inR p3) (p4 : Int) (hp4 : inR p4) (p5 : Int) (hp5 : inR p5) {Q : Int → ZG → Prop} (hV : vX6_value p0 p1 p2 p3 p4 p5 G Q) : Met l yX6_value (ws_ yX6_value cX6_value 7 (some .int)) rX6_value (zPc P G [.ref (zA P 5 0 0), .int (zI p0), .int (zI p1), .int (zI p2), .int (zI p3), .int (zI p4), .int (zI p5)]) (zQi P Q) 0 0 (zAr P) := by
  refine zMet RX6 (plainFor_of_name (by decide)) rfl (zcs_c rfl (zcs_c rfl (zcs_c rfl (zcs_c rfl (zcs_c rfl (zcs_c rfl (zcs_c rfl zcs_0))))))) (Nat.le_of_ble_eq_true rfl) (fun p e s m args below meth c ls hC hr hk hn hG hL => ?_)
  unfold vX6_value at hV
  refine z_aload_n hC zvr_a rfl (hL.at 0 rfl) dX6_value_0 ?_
  refine z_getA hC hG kFX6_19_6 rfl rfl dX6_value_1 ?_
  refine z_aload_n hC zvr_a rfl (hL.at 0 rfl) dX6_value_4 ?_
  refine z_getF hC hG kFX6_186_6 rfl rfl hV dX6_value_5 ?_
  intro x1 hx1 hV
  refine z_iload_n hC rfl (hL.at 1 rfl) dX6_value_8 ?_
  refine z_iast hC hG rfl (Nat.le_of_ble_eq_true rfl) (Nat.le_of_ble_eq_true rfl) rfl rfl rfl hx1 hp0 hV dX6_value_9 ?_
  intro G1 _ _ hG hV
  refine z_aload_n hC zvr_a rfl (hL.at 0 rfl) dX6_value_10 ?_
  refine z_getA hC hG kFX6_22_6 rfl rfl dX6_value_11 ?_
  refine z_aload_n hC zvr_a rfl (hL.at 0 rfl) dX6_value_14 ?_
  refine z_getF hC hG kFX6_186_6 rfl rfl hV dX6_value_15 ?_
  intro x2 hx2 hV
  refine z_iload_n hC rfl (hL.at 2 rfl) dX6_value_18 ?_
  refine z_iast hC hG rfl (Nat.le_of_ble_eq_true rfl) (Nat.le_of_ble_eq_true rfl) rfl rfl rfl hx2 hp1 hV dX6_value_19 ?_
  intro G2 _ _ hG hV
  refine z_aload_n hC zvr_a rfl (hL.at 0 rfl) dX6_value_20 ?_
  refine z_getA hC hG kFX6_25_6 rfl rfl dX6_value_21 ?_
  refine z_iconst hC dX6_value_24 ?_
  refine z_aload_n hC zvr_a rfl (hL.at 0 rfl) dX6_value_25 ?_
  refine z_getF hC hG kFX6_186_6 rfl rfl hV dX6_value_26 ?_
  intro x3 hx3 hV
  refine z_imul hC dX6_value_29 ?_
  refine z_iload_n hC rfl (hL.at 3 rfl) dX6_value_30 ?_
  refine z_iast hC hG rfl (Nat.le_of_ble_eq_true rfl) (Nat.le_of_ble_eq_true rfl) rfl rfl rfl (inR_w _) hp2 hV dX6_value_31 ?_
  intro G3 _ _ hG hV
  refine z_aload_n hC zvr_a rfl (hL.at 0 rfl) dX6_value_32 ?_
  refine z_getA hC hG kFX6_25_6 rfl rfl dX6_value_33 ?_
  refine z_iconst hC dX6_value_36 ?_
  refine z_aload_n hC zvr_a rfl (hL.at 0 rfl) dX6_value_37 ?_
  refine z_getF hC hG kFX6_186_6 rfl rfl hV dX6_value_38 ?_
  intro x4 hx4 hV
  refine z_imul hC dX6_value_41 ?_
  refine z_iconst hC dX6_value_42 ?_
  refine z_iadd hC dX6_value_43 ?_
  refine z_iload hC (hL.at 4 rfl) dX6_value_44 ?_
  refine z_iast hC hG rfl (Nat.le_of_ble_eq_true rfl) (Nat.le_of_ble_eq_true rfl) rfl rfl rfl (inR_w _) hp3 hV dX6_value_46 ?_
  intro G4 _ _ hG hV
  refine z_aload_n hC zvr_a rfl (hL.at 0 rfl) dX6_value_47 ?_
  refine z_getA hC hG kFX6_25_6 rfl rfl dX6_value_48 ?_
  refine z_iconst hC dX6_value_51 ?_
  refine z_aload_n hC zvr_a rfl (hL.at 0 rfl) dX6_value_52 ?_
  refine z_getF hC hG kFX6_186_6 rfl rfl hV dX6_value_53 ?_
  intro x5 hx5 hV
  refine z_imul hC dX6_value_56 ?_
  refine z_iconst hC dX6_value_57 ?_
  refine z_iadd hC dX6_value_58 ?_
  refine z_iload hC (hL.at 5 rfl) dX6_value_59 ?_
  refine z_iast hC hG rfl (Nat.le_of_ble_eq_true rfl) (Nat.le_of_ble_eq_true rfl) rfl rfl rfl (inR_w _) hp4 hV dX6_value_61 ?_
  intro G5 _ _ hG hV
  refine z_aload_n hC zvr_a rfl (hL.at 0 rfl) dX6_value_62 ?_
  refine z_getA hC hG kFX6_28_6 rfl rfl dX6_value_63 ?_
  refine z_aload_n hC zvr_a rfl (hL.at 0 rfl) dX6_value_66 ?_
  refine z_getF hC hG kFX6_186_6 rfl rfl hV dX6_value_67 ?_
  intro x6 hx6 hV
  refine z_iload hC (hL.at 6 rfl) dX6_value_70 ?_
  refine z_bipush hC rfl dX6_value_72 ?_
  refine z_irem hC (inR_lit rfl) hV dX6_value_74 (fun hV => ?_)
  refine z_iast hC hG rfl (Nat.le_of_ble_eq_true rfl) (Nat.le_of_ble_eq_true rfl) rfl rfl rfl hx6 (inR_toInt _) hV dX6_value_75 ?_
  intro G6 _ _ hG hV
  refine z_aload_n hC zvr_a rfl (hL.at 0 rfl) dX6_value_76 ?_
  refine z_dup hC rfl dX6_value_77 ?_
  refine z_getF hC hG kFX6_186_6 rfl rfl hV dX6_value_78 ?_
  intro x7 hx7 hV
  refine z_iconst hC dX6_value_81 ?_
  refine z_iadd hC dX6_value_82 ?_
  refine z_putF hC hG kFX6_186_6 rfl rfl rfl rfl nk_6_4 (inR_w _) (Or.inl rfl) hV dX6_value_83 ?_
  intro G7 _ _ hG hV
  refine z_aload_n hC zvr_a rfl (hL.at 0 rfl) dX6_value_86 ?_
  refine z_getF hC hG kFX6_186_6 rfl rfl hV dX6_value_87 ?_
  intro x8 hx8 hV
  refine z_iconst hC dX6_value_90 ?_
  refine z_isub hC dX6_value_91 ?_
  exact z_iret hC hG hr hk (inR_w _) hV (Nat.le_of_ble_eq_true rfl) (Nat.le_of_ble_eq_true rfl) dX6_value_92
abbrev rX6_num : Room := { frames := 2, cells := 0, slots := 0, locals := 38 }
def vX6_num (p0 : Int) (G : ZG) (Q : Int → ZG → Prop) : Prop := vX6_in p0 0 9 fun (x1 : Int) => zjn (fun (z29_1 : Int) => vX6_refused z29_1 G fun (x2 : Int) (G1 : ZG) => zbr (x2 = 0) (vX6_value 4 p0 0 0 0 p0 G1 fun (x3 : Int) (G2 : ZG) => Q x3 G2) (Q 0 G1)) fun J29 => zbr (x1 ≠ 0) (zgF G 5 4 fun (x4 : Int) => zbr (x4 ≠ 40) (J29 0) (J29 2)) (J29 1)
set_option maxHeartbeats 4000000 in
theorem mX6_num (l : Launch) (P : ZP) (G : ZG) (p0 : Int) (hp0 : inR p0) {Q : Int → ZG → Prop} (hV : vX6_num p0 G Q) : Met l yX6_num (ws_ yX6_num cX6_num 2 (some .int)) rX6_num (zPc P G [.ref (zA P 5 0 0), .int (zI p0)]) (zQi P Q) 0 0 (zAr P) := by
  refine zMet RX6 (plainFor_of_name (by decide)) rfl (zcs_c rfl (zcs_c rfl zcs_0)) (Nat.le_of_ble_eq_true rfl) (fun p e s m args below meth c ls hC hr hk hn hG hL => ?_)
  unfold vX6_num at hV
  refine z_aload_n hC zvr_a rfl (hL.at 0 rfl) dX6_num_0 ?_
  refine z_iload_n hC rfl (hL.at 1 rfl) dX6_num_1 ?_
  refine z_iconst hC dX6_num_2 ?_
  refine z_bipush hC rfl dX6_num_3 ?_
  refine z_call_z hG (zrunS hC hG (mX6_in l P G p0 hp0 0 (inR_lit rfl) 9 (inR_lit rfl) hV) kSX6_171 rfl rfl rfl ⟨(Nat.le_of_ble_eq_true rfl), (Nat.le_of_ble_eq_true rfl)⟩ ⟨(Nat.le_of_ble_eq_true rfl), (Nat.le_of_ble_eq_true rfl)⟩ rfl ⟨(zcs_c rfl zcs_0), (Nat.le_of_ble_eq_true rfl)⟩ hL.1.1 dX6_num_5) ?_
  rintro x1 _ _ _ hx1 ⟨rfl, hV⟩ hG
  obtain ⟨J29, eJ29, hV⟩ := zjn_abs hV
  have hJ29 : ∀ {H : Heap} {locs : List Loc}, zS P s G H locs → ∀ (z29_1 : Int), inR z29_1 → J29 z29_1 → ∀ (ls : Array Slot), zL ls 2 [(0, .ref (zA P 5 0 0)), (1, .int (zI p0))] → W p l e rX6_num s m args below meth c H locs 0 0 (MQ below (zQi P Q) args s 0 0 (zAr P)) (F0 m 29 ls [.int (zI z29_1), .ref (zA P 5 0 0)]) := by
    intro H locs hG z29_1 hz29_1 hV ls hL
    rw [eJ29] at hV
    refine z_call_z hG (zrunV (ci := 6) hC hG (Nat.le_of_ble_eq_true rfl) (Nat.le_of_ble_eq_true rfl) (zobj hG rfl (Nat.le_of_ble_eq_true rfl) (Nat.le_of_ble_eq_true rfl)) (mX6_refused l P G z29_1 hz29_1 hV) kVX6_183 rfl rfl rfl ⟨(Nat.le_of_ble_eq_true rfl), (Nat.le_of_ble_eq_true rfl)⟩ ⟨(Nat.le_of_ble_eq_true rfl), (Nat.le_of_ble_eq_true rfl)⟩ rfl ⟨zcs_0, (Nat.le_of_ble_eq_true rfl)⟩ hL.1.1 dX6_num_29) ?_
    rintro x2 G1 _ _ hx2 hV hG
    refine z_if_eq (tgt := 37) hC (inR_b hx2) hV dX6_num_32 (by decide) ?_ ?_
    · intro hV
      refine z_aload_n hC zvr_a rfl (hL.at 0 rfl) dX6_num_37 ?_
      refine z_iconst hC dX6_num_38 ?_
      refine z_iload_n hC rfl (hL.at 1 rfl) dX6_num_39 ?_
      refine z_iconst hC dX6_num_40 ?_
      refine z_iconst hC dX6_num_41 ?_
      refine z_iconst hC dX6_num_42 ?_
      refine z_iload_n hC rfl (hL.at 1 rfl) dX6_num_43 ?_
      refine z_call_i hG (zrunV (ci := 6) hC hG (Nat.le_of_ble_eq_true rfl) (Nat.le_of_ble_eq_true rfl) (zobj hG rfl (Nat.le_of_ble_eq_true rfl) (Nat.le_of_ble_eq_true rfl)) (mX6_value l P G1 4 (inR_lit rfl) p0 hp0 0 (inR_lit rfl) 0 (inR_lit rfl) 0 (inR_lit rfl) p0 hp0 hV) kVX6_189 rfl rfl rfl ⟨(Nat.le_of_ble_eq_true rfl), (Nat.le_of_ble_eq_true rfl)⟩ ⟨(Nat.le_of_ble_eq_true rfl), (Nat.le_of_ble_eq_true rfl)⟩ rfl ⟨zcs_0, (Nat.le_of_ble_eq_true rfl)⟩ hL.1.1 dX6_num_44) ?_
      rintro x3 G2 _ _ hx3 hV hG
      exact z_iret hC hG hr hk hx3 hV (Nat.le_of_ble_eq_true rfl) (Nat.le_of_ble_eq_true rfl) dX6_num_47
    · intro hV
      refine z_iconst hC dX6_num_35 ?_
      exact z_iret hC hG hr hk (inR_lit rfl) hV (Nat.le_of_ble_eq_true rfl) (Nat.le_of_ble_eq_true rfl) dX6_num_36
  refine z_if_ne (tgt := 15) hC (inR_b hx1) hV dX6_num_8 (by decide) ?_ ?_
  · intro hV
    refine z_aload_n hC zvr_a rfl (hL.at 0 rfl) dX6_num_15 ?_
    refine z_getF hC hG kFX6_186_6 rfl rfl hV dX6_num_16 ?_
    intro x4 hx4 hV
    refine z_bipush hC rfl dX6_num_19 ?_
    refine z_icmp_ne (tgt := 28) hC hx4 (inR_lit rfl) hV dX6_num_21 (by decide) ?_ ?_
    · intro hV
      refine z_iconst hC dX6_num_28 ?_
      exact hJ29 hG 0 (inR_lit rfl) hV _ hL
    · intro hV
      refine z_iconst hC dX6_num_24 ?_
      refine z_goto (tgt := 29) hC dX6_num_25 (by decide) ?_
      exact hJ29 hG 2 (inR_lit rfl) hV _ hL
  · intro hV
    refine z_iconst hC dX6_num_11 ?_
    refine z_goto (tgt := 29) hC dX6_num_12 (by decide) ?_
    exact hJ29 hG 1 (inR_lit rfl) hV _ hL
abbrev rX6_seq : Room := { frames := 2, cells := 0, slots := 0, locals := 38 }
def vX6_seq (p0 : Int) (p1 : Int) (p2 : Int) (p3 : Int) (G : ZG) (Q : Int → ZG → Prop) : Prop := vX6_in p0 0 3 fun (x1 : Int) => zl2 (fun (P11 : Int → Int → Prop) (a11_5 : Int) (a11_6 : Int) => zbr (3 ≤ a11_6) (zjn (fun (z87_1 : Int) => vX6_refused z87_1 G fun (x2 : Int) (G1 : ZG) => zbr (x2 = 0) (vX6_value 5 p0 p1 p2 p3 (w32 ((w32 ((w32 ((w32 (3 * p0)) + p1)) + p2)) + p3)) G1 fun (x3 : Int) (G2 : ZG) => Q x3 G2) (Q 0 G1)) fun J87 => zbr (a11_5 ≠ 0) (zgF G 5 4 fun (x4 : Int) => zbr (x4 ≠ 40) (J87 0) (J87 2)) (J87 1)) (zjn (fun (z55_0 : Int) => zlt1 (w32 (a11_6 + 1)) fun (x5 : Int) => P11 z55_0 x5) fun J55 => zjn (fun (_ : Unit) => J55 0) fun J54 => zbr (a11_5 = 0) (J54 ()) (vX6_pick p1 p2 p3 a11_6 fun (x6 : Int) => zjn (fun (z44_2 : Int) => vX6_in x6 0 z44_2 fun (x7 : Int) => zbr (x7 = 0) (J54 ()) (J55 1)) fun J44 => zbr (p0 ≤ a11_6) (J44 0) (J44 9)))) x1 0
set_option maxHeartbeats 4000000 in
theorem mX6_seq (l : Launch) (P : ZP) (G : ZG) (p0 : Int) (hp0 : inR p0) (p1 : Int) (hp1 : inR p1) (p2 : Int) (hp2 : inR p2) (p3 : Int) (hp3 : inR p3) {Q : Int → ZG → Prop} (hV : vX6_seq p0 p1 p2 p3 G Q) : Met l yX6_seq (ws_ yX6_seq cX6_seq 7 (some .int)) rX6_seq (zPc P G [.ref (zA P 5 0 0), .int (zI p0), .int (zI p1), .int (zI p2), .int (zI p3)]) (zQi P Q) 0 0 (zAr P) := by
  refine zMet RX6 (plainFor_of_name (by decide)) rfl (zcs_c rfl (zcs_c rfl (zcs_c rfl (zcs_c rfl (zcs_c rfl zcs_0))))) (Nat.le_of_ble_eq_true rfl) (fun p e s m args below meth c ls hC hr hk hn hG hL => ?_)
  unfold vX6_seq at hV
  refine z_iload_n hC rfl (hL.at 1 rfl) dX6_seq_0 ?_
  refine z_iconst hC dX6_seq_1 ?_
  refine z_iconst hC dX6_seq_2 ?_
  refine z_call_z hG (zrunS hC hG (mX6_in l P G p0 hp0 0 (inR_lit rfl) 3 (inR_lit rfl) hV) kSX6_171 rfl rfl rfl ⟨(Nat.le_of_ble_eq_true rfl), (Nat.le_of_ble_eq_true rfl)⟩ ⟨(Nat.le_of_ble_eq_true rfl), (Nat.le_of_ble_eq_true rfl)⟩ rfl ⟨zcs_0, (Nat.le_of_ble_eq_true rfl)⟩ hL.1.1 dX6_seq_3) ?_
  rintro x1 _ _ _ hx1 ⟨rfl, hV⟩ hG
  refine z_istore (lv' := [(5, .int (zI x1)), (0, .ref (zA P 5 0 0)), (1, .int (zI p0)), (2, .int (zI p1)), (3, .int (zI p2)), (4, .int (zI p3))]) hC hL (by decide) rfl dX6_seq_6 (fun ls hL => ?_)
  refine z_iconst hC dX6_seq_8 ?_
  refine z_istore (lv' := [(6, .int (zI 0)), (5, .int (zI x1)), (0, .ref (zA P 5 0 0)), (1, .int (zI p0)), (2, .int (zI p1)), (3, .int (zI p2)), (4, .int (zI p3))]) hC hL (by decide) rfl dX6_seq_9 (fun ls hL => ?_)
  refine zl2_use hV (fun (a11_5 : Int) (a11_6 : Int) => (a11_5 = 0 ∨ a11_5 = 1) → inR a11_6 → ∀ (H : Heap) (locs : List Loc), zS P s G H locs → ∀ (ls : Array Slot), zL ls 7 [(0, .ref (zA P 5 0 0)), (1, .int (zI p0)), (2, .int (zI p1)), (3, .int (zI p2)), (4, .int (zI p3)), (5, .int (zI a11_5)), (6, .int (zI a11_6))] → W p l e rX6_seq s m args below meth c H locs 0 0 (MQ below (zQi P Q) args s 0 0 (zAr P)) (F0 m 11 ls [])) ?_ hx1 (inR_lit rfl) _ _ hG _ (hL.sub [2, 3, 4, 5, 6, 1, 0] rfl)
  intro P11 a11_5 a11_6 hP11 hV ha11_5 ha11_6 H locs hG ls hL
  refine z_iload hC (hL.at 6 rfl) dX6_seq_11 ?_
  refine z_iconst hC dX6_seq_13 ?_
  refine z_icmp_ge (tgt := 63) hC ha11_6 (inR_lit rfl) hV dX6_seq_14 (by decide) ?_ ?_
  · intro hV
    refine z_aload_n hC zvr_a rfl (hL.at 0 rfl) dX6_seq_63 ?_
    refine z_iload hC (hL.at 5 rfl) dX6_seq_64 ?_
    obtain ⟨J87, eJ87, hV⟩ := zjn_abs hV
    have hJ87 : ∀ {H : Heap} {locs : List Loc}, zS P s G H locs → ∀ (z87_1 : Int), inR z87_1 → J87 z87_1 → ∀ (ls : Array Slot), zL ls 7 [(0, .ref (zA P 5 0 0)), (1, .int (zI p0)), (2, .int (zI p1)), (3, .int (zI p2)), (4, .int (zI p3))] → W p l e rX6_seq s m args below meth c H locs 0 0 (MQ below (zQi P Q) args s 0 0 (zAr P)) (F0 m 87 ls [.int (zI z87_1), .ref (zA P 5 0 0)]) := by
      intro H locs hG z87_1 hz87_1 hV ls hL
      rw [eJ87] at hV
      refine z_call_z hG (zrunV (ci := 6) hC hG (Nat.le_of_ble_eq_true rfl) (Nat.le_of_ble_eq_true rfl) (zobj hG rfl (Nat.le_of_ble_eq_true rfl) (Nat.le_of_ble_eq_true rfl)) (mX6_refused l P G z87_1 hz87_1 hV) kVX6_183 rfl rfl rfl ⟨(Nat.le_of_ble_eq_true rfl), (Nat.le_of_ble_eq_true rfl)⟩ ⟨(Nat.le_of_ble_eq_true rfl), (Nat.le_of_ble_eq_true rfl)⟩ rfl ⟨zcs_0, (Nat.le_of_ble_eq_true rfl)⟩ hL.1.1 dX6_seq_87) ?_
      rintro x2 G1 _ _ hx2 hV hG
      refine z_if_eq (tgt := 95) hC (inR_b hx2) hV dX6_seq_90 (by decide) ?_ ?_
      · intro hV
        refine z_aload_n hC zvr_a rfl (hL.at 0 rfl) dX6_seq_95 ?_
        refine z_iconst hC dX6_seq_96 ?_
        refine z_iload_n hC rfl (hL.at 1 rfl) dX6_seq_97 ?_
        refine z_iload_n hC rfl (hL.at 2 rfl) dX6_seq_98 ?_
        refine z_iload_n hC rfl (hL.at 3 rfl) dX6_seq_99 ?_
        refine z_iload hC (hL.at 4 rfl) dX6_seq_100 ?_
        refine z_iconst hC dX6_seq_102 ?_
        refine z_iload_n hC rfl (hL.at 1 rfl) dX6_seq_103 ?_
        refine z_imul hC dX6_seq_104 ?_
        refine z_iload_n hC rfl (hL.at 2 rfl) dX6_seq_105 ?_
        refine z_iadd hC dX6_seq_106 ?_
        refine z_iload_n hC rfl (hL.at 3 rfl) dX6_seq_107 ?_
        refine z_iadd hC dX6_seq_108 ?_
        refine z_iload hC (hL.at 4 rfl) dX6_seq_109 ?_
        refine z_iadd hC dX6_seq_111 ?_
        refine z_call_i hG (zrunV (ci := 6) hC hG (Nat.le_of_ble_eq_true rfl) (Nat.le_of_ble_eq_true rfl) (zobj hG rfl (Nat.le_of_ble_eq_true rfl) (Nat.le_of_ble_eq_true rfl)) (mX6_value l P G1 5 (inR_lit rfl) p0 hp0 p1 hp1 p2 hp2 p3 hp3 (w32 ((w32 ((w32 ((w32 (3 * p0)) + p1)) + p2)) + p3)) (inR_w _) hV) kVX6_189 rfl rfl rfl ⟨(Nat.le_of_ble_eq_true rfl), (Nat.le_of_ble_eq_true rfl)⟩ ⟨(Nat.le_of_ble_eq_true rfl), (Nat.le_of_ble_eq_true rfl)⟩ rfl ⟨zcs_0, (Nat.le_of_ble_eq_true rfl)⟩ hL.1.1 dX6_seq_112) ?_
        rintro x3 G2 _ _ hx3 hV hG
        exact z_iret hC hG hr hk hx3 hV (Nat.le_of_ble_eq_true rfl) (Nat.le_of_ble_eq_true rfl) dX6_seq_115
      · intro hV
        refine z_iconst hC dX6_seq_93 ?_
        exact z_iret hC hG hr hk (inR_lit rfl) hV (Nat.le_of_ble_eq_true rfl) (Nat.le_of_ble_eq_true rfl) dX6_seq_94
    refine z_if_ne (tgt := 73) hC (inR_b ha11_5) hV dX6_seq_66 (by decide) ?_ ?_
    · intro hV
      refine z_aload_n hC zvr_a rfl (hL.at 0 rfl) dX6_seq_73 ?_
      refine z_getF hC hG kFX6_186_6 rfl rfl hV dX6_seq_74 ?_
      intro x4 hx4 hV
      refine z_bipush hC rfl dX6_seq_77 ?_
      refine z_icmp_ne (tgt := 86) hC hx4 (inR_lit rfl) hV dX6_seq_79 (by decide) ?_ ?_
      · intro hV
        refine z_iconst hC dX6_seq_86 ?_
        exact hJ87 hG 0 (inR_lit rfl) hV _ (hL.sub [0, 1, 2, 3, 4] rfl)
      · intro hV
        refine z_iconst hC dX6_seq_82 ?_
        refine z_goto (tgt := 87) hC dX6_seq_83 (by decide) ?_
        exact hJ87 hG 2 (inR_lit rfl) hV _ (hL.sub [0, 1, 2, 3, 4] rfl)
    · intro hV
      refine z_iconst hC dX6_seq_69 ?_
      refine z_goto (tgt := 87) hC dX6_seq_70 (by decide) ?_
      exact hJ87 hG 1 (inR_lit rfl) hV _ (hL.sub [0, 1, 2, 3, 4] rfl)
  · intro hV
    refine z_iload hC (hL.at 5 rfl) dX6_seq_17 ?_
    obtain ⟨J55, eJ55, hV⟩ := zjn_abs hV
    have hJ55 : ∀ {H : Heap} {locs : List Loc}, zS P s G H locs → ∀ (z55_0 : Int), (z55_0 = 0 ∨ z55_0 = 1) → J55 z55_0 → ∀ (ls : Array Slot), zL ls 7 [(0, .ref (zA P 5 0 0)), (1, .int (zI p0)), (2, .int (zI p1)), (3, .int (zI p2)), (4, .int (zI p3)), (6, .int (zI a11_6))] → W p l e rX6_seq s m args below meth c H locs 0 0 (MQ below (zQi P Q) args s 0 0 (zAr P)) (F0 m 55 ls [.int (zI z55_0)]) := by
      intro H locs hG z55_0 hz55_0 hV ls hL
      rw [eJ55] at hV
      refine z_istore (lv' := [(5, .int (zI z55_0)), (0, .ref (zA P 5 0 0)), (1, .int (zI p0)), (2, .int (zI p1)), (3, .int (zI p2)), (4, .int (zI p3)), (6, .int (zI a11_6))]) hC hL (by decide) rfl dX6_seq_55 (fun ls hL => ?_)
      refine z_iincV (fun x5 => [(6, .int (zI x5)), (5, .int (zI z55_0)), (0, .ref (zA P 5 0 0)), (1, .int (zI p0)), (2, .int (zI p1)), (3, .int (zI p2)), (4, .int (zI p3))]) hC hL (k := 6) rfl (by decide) (fun _ => rfl) hV dX6_seq_57 ?_
      intro x5 hx5 hV ls hL
      refine z_goto (tgt := 11) hC dX6_seq_60 (by decide) ?_
      exact hP11 z55_0 x5 hV hz55_0 hx5 _ _ hG _ (hL.sub [2, 3, 4, 5, 6, 1, 0] rfl)
    obtain ⟨J54, eJ54, hV⟩ := zjn_abs hV
    have hJ54 : ∀ {H : Heap} {locs : List Loc}, zS P s G H locs → J54 () → ∀ (ls : Array Slot), zL ls 7 [(0, .ref (zA P 5 0 0)), (1, .int (zI p0)), (2, .int (zI p1)), (3, .int (zI p2)), (4, .int (zI p3)), (6, .int (zI a11_6))] → W p l e rX6_seq s m args below meth c H locs 0 0 (MQ below (zQi P Q) args s 0 0 (zAr P)) (F0 m 54 ls []) := by
      intro H locs hG hV ls hL
      rw [eJ54] at hV
      refine z_iconst hC dX6_seq_54 ?_
      exact hJ55 hG 0 (Or.inl rfl) hV _ hL
    refine z_if_eq (tgt := 54) hC (inR_b ha11_5) hV dX6_seq_19 (by decide) ?_ ?_
    · intro hV
      exact hJ54 hG hV _ (hL.sub [0, 1, 2, 3, 4, 6] rfl)
    · intro hV
      refine z_iload_n hC rfl (hL.at 2 rfl) dX6_seq_22 ?_
      refine z_iload_n hC rfl (hL.at 3 rfl) dX6_seq_23 ?_
      refine z_iload hC (hL.at 4 rfl) dX6_seq_24 ?_
      refine z_iload hC (hL.at 6 rfl) dX6_seq_26 ?_
      refine z_call_i hG (zrunS hC hG (mX6_pick l P G p1 hp1 p2 hp2 p3 hp3 a11_6 ha11_6 hV) kSX6_175 rfl rfl rfl ⟨(Nat.le_of_ble_eq_true rfl), (Nat.le_of_ble_eq_true rfl)⟩ ⟨(Nat.le_of_ble_eq_true rfl), (Nat.le_of_ble_eq_true rfl)⟩ rfl ⟨zcs_0, (Nat.le_of_ble_eq_true rfl)⟩ hL.1.1 dX6_seq_28) ?_
      rintro x6 _ _ _ hx6 ⟨rfl, hV⟩ hG
      refine z_iconst hC dX6_seq_31 ?_
      refine z_iload hC (hL.at 6 rfl) dX6_seq_32 ?_
      refine z_iload_n hC rfl (hL.at 1 rfl) dX6_seq_34 ?_
      obtain ⟨J44, eJ44, hV⟩ := zjn_abs hV
      have hJ44 : ∀ {H : Heap} {locs : List Loc}, zS P s G H locs → ∀ (z44_2 : Int), inR z44_2 → J44 z44_2 → ∀ (ls : Array Slot), zL ls 7 [(0, .ref (zA P 5 0 0)), (1, .int (zI p0)), (2, .int (zI p1)), (3, .int (zI p2)), (4, .int (zI p3)), (6, .int (zI a11_6))] → W p l e rX6_seq s m args below meth c H locs 0 0 (MQ below (zQi P Q) args s 0 0 (zAr P)) (F0 m 44 ls [.int (zI z44_2), .int (zI 0), .int (zI x6)]) := by
        intro H locs hG z44_2 hz44_2 hV ls hL
        rw [eJ44] at hV
        refine z_call_z hG (zrunS hC hG (mX6_in l P G x6 hx6 0 (inR_lit rfl) z44_2 hz44_2 hV) kSX6_171 rfl rfl rfl ⟨(Nat.le_of_ble_eq_true rfl), (Nat.le_of_ble_eq_true rfl)⟩ ⟨(Nat.le_of_ble_eq_true rfl), (Nat.le_of_ble_eq_true rfl)⟩ rfl ⟨zcs_0, (Nat.le_of_ble_eq_true rfl)⟩ hL.1.1 dX6_seq_44) ?_
        rintro x7 _ _ _ hx7 ⟨rfl, hV⟩ hG
        refine z_if_eq (tgt := 54) hC (inR_b hx7) hV dX6_seq_47 (by decide) ?_ ?_
        · intro hV
          exact hJ54 hG hV _ hL
        · intro hV
          refine z_iconst hC dX6_seq_50 ?_
          refine z_goto (tgt := 55) hC dX6_seq_51 (by decide) ?_
          exact hJ55 hG 1 (Or.inr rfl) hV _ hL
      refine z_icmp_ge (tgt := 43) hC ha11_6 hp0 hV dX6_seq_35 (by decide) ?_ ?_
      · intro hV
        refine z_iconst hC dX6_seq_43 ?_
        exact hJ44 hG 0 (inR_lit rfl) hV _ (hL.sub [0, 1, 2, 3, 4, 6] rfl)
      · intro hV
        refine z_bipush hC rfl dX6_seq_38 ?_
        refine z_goto (tgt := 44) hC dX6_seq_40 (by decide) ?_
        exact hJ44 hG 9 (inR_lit rfl) hV _ (hL.sub [0, 1, 2, 3, 4, 6] rfl)
abbrev rX6_isConstructor : Room := { frames := 2, cells := 0, slots := 0, locals := 34 }
def vX6_isConstructor (p0 : Int) (p1 : Int) (G : ZG) (Q : Int → Prop) : Prop := vX6_in p0 0 3 fun (x1 : Int) => zjn (fun (z30_0 : Int) => Q z30_0) fun J30 => zjn (fun (_ : Unit) => J30 0) fun J29 => zbr (x1 = 0) (J29 ()) (zaL G 5 1 4 p0 fun (x2 : Int) => vX6_in p1 0 (w32 (x2 - 1)) fun (x3 : Int) => zbr (x3 = 0) (J29 ()) (J30 1))
set_option maxHeartbeats 4000000 in
theorem mX6_isConstructor (l : Launch) (P : ZP) (G : ZG) (p0 : Int) (hp0 : inR p0) (p1 : Int) (hp1 : inR p1) {Q : Int → Prop} (hV : vX6_isConstructor p0 p1 G Q) : Met l yX6_isConstructor (ws_ yX6_isConstructor cX6_isConstructor 3 (some .boolean)) rX6_isConstructor (zPc P G [.ref (zA P 5 0 0), .int (zI p0), .int (zI p1)]) (zQz P (fun r G2 => G = G2 ∧ Q r)) 0 0 (zAr P) := by
  refine zMet RX6 (plainFor_of_name (by decide)) rfl (zcs_c rfl (zcs_c rfl (zcs_c rfl zcs_0))) (Nat.le_of_ble_eq_true rfl) (fun p e s m args below meth c ls hC hr hk hn hG hL => ?_)
  unfold vX6_isConstructor at hV
  refine z_iload_n hC rfl (hL.at 1 rfl) dX6_isConstructor_0 ?_
  refine z_iconst hC dX6_isConstructor_1 ?_
  refine z_iconst hC dX6_isConstructor_2 ?_
  refine z_call_z hG (zrunS hC hG (mX6_in l P G p0 hp0 0 (inR_lit rfl) 3 (inR_lit rfl) hV) kSX6_171 rfl rfl rfl ⟨(Nat.le_of_ble_eq_true rfl), (Nat.le_of_ble_eq_true rfl)⟩ ⟨(Nat.le_of_ble_eq_true rfl), (Nat.le_of_ble_eq_true rfl)⟩ rfl ⟨zcs_0, (Nat.le_of_ble_eq_true rfl)⟩ hL.1.1 dX6_isConstructor_3) ?_
  rintro x1 _ _ _ hx1 ⟨rfl, hV⟩ hG
  obtain ⟨J30, eJ30, hV⟩ := zjn_abs hV
  have hJ30 : ∀ {H : Heap} {locs : List Loc}, zS P s G H locs → ∀ (z30_0 : Int), (z30_0 = 0 ∨ z30_0 = 1) → J30 z30_0 → ∀ (ls : Array Slot), zL ls 3 [] → W p l e rX6_isConstructor s m args below meth c H locs 0 0 (MQ below (zQz P (fun r G2 => G = G2 ∧ Q r)) args s 0 0 (zAr P)) (F0 m 30 ls [.int (zI z30_0)]) := by
    intro H locs hG z30_0 hz30_0 hV ls hL
    rw [eJ30] at hV
    exact z_zret hC hG hr hk hz30_0 ⟨rfl, hV⟩ (Nat.le_of_ble_eq_true rfl) (Nat.le_of_ble_eq_true rfl) dX6_isConstructor_30
  obtain ⟨J29, eJ29, hV⟩ := zjn_abs hV
  have hJ29 : ∀ {H : Heap} {locs : List Loc}, zS P s G H locs → J29 () → ∀ (ls : Array Slot), zL ls 3 [] → W p l e rX6_isConstructor s m args below meth c H locs 0 0 (MQ below (zQz P (fun r G2 => G = G2 ∧ Q r)) args s 0 0 (zAr P)) (F0 m 29 ls []) := by
    intro H locs hG hV ls hL
    rw [eJ29] at hV
    refine z_iconst hC dX6_isConstructor_29 ?_
    exact hJ30 hG 0 (Or.inl rfl) hV _ hL
  refine z_if_eq (tgt := 29) hC (inR_b hx1) hV dX6_isConstructor_6 (by decide) ?_ ?_
  · intro hV
    exact hJ29 hG hV _ (hL.sub [] rfl)
  · intro hV
    refine z_iload_n hC rfl (hL.at 2 rfl) dX6_isConstructor_9 ?_
    refine z_iconst hC dX6_isConstructor_10 ?_
    refine z_aload_n hC zvr_a rfl (hL.at 0 rfl) dX6_isConstructor_11 ?_
    refine z_getA hC hG kFX6_7_6 rfl rfl dX6_isConstructor_12 ?_
    refine z_iload_n hC rfl (hL.at 1 rfl) dX6_isConstructor_15 ?_
    refine z_iald hC hG rfl rfl rfl hp0 hV dX6_isConstructor_16 ?_
    intro x2 hx2 hV
    refine z_iconst hC dX6_isConstructor_17 ?_
    refine z_isub hC dX6_isConstructor_18 ?_
    refine z_call_z hG (zrunS hC hG (mX6_in l P G p1 hp1 0 (inR_lit rfl) (w32 (x2 - 1)) (inR_w _) hV) kSX6_171 rfl rfl rfl ⟨(Nat.le_of_ble_eq_true rfl), (Nat.le_of_ble_eq_true rfl)⟩ ⟨(Nat.le_of_ble_eq_true rfl), (Nat.le_of_ble_eq_true rfl)⟩ rfl ⟨zcs_0, (Nat.le_of_ble_eq_true rfl)⟩ hL.1.1 dX6_isConstructor_19) ?_
    rintro x3 _ _ _ hx3 ⟨rfl, hV⟩ hG
    refine z_if_eq (tgt := 29) hC (inR_b hx3) hV dX6_isConstructor_22 (by decide) ?_ ?_
    · intro hV
      exact hJ29 hG hV _ (hL.sub [] rfl)
    · intro hV
      refine z_iconst hC dX6_isConstructor_25 ?_
      refine z_goto (tgt := 30) hC dX6_isConstructor_26 (by decide) ?_
      exact hJ30 hG 1 (Or.inr rfl) hV _ (hL.sub [] rfl)
abbrev rX6_data : Room := { frames := 3, cells := 0, slots := 0, locals := 56 }
def vX6_data (p0 : Int) (p1 : Int) (p2 : Int) (p3 : Int) (p4 : Int) (G : ZG) (Q : Int → ZG → Prop) : Prop := vX6_isConstructor p0 p1 G fun (x1 : Int) => zjn (fun (z25_0 : Int) => zl3 (fun (P30 : Int → Int → Int → Prop) (a30_6 : Int) (a30_7 : Int) (a30_9 : Int) => zjn (fun (_ : Unit) => zjn (fun (z191_1 : Int) => vX6_refused z191_1 G fun (x2 : Int) (G1 : ZG) => zbr (x2 = 0) (zlt1 (w32 (5 * p1)) fun (x3 : Int) => zl2 (fun (P207 : Int → Int → Prop) (a207_9 : Int) (a207_10 : Int) => zaL G1 5 2 16 z25_0 fun (x4 : Int) => zbr (x4 ≤ a207_10) (vX6_value p0 p1 p2 p3 p4 a207_9 G1 fun (x5 : Int) (G2 : ZG) => Q x5 G2) (vX6_pick p2 p3 p4 a207_10 fun (x6 : Int) => zaL G1 5 8 40 x6 fun (x7 : Int) => zlt1 (w32 (a207_9 + (w32 ((w32 (a207_10 + 1)) * x7)))) fun (x8 : Int) => zlt1 (w32 (a207_10 + 1)) fun (x9 : Int) => P207 x8 x9)) x3 0) (Q 0 G1)) fun J191 => zbr (a30_6 ≠ 0) (zbr (a30_7 ≠ 0) (zgF G 5 4 fun (x10 : Int) => zbr (x10 ≠ 40) (J191 0) (J191 3)) (J191 2)) (J191 1)) fun J158 => zbr (3 ≤ a30_9) (J158 ()) (zbr (a30_6 = 0) (J158 ()) (vX6_pick p2 p3 p4 a30_9 fun (x11 : Int) => zaL G 5 2 16 z25_0 fun (x12 : Int) => zjn (fun (z70_0 : Int) => zjn (fun (z97_0 : Int) => zjn (fun (z150_0 : Int) => zlt1 (w32 (a30_9 + 1)) fun (x13 : Int) => P30 z97_0 z150_0 x13) fun J150 => zjn (fun (_ : Unit) => J150 0) fun J149 => zbr (a30_7 = 0) (J149 ()) (zjn (fun (_ : Unit) => J150 1) fun J145 => zbr (z70_0 = 0) (zbr (x11 ≠ (-1)) (J149 ()) (J145 ())) (zbr (z97_0 = 0) (J149 ()) (zaL G 5 5 40 x11 fun (x14 : Int) => zaL G 5 3 48 (w32 ((w32 (3 * z25_0)) + a30_9)) fun (x15 : Int) => zbr (x14 ≠ x15) (J149 ()) (J145 ()))))) fun J97 => zjn (fun (_ : Unit) => J97 1) fun J92 => zbr (z70_0 = 0) (J92 ()) (zgF G 5 4 fun (x16 : Int) => vX6_in x11 0 (w32 (x16 - 1)) fun (x17 : Int) => zbr (x17 = 0) (J97 0) (J92 ()))) fun J70 => zbr (x12 ≤ a30_9) (J70 0) (J70 1)))) x1 1 0) fun J25 => zbr (x1 = 0) (J25 0) (J25 (w32 ((w32 (4 * p0)) + p1)))
set_option maxHeartbeats 4000000 in
theorem mX6_data (l : Launch) (P : ZP) (G : ZG) (p0 : Int) (hp0 : inR p0) (p1 : Int) (hp1 : inR p1) (p2 : Int) (hp2 : inR p2) (p3 : Int) (hp3 : inR p3) (p4 : Int) (hp4 : inR p4) {Q : Int → ZG → Prop} (hV : vX6_data p0 p1 p2 p3 p4 G Q) : Met l yX6_data (ws_ yX6_data cX6_data 12 (some .int)) rX6_data (zPc P G [.ref (zA P 5 0 0), .int (zI p0), .int (zI p1), .int (zI p2), .int (zI p3), .int (zI p4)]) (zQi P Q) 0 0 (zAr P) := by
  refine zMet RX6 (plainFor_of_name (by decide)) rfl (zcs_c rfl (zcs_c rfl (zcs_c rfl (zcs_c rfl (zcs_c rfl (zcs_c rfl zcs_0)))))) (Nat.le_of_ble_eq_true rfl) (fun p e s m args below meth c ls hC hr hk hn hG hL => ?_)
  unfold vX6_data at hV
  refine z_aload_n hC zvr_a rfl (hL.at 0 rfl) dX6_data_0 ?_
  refine z_iload_n hC rfl (hL.at 1 rfl) dX6_data_1 ?_
  refine z_iload_n hC rfl (hL.at 2 rfl) dX6_data_2 ?_
  refine z_call_z hG (zrunV (ci := 6) hC hG (Nat.le_of_ble_eq_true rfl) (Nat.le_of_ble_eq_true rfl) (zobj hG rfl (Nat.le_of_ble_eq_true rfl) (Nat.le_of_ble_eq_true rfl)) (mX6_isConstructor l P G p0 hp0 p1 hp1 hV) kVX6_193 rfl rfl rfl ⟨(Nat.le_of_ble_eq_true rfl), (Nat.le_of_ble_eq_true rfl)⟩ ⟨(Nat.le_of_ble_eq_true rfl), (Nat.le_of_ble_eq_true rfl)⟩ rfl ⟨zcs_0, (Nat.le_of_ble_eq_true rfl)⟩ hL.1.1 dX6_data_3) ?_
  rintro x1 _ _ _ hx1 ⟨rfl, hV⟩ hG
  refine z_istore (lv' := [(6, .int (zI x1)), (0, .ref (zA P 5 0 0)), (1, .int (zI p0)), (2, .int (zI p1)), (3, .int (zI p2)), (4, .int (zI p3)), (5, .int (zI p4))]) hC hL (by decide) rfl dX6_data_6 (fun ls hL => ?_)
  refine z_iconst hC dX6_data_8 ?_
  refine z_istore (lv' := [(7, .int (zI 1)), (6, .int (zI x1)), (0, .ref (zA P 5 0 0)), (1, .int (zI p0)), (2, .int (zI p1)), (3, .int (zI p2)), (4, .int (zI p3)), (5, .int (zI p4))]) hC hL (by decide) rfl dX6_data_9 (fun ls hL => ?_)
  refine z_iload hC (hL.at 1 rfl) dX6_data_11 ?_
  obtain ⟨J25, eJ25, hV⟩ := zjn_abs hV
  have hJ25 : ∀ {H : Heap} {locs : List Loc}, zS P s G H locs → ∀ (z25_0 : Int), inR z25_0 → J25 z25_0 → ∀ (ls : Array Slot), zL ls 12 [(0, .ref (zA P 5 0 0)), (1, .int (zI p0)), (2, .int (zI p1)), (3, .int (zI p2)), (4, .int (zI p3)), (5, .int (zI p4)), (6, .int (zI x1)), (7, .int (zI 1))] → W p l e rX6_data s m args below meth c H locs 0 0 (MQ below (zQi P Q) args s 0 0 (zAr P)) (F0 m 25 ls [.int (zI z25_0)]) := by
    intro H locs hG z25_0 hz25_0 hV ls hL
    rw [eJ25] at hV
    refine z_istore (lv' := [(8, .int (zI z25_0)), (0, .ref (zA P 5 0 0)), (1, .int (zI p0)), (2, .int (zI p1)), (3, .int (zI p2)), (4, .int (zI p3)), (5, .int (zI p4)), (6, .int (zI x1)), (7, .int (zI 1))]) hC hL (by decide) rfl dX6_data_25 (fun ls hL => ?_)
    refine z_iconst hC dX6_data_27 ?_
    refine z_istore (lv' := [(9, .int (zI 0)), (8, .int (zI z25_0)), (0, .ref (zA P 5 0 0)), (1, .int (zI p0)), (2, .int (zI p1)), (3, .int (zI p2)), (4, .int (zI p3)), (5, .int (zI p4)), (6, .int (zI x1)), (7, .int (zI 1))]) hC hL (by decide) rfl dX6_data_28 (fun ls hL => ?_)
    refine zl3_use hV (fun (a30_6 : Int) (a30_7 : Int) (a30_9 : Int) => (a30_6 = 0 ∨ a30_6 = 1) → (a30_7 = 0 ∨ a30_7 = 1) → inR a30_9 → ∀ (H : Heap) (locs : List Loc), zS P s G H locs → ∀ (ls : Array Slot), zL ls 12 [(0, .ref (zA P 5 0 0)), (1, .int (zI p0)), (2, .int (zI p1)), (3, .int (zI p2)), (4, .int (zI p3)), (5, .int (zI p4)), (6, .int (zI a30_6)), (7, .int (zI a30_7)), (8, .int (zI z25_0)), (9, .int (zI a30_9))] → W p l e rX6_data s m args below meth c H locs 0 0 (MQ below (zQi P Q) args s 0 0 (zAr P)) (F0 m 30 ls [])) ?_ hx1 (Or.inr rfl) (inR_lit rfl) _ _ hG _ (hL.sub [2, 3, 4, 5, 6, 7, 8, 9, 1, 0] rfl)
    intro P30 a30_6 a30_7 a30_9 hP30 hV ha30_6 ha30_7 ha30_9 H locs hG ls hL
    refine z_iload hC (hL.at 9 rfl) dX6_data_30 ?_
    refine z_iconst hC dX6_data_32 ?_
    obtain ⟨J158, eJ158, hV⟩ := zjn_abs hV
    have hJ158 : ∀ {H : Heap} {locs : List Loc}, zS P s G H locs → J158 () → ∀ (ls : Array Slot), zL ls 12 [(0, .ref (zA P 5 0 0)), (1, .int (zI p0)), (2, .int (zI p1)), (3, .int (zI p2)), (4, .int (zI p3)), (5, .int (zI p4)), (6, .int (zI a30_6)), (7, .int (zI a30_7)), (8, .int (zI z25_0))] → W p l e rX6_data s m args below meth c H locs 0 0 (MQ below (zQi P Q) args s 0 0 (zAr P)) (F0 m 158 ls []) := by
      intro H locs hG hV ls hL
      rw [eJ158] at hV
      refine z_aload_n hC zvr_a rfl (hL.at 0 rfl) dX6_data_158 ?_
      refine z_iload hC (hL.at 6 rfl) dX6_data_159 ?_
      obtain ⟨J191, eJ191, hV⟩ := zjn_abs hV
      have hJ191 : ∀ {H : Heap} {locs : List Loc}, zS P s G H locs → ∀ (z191_1 : Int), inR z191_1 → J191 z191_1 → ∀ (ls : Array Slot), zL ls 12 [(0, .ref (zA P 5 0 0)), (1, .int (zI p0)), (2, .int (zI p1)), (3, .int (zI p2)), (4, .int (zI p3)), (5, .int (zI p4)), (8, .int (zI z25_0))] → W p l e rX6_data s m args below meth c H locs 0 0 (MQ below (zQi P Q) args s 0 0 (zAr P)) (F0 m 191 ls [.int (zI z191_1), .ref (zA P 5 0 0)]) := by
        intro H locs hG z191_1 hz191_1 hV ls hL
        rw [eJ191] at hV
        refine z_call_z hG (zrunV (ci := 6) hC hG (Nat.le_of_ble_eq_true rfl) (Nat.le_of_ble_eq_true rfl) (zobj hG rfl (Nat.le_of_ble_eq_true rfl) (Nat.le_of_ble_eq_true rfl)) (mX6_refused l P G z191_1 hz191_1 hV) kVX6_183 rfl rfl rfl ⟨(Nat.le_of_ble_eq_true rfl), (Nat.le_of_ble_eq_true rfl)⟩ ⟨(Nat.le_of_ble_eq_true rfl), (Nat.le_of_ble_eq_true rfl)⟩ rfl ⟨zcs_0, (Nat.le_of_ble_eq_true rfl)⟩ hL.1.1 dX6_data_191) ?_
        rintro x2 G1 _ _ hx2 hV hG
        refine z_if_eq (tgt := 199) hC (inR_b hx2) hV dX6_data_194 (by decide) ?_ ?_
        · intro hV
          refine z_iconst hC dX6_data_199 ?_
          refine z_iload_n hC rfl (hL.at 2 rfl) dX6_data_200 ?_
          refine z_imul hC dX6_data_201 ?_
          refine z_top hV (inR_w _) ?_
          intro x3 hx3 hV
          refine z_istore (lv' := [(9, .int (zI x3)), (0, .ref (zA P 5 0 0)), (1, .int (zI p0)), (2, .int (zI p1)), (3, .int (zI p2)), (4, .int (zI p3)), (5, .int (zI p4)), (8, .int (zI z25_0))]) hC hL (by decide) rfl dX6_data_202 (fun ls hL => ?_)
          refine z_iconst hC dX6_data_204 ?_
          refine z_istore (lv' := [(10, .int (zI 0)), (9, .int (zI x3)), (0, .ref (zA P 5 0 0)), (1, .int (zI p0)), (2, .int (zI p1)), (3, .int (zI p2)), (4, .int (zI p3)), (5, .int (zI p4)), (8, .int (zI z25_0))]) hC hL (by decide) rfl dX6_data_205 (fun ls hL => ?_)
          refine zl2_use hV (fun (a207_9 : Int) (a207_10 : Int) => inR a207_9 → inR a207_10 → ∀ (H : Heap) (locs : List Loc), zS P s G1 H locs → ∀ (ls : Array Slot), zL ls 12 [(0, .ref (zA P 5 0 0)), (1, .int (zI p0)), (2, .int (zI p1)), (3, .int (zI p2)), (4, .int (zI p3)), (5, .int (zI p4)), (8, .int (zI z25_0)), (9, .int (zI a207_9)), (10, .int (zI a207_10))] → W p l e rX6_data s m args below meth c H locs 0 0 (MQ below (zQi P Q) args s 0 0 (zAr P)) (F0 m 207 ls [])) ?_ hx3 (inR_lit rfl) _ _ hG _ (hL.sub [2, 3, 4, 5, 6, 7, 8, 1, 0] rfl)
          intro P207 a207_9 a207_10 hP207 hV ha207_9 ha207_10 H locs hG ls hL
          refine z_iload hC (hL.at 8 rfl) dX6_data_207 ?_
          refine z_aload_n hC zvr_a rfl (hL.at 0 rfl) dX6_data_209 ?_
          refine z_getA hC hG kFX6_13_6 rfl rfl dX6_data_210 ?_
          refine z_iload hC (hL.at 6 rfl) dX6_data_213 ?_
          refine z_iald hC hG rfl rfl rfl hz25_0 hV dX6_data_215 ?_
          intro x4 hx4 hV
          refine z_icmp_ge (tgt := 250) hC ha207_10 hx4 hV dX6_data_216 (by decide) ?_ ?_
          · intro hV
            refine z_aload_n hC zvr_a rfl (hL.at 0 rfl) dX6_data_250 ?_
            refine z_iload_n hC rfl (hL.at 1 rfl) dX6_data_251 ?_
            refine z_iload_n hC rfl (hL.at 2 rfl) dX6_data_252 ?_
            refine z_iload_n hC rfl (hL.at 3 rfl) dX6_data_253 ?_
            refine z_iload hC (hL.at 4 rfl) dX6_data_254 ?_
            refine z_iload hC (hL.at 5 rfl) dX6_data_256 ?_
            refine z_iload hC (hL.at 7 rfl) dX6_data_258 ?_
            refine z_call_i hG (zrunV (ci := 6) hC hG (Nat.le_of_ble_eq_true rfl) (Nat.le_of_ble_eq_true rfl) (zobj hG rfl (Nat.le_of_ble_eq_true rfl) (Nat.le_of_ble_eq_true rfl)) (mX6_value l P G1 p0 hp0 p1 hp1 p2 hp2 p3 hp3 p4 hp4 a207_9 ha207_9 hV) kVX6_189 rfl rfl rfl ⟨(Nat.le_of_ble_eq_true rfl), (Nat.le_of_ble_eq_true rfl)⟩ ⟨(Nat.le_of_ble_eq_true rfl), (Nat.le_of_ble_eq_true rfl)⟩ rfl ⟨zcs_0, (Nat.le_of_ble_eq_true rfl)⟩ hL.1.1 dX6_data_260) ?_
            rintro x5 G2 _ _ hx5 hV hG
            exact z_iret hC hG hr hk hx5 hV (Nat.le_of_ble_eq_true rfl) (Nat.le_of_ble_eq_true rfl) dX6_data_263
          · intro hV
            refine z_iload hC (hL.at 7 rfl) dX6_data_219 ?_
            refine z_iload hC (hL.at 8 rfl) dX6_data_221 ?_
            refine z_iconst hC dX6_data_223 ?_
            refine z_iadd hC dX6_data_224 ?_
            refine z_aload_n hC zvr_a rfl (hL.at 0 rfl) dX6_data_225 ?_
            refine z_getA hC hG kFX6_28_6 rfl rfl dX6_data_226 ?_
            refine z_iload_n hC rfl (hL.at 3 rfl) dX6_data_229 ?_
            refine z_iload hC (hL.at 4 rfl) dX6_data_230 ?_
            refine z_iload hC (hL.at 5 rfl) dX6_data_232 ?_
            refine z_iload hC (hL.at 8 rfl) dX6_data_234 ?_
            refine z_call_i hG (zrunS hC hG (mX6_pick l P G1 p2 hp2 p3 hp3 p4 hp4 a207_10 ha207_10 hV) kSX6_175 rfl rfl rfl ⟨(Nat.le_of_ble_eq_true rfl), (Nat.le_of_ble_eq_true rfl)⟩ ⟨(Nat.le_of_ble_eq_true rfl), (Nat.le_of_ble_eq_true rfl)⟩ rfl ⟨(zcs_c rfl (zcs_c rfl (zcs_c rfl zcs_0))), (Nat.le_of_ble_eq_true rfl)⟩ hL.1.1 dX6_data_236) ?_
            rintro x6 _ _ _ hx6 ⟨rfl, hV⟩ hG
            refine z_iald hC hG rfl rfl rfl hx6 hV dX6_data_239 ?_
            intro x7 hx7 hV
            refine z_imul hC dX6_data_240 ?_
            refine z_iadd hC dX6_data_241 ?_
            refine z_top hV (inR_w _) ?_
            intro x8 hx8 hV
            refine z_istore (lv' := [(9, .int (zI x8)), (0, .ref (zA P 5 0 0)), (1, .int (zI p0)), (2, .int (zI p1)), (3, .int (zI p2)), (4, .int (zI p3)), (5, .int (zI p4)), (8, .int (zI z25_0)), (10, .int (zI a207_10))]) hC hL (by decide) rfl dX6_data_242 (fun ls hL => ?_)
            refine z_iincV (fun x9 => [(10, .int (zI x9)), (9, .int (zI x8)), (0, .ref (zA P 5 0 0)), (1, .int (zI p0)), (2, .int (zI p1)), (3, .int (zI p2)), (4, .int (zI p3)), (5, .int (zI p4)), (8, .int (zI z25_0))]) hC hL (k := 8) rfl (by decide) (fun _ => rfl) hV dX6_data_244 ?_
            intro x9 hx9 hV ls hL
            refine z_goto (tgt := 207) hC dX6_data_247 (by decide) ?_
            exact hP207 x8 x9 hV hx8 hx9 _ _ hG _ (hL.sub [2, 3, 4, 5, 6, 7, 8, 1, 0] rfl)
        · intro hV
          refine z_iconst hC dX6_data_197 ?_
          exact z_iret hC hG hr hk (inR_lit rfl) hV (Nat.le_of_ble_eq_true rfl) (Nat.le_of_ble_eq_true rfl) dX6_data_198
      refine z_if_ne (tgt := 168) hC (inR_b ha30_6) hV dX6_data_161 (by decide) ?_ ?_
      · intro hV
        refine z_iload hC (hL.at 7 rfl) dX6_data_168 ?_
        refine z_if_ne (tgt := 177) hC (inR_b ha30_7) hV dX6_data_170 (by decide) ?_ ?_
        · intro hV
          refine z_aload_n hC zvr_a rfl (hL.at 0 rfl) dX6_data_177 ?_
          refine z_getF hC hG kFX6_186_6 rfl rfl hV dX6_data_178 ?_
          intro x10 hx10 hV
          refine z_bipush hC rfl dX6_data_181 ?_
          refine z_icmp_ne (tgt := 190) hC hx10 (inR_lit rfl) hV dX6_data_183 (by decide) ?_ ?_
          · intro hV
            refine z_iconst hC dX6_data_190 ?_
            exact hJ191 hG 0 (inR_lit rfl) hV _ (hL.sub [0, 1, 2, 3, 4, 5, 8] rfl)
          · intro hV
            refine z_iconst hC dX6_data_186 ?_
            refine z_goto (tgt := 191) hC dX6_data_187 (by decide) ?_
            exact hJ191 hG 3 (inR_lit rfl) hV _ (hL.sub [0, 1, 2, 3, 4, 5, 8] rfl)
        · intro hV
          refine z_iconst hC dX6_data_173 ?_
          refine z_goto (tgt := 191) hC dX6_data_174 (by decide) ?_
          exact hJ191 hG 2 (inR_lit rfl) hV _ (hL.sub [0, 1, 2, 3, 4, 5, 8] rfl)
      · intro hV
        refine z_iconst hC dX6_data_164 ?_
        refine z_goto (tgt := 191) hC dX6_data_165 (by decide) ?_
        exact hJ191 hG 1 (inR_lit rfl) hV _ (hL.sub [0, 1, 2, 3, 4, 5, 8] rfl)
    refine z_icmp_ge (tgt := 158) hC ha30_9 (inR_lit rfl) hV dX6_data_33 (by decide) ?_ ?_
    · intro hV
      exact hJ158 hG hV _ (hL.sub [0, 1, 2, 3, 4, 5, 6, 7, 8] rfl)
    · intro hV
      refine z_iload hC (hL.at 6 rfl) dX6_data_36 ?_
      refine z_if_eq (tgt := 158) hC (inR_b ha30_6) hV dX6_data_38 (by decide) ?_ ?_
      · intro hV
        exact hJ158 hG hV _ (hL.sub [0, 1, 2, 3, 4, 5, 6, 7, 8] rfl)
      · intro hV
        refine z_iload_n hC rfl (hL.at 3 rfl) dX6_data_41 ?_
        refine z_iload hC (hL.at 4 rfl) dX6_data_42 ?_
        refine z_iload hC (hL.at 5 rfl) dX6_data_44 ?_
        refine z_iload hC (hL.at 9 rfl) dX6_data_46 ?_
        refine z_call_i hG (zrunS hC hG (mX6_pick l P G p2 hp2 p3 hp3 p4 hp4 a30_9 ha30_9 hV) kSX6_175 rfl rfl rfl ⟨(Nat.le_of_ble_eq_true rfl), (Nat.le_of_ble_eq_true rfl)⟩ ⟨(Nat.le_of_ble_eq_true rfl), (Nat.le_of_ble_eq_true rfl)⟩ rfl ⟨zcs_0, (Nat.le_of_ble_eq_true rfl)⟩ hL.1.1 dX6_data_48) ?_
        rintro x11 _ _ _ hx11 ⟨rfl, hV⟩ hG
        refine z_istore (lv' := [(10, .int (zI x11)), (0, .ref (zA P 5 0 0)), (1, .int (zI p0)), (2, .int (zI p1)), (3, .int (zI p2)), (4, .int (zI p3)), (5, .int (zI p4)), (6, .int (zI a30_6)), (7, .int (zI a30_7)), (8, .int (zI z25_0)), (9, .int (zI a30_9))]) hC hL (by decide) rfl dX6_data_51 (fun ls hL => ?_)
        refine z_iload hC (hL.at 10 rfl) dX6_data_53 ?_
        refine z_aload_n hC zvr_a rfl (hL.at 1 rfl) dX6_data_55 ?_
        refine z_getA hC hG kFX6_13_6 rfl rfl dX6_data_56 ?_
        refine z_iload hC (hL.at 9 rfl) dX6_data_59 ?_
        refine z_iald hC hG rfl rfl rfl hz25_0 hV dX6_data_61 ?_
        intro x12 hx12 hV
        obtain ⟨J70, eJ70, hV⟩ := zjn_abs hV
        have hJ70 : ∀ {H : Heap} {locs : List Loc}, zS P s G H locs → ∀ (z70_0 : Int), (z70_0 = 0 ∨ z70_0 = 1) → J70 z70_0 → ∀ (ls : Array Slot), zL ls 12 [(0, .ref (zA P 5 0 0)), (1, .int (zI p0)), (2, .int (zI p1)), (3, .int (zI p2)), (4, .int (zI p3)), (5, .int (zI p4)), (7, .int (zI a30_7)), (8, .int (zI z25_0)), (9, .int (zI a30_9)), (10, .int (zI x11))] → W p l e rX6_data s m args below meth c H locs 0 0 (MQ below (zQi P Q) args s 0 0 (zAr P)) (F0 m 70 ls [.int (zI z70_0)]) := by
          intro H locs hG z70_0 hz70_0 hV ls hL
          rw [eJ70] at hV
          refine z_istore (lv' := [(11, .int (zI z70_0)), (0, .ref (zA P 5 0 0)), (1, .int (zI p0)), (2, .int (zI p1)), (3, .int (zI p2)), (4, .int (zI p3)), (5, .int (zI p4)), (7, .int (zI a30_7)), (8, .int (zI z25_0)), (9, .int (zI a30_9)), (10, .int (zI x11))]) hC hL (by decide) rfl dX6_data_70 (fun ls hL => ?_)
          refine z_iload hC (hL.at 0 rfl) dX6_data_72 ?_
          obtain ⟨J97, eJ97, hV⟩ := zjn_abs hV
          have hJ97 : ∀ {H : Heap} {locs : List Loc}, zS P s G H locs → ∀ (z97_0 : Int), (z97_0 = 0 ∨ z97_0 = 1) → J97 z97_0 → ∀ (ls : Array Slot), zL ls 12 [(0, .ref (zA P 5 0 0)), (1, .int (zI p0)), (2, .int (zI p1)), (3, .int (zI p2)), (4, .int (zI p3)), (5, .int (zI p4)), (7, .int (zI a30_7)), (8, .int (zI z25_0)), (9, .int (zI a30_9)), (10, .int (zI x11)), (11, .int (zI z70_0))] → W p l e rX6_data s m args below meth c H locs 0 0 (MQ below (zQi P Q) args s 0 0 (zAr P)) (F0 m 97 ls [.int (zI z97_0)]) := by
            intro H locs hG z97_0 hz97_0 hV ls hL
            rw [eJ97] at hV
            refine z_istore (lv' := [(6, .int (zI z97_0)), (0, .ref (zA P 5 0 0)), (1, .int (zI p0)), (2, .int (zI p1)), (3, .int (zI p2)), (4, .int (zI p3)), (5, .int (zI p4)), (7, .int (zI a30_7)), (8, .int (zI z25_0)), (9, .int (zI a30_9)), (10, .int (zI x11)), (11, .int (zI z70_0))]) hC hL (by decide) rfl dX6_data_97 (fun ls hL => ?_)
            refine z_iload hC (hL.at 7 rfl) dX6_data_99 ?_
            obtain ⟨J150, eJ150, hV⟩ := zjn_abs hV
            have hJ150 : ∀ {H : Heap} {locs : List Loc}, zS P s G H locs → ∀ (z150_0 : Int), (z150_0 = 0 ∨ z150_0 = 1) → J150 z150_0 → ∀ (ls : Array Slot), zL ls 12 [(0, .ref (zA P 5 0 0)), (1, .int (zI p0)), (2, .int (zI p1)), (3, .int (zI p2)), (4, .int (zI p3)), (5, .int (zI p4)), (6, .int (zI z97_0)), (8, .int (zI z25_0)), (9, .int (zI a30_9))] → W p l e rX6_data s m args below meth c H locs 0 0 (MQ below (zQi P Q) args s 0 0 (zAr P)) (F0 m 150 ls [.int (zI z150_0)]) := by
              intro H locs hG z150_0 hz150_0 hV ls hL
              rw [eJ150] at hV
              refine z_istore (lv' := [(7, .int (zI z150_0)), (0, .ref (zA P 5 0 0)), (1, .int (zI p0)), (2, .int (zI p1)), (3, .int (zI p2)), (4, .int (zI p3)), (5, .int (zI p4)), (6, .int (zI z97_0)), (8, .int (zI z25_0)), (9, .int (zI a30_9))]) hC hL (by decide) rfl dX6_data_150 (fun ls hL => ?_)
              refine z_iincV (fun x13 => [(9, .int (zI x13)), (7, .int (zI z150_0)), (0, .ref (zA P 5 0 0)), (1, .int (zI p0)), (2, .int (zI p1)), (3, .int (zI p2)), (4, .int (zI p3)), (5, .int (zI p4)), (6, .int (zI z97_0)), (8, .int (zI z25_0))]) hC hL (k := 9) rfl (by decide) (fun _ => rfl) hV dX6_data_152 ?_
              intro x13 hx13 hV ls hL
              refine z_goto (tgt := 30) hC dX6_data_155 (by decide) ?_
              exact hP30 z97_0 z150_0 x13 hV hz97_0 hz150_0 hx13 _ _ hG _ (hL.sub [2, 3, 4, 5, 6, 7, 8, 1, 9, 0] rfl)
            obtain ⟨J149, eJ149, hV⟩ := zjn_abs hV
            have hJ149 : ∀ {H : Heap} {locs : List Loc}, zS P s G H locs → J149 () → ∀ (ls : Array Slot), zL ls 12 [(0, .ref (zA P 5 0 0)), (1, .int (zI p0)), (2, .int (zI p1)), (3, .int (zI p2)), (4, .int (zI p3)), (5, .int (zI p4)), (6, .int (zI z97_0)), (8, .int (zI z25_0)), (9, .int (zI a30_9))] → W p l e rX6_data s m args below meth c H locs 0 0 (MQ below (zQi P Q) args s 0 0 (zAr P)) (F0 m 149 ls []) := by
              intro H locs hG hV ls hL
              rw [eJ149] at hV
              refine z_iconst hC dX6_data_149 ?_
              exact hJ150 hG 0 (Or.inl rfl) hV _ hL
            refine z_if_eq (tgt := 149) hC (inR_b ha30_7) hV dX6_data_101 (by decide) ?_ ?_
            · intro hV
              exact hJ149 hG hV _ (hL.sub [1, 2, 3, 4, 5, 6, 0, 8, 9] rfl)
            · intro hV
              refine z_iload hC (hL.at 11 rfl) dX6_data_104 ?_
              obtain ⟨J145, eJ145, hV⟩ := zjn_abs hV
              have hJ145 : ∀ {H : Heap} {locs : List Loc}, zS P s G H locs → J145 () → ∀ (ls : Array Slot), zL ls 12 [(0, .ref (zA P 5 0 0)), (1, .int (zI p0)), (2, .int (zI p1)), (3, .int (zI p2)), (4, .int (zI p3)), (5, .int (zI p4)), (6, .int (zI z97_0)), (8, .int (zI z25_0)), (9, .int (zI a30_9))] → W p l e rX6_data s m args below meth c H locs 0 0 (MQ below (zQi P Q) args s 0 0 (zAr P)) (F0 m 145 ls []) := by
                intro H locs hG hV ls hL
                rw [eJ145] at hV
                refine z_iconst hC dX6_data_145 ?_
                refine z_goto (tgt := 150) hC dX6_data_146 (by decide) ?_
                exact hJ150 hG 1 (Or.inr rfl) hV _ hL
              refine z_if_eq (tgt := 139) hC (inR_b hz70_0) hV dX6_data_106 (by decide) ?_ ?_
              · intro hV
                refine z_iload hC (hL.at 10 rfl) dX6_data_139 ?_
                refine z_iconst hC dX6_data_141 ?_
                refine z_icmp_ne (tgt := 149) hC hx11 (inR_lit rfl) hV dX6_data_142 (by decide) ?_ ?_
                · intro hV
                  exact hJ149 hG hV _ (hL.sub [1, 2, 3, 4, 5, 6, 0, 8, 9] rfl)
                · intro hV
                  exact hJ145 hG hV _ (hL.sub [1, 2, 3, 4, 5, 6, 0, 8, 9] rfl)
              · intro hV
                refine z_iload hC (hL.at 0 rfl) dX6_data_109 ?_
                refine z_if_eq (tgt := 149) hC (inR_b hz97_0) hV dX6_data_111 (by decide) ?_ ?_
                · intro hV
                  exact hJ149 hG hV _ (hL.sub [1, 2, 3, 4, 5, 6, 0, 8, 9] rfl)
                · intro hV
                  refine z_aload_n hC zvr_a rfl (hL.at 1 rfl) dX6_data_114 ?_
                  refine z_getA hC hG kFX6_19_6 rfl rfl dX6_data_115 ?_
                  refine z_iload hC (hL.at 10 rfl) dX6_data_118 ?_
                  refine z_iald hC hG rfl rfl rfl hx11 hV dX6_data_120 ?_
                  intro x14 hx14 hV
                  refine z_aload_n hC zvr_a rfl (hL.at 1 rfl) dX6_data_121 ?_
                  refine z_getA hC hG kFX6_16_6 rfl rfl dX6_data_122 ?_
                  refine z_iconst hC dX6_data_125 ?_
                  refine z_iload hC (hL.at 8 rfl) dX6_data_126 ?_
                  refine z_imul hC dX6_data_128 ?_
                  refine z_iload hC (hL.at 9 rfl) dX6_data_129 ?_
                  refine z_iadd hC dX6_data_131 ?_
                  refine z_iald hC hG rfl rfl rfl (inR_w _) hV dX6_data_132 ?_
                  intro x15 hx15 hV
                  refine z_icmp_ne (tgt := 149) hC hx14 hx15 hV dX6_data_133 (by decide) ?_ ?_
                  · intro hV
                    exact hJ149 hG hV _ (hL.sub [1, 2, 3, 4, 5, 6, 0, 8, 9] rfl)
                  · intro hV
                    refine z_goto (tgt := 145) hC dX6_data_136 (by decide) ?_
                    exact hJ145 hG hV _ (hL.sub [1, 2, 3, 4, 5, 6, 0, 8, 9] rfl)
          obtain ⟨J92, eJ92, hV⟩ := zjn_abs hV
          have hJ92 : ∀ {H : Heap} {locs : List Loc}, zS P s G H locs → J92 () → ∀ (ls : Array Slot), zL ls 12 [(0, .ref (zA P 5 0 0)), (1, .int (zI p0)), (2, .int (zI p1)), (3, .int (zI p2)), (4, .int (zI p3)), (5, .int (zI p4)), (7, .int (zI a30_7)), (8, .int (zI z25_0)), (9, .int (zI a30_9)), (10, .int (zI x11)), (11, .int (zI z70_0))] → W p l e rX6_data s m args below meth c H locs 0 0 (MQ below (zQi P Q) args s 0 0 (zAr P)) (F0 m 92 ls []) := by
            intro H locs hG hV ls hL
            rw [eJ92] at hV
            refine z_iconst hC dX6_data_92 ?_
            refine z_goto (tgt := 97) hC dX6_data_93 (by decide) ?_
            exact hJ97 hG 1 (Or.inr rfl) hV _ hL
          refine z_if_eq (tgt := 92) hC (inR_b hz70_0) hV dX6_data_74 (by decide) ?_ ?_
          · intro hV
            exact hJ92 hG hV _ (hL.sub [1, 2, 3, 4, 5, 6, 7, 8, 9, 10, 0] rfl)
          · intro hV
            refine z_iload hC (hL.at 10 rfl) dX6_data_77 ?_
            refine z_iconst hC dX6_data_79 ?_
            refine z_aload_n hC zvr_a rfl (hL.at 1 rfl) dX6_data_80 ?_
            refine z_getF hC hG kFX6_186_6 rfl rfl hV dX6_data_81 ?_
            intro x16 hx16 hV
            refine z_iconst hC dX6_data_84 ?_
            refine z_isub hC dX6_data_85 ?_
            refine z_call_z hG (zrunS hC hG (mX6_in l P G x11 hx11 0 (inR_lit rfl) (w32 (x16 - 1)) (inR_w _) hV) kSX6_171 rfl rfl rfl ⟨(Nat.le_of_ble_eq_true rfl), (Nat.le_of_ble_eq_true rfl)⟩ ⟨(Nat.le_of_ble_eq_true rfl), (Nat.le_of_ble_eq_true rfl)⟩ rfl ⟨zcs_0, (Nat.le_of_ble_eq_true rfl)⟩ hL.1.1 dX6_data_86) ?_
            rintro x17 _ _ _ hx17 ⟨rfl, hV⟩ hG
            refine z_if_eq (tgt := 96) hC (inR_b hx17) hV dX6_data_89 (by decide) ?_ ?_
            · intro hV
              refine z_iconst hC dX6_data_96 ?_
              exact hJ97 hG 0 (Or.inl rfl) hV _ (hL.sub [1, 2, 3, 4, 5, 6, 7, 8, 9, 10, 0] rfl)
            · intro hV
              exact hJ92 hG hV _ (hL.sub [1, 2, 3, 4, 5, 6, 7, 8, 9, 10, 0] rfl)
        refine z_icmp_ge (tgt := 69) hC ha30_9 hx12 hV dX6_data_62 (by decide) ?_ ?_
        · intro hV
          refine z_iconst hC dX6_data_69 ?_
          exact hJ70 hG 0 (Or.inl rfl) hV _ (hL.sub [1, 2, 3, 4, 5, 6, 8, 9, 10, 0] rfl)
        · intro hV
          refine z_iconst hC dX6_data_65 ?_
          refine z_goto (tgt := 70) hC dX6_data_66 (by decide) ?_
          exact hJ70 hG 1 (Or.inr rfl) hV _ (hL.sub [1, 2, 3, 4, 5, 6, 8, 9, 10, 0] rfl)
  refine z_if_eq (tgt := 24) hC (inR_b hx1) hV dX6_data_13 (by decide) ?_ ?_
  · intro hV
    refine z_iconst hC dX6_data_24 ?_
    exact hJ25 hG 0 (inR_lit rfl) hV _ (hL.sub [2, 3, 4, 5, 6, 7, 1, 0] rfl)
  · intro hV
    refine z_iconst hC dX6_data_16 ?_
    refine z_iload_n hC rfl (hL.at 3 rfl) dX6_data_17 ?_
    refine z_imul hC dX6_data_18 ?_
    refine z_iload_n hC rfl (hL.at 4 rfl) dX6_data_19 ?_
    refine z_iadd hC dX6_data_20 ?_
    refine z_goto (tgt := 25) hC dX6_data_21 (by decide) ?_
    exact hJ25 hG (w32 ((w32 (4 * p0)) + p1)) (inR_w _) hV _ (hL.sub [2, 3, 4, 5, 6, 7, 1, 0] rfl)
abbrev rX6_isFull : Room := { frames := 1, cells := 0, slots := 0, locals := 12 }
def vX6_isFull (G : ZG) (Q : Int → Prop) : Prop := zgF G 5 9 fun (x1 : Int) => zjn (fun (z14_0 : Int) => Q z14_0) fun J14 => zbr (x1 ≠ 60) (J14 0) (J14 1)
set_option maxHeartbeats 4000000 in
theorem mX6_isFull (l : Launch) (P : ZP) (G : ZG) {Q : Int → Prop} (hV : vX6_isFull G Q) : Met l yX6_isFull (ws_ yX6_isFull cX6_isFull 1 (some .boolean)) rX6_isFull (zPc P G [.ref (zA P 5 0 0)]) (zQz P (fun r G2 => G = G2 ∧ Q r)) 0 0 (zAr P) := by
  refine zMet RX6 (plainFor_of_name (by decide)) rfl (zcs_c rfl zcs_0) (Nat.le_of_ble_eq_true rfl) (fun p e s m args below meth c ls hC hr hk hn hG hL => ?_)
  unfold vX6_isFull at hV
  refine z_aload_n hC zvr_a rfl (hL.at 0 rfl) dX6_isFull_0 ?_
  refine z_getF hC hG kFX6_197_6 rfl rfl hV dX6_isFull_1 ?_
  intro x1 hx1 hV
  refine z_bipush hC rfl dX6_isFull_4 ?_
  obtain ⟨J14, eJ14, hV⟩ := zjn_abs hV
  have hJ14 : ∀ {H : Heap} {locs : List Loc}, zS P s G H locs → ∀ (z14_0 : Int), (z14_0 = 0 ∨ z14_0 = 1) → J14 z14_0 → ∀ (ls : Array Slot), zL ls 1 [] → W p l e rX6_isFull s m args below meth c H locs 0 0 (MQ below (zQz P (fun r G2 => G = G2 ∧ Q r)) args s 0 0 (zAr P)) (F0 m 14 ls [.int (zI z14_0)]) := by
    intro H locs hG z14_0 hz14_0 hV ls hL
    rw [eJ14] at hV
    exact z_zret hC hG hr hk hz14_0 ⟨rfl, hV⟩ (Nat.le_of_ble_eq_true rfl) (Nat.le_of_ble_eq_true rfl) dX6_isFull_14
  refine z_icmp_ne (tgt := 13) hC hx1 (inR_lit rfl) hV dX6_isFull_6 (by decide) ?_ ?_
  · intro hV
    refine z_iconst hC dX6_isFull_13 ?_
    exact hJ14 hG 0 (Or.inl rfl) hV _ (hL.sub [] rfl)
  · intro hV
    refine z_iconst hC dX6_isFull_9 ?_
    refine z_goto (tgt := 14) hC dX6_isFull_10 (by decide) ?_
    exact hJ14 hG 1 (Or.inr rfl) hV _ (hL.sub [] rfl)
abbrev rX6_sizeOf : Room := { frames := 1, cells := 0, slots := 0, locals := 12 }
def vX6_sizeOf (p0 : Int) (p1 : Int) (p2 : Int) (G : ZG) (Q : Int → Prop) : Prop := zjn (fun (z16_1 : Int) => zjn (fun (z32_1 : Int) => zjn (fun (z48_1 : Int) => Q (w32 ((w32 ((w32 (1 + z16_1)) + z32_1)) + z48_1))) fun J48 => zbr (p2 ≠ (-1)) (zaL G 5 16 60 p2 fun (x1 : Int) => J48 x1) (J48 0)) fun J32 => zbr (p1 ≠ (-1)) (zaL G 5 16 60 p1 fun (x2 : Int) => J32 x2) (J32 0)) fun J16 => zbr (p0 ≠ (-1)) (zaL G 5 16 60 p0 fun (x3 : Int) => J16 x3) (J16 0)
set_option maxHeartbeats 4000000 in
theorem mX6_sizeOf (l : Launch) (P : ZP) (G : ZG) (p0 : Int) (hp0 : inR p0) (p1 : Int) (hp1 : inR p1) (p2 : Int) (hp2 : inR p2) {Q : Int → Prop} (hV : vX6_sizeOf p0 p1 p2 G Q) : Met l yX6_sizeOf (ws_ yX6_sizeOf cX6_sizeOf 4 (some .int)) rX6_sizeOf (zPc P G [.ref (zA P 5 0 0), .int (zI p0), .int (zI p1), .int (zI p2)]) (zQi P (fun r G2 => G = G2 ∧ Q r)) 0 0 (zAr P) := by
  refine zMet RX6 (plainFor_of_name (by decide)) rfl (zcs_c rfl (zcs_c rfl (zcs_c rfl (zcs_c rfl zcs_0)))) (Nat.le_of_ble_eq_true rfl) (fun p e s m args below meth c ls hC hr hk hn hG hL => ?_)
  unfold vX6_sizeOf at hV
  refine z_iconst hC dX6_sizeOf_0 ?_
  refine z_iload_n hC rfl (hL.at 1 rfl) dX6_sizeOf_1 ?_
  refine z_iconst hC dX6_sizeOf_2 ?_
  obtain ⟨J16, eJ16, hV⟩ := zjn_abs hV
  have hJ16 : ∀ {H : Heap} {locs : List Loc}, zS P s G H locs → ∀ (z16_1 : Int), inR z16_1 → J16 z16_1 → ∀ (ls : Array Slot), zL ls 4 [(0, .ref (zA P 5 0 0)), (2, .int (zI p1)), (3, .int (zI p2))] → W p l e rX6_sizeOf s m args below meth c H locs 0 0 (MQ below (zQi P (fun r G2 => G = G2 ∧ Q r)) args s 0 0 (zAr P)) (F0 m 16 ls [.int (zI z16_1), .int (zI 1)]) := by
    intro H locs hG z16_1 hz16_1 hV ls hL
    rw [eJ16] at hV
    refine z_iadd hC dX6_sizeOf_16 ?_
    refine z_iload_n hC rfl (hL.at 1 rfl) dX6_sizeOf_17 ?_
    refine z_iconst hC dX6_sizeOf_18 ?_
    obtain ⟨J32, eJ32, hV⟩ := zjn_abs hV
    have hJ32 : ∀ {H : Heap} {locs : List Loc}, zS P s G H locs → ∀ (z32_1 : Int), inR z32_1 → J32 z32_1 → ∀ (ls : Array Slot), zL ls 4 [(0, .ref (zA P 5 0 0)), (3, .int (zI p2))] → W p l e rX6_sizeOf s m args below meth c H locs 0 0 (MQ below (zQi P (fun r G2 => G = G2 ∧ Q r)) args s 0 0 (zAr P)) (F0 m 32 ls [.int (zI z32_1), .int (zI (w32 (1 + z16_1)))]) := by
      intro H locs hG z32_1 hz32_1 hV ls hL
      rw [eJ32] at hV
      refine z_iadd hC dX6_sizeOf_32 ?_
      refine z_iload_n hC rfl (hL.at 1 rfl) dX6_sizeOf_33 ?_
      refine z_iconst hC dX6_sizeOf_34 ?_
      obtain ⟨J48, eJ48, hV⟩ := zjn_abs hV
      have hJ48 : ∀ {H : Heap} {locs : List Loc}, zS P s G H locs → ∀ (z48_1 : Int), inR z48_1 → J48 z48_1 → ∀ (ls : Array Slot), zL ls 4 [] → W p l e rX6_sizeOf s m args below meth c H locs 0 0 (MQ below (zQi P (fun r G2 => G = G2 ∧ Q r)) args s 0 0 (zAr P)) (F0 m 48 ls [.int (zI z48_1), .int (zI (w32 ((w32 (1 + z16_1)) + z32_1)))]) := by
        intro H locs hG z48_1 hz48_1 hV ls hL
        rw [eJ48] at hV
        refine z_iadd hC dX6_sizeOf_48 ?_
        exact z_iret hC hG hr hk (inR_w _) ⟨rfl, hV⟩ (Nat.le_of_ble_eq_true rfl) (Nat.le_of_ble_eq_true rfl) dX6_sizeOf_49
      refine z_icmp_ne (tgt := 42) hC hp2 (inR_lit rfl) hV dX6_sizeOf_35 (by decide) ?_ ?_
      · intro hV
        refine z_aload_n hC zvr_a rfl (hL.at 0 rfl) dX6_sizeOf_42 ?_
        refine z_getA hC hG kFX6_49_6 rfl rfl dX6_sizeOf_43 ?_
        refine z_iload_n hC rfl (hL.at 1 rfl) dX6_sizeOf_46 ?_
        refine z_iald hC hG rfl rfl rfl hp2 hV dX6_sizeOf_47 ?_
        intro x1 hx1 hV
        exact hJ48 hG x1 hx1 hV _ (hL.sub [] rfl)
      · intro hV
        refine z_iconst hC dX6_sizeOf_38 ?_
        refine z_goto (tgt := 48) hC dX6_sizeOf_39 (by decide) ?_
        exact hJ48 hG 0 (inR_lit rfl) hV _ (hL.sub [] rfl)
    refine z_icmp_ne (tgt := 26) hC hp1 (inR_lit rfl) hV dX6_sizeOf_19 (by decide) ?_ ?_
    · intro hV
      refine z_aload_n hC zvr_a rfl (hL.at 0 rfl) dX6_sizeOf_26 ?_
      refine z_getA hC hG kFX6_49_6 rfl rfl dX6_sizeOf_27 ?_
      refine z_iload_n hC rfl (hL.at 1 rfl) dX6_sizeOf_30 ?_
      refine z_iald hC hG rfl rfl rfl hp1 hV dX6_sizeOf_31 ?_
      intro x2 hx2 hV
      exact hJ32 hG x2 hx2 hV _ (hL.sub [0, 2] rfl)
    · intro hV
      refine z_iconst hC dX6_sizeOf_22 ?_
      refine z_goto (tgt := 32) hC dX6_sizeOf_23 (by decide) ?_
      exact hJ32 hG 0 (inR_lit rfl) hV _ (hL.sub [0, 2] rfl)
  refine z_icmp_ne (tgt := 10) hC hp0 (inR_lit rfl) hV dX6_sizeOf_3 (by decide) ?_ ?_
  · intro hV
    refine z_aload_n hC zvr_a rfl (hL.at 0 rfl) dX6_sizeOf_10 ?_
    refine z_getA hC hG kFX6_49_6 rfl rfl dX6_sizeOf_11 ?_
    refine z_iload_n hC rfl (hL.at 1 rfl) dX6_sizeOf_14 ?_
    refine z_iald hC hG rfl rfl rfl hp0 hV dX6_sizeOf_15 ?_
    intro x3 hx3 hV
    exact hJ16 hG x3 hx3 hV _ (hL.sub [0, 2, 3] rfl)
  · intro hV
    refine z_iconst hC dX6_sizeOf_6 ?_
    refine z_goto (tgt := 16) hC dX6_sizeOf_7 (by decide) ?_
    exact hJ16 hG 0 (inR_lit rfl) hV _ (hL.sub [0, 2, 3] rfl)
abbrev rX6_pattern : Room := { frames := 2, cells := 0, slots := 0, locals := 35 }
def vX6_pattern (p0 : Int) (p1 : Int) (p2 : Int) (p3 : Int) (p4 : Int) (p5 : Int) (p6 : Int) (G : ZG) (Q : Int → ZG → Prop) : Prop := zgF G 5 9 fun (x1 : Int) => zaS G 5 10 60 x1 p0 fun (G1 : ZG) => zaS G1 5 11 60 x1 p1 fun (G2 : ZG) => zaS G2 5 12 60 x1 p2 fun (G3 : ZG) => zaS G3 5 14 60 x1 p6 fun (G4 : ZG) => zjn (fun (z57_2 : Int) => zaS G4 5 17 60 x1 z57_2 fun (G5 : ZG) => zjn (fun (z74_2 : Int) => zaS G5 5 18 60 x1 z74_2 fun (G6 : ZG) => zjn (fun (z107_2 : Int) => zaS G6 5 19 60 x1 z107_2 fun (G7 : ZG) => zaS G7 5 15 60 x1 0 fun (G8 : ZG) => zl2 (fun (P119 : Int → ZG → Prop) (a119_9 : Int) (K119 : ZG) => zbr (3 ≤ a119_9) (zjn (fun (z306_0 : Int) => zaL K119 5 15 60 x1 fun (x2 : Int) => zjn (fun (z326_3 : Int) => zaS K119 5 15 60 x1 (w32 (x2 + z326_3)) fun (G9 : ZG) => vX6_sizeOf p3 p4 p5 G9 fun (x3 : Int) => zaS G9 5 16 60 x1 x3 fun (G10 : ZG) => zgF G10 5 9 fun (x4 : Int) => zpF G10 5 9 (w32 (x4 + 1)) fun (G11 : ZG) => Q x1 G11) fun J326 => zbr (z306_0 = 0) (J326 1) (J326 0)) fun J306 => zjn (fun (_ : Unit) => J306 1) fun J301 => zbr (p0 = 1) (J301 ()) (zbr (p0 = 4) (J301 ()) (zbr (p0 ≠ 5) (J306 0) (J301 ())))) (vX6_pick p3 p4 p5 a119_9 fun (x5 : Int) => zaS K119 5 13 180 (w32 ((w32 (3 * x1)) + a119_9)) x5 fun (G12 : ZG) => zjn (fun (H280 : ZG) => zlt1 (w32 (a119_9 + 1)) fun (x6 : Int) => P119 x6 H280) fun J280 => zbr (x5 = (-1)) (J280 G12) (zaL G12 5 17 60 x1 fun (x7 : Int) => zaL G12 5 17 60 x5 fun (x8 : Int) => zaS G12 5 17 60 x1 (bOr x7 x8) fun (G13 : ZG) => zaL G13 5 18 60 x1 fun (x9 : Int) => zjn (fun (z206_2 : Int) => zaS G13 5 18 60 x1 z206_2 fun (G14 : ZG) => zaL G14 5 19 60 x1 fun (x10 : Int) => zjn (fun (z238_2 : Int) => zaS G14 5 19 60 x1 z238_2 fun (G15 : ZG) => zaL G15 5 15 60 x5 fun (x11 : Int) => zaL G15 5 15 60 x1 fun (x12 : Int) => zjn (fun (z279_2 : Int) => zaS G15 5 15 60 x1 z279_2 fun (G16 : ZG) => J280 G16) fun J279 => zbr (x11 ≤ x12) (zaL G15 5 15 60 x1 fun (x13 : Int) => J279 x13) (zaL G15 5 15 60 x5 fun (x14 : Int) => J279 x14)) fun J238 => zjn (fun (_ : Unit) => J238 0) fun J237 => zbr (x10 = 0) (J237 ()) (zaL G14 5 19 60 x5 fun (x15 : Int) => zbr (x15 = 0) (J237 ()) (J238 1))) fun J206 => zjn (fun (_ : Unit) => J206 1) fun J201 => zbr (x9 ≠ 0) (J201 ()) (zaL G13 5 18 60 x5 fun (x16 : Int) => zbr (x16 = 0) (J206 0) (J201 ()))))) 0 G8) fun J107 => zjn (fun (_ : Unit) => J107 0) fun J106 => zbr (p0 = 1) (J106 ()) (zbr (p0 = 5) (J106 ()) (zbr (p0 = 3) (J106 ()) (zbr (p0 = 6) (J106 ()) (J107 1))))) fun J74 => zbr (p0 ≠ 5) (J74 0) (J74 1)) fun J57 => zbr (p0 ≠ 1) (J57 0) (J57 (bShl 1 p1))
set_option maxHeartbeats 4000000 in
theorem mX6_pattern (l : Launch) (P : ZP) (G : ZG) (p0 : Int) (hp0 : inR p0) (p1 : Int) (hp1 : inR p1) (p2 : Int) (hp2 : inR p2) (p3 : Int) (hp3 : inR p3) (p4 : Int) (hp4 : inR p4) (p5 : Int) (hp5 : inR p5) (p6 : Int) (hp6 : inR p6) {Q : Int → ZG → Prop} (hV : vX6_pattern p0 p1 p2 p3 p4 p5 p6 G Q) : Met l yX6_pattern (ws_ yX6_pattern cX6_pattern 11 (some .int)) rX6_pattern (zPc P G [.ref (zA P 5 0 0), .int (zI p0), .int (zI p1), .int (zI p2), .int (zI p3), .int (zI p4), .int (zI p5), .int (zI p6)]) (zQi P Q) 0 0 (zAr P) := by
  refine zMet RX6 (plainFor_of_name (by decide)) rfl (zcs_c rfl (zcs_c rfl (zcs_c rfl (zcs_c rfl (zcs_c rfl (zcs_c rfl (zcs_c rfl (zcs_c rfl zcs_0)))))))) (Nat.le_of_ble_eq_true rfl) (fun p e s m args below meth c ls hC hr hk hn hG hL => ?_)
  unfold vX6_pattern at hV
  refine z_aload_n hC zvr_a rfl (hL.at 0 rfl) dX6_pattern_0 ?_
  refine z_getF hC hG kFX6_197_6 rfl rfl hV dX6_pattern_1 ?_
  intro x1 hx1 hV
  refine z_istore (lv' := [(8, .int (zI x1)), (0, .ref (zA P 5 0 0)), (1, .int (zI p0)), (2, .int (zI p1)), (3, .int (zI p2)), (4, .int (zI p3)), (5, .int (zI p4)), (6, .int (zI p5)), (7, .int (zI p6))]) hC hL (by decide) rfl dX6_pattern_4 (fun ls hL => ?_)
  refine z_aload_n hC zvr_a rfl (hL.at 1 rfl) dX6_pattern_6 ?_
  refine z_getA hC hG kFX6_31_6 rfl rfl dX6_pattern_7 ?_
  refine z_iload hC (hL.at 0 rfl) dX6_pattern_10 ?_
  refine z_iload_n hC rfl (hL.at 2 rfl) dX6_pattern_12 ?_
  refine z_iast hC hG rfl (Nat.le_of_ble_eq_true rfl) (Nat.le_of_ble_eq_true rfl) rfl rfl rfl hx1 hp0 hV dX6_pattern_13 ?_
  intro G1 _ _ hG hV
  refine z_aload_n hC zvr_a rfl (hL.at 1 rfl) dX6_pattern_14 ?_
  refine z_getA hC hG kFX6_34_6 rfl rfl dX6_pattern_15 ?_
  refine z_iload hC (hL.at 0 rfl) dX6_pattern_18 ?_
  refine z_iload_n hC rfl (hL.at 3 rfl) dX6_pattern_20 ?_
  refine z_iast hC hG rfl (Nat.le_of_ble_eq_true rfl) (Nat.le_of_ble_eq_true rfl) rfl rfl rfl hx1 hp1 hV dX6_pattern_21 ?_
  intro G2 _ _ hG hV
  refine z_aload_n hC zvr_a rfl (hL.at 1 rfl) dX6_pattern_22 ?_
  refine z_getA hC hG kFX6_37_6 rfl rfl dX6_pattern_23 ?_
  refine z_iload hC (hL.at 0 rfl) dX6_pattern_26 ?_
  refine z_iload_n hC rfl (hL.at 4 rfl) dX6_pattern_28 ?_
  refine z_iast hC hG rfl (Nat.le_of_ble_eq_true rfl) (Nat.le_of_ble_eq_true rfl) rfl rfl rfl hx1 hp2 hV dX6_pattern_29 ?_
  intro G3 _ _ hG hV
  refine z_aload_n hC zvr_a rfl (hL.at 1 rfl) dX6_pattern_30 ?_
  refine z_getA hC hG kFX6_43_6 rfl rfl dX6_pattern_31 ?_
  refine z_iload hC (hL.at 0 rfl) dX6_pattern_34 ?_
  refine z_iload hC (hL.at 8 rfl) dX6_pattern_36 ?_
  refine z_iast hC hG rfl (Nat.le_of_ble_eq_true rfl) (Nat.le_of_ble_eq_true rfl) rfl rfl rfl hx1 hp6 hV dX6_pattern_38 ?_
  intro G4 _ _ hG hV
  refine z_aload_n hC zvr_a rfl (hL.at 1 rfl) dX6_pattern_39 ?_
  refine z_getA hC hG kFX6_52_6 rfl rfl dX6_pattern_40 ?_
  refine z_iload hC (hL.at 0 rfl) dX6_pattern_43 ?_
  refine z_iload_n hC rfl (hL.at 2 rfl) dX6_pattern_45 ?_
  refine z_iconst hC dX6_pattern_46 ?_
  obtain ⟨J57, eJ57, hV⟩ := zjn_abs hV
  have hJ57 : ∀ {H : Heap} {locs : List Loc}, zS P s G4 H locs → ∀ (z57_2 : Int), inR z57_2 → J57 z57_2 → ∀ (ls : Array Slot), zL ls 11 [(0, .ref (zA P 5 0 0)), (1, .int (zI p0)), (4, .int (zI p3)), (5, .int (zI p4)), (6, .int (zI p5)), (8, .int (zI x1))] → W p l e rX6_pattern s m args below meth c H locs 0 0 (MQ below (zQi P Q) args s 0 0 (zAr P)) (F0 m 57 ls [.int (zI z57_2), .int (zI x1), .ref (zA P 5 18 0)]) := by
    intro H locs hG z57_2 hz57_2 hV ls hL
    rw [eJ57] at hV
    refine z_iast hC hG rfl (Nat.le_of_ble_eq_true rfl) (Nat.le_of_ble_eq_true rfl) rfl rfl rfl hx1 hz57_2 hV dX6_pattern_57 ?_
    intro G5 _ _ hG hV
    refine z_aload_n hC zvr_a rfl (hL.at 0 rfl) dX6_pattern_58 ?_
    refine z_getA hC hG kFX6_55_6 rfl rfl dX6_pattern_59 ?_
    refine z_iload hC (hL.at 5 rfl) dX6_pattern_62 ?_
    refine z_iload_n hC rfl (hL.at 1 rfl) dX6_pattern_64 ?_
    refine z_iconst hC dX6_pattern_65 ?_
    obtain ⟨J74, eJ74, hV⟩ := zjn_abs hV
    have hJ74 : ∀ {H : Heap} {locs : List Loc}, zS P s G5 H locs → ∀ (z74_2 : Int), (z74_2 = 0 ∨ z74_2 = 1) → J74 z74_2 → ∀ (ls : Array Slot), zL ls 11 [(0, .ref (zA P 5 0 0)), (1, .int (zI p0)), (4, .int (zI p3)), (5, .int (zI p4)), (6, .int (zI p5)), (8, .int (zI x1))] → W p l e rX6_pattern s m args below meth c H locs 0 0 (MQ below (zQi P Q) args s 0 0 (zAr P)) (F0 m 74 ls [.int (zI z74_2), .int (zI x1), .ref (zA P 5 19 0)]) := by
      intro H locs hG z74_2 hz74_2 hV ls hL
      rw [eJ74] at hV
      refine z_zast hC hG rfl (Nat.le_of_ble_eq_true rfl) (Nat.le_of_ble_eq_true rfl) rfl rfl rfl hx1 hz74_2 hV dX6_pattern_74 ?_
      intro G6 _ _ hG hV
      refine z_aload_n hC zvr_a rfl (hL.at 0 rfl) dX6_pattern_75 ?_
      refine z_getA hC hG kFX6_59_6 rfl rfl dX6_pattern_76 ?_
      refine z_iload hC (hL.at 5 rfl) dX6_pattern_79 ?_
      refine z_iload_n hC rfl (hL.at 1 rfl) dX6_pattern_81 ?_
      refine z_iconst hC dX6_pattern_82 ?_
      obtain ⟨J107, eJ107, hV⟩ := zjn_abs hV
      have hJ107 : ∀ {H : Heap} {locs : List Loc}, zS P s G6 H locs → ∀ (z107_2 : Int), (z107_2 = 0 ∨ z107_2 = 1) → J107 z107_2 → ∀ (ls : Array Slot), zL ls 11 [(0, .ref (zA P 5 0 0)), (1, .int (zI p0)), (4, .int (zI p3)), (5, .int (zI p4)), (6, .int (zI p5)), (8, .int (zI x1))] → W p l e rX6_pattern s m args below meth c H locs 0 0 (MQ below (zQi P Q) args s 0 0 (zAr P)) (F0 m 107 ls [.int (zI z107_2), .int (zI x1), .ref (zA P 5 20 0)]) := by
        intro H locs hG z107_2 hz107_2 hV ls hL
        rw [eJ107] at hV
        refine z_zast hC hG rfl (Nat.le_of_ble_eq_true rfl) (Nat.le_of_ble_eq_true rfl) rfl rfl rfl hx1 hz107_2 hV dX6_pattern_107 ?_
        intro G7 _ _ hG hV
        refine z_aload_n hC zvr_a rfl (hL.at 0 rfl) dX6_pattern_108 ?_
        refine z_getA hC hG kFX6_46_6 rfl rfl dX6_pattern_109 ?_
        refine z_iload hC (hL.at 5 rfl) dX6_pattern_112 ?_
        refine z_iconst hC dX6_pattern_114 ?_
        refine z_iast hC hG rfl (Nat.le_of_ble_eq_true rfl) (Nat.le_of_ble_eq_true rfl) rfl rfl rfl hx1 (inR_lit rfl) hV dX6_pattern_115 ?_
        intro G8 _ _ hG hV
        refine z_iconst hC dX6_pattern_116 ?_
        refine z_istore (lv' := [(9, .int (zI 0)), (0, .ref (zA P 5 0 0)), (1, .int (zI p0)), (4, .int (zI p3)), (5, .int (zI p4)), (6, .int (zI p5)), (8, .int (zI x1))]) hC hL (by decide) rfl dX6_pattern_117 (fun ls hL => ?_)
        refine zl2_use hV (fun (a119_9 : Int) (K119 : ZG) => inR a119_9 → ∀ (H : Heap) (locs : List Loc), zS P s K119 H locs → ∀ (ls : Array Slot), zL ls 11 [(0, .ref (zA P 5 0 0)), (1, .int (zI p0)), (4, .int (zI p3)), (5, .int (zI p4)), (6, .int (zI p5)), (8, .int (zI x1)), (9, .int (zI a119_9))] → W p l e rX6_pattern s m args below meth c H locs 0 0 (MQ below (zQi P Q) args s 0 0 (zAr P)) (F0 m 119 ls [])) ?_ (inR_lit rfl) _ _ hG _ (hL.sub [1, 2, 3, 4, 5, 6, 0] rfl)
        intro P119 a119_9 K119 hP119 hV ha119_9 H locs hG ls hL
        refine z_iload hC (hL.at 6 rfl) dX6_pattern_119 ?_
        refine z_iconst hC dX6_pattern_121 ?_
        refine z_icmp_ge (tgt := 286) hC ha119_9 (inR_lit rfl) hV dX6_pattern_122 (by decide) ?_ ?_
        · intro hV
          refine z_iload_n hC rfl (hL.at 1 rfl) dX6_pattern_286 ?_
          refine z_iconst hC dX6_pattern_287 ?_
          obtain ⟨J306, eJ306, hV⟩ := zjn_abs hV
          have hJ306 : ∀ {H : Heap} {locs : List Loc}, zS P s K119 H locs → ∀ (z306_0 : Int), (z306_0 = 0 ∨ z306_0 = 1) → J306 z306_0 → ∀ (ls : Array Slot), zL ls 11 [(0, .ref (zA P 5 0 0)), (4, .int (zI p3)), (5, .int (zI p4)), (6, .int (zI p5)), (8, .int (zI x1))] → W p l e rX6_pattern s m args below meth c H locs 0 0 (MQ below (zQi P Q) args s 0 0 (zAr P)) (F0 m 306 ls [.int (zI z306_0)]) := by
            intro H locs hG z306_0 hz306_0 hV ls hL
            rw [eJ306] at hV
            refine z_istore (lv' := [(9, .int (zI z306_0)), (0, .ref (zA P 5 0 0)), (4, .int (zI p3)), (5, .int (zI p4)), (6, .int (zI p5)), (8, .int (zI x1))]) hC hL (by decide) rfl dX6_pattern_306 (fun ls hL => ?_)
            refine z_aload_n hC zvr_a rfl (hL.at 1 rfl) dX6_pattern_308 ?_
            refine z_getA hC hG kFX6_46_6 rfl rfl dX6_pattern_309 ?_
            refine z_iload hC (hL.at 5 rfl) dX6_pattern_312 ?_
            refine z_dup2 hC rfl rfl dX6_pattern_314 ?_
            refine z_iald hC hG rfl rfl rfl hx1 hV dX6_pattern_315 ?_
            intro x2 hx2 hV
            refine z_iload hC (hL.at 0 rfl) dX6_pattern_316 ?_
            obtain ⟨J326, eJ326, hV⟩ := zjn_abs hV
            have hJ326 : ∀ {H : Heap} {locs : List Loc}, zS P s K119 H locs → ∀ (z326_3 : Int), (z326_3 = 0 ∨ z326_3 = 1) → J326 z326_3 → ∀ (ls : Array Slot), zL ls 11 [(0, .ref (zA P 5 0 0)), (4, .int (zI p3)), (5, .int (zI p4)), (6, .int (zI p5)), (8, .int (zI x1))] → W p l e rX6_pattern s m args below meth c H locs 0 0 (MQ below (zQi P Q) args s 0 0 (zAr P)) (F0 m 326 ls [.int (zI z326_3), .int (zI x2), .int (zI x1), .ref (zA P 5 16 0)]) := by
              intro H locs hG z326_3 hz326_3 hV ls hL
              rw [eJ326] at hV
              refine z_iadd hC dX6_pattern_326 ?_
              refine z_iast hC hG rfl (Nat.le_of_ble_eq_true rfl) (Nat.le_of_ble_eq_true rfl) rfl rfl rfl hx1 (inR_w _) hV dX6_pattern_327 ?_
              intro G9 _ _ hG hV
              refine z_aload_n hC zvr_a rfl (hL.at 0 rfl) dX6_pattern_328 ?_
              refine z_getA hC hG kFX6_49_6 rfl rfl dX6_pattern_329 ?_
              refine z_iload hC (hL.at 4 rfl) dX6_pattern_332 ?_
              refine z_aload_n hC zvr_a rfl (hL.at 0 rfl) dX6_pattern_334 ?_
              refine z_iload hC (hL.at 1 rfl) dX6_pattern_335 ?_
              refine z_iload hC (hL.at 2 rfl) dX6_pattern_337 ?_
              refine z_iload hC (hL.at 3 rfl) dX6_pattern_339 ?_
              refine z_call_i hG (zrunV (ci := 6) hC hG (Nat.le_of_ble_eq_true rfl) (Nat.le_of_ble_eq_true rfl) (zobj hG rfl (Nat.le_of_ble_eq_true rfl) (Nat.le_of_ble_eq_true rfl)) (mX6_sizeOf l P G9 p3 hp3 p4 hp4 p5 hp5 hV) kVX6_200 rfl rfl rfl ⟨(Nat.le_of_ble_eq_true rfl), (Nat.le_of_ble_eq_true rfl)⟩ ⟨(Nat.le_of_ble_eq_true rfl), (Nat.le_of_ble_eq_true rfl)⟩ rfl ⟨(zcs_c rfl (zcs_c rfl zcs_0)), (Nat.le_of_ble_eq_true rfl)⟩ hL.1.1 dX6_pattern_341) ?_
              rintro x3 _ _ _ hx3 ⟨rfl, hV⟩ hG
              refine z_iast hC hG rfl (Nat.le_of_ble_eq_true rfl) (Nat.le_of_ble_eq_true rfl) rfl rfl rfl hx1 hx3 hV dX6_pattern_344 ?_
              intro G10 _ _ hG hV
              refine z_aload_n hC zvr_a rfl (hL.at 0 rfl) dX6_pattern_345 ?_
              refine z_dup hC rfl dX6_pattern_346 ?_
              refine z_getF hC hG kFX6_197_6 rfl rfl hV dX6_pattern_347 ?_
              intro x4 hx4 hV
              refine z_iconst hC dX6_pattern_350 ?_
              refine z_iadd hC dX6_pattern_351 ?_
              refine z_putF hC hG kFX6_197_6 rfl rfl rfl rfl nk_6_9 (inR_w _) (Or.inl rfl) hV dX6_pattern_352 ?_
              intro G11 _ _ hG hV
              refine z_iload hC (hL.at 4 rfl) dX6_pattern_355 ?_
              exact z_iret hC hG hr hk hx1 hV (Nat.le_of_ble_eq_true rfl) (Nat.le_of_ble_eq_true rfl) dX6_pattern_357
            refine z_if_eq (tgt := 325) hC (inR_b hz306_0) hV dX6_pattern_318 (by decide) ?_ ?_
            · intro hV
              refine z_iconst hC dX6_pattern_325 ?_
              exact hJ326 hG 1 (Or.inr rfl) hV _ (hL.sub [1, 2, 3, 4, 5] rfl)
            · intro hV
              refine z_iconst hC dX6_pattern_321 ?_
              refine z_goto (tgt := 326) hC dX6_pattern_322 (by decide) ?_
              exact hJ326 hG 0 (Or.inl rfl) hV _ (hL.sub [1, 2, 3, 4, 5] rfl)
          obtain ⟨J301, eJ301, hV⟩ := zjn_abs hV
          have hJ301 : ∀ {H : Heap} {locs : List Loc}, zS P s K119 H locs → J301 () → ∀ (ls : Array Slot), zL ls 11 [(0, .ref (zA P 5 0 0)), (4, .int (zI p3)), (5, .int (zI p4)), (6, .int (zI p5)), (8, .int (zI x1))] → W p l e rX6_pattern s m args below meth c H locs 0 0 (MQ below (zQi P Q) args s 0 0 (zAr P)) (F0 m 301 ls []) := by
            intro H locs hG hV ls hL
            rw [eJ301] at hV
            refine z_iconst hC dX6_pattern_301 ?_
            refine z_goto (tgt := 306) hC dX6_pattern_302 (by decide) ?_
            exact hJ306 hG 1 (Or.inr rfl) hV _ hL
          refine z_icmp_eq (tgt := 301) hC hp0 (inR_lit rfl) hV dX6_pattern_288 (by decide) ?_ ?_
          · intro hV
            exact hJ301 hG hV _ (hL.sub [0, 2, 3, 4, 5] rfl)
          · intro hV
            refine z_iload_n hC rfl (hL.at 1 rfl) dX6_pattern_291 ?_
            refine z_iconst hC dX6_pattern_292 ?_
            refine z_icmp_eq (tgt := 301) hC hp0 (inR_lit rfl) hV dX6_pattern_293 (by decide) ?_ ?_
            · intro hV
              exact hJ301 hG hV _ (hL.sub [0, 2, 3, 4, 5] rfl)
            · intro hV
              refine z_iload_n hC rfl (hL.at 1 rfl) dX6_pattern_296 ?_
              refine z_iconst hC dX6_pattern_297 ?_
              refine z_icmp_ne (tgt := 305) hC hp0 (inR_lit rfl) hV dX6_pattern_298 (by decide) ?_ ?_
              · intro hV
                refine z_iconst hC dX6_pattern_305 ?_
                exact hJ306 hG 0 (Or.inl rfl) hV _ (hL.sub [0, 2, 3, 4, 5] rfl)
              · intro hV
                exact hJ301 hG hV _ (hL.sub [0, 2, 3, 4, 5] rfl)
        · intro hV
          refine z_iload hC (hL.at 2 rfl) dX6_pattern_125 ?_
          refine z_iload hC (hL.at 3 rfl) dX6_pattern_127 ?_
          refine z_iload hC (hL.at 4 rfl) dX6_pattern_129 ?_
          refine z_iload hC (hL.at 6 rfl) dX6_pattern_131 ?_
          refine z_call_i hG (zrunS hC hG (mX6_pick l P K119 p3 hp3 p4 hp4 p5 hp5 a119_9 ha119_9 hV) kSX6_175 rfl rfl rfl ⟨(Nat.le_of_ble_eq_true rfl), (Nat.le_of_ble_eq_true rfl)⟩ ⟨(Nat.le_of_ble_eq_true rfl), (Nat.le_of_ble_eq_true rfl)⟩ rfl ⟨zcs_0, (Nat.le_of_ble_eq_true rfl)⟩ hL.1.1 dX6_pattern_133) ?_
          rintro x5 _ _ _ hx5 ⟨rfl, hV⟩ hG
          refine z_istore (lv' := [(10, .int (zI x5)), (0, .ref (zA P 5 0 0)), (1, .int (zI p0)), (4, .int (zI p3)), (5, .int (zI p4)), (6, .int (zI p5)), (8, .int (zI x1)), (9, .int (zI a119_9))]) hC hL (by decide) rfl dX6_pattern_136 (fun ls hL => ?_)
          refine z_aload_n hC zvr_a rfl (hL.at 1 rfl) dX6_pattern_138 ?_
          refine z_getA hC hG kFX6_40_6 rfl rfl dX6_pattern_139 ?_
          refine z_iconst hC dX6_pattern_142 ?_
          refine z_iload hC (hL.at 6 rfl) dX6_pattern_143 ?_
          refine z_imul hC dX6_pattern_145 ?_
          refine z_iload hC (hL.at 7 rfl) dX6_pattern_146 ?_
          refine z_iadd hC dX6_pattern_148 ?_
          refine z_iload hC (hL.at 0 rfl) dX6_pattern_149 ?_
          refine z_iast hC hG rfl (Nat.le_of_ble_eq_true rfl) (Nat.le_of_ble_eq_true rfl) rfl rfl rfl (inR_w _) hx5 hV dX6_pattern_151 ?_
          intro G12 _ _ hG hV
          refine z_iload hC (hL.at 0 rfl) dX6_pattern_152 ?_
          refine z_iconst hC dX6_pattern_154 ?_
          obtain ⟨J280, eJ280, hV⟩ := zjn_abs hV
          have hJ280 : ∀ (H280 : ZG), J280 H280 → ∀ (H : Heap) (locs : List Loc) (ls : Array Slot), zS P s H280 H locs → zL ls 11 [(0, .ref (zA P 5 0 0)), (1, .int (zI p0)), (4, .int (zI p3)), (5, .int (zI p4)), (6, .int (zI p5)), (8, .int (zI x1)), (9, .int (zI a119_9))] → W p l e rX6_pattern s m args below meth c H locs 0 0 (MQ below (zQi P Q) args s 0 0 (zAr P)) (F0 m 280 ls []) := by
            intro H280 hV H locs ls hG hL
            rw [eJ280] at hV
            refine z_iincV (fun x6 => [(9, .int (zI x6)), (0, .ref (zA P 5 0 0)), (1, .int (zI p0)), (4, .int (zI p3)), (5, .int (zI p4)), (6, .int (zI p5)), (8, .int (zI x1))]) hC hL (k := 6) rfl (by decide) (fun _ => rfl) hV dX6_pattern_280 ?_
            intro x6 hx6 hV ls hL
            refine z_goto (tgt := 119) hC dX6_pattern_283 (by decide) ?_
            exact hP119 x6 H280 hV hx6 _ _ hG _ (hL.sub [1, 2, 3, 4, 5, 6, 0] rfl)
          refine z_icmp_eq (tgt := 280) hC hx5 (inR_lit rfl) hV dX6_pattern_155 (by decide) ?_ ?_
          · intro hV
            exact hJ280 G12 hV _ _ _ hG (hL.sub [1, 2, 3, 4, 5, 6, 7] rfl)
          · intro hV
            refine z_aload_n hC zvr_a rfl (hL.at 1 rfl) dX6_pattern_158 ?_
            refine z_getA hC hG kFX6_52_6 rfl rfl dX6_pattern_159 ?_
            refine z_iload hC (hL.at 6 rfl) dX6_pattern_162 ?_
            refine z_dup2 hC rfl rfl dX6_pattern_164 ?_
            refine z_iald hC hG rfl rfl rfl hx1 hV dX6_pattern_165 ?_
            intro x7 hx7 hV
            refine z_aload_n hC zvr_a rfl (hL.at 1 rfl) dX6_pattern_166 ?_
            refine z_getA hC hG kFX6_52_6 rfl rfl dX6_pattern_167 ?_
            refine z_iload hC (hL.at 0 rfl) dX6_pattern_170 ?_
            refine z_iald hC hG rfl rfl rfl hx5 hV dX6_pattern_172 ?_
            intro x8 hx8 hV
            refine z_ior hC dX6_pattern_173 ?_
            refine z_iast hC hG rfl (Nat.le_of_ble_eq_true rfl) (Nat.le_of_ble_eq_true rfl) rfl rfl rfl hx1 (inR_toInt _) hV dX6_pattern_174 ?_
            intro G13 _ _ hG hV
            refine z_aload_n hC zvr_a rfl (hL.at 1 rfl) dX6_pattern_175 ?_
            refine z_getA hC hG kFX6_55_6 rfl rfl dX6_pattern_176 ?_
            refine z_iload hC (hL.at 6 rfl) dX6_pattern_179 ?_
            refine z_aload_n hC zvr_a rfl (hL.at 1 rfl) dX6_pattern_181 ?_
            refine z_getA hC hG kFX6_55_6 rfl rfl dX6_pattern_182 ?_
            refine z_iload hC (hL.at 6 rfl) dX6_pattern_185 ?_
            refine z_zald hC hG rfl rfl rfl hx1 hV dX6_pattern_187 ?_
            intro x9 hx9 hV
            obtain ⟨J206, eJ206, hV⟩ := zjn_abs hV
            have hJ206 : ∀ {H : Heap} {locs : List Loc}, zS P s G13 H locs → ∀ (z206_2 : Int), (z206_2 = 0 ∨ z206_2 = 1) → J206 z206_2 → ∀ (ls : Array Slot), zL ls 11 [(0, .ref (zA P 5 0 0)), (1, .int (zI p0)), (4, .int (zI p3)), (5, .int (zI p4)), (6, .int (zI p5)), (8, .int (zI x1)), (9, .int (zI a119_9)), (10, .int (zI x5))] → W p l e rX6_pattern s m args below meth c H locs 0 0 (MQ below (zQi P Q) args s 0 0 (zAr P)) (F0 m 206 ls [.int (zI z206_2), .int (zI x1), .ref (zA P 5 19 0)]) := by
              intro H locs hG z206_2 hz206_2 hV ls hL
              rw [eJ206] at hV
              refine z_zast hC hG rfl (Nat.le_of_ble_eq_true rfl) (Nat.le_of_ble_eq_true rfl) rfl rfl rfl hx1 hz206_2 hV dX6_pattern_206 ?_
              intro G14 _ _ hG hV
              refine z_aload_n hC zvr_a rfl (hL.at 0 rfl) dX6_pattern_207 ?_
              refine z_getA hC hG kFX6_59_6 rfl rfl dX6_pattern_208 ?_
              refine z_iload hC (hL.at 5 rfl) dX6_pattern_211 ?_
              refine z_aload_n hC zvr_a rfl (hL.at 0 rfl) dX6_pattern_213 ?_
              refine z_getA hC hG kFX6_59_6 rfl rfl dX6_pattern_214 ?_
              refine z_iload hC (hL.at 5 rfl) dX6_pattern_217 ?_
              refine z_zald hC hG rfl rfl rfl hx1 hV dX6_pattern_219 ?_
              intro x10 hx10 hV
              obtain ⟨J238, eJ238, hV⟩ := zjn_abs hV
              have hJ238 : ∀ {H : Heap} {locs : List Loc}, zS P s G14 H locs → ∀ (z238_2 : Int), (z238_2 = 0 ∨ z238_2 = 1) → J238 z238_2 → ∀ (ls : Array Slot), zL ls 11 [(0, .ref (zA P 5 0 0)), (1, .int (zI p0)), (4, .int (zI p3)), (5, .int (zI p4)), (6, .int (zI p5)), (8, .int (zI x1)), (9, .int (zI a119_9)), (10, .int (zI x5))] → W p l e rX6_pattern s m args below meth c H locs 0 0 (MQ below (zQi P Q) args s 0 0 (zAr P)) (F0 m 238 ls [.int (zI z238_2), .int (zI x1), .ref (zA P 5 20 0)]) := by
                intro H locs hG z238_2 hz238_2 hV ls hL
                rw [eJ238] at hV
                refine z_zast hC hG rfl (Nat.le_of_ble_eq_true rfl) (Nat.le_of_ble_eq_true rfl) rfl rfl rfl hx1 hz238_2 hV dX6_pattern_238 ?_
                intro G15 _ _ hG hV
                refine z_aload_n hC zvr_a rfl (hL.at 0 rfl) dX6_pattern_239 ?_
                refine z_getA hC hG kFX6_46_6 rfl rfl dX6_pattern_240 ?_
                refine z_iload hC (hL.at 5 rfl) dX6_pattern_243 ?_
                refine z_aload_n hC zvr_a rfl (hL.at 0 rfl) dX6_pattern_245 ?_
                refine z_getA hC hG kFX6_46_6 rfl rfl dX6_pattern_246 ?_
                refine z_iload hC (hL.at 7 rfl) dX6_pattern_249 ?_
                refine z_iald hC hG rfl rfl rfl hx5 hV dX6_pattern_251 ?_
                intro x11 hx11 hV
                refine z_aload_n hC zvr_a rfl (hL.at 0 rfl) dX6_pattern_252 ?_
                refine z_getA hC hG kFX6_46_6 rfl rfl dX6_pattern_253 ?_
                refine z_iload hC (hL.at 5 rfl) dX6_pattern_256 ?_
                refine z_iald hC hG rfl rfl rfl hx1 hV dX6_pattern_258 ?_
                intro x12 hx12 hV
                obtain ⟨J279, eJ279, hV⟩ := zjn_abs hV
                have hJ279 : ∀ {H : Heap} {locs : List Loc}, zS P s G15 H locs → ∀ (z279_2 : Int), inR z279_2 → J279 z279_2 → ∀ (ls : Array Slot), zL ls 11 [(0, .ref (zA P 5 0 0)), (1, .int (zI p0)), (4, .int (zI p3)), (5, .int (zI p4)), (6, .int (zI p5)), (8, .int (zI x1)), (9, .int (zI a119_9))] → W p l e rX6_pattern s m args below meth c H locs 0 0 (MQ below (zQi P Q) args s 0 0 (zAr P)) (F0 m 279 ls [.int (zI z279_2), .int (zI x1), .ref (zA P 5 16 0)]) := by
                  intro H locs hG z279_2 hz279_2 hV ls hL
                  rw [eJ279] at hV
                  refine z_iast hC hG rfl (Nat.le_of_ble_eq_true rfl) (Nat.le_of_ble_eq_true rfl) rfl rfl rfl hx1 hz279_2 hV dX6_pattern_279 ?_
                  intro G16 _ _ hG hV
                  exact hJ280 G16 hV _ _ _ hG hL
                refine z_icmp_le (tgt := 272) hC hx11 hx12 hV dX6_pattern_259 (by decide) ?_ ?_
                · intro hV
                  refine z_aload_n hC zvr_a rfl (hL.at 0 rfl) dX6_pattern_272 ?_
                  refine z_getA hC hG kFX6_46_6 rfl rfl dX6_pattern_273 ?_
                  refine z_iload hC (hL.at 5 rfl) dX6_pattern_276 ?_
                  refine z_iald hC hG rfl rfl rfl hx1 hV dX6_pattern_278 ?_
                  intro x13 hx13 hV
                  exact hJ279 hG x13 hx13 hV _ (hL.sub [0, 1, 2, 3, 4, 5, 6] rfl)
                · intro hV
                  refine z_aload_n hC zvr_a rfl (hL.at 0 rfl) dX6_pattern_262 ?_
                  refine z_getA hC hG kFX6_46_6 rfl rfl dX6_pattern_263 ?_
                  refine z_iload hC (hL.at 7 rfl) dX6_pattern_266 ?_
                  refine z_iald hC hG rfl rfl rfl hx5 hV dX6_pattern_268 ?_
                  intro x14 hx14 hV
                  refine z_goto (tgt := 279) hC dX6_pattern_269 (by decide) ?_
                  exact hJ279 hG x14 hx14 hV _ (hL.sub [0, 1, 2, 3, 4, 5, 6] rfl)
              obtain ⟨J237, eJ237, hV⟩ := zjn_abs hV
              have hJ237 : ∀ {H : Heap} {locs : List Loc}, zS P s G14 H locs → J237 () → ∀ (ls : Array Slot), zL ls 11 [(0, .ref (zA P 5 0 0)), (1, .int (zI p0)), (4, .int (zI p3)), (5, .int (zI p4)), (6, .int (zI p5)), (8, .int (zI x1)), (9, .int (zI a119_9)), (10, .int (zI x5))] → W p l e rX6_pattern s m args below meth c H locs 0 0 (MQ below (zQi P Q) args s 0 0 (zAr P)) (F0 m 237 ls [.int (zI x1), .ref (zA P 5 20 0)]) := by
                intro H locs hG hV ls hL
                rw [eJ237] at hV
                refine z_iconst hC dX6_pattern_237 ?_
                exact hJ238 hG 0 (Or.inl rfl) hV _ hL
              refine z_if_eq (tgt := 237) hC hx10 hV dX6_pattern_220 (by decide) ?_ ?_
              · intro hV
                exact hJ237 hG hV _ hL
              · intro hV
                refine z_aload_n hC zvr_a rfl (hL.at 0 rfl) dX6_pattern_223 ?_
                refine z_getA hC hG kFX6_59_6 rfl rfl dX6_pattern_224 ?_
                refine z_iload hC (hL.at 7 rfl) dX6_pattern_227 ?_
                refine z_zald hC hG rfl rfl rfl hx5 hV dX6_pattern_229 ?_
                intro x15 hx15 hV
                refine z_if_eq (tgt := 237) hC hx15 hV dX6_pattern_230 (by decide) ?_ ?_
                · intro hV
                  exact hJ237 hG hV _ hL
                · intro hV
                  refine z_iconst hC dX6_pattern_233 ?_
                  refine z_goto (tgt := 238) hC dX6_pattern_234 (by decide) ?_
                  exact hJ238 hG 1 (Or.inr rfl) hV _ hL
            obtain ⟨J201, eJ201, hV⟩ := zjn_abs hV
            have hJ201 : ∀ {H : Heap} {locs : List Loc}, zS P s G13 H locs → J201 () → ∀ (ls : Array Slot), zL ls 11 [(0, .ref (zA P 5 0 0)), (1, .int (zI p0)), (4, .int (zI p3)), (5, .int (zI p4)), (6, .int (zI p5)), (8, .int (zI x1)), (9, .int (zI a119_9)), (10, .int (zI x5))] → W p l e rX6_pattern s m args below meth c H locs 0 0 (MQ below (zQi P Q) args s 0 0 (zAr P)) (F0 m 201 ls [.int (zI x1), .ref (zA P 5 19 0)]) := by
              intro H locs hG hV ls hL
              rw [eJ201] at hV
              refine z_iconst hC dX6_pattern_201 ?_
              refine z_goto (tgt := 206) hC dX6_pattern_202 (by decide) ?_
              exact hJ206 hG 1 (Or.inr rfl) hV _ hL
            refine z_if_ne (tgt := 201) hC hx9 hV dX6_pattern_188 (by decide) ?_ ?_
            · intro hV
              exact hJ201 hG hV _ (hL.sub [1, 2, 3, 4, 5, 6, 7, 0] rfl)
            · intro hV
              refine z_aload_n hC zvr_a rfl (hL.at 1 rfl) dX6_pattern_191 ?_
              refine z_getA hC hG kFX6_55_6 rfl rfl dX6_pattern_192 ?_
              refine z_iload hC (hL.at 0 rfl) dX6_pattern_195 ?_
              refine z_zald hC hG rfl rfl rfl hx5 hV dX6_pattern_197 ?_
              intro x16 hx16 hV
              refine z_if_eq (tgt := 205) hC hx16 hV dX6_pattern_198 (by decide) ?_ ?_
              · intro hV
                refine z_iconst hC dX6_pattern_205 ?_
                exact hJ206 hG 0 (Or.inl rfl) hV _ (hL.sub [1, 2, 3, 4, 5, 6, 7, 0] rfl)
              · intro hV
                exact hJ201 hG hV _ (hL.sub [1, 2, 3, 4, 5, 6, 7, 0] rfl)
      obtain ⟨J106, eJ106, hV⟩ := zjn_abs hV
      have hJ106 : ∀ {H : Heap} {locs : List Loc}, zS P s G6 H locs → J106 () → ∀ (ls : Array Slot), zL ls 11 [(0, .ref (zA P 5 0 0)), (1, .int (zI p0)), (4, .int (zI p3)), (5, .int (zI p4)), (6, .int (zI p5)), (8, .int (zI x1))] → W p l e rX6_pattern s m args below meth c H locs 0 0 (MQ below (zQi P Q) args s 0 0 (zAr P)) (F0 m 106 ls [.int (zI x1), .ref (zA P 5 20 0)]) := by
        intro H locs hG hV ls hL
        rw [eJ106] at hV
        refine z_iconst hC dX6_pattern_106 ?_
        exact hJ107 hG 0 (Or.inl rfl) hV _ hL
      refine z_icmp_eq (tgt := 106) hC hp0 (inR_lit rfl) hV dX6_pattern_83 (by decide) ?_ ?_
      · intro hV
        exact hJ106 hG hV _ hL
      · intro hV
        refine z_iload_n hC rfl (hL.at 1 rfl) dX6_pattern_86 ?_
        refine z_iconst hC dX6_pattern_87 ?_
        refine z_icmp_eq (tgt := 106) hC hp0 (inR_lit rfl) hV dX6_pattern_88 (by decide) ?_ ?_
        · intro hV
          exact hJ106 hG hV _ hL
        · intro hV
          refine z_iload_n hC rfl (hL.at 1 rfl) dX6_pattern_91 ?_
          refine z_iconst hC dX6_pattern_92 ?_
          refine z_icmp_eq (tgt := 106) hC hp0 (inR_lit rfl) hV dX6_pattern_93 (by decide) ?_ ?_
          · intro hV
            exact hJ106 hG hV _ hL
          · intro hV
            refine z_iload_n hC rfl (hL.at 1 rfl) dX6_pattern_96 ?_
            refine z_bipush hC rfl dX6_pattern_97 ?_
            refine z_icmp_eq (tgt := 106) hC hp0 (inR_lit rfl) hV dX6_pattern_99 (by decide) ?_ ?_
            · intro hV
              exact hJ106 hG hV _ hL
            · intro hV
              refine z_iconst hC dX6_pattern_102 ?_
              refine z_goto (tgt := 107) hC dX6_pattern_103 (by decide) ?_
              exact hJ107 hG 1 (Or.inr rfl) hV _ hL
    refine z_icmp_ne (tgt := 73) hC hp0 (inR_lit rfl) hV dX6_pattern_66 (by decide) ?_ ?_
    · intro hV
      refine z_iconst hC dX6_pattern_73 ?_
      exact hJ74 hG 0 (Or.inl rfl) hV _ hL
    · intro hV
      refine z_iconst hC dX6_pattern_69 ?_
      refine z_goto (tgt := 74) hC dX6_pattern_70 (by decide) ?_
      exact hJ74 hG 1 (Or.inr rfl) hV _ hL
  refine z_icmp_ne (tgt := 56) hC hp0 (inR_lit rfl) hV dX6_pattern_47 (by decide) ?_ ?_
  · intro hV
    refine z_iconst hC dX6_pattern_56 ?_
    exact hJ57 hG 0 (inR_lit rfl) hV _ (hL.sub [1, 2, 5, 6, 7, 0] rfl)
  · intro hV
    refine z_iconst hC dX6_pattern_50 ?_
    refine z_iload_n hC rfl (hL.at 3 rfl) dX6_pattern_51 ?_
    refine z_ishl hC dX6_pattern_52 ?_
    refine z_goto (tgt := 57) hC dX6_pattern_53 (by decide) ?_
    exact hJ57 hG (bShl 1 p1) (inR_toInt _) hV _ (hL.sub [1, 2, 5, 6, 7, 0] rfl)
abbrev rX6_any : Room := { frames := 3, cells := 0, slots := 0, locals := 65 }
def vX6_any (G : ZG) (Q : Int → ZG → Prop) : Prop := vX6_isFull G fun (x1 : Int) => zjn (fun (z13_1 : Int) => vX6_refused z13_1 G fun (x2 : Int) (G1 : ZG) => zjn (fun (z34_0 : Int) (H34 : ZG) => Q z34_0 H34) fun J34 => zbr (x2 = 0) (vX6_pattern 0 0 0 (-1) (-1) (-1) (-1) G1 fun (x3 : Int) (G2 : ZG) => J34 x3 G2) (J34 0 G1)) fun J13 => zbr (x1 = 0) (J13 0) (J13 1)
set_option maxHeartbeats 4000000 in
theorem mX6_any (l : Launch) (P : ZP) (G : ZG) {Q : Int → ZG → Prop} (hV : vX6_any G Q) : Met l yX6_any (ws_ yX6_any cX6_any 1 (some .int)) rX6_any (zPc P G [.ref (zA P 5 0 0)]) (zQi P Q) 0 0 (zAr P) := by
  refine zMet RX6 (plainFor_of_name (by decide)) rfl (zcs_c rfl zcs_0) (Nat.le_of_ble_eq_true rfl) (fun p e s m args below meth c ls hC hr hk hn hG hL => ?_)
  unfold vX6_any at hV
  refine z_aload_n hC zvr_a rfl (hL.at 0 rfl) dX6_any_0 ?_
  refine z_aload_n hC zvr_a rfl (hL.at 0 rfl) dX6_any_1 ?_
  refine z_call_z hG (zrunV (ci := 6) hC hG (Nat.le_of_ble_eq_true rfl) (Nat.le_of_ble_eq_true rfl) (zobj hG rfl (Nat.le_of_ble_eq_true rfl) (Nat.le_of_ble_eq_true rfl)) (mX6_isFull l P G hV) kVX6_204 rfl rfl rfl ⟨(Nat.le_of_ble_eq_true rfl), (Nat.le_of_ble_eq_true rfl)⟩ ⟨(Nat.le_of_ble_eq_true rfl), (Nat.le_of_ble_eq_true rfl)⟩ rfl ⟨(zcs_c rfl zcs_0), (Nat.le_of_ble_eq_true rfl)⟩ hL.1.1 dX6_any_2) ?_
  rintro x1 _ _ _ hx1 ⟨rfl, hV⟩ hG
  obtain ⟨J13, eJ13, hV⟩ := zjn_abs hV
  have hJ13 : ∀ {H : Heap} {locs : List Loc}, zS P s G H locs → ∀ (z13_1 : Int), (z13_1 = 0 ∨ z13_1 = 1) → J13 z13_1 → ∀ (ls : Array Slot), zL ls 1 [(0, .ref (zA P 5 0 0))] → W p l e rX6_any s m args below meth c H locs 0 0 (MQ below (zQi P Q) args s 0 0 (zAr P)) (F0 m 13 ls [.int (zI z13_1), .ref (zA P 5 0 0)]) := by
    intro H locs hG z13_1 hz13_1 hV ls hL
    rw [eJ13] at hV
    refine z_call_z hG (zrunV (ci := 6) hC hG (Nat.le_of_ble_eq_true rfl) (Nat.le_of_ble_eq_true rfl) (zobj hG rfl (Nat.le_of_ble_eq_true rfl) (Nat.le_of_ble_eq_true rfl)) (mX6_refused l P G z13_1 (inR_b hz13_1) hV) kVX6_183 rfl rfl rfl ⟨(Nat.le_of_ble_eq_true rfl), (Nat.le_of_ble_eq_true rfl)⟩ ⟨(Nat.le_of_ble_eq_true rfl), (Nat.le_of_ble_eq_true rfl)⟩ rfl ⟨zcs_0, (Nat.le_of_ble_eq_true rfl)⟩ hL.1.1 dX6_any_13) ?_
    rintro x2 G1 _ _ hx2 hV hG
    obtain ⟨J34, eJ34, hV⟩ := zjn_abs hV
    have hJ34 : ∀ (z34_0 : Int) (H34 : ZG), inR z34_0 → J34 z34_0 H34 → ∀ (H : Heap) (locs : List Loc) (ls : Array Slot), zS P s H34 H locs → zL ls 1 [] → W p l e rX6_any s m args below meth c H locs 0 0 (MQ below (zQi P Q) args s 0 0 (zAr P)) (F0 m 34 ls [.int (zI z34_0)]) := by
      intro z34_0 H34 hz34_0 hV H locs ls hG hL
      rw [eJ34] at hV
      exact z_iret hC hG hr hk hz34_0 hV (Nat.le_of_ble_eq_true rfl) (Nat.le_of_ble_eq_true rfl) dX6_any_34
    refine z_if_eq (tgt := 23) hC (inR_b hx2) hV dX6_any_16 (by decide) ?_ ?_
    · intro hV
      refine z_aload_n hC zvr_a rfl (hL.at 0 rfl) dX6_any_23 ?_
      refine z_iconst hC dX6_any_24 ?_
      refine z_iconst hC dX6_any_25 ?_
      refine z_iconst hC dX6_any_26 ?_
      refine z_iconst hC dX6_any_27 ?_
      refine z_iconst hC dX6_any_28 ?_
      refine z_iconst hC dX6_any_29 ?_
      refine z_iconst hC dX6_any_30 ?_
      refine z_call_i hG (zrunV (ci := 6) hC hG (Nat.le_of_ble_eq_true rfl) (Nat.le_of_ble_eq_true rfl) (zobj hG rfl (Nat.le_of_ble_eq_true rfl) (Nat.le_of_ble_eq_true rfl)) (mX6_pattern l P G1 0 (inR_lit rfl) 0 (inR_lit rfl) 0 (inR_lit rfl) (-1) (inR_lit rfl) (-1) (inR_lit rfl) (-1) (inR_lit rfl) (-1) (inR_lit rfl) hV) kVX6_208 rfl rfl rfl ⟨(Nat.le_of_ble_eq_true rfl), (Nat.le_of_ble_eq_true rfl)⟩ ⟨(Nat.le_of_ble_eq_true rfl), (Nat.le_of_ble_eq_true rfl)⟩ rfl ⟨zcs_0, (Nat.le_of_ble_eq_true rfl)⟩ hL.1.1 dX6_any_31) ?_
      rintro x3 G2 _ _ hx3 hV hG
      exact hJ34 x3 G2 hx3 hV _ _ _ hG (hL.sub [] rfl)
    · intro hV
      refine z_iconst hC dX6_any_19 ?_
      refine z_goto (tgt := 34) hC dX6_any_20 (by decide) ?_
      exact hJ34 0 G1 (inR_lit rfl) hV _ _ _ hG (hL.sub [] rfl)
  refine z_if_eq (tgt := 12) hC (inR_b hx1) hV dX6_any_5 (by decide) ?_ ?_
  · intro hV
    refine z_iconst hC dX6_any_12 ?_
    exact hJ13 hG 0 (Or.inl rfl) hV _ hL
  · intro hV
    refine z_iconst hC dX6_any_8 ?_
    refine z_goto (tgt := 13) hC dX6_any_9 (by decide) ?_
    exact hJ13 hG 1 (Or.inr rfl) hV _ hL
abbrev rX6_isPattern : Room := { frames := 2, cells := 0, slots := 0, locals := 34 }
def vX6_isPattern (p0 : Int) (G : ZG) (Q : Int → Prop) : Prop := zgF G 5 9 fun (x1 : Int) => vX6_in p0 0 (w32 (x1 - 1)) fun (x2 : Int) => Q x2
set_option maxHeartbeats 4000000 in
theorem mX6_isPattern (l : Launch) (P : ZP) (G : ZG) (p0 : Int) (hp0 : inR p0) {Q : Int → Prop} (hV : vX6_isPattern p0 G Q) : Met l yX6_isPattern (ws_ yX6_isPattern cX6_isPattern 2 (some .boolean)) rX6_isPattern (zPc P G [.ref (zA P 5 0 0), .int (zI p0)]) (zQz P (fun r G2 => G = G2 ∧ Q r)) 0 0 (zAr P) := by
  refine zMet RX6 (plainFor_of_name (by decide)) rfl (zcs_c rfl (zcs_c rfl zcs_0)) (Nat.le_of_ble_eq_true rfl) (fun p e s m args below meth c ls hC hr hk hn hG hL => ?_)
  unfold vX6_isPattern at hV
  refine z_iload_n hC rfl (hL.at 1 rfl) dX6_isPattern_0 ?_
  refine z_iconst hC dX6_isPattern_1 ?_
  refine z_aload_n hC zvr_a rfl (hL.at 0 rfl) dX6_isPattern_2 ?_
  refine z_getF hC hG kFX6_197_6 rfl rfl hV dX6_isPattern_3 ?_
  intro x1 hx1 hV
  refine z_iconst hC dX6_isPattern_6 ?_
  refine z_isub hC dX6_isPattern_7 ?_
  refine z_call_z hG (zrunS hC hG (mX6_in l P G p0 hp0 0 (inR_lit rfl) (w32 (x1 - 1)) (inR_w _) hV) kSX6_171 rfl rfl rfl ⟨(Nat.le_of_ble_eq_true rfl), (Nat.le_of_ble_eq_true rfl)⟩ ⟨(Nat.le_of_ble_eq_true rfl), (Nat.le_of_ble_eq_true rfl)⟩ rfl ⟨zcs_0, (Nat.le_of_ble_eq_true rfl)⟩ hL.1.1 dX6_isPattern_8) ?_
  rintro x2 _ _ _ hx2 ⟨rfl, hV⟩ hG
  exact z_zret hC hG hr hk hx2 ⟨rfl, hV⟩ (Nat.le_of_ble_eq_true rfl) (Nat.le_of_ble_eq_true rfl) dX6_isPattern_11
abbrev rX6_name : Room := { frames := 3, cells := 0, slots := 0, locals := 65 }
def vX6_name (p0 : Int) (p1 : Int) (G : ZG) (Q : Int → ZG → Prop) : Prop := vX6_in p0 0 5 fun (x1 : Int) => zjn (fun (z22_0 : Int) => zjn (fun (z57_0 : Int) => zjn (fun (z89_1 : Int) => vX6_refused z89_1 G fun (x2 : Int) (G1 : ZG) => zjn (fun (z115_0 : Int) (H115 : ZG) => Q z115_0 H115) fun J115 => zbr (x2 = 0) (zaL G1 5 14 60 p1 fun (x3 : Int) => vX6_pattern 1 p0 0 p1 (-1) (-1) x3 G1 fun (x4 : Int) (G2 : ZG) => J115 x4 G2) (J115 0 G1)) fun J89 => zbr (z22_0 ≠ 0) (zbr (z57_0 ≠ 0) (vX6_isFull G fun (x5 : Int) => zbr (x5 = 0) (J89 0) (J89 3)) (J89 2)) (J89 1)) fun J57 => zjn (fun (_ : Unit) => J57 0) fun J56 => zbr (z22_0 = 0) (J56 ()) (zaL G 5 17 60 p1 fun (x6 : Int) => zbr (bAnd (bShr x6 p0) 1 ≠ 0) (J56 ()) (vX6_sizeOf p1 (-1) (-1) G fun (x7 : Int) => zbr (40 < x7) (J56 ()) (J57 1)))) fun J22 => zjn (fun (_ : Unit) => J22 0) fun J21 => zbr (x1 = 0) (J21 ()) (vX6_isPattern p1 G fun (x8 : Int) => zbr (x8 = 0) (J21 ()) (J22 1))
set_option maxHeartbeats 4000000 in
theorem mX6_name (l : Launch) (P : ZP) (G : ZG) (p0 : Int) (hp0 : inR p0) (p1 : Int) (hp1 : inR p1) {Q : Int → ZG → Prop} (hV : vX6_name p0 p1 G Q) : Met l yX6_name (ws_ yX6_name cX6_name 5 (some .int)) rX6_name (zPc P G [.ref (zA P 5 0 0), .int (zI p0), .int (zI p1)]) (zQi P Q) 0 0 (zAr P) := by
  refine zMet RX6 (plainFor_of_name (by decide)) rfl (zcs_c rfl (zcs_c rfl (zcs_c rfl zcs_0))) (Nat.le_of_ble_eq_true rfl) (fun p e s m args below meth c ls hC hr hk hn hG hL => ?_)
  unfold vX6_name at hV
  refine z_iload_n hC rfl (hL.at 1 rfl) dX6_name_0 ?_
  refine z_iconst hC dX6_name_1 ?_
  refine z_iconst hC dX6_name_2 ?_
  refine z_call_z hG (zrunS hC hG (mX6_in l P G p0 hp0 0 (inR_lit rfl) 5 (inR_lit rfl) hV) kSX6_171 rfl rfl rfl ⟨(Nat.le_of_ble_eq_true rfl), (Nat.le_of_ble_eq_true rfl)⟩ ⟨(Nat.le_of_ble_eq_true rfl), (Nat.le_of_ble_eq_true rfl)⟩ rfl ⟨zcs_0, (Nat.le_of_ble_eq_true rfl)⟩ hL.1.1 dX6_name_3) ?_
  rintro x1 _ _ _ hx1 ⟨rfl, hV⟩ hG
  obtain ⟨J22, eJ22, hV⟩ := zjn_abs hV
  have hJ22 : ∀ {H : Heap} {locs : List Loc}, zS P s G H locs → ∀ (z22_0 : Int), (z22_0 = 0 ∨ z22_0 = 1) → J22 z22_0 → ∀ (ls : Array Slot), zL ls 5 [(0, .ref (zA P 5 0 0)), (1, .int (zI p0)), (2, .int (zI p1))] → W p l e rX6_name s m args below meth c H locs 0 0 (MQ below (zQi P Q) args s 0 0 (zAr P)) (F0 m 22 ls [.int (zI z22_0)]) := by
    intro H locs hG z22_0 hz22_0 hV ls hL
    rw [eJ22] at hV
    refine z_istore_n (lv' := [(3, .int (zI z22_0)), (0, .ref (zA P 5 0 0)), (1, .int (zI p0)), (2, .int (zI p1))]) hC rfl hL (by decide) rfl dX6_name_22 (fun ls hL => ?_)
    refine z_iload_n hC rfl (hL.at 0 rfl) dX6_name_23 ?_
    obtain ⟨J57, eJ57, hV⟩ := zjn_abs hV
    have hJ57 : ∀ {H : Heap} {locs : List Loc}, zS P s G H locs → ∀ (z57_0 : Int), (z57_0 = 0 ∨ z57_0 = 1) → J57 z57_0 → ∀ (ls : Array Slot), zL ls 5 [(0, .ref (zA P 5 0 0)), (1, .int (zI p0)), (2, .int (zI p1)), (3, .int (zI z22_0))] → W p l e rX6_name s m args below meth c H locs 0 0 (MQ below (zQi P Q) args s 0 0 (zAr P)) (F0 m 57 ls [.int (zI z57_0)]) := by
      intro H locs hG z57_0 hz57_0 hV ls hL
      rw [eJ57] at hV
      refine z_istore (lv' := [(4, .int (zI z57_0)), (0, .ref (zA P 5 0 0)), (1, .int (zI p0)), (2, .int (zI p1)), (3, .int (zI z22_0))]) hC hL (by decide) rfl dX6_name_57 (fun ls hL => ?_)
      refine z_aload_n hC zvr_a rfl (hL.at 1 rfl) dX6_name_59 ?_
      refine z_iload_n hC rfl (hL.at 4 rfl) dX6_name_60 ?_
      obtain ⟨J89, eJ89, hV⟩ := zjn_abs hV
      have hJ89 : ∀ {H : Heap} {locs : List Loc}, zS P s G H locs → ∀ (z89_1 : Int), inR z89_1 → J89 z89_1 → ∀ (ls : Array Slot), zL ls 5 [(0, .ref (zA P 5 0 0)), (1, .int (zI p0)), (2, .int (zI p1))] → W p l e rX6_name s m args below meth c H locs 0 0 (MQ below (zQi P Q) args s 0 0 (zAr P)) (F0 m 89 ls [.int (zI z89_1), .ref (zA P 5 0 0)]) := by
        intro H locs hG z89_1 hz89_1 hV ls hL
        rw [eJ89] at hV
        refine z_call_z hG (zrunV (ci := 6) hC hG (Nat.le_of_ble_eq_true rfl) (Nat.le_of_ble_eq_true rfl) (zobj hG rfl (Nat.le_of_ble_eq_true rfl) (Nat.le_of_ble_eq_true rfl)) (mX6_refused l P G z89_1 hz89_1 hV) kVX6_183 rfl rfl rfl ⟨(Nat.le_of_ble_eq_true rfl), (Nat.le_of_ble_eq_true rfl)⟩ ⟨(Nat.le_of_ble_eq_true rfl), (Nat.le_of_ble_eq_true rfl)⟩ rfl ⟨zcs_0, (Nat.le_of_ble_eq_true rfl)⟩ hL.1.1 dX6_name_89) ?_
        rintro x2 G1 _ _ hx2 hV hG
        obtain ⟨J115, eJ115, hV⟩ := zjn_abs hV
        have hJ115 : ∀ (z115_0 : Int) (H115 : ZG), inR z115_0 → J115 z115_0 H115 → ∀ (H : Heap) (locs : List Loc) (ls : Array Slot), zS P s H115 H locs → zL ls 5 [] → W p l e rX6_name s m args below meth c H locs 0 0 (MQ below (zQi P Q) args s 0 0 (zAr P)) (F0 m 115 ls [.int (zI z115_0)]) := by
          intro z115_0 H115 hz115_0 hV H locs ls hG hL
          rw [eJ115] at hV
          exact z_iret hC hG hr hk hz115_0 hV (Nat.le_of_ble_eq_true rfl) (Nat.le_of_ble_eq_true rfl) dX6_name_115
        refine z_if_eq (tgt := 99) hC (inR_b hx2) hV dX6_name_92 (by decide) ?_ ?_
        · intro hV
          refine z_aload_n hC zvr_a rfl (hL.at 0 rfl) dX6_name_99 ?_
          refine z_iconst hC dX6_name_100 ?_
          refine z_iload_n hC rfl (hL.at 1 rfl) dX6_name_101 ?_
          refine z_iconst hC dX6_name_102 ?_
          refine z_iload_n hC rfl (hL.at 2 rfl) dX6_name_103 ?_
          refine z_iconst hC dX6_name_104 ?_
          refine z_iconst hC dX6_name_105 ?_
          refine z_aload_n hC zvr_a rfl (hL.at 0 rfl) dX6_name_106 ?_
          refine z_getA hC hG kFX6_43_6 rfl rfl dX6_name_107 ?_
          refine z_iload_n hC rfl (hL.at 2 rfl) dX6_name_110 ?_
          refine z_iald hC hG rfl rfl rfl hp1 hV dX6_name_111 ?_
          intro x3 hx3 hV
          refine z_call_i hG (zrunV (ci := 6) hC hG (Nat.le_of_ble_eq_true rfl) (Nat.le_of_ble_eq_true rfl) (zobj hG rfl (Nat.le_of_ble_eq_true rfl) (Nat.le_of_ble_eq_true rfl)) (mX6_pattern l P G1 1 (inR_lit rfl) p0 hp0 0 (inR_lit rfl) p1 hp1 (-1) (inR_lit rfl) (-1) (inR_lit rfl) x3 hx3 hV) kVX6_208 rfl rfl rfl ⟨(Nat.le_of_ble_eq_true rfl), (Nat.le_of_ble_eq_true rfl)⟩ ⟨(Nat.le_of_ble_eq_true rfl), (Nat.le_of_ble_eq_true rfl)⟩ rfl ⟨zcs_0, (Nat.le_of_ble_eq_true rfl)⟩ hL.1.1 dX6_name_112) ?_
          rintro x4 G2 _ _ hx4 hV hG
          exact hJ115 x4 G2 hx4 hV _ _ _ hG (hL.sub [] rfl)
        · intro hV
          refine z_iconst hC dX6_name_95 ?_
          refine z_goto (tgt := 115) hC dX6_name_96 (by decide) ?_
          exact hJ115 0 G1 (inR_lit rfl) hV _ _ _ hG (hL.sub [] rfl)
      refine z_if_ne (tgt := 68) hC (inR_b hz22_0) hV dX6_name_61 (by decide) ?_ ?_
      · intro hV
        refine z_iload hC (hL.at 0 rfl) dX6_name_68 ?_
        refine z_if_ne (tgt := 77) hC (inR_b hz57_0) hV dX6_name_70 (by decide) ?_ ?_
        · intro hV
          refine z_aload_n hC zvr_a rfl (hL.at 1 rfl) dX6_name_77 ?_
          refine z_call_z hG (zrunV (ci := 6) hC hG (Nat.le_of_ble_eq_true rfl) (Nat.le_of_ble_eq_true rfl) (zobj hG rfl (Nat.le_of_ble_eq_true rfl) (Nat.le_of_ble_eq_true rfl)) (mX6_isFull l P G hV) kVX6_204 rfl rfl rfl ⟨(Nat.le_of_ble_eq_true rfl), (Nat.le_of_ble_eq_true rfl)⟩ ⟨(Nat.le_of_ble_eq_true rfl), (Nat.le_of_ble_eq_true rfl)⟩ rfl ⟨(zcs_c rfl zcs_0), (Nat.le_of_ble_eq_true rfl)⟩ hL.1.1 dX6_name_78) ?_
          rintro x5 _ _ _ hx5 ⟨rfl, hV⟩ hG
          refine z_if_eq (tgt := 88) hC (inR_b hx5) hV dX6_name_81 (by decide) ?_ ?_
          · intro hV
            refine z_iconst hC dX6_name_88 ?_
            exact hJ89 hG 0 (inR_lit rfl) hV _ (hL.sub [1, 2, 3] rfl)
          · intro hV
            refine z_iconst hC dX6_name_84 ?_
            refine z_goto (tgt := 89) hC dX6_name_85 (by decide) ?_
            exact hJ89 hG 3 (inR_lit rfl) hV _ (hL.sub [1, 2, 3] rfl)
        · intro hV
          refine z_iconst hC dX6_name_73 ?_
          refine z_goto (tgt := 89) hC dX6_name_74 (by decide) ?_
          exact hJ89 hG 2 (inR_lit rfl) hV _ (hL.sub [1, 2, 3] rfl)
      · intro hV
        refine z_iconst hC dX6_name_64 ?_
        refine z_goto (tgt := 89) hC dX6_name_65 (by decide) ?_
        exact hJ89 hG 1 (inR_lit rfl) hV _ (hL.sub [1, 2, 3] rfl)
    obtain ⟨J56, eJ56, hV⟩ := zjn_abs hV
    have hJ56 : ∀ {H : Heap} {locs : List Loc}, zS P s G H locs → J56 () → ∀ (ls : Array Slot), zL ls 5 [(0, .ref (zA P 5 0 0)), (1, .int (zI p0)), (2, .int (zI p1)), (3, .int (zI z22_0))] → W p l e rX6_name s m args below meth c H locs 0 0 (MQ below (zQi P Q) args s 0 0 (zAr P)) (F0 m 56 ls []) := by
      intro H locs hG hV ls hL
      rw [eJ56] at hV
      refine z_iconst hC dX6_name_56 ?_
      exact hJ57 hG 0 (Or.inl rfl) hV _ hL
    refine z_if_eq (tgt := 56) hC (inR_b hz22_0) hV dX6_name_24 (by decide) ?_ ?_
    · intro hV
      exact hJ56 hG hV _ (hL.sub [1, 2, 3, 0] rfl)
    · intro hV
      refine z_aload_n hC zvr_a rfl (hL.at 1 rfl) dX6_name_27 ?_
      refine z_getA hC hG kFX6_52_6 rfl rfl dX6_name_28 ?_
      refine z_iload_n hC rfl (hL.at 3 rfl) dX6_name_31 ?_
      refine z_iald hC hG rfl rfl rfl hp1 hV dX6_name_32 ?_
      intro x6 hx6 hV
      refine z_iload_n hC rfl (hL.at 2 rfl) dX6_name_33 ?_
      refine z_ishr hC dX6_name_34 ?_
      refine z_iconst hC dX6_name_35 ?_
      refine z_iand hC dX6_name_36 ?_
      refine z_if_ne (tgt := 56) hC (inR_toInt _) hV dX6_name_37 (by decide) ?_ ?_
      · intro hV
        exact hJ56 hG hV _ (hL.sub [1, 2, 3, 0] rfl)
      · intro hV
        refine z_aload_n hC zvr_a rfl (hL.at 1 rfl) dX6_name_40 ?_
        refine z_iload_n hC rfl (hL.at 3 rfl) dX6_name_41 ?_
        refine z_iconst hC dX6_name_42 ?_
        refine z_iconst hC dX6_name_43 ?_
        refine z_call_i hG (zrunV (ci := 6) hC hG (Nat.le_of_ble_eq_true rfl) (Nat.le_of_ble_eq_true rfl) (zobj hG rfl (Nat.le_of_ble_eq_true rfl) (Nat.le_of_ble_eq_true rfl)) (mX6_sizeOf l P G p1 hp1 (-1) (inR_lit rfl) (-1) (inR_lit rfl) hV) kVX6_200 rfl rfl rfl ⟨(Nat.le_of_ble_eq_true rfl), (Nat.le_of_ble_eq_true rfl)⟩ ⟨(Nat.le_of_ble_eq_true rfl), (Nat.le_of_ble_eq_true rfl)⟩ rfl ⟨zcs_0, (Nat.le_of_ble_eq_true rfl)⟩ hL.1.1 dX6_name_44) ?_
        rintro x7 _ _ _ hx7 ⟨rfl, hV⟩ hG
        refine z_bipush hC rfl dX6_name_47 ?_
        refine z_icmp_gt (tgt := 56) hC hx7 (inR_lit rfl) hV dX6_name_49 (by decide) ?_ ?_
        · intro hV
          exact hJ56 hG hV _ (hL.sub [1, 2, 3, 0] rfl)
        · intro hV
          refine z_iconst hC dX6_name_52 ?_
          refine z_goto (tgt := 57) hC dX6_name_53 (by decide) ?_
          exact hJ57 hG 1 (Or.inr rfl) hV _ (hL.sub [1, 2, 3, 0] rfl)
  obtain ⟨J21, eJ21, hV⟩ := zjn_abs hV
  have hJ21 : ∀ {H : Heap} {locs : List Loc}, zS P s G H locs → J21 () → ∀ (ls : Array Slot), zL ls 5 [(0, .ref (zA P 5 0 0)), (1, .int (zI p0)), (2, .int (zI p1))] → W p l e rX6_name s m args below meth c H locs 0 0 (MQ below (zQi P Q) args s 0 0 (zAr P)) (F0 m 21 ls []) := by
    intro H locs hG hV ls hL
    rw [eJ21] at hV
    refine z_iconst hC dX6_name_21 ?_
    exact hJ22 hG 0 (Or.inl rfl) hV _ hL
  refine z_if_eq (tgt := 21) hC (inR_b hx1) hV dX6_name_6 (by decide) ?_ ?_
  · intro hV
    exact hJ21 hG hV _ hL
  · intro hV
    refine z_aload_n hC zvr_a rfl (hL.at 0 rfl) dX6_name_9 ?_
    refine z_iload_n hC rfl (hL.at 2 rfl) dX6_name_10 ?_
    refine z_call_z hG (zrunV (ci := 6) hC hG (Nat.le_of_ble_eq_true rfl) (Nat.le_of_ble_eq_true rfl) (zobj hG rfl (Nat.le_of_ble_eq_true rfl) (Nat.le_of_ble_eq_true rfl)) (mX6_isPattern l P G p1 hp1 hV) kVX6_212 rfl rfl rfl ⟨(Nat.le_of_ble_eq_true rfl), (Nat.le_of_ble_eq_true rfl)⟩ ⟨(Nat.le_of_ble_eq_true rfl), (Nat.le_of_ble_eq_true rfl)⟩ rfl ⟨zcs_0, (Nat.le_of_ble_eq_true rfl)⟩ hL.1.1 dX6_name_11) ?_
    rintro x8 _ _ _ hx8 ⟨rfl, hV⟩ hG
    refine z_if_eq (tgt := 21) hC (inR_b hx8) hV dX6_name_14 (by decide) ?_ ?_
    · intro hV
      exact hJ21 hG hV _ hL
    · intro hV
      refine z_iconst hC dX6_name_17 ?_
      refine z_goto (tgt := 22) hC dX6_name_18 (by decide) ?_
      exact hJ22 hG 1 (Or.inr rfl) hV _ hL
abbrev rX6_range : Room := { frames := 3, cells := 0, slots := 0, locals := 65 }
def vX6_range (p0 : Int) (p1 : Int) (G : ZG) (Q : Int → ZG → Prop) : Prop := vX6_in p0 0 9 fun (x1 : Int) => zjn (fun (z25_0 : Int) => zjn (fun (z47_1 : Int) => vX6_refused z47_1 G fun (x2 : Int) (G1 : ZG) => zjn (fun (z68_0 : Int) (H68 : ZG) => Q z68_0 H68) fun J68 => zbr (x2 = 0) (vX6_pattern 2 p0 p1 (-1) (-1) (-1) 4 G1 fun (x3 : Int) (G2 : ZG) => J68 x3 G2) (J68 0 G1)) fun J47 => zbr (z25_0 ≠ 0) (vX6_isFull G fun (x4 : Int) => zbr (x4 = 0) (J47 0) (J47 2)) (J47 1)) fun J25 => zjn (fun (_ : Unit) => J25 0) fun J24 => zbr (x1 = 0) (J24 ()) (vX6_in p1 p0 9 fun (x5 : Int) => zbr (x5 = 0) (J24 ()) (J25 1))
set_option maxHeartbeats 4000000 in
theorem mX6_range (l : Launch) (P : ZP) (G : ZG) (p0 : Int) (hp0 : inR p0) (p1 : Int) (hp1 : inR p1) {Q : Int → ZG → Prop} (hV : vX6_range p0 p1 G Q) : Met l yX6_range (ws_ yX6_range cX6_range 4 (some .int)) rX6_range (zPc P G [.ref (zA P 5 0 0), .int (zI p0), .int (zI p1)]) (zQi P Q) 0 0 (zAr P) := by
  refine zMet RX6 (plainFor_of_name (by decide)) rfl (zcs_c rfl (zcs_c rfl (zcs_c rfl zcs_0))) (Nat.le_of_ble_eq_true rfl) (fun p e s m args below meth c ls hC hr hk hn hG hL => ?_)
  unfold vX6_range at hV
  refine z_iload_n hC rfl (hL.at 1 rfl) dX6_range_0 ?_
  refine z_iconst hC dX6_range_1 ?_
  refine z_bipush hC rfl dX6_range_2 ?_
  refine z_call_z hG (zrunS hC hG (mX6_in l P G p0 hp0 0 (inR_lit rfl) 9 (inR_lit rfl) hV) kSX6_171 rfl rfl rfl ⟨(Nat.le_of_ble_eq_true rfl), (Nat.le_of_ble_eq_true rfl)⟩ ⟨(Nat.le_of_ble_eq_true rfl), (Nat.le_of_ble_eq_true rfl)⟩ rfl ⟨zcs_0, (Nat.le_of_ble_eq_true rfl)⟩ hL.1.1 dX6_range_4) ?_
  rintro x1 _ _ _ hx1 ⟨rfl, hV⟩ hG
  obtain ⟨J25, eJ25, hV⟩ := zjn_abs hV
  have hJ25 : ∀ {H : Heap} {locs : List Loc}, zS P s G H locs → ∀ (z25_0 : Int), (z25_0 = 0 ∨ z25_0 = 1) → J25 z25_0 → ∀ (ls : Array Slot), zL ls 4 [(0, .ref (zA P 5 0 0)), (1, .int (zI p0)), (2, .int (zI p1))] → W p l e rX6_range s m args below meth c H locs 0 0 (MQ below (zQi P Q) args s 0 0 (zAr P)) (F0 m 25 ls [.int (zI z25_0)]) := by
    intro H locs hG z25_0 hz25_0 hV ls hL
    rw [eJ25] at hV
    refine z_istore_n (lv' := [(3, .int (zI z25_0)), (0, .ref (zA P 5 0 0)), (1, .int (zI p0)), (2, .int (zI p1))]) hC rfl hL (by decide) rfl dX6_range_25 (fun ls hL => ?_)
    refine z_aload_n hC zvr_a rfl (hL.at 1 rfl) dX6_range_26 ?_
    refine z_iload_n hC rfl (hL.at 0 rfl) dX6_range_27 ?_
    obtain ⟨J47, eJ47, hV⟩ := zjn_abs hV
    have hJ47 : ∀ {H : Heap} {locs : List Loc}, zS P s G H locs → ∀ (z47_1 : Int), inR z47_1 → J47 z47_1 → ∀ (ls : Array Slot), zL ls 4 [(0, .ref (zA P 5 0 0)), (1, .int (zI p0)), (2, .int (zI p1))] → W p l e rX6_range s m args below meth c H locs 0 0 (MQ below (zQi P Q) args s 0 0 (zAr P)) (F0 m 47 ls [.int (zI z47_1), .ref (zA P 5 0 0)]) := by
      intro H locs hG z47_1 hz47_1 hV ls hL
      rw [eJ47] at hV
      refine z_call_z hG (zrunV (ci := 6) hC hG (Nat.le_of_ble_eq_true rfl) (Nat.le_of_ble_eq_true rfl) (zobj hG rfl (Nat.le_of_ble_eq_true rfl) (Nat.le_of_ble_eq_true rfl)) (mX6_refused l P G z47_1 hz47_1 hV) kVX6_183 rfl rfl rfl ⟨(Nat.le_of_ble_eq_true rfl), (Nat.le_of_ble_eq_true rfl)⟩ ⟨(Nat.le_of_ble_eq_true rfl), (Nat.le_of_ble_eq_true rfl)⟩ rfl ⟨zcs_0, (Nat.le_of_ble_eq_true rfl)⟩ hL.1.1 dX6_range_47) ?_
      rintro x2 G1 _ _ hx2 hV hG
      obtain ⟨J68, eJ68, hV⟩ := zjn_abs hV
      have hJ68 : ∀ (z68_0 : Int) (H68 : ZG), inR z68_0 → J68 z68_0 H68 → ∀ (H : Heap) (locs : List Loc) (ls : Array Slot), zS P s H68 H locs → zL ls 4 [] → W p l e rX6_range s m args below meth c H locs 0 0 (MQ below (zQi P Q) args s 0 0 (zAr P)) (F0 m 68 ls [.int (zI z68_0)]) := by
        intro z68_0 H68 hz68_0 hV H locs ls hG hL
        rw [eJ68] at hV
        exact z_iret hC hG hr hk hz68_0 hV (Nat.le_of_ble_eq_true rfl) (Nat.le_of_ble_eq_true rfl) dX6_range_68
      refine z_if_eq (tgt := 57) hC (inR_b hx2) hV dX6_range_50 (by decide) ?_ ?_
      · intro hV
        refine z_aload_n hC zvr_a rfl (hL.at 0 rfl) dX6_range_57 ?_
        refine z_iconst hC dX6_range_58 ?_
        refine z_iload_n hC rfl (hL.at 1 rfl) dX6_range_59 ?_
        refine z_iload_n hC rfl (hL.at 2 rfl) dX6_range_60 ?_
        refine z_iconst hC dX6_range_61 ?_
        refine z_iconst hC dX6_range_62 ?_
        refine z_iconst hC dX6_range_63 ?_
        refine z_iconst hC dX6_range_64 ?_
        refine z_call_i hG (zrunV (ci := 6) hC hG (Nat.le_of_ble_eq_true rfl) (Nat.le_of_ble_eq_true rfl) (zobj hG rfl (Nat.le_of_ble_eq_true rfl) (Nat.le_of_ble_eq_true rfl)) (mX6_pattern l P G1 2 (inR_lit rfl) p0 hp0 p1 hp1 (-1) (inR_lit rfl) (-1) (inR_lit rfl) (-1) (inR_lit rfl) 4 (inR_lit rfl) hV) kVX6_208 rfl rfl rfl ⟨(Nat.le_of_ble_eq_true rfl), (Nat.le_of_ble_eq_true rfl)⟩ ⟨(Nat.le_of_ble_eq_true rfl), (Nat.le_of_ble_eq_true rfl)⟩ rfl ⟨zcs_0, (Nat.le_of_ble_eq_true rfl)⟩ hL.1.1 dX6_range_65) ?_
        rintro x3 G2 _ _ hx3 hV hG
        exact hJ68 x3 G2 hx3 hV _ _ _ hG (hL.sub [] rfl)
      · intro hV
        refine z_iconst hC dX6_range_53 ?_
        refine z_goto (tgt := 68) hC dX6_range_54 (by decide) ?_
        exact hJ68 0 G1 (inR_lit rfl) hV _ _ _ hG (hL.sub [] rfl)
    refine z_if_ne (tgt := 35) hC (inR_b hz25_0) hV dX6_range_28 (by decide) ?_ ?_
    · intro hV
      refine z_aload_n hC zvr_a rfl (hL.at 1 rfl) dX6_range_35 ?_
      refine z_call_z hG (zrunV (ci := 6) hC hG (Nat.le_of_ble_eq_true rfl) (Nat.le_of_ble_eq_true rfl) (zobj hG rfl (Nat.le_of_ble_eq_true rfl) (Nat.le_of_ble_eq_true rfl)) (mX6_isFull l P G hV) kVX6_204 rfl rfl rfl ⟨(Nat.le_of_ble_eq_true rfl), (Nat.le_of_ble_eq_true rfl)⟩ ⟨(Nat.le_of_ble_eq_true rfl), (Nat.le_of_ble_eq_true rfl)⟩ rfl ⟨(zcs_c rfl zcs_0), (Nat.le_of_ble_eq_true rfl)⟩ hL.1.1 dX6_range_36) ?_
      rintro x4 _ _ _ hx4 ⟨rfl, hV⟩ hG
      refine z_if_eq (tgt := 46) hC (inR_b hx4) hV dX6_range_39 (by decide) ?_ ?_
      · intro hV
        refine z_iconst hC dX6_range_46 ?_
        exact hJ47 hG 0 (inR_lit rfl) hV _ (hL.sub [1, 2, 3] rfl)
      · intro hV
        refine z_iconst hC dX6_range_42 ?_
        refine z_goto (tgt := 47) hC dX6_range_43 (by decide) ?_
        exact hJ47 hG 2 (inR_lit rfl) hV _ (hL.sub [1, 2, 3] rfl)
    · intro hV
      refine z_iconst hC dX6_range_31 ?_
      refine z_goto (tgt := 47) hC dX6_range_32 (by decide) ?_
      exact hJ47 hG 1 (inR_lit rfl) hV _ (hL.sub [1, 2, 3] rfl)
  obtain ⟨J24, eJ24, hV⟩ := zjn_abs hV
  have hJ24 : ∀ {H : Heap} {locs : List Loc}, zS P s G H locs → J24 () → ∀ (ls : Array Slot), zL ls 4 [(0, .ref (zA P 5 0 0)), (1, .int (zI p0)), (2, .int (zI p1))] → W p l e rX6_range s m args below meth c H locs 0 0 (MQ below (zQi P Q) args s 0 0 (zAr P)) (F0 m 24 ls []) := by
    intro H locs hG hV ls hL
    rw [eJ24] at hV
    refine z_iconst hC dX6_range_24 ?_
    exact hJ25 hG 0 (Or.inl rfl) hV _ hL
  refine z_if_eq (tgt := 24) hC (inR_b hx1) hV dX6_range_7 (by decide) ?_ ?_
  · intro hV
    exact hJ24 hG hV _ hL
  · intro hV
    refine z_iload_n hC rfl (hL.at 2 rfl) dX6_range_10 ?_
    refine z_iload_n hC rfl (hL.at 1 rfl) dX6_range_11 ?_
    refine z_bipush hC rfl dX6_range_12 ?_
    refine z_call_z hG (zrunS hC hG (mX6_in l P G p1 hp1 p0 hp0 9 (inR_lit rfl) hV) kSX6_171 rfl rfl rfl ⟨(Nat.le_of_ble_eq_true rfl), (Nat.le_of_ble_eq_true rfl)⟩ ⟨(Nat.le_of_ble_eq_true rfl), (Nat.le_of_ble_eq_true rfl)⟩ rfl ⟨zcs_0, (Nat.le_of_ble_eq_true rfl)⟩ hL.1.1 dX6_range_14) ?_
    rintro x5 _ _ _ hx5 ⟨rfl, hV⟩ hG
    refine z_if_eq (tgt := 24) hC (inR_b hx5) hV dX6_range_17 (by decide) ?_ ?_
    · intro hV
      exact hJ24 hG hV _ hL
    · intro hV
      refine z_iconst hC dX6_range_20 ?_
      refine z_goto (tgt := 25) hC dX6_range_21 (by decide) ?_
      exact hJ25 hG 1 (Or.inr rfl) hV _ hL
abbrev rX6_suits : Room := { frames := 1, cells := 0, slots := 0, locals := 12 }
def vX6_suits (p0 : Int) (p1 : Int) (G : ZG) (Q : Int → Prop) : Prop := zaL G 5 14 60 p0 fun (x1 : Int) => zjn (fun (z25_0 : Int) => Q z25_0) fun J25 => zjn (fun (_ : Unit) => J25 1) fun J20 => zbr (x1 = (-1)) (J20 ()) (zaL G 5 14 60 p0 fun (x2 : Int) => zbr (x2 ≠ p1) (J25 0) (J20 ()))
set_option maxHeartbeats 4000000 in
theorem mX6_suits (l : Launch) (P : ZP) (G : ZG) (p0 : Int) (hp0 : inR p0) (p1 : Int) (hp1 : inR p1) {Q : Int → Prop} (hV : vX6_suits p0 p1 G Q) : Met l yX6_suits (ws_ yX6_suits cX6_suits 3 (some .boolean)) rX6_suits (zPc P G [.ref (zA P 5 0 0), .int (zI p0), .int (zI p1)]) (zQz P (fun r G2 => G = G2 ∧ Q r)) 0 0 (zAr P) := by
  refine zMet RX6 (plainFor_of_name (by decide)) rfl (zcs_c rfl (zcs_c rfl (zcs_c rfl zcs_0))) (Nat.le_of_ble_eq_true rfl) (fun p e s m args below meth c ls hC hr hk hn hG hL => ?_)
  unfold vX6_suits at hV
  refine z_aload_n hC zvr_a rfl (hL.at 0 rfl) dX6_suits_0 ?_
  refine z_getA hC hG kFX6_43_6 rfl rfl dX6_suits_1 ?_
  refine z_iload_n hC rfl (hL.at 1 rfl) dX6_suits_4 ?_
  refine z_iald hC hG rfl rfl rfl hp0 hV dX6_suits_5 ?_
  intro x1 hx1 hV
  refine z_iconst hC dX6_suits_6 ?_
  obtain ⟨J25, eJ25, hV⟩ := zjn_abs hV
  have hJ25 : ∀ {H : Heap} {locs : List Loc}, zS P s G H locs → ∀ (z25_0 : Int), (z25_0 = 0 ∨ z25_0 = 1) → J25 z25_0 → ∀ (ls : Array Slot), zL ls 3 [] → W p l e rX6_suits s m args below meth c H locs 0 0 (MQ below (zQz P (fun r G2 => G = G2 ∧ Q r)) args s 0 0 (zAr P)) (F0 m 25 ls [.int (zI z25_0)]) := by
    intro H locs hG z25_0 hz25_0 hV ls hL
    rw [eJ25] at hV
    exact z_zret hC hG hr hk hz25_0 ⟨rfl, hV⟩ (Nat.le_of_ble_eq_true rfl) (Nat.le_of_ble_eq_true rfl) dX6_suits_25
  obtain ⟨J20, eJ20, hV⟩ := zjn_abs hV
  have hJ20 : ∀ {H : Heap} {locs : List Loc}, zS P s G H locs → J20 () → ∀ (ls : Array Slot), zL ls 3 [] → W p l e rX6_suits s m args below meth c H locs 0 0 (MQ below (zQz P (fun r G2 => G = G2 ∧ Q r)) args s 0 0 (zAr P)) (F0 m 20 ls []) := by
    intro H locs hG hV ls hL
    rw [eJ20] at hV
    refine z_iconst hC dX6_suits_20 ?_
    refine z_goto (tgt := 25) hC dX6_suits_21 (by decide) ?_
    exact hJ25 hG 1 (Or.inr rfl) hV _ hL
  refine z_icmp_eq (tgt := 20) hC hx1 (inR_lit rfl) hV dX6_suits_7 (by decide) ?_ ?_
  · intro hV
    exact hJ20 hG hV _ (hL.sub [] rfl)
  · intro hV
    refine z_aload_n hC zvr_a rfl (hL.at 0 rfl) dX6_suits_10 ?_
    refine z_getA hC hG kFX6_43_6 rfl rfl dX6_suits_11 ?_
    refine z_iload_n hC rfl (hL.at 1 rfl) dX6_suits_14 ?_
    refine z_iald hC hG rfl rfl rfl hp0 hV dX6_suits_15 ?_
    intro x2 hx2 hV
    refine z_iload_n hC rfl (hL.at 2 rfl) dX6_suits_16 ?_
    refine z_icmp_ne (tgt := 24) hC hx2 hp1 hV dX6_suits_17 (by decide) ?_ ?_
    · intro hV
      refine z_iconst hC dX6_suits_24 ?_
      exact hJ25 hG 0 (Or.inl rfl) hV _ (hL.sub [] rfl)
    · intro hV
      exact hJ20 hG hV _ (hL.sub [] rfl)
abbrev rX6_depthOf : Room := { frames := 2, cells := 0, slots := 0, locals := 35 }
def vX6_depthOf (p0 : Int) (p1 : Int) (p2 : Int) (G : ZG) (Q : Int → Prop) : Prop := zl2 (fun (P6 : Int → Int → Prop) (a6_4 : Int) (a6_5 : Int) => zbr (3 ≤ a6_5) (Q (w32 (a6_4 + 1))) (vX6_pick p0 p1 p2 a6_5 fun (x1 : Int) => zjn (fun (z52_0 : Int) => zlt1 (w32 (a6_5 + 1)) fun (x2 : Int) => P6 z52_0 x2) fun J52 => zjn (fun (_ : Unit) => J52 a6_4) fun J50 => zbr (x1 = (-1)) (J50 ()) (zaL G 5 15 60 x1 fun (x3 : Int) => zbr (x3 ≤ a6_4) (J50 ()) (zaL G 5 15 60 x1 fun (x4 : Int) => J52 x4)))) 0 0
set_option maxHeartbeats 4000000 in
theorem mX6_depthOf (l : Launch) (P : ZP) (G : ZG) (p0 : Int) (hp0 : inR p0) (p1 : Int) (hp1 : inR p1) (p2 : Int) (hp2 : inR p2) {Q : Int → Prop} (hV : vX6_depthOf p0 p1 p2 G Q) : Met l yX6_depthOf (ws_ yX6_depthOf cX6_depthOf 7 (some .int)) rX6_depthOf (zPc P G [.ref (zA P 5 0 0), .int (zI p0), .int (zI p1), .int (zI p2)]) (zQi P (fun r G2 => G = G2 ∧ Q r)) 0 0 (zAr P) := by
  refine zMet RX6 (plainFor_of_name (by decide)) rfl (zcs_c rfl (zcs_c rfl (zcs_c rfl (zcs_c rfl zcs_0)))) (Nat.le_of_ble_eq_true rfl) (fun p e s m args below meth c ls hC hr hk hn hG hL => ?_)
  unfold vX6_depthOf at hV
  refine z_iconst hC dX6_depthOf_0 ?_
  refine z_istore (lv' := [(4, .int (zI 0)), (0, .ref (zA P 5 0 0)), (1, .int (zI p0)), (2, .int (zI p1)), (3, .int (zI p2))]) hC hL (by decide) rfl dX6_depthOf_1 (fun ls hL => ?_)
  refine z_iconst hC dX6_depthOf_3 ?_
  refine z_istore (lv' := [(5, .int (zI 0)), (4, .int (zI 0)), (0, .ref (zA P 5 0 0)), (1, .int (zI p0)), (2, .int (zI p1)), (3, .int (zI p2))]) hC hL (by decide) rfl dX6_depthOf_4 (fun ls hL => ?_)
  refine zl2_use hV (fun (a6_4 : Int) (a6_5 : Int) => inR a6_4 → inR a6_5 → ∀ (H : Heap) (locs : List Loc), zS P s G H locs → ∀ (ls : Array Slot), zL ls 7 [(0, .ref (zA P 5 0 0)), (1, .int (zI p0)), (2, .int (zI p1)), (3, .int (zI p2)), (4, .int (zI a6_4)), (5, .int (zI a6_5))] → W p l e rX6_depthOf s m args below meth c H locs 0 0 (MQ below (zQi P (fun r G2 => G = G2 ∧ Q r)) args s 0 0 (zAr P)) (F0 m 6 ls [])) ?_ (inR_lit rfl) (inR_lit rfl) _ _ hG _ (hL.sub [2, 3, 4, 5, 1, 0] rfl)
  intro P6 a6_4 a6_5 hP6 hV ha6_4 ha6_5 H locs hG ls hL
  refine z_iload hC (hL.at 5 rfl) dX6_depthOf_6 ?_
  refine z_iconst hC dX6_depthOf_8 ?_
  refine z_icmp_ge (tgt := 60) hC ha6_5 (inR_lit rfl) hV dX6_depthOf_9 (by decide) ?_ ?_
  · intro hV
    refine z_iload hC (hL.at 4 rfl) dX6_depthOf_60 ?_
    refine z_iconst hC dX6_depthOf_62 ?_
    refine z_iadd hC dX6_depthOf_63 ?_
    exact z_iret hC hG hr hk (inR_w _) ⟨rfl, hV⟩ (Nat.le_of_ble_eq_true rfl) (Nat.le_of_ble_eq_true rfl) dX6_depthOf_64
  · intro hV
    refine z_iload_n hC rfl (hL.at 1 rfl) dX6_depthOf_12 ?_
    refine z_iload_n hC rfl (hL.at 2 rfl) dX6_depthOf_13 ?_
    refine z_iload_n hC rfl (hL.at 3 rfl) dX6_depthOf_14 ?_
    refine z_iload hC (hL.at 5 rfl) dX6_depthOf_15 ?_
    refine z_call_i hG (zrunS hC hG (mX6_pick l P G p0 hp0 p1 hp1 p2 hp2 a6_5 ha6_5 hV) kSX6_175 rfl rfl rfl ⟨(Nat.le_of_ble_eq_true rfl), (Nat.le_of_ble_eq_true rfl)⟩ ⟨(Nat.le_of_ble_eq_true rfl), (Nat.le_of_ble_eq_true rfl)⟩ rfl ⟨zcs_0, (Nat.le_of_ble_eq_true rfl)⟩ hL.1.1 dX6_depthOf_17) ?_
    rintro x1 _ _ _ hx1 ⟨rfl, hV⟩ hG
    refine z_istore (lv' := [(6, .int (zI x1)), (0, .ref (zA P 5 0 0)), (1, .int (zI p0)), (2, .int (zI p1)), (3, .int (zI p2)), (4, .int (zI a6_4)), (5, .int (zI a6_5))]) hC hL (by decide) rfl dX6_depthOf_20 (fun ls hL => ?_)
    refine z_iload hC (hL.at 0 rfl) dX6_depthOf_22 ?_
    refine z_iconst hC dX6_depthOf_24 ?_
    obtain ⟨J52, eJ52, hV⟩ := zjn_abs hV
    have hJ52 : ∀ {H : Heap} {locs : List Loc}, zS P s G H locs → ∀ (z52_0 : Int), inR z52_0 → J52 z52_0 → ∀ (ls : Array Slot), zL ls 7 [(0, .ref (zA P 5 0 0)), (1, .int (zI p0)), (2, .int (zI p1)), (3, .int (zI p2)), (5, .int (zI a6_5))] → W p l e rX6_depthOf s m args below meth c H locs 0 0 (MQ below (zQi P (fun r G2 => G = G2 ∧ Q r)) args s 0 0 (zAr P)) (F0 m 52 ls [.int (zI z52_0)]) := by
      intro H locs hG z52_0 hz52_0 hV ls hL
      rw [eJ52] at hV
      refine z_istore (lv' := [(4, .int (zI z52_0)), (0, .ref (zA P 5 0 0)), (1, .int (zI p0)), (2, .int (zI p1)), (3, .int (zI p2)), (5, .int (zI a6_5))]) hC hL (by decide) rfl dX6_depthOf_52 (fun ls hL => ?_)
      refine z_iincV (fun x2 => [(5, .int (zI x2)), (4, .int (zI z52_0)), (0, .ref (zA P 5 0 0)), (1, .int (zI p0)), (2, .int (zI p1)), (3, .int (zI p2))]) hC hL (k := 5) rfl (by decide) (fun _ => rfl) hV dX6_depthOf_54 ?_
      intro x2 hx2 hV ls hL
      refine z_goto (tgt := 6) hC dX6_depthOf_57 (by decide) ?_
      exact hP6 z52_0 x2 hV hz52_0 hx2 _ _ hG _ (hL.sub [2, 3, 4, 5, 1, 0] rfl)
    obtain ⟨J50, eJ50, hV⟩ := zjn_abs hV
    have hJ50 : ∀ {H : Heap} {locs : List Loc}, zS P s G H locs → J50 () → ∀ (ls : Array Slot), zL ls 7 [(0, .ref (zA P 5 0 0)), (1, .int (zI p0)), (2, .int (zI p1)), (3, .int (zI p2)), (4, .int (zI a6_4)), (5, .int (zI a6_5))] → W p l e rX6_depthOf s m args below meth c H locs 0 0 (MQ below (zQi P (fun r G2 => G = G2 ∧ Q r)) args s 0 0 (zAr P)) (F0 m 50 ls []) := by
      intro H locs hG hV ls hL
      rw [eJ50] at hV
      refine z_iload hC (hL.at 4 rfl) dX6_depthOf_50 ?_
      exact hJ52 hG a6_4 ha6_4 hV _ (hL.sub [0, 1, 2, 3, 5] rfl)
    refine z_icmp_eq (tgt := 50) hC hx1 (inR_lit rfl) hV dX6_depthOf_25 (by decide) ?_ ?_
    · intro hV
      exact hJ50 hG hV _ (hL.sub [1, 2, 3, 4, 5, 6] rfl)
    · intro hV
      refine z_aload_n hC zvr_a rfl (hL.at 1 rfl) dX6_depthOf_28 ?_
      refine z_getA hC hG kFX6_46_6 rfl rfl dX6_depthOf_29 ?_
      refine z_iload hC (hL.at 0 rfl) dX6_depthOf_32 ?_
      refine z_iald hC hG rfl rfl rfl hx1 hV dX6_depthOf_34 ?_
      intro x3 hx3 hV
      refine z_iload hC (hL.at 5 rfl) dX6_depthOf_35 ?_
      refine z_icmp_le (tgt := 50) hC hx3 ha6_4 hV dX6_depthOf_37 (by decide) ?_ ?_
      · intro hV
        exact hJ50 hG hV _ (hL.sub [1, 2, 3, 4, 5, 6] rfl)
      · intro hV
        refine z_aload_n hC zvr_a rfl (hL.at 1 rfl) dX6_depthOf_40 ?_
        refine z_getA hC hG kFX6_46_6 rfl rfl dX6_depthOf_41 ?_
        refine z_iload hC (hL.at 0 rfl) dX6_depthOf_44 ?_
        refine z_iald hC hG rfl rfl rfl hx1 hV dX6_depthOf_46 ?_
        intro x4 hx4 hV
        refine z_goto (tgt := 52) hC dX6_depthOf_47 (by decide) ?_
        exact hJ52 hG x4 hx4 hV _ (hL.sub [1, 2, 3, 4, 6] rfl)
abbrev rX6_make : Room := { frames := 3, cells := 0, slots := 0, locals := 65 }
def vX6_make (p0 : Int) (p1 : Int) (p2 : Int) (p3 : Int) (p4 : Int) (G : ZG) (Q : Int → ZG → Prop) : Prop := vX6_isConstructor p0 p1 G fun (x1 : Int) => zjn (fun (z22_0 : Int) => zl4 (fun (P33 : Int → Int → Int → Int → Prop) (a33_6 : Int) (a33_8 : Int) (a33_9 : Int) (a33_10 : Int) => zjn (fun (_ : Unit) => zjn (fun (z235_0 : Int) => zjn (fun (z268_1 : Int) => vX6_refused z268_1 G fun (x2 : Int) (G1 : ZG) => zjn (fun (z292_0 : Int) (H292 : ZG) => Q z292_0 H292) fun J292 => zbr (x2 = 0) (vX6_pattern 3 z22_0 0 p2 p3 p4 p0 G1 fun (x3 : Int) (G2 : ZG) => J292 x3 G2) (J292 0 G1)) fun J268 => zbr (a33_6 ≠ 0) (zbr (z235_0 ≠ 0) (vX6_isFull G fun (x4 : Int) => zbr (x4 = 0) (J268 0) (J268 3)) (J268 2)) (J268 1)) fun J235 => zjn (fun (_ : Unit) => J235 0) fun J234 => zbr (a33_6 = 0) (J234 ()) (zbr (a33_8 = 0) (J234 ()) (vX6_depthOf p2 p3 p4 G fun (x5 : Int) => zbr (4 < x5) (J234 ()) (vX6_sizeOf p2 p3 p4 G fun (x6 : Int) => zbr (40 < x6) (J234 ()) (J235 1))))) fun J193 => zbr (3 ≤ a33_10) (J193 ()) (zbr (a33_6 = 0) (J193 ()) (vX6_pick p2 p3 p4 a33_10 fun (x7 : Int) => zaL G 5 2 16 z22_0 fun (x8 : Int) => zjn (fun (z73_0 : Int) => zjn (fun (z94_0 : Int) => zjn (fun (z159_0 : Int) => zjn (fun (z184_1 : Int) => zlt1 (bOr a33_9 z184_1) fun (x9 : Int) => zlt1 (w32 (a33_10 + 1)) fun (x10 : Int) => P33 z94_0 z159_0 x9 x10) fun J184 => zjn (fun (_ : Unit) => J184 0) fun J183 => zbr (z73_0 = 0) (J183 ()) (zbr (z94_0 = 0) (J183 ()) (zaL G 5 17 60 x7 fun (x11 : Int) => J184 x11))) fun J159 => zjn (fun (_ : Unit) => J159 0) fun J158 => zbr (a33_8 = 0) (J158 ()) (zjn (fun (_ : Unit) => J159 1) fun J154 => zbr (z73_0 = 0) (zbr (x7 ≠ (-1)) (J158 ()) (J154 ())) (zbr (z94_0 = 0) (J158 ()) (zaL G 5 3 48 (w32 ((w32 (3 * z22_0)) + a33_10)) fun (x12 : Int) => vX6_suits x7 x12 G fun (x13 : Int) => zbr (x13 = 0) (J158 ()) (zaL G 5 17 60 x7 fun (x14 : Int) => zbr (bAnd x14 a33_9 ≠ 0) (J158 ()) (J154 ())))))) fun J94 => zjn (fun (_ : Unit) => J94 1) fun J89 => zbr (z73_0 = 0) (J89 ()) (vX6_isPattern x7 G fun (x15 : Int) => zbr (x15 = 0) (J94 0) (J89 ()))) fun J73 => zbr (x8 ≤ a33_10) (J73 0) (J73 1)))) x1 1 0 0) fun J22 => zbr (x1 = 0) (J22 0) (J22 (w32 ((w32 (4 * p0)) + p1)))
set_option maxHeartbeats 4000000 in
theorem mX6_make (l : Launch) (P : ZP) (G : ZG) (p0 : Int) (hp0 : inR p0) (p1 : Int) (hp1 : inR p1) (p2 : Int) (hp2 : inR p2) (p3 : Int) (hp3 : inR p3) (p4 : Int) (hp4 : inR p4) {Q : Int → ZG → Prop} (hV : vX6_make p0 p1 p2 p3 p4 G Q) : Met l yX6_make (ws_ yX6_make cX6_make 13 (some .int)) rX6_make (zPc P G [.ref (zA P 5 0 0), .int (zI p0), .int (zI p1), .int (zI p2), .int (zI p3), .int (zI p4)]) (zQi P Q) 0 0 (zAr P) := by
  refine zMet RX6 (plainFor_of_name (by decide)) rfl (zcs_c rfl (zcs_c rfl (zcs_c rfl (zcs_c rfl (zcs_c rfl (zcs_c rfl zcs_0)))))) (Nat.le_of_ble_eq_true rfl) (fun p e s m args below meth c ls hC hr hk hn hG hL => ?_)
  unfold vX6_make at hV
  refine z_aload_n hC zvr_a rfl (hL.at 0 rfl) dX6_make_0 ?_
  refine z_iload_n hC rfl (hL.at 1 rfl) dX6_make_1 ?_
  refine z_iload_n hC rfl (hL.at 2 rfl) dX6_make_2 ?_
  refine z_call_z hG (zrunV (ci := 6) hC hG (Nat.le_of_ble_eq_true rfl) (Nat.le_of_ble_eq_true rfl) (zobj hG rfl (Nat.le_of_ble_eq_true rfl) (Nat.le_of_ble_eq_true rfl)) (mX6_isConstructor l P G p0 hp0 p1 hp1 hV) kVX6_193 rfl rfl rfl ⟨(Nat.le_of_ble_eq_true rfl), (Nat.le_of_ble_eq_true rfl)⟩ ⟨(Nat.le_of_ble_eq_true rfl), (Nat.le_of_ble_eq_true rfl)⟩ rfl ⟨zcs_0, (Nat.le_of_ble_eq_true rfl)⟩ hL.1.1 dX6_make_3) ?_
  rintro x1 _ _ _ hx1 ⟨rfl, hV⟩ hG
  refine z_istore (lv' := [(6, .int (zI x1)), (0, .ref (zA P 5 0 0)), (1, .int (zI p0)), (2, .int (zI p1)), (3, .int (zI p2)), (4, .int (zI p3)), (5, .int (zI p4))]) hC hL (by decide) rfl dX6_make_6 (fun ls hL => ?_)
  refine z_iload hC (hL.at 0 rfl) dX6_make_8 ?_
  obtain ⟨J22, eJ22, hV⟩ := zjn_abs hV
  have hJ22 : ∀ {H : Heap} {locs : List Loc}, zS P s G H locs → ∀ (z22_0 : Int), inR z22_0 → J22 z22_0 → ∀ (ls : Array Slot), zL ls 13 [(0, .ref (zA P 5 0 0)), (1, .int (zI p0)), (3, .int (zI p2)), (4, .int (zI p3)), (5, .int (zI p4)), (6, .int (zI x1))] → W p l e rX6_make s m args below meth c H locs 0 0 (MQ below (zQi P Q) args s 0 0 (zAr P)) (F0 m 22 ls [.int (zI z22_0)]) := by
    intro H locs hG z22_0 hz22_0 hV ls hL
    rw [eJ22] at hV
    refine z_istore (lv' := [(7, .int (zI z22_0)), (0, .ref (zA P 5 0 0)), (1, .int (zI p0)), (3, .int (zI p2)), (4, .int (zI p3)), (5, .int (zI p4)), (6, .int (zI x1))]) hC hL (by decide) rfl dX6_make_22 (fun ls hL => ?_)
    refine z_iconst hC dX6_make_24 ?_
    refine z_istore (lv' := [(8, .int (zI 1)), (7, .int (zI z22_0)), (0, .ref (zA P 5 0 0)), (1, .int (zI p0)), (3, .int (zI p2)), (4, .int (zI p3)), (5, .int (zI p4)), (6, .int (zI x1))]) hC hL (by decide) rfl dX6_make_25 (fun ls hL => ?_)
    refine z_iconst hC dX6_make_27 ?_
    refine z_istore (lv' := [(9, .int (zI 0)), (8, .int (zI 1)), (7, .int (zI z22_0)), (0, .ref (zA P 5 0 0)), (1, .int (zI p0)), (3, .int (zI p2)), (4, .int (zI p3)), (5, .int (zI p4)), (6, .int (zI x1))]) hC hL (by decide) rfl dX6_make_28 (fun ls hL => ?_)
    refine z_iconst hC dX6_make_30 ?_
    refine z_istore (lv' := [(10, .int (zI 0)), (9, .int (zI 0)), (8, .int (zI 1)), (7, .int (zI z22_0)), (0, .ref (zA P 5 0 0)), (1, .int (zI p0)), (3, .int (zI p2)), (4, .int (zI p3)), (5, .int (zI p4)), (6, .int (zI x1))]) hC hL (by decide) rfl dX6_make_31 (fun ls hL => ?_)
    refine zl4_use hV (fun (a33_6 : Int) (a33_8 : Int) (a33_9 : Int) (a33_10 : Int) => (a33_6 = 0 ∨ a33_6 = 1) → (a33_8 = 0 ∨ a33_8 = 1) → inR a33_9 → inR a33_10 → ∀ (H : Heap) (locs : List Loc), zS P s G H locs → ∀ (ls : Array Slot), zL ls 13 [(0, .ref (zA P 5 0 0)), (1, .int (zI p0)), (3, .int (zI p2)), (4, .int (zI p3)), (5, .int (zI p4)), (6, .int (zI a33_6)), (7, .int (zI z22_0)), (8, .int (zI a33_8)), (9, .int (zI a33_9)), (10, .int (zI a33_10))] → W p l e rX6_make s m args below meth c H locs 0 0 (MQ below (zQi P Q) args s 0 0 (zAr P)) (F0 m 33 ls [])) ?_ hx1 (Or.inr rfl) (inR_lit rfl) (inR_lit rfl) _ _ hG _ (hL.sub [4, 5, 6, 7, 8, 9, 3, 2, 1, 0] rfl)
    intro P33 a33_6 a33_8 a33_9 a33_10 hP33 hV ha33_6 ha33_8 ha33_9 ha33_10 H locs hG ls hL
    refine z_iload hC (hL.at 9 rfl) dX6_make_33 ?_
    refine z_iconst hC dX6_make_35 ?_
    obtain ⟨J193, eJ193, hV⟩ := zjn_abs hV
    have hJ193 : ∀ {H : Heap} {locs : List Loc}, zS P s G H locs → J193 () → ∀ (ls : Array Slot), zL ls 13 [(0, .ref (zA P 5 0 0)), (1, .int (zI p0)), (3, .int (zI p2)), (4, .int (zI p3)), (5, .int (zI p4)), (6, .int (zI a33_6)), (7, .int (zI z22_0)), (8, .int (zI a33_8))] → W p l e rX6_make s m args below meth c H locs 0 0 (MQ below (zQi P Q) args s 0 0 (zAr P)) (F0 m 193 ls []) := by
      intro H locs hG hV ls hL
      rw [eJ193] at hV
      refine z_iload hC (hL.at 5 rfl) dX6_make_193 ?_
      obtain ⟨J235, eJ235, hV⟩ := zjn_abs hV
      have hJ235 : ∀ {H : Heap} {locs : List Loc}, zS P s G H locs → ∀ (z235_0 : Int), (z235_0 = 0 ∨ z235_0 = 1) → J235 z235_0 → ∀ (ls : Array Slot), zL ls 13 [(0, .ref (zA P 5 0 0)), (1, .int (zI p0)), (3, .int (zI p2)), (4, .int (zI p3)), (5, .int (zI p4)), (6, .int (zI a33_6)), (7, .int (zI z22_0))] → W p l e rX6_make s m args below meth c H locs 0 0 (MQ below (zQi P Q) args s 0 0 (zAr P)) (F0 m 235 ls [.int (zI z235_0)]) := by
        intro H locs hG z235_0 hz235_0 hV ls hL
        rw [eJ235] at hV
        refine z_istore (lv' := [(8, .int (zI z235_0)), (0, .ref (zA P 5 0 0)), (1, .int (zI p0)), (3, .int (zI p2)), (4, .int (zI p3)), (5, .int (zI p4)), (6, .int (zI a33_6)), (7, .int (zI z22_0))]) hC hL (by decide) rfl dX6_make_235 (fun ls hL => ?_)
        refine z_aload_n hC zvr_a rfl (hL.at 1 rfl) dX6_make_237 ?_
        refine z_iload hC (hL.at 6 rfl) dX6_make_238 ?_
        obtain ⟨J268, eJ268, hV⟩ := zjn_abs hV
        have hJ268 : ∀ {H : Heap} {locs : List Loc}, zS P s G H locs → ∀ (z268_1 : Int), inR z268_1 → J268 z268_1 → ∀ (ls : Array Slot), zL ls 13 [(0, .ref (zA P 5 0 0)), (1, .int (zI p0)), (3, .int (zI p2)), (4, .int (zI p3)), (5, .int (zI p4)), (7, .int (zI z22_0))] → W p l e rX6_make s m args below meth c H locs 0 0 (MQ below (zQi P Q) args s 0 0 (zAr P)) (F0 m 268 ls [.int (zI z268_1), .ref (zA P 5 0 0)]) := by
          intro H locs hG z268_1 hz268_1 hV ls hL
          rw [eJ268] at hV
          refine z_call_z hG (zrunV (ci := 6) hC hG (Nat.le_of_ble_eq_true rfl) (Nat.le_of_ble_eq_true rfl) (zobj hG rfl (Nat.le_of_ble_eq_true rfl) (Nat.le_of_ble_eq_true rfl)) (mX6_refused l P G z268_1 hz268_1 hV) kVX6_183 rfl rfl rfl ⟨(Nat.le_of_ble_eq_true rfl), (Nat.le_of_ble_eq_true rfl)⟩ ⟨(Nat.le_of_ble_eq_true rfl), (Nat.le_of_ble_eq_true rfl)⟩ rfl ⟨zcs_0, (Nat.le_of_ble_eq_true rfl)⟩ hL.1.1 dX6_make_268) ?_
          rintro x2 G1 _ _ hx2 hV hG
          obtain ⟨J292, eJ292, hV⟩ := zjn_abs hV
          have hJ292 : ∀ (z292_0 : Int) (H292 : ZG), inR z292_0 → J292 z292_0 H292 → ∀ (H : Heap) (locs : List Loc) (ls : Array Slot), zS P s H292 H locs → zL ls 13 [] → W p l e rX6_make s m args below meth c H locs 0 0 (MQ below (zQi P Q) args s 0 0 (zAr P)) (F0 m 292 ls [.int (zI z292_0)]) := by
            intro z292_0 H292 hz292_0 hV H locs ls hG hL
            rw [eJ292] at hV
            exact z_iret hC hG hr hk hz292_0 hV (Nat.le_of_ble_eq_true rfl) (Nat.le_of_ble_eq_true rfl) dX6_make_292
          refine z_if_eq (tgt := 278) hC (inR_b hx2) hV dX6_make_271 (by decide) ?_ ?_
          · intro hV
            refine z_aload_n hC zvr_a rfl (hL.at 0 rfl) dX6_make_278 ?_
            refine z_iconst hC dX6_make_279 ?_
            refine z_iload hC (hL.at 5 rfl) dX6_make_280 ?_
            refine z_iconst hC dX6_make_282 ?_
            refine z_iload_n hC rfl (hL.at 2 rfl) dX6_make_283 ?_
            refine z_iload hC (hL.at 3 rfl) dX6_make_284 ?_
            refine z_iload hC (hL.at 4 rfl) dX6_make_286 ?_
            refine z_iload_n hC rfl (hL.at 1 rfl) dX6_make_288 ?_
            refine z_call_i hG (zrunV (ci := 6) hC hG (Nat.le_of_ble_eq_true rfl) (Nat.le_of_ble_eq_true rfl) (zobj hG rfl (Nat.le_of_ble_eq_true rfl) (Nat.le_of_ble_eq_true rfl)) (mX6_pattern l P G1 3 (inR_lit rfl) z22_0 hz22_0 0 (inR_lit rfl) p2 hp2 p3 hp3 p4 hp4 p0 hp0 hV) kVX6_208 rfl rfl rfl ⟨(Nat.le_of_ble_eq_true rfl), (Nat.le_of_ble_eq_true rfl)⟩ ⟨(Nat.le_of_ble_eq_true rfl), (Nat.le_of_ble_eq_true rfl)⟩ rfl ⟨zcs_0, (Nat.le_of_ble_eq_true rfl)⟩ hL.1.1 dX6_make_289) ?_
            rintro x3 G2 _ _ hx3 hV hG
            exact hJ292 x3 G2 hx3 hV _ _ _ hG (hL.sub [] rfl)
          · intro hV
            refine z_iconst hC dX6_make_274 ?_
            refine z_goto (tgt := 292) hC dX6_make_275 (by decide) ?_
            exact hJ292 0 G1 (inR_lit rfl) hV _ _ _ hG (hL.sub [] rfl)
        refine z_if_ne (tgt := 247) hC (inR_b ha33_6) hV dX6_make_240 (by decide) ?_ ?_
        · intro hV
          refine z_iload hC (hL.at 0 rfl) dX6_make_247 ?_
          refine z_if_ne (tgt := 256) hC (inR_b hz235_0) hV dX6_make_249 (by decide) ?_ ?_
          · intro hV
            refine z_aload_n hC zvr_a rfl (hL.at 1 rfl) dX6_make_256 ?_
            refine z_call_z hG (zrunV (ci := 6) hC hG (Nat.le_of_ble_eq_true rfl) (Nat.le_of_ble_eq_true rfl) (zobj hG rfl (Nat.le_of_ble_eq_true rfl) (Nat.le_of_ble_eq_true rfl)) (mX6_isFull l P G hV) kVX6_204 rfl rfl rfl ⟨(Nat.le_of_ble_eq_true rfl), (Nat.le_of_ble_eq_true rfl)⟩ ⟨(Nat.le_of_ble_eq_true rfl), (Nat.le_of_ble_eq_true rfl)⟩ rfl ⟨(zcs_c rfl zcs_0), (Nat.le_of_ble_eq_true rfl)⟩ hL.1.1 dX6_make_257) ?_
            rintro x4 _ _ _ hx4 ⟨rfl, hV⟩ hG
            refine z_if_eq (tgt := 267) hC (inR_b hx4) hV dX6_make_260 (by decide) ?_ ?_
            · intro hV
              refine z_iconst hC dX6_make_267 ?_
              exact hJ268 hG 0 (inR_lit rfl) hV _ (hL.sub [1, 2, 3, 4, 5, 7] rfl)
            · intro hV
              refine z_iconst hC dX6_make_263 ?_
              refine z_goto (tgt := 268) hC dX6_make_264 (by decide) ?_
              exact hJ268 hG 3 (inR_lit rfl) hV _ (hL.sub [1, 2, 3, 4, 5, 7] rfl)
          · intro hV
            refine z_iconst hC dX6_make_252 ?_
            refine z_goto (tgt := 268) hC dX6_make_253 (by decide) ?_
            exact hJ268 hG 2 (inR_lit rfl) hV _ (hL.sub [1, 2, 3, 4, 5, 7] rfl)
        · intro hV
          refine z_iconst hC dX6_make_243 ?_
          refine z_goto (tgt := 268) hC dX6_make_244 (by decide) ?_
          exact hJ268 hG 1 (inR_lit rfl) hV _ (hL.sub [1, 2, 3, 4, 5, 7] rfl)
      obtain ⟨J234, eJ234, hV⟩ := zjn_abs hV
      have hJ234 : ∀ {H : Heap} {locs : List Loc}, zS P s G H locs → J234 () → ∀ (ls : Array Slot), zL ls 13 [(0, .ref (zA P 5 0 0)), (1, .int (zI p0)), (3, .int (zI p2)), (4, .int (zI p3)), (5, .int (zI p4)), (6, .int (zI a33_6)), (7, .int (zI z22_0))] → W p l e rX6_make s m args below meth c H locs 0 0 (MQ below (zQi P Q) args s 0 0 (zAr P)) (F0 m 234 ls []) := by
        intro H locs hG hV ls hL
        rw [eJ234] at hV
        refine z_iconst hC dX6_make_234 ?_
        exact hJ235 hG 0 (Or.inl rfl) hV _ hL
      refine z_if_eq (tgt := 234) hC (inR_b ha33_6) hV dX6_make_195 (by decide) ?_ ?_
      · intro hV
        exact hJ234 hG hV _ (hL.sub [0, 1, 2, 3, 4, 5, 6] rfl)
      · intro hV
        refine z_iload hC (hL.at 7 rfl) dX6_make_198 ?_
        refine z_if_eq (tgt := 234) hC (inR_b ha33_8) hV dX6_make_200 (by decide) ?_ ?_
        · intro hV
          exact hJ234 hG hV _ (hL.sub [0, 1, 2, 3, 4, 5, 6] rfl)
        · intro hV
          refine z_aload_n hC zvr_a rfl (hL.at 0 rfl) dX6_make_203 ?_
          refine z_iload_n hC rfl (hL.at 2 rfl) dX6_make_204 ?_
          refine z_iload hC (hL.at 3 rfl) dX6_make_205 ?_
          refine z_iload hC (hL.at 4 rfl) dX6_make_207 ?_
          refine z_call_i hG (zrunV (ci := 6) hC hG (Nat.le_of_ble_eq_true rfl) (Nat.le_of_ble_eq_true rfl) (zobj hG rfl (Nat.le_of_ble_eq_true rfl) (Nat.le_of_ble_eq_true rfl)) (mX6_depthOf l P G p2 hp2 p3 hp3 p4 hp4 hV) kVX6_218 rfl rfl rfl ⟨(Nat.le_of_ble_eq_true rfl), (Nat.le_of_ble_eq_true rfl)⟩ ⟨(Nat.le_of_ble_eq_true rfl), (Nat.le_of_ble_eq_true rfl)⟩ rfl ⟨zcs_0, (Nat.le_of_ble_eq_true rfl)⟩ hL.1.1 dX6_make_209) ?_
          rintro x5 _ _ _ hx5 ⟨rfl, hV⟩ hG
          refine z_iconst hC dX6_make_212 ?_
          refine z_icmp_gt (tgt := 234) hC hx5 (inR_lit rfl) hV dX6_make_213 (by decide) ?_ ?_
          · intro hV
            exact hJ234 hG hV _ (hL.sub [0, 1, 2, 3, 4, 5, 6] rfl)
          · intro hV
            refine z_aload_n hC zvr_a rfl (hL.at 0 rfl) dX6_make_216 ?_
            refine z_iload_n hC rfl (hL.at 2 rfl) dX6_make_217 ?_
            refine z_iload hC (hL.at 3 rfl) dX6_make_218 ?_
            refine z_iload hC (hL.at 4 rfl) dX6_make_220 ?_
            refine z_call_i hG (zrunV (ci := 6) hC hG (Nat.le_of_ble_eq_true rfl) (Nat.le_of_ble_eq_true rfl) (zobj hG rfl (Nat.le_of_ble_eq_true rfl) (Nat.le_of_ble_eq_true rfl)) (mX6_sizeOf l P G p2 hp2 p3 hp3 p4 hp4 hV) kVX6_200 rfl rfl rfl ⟨(Nat.le_of_ble_eq_true rfl), (Nat.le_of_ble_eq_true rfl)⟩ ⟨(Nat.le_of_ble_eq_true rfl), (Nat.le_of_ble_eq_true rfl)⟩ rfl ⟨zcs_0, (Nat.le_of_ble_eq_true rfl)⟩ hL.1.1 dX6_make_222) ?_
            rintro x6 _ _ _ hx6 ⟨rfl, hV⟩ hG
            refine z_bipush hC rfl dX6_make_225 ?_
            refine z_icmp_gt (tgt := 234) hC hx6 (inR_lit rfl) hV dX6_make_227 (by decide) ?_ ?_
            · intro hV
              exact hJ234 hG hV _ (hL.sub [0, 1, 2, 3, 4, 5, 6] rfl)
            · intro hV
              refine z_iconst hC dX6_make_230 ?_
              refine z_goto (tgt := 235) hC dX6_make_231 (by decide) ?_
              exact hJ235 hG 1 (Or.inr rfl) hV _ (hL.sub [0, 1, 2, 3, 4, 5, 6] rfl)
    refine z_icmp_ge (tgt := 193) hC ha33_10 (inR_lit rfl) hV dX6_make_36 (by decide) ?_ ?_
    · intro hV
      exact hJ193 hG hV _ (hL.sub [0, 1, 2, 3, 4, 5, 6, 7] rfl)
    · intro hV
      refine z_iload hC (hL.at 5 rfl) dX6_make_39 ?_
      refine z_if_eq (tgt := 193) hC (inR_b ha33_6) hV dX6_make_41 (by decide) ?_ ?_
      · intro hV
        exact hJ193 hG hV _ (hL.sub [0, 1, 2, 3, 4, 5, 6, 7] rfl)
      · intro hV
        refine z_iload_n hC rfl (hL.at 2 rfl) dX6_make_44 ?_
        refine z_iload hC (hL.at 3 rfl) dX6_make_45 ?_
        refine z_iload hC (hL.at 4 rfl) dX6_make_47 ?_
        refine z_iload hC (hL.at 9 rfl) dX6_make_49 ?_
        refine z_call_i hG (zrunS hC hG (mX6_pick l P G p2 hp2 p3 hp3 p4 hp4 a33_10 ha33_10 hV) kSX6_175 rfl rfl rfl ⟨(Nat.le_of_ble_eq_true rfl), (Nat.le_of_ble_eq_true rfl)⟩ ⟨(Nat.le_of_ble_eq_true rfl), (Nat.le_of_ble_eq_true rfl)⟩ rfl ⟨zcs_0, (Nat.le_of_ble_eq_true rfl)⟩ hL.1.1 dX6_make_51) ?_
        rintro x7 _ _ _ hx7 ⟨rfl, hV⟩ hG
        refine z_istore (lv' := [(11, .int (zI x7)), (0, .ref (zA P 5 0 0)), (1, .int (zI p0)), (3, .int (zI p2)), (4, .int (zI p3)), (5, .int (zI p4)), (6, .int (zI a33_6)), (7, .int (zI z22_0)), (8, .int (zI a33_8)), (9, .int (zI a33_9)), (10, .int (zI a33_10))]) hC hL (by decide) rfl dX6_make_54 (fun ls hL => ?_)
        refine z_iload hC (hL.at 10 rfl) dX6_make_56 ?_
        refine z_aload_n hC zvr_a rfl (hL.at 1 rfl) dX6_make_58 ?_
        refine z_getA hC hG kFX6_13_6 rfl rfl dX6_make_59 ?_
        refine z_iload hC (hL.at 7 rfl) dX6_make_62 ?_
        refine z_iald hC hG rfl rfl rfl hz22_0 hV dX6_make_64 ?_
        intro x8 hx8 hV
        obtain ⟨J73, eJ73, hV⟩ := zjn_abs hV
        have hJ73 : ∀ {H : Heap} {locs : List Loc}, zS P s G H locs → ∀ (z73_0 : Int), (z73_0 = 0 ∨ z73_0 = 1) → J73 z73_0 → ∀ (ls : Array Slot), zL ls 13 [(0, .ref (zA P 5 0 0)), (1, .int (zI p0)), (3, .int (zI p2)), (4, .int (zI p3)), (5, .int (zI p4)), (7, .int (zI z22_0)), (8, .int (zI a33_8)), (9, .int (zI a33_9)), (10, .int (zI a33_10)), (11, .int (zI x7))] → W p l e rX6_make s m args below meth c H locs 0 0 (MQ below (zQi P Q) args s 0 0 (zAr P)) (F0 m 73 ls [.int (zI z73_0)]) := by
          intro H locs hG z73_0 hz73_0 hV ls hL
          rw [eJ73] at hV
          refine z_istore (lv' := [(12, .int (zI z73_0)), (0, .ref (zA P 5 0 0)), (1, .int (zI p0)), (3, .int (zI p2)), (4, .int (zI p3)), (5, .int (zI p4)), (7, .int (zI z22_0)), (8, .int (zI a33_8)), (9, .int (zI a33_9)), (10, .int (zI a33_10)), (11, .int (zI x7))]) hC hL (by decide) rfl dX6_make_73 (fun ls hL => ?_)
          refine z_iload hC (hL.at 0 rfl) dX6_make_75 ?_
          obtain ⟨J94, eJ94, hV⟩ := zjn_abs hV
          have hJ94 : ∀ {H : Heap} {locs : List Loc}, zS P s G H locs → ∀ (z94_0 : Int), (z94_0 = 0 ∨ z94_0 = 1) → J94 z94_0 → ∀ (ls : Array Slot), zL ls 13 [(0, .ref (zA P 5 0 0)), (1, .int (zI p0)), (3, .int (zI p2)), (4, .int (zI p3)), (5, .int (zI p4)), (7, .int (zI z22_0)), (8, .int (zI a33_8)), (9, .int (zI a33_9)), (10, .int (zI a33_10)), (11, .int (zI x7)), (12, .int (zI z73_0))] → W p l e rX6_make s m args below meth c H locs 0 0 (MQ below (zQi P Q) args s 0 0 (zAr P)) (F0 m 94 ls [.int (zI z94_0)]) := by
            intro H locs hG z94_0 hz94_0 hV ls hL
            rw [eJ94] at hV
            refine z_istore (lv' := [(6, .int (zI z94_0)), (0, .ref (zA P 5 0 0)), (1, .int (zI p0)), (3, .int (zI p2)), (4, .int (zI p3)), (5, .int (zI p4)), (7, .int (zI z22_0)), (8, .int (zI a33_8)), (9, .int (zI a33_9)), (10, .int (zI a33_10)), (11, .int (zI x7)), (12, .int (zI z73_0))]) hC hL (by decide) rfl dX6_make_94 (fun ls hL => ?_)
            refine z_iload hC (hL.at 7 rfl) dX6_make_96 ?_
            obtain ⟨J159, eJ159, hV⟩ := zjn_abs hV
            have hJ159 : ∀ {H : Heap} {locs : List Loc}, zS P s G H locs → ∀ (z159_0 : Int), (z159_0 = 0 ∨ z159_0 = 1) → J159 z159_0 → ∀ (ls : Array Slot), zL ls 13 [(0, .ref (zA P 5 0 0)), (1, .int (zI p0)), (3, .int (zI p2)), (4, .int (zI p3)), (5, .int (zI p4)), (6, .int (zI z94_0)), (7, .int (zI z22_0)), (9, .int (zI a33_9)), (10, .int (zI a33_10)), (11, .int (zI x7)), (12, .int (zI z73_0))] → W p l e rX6_make s m args below meth c H locs 0 0 (MQ below (zQi P Q) args s 0 0 (zAr P)) (F0 m 159 ls [.int (zI z159_0)]) := by
              intro H locs hG z159_0 hz159_0 hV ls hL
              rw [eJ159] at hV
              refine z_istore (lv' := [(8, .int (zI z159_0)), (0, .ref (zA P 5 0 0)), (1, .int (zI p0)), (3, .int (zI p2)), (4, .int (zI p3)), (5, .int (zI p4)), (6, .int (zI z94_0)), (7, .int (zI z22_0)), (9, .int (zI a33_9)), (10, .int (zI a33_10)), (11, .int (zI x7)), (12, .int (zI z73_0))]) hC hL (by decide) rfl dX6_make_159 (fun ls hL => ?_)
              refine z_iload hC (hL.at 8 rfl) dX6_make_161 ?_
              refine z_iload hC (hL.at 11 rfl) dX6_make_163 ?_
              obtain ⟨J184, eJ184, hV⟩ := zjn_abs hV
              have hJ184 : ∀ {H : Heap} {locs : List Loc}, zS P s G H locs → ∀ (z184_1 : Int), inR z184_1 → J184 z184_1 → ∀ (ls : Array Slot), zL ls 13 [(0, .ref (zA P 5 0 0)), (1, .int (zI p0)), (3, .int (zI p2)), (4, .int (zI p3)), (5, .int (zI p4)), (6, .int (zI z94_0)), (7, .int (zI z22_0)), (8, .int (zI z159_0)), (10, .int (zI a33_10))] → W p l e rX6_make s m args below meth c H locs 0 0 (MQ below (zQi P Q) args s 0 0 (zAr P)) (F0 m 184 ls [.int (zI z184_1), .int (zI a33_9)]) := by
                intro H locs hG z184_1 hz184_1 hV ls hL
                rw [eJ184] at hV
                refine z_ior hC dX6_make_184 ?_
                refine z_top hV (inR_toInt _) ?_
                intro x9 hx9 hV
                refine z_istore (lv' := [(9, .int (zI x9)), (0, .ref (zA P 5 0 0)), (1, .int (zI p0)), (3, .int (zI p2)), (4, .int (zI p3)), (5, .int (zI p4)), (6, .int (zI z94_0)), (7, .int (zI z22_0)), (8, .int (zI z159_0)), (10, .int (zI a33_10))]) hC hL (by decide) rfl dX6_make_185 (fun ls hL => ?_)
                refine z_iincV (fun x10 => [(10, .int (zI x10)), (9, .int (zI x9)), (0, .ref (zA P 5 0 0)), (1, .int (zI p0)), (3, .int (zI p2)), (4, .int (zI p3)), (5, .int (zI p4)), (6, .int (zI z94_0)), (7, .int (zI z22_0)), (8, .int (zI z159_0))]) hC hL (k := 9) rfl (by decide) (fun _ => rfl) hV dX6_make_187 ?_
                intro x10 hx10 hV ls hL
                refine z_goto (tgt := 33) hC dX6_make_190 (by decide) ?_
                exact hP33 z94_0 z159_0 x9 x10 hV hz94_0 hz159_0 hx9 hx10 _ _ hG _ (hL.sub [2, 3, 4, 5, 6, 7, 8, 9, 1, 0] rfl)
              obtain ⟨J183, eJ183, hV⟩ := zjn_abs hV
              have hJ183 : ∀ {H : Heap} {locs : List Loc}, zS P s G H locs → J183 () → ∀ (ls : Array Slot), zL ls 13 [(0, .ref (zA P 5 0 0)), (1, .int (zI p0)), (3, .int (zI p2)), (4, .int (zI p3)), (5, .int (zI p4)), (6, .int (zI z94_0)), (7, .int (zI z22_0)), (8, .int (zI z159_0)), (10, .int (zI a33_10))] → W p l e rX6_make s m args below meth c H locs 0 0 (MQ below (zQi P Q) args s 0 0 (zAr P)) (F0 m 183 ls [.int (zI a33_9)]) := by
                intro H locs hG hV ls hL
                rw [eJ183] at hV
                refine z_iconst hC dX6_make_183 ?_
                exact hJ184 hG 0 (inR_lit rfl) hV _ hL
              refine z_if_eq (tgt := 183) hC (inR_b hz73_0) hV dX6_make_165 (by decide) ?_ ?_
              · intro hV
                exact hJ183 hG hV _ (hL.sub [1, 2, 3, 4, 5, 6, 7, 0, 9] rfl)
              · intro hV
                refine z_iload hC (hL.at 6 rfl) dX6_make_168 ?_
                refine z_if_eq (tgt := 183) hC (inR_b hz94_0) hV dX6_make_170 (by decide) ?_ ?_
                · intro hV
                  exact hJ183 hG hV _ (hL.sub [1, 2, 3, 4, 5, 6, 7, 0, 9] rfl)
                · intro hV
                  refine z_aload_n hC zvr_a rfl (hL.at 1 rfl) dX6_make_173 ?_
                  refine z_getA hC hG kFX6_52_6 rfl rfl dX6_make_174 ?_
                  refine z_iload hC (hL.at 10 rfl) dX6_make_177 ?_
                  refine z_iald hC hG rfl rfl rfl hx7 hV dX6_make_179 ?_
                  intro x11 hx11 hV
                  refine z_goto (tgt := 184) hC dX6_make_180 (by decide) ?_
                  exact hJ184 hG x11 hx11 hV _ (hL.sub [1, 2, 3, 4, 5, 6, 7, 0, 9] rfl)
            obtain ⟨J158, eJ158, hV⟩ := zjn_abs hV
            have hJ158 : ∀ {H : Heap} {locs : List Loc}, zS P s G H locs → J158 () → ∀ (ls : Array Slot), zL ls 13 [(0, .ref (zA P 5 0 0)), (1, .int (zI p0)), (3, .int (zI p2)), (4, .int (zI p3)), (5, .int (zI p4)), (6, .int (zI z94_0)), (7, .int (zI z22_0)), (9, .int (zI a33_9)), (10, .int (zI a33_10)), (11, .int (zI x7)), (12, .int (zI z73_0))] → W p l e rX6_make s m args below meth c H locs 0 0 (MQ below (zQi P Q) args s 0 0 (zAr P)) (F0 m 158 ls []) := by
              intro H locs hG hV ls hL
              rw [eJ158] at hV
              refine z_iconst hC dX6_make_158 ?_
              exact hJ159 hG 0 (Or.inl rfl) hV _ hL
            refine z_if_eq (tgt := 158) hC (inR_b ha33_8) hV dX6_make_98 (by decide) ?_ ?_
            · intro hV
              exact hJ158 hG hV _ (hL.sub [1, 2, 3, 4, 5, 0, 6, 8, 9, 10, 11] rfl)
            · intro hV
              refine z_iload hC (hL.at 11 rfl) dX6_make_101 ?_
              obtain ⟨J154, eJ154, hV⟩ := zjn_abs hV
              have hJ154 : ∀ {H : Heap} {locs : List Loc}, zS P s G H locs → J154 () → ∀ (ls : Array Slot), zL ls 13 [(0, .ref (zA P 5 0 0)), (1, .int (zI p0)), (3, .int (zI p2)), (4, .int (zI p3)), (5, .int (zI p4)), (6, .int (zI z94_0)), (7, .int (zI z22_0)), (9, .int (zI a33_9)), (10, .int (zI a33_10)), (11, .int (zI x7)), (12, .int (zI z73_0))] → W p l e rX6_make s m args below meth c H locs 0 0 (MQ below (zQi P Q) args s 0 0 (zAr P)) (F0 m 154 ls []) := by
                intro H locs hG hV ls hL
                rw [eJ154] at hV
                refine z_iconst hC dX6_make_154 ?_
                refine z_goto (tgt := 159) hC dX6_make_155 (by decide) ?_
                exact hJ159 hG 1 (Or.inr rfl) hV _ hL
              refine z_if_eq (tgt := 148) hC (inR_b hz73_0) hV dX6_make_103 (by decide) ?_ ?_
              · intro hV
                refine z_iload hC (hL.at 10 rfl) dX6_make_148 ?_
                refine z_iconst hC dX6_make_150 ?_
                refine z_icmp_ne (tgt := 158) hC hx7 (inR_lit rfl) hV dX6_make_151 (by decide) ?_ ?_
                · intro hV
                  exact hJ158 hG hV _ (hL.sub [1, 2, 3, 4, 5, 0, 6, 8, 9, 10, 11] rfl)
                · intro hV
                  exact hJ154 hG hV _ (hL.sub [1, 2, 3, 4, 5, 0, 6, 8, 9, 10, 11] rfl)
              · intro hV
                refine z_iload hC (hL.at 0 rfl) dX6_make_106 ?_
                refine z_if_eq (tgt := 158) hC (inR_b hz94_0) hV dX6_make_108 (by decide) ?_ ?_
                · intro hV
                  exact hJ158 hG hV _ (hL.sub [1, 2, 3, 4, 5, 0, 6, 8, 9, 10, 11] rfl)
                · intro hV
                  refine z_aload_n hC zvr_a rfl (hL.at 1 rfl) dX6_make_111 ?_
                  refine z_iload hC (hL.at 10 rfl) dX6_make_112 ?_
                  refine z_aload_n hC zvr_a rfl (hL.at 1 rfl) dX6_make_114 ?_
                  refine z_getA hC hG kFX6_16_6 rfl rfl dX6_make_115 ?_
                  refine z_iconst hC dX6_make_118 ?_
                  refine z_iload hC (hL.at 6 rfl) dX6_make_119 ?_
                  refine z_imul hC dX6_make_121 ?_
                  refine z_iload hC (hL.at 9 rfl) dX6_make_122 ?_
                  refine z_iadd hC dX6_make_124 ?_
                  refine z_iald hC hG rfl rfl rfl (inR_w _) hV dX6_make_125 ?_
                  intro x12 hx12 hV
                  refine z_call_z hG (zrunV (ci := 6) hC hG (Nat.le_of_ble_eq_true rfl) (Nat.le_of_ble_eq_true rfl) (zobj hG rfl (Nat.le_of_ble_eq_true rfl) (Nat.le_of_ble_eq_true rfl)) (mX6_suits l P G x7 hx7 x12 hx12 hV) kVX6_215 rfl rfl rfl ⟨(Nat.le_of_ble_eq_true rfl), (Nat.le_of_ble_eq_true rfl)⟩ ⟨(Nat.le_of_ble_eq_true rfl), (Nat.le_of_ble_eq_true rfl)⟩ rfl ⟨zcs_0, (Nat.le_of_ble_eq_true rfl)⟩ hL.1.1 dX6_make_126) ?_
                  rintro x13 _ _ _ hx13 ⟨rfl, hV⟩ hG
                  refine z_if_eq (tgt := 158) hC (inR_b hx13) hV dX6_make_129 (by decide) ?_ ?_
                  · intro hV
                    exact hJ158 hG hV _ (hL.sub [1, 2, 3, 4, 5, 0, 6, 8, 9, 10, 11] rfl)
                  · intro hV
                    refine z_aload_n hC zvr_a rfl (hL.at 1 rfl) dX6_make_132 ?_
                    refine z_getA hC hG kFX6_52_6 rfl rfl dX6_make_133 ?_
                    refine z_iload hC (hL.at 10 rfl) dX6_make_136 ?_
                    refine z_iald hC hG rfl rfl rfl hx7 hV dX6_make_138 ?_
                    intro x14 hx14 hV
                    refine z_iload hC (hL.at 8 rfl) dX6_make_139 ?_
                    refine z_iand hC dX6_make_141 ?_
                    refine z_if_ne (tgt := 158) hC (inR_toInt _) hV dX6_make_142 (by decide) ?_ ?_
                    · intro hV
                      exact hJ158 hG hV _ (hL.sub [1, 2, 3, 4, 5, 0, 6, 8, 9, 10, 11] rfl)
                    · intro hV
                      refine z_goto (tgt := 154) hC dX6_make_145 (by decide) ?_
                      exact hJ154 hG hV _ (hL.sub [1, 2, 3, 4, 5, 0, 6, 8, 9, 10, 11] rfl)
          obtain ⟨J89, eJ89, hV⟩ := zjn_abs hV
          have hJ89 : ∀ {H : Heap} {locs : List Loc}, zS P s G H locs → J89 () → ∀ (ls : Array Slot), zL ls 13 [(0, .ref (zA P 5 0 0)), (1, .int (zI p0)), (3, .int (zI p2)), (4, .int (zI p3)), (5, .int (zI p4)), (7, .int (zI z22_0)), (8, .int (zI a33_8)), (9, .int (zI a33_9)), (10, .int (zI a33_10)), (11, .int (zI x7)), (12, .int (zI z73_0))] → W p l e rX6_make s m args below meth c H locs 0 0 (MQ below (zQi P Q) args s 0 0 (zAr P)) (F0 m 89 ls []) := by
            intro H locs hG hV ls hL
            rw [eJ89] at hV
            refine z_iconst hC dX6_make_89 ?_
            refine z_goto (tgt := 94) hC dX6_make_90 (by decide) ?_
            exact hJ94 hG 1 (Or.inr rfl) hV _ hL
          refine z_if_eq (tgt := 89) hC (inR_b hz73_0) hV dX6_make_77 (by decide) ?_ ?_
          · intro hV
            exact hJ89 hG hV _ (hL.sub [1, 2, 3, 4, 5, 6, 7, 8, 9, 10, 0] rfl)
          · intro hV
            refine z_aload_n hC zvr_a rfl (hL.at 1 rfl) dX6_make_80 ?_
            refine z_iload hC (hL.at 10 rfl) dX6_make_81 ?_
            refine z_call_z hG (zrunV (ci := 6) hC hG (Nat.le_of_ble_eq_true rfl) (Nat.le_of_ble_eq_true rfl) (zobj hG rfl (Nat.le_of_ble_eq_true rfl) (Nat.le_of_ble_eq_true rfl)) (mX6_isPattern l P G x7 hx7 hV) kVX6_212 rfl rfl rfl ⟨(Nat.le_of_ble_eq_true rfl), (Nat.le_of_ble_eq_true rfl)⟩ ⟨(Nat.le_of_ble_eq_true rfl), (Nat.le_of_ble_eq_true rfl)⟩ rfl ⟨zcs_0, (Nat.le_of_ble_eq_true rfl)⟩ hL.1.1 dX6_make_83) ?_
            rintro x15 _ _ _ hx15 ⟨rfl, hV⟩ hG
            refine z_if_eq (tgt := 93) hC (inR_b hx15) hV dX6_make_86 (by decide) ?_ ?_
            · intro hV
              refine z_iconst hC dX6_make_93 ?_
              exact hJ94 hG 0 (Or.inl rfl) hV _ (hL.sub [1, 2, 3, 4, 5, 6, 7, 8, 9, 10, 0] rfl)
            · intro hV
              exact hJ89 hG hV _ (hL.sub [1, 2, 3, 4, 5, 6, 7, 8, 9, 10, 0] rfl)
        refine z_icmp_ge (tgt := 72) hC ha33_10 hx8 hV dX6_make_65 (by decide) ?_ ?_
        · intro hV
          refine z_iconst hC dX6_make_72 ?_
          exact hJ73 hG 0 (Or.inl rfl) hV _ (hL.sub [1, 2, 3, 4, 5, 7, 8, 9, 10, 0] rfl)
        · intro hV
          refine z_iconst hC dX6_make_68 ?_
          refine z_goto (tgt := 73) hC dX6_make_69 (by decide) ?_
          exact hJ73 hG 1 (Or.inr rfl) hV _ (hL.sub [1, 2, 3, 4, 5, 7, 8, 9, 10, 0] rfl)
  refine z_if_eq (tgt := 21) hC (inR_b hx1) hV dX6_make_10 (by decide) ?_ ?_
  · intro hV
    refine z_iconst hC dX6_make_21 ?_
    exact hJ22 hG 0 (inR_lit rfl) hV _ (hL.sub [1, 2, 4, 5, 6, 0] rfl)
  · intro hV
    refine z_iconst hC dX6_make_13 ?_
    refine z_iload_n hC rfl (hL.at 2 rfl) dX6_make_14 ?_
    refine z_imul hC dX6_make_15 ?_
    refine z_iload_n hC rfl (hL.at 3 rfl) dX6_make_16 ?_
    refine z_iadd hC dX6_make_17 ?_
    refine z_goto (tgt := 22) hC dX6_make_18 (by decide) ?_
    exact hJ22 hG (w32 ((w32 (4 * p0)) + p1)) (inR_w _) hV _ (hL.sub [1, 2, 4, 5, 6, 0] rfl)
abbrev rX6_areAlternatives : Room := { frames := 2, cells := 0, slots := 0, locals := 35 }
def vX6_areAlternatives (p0 : Int) (p1 : Int) (G : ZG) (Q : Int → Prop) : Prop := zaL G 5 14 60 p0 fun (x1 : Int) => zjn (fun (z40_0 : Int) => zjn (fun (z77_0 : Int) => Q z77_0) fun J77 => zjn (fun (_ : Unit) => J77 0) fun J76 => zbr (z40_0 = 0) (J76 ()) (zaL G 5 17 60 p0 fun (x2 : Int) => zaL G 5 17 60 p1 fun (x3 : Int) => zbr (x2 ≠ x3) (J76 ()) (vX6_sizeOf p0 p1 (-1) G fun (x4 : Int) => zbr (40 < x4) (J76 ()) (J77 1)))) fun J40 => zjn (fun (_ : Unit) => J40 1) fun J35 => zbr (x1 = (-1)) (J35 ()) (zaL G 5 14 60 p1 fun (x5 : Int) => zbr (x5 = (-1)) (J35 ()) (zaL G 5 14 60 p0 fun (x6 : Int) => zaL G 5 14 60 p1 fun (x7 : Int) => zbr (x6 ≠ x7) (J40 0) (J35 ())))
set_option maxHeartbeats 4000000 in
theorem mX6_areAlternatives (l : Launch) (P : ZP) (G : ZG) (p0 : Int) (hp0 : inR p0) (p1 : Int) (hp1 : inR p1) {Q : Int → Prop} (hV : vX6_areAlternatives p0 p1 G Q) : Met l yX6_areAlternatives (ws_ yX6_areAlternatives cX6_areAlternatives 4 (some .boolean)) rX6_areAlternatives (zPc P G [.ref (zA P 5 0 0), .int (zI p0), .int (zI p1)]) (zQz P (fun r G2 => G = G2 ∧ Q r)) 0 0 (zAr P) := by
  refine zMet RX6 (plainFor_of_name (by decide)) rfl (zcs_c rfl (zcs_c rfl (zcs_c rfl zcs_0))) (Nat.le_of_ble_eq_true rfl) (fun p e s m args below meth c ls hC hr hk hn hG hL => ?_)
  unfold vX6_areAlternatives at hV
  refine z_aload_n hC zvr_a rfl (hL.at 0 rfl) dX6_areAlternatives_0 ?_
  refine z_getA hC hG kFX6_43_6 rfl rfl dX6_areAlternatives_1 ?_
  refine z_iload_n hC rfl (hL.at 1 rfl) dX6_areAlternatives_4 ?_
  refine z_iald hC hG rfl rfl rfl hp0 hV dX6_areAlternatives_5 ?_
  intro x1 hx1 hV
  refine z_iconst hC dX6_areAlternatives_6 ?_
  obtain ⟨J40, eJ40, hV⟩ := zjn_abs hV
  have hJ40 : ∀ {H : Heap} {locs : List Loc}, zS P s G H locs → ∀ (z40_0 : Int), (z40_0 = 0 ∨ z40_0 = 1) → J40 z40_0 → ∀ (ls : Array Slot), zL ls 4 [(0, .ref (zA P 5 0 0)), (1, .int (zI p0)), (2, .int (zI p1))] → W p l e rX6_areAlternatives s m args below meth c H locs 0 0 (MQ below (zQz P (fun r G2 => G = G2 ∧ Q r)) args s 0 0 (zAr P)) (F0 m 40 ls [.int (zI z40_0)]) := by
    intro H locs hG z40_0 hz40_0 hV ls hL
    rw [eJ40] at hV
    refine z_istore_n (lv' := [(3, .int (zI z40_0)), (0, .ref (zA P 5 0 0)), (1, .int (zI p0)), (2, .int (zI p1))]) hC rfl hL (by decide) rfl dX6_areAlternatives_40 (fun ls hL => ?_)
    refine z_iload_n hC rfl (hL.at 0 rfl) dX6_areAlternatives_41 ?_
    obtain ⟨J77, eJ77, hV⟩ := zjn_abs hV
    have hJ77 : ∀ {H : Heap} {locs : List Loc}, zS P s G H locs → ∀ (z77_0 : Int), (z77_0 = 0 ∨ z77_0 = 1) → J77 z77_0 → ∀ (ls : Array Slot), zL ls 4 [] → W p l e rX6_areAlternatives s m args below meth c H locs 0 0 (MQ below (zQz P (fun r G2 => G = G2 ∧ Q r)) args s 0 0 (zAr P)) (F0 m 77 ls [.int (zI z77_0)]) := by
      intro H locs hG z77_0 hz77_0 hV ls hL
      rw [eJ77] at hV
      exact z_zret hC hG hr hk hz77_0 ⟨rfl, hV⟩ (Nat.le_of_ble_eq_true rfl) (Nat.le_of_ble_eq_true rfl) dX6_areAlternatives_77
    obtain ⟨J76, eJ76, hV⟩ := zjn_abs hV
    have hJ76 : ∀ {H : Heap} {locs : List Loc}, zS P s G H locs → J76 () → ∀ (ls : Array Slot), zL ls 4 [] → W p l e rX6_areAlternatives s m args below meth c H locs 0 0 (MQ below (zQz P (fun r G2 => G = G2 ∧ Q r)) args s 0 0 (zAr P)) (F0 m 76 ls []) := by
      intro H locs hG hV ls hL
      rw [eJ76] at hV
      refine z_iconst hC dX6_areAlternatives_76 ?_
      exact hJ77 hG 0 (Or.inl rfl) hV _ hL
    refine z_if_eq (tgt := 76) hC (inR_b hz40_0) hV dX6_areAlternatives_42 (by decide) ?_ ?_
    · intro hV
      exact hJ76 hG hV _ (hL.sub [] rfl)
    · intro hV
      refine z_aload_n hC zvr_a rfl (hL.at 1 rfl) dX6_areAlternatives_45 ?_
      refine z_getA hC hG kFX6_52_6 rfl rfl dX6_areAlternatives_46 ?_
      refine z_iload_n hC rfl (hL.at 2 rfl) dX6_areAlternatives_49 ?_
      refine z_iald hC hG rfl rfl rfl hp0 hV dX6_areAlternatives_50 ?_
      intro x2 hx2 hV
      refine z_aload_n hC zvr_a rfl (hL.at 1 rfl) dX6_areAlternatives_51 ?_
      refine z_getA hC hG kFX6_52_6 rfl rfl dX6_areAlternatives_52 ?_
      refine z_iload_n hC rfl (hL.at 3 rfl) dX6_areAlternatives_55 ?_
      refine z_iald hC hG rfl rfl rfl hp1 hV dX6_areAlternatives_56 ?_
      intro x3 hx3 hV
      refine z_icmp_ne (tgt := 76) hC hx2 hx3 hV dX6_areAlternatives_57 (by decide) ?_ ?_
      · intro hV
        exact hJ76 hG hV _ (hL.sub [] rfl)
      · intro hV
        refine z_aload_n hC zvr_a rfl (hL.at 1 rfl) dX6_areAlternatives_60 ?_
        refine z_iload_n hC rfl (hL.at 2 rfl) dX6_areAlternatives_61 ?_
        refine z_iload_n hC rfl (hL.at 3 rfl) dX6_areAlternatives_62 ?_
        refine z_iconst hC dX6_areAlternatives_63 ?_
        refine z_call_i hG (zrunV (ci := 6) hC hG (Nat.le_of_ble_eq_true rfl) (Nat.le_of_ble_eq_true rfl) (zobj hG rfl (Nat.le_of_ble_eq_true rfl) (Nat.le_of_ble_eq_true rfl)) (mX6_sizeOf l P G p0 hp0 p1 hp1 (-1) (inR_lit rfl) hV) kVX6_200 rfl rfl rfl ⟨(Nat.le_of_ble_eq_true rfl), (Nat.le_of_ble_eq_true rfl)⟩ ⟨(Nat.le_of_ble_eq_true rfl), (Nat.le_of_ble_eq_true rfl)⟩ rfl ⟨zcs_0, (Nat.le_of_ble_eq_true rfl)⟩ hL.1.1 dX6_areAlternatives_64) ?_
        rintro x4 _ _ _ hx4 ⟨rfl, hV⟩ hG
        refine z_bipush hC rfl dX6_areAlternatives_67 ?_
        refine z_icmp_gt (tgt := 76) hC hx4 (inR_lit rfl) hV dX6_areAlternatives_69 (by decide) ?_ ?_
        · intro hV
          exact hJ76 hG hV _ (hL.sub [] rfl)
        · intro hV
          refine z_iconst hC dX6_areAlternatives_72 ?_
          refine z_goto (tgt := 77) hC dX6_areAlternatives_73 (by decide) ?_
          exact hJ77 hG 1 (Or.inr rfl) hV _ (hL.sub [] rfl)
  obtain ⟨J35, eJ35, hV⟩ := zjn_abs hV
  have hJ35 : ∀ {H : Heap} {locs : List Loc}, zS P s G H locs → J35 () → ∀ (ls : Array Slot), zL ls 4 [(0, .ref (zA P 5 0 0)), (1, .int (zI p0)), (2, .int (zI p1))] → W p l e rX6_areAlternatives s m args below meth c H locs 0 0 (MQ below (zQz P (fun r G2 => G = G2 ∧ Q r)) args s 0 0 (zAr P)) (F0 m 35 ls []) := by
    intro H locs hG hV ls hL
    rw [eJ35] at hV
    refine z_iconst hC dX6_areAlternatives_35 ?_
    refine z_goto (tgt := 40) hC dX6_areAlternatives_36 (by decide) ?_
    exact hJ40 hG 1 (Or.inr rfl) hV _ hL
  refine z_icmp_eq (tgt := 35) hC hx1 (inR_lit rfl) hV dX6_areAlternatives_7 (by decide) ?_ ?_
  · intro hV
    exact hJ35 hG hV _ hL
  · intro hV
    refine z_aload_n hC zvr_a rfl (hL.at 0 rfl) dX6_areAlternatives_10 ?_
    refine z_getA hC hG kFX6_43_6 rfl rfl dX6_areAlternatives_11 ?_
    refine z_iload_n hC rfl (hL.at 2 rfl) dX6_areAlternatives_14 ?_
    refine z_iald hC hG rfl rfl rfl hp1 hV dX6_areAlternatives_15 ?_
    intro x5 hx5 hV
    refine z_iconst hC dX6_areAlternatives_16 ?_
    refine z_icmp_eq (tgt := 35) hC hx5 (inR_lit rfl) hV dX6_areAlternatives_17 (by decide) ?_ ?_
    · intro hV
      exact hJ35 hG hV _ hL
    · intro hV
      refine z_aload_n hC zvr_a rfl (hL.at 0 rfl) dX6_areAlternatives_20 ?_
      refine z_getA hC hG kFX6_43_6 rfl rfl dX6_areAlternatives_21 ?_
      refine z_iload_n hC rfl (hL.at 1 rfl) dX6_areAlternatives_24 ?_
      refine z_iald hC hG rfl rfl rfl hp0 hV dX6_areAlternatives_25 ?_
      intro x6 hx6 hV
      refine z_aload_n hC zvr_a rfl (hL.at 0 rfl) dX6_areAlternatives_26 ?_
      refine z_getA hC hG kFX6_43_6 rfl rfl dX6_areAlternatives_27 ?_
      refine z_iload_n hC rfl (hL.at 2 rfl) dX6_areAlternatives_30 ?_
      refine z_iald hC hG rfl rfl rfl hp1 hV dX6_areAlternatives_31 ?_
      intro x7 hx7 hV
      refine z_icmp_ne (tgt := 39) hC hx6 hx7 hV dX6_areAlternatives_32 (by decide) ?_ ?_
      · intro hV
        refine z_iconst hC dX6_areAlternatives_39 ?_
        exact hJ40 hG 0 (Or.inl rfl) hV _ hL
      · intro hV
        exact hJ35 hG hV _ hL
abbrev rX6_alternatives : Room := { frames := 3, cells := 0, slots := 0, locals := 65 }
def vX6_alternatives (p0 : Int) (p1 : Int) (G : ZG) (Q : Int → ZG → Prop) : Prop := zaL G 5 14 60 p0 fun (x1 : Int) => zjn (fun (z32_7 : Int) => vX6_pattern 4 0 0 p0 p1 (-1) z32_7 G fun (x2 : Int) (G1 : ZG) => Q x2 G1) fun J32 => zbr (x1 ≠ (-1)) (zaL G 5 14 60 p0 fun (x3 : Int) => J32 x3) (zaL G 5 14 60 p1 fun (x4 : Int) => J32 x4)
set_option maxHeartbeats 4000000 in
theorem mX6_alternatives (l : Launch) (P : ZP) (G : ZG) (p0 : Int) (hp0 : inR p0) (p1 : Int) (hp1 : inR p1) {Q : Int → ZG → Prop} (hV : vX6_alternatives p0 p1 G Q) : Met l yX6_alternatives (ws_ yX6_alternatives cX6_alternatives 3 (some .int)) rX6_alternatives (zPc P G [.ref (zA P 5 0 0), .int (zI p0), .int (zI p1)]) (zQi P Q) 0 0 (zAr P) := by
  refine zMet RX6 (plainFor_of_name (by decide)) rfl (zcs_c rfl (zcs_c rfl (zcs_c rfl zcs_0))) (Nat.le_of_ble_eq_true rfl) (fun p e s m args below meth c ls hC hr hk hn hG hL => ?_)
  unfold vX6_alternatives at hV
  refine z_aload_n hC zvr_a rfl (hL.at 0 rfl) dX6_alternatives_0 ?_
  refine z_iconst hC dX6_alternatives_1 ?_
  refine z_iconst hC dX6_alternatives_2 ?_
  refine z_iconst hC dX6_alternatives_3 ?_
  refine z_iload_n hC rfl (hL.at 1 rfl) dX6_alternatives_4 ?_
  refine z_iload_n hC rfl (hL.at 2 rfl) dX6_alternatives_5 ?_
  refine z_iconst hC dX6_alternatives_6 ?_
  refine z_aload_n hC zvr_a rfl (hL.at 0 rfl) dX6_alternatives_7 ?_
  refine z_getA hC hG kFX6_43_6 rfl rfl dX6_alternatives_8 ?_
  refine z_iload_n hC rfl (hL.at 1 rfl) dX6_alternatives_11 ?_
  refine z_iald hC hG rfl rfl rfl hp0 hV dX6_alternatives_12 ?_
  intro x1 hx1 hV
  refine z_iconst hC dX6_alternatives_13 ?_
  obtain ⟨J32, eJ32, hV⟩ := zjn_abs hV
  have hJ32 : ∀ {H : Heap} {locs : List Loc}, zS P s G H locs → ∀ (z32_7 : Int), inR z32_7 → J32 z32_7 → ∀ (ls : Array Slot), zL ls 3 [] → W p l e rX6_alternatives s m args below meth c H locs 0 0 (MQ below (zQi P Q) args s 0 0 (zAr P)) (F0 m 32 ls [.int (zI z32_7), .int (zI (-1)), .int (zI p1), .int (zI p0), .int (zI 0), .int (zI 0), .int (zI 4), .ref (zA P 5 0 0)]) := by
    intro H locs hG z32_7 hz32_7 hV ls hL
    rw [eJ32] at hV
    refine z_call_i hG (zrunV (ci := 6) hC hG (Nat.le_of_ble_eq_true rfl) (Nat.le_of_ble_eq_true rfl) (zobj hG rfl (Nat.le_of_ble_eq_true rfl) (Nat.le_of_ble_eq_true rfl)) (mX6_pattern l P G 4 (inR_lit rfl) 0 (inR_lit rfl) 0 (inR_lit rfl) p0 hp0 p1 hp1 (-1) (inR_lit rfl) z32_7 hz32_7 hV) kVX6_208 rfl rfl rfl ⟨(Nat.le_of_ble_eq_true rfl), (Nat.le_of_ble_eq_true rfl)⟩ ⟨(Nat.le_of_ble_eq_true rfl), (Nat.le_of_ble_eq_true rfl)⟩ rfl ⟨zcs_0, (Nat.le_of_ble_eq_true rfl)⟩ hL.1.1 dX6_alternatives_32) ?_
    rintro x2 G1 _ _ hx2 hV hG
    exact z_iret hC hG hr hk hx2 hV (Nat.le_of_ble_eq_true rfl) (Nat.le_of_ble_eq_true rfl) dX6_alternatives_35
  refine z_icmp_ne (tgt := 26) hC hx1 (inR_lit rfl) hV dX6_alternatives_14 (by decide) ?_ ?_
  · intro hV
    refine z_aload_n hC zvr_a rfl (hL.at 0 rfl) dX6_alternatives_26 ?_
    refine z_getA hC hG kFX6_43_6 rfl rfl dX6_alternatives_27 ?_
    refine z_iload_n hC rfl (hL.at 1 rfl) dX6_alternatives_30 ?_
    refine z_iald hC hG rfl rfl rfl hp0 hV dX6_alternatives_31 ?_
    intro x3 hx3 hV
    exact hJ32 hG x3 hx3 hV _ (hL.sub [] rfl)
  · intro hV
    refine z_aload_n hC zvr_a rfl (hL.at 0 rfl) dX6_alternatives_17 ?_
    refine z_getA hC hG kFX6_43_6 rfl rfl dX6_alternatives_18 ?_
    refine z_iload_n hC rfl (hL.at 2 rfl) dX6_alternatives_21 ?_
    refine z_iald hC hG rfl rfl rfl hp1 hV dX6_alternatives_22 ?_
    intro x4 hx4 hV
    refine z_goto (tgt := 32) hC dX6_alternatives_23 (by decide) ?_
    exact hJ32 hG x4 hx4 hV _ (hL.sub [] rfl)
abbrev rX6_either : Room := { frames := 4, cells := 0, slots := 0, locals := 87 }
def vX6_either (p0 : Int) (p1 : Int) (G : ZG) (Q : Int → ZG → Prop) : Prop := vX6_isPattern p0 G fun (x1 : Int) => zjn (fun (z21_0 : Int) => zjn (fun (z56_1 : Int) => vX6_refused z56_1 G fun (x2 : Int) (G1 : ZG) => zjn (fun (z72_0 : Int) (H72 : ZG) => Q z72_0 H72) fun J72 => zbr (x2 = 0) (vX6_alternatives p0 p1 G1 fun (x3 : Int) (G2 : ZG) => J72 x3 G2) (J72 0 G1)) fun J56 => zbr (z21_0 ≠ 0) (vX6_areAlternatives p0 p1 G fun (x4 : Int) => zbr (x4 ≠ 0) (vX6_isFull G fun (x5 : Int) => zbr (x5 = 0) (J56 0) (J56 3)) (J56 2)) (J56 1)) fun J21 => zjn (fun (_ : Unit) => J21 0) fun J20 => zbr (x1 = 0) (J20 ()) (vX6_isPattern p1 G fun (x6 : Int) => zbr (x6 = 0) (J20 ()) (J21 1))
set_option maxHeartbeats 4000000 in
theorem mX6_either (l : Launch) (P : ZP) (G : ZG) (p0 : Int) (hp0 : inR p0) (p1 : Int) (hp1 : inR p1) {Q : Int → ZG → Prop} (hV : vX6_either p0 p1 G Q) : Met l yX6_either (ws_ yX6_either cX6_either 4 (some .int)) rX6_either (zPc P G [.ref (zA P 5 0 0), .int (zI p0), .int (zI p1)]) (zQi P Q) 0 0 (zAr P) := by
  refine zMet RX6 (plainFor_of_name (by decide)) rfl (zcs_c rfl (zcs_c rfl (zcs_c rfl zcs_0))) (Nat.le_of_ble_eq_true rfl) (fun p e s m args below meth c ls hC hr hk hn hG hL => ?_)
  unfold vX6_either at hV
  refine z_aload_n hC zvr_a rfl (hL.at 0 rfl) dX6_either_0 ?_
  refine z_iload_n hC rfl (hL.at 1 rfl) dX6_either_1 ?_
  refine z_call_z hG (zrunV (ci := 6) hC hG (Nat.le_of_ble_eq_true rfl) (Nat.le_of_ble_eq_true rfl) (zobj hG rfl (Nat.le_of_ble_eq_true rfl) (Nat.le_of_ble_eq_true rfl)) (mX6_isPattern l P G p0 hp0 hV) kVX6_212 rfl rfl rfl ⟨(Nat.le_of_ble_eq_true rfl), (Nat.le_of_ble_eq_true rfl)⟩ ⟨(Nat.le_of_ble_eq_true rfl), (Nat.le_of_ble_eq_true rfl)⟩ rfl ⟨zcs_0, (Nat.le_of_ble_eq_true rfl)⟩ hL.1.1 dX6_either_2) ?_
  rintro x1 _ _ _ hx1 ⟨rfl, hV⟩ hG
  obtain ⟨J21, eJ21, hV⟩ := zjn_abs hV
  have hJ21 : ∀ {H : Heap} {locs : List Loc}, zS P s G H locs → ∀ (z21_0 : Int), (z21_0 = 0 ∨ z21_0 = 1) → J21 z21_0 → ∀ (ls : Array Slot), zL ls 4 [(0, .ref (zA P 5 0 0)), (1, .int (zI p0)), (2, .int (zI p1))] → W p l e rX6_either s m args below meth c H locs 0 0 (MQ below (zQi P Q) args s 0 0 (zAr P)) (F0 m 21 ls [.int (zI z21_0)]) := by
    intro H locs hG z21_0 hz21_0 hV ls hL
    rw [eJ21] at hV
    refine z_istore_n (lv' := [(3, .int (zI z21_0)), (0, .ref (zA P 5 0 0)), (1, .int (zI p0)), (2, .int (zI p1))]) hC rfl hL (by decide) rfl dX6_either_21 (fun ls hL => ?_)
    refine z_aload_n hC zvr_a rfl (hL.at 1 rfl) dX6_either_22 ?_
    refine z_iload_n hC rfl (hL.at 0 rfl) dX6_either_23 ?_
    obtain ⟨J56, eJ56, hV⟩ := zjn_abs hV
    have hJ56 : ∀ {H : Heap} {locs : List Loc}, zS P s G H locs → ∀ (z56_1 : Int), inR z56_1 → J56 z56_1 → ∀ (ls : Array Slot), zL ls 4 [(0, .ref (zA P 5 0 0)), (1, .int (zI p0)), (2, .int (zI p1))] → W p l e rX6_either s m args below meth c H locs 0 0 (MQ below (zQi P Q) args s 0 0 (zAr P)) (F0 m 56 ls [.int (zI z56_1), .ref (zA P 5 0 0)]) := by
      intro H locs hG z56_1 hz56_1 hV ls hL
      rw [eJ56] at hV
      refine z_call_z hG (zrunV (ci := 6) hC hG (Nat.le_of_ble_eq_true rfl) (Nat.le_of_ble_eq_true rfl) (zobj hG rfl (Nat.le_of_ble_eq_true rfl) (Nat.le_of_ble_eq_true rfl)) (mX6_refused l P G z56_1 hz56_1 hV) kVX6_183 rfl rfl rfl ⟨(Nat.le_of_ble_eq_true rfl), (Nat.le_of_ble_eq_true rfl)⟩ ⟨(Nat.le_of_ble_eq_true rfl), (Nat.le_of_ble_eq_true rfl)⟩ rfl ⟨zcs_0, (Nat.le_of_ble_eq_true rfl)⟩ hL.1.1 dX6_either_56) ?_
      rintro x2 G1 _ _ hx2 hV hG
      obtain ⟨J72, eJ72, hV⟩ := zjn_abs hV
      have hJ72 : ∀ (z72_0 : Int) (H72 : ZG), inR z72_0 → J72 z72_0 H72 → ∀ (H : Heap) (locs : List Loc) (ls : Array Slot), zS P s H72 H locs → zL ls 4 [] → W p l e rX6_either s m args below meth c H locs 0 0 (MQ below (zQi P Q) args s 0 0 (zAr P)) (F0 m 72 ls [.int (zI z72_0)]) := by
        intro z72_0 H72 hz72_0 hV H locs ls hG hL
        rw [eJ72] at hV
        exact z_iret hC hG hr hk hz72_0 hV (Nat.le_of_ble_eq_true rfl) (Nat.le_of_ble_eq_true rfl) dX6_either_72
      refine z_if_eq (tgt := 66) hC (inR_b hx2) hV dX6_either_59 (by decide) ?_ ?_
      · intro hV
        refine z_aload_n hC zvr_a rfl (hL.at 0 rfl) dX6_either_66 ?_
        refine z_iload_n hC rfl (hL.at 1 rfl) dX6_either_67 ?_
        refine z_iload_n hC rfl (hL.at 2 rfl) dX6_either_68 ?_
        refine z_call_i hG (zrunV (ci := 6) hC hG (Nat.le_of_ble_eq_true rfl) (Nat.le_of_ble_eq_true rfl) (zobj hG rfl (Nat.le_of_ble_eq_true rfl) (Nat.le_of_ble_eq_true rfl)) (mX6_alternatives l P G1 p0 hp0 p1 hp1 hV) kVX6_224 rfl rfl rfl ⟨(Nat.le_of_ble_eq_true rfl), (Nat.le_of_ble_eq_true rfl)⟩ ⟨(Nat.le_of_ble_eq_true rfl), (Nat.le_of_ble_eq_true rfl)⟩ rfl ⟨zcs_0, (Nat.le_of_ble_eq_true rfl)⟩ hL.1.1 dX6_either_69) ?_
        rintro x3 G2 _ _ hx3 hV hG
        exact hJ72 x3 G2 hx3 hV _ _ _ hG (hL.sub [] rfl)
      · intro hV
        refine z_iconst hC dX6_either_62 ?_
        refine z_goto (tgt := 72) hC dX6_either_63 (by decide) ?_
        exact hJ72 0 G1 (inR_lit rfl) hV _ _ _ hG (hL.sub [] rfl)
    refine z_if_ne (tgt := 31) hC (inR_b hz21_0) hV dX6_either_24 (by decide) ?_ ?_
    · intro hV
      refine z_aload_n hC zvr_a rfl (hL.at 1 rfl) dX6_either_31 ?_
      refine z_iload_n hC rfl (hL.at 2 rfl) dX6_either_32 ?_
      refine z_iload_n hC rfl (hL.at 3 rfl) dX6_either_33 ?_
      refine z_call_z hG (zrunV (ci := 6) hC hG (Nat.le_of_ble_eq_true rfl) (Nat.le_of_ble_eq_true rfl) (zobj hG rfl (Nat.le_of_ble_eq_true rfl) (Nat.le_of_ble_eq_true rfl)) (mX6_areAlternatives l P G p0 hp0 p1 hp1 hV) kVX6_221 rfl rfl rfl ⟨(Nat.le_of_ble_eq_true rfl), (Nat.le_of_ble_eq_true rfl)⟩ ⟨(Nat.le_of_ble_eq_true rfl), (Nat.le_of_ble_eq_true rfl)⟩ rfl ⟨(zcs_c rfl zcs_0), (Nat.le_of_ble_eq_true rfl)⟩ hL.1.1 dX6_either_34) ?_
      rintro x4 _ _ _ hx4 ⟨rfl, hV⟩ hG
      refine z_if_ne (tgt := 44) hC (inR_b hx4) hV dX6_either_37 (by decide) ?_ ?_
      · intro hV
        refine z_aload_n hC zvr_a rfl (hL.at 1 rfl) dX6_either_44 ?_
        refine z_call_z hG (zrunV (ci := 6) hC hG (Nat.le_of_ble_eq_true rfl) (Nat.le_of_ble_eq_true rfl) (zobj hG rfl (Nat.le_of_ble_eq_true rfl) (Nat.le_of_ble_eq_true rfl)) (mX6_isFull l P G hV) kVX6_204 rfl rfl rfl ⟨(Nat.le_of_ble_eq_true rfl), (Nat.le_of_ble_eq_true rfl)⟩ ⟨(Nat.le_of_ble_eq_true rfl), (Nat.le_of_ble_eq_true rfl)⟩ rfl ⟨(zcs_c rfl zcs_0), (Nat.le_of_ble_eq_true rfl)⟩ hL.1.1 dX6_either_45) ?_
        rintro x5 _ _ _ hx5 ⟨rfl, hV⟩ hG
        refine z_if_eq (tgt := 55) hC (inR_b hx5) hV dX6_either_48 (by decide) ?_ ?_
        · intro hV
          refine z_iconst hC dX6_either_55 ?_
          exact hJ56 hG 0 (inR_lit rfl) hV _ (hL.sub [1, 2, 3] rfl)
        · intro hV
          refine z_iconst hC dX6_either_51 ?_
          refine z_goto (tgt := 56) hC dX6_either_52 (by decide) ?_
          exact hJ56 hG 3 (inR_lit rfl) hV _ (hL.sub [1, 2, 3] rfl)
      · intro hV
        refine z_iconst hC dX6_either_40 ?_
        refine z_goto (tgt := 56) hC dX6_either_41 (by decide) ?_
        exact hJ56 hG 2 (inR_lit rfl) hV _ (hL.sub [1, 2, 3] rfl)
    · intro hV
      refine z_iconst hC dX6_either_27 ?_
      refine z_goto (tgt := 56) hC dX6_either_28 (by decide) ?_
      exact hJ56 hG 1 (inR_lit rfl) hV _ (hL.sub [1, 2, 3] rfl)
  obtain ⟨J20, eJ20, hV⟩ := zjn_abs hV
  have hJ20 : ∀ {H : Heap} {locs : List Loc}, zS P s G H locs → J20 () → ∀ (ls : Array Slot), zL ls 4 [(0, .ref (zA P 5 0 0)), (1, .int (zI p0)), (2, .int (zI p1))] → W p l e rX6_either s m args below meth c H locs 0 0 (MQ below (zQi P Q) args s 0 0 (zAr P)) (F0 m 20 ls []) := by
    intro H locs hG hV ls hL
    rw [eJ20] at hV
    refine z_iconst hC dX6_either_20 ?_
    exact hJ21 hG 0 (Or.inl rfl) hV _ hL
  refine z_if_eq (tgt := 20) hC (inR_b hx1) hV dX6_either_5 (by decide) ?_ ?_
  · intro hV
    exact hJ20 hG hV _ hL
  · intro hV
    refine z_aload_n hC zvr_a rfl (hL.at 0 rfl) dX6_either_8 ?_
    refine z_iload_n hC rfl (hL.at 2 rfl) dX6_either_9 ?_
    refine z_call_z hG (zrunV (ci := 6) hC hG (Nat.le_of_ble_eq_true rfl) (Nat.le_of_ble_eq_true rfl) (zobj hG rfl (Nat.le_of_ble_eq_true rfl) (Nat.le_of_ble_eq_true rfl)) (mX6_isPattern l P G p1 hp1 hV) kVX6_212 rfl rfl rfl ⟨(Nat.le_of_ble_eq_true rfl), (Nat.le_of_ble_eq_true rfl)⟩ ⟨(Nat.le_of_ble_eq_true rfl), (Nat.le_of_ble_eq_true rfl)⟩ rfl ⟨zcs_0, (Nat.le_of_ble_eq_true rfl)⟩ hL.1.1 dX6_either_10) ?_
    rintro x6 _ _ _ hx6 ⟨rfl, hV⟩ hG
    refine z_if_eq (tgt := 20) hC (inR_b hx6) hV dX6_either_13 (by decide) ?_ ?_
    · intro hV
      exact hJ20 hG hV _ hL
    · intro hV
      refine z_iconst hC dX6_either_16 ?_
      refine z_goto (tgt := 21) hC dX6_either_17 (by decide) ?_
      exact hJ21 hG 1 (Or.inr rfl) hV _ hL
abbrev rX6_view : Room := { frames := 3, cells := 0, slots := 0, locals := 65 }
def vX6_view (p0 : Int) (p1 : Int) (G : ZG) (Q : Int → ZG → Prop) : Prop := vX6_in p0 0 2 fun (x1 : Int) => zjn (fun (z22_0 : Int) => zjn (fun (z53_0 : Int) => zjn (fun (z85_1 : Int) => vX6_refused z85_1 G fun (x2 : Int) (G1 : ZG) => zjn (fun (z106_0 : Int) (H106 : ZG) => Q z106_0 H106) fun J106 => zbr (x2 = 0) (vX6_pattern 5 p0 0 p1 (-1) (-1) (-1) G1 fun (x3 : Int) (G2 : ZG) => J106 x3 G2) (J106 0 G1)) fun J85 => zbr (z22_0 ≠ 0) (zbr (z53_0 ≠ 0) (vX6_isFull G fun (x4 : Int) => zbr (x4 = 0) (J85 0) (J85 3)) (J85 2)) (J85 1)) fun J53 => zjn (fun (_ : Unit) => J53 0) fun J52 => zbr (z22_0 = 0) (J52 ()) (zaL G 5 19 60 p1 fun (x5 : Int) => zbr (x5 = 0) (J52 ()) (vX6_sizeOf p1 (-1) (-1) G fun (x6 : Int) => zbr (40 < x6) (J52 ()) (J53 1)))) fun J22 => zjn (fun (_ : Unit) => J22 0) fun J21 => zbr (x1 = 0) (J21 ()) (vX6_isPattern p1 G fun (x7 : Int) => zbr (x7 = 0) (J21 ()) (J22 1))
set_option maxHeartbeats 4000000 in
theorem mX6_view (l : Launch) (P : ZP) (G : ZG) (p0 : Int) (hp0 : inR p0) (p1 : Int) (hp1 : inR p1) {Q : Int → ZG → Prop} (hV : vX6_view p0 p1 G Q) : Met l yX6_view (ws_ yX6_view cX6_view 5 (some .int)) rX6_view (zPc P G [.ref (zA P 5 0 0), .int (zI p0), .int (zI p1)]) (zQi P Q) 0 0 (zAr P) := by
  refine zMet RX6 (plainFor_of_name (by decide)) rfl (zcs_c rfl (zcs_c rfl (zcs_c rfl zcs_0))) (Nat.le_of_ble_eq_true rfl) (fun p e s m args below meth c ls hC hr hk hn hG hL => ?_)
  unfold vX6_view at hV
  refine z_iload_n hC rfl (hL.at 1 rfl) dX6_view_0 ?_
  refine z_iconst hC dX6_view_1 ?_
  refine z_iconst hC dX6_view_2 ?_
  refine z_call_z hG (zrunS hC hG (mX6_in l P G p0 hp0 0 (inR_lit rfl) 2 (inR_lit rfl) hV) kSX6_171 rfl rfl rfl ⟨(Nat.le_of_ble_eq_true rfl), (Nat.le_of_ble_eq_true rfl)⟩ ⟨(Nat.le_of_ble_eq_true rfl), (Nat.le_of_ble_eq_true rfl)⟩ rfl ⟨zcs_0, (Nat.le_of_ble_eq_true rfl)⟩ hL.1.1 dX6_view_3) ?_
  rintro x1 _ _ _ hx1 ⟨rfl, hV⟩ hG
  obtain ⟨J22, eJ22, hV⟩ := zjn_abs hV
  have hJ22 : ∀ {H : Heap} {locs : List Loc}, zS P s G H locs → ∀ (z22_0 : Int), (z22_0 = 0 ∨ z22_0 = 1) → J22 z22_0 → ∀ (ls : Array Slot), zL ls 5 [(0, .ref (zA P 5 0 0)), (1, .int (zI p0)), (2, .int (zI p1))] → W p l e rX6_view s m args below meth c H locs 0 0 (MQ below (zQi P Q) args s 0 0 (zAr P)) (F0 m 22 ls [.int (zI z22_0)]) := by
    intro H locs hG z22_0 hz22_0 hV ls hL
    rw [eJ22] at hV
    refine z_istore_n (lv' := [(3, .int (zI z22_0)), (0, .ref (zA P 5 0 0)), (1, .int (zI p0)), (2, .int (zI p1))]) hC rfl hL (by decide) rfl dX6_view_22 (fun ls hL => ?_)
    refine z_iload_n hC rfl (hL.at 0 rfl) dX6_view_23 ?_
    obtain ⟨J53, eJ53, hV⟩ := zjn_abs hV
    have hJ53 : ∀ {H : Heap} {locs : List Loc}, zS P s G H locs → ∀ (z53_0 : Int), (z53_0 = 0 ∨ z53_0 = 1) → J53 z53_0 → ∀ (ls : Array Slot), zL ls 5 [(0, .ref (zA P 5 0 0)), (1, .int (zI p0)), (2, .int (zI p1)), (3, .int (zI z22_0))] → W p l e rX6_view s m args below meth c H locs 0 0 (MQ below (zQi P Q) args s 0 0 (zAr P)) (F0 m 53 ls [.int (zI z53_0)]) := by
      intro H locs hG z53_0 hz53_0 hV ls hL
      rw [eJ53] at hV
      refine z_istore (lv' := [(4, .int (zI z53_0)), (0, .ref (zA P 5 0 0)), (1, .int (zI p0)), (2, .int (zI p1)), (3, .int (zI z22_0))]) hC hL (by decide) rfl dX6_view_53 (fun ls hL => ?_)
      refine z_aload_n hC zvr_a rfl (hL.at 1 rfl) dX6_view_55 ?_
      refine z_iload_n hC rfl (hL.at 4 rfl) dX6_view_56 ?_
      obtain ⟨J85, eJ85, hV⟩ := zjn_abs hV
      have hJ85 : ∀ {H : Heap} {locs : List Loc}, zS P s G H locs → ∀ (z85_1 : Int), inR z85_1 → J85 z85_1 → ∀ (ls : Array Slot), zL ls 5 [(0, .ref (zA P 5 0 0)), (1, .int (zI p0)), (2, .int (zI p1))] → W p l e rX6_view s m args below meth c H locs 0 0 (MQ below (zQi P Q) args s 0 0 (zAr P)) (F0 m 85 ls [.int (zI z85_1), .ref (zA P 5 0 0)]) := by
        intro H locs hG z85_1 hz85_1 hV ls hL
        rw [eJ85] at hV
        refine z_call_z hG (zrunV (ci := 6) hC hG (Nat.le_of_ble_eq_true rfl) (Nat.le_of_ble_eq_true rfl) (zobj hG rfl (Nat.le_of_ble_eq_true rfl) (Nat.le_of_ble_eq_true rfl)) (mX6_refused l P G z85_1 hz85_1 hV) kVX6_183 rfl rfl rfl ⟨(Nat.le_of_ble_eq_true rfl), (Nat.le_of_ble_eq_true rfl)⟩ ⟨(Nat.le_of_ble_eq_true rfl), (Nat.le_of_ble_eq_true rfl)⟩ rfl ⟨zcs_0, (Nat.le_of_ble_eq_true rfl)⟩ hL.1.1 dX6_view_85) ?_
        rintro x2 G1 _ _ hx2 hV hG
        obtain ⟨J106, eJ106, hV⟩ := zjn_abs hV
        have hJ106 : ∀ (z106_0 : Int) (H106 : ZG), inR z106_0 → J106 z106_0 H106 → ∀ (H : Heap) (locs : List Loc) (ls : Array Slot), zS P s H106 H locs → zL ls 5 [] → W p l e rX6_view s m args below meth c H locs 0 0 (MQ below (zQi P Q) args s 0 0 (zAr P)) (F0 m 106 ls [.int (zI z106_0)]) := by
          intro z106_0 H106 hz106_0 hV H locs ls hG hL
          rw [eJ106] at hV
          exact z_iret hC hG hr hk hz106_0 hV (Nat.le_of_ble_eq_true rfl) (Nat.le_of_ble_eq_true rfl) dX6_view_106
        refine z_if_eq (tgt := 95) hC (inR_b hx2) hV dX6_view_88 (by decide) ?_ ?_
        · intro hV
          refine z_aload_n hC zvr_a rfl (hL.at 0 rfl) dX6_view_95 ?_
          refine z_iconst hC dX6_view_96 ?_
          refine z_iload_n hC rfl (hL.at 1 rfl) dX6_view_97 ?_
          refine z_iconst hC dX6_view_98 ?_
          refine z_iload_n hC rfl (hL.at 2 rfl) dX6_view_99 ?_
          refine z_iconst hC dX6_view_100 ?_
          refine z_iconst hC dX6_view_101 ?_
          refine z_iconst hC dX6_view_102 ?_
          refine z_call_i hG (zrunV (ci := 6) hC hG (Nat.le_of_ble_eq_true rfl) (Nat.le_of_ble_eq_true rfl) (zobj hG rfl (Nat.le_of_ble_eq_true rfl) (Nat.le_of_ble_eq_true rfl)) (mX6_pattern l P G1 5 (inR_lit rfl) p0 hp0 0 (inR_lit rfl) p1 hp1 (-1) (inR_lit rfl) (-1) (inR_lit rfl) (-1) (inR_lit rfl) hV) kVX6_208 rfl rfl rfl ⟨(Nat.le_of_ble_eq_true rfl), (Nat.le_of_ble_eq_true rfl)⟩ ⟨(Nat.le_of_ble_eq_true rfl), (Nat.le_of_ble_eq_true rfl)⟩ rfl ⟨zcs_0, (Nat.le_of_ble_eq_true rfl)⟩ hL.1.1 dX6_view_103) ?_
          rintro x3 G2 _ _ hx3 hV hG
          exact hJ106 x3 G2 hx3 hV _ _ _ hG (hL.sub [] rfl)
        · intro hV
          refine z_iconst hC dX6_view_91 ?_
          refine z_goto (tgt := 106) hC dX6_view_92 (by decide) ?_
          exact hJ106 0 G1 (inR_lit rfl) hV _ _ _ hG (hL.sub [] rfl)
      refine z_if_ne (tgt := 64) hC (inR_b hz22_0) hV dX6_view_57 (by decide) ?_ ?_
      · intro hV
        refine z_iload hC (hL.at 0 rfl) dX6_view_64 ?_
        refine z_if_ne (tgt := 73) hC (inR_b hz53_0) hV dX6_view_66 (by decide) ?_ ?_
        · intro hV
          refine z_aload_n hC zvr_a rfl (hL.at 1 rfl) dX6_view_73 ?_
          refine z_call_z hG (zrunV (ci := 6) hC hG (Nat.le_of_ble_eq_true rfl) (Nat.le_of_ble_eq_true rfl) (zobj hG rfl (Nat.le_of_ble_eq_true rfl) (Nat.le_of_ble_eq_true rfl)) (mX6_isFull l P G hV) kVX6_204 rfl rfl rfl ⟨(Nat.le_of_ble_eq_true rfl), (Nat.le_of_ble_eq_true rfl)⟩ ⟨(Nat.le_of_ble_eq_true rfl), (Nat.le_of_ble_eq_true rfl)⟩ rfl ⟨(zcs_c rfl zcs_0), (Nat.le_of_ble_eq_true rfl)⟩ hL.1.1 dX6_view_74) ?_
          rintro x4 _ _ _ hx4 ⟨rfl, hV⟩ hG
          refine z_if_eq (tgt := 84) hC (inR_b hx4) hV dX6_view_77 (by decide) ?_ ?_
          · intro hV
            refine z_iconst hC dX6_view_84 ?_
            exact hJ85 hG 0 (inR_lit rfl) hV _ (hL.sub [1, 2, 3] rfl)
          · intro hV
            refine z_iconst hC dX6_view_80 ?_
            refine z_goto (tgt := 85) hC dX6_view_81 (by decide) ?_
            exact hJ85 hG 3 (inR_lit rfl) hV _ (hL.sub [1, 2, 3] rfl)
        · intro hV
          refine z_iconst hC dX6_view_69 ?_
          refine z_goto (tgt := 85) hC dX6_view_70 (by decide) ?_
          exact hJ85 hG 2 (inR_lit rfl) hV _ (hL.sub [1, 2, 3] rfl)
      · intro hV
        refine z_iconst hC dX6_view_60 ?_
        refine z_goto (tgt := 85) hC dX6_view_61 (by decide) ?_
        exact hJ85 hG 1 (inR_lit rfl) hV _ (hL.sub [1, 2, 3] rfl)
    obtain ⟨J52, eJ52, hV⟩ := zjn_abs hV
    have hJ52 : ∀ {H : Heap} {locs : List Loc}, zS P s G H locs → J52 () → ∀ (ls : Array Slot), zL ls 5 [(0, .ref (zA P 5 0 0)), (1, .int (zI p0)), (2, .int (zI p1)), (3, .int (zI z22_0))] → W p l e rX6_view s m args below meth c H locs 0 0 (MQ below (zQi P Q) args s 0 0 (zAr P)) (F0 m 52 ls []) := by
      intro H locs hG hV ls hL
      rw [eJ52] at hV
      refine z_iconst hC dX6_view_52 ?_
      exact hJ53 hG 0 (Or.inl rfl) hV _ hL
    refine z_if_eq (tgt := 52) hC (inR_b hz22_0) hV dX6_view_24 (by decide) ?_ ?_
    · intro hV
      exact hJ52 hG hV _ (hL.sub [1, 2, 3, 0] rfl)
    · intro hV
      refine z_aload_n hC zvr_a rfl (hL.at 1 rfl) dX6_view_27 ?_
      refine z_getA hC hG kFX6_59_6 rfl rfl dX6_view_28 ?_
      refine z_iload_n hC rfl (hL.at 3 rfl) dX6_view_31 ?_
      refine z_zald hC hG rfl rfl rfl hp1 hV dX6_view_32 ?_
      intro x5 hx5 hV
      refine z_if_eq (tgt := 52) hC hx5 hV dX6_view_33 (by decide) ?_ ?_
      · intro hV
        exact hJ52 hG hV _ (hL.sub [1, 2, 3, 0] rfl)
      · intro hV
        refine z_aload_n hC zvr_a rfl (hL.at 1 rfl) dX6_view_36 ?_
        refine z_iload_n hC rfl (hL.at 3 rfl) dX6_view_37 ?_
        refine z_iconst hC dX6_view_38 ?_
        refine z_iconst hC dX6_view_39 ?_
        refine z_call_i hG (zrunV (ci := 6) hC hG (Nat.le_of_ble_eq_true rfl) (Nat.le_of_ble_eq_true rfl) (zobj hG rfl (Nat.le_of_ble_eq_true rfl) (Nat.le_of_ble_eq_true rfl)) (mX6_sizeOf l P G p1 hp1 (-1) (inR_lit rfl) (-1) (inR_lit rfl) hV) kVX6_200 rfl rfl rfl ⟨(Nat.le_of_ble_eq_true rfl), (Nat.le_of_ble_eq_true rfl)⟩ ⟨(Nat.le_of_ble_eq_true rfl), (Nat.le_of_ble_eq_true rfl)⟩ rfl ⟨zcs_0, (Nat.le_of_ble_eq_true rfl)⟩ hL.1.1 dX6_view_40) ?_
        rintro x6 _ _ _ hx6 ⟨rfl, hV⟩ hG
        refine z_bipush hC rfl dX6_view_43 ?_
        refine z_icmp_gt (tgt := 52) hC hx6 (inR_lit rfl) hV dX6_view_45 (by decide) ?_ ?_
        · intro hV
          exact hJ52 hG hV _ (hL.sub [1, 2, 3, 0] rfl)
        · intro hV
          refine z_iconst hC dX6_view_48 ?_
          refine z_goto (tgt := 53) hC dX6_view_49 (by decide) ?_
          exact hJ53 hG 1 (Or.inr rfl) hV _ (hL.sub [1, 2, 3, 0] rfl)
  obtain ⟨J21, eJ21, hV⟩ := zjn_abs hV
  have hJ21 : ∀ {H : Heap} {locs : List Loc}, zS P s G H locs → J21 () → ∀ (ls : Array Slot), zL ls 5 [(0, .ref (zA P 5 0 0)), (1, .int (zI p0)), (2, .int (zI p1))] → W p l e rX6_view s m args below meth c H locs 0 0 (MQ below (zQi P Q) args s 0 0 (zAr P)) (F0 m 21 ls []) := by
    intro H locs hG hV ls hL
    rw [eJ21] at hV
    refine z_iconst hC dX6_view_21 ?_
    exact hJ22 hG 0 (Or.inl rfl) hV _ hL
  refine z_if_eq (tgt := 21) hC (inR_b hx1) hV dX6_view_6 (by decide) ?_ ?_
  · intro hV
    exact hJ21 hG hV _ hL
  · intro hV
    refine z_aload_n hC zvr_a rfl (hL.at 0 rfl) dX6_view_9 ?_
    refine z_iload_n hC rfl (hL.at 2 rfl) dX6_view_10 ?_
    refine z_call_z hG (zrunV (ci := 6) hC hG (Nat.le_of_ble_eq_true rfl) (Nat.le_of_ble_eq_true rfl) (zobj hG rfl (Nat.le_of_ble_eq_true rfl) (Nat.le_of_ble_eq_true rfl)) (mX6_isPattern l P G p1 hp1 hV) kVX6_212 rfl rfl rfl ⟨(Nat.le_of_ble_eq_true rfl), (Nat.le_of_ble_eq_true rfl)⟩ ⟨(Nat.le_of_ble_eq_true rfl), (Nat.le_of_ble_eq_true rfl)⟩ rfl ⟨zcs_0, (Nat.le_of_ble_eq_true rfl)⟩ hL.1.1 dX6_view_11) ?_
    rintro x7 _ _ _ hx7 ⟨rfl, hV⟩ hG
    refine z_if_eq (tgt := 21) hC (inR_b hx7) hV dX6_view_14 (by decide) ?_ ?_
    · intro hV
      exact hJ21 hG hV _ hL
    · intro hV
      refine z_iconst hC dX6_view_17 ?_
      refine z_goto (tgt := 22) hC dX6_view_18 (by decide) ?_
      exact hJ22 hG 1 (Or.inr rfl) hV _ hL
abbrev rX6_list : Room := { frames := 3, cells := 0, slots := 0, locals := 65 }
def vX6_list (p0 : Int) (p1 : Int) (p2 : Int) (p3 : Int) (G : ZG) (Q : Int → ZG → Prop) : Prop := vX6_in p0 0 2 fun (x1 : Int) => vX6_in p3 0 2 fun (x2 : Int) => zl4 (fun (P27 : Int → Int → Int → Int → Prop) (a27_6 : Int) (a27_7 : Int) (a27_8 : Int) (a27_9 : Int) => zbr (2 ≤ a27_9) (zjn (fun (z217_0 : Int) => zjn (fun (z250_1 : Int) => vX6_refused z250_1 G fun (x3 : Int) (G1 : ZG) => zjn (fun (z273_0 : Int) (H273 : ZG) => Q z273_0 H273) fun J273 => zbr (x3 = 0) (vX6_pattern 6 p0 p3 p1 p2 (-1) 5 G1 fun (x4 : Int) (G2 : ZG) => J273 x4 G2) (J273 0 G1)) fun J250 => zbr (a27_6 ≠ 0) (zbr (z217_0 ≠ 0) (vX6_isFull G fun (x5 : Int) => zbr (x5 = 0) (J250 0) (J250 3)) (J250 2)) (J250 1)) fun J217 => zjn (fun (_ : Unit) => J217 0) fun J216 => zbr (a27_6 = 0) (J216 ()) (zbr (a27_7 = 0) (J216 ()) (vX6_depthOf p1 p2 (-1) G fun (x6 : Int) => zbr (4 < x6) (J216 ()) (vX6_sizeOf p1 p2 (-1) G fun (x7 : Int) => zbr (40 < x7) (J216 ()) (J217 1))))) (zjn (fun (z43_0 : Int) => zjn (fun (z61_0 : Int) => vX6_isPattern z43_0 G fun (x8 : Int) => zjn (fun (z91_0 : Int) => zjn (fun (z145_0 : Int) => zjn (fun (z170_1 : Int) => zlt1 (bOr a27_8 z170_1) fun (x9 : Int) => zlt1 (w32 (a27_9 + 1)) fun (x10 : Int) => P27 z91_0 z145_0 x9 x10) fun J170 => zjn (fun (_ : Unit) => J170 0) fun J169 => zbr (z61_0 = 0) (J169 ()) (zbr (x8 = 0) (J169 ()) (zaL G 5 17 60 z43_0 fun (x11 : Int) => J170 x11))) fun J145 => zjn (fun (_ : Unit) => J145 0) fun J144 => zbr (a27_7 = 0) (J144 ()) (zjn (fun (_ : Unit) => J145 1) fun J140 => zbr (z61_0 = 0) (zbr (z43_0 ≠ (-1)) (J144 ()) (J140 ())) (zbr (x8 = 0) (J144 ()) (vX6_suits z43_0 4 G fun (x12 : Int) => zbr (x12 = 0) (J144 ()) (zaL G 5 17 60 z43_0 fun (x13 : Int) => zbr (bAnd x13 a27_8 ≠ 0) (J144 ()) (J140 ())))))) fun J91 => zjn (fun (_ : Unit) => J91 0) fun J90 => zbr (a27_6 = 0) (J90 ()) (zjn (fun (_ : Unit) => J91 1) fun J86 => zbr (z61_0 = 0) (J86 ()) (zbr (x8 = 0) (J90 ()) (J86 ())))) fun J61 => zjn (fun (_ : Unit) => J61 0) fun J60 => zbr (x1 = 0) (J60 ()) (zbr (p0 ≤ a27_9) (J60 ()) (J61 1))) fun J43 => zbr (a27_9 ≠ 0) (J43 p2) (J43 p1))) x2 x1 0 0
set_option maxHeartbeats 4000000 in
theorem mX6_list (l : Launch) (P : ZP) (G : ZG) (p0 : Int) (hp0 : inR p0) (p1 : Int) (hp1 : inR p1) (p2 : Int) (hp2 : inR p2) (p3 : Int) (hp3 : inR p3) {Q : Int → ZG → Prop} (hV : vX6_list p0 p1 p2 p3 G Q) : Met l yX6_list (ws_ yX6_list cX6_list 13 (some .int)) rX6_list (zPc P G [.ref (zA P 5 0 0), .int (zI p0), .int (zI p1), .int (zI p2), .int (zI p3)]) (zQi P Q) 0 0 (zAr P) := by
  refine zMet RX6 (plainFor_of_name (by decide)) rfl (zcs_c rfl (zcs_c rfl (zcs_c rfl (zcs_c rfl (zcs_c rfl zcs_0))))) (Nat.le_of_ble_eq_true rfl) (fun p e s m args below meth c ls hC hr hk hn hG hL => ?_)
  unfold vX6_list at hV
  refine z_iload_n hC rfl (hL.at 1 rfl) dX6_list_0 ?_
  refine z_iconst hC dX6_list_1 ?_
  refine z_iconst hC dX6_list_2 ?_
  refine z_call_z hG (zrunS hC hG (mX6_in l P G p0 hp0 0 (inR_lit rfl) 2 (inR_lit rfl) hV) kSX6_171 rfl rfl rfl ⟨(Nat.le_of_ble_eq_true rfl), (Nat.le_of_ble_eq_true rfl)⟩ ⟨(Nat.le_of_ble_eq_true rfl), (Nat.le_of_ble_eq_true rfl)⟩ rfl ⟨zcs_0, (Nat.le_of_ble_eq_true rfl)⟩ hL.1.1 dX6_list_3) ?_
  rintro x1 _ _ _ hx1 ⟨rfl, hV⟩ hG
  refine z_istore (lv' := [(5, .int (zI x1)), (0, .ref (zA P 5 0 0)), (1, .int (zI p0)), (2, .int (zI p1)), (3, .int (zI p2)), (4, .int (zI p3))]) hC hL (by decide) rfl dX6_list_6 (fun ls hL => ?_)
  refine z_iload hC (hL.at 5 rfl) dX6_list_8 ?_
  refine z_iconst hC dX6_list_10 ?_
  refine z_iconst hC dX6_list_11 ?_
  refine z_call_z hG (zrunS hC hG (mX6_in l P G p3 hp3 0 (inR_lit rfl) 2 (inR_lit rfl) hV) kSX6_171 rfl rfl rfl ⟨(Nat.le_of_ble_eq_true rfl), (Nat.le_of_ble_eq_true rfl)⟩ ⟨(Nat.le_of_ble_eq_true rfl), (Nat.le_of_ble_eq_true rfl)⟩ rfl ⟨zcs_0, (Nat.le_of_ble_eq_true rfl)⟩ hL.1.1 dX6_list_12) ?_
  rintro x2 _ _ _ hx2 ⟨rfl, hV⟩ hG
  refine z_istore (lv' := [(6, .int (zI x2)), (5, .int (zI x1)), (0, .ref (zA P 5 0 0)), (1, .int (zI p0)), (2, .int (zI p1)), (3, .int (zI p2)), (4, .int (zI p3))]) hC hL (by decide) rfl dX6_list_15 (fun ls hL => ?_)
  refine z_iload hC (hL.at 1 rfl) dX6_list_17 ?_
  refine z_istore (lv' := [(7, .int (zI x1)), (6, .int (zI x2)), (5, .int (zI x1)), (0, .ref (zA P 5 0 0)), (1, .int (zI p0)), (2, .int (zI p1)), (3, .int (zI p2)), (4, .int (zI p3))]) hC hL (by decide) rfl dX6_list_19 (fun ls hL => ?_)
  refine z_iconst hC dX6_list_21 ?_
  refine z_istore (lv' := [(8, .int (zI 0)), (7, .int (zI x1)), (6, .int (zI x2)), (5, .int (zI x1)), (0, .ref (zA P 5 0 0)), (1, .int (zI p0)), (2, .int (zI p1)), (3, .int (zI p2)), (4, .int (zI p3))]) hC hL (by decide) rfl dX6_list_22 (fun ls hL => ?_)
  refine z_iconst hC dX6_list_24 ?_
  refine z_istore (lv' := [(9, .int (zI 0)), (8, .int (zI 0)), (7, .int (zI x1)), (6, .int (zI x2)), (5, .int (zI x1)), (0, .ref (zA P 5 0 0)), (1, .int (zI p0)), (2, .int (zI p1)), (3, .int (zI p2)), (4, .int (zI p3))]) hC hL (by decide) rfl dX6_list_25 (fun ls hL => ?_)
  refine zl4_use hV (fun (a27_6 : Int) (a27_7 : Int) (a27_8 : Int) (a27_9 : Int) => (a27_6 = 0 ∨ a27_6 = 1) → (a27_7 = 0 ∨ a27_7 = 1) → inR a27_8 → inR a27_9 → ∀ (H : Heap) (locs : List Loc), zS P s G H locs → ∀ (ls : Array Slot), zL ls 13 [(0, .ref (zA P 5 0 0)), (1, .int (zI p0)), (2, .int (zI p1)), (3, .int (zI p2)), (4, .int (zI p3)), (5, .int (zI x1)), (6, .int (zI a27_6)), (7, .int (zI a27_7)), (8, .int (zI a27_8)), (9, .int (zI a27_9))] → W p l e rX6_list s m args below meth c H locs 0 0 (MQ below (zQi P Q) args s 0 0 (zAr P)) (F0 m 27 ls [])) ?_ hx2 hx1 (inR_lit rfl) (inR_lit rfl) _ _ hG _ (hL.sub [5, 6, 7, 8, 9, 4, 3, 2, 1, 0] rfl)
  intro P27 a27_6 a27_7 a27_8 a27_9 hP27 hV ha27_6 ha27_7 ha27_8 ha27_9 H locs hG ls hL
  refine z_iload hC (hL.at 9 rfl) dX6_list_27 ?_
  refine z_iconst hC dX6_list_29 ?_
  refine z_icmp_ge (tgt := 179) hC ha27_9 (inR_lit rfl) hV dX6_list_30 (by decide) ?_ ?_
  · intro hV
    refine z_iload hC (hL.at 6 rfl) dX6_list_179 ?_
    obtain ⟨J217, eJ217, hV⟩ := zjn_abs hV
    have hJ217 : ∀ {H : Heap} {locs : List Loc}, zS P s G H locs → ∀ (z217_0 : Int), (z217_0 = 0 ∨ z217_0 = 1) → J217 z217_0 → ∀ (ls : Array Slot), zL ls 13 [(0, .ref (zA P 5 0 0)), (1, .int (zI p0)), (2, .int (zI p1)), (3, .int (zI p2)), (4, .int (zI p3)), (6, .int (zI a27_6))] → W p l e rX6_list s m args below meth c H locs 0 0 (MQ below (zQi P Q) args s 0 0 (zAr P)) (F0 m 217 ls [.int (zI z217_0)]) := by
      intro H locs hG z217_0 hz217_0 hV ls hL
      rw [eJ217] at hV
      refine z_istore (lv' := [(7, .int (zI z217_0)), (0, .ref (zA P 5 0 0)), (1, .int (zI p0)), (2, .int (zI p1)), (3, .int (zI p2)), (4, .int (zI p3)), (6, .int (zI a27_6))]) hC hL (by decide) rfl dX6_list_217 (fun ls hL => ?_)
      refine z_aload_n hC zvr_a rfl (hL.at 1 rfl) dX6_list_219 ?_
      refine z_iload hC (hL.at 6 rfl) dX6_list_220 ?_
      obtain ⟨J250, eJ250, hV⟩ := zjn_abs hV
      have hJ250 : ∀ {H : Heap} {locs : List Loc}, zS P s G H locs → ∀ (z250_1 : Int), inR z250_1 → J250 z250_1 → ∀ (ls : Array Slot), zL ls 13 [(0, .ref (zA P 5 0 0)), (1, .int (zI p0)), (2, .int (zI p1)), (3, .int (zI p2)), (4, .int (zI p3))] → W p l e rX6_list s m args below meth c H locs 0 0 (MQ below (zQi P Q) args s 0 0 (zAr P)) (F0 m 250 ls [.int (zI z250_1), .ref (zA P 5 0 0)]) := by
        intro H locs hG z250_1 hz250_1 hV ls hL
        rw [eJ250] at hV
        refine z_call_z hG (zrunV (ci := 6) hC hG (Nat.le_of_ble_eq_true rfl) (Nat.le_of_ble_eq_true rfl) (zobj hG rfl (Nat.le_of_ble_eq_true rfl) (Nat.le_of_ble_eq_true rfl)) (mX6_refused l P G z250_1 hz250_1 hV) kVX6_183 rfl rfl rfl ⟨(Nat.le_of_ble_eq_true rfl), (Nat.le_of_ble_eq_true rfl)⟩ ⟨(Nat.le_of_ble_eq_true rfl), (Nat.le_of_ble_eq_true rfl)⟩ rfl ⟨zcs_0, (Nat.le_of_ble_eq_true rfl)⟩ hL.1.1 dX6_list_250) ?_
        rintro x3 G1 _ _ hx3 hV hG
        obtain ⟨J273, eJ273, hV⟩ := zjn_abs hV
        have hJ273 : ∀ (z273_0 : Int) (H273 : ZG), inR z273_0 → J273 z273_0 H273 → ∀ (H : Heap) (locs : List Loc) (ls : Array Slot), zS P s H273 H locs → zL ls 13 [] → W p l e rX6_list s m args below meth c H locs 0 0 (MQ below (zQi P Q) args s 0 0 (zAr P)) (F0 m 273 ls [.int (zI z273_0)]) := by
          intro z273_0 H273 hz273_0 hV H locs ls hG hL
          rw [eJ273] at hV
          exact z_iret hC hG hr hk hz273_0 hV (Nat.le_of_ble_eq_true rfl) (Nat.le_of_ble_eq_true rfl) dX6_list_273
        refine z_if_eq (tgt := 260) hC (inR_b hx3) hV dX6_list_253 (by decide) ?_ ?_
        · intro hV
          refine z_aload_n hC zvr_a rfl (hL.at 0 rfl) dX6_list_260 ?_
          refine z_bipush hC rfl dX6_list_261 ?_
          refine z_iload_n hC rfl (hL.at 1 rfl) dX6_list_263 ?_
          refine z_iload hC (hL.at 4 rfl) dX6_list_264 ?_
          refine z_iload_n hC rfl (hL.at 2 rfl) dX6_list_266 ?_
          refine z_iload_n hC rfl (hL.at 3 rfl) dX6_list_267 ?_
          refine z_iconst hC dX6_list_268 ?_
          refine z_iconst hC dX6_list_269 ?_
          refine z_call_i hG (zrunV (ci := 6) hC hG (Nat.le_of_ble_eq_true rfl) (Nat.le_of_ble_eq_true rfl) (zobj hG rfl (Nat.le_of_ble_eq_true rfl) (Nat.le_of_ble_eq_true rfl)) (mX6_pattern l P G1 6 (inR_lit rfl) p0 hp0 p3 hp3 p1 hp1 p2 hp2 (-1) (inR_lit rfl) 5 (inR_lit rfl) hV) kVX6_208 rfl rfl rfl ⟨(Nat.le_of_ble_eq_true rfl), (Nat.le_of_ble_eq_true rfl)⟩ ⟨(Nat.le_of_ble_eq_true rfl), (Nat.le_of_ble_eq_true rfl)⟩ rfl ⟨zcs_0, (Nat.le_of_ble_eq_true rfl)⟩ hL.1.1 dX6_list_270) ?_
          rintro x4 G2 _ _ hx4 hV hG
          exact hJ273 x4 G2 hx4 hV _ _ _ hG (hL.sub [] rfl)
        · intro hV
          refine z_iconst hC dX6_list_256 ?_
          refine z_goto (tgt := 273) hC dX6_list_257 (by decide) ?_
          exact hJ273 0 G1 (inR_lit rfl) hV _ _ _ hG (hL.sub [] rfl)
      refine z_if_ne (tgt := 229) hC (inR_b ha27_6) hV dX6_list_222 (by decide) ?_ ?_
      · intro hV
        refine z_iload hC (hL.at 0 rfl) dX6_list_229 ?_
        refine z_if_ne (tgt := 238) hC (inR_b hz217_0) hV dX6_list_231 (by decide) ?_ ?_
        · intro hV
          refine z_aload_n hC zvr_a rfl (hL.at 1 rfl) dX6_list_238 ?_
          refine z_call_z hG (zrunV (ci := 6) hC hG (Nat.le_of_ble_eq_true rfl) (Nat.le_of_ble_eq_true rfl) (zobj hG rfl (Nat.le_of_ble_eq_true rfl) (Nat.le_of_ble_eq_true rfl)) (mX6_isFull l P G hV) kVX6_204 rfl rfl rfl ⟨(Nat.le_of_ble_eq_true rfl), (Nat.le_of_ble_eq_true rfl)⟩ ⟨(Nat.le_of_ble_eq_true rfl), (Nat.le_of_ble_eq_true rfl)⟩ rfl ⟨(zcs_c rfl zcs_0), (Nat.le_of_ble_eq_true rfl)⟩ hL.1.1 dX6_list_239) ?_
          rintro x5 _ _ _ hx5 ⟨rfl, hV⟩ hG
          refine z_if_eq (tgt := 249) hC (inR_b hx5) hV dX6_list_242 (by decide) ?_ ?_
          · intro hV
            refine z_iconst hC dX6_list_249 ?_
            exact hJ250 hG 0 (inR_lit rfl) hV _ (hL.sub [1, 2, 3, 4, 5] rfl)
          · intro hV
            refine z_iconst hC dX6_list_245 ?_
            refine z_goto (tgt := 250) hC dX6_list_246 (by decide) ?_
            exact hJ250 hG 3 (inR_lit rfl) hV _ (hL.sub [1, 2, 3, 4, 5] rfl)
        · intro hV
          refine z_iconst hC dX6_list_234 ?_
          refine z_goto (tgt := 250) hC dX6_list_235 (by decide) ?_
          exact hJ250 hG 2 (inR_lit rfl) hV _ (hL.sub [1, 2, 3, 4, 5] rfl)
      · intro hV
        refine z_iconst hC dX6_list_225 ?_
        refine z_goto (tgt := 250) hC dX6_list_226 (by decide) ?_
        exact hJ250 hG 1 (inR_lit rfl) hV _ (hL.sub [1, 2, 3, 4, 5] rfl)
    obtain ⟨J216, eJ216, hV⟩ := zjn_abs hV
    have hJ216 : ∀ {H : Heap} {locs : List Loc}, zS P s G H locs → J216 () → ∀ (ls : Array Slot), zL ls 13 [(0, .ref (zA P 5 0 0)), (1, .int (zI p0)), (2, .int (zI p1)), (3, .int (zI p2)), (4, .int (zI p3)), (6, .int (zI a27_6))] → W p l e rX6_list s m args below meth c H locs 0 0 (MQ below (zQi P Q) args s 0 0 (zAr P)) (F0 m 216 ls []) := by
      intro H locs hG hV ls hL
      rw [eJ216] at hV
      refine z_iconst hC dX6_list_216 ?_
      exact hJ217 hG 0 (Or.inl rfl) hV _ hL
    refine z_if_eq (tgt := 216) hC (inR_b ha27_6) hV dX6_list_181 (by decide) ?_ ?_
    · intro hV
      exact hJ216 hG hV _ (hL.sub [0, 1, 2, 3, 4, 6] rfl)
    · intro hV
      refine z_iload hC (hL.at 7 rfl) dX6_list_184 ?_
      refine z_if_eq (tgt := 216) hC (inR_b ha27_7) hV dX6_list_186 (by decide) ?_ ?_
      · intro hV
        exact hJ216 hG hV _ (hL.sub [0, 1, 2, 3, 4, 6] rfl)
      · intro hV
        refine z_aload_n hC zvr_a rfl (hL.at 0 rfl) dX6_list_189 ?_
        refine z_iload_n hC rfl (hL.at 2 rfl) dX6_list_190 ?_
        refine z_iload_n hC rfl (hL.at 3 rfl) dX6_list_191 ?_
        refine z_iconst hC dX6_list_192 ?_
        refine z_call_i hG (zrunV (ci := 6) hC hG (Nat.le_of_ble_eq_true rfl) (Nat.le_of_ble_eq_true rfl) (zobj hG rfl (Nat.le_of_ble_eq_true rfl) (Nat.le_of_ble_eq_true rfl)) (mX6_depthOf l P G p1 hp1 p2 hp2 (-1) (inR_lit rfl) hV) kVX6_218 rfl rfl rfl ⟨(Nat.le_of_ble_eq_true rfl), (Nat.le_of_ble_eq_true rfl)⟩ ⟨(Nat.le_of_ble_eq_true rfl), (Nat.le_of_ble_eq_true rfl)⟩ rfl ⟨zcs_0, (Nat.le_of_ble_eq_true rfl)⟩ hL.1.1 dX6_list_193) ?_
        rintro x6 _ _ _ hx6 ⟨rfl, hV⟩ hG
        refine z_iconst hC dX6_list_196 ?_
        refine z_icmp_gt (tgt := 216) hC hx6 (inR_lit rfl) hV dX6_list_197 (by decide) ?_ ?_
        · intro hV
          exact hJ216 hG hV _ (hL.sub [0, 1, 2, 3, 4, 6] rfl)
        · intro hV
          refine z_aload_n hC zvr_a rfl (hL.at 0 rfl) dX6_list_200 ?_
          refine z_iload_n hC rfl (hL.at 2 rfl) dX6_list_201 ?_
          refine z_iload_n hC rfl (hL.at 3 rfl) dX6_list_202 ?_
          refine z_iconst hC dX6_list_203 ?_
          refine z_call_i hG (zrunV (ci := 6) hC hG (Nat.le_of_ble_eq_true rfl) (Nat.le_of_ble_eq_true rfl) (zobj hG rfl (Nat.le_of_ble_eq_true rfl) (Nat.le_of_ble_eq_true rfl)) (mX6_sizeOf l P G p1 hp1 p2 hp2 (-1) (inR_lit rfl) hV) kVX6_200 rfl rfl rfl ⟨(Nat.le_of_ble_eq_true rfl), (Nat.le_of_ble_eq_true rfl)⟩ ⟨(Nat.le_of_ble_eq_true rfl), (Nat.le_of_ble_eq_true rfl)⟩ rfl ⟨zcs_0, (Nat.le_of_ble_eq_true rfl)⟩ hL.1.1 dX6_list_204) ?_
          rintro x7 _ _ _ hx7 ⟨rfl, hV⟩ hG
          refine z_bipush hC rfl dX6_list_207 ?_
          refine z_icmp_gt (tgt := 216) hC hx7 (inR_lit rfl) hV dX6_list_209 (by decide) ?_ ?_
          · intro hV
            exact hJ216 hG hV _ (hL.sub [0, 1, 2, 3, 4, 6] rfl)
          · intro hV
            refine z_iconst hC dX6_list_212 ?_
            refine z_goto (tgt := 217) hC dX6_list_213 (by decide) ?_
            exact hJ217 hG 1 (Or.inr rfl) hV _ (hL.sub [0, 1, 2, 3, 4, 6] rfl)
  · intro hV
    refine z_iload hC (hL.at 9 rfl) dX6_list_33 ?_
    obtain ⟨J43, eJ43, hV⟩ := zjn_abs hV
    have hJ43 : ∀ {H : Heap} {locs : List Loc}, zS P s G H locs → ∀ (z43_0 : Int), inR z43_0 → J43 z43_0 → ∀ (ls : Array Slot), zL ls 13 [(0, .ref (zA P 5 0 0)), (1, .int (zI p0)), (2, .int (zI p1)), (3, .int (zI p2)), (4, .int (zI p3)), (5, .int (zI x1)), (6, .int (zI a27_6)), (7, .int (zI a27_7)), (8, .int (zI a27_8)), (9, .int (zI a27_9))] → W p l e rX6_list s m args below meth c H locs 0 0 (MQ below (zQi P Q) args s 0 0 (zAr P)) (F0 m 43 ls [.int (zI z43_0)]) := by
      intro H locs hG z43_0 hz43_0 hV ls hL
      rw [eJ43] at hV
      refine z_istore (lv' := [(10, .int (zI z43_0)), (0, .ref (zA P 5 0 0)), (1, .int (zI p0)), (2, .int (zI p1)), (3, .int (zI p2)), (4, .int (zI p3)), (5, .int (zI x1)), (6, .int (zI a27_6)), (7, .int (zI a27_7)), (8, .int (zI a27_8)), (9, .int (zI a27_9))]) hC hL (by decide) rfl dX6_list_43 (fun ls hL => ?_)
      refine z_iload hC (hL.at 6 rfl) dX6_list_45 ?_
      obtain ⟨J61, eJ61, hV⟩ := zjn_abs hV
      have hJ61 : ∀ {H : Heap} {locs : List Loc}, zS P s G H locs → ∀ (z61_0 : Int), (z61_0 = 0 ∨ z61_0 = 1) → J61 z61_0 → ∀ (ls : Array Slot), zL ls 13 [(0, .ref (zA P 5 0 0)), (1, .int (zI p0)), (2, .int (zI p1)), (3, .int (zI p2)), (4, .int (zI p3)), (5, .int (zI x1)), (6, .int (zI a27_6)), (7, .int (zI a27_7)), (8, .int (zI a27_8)), (9, .int (zI a27_9)), (10, .int (zI z43_0))] → W p l e rX6_list s m args below meth c H locs 0 0 (MQ below (zQi P Q) args s 0 0 (zAr P)) (F0 m 61 ls [.int (zI z61_0)]) := by
        intro H locs hG z61_0 hz61_0 hV ls hL
        rw [eJ61] at hV
        refine z_istore (lv' := [(11, .int (zI z61_0)), (0, .ref (zA P 5 0 0)), (1, .int (zI p0)), (2, .int (zI p1)), (3, .int (zI p2)), (4, .int (zI p3)), (5, .int (zI x1)), (6, .int (zI a27_6)), (7, .int (zI a27_7)), (8, .int (zI a27_8)), (9, .int (zI a27_9)), (10, .int (zI z43_0))]) hC hL (by decide) rfl dX6_list_61 (fun ls hL => ?_)
        refine z_aload_n hC zvr_a rfl (hL.at 1 rfl) dX6_list_63 ?_
        refine z_iload hC (hL.at 11 rfl) dX6_list_64 ?_
        refine z_call_z hG (zrunV (ci := 6) hC hG (Nat.le_of_ble_eq_true rfl) (Nat.le_of_ble_eq_true rfl) (zobj hG rfl (Nat.le_of_ble_eq_true rfl) (Nat.le_of_ble_eq_true rfl)) (mX6_isPattern l P G z43_0 hz43_0 hV) kVX6_212 rfl rfl rfl ⟨(Nat.le_of_ble_eq_true rfl), (Nat.le_of_ble_eq_true rfl)⟩ ⟨(Nat.le_of_ble_eq_true rfl), (Nat.le_of_ble_eq_true rfl)⟩ rfl ⟨zcs_0, (Nat.le_of_ble_eq_true rfl)⟩ hL.1.1 dX6_list_66) ?_
        rintro x8 _ _ _ hx8 ⟨rfl, hV⟩ hG
        refine z_istore (lv' := [(12, .int (zI x8)), (11, .int (zI z61_0)), (0, .ref (zA P 5 0 0)), (1, .int (zI p0)), (2, .int (zI p1)), (3, .int (zI p2)), (4, .int (zI p3)), (5, .int (zI x1)), (6, .int (zI a27_6)), (7, .int (zI a27_7)), (8, .int (zI a27_8)), (9, .int (zI a27_9)), (10, .int (zI z43_0))]) hC hL (by decide) rfl dX6_list_69 (fun ls hL => ?_)
        refine z_iload hC (hL.at 8 rfl) dX6_list_71 ?_
        obtain ⟨J91, eJ91, hV⟩ := zjn_abs hV
        have hJ91 : ∀ {H : Heap} {locs : List Loc}, zS P s G H locs → ∀ (z91_0 : Int), (z91_0 = 0 ∨ z91_0 = 1) → J91 z91_0 → ∀ (ls : Array Slot), zL ls 13 [(0, .ref (zA P 5 0 0)), (1, .int (zI p0)), (2, .int (zI p1)), (3, .int (zI p2)), (4, .int (zI p3)), (5, .int (zI x1)), (7, .int (zI a27_7)), (8, .int (zI a27_8)), (9, .int (zI a27_9)), (10, .int (zI z43_0)), (11, .int (zI z61_0)), (12, .int (zI x8))] → W p l e rX6_list s m args below meth c H locs 0 0 (MQ below (zQi P Q) args s 0 0 (zAr P)) (F0 m 91 ls [.int (zI z91_0)]) := by
          intro H locs hG z91_0 hz91_0 hV ls hL
          rw [eJ91] at hV
          refine z_istore (lv' := [(6, .int (zI z91_0)), (0, .ref (zA P 5 0 0)), (1, .int (zI p0)), (2, .int (zI p1)), (3, .int (zI p2)), (4, .int (zI p3)), (5, .int (zI x1)), (7, .int (zI a27_7)), (8, .int (zI a27_8)), (9, .int (zI a27_9)), (10, .int (zI z43_0)), (11, .int (zI z61_0)), (12, .int (zI x8))]) hC hL (by decide) rfl dX6_list_91 (fun ls hL => ?_)
          refine z_iload hC (hL.at 7 rfl) dX6_list_93 ?_
          obtain ⟨J145, eJ145, hV⟩ := zjn_abs hV
          have hJ145 : ∀ {H : Heap} {locs : List Loc}, zS P s G H locs → ∀ (z145_0 : Int), (z145_0 = 0 ∨ z145_0 = 1) → J145 z145_0 → ∀ (ls : Array Slot), zL ls 13 [(0, .ref (zA P 5 0 0)), (1, .int (zI p0)), (2, .int (zI p1)), (3, .int (zI p2)), (4, .int (zI p3)), (5, .int (zI x1)), (6, .int (zI z91_0)), (8, .int (zI a27_8)), (9, .int (zI a27_9)), (10, .int (zI z43_0)), (11, .int (zI z61_0)), (12, .int (zI x8))] → W p l e rX6_list s m args below meth c H locs 0 0 (MQ below (zQi P Q) args s 0 0 (zAr P)) (F0 m 145 ls [.int (zI z145_0)]) := by
            intro H locs hG z145_0 hz145_0 hV ls hL
            rw [eJ145] at hV
            refine z_istore (lv' := [(7, .int (zI z145_0)), (0, .ref (zA P 5 0 0)), (1, .int (zI p0)), (2, .int (zI p1)), (3, .int (zI p2)), (4, .int (zI p3)), (5, .int (zI x1)), (6, .int (zI z91_0)), (8, .int (zI a27_8)), (9, .int (zI a27_9)), (10, .int (zI z43_0)), (11, .int (zI z61_0)), (12, .int (zI x8))]) hC hL (by decide) rfl dX6_list_145 (fun ls hL => ?_)
            refine z_iload hC (hL.at 8 rfl) dX6_list_147 ?_
            refine z_iload hC (hL.at 11 rfl) dX6_list_149 ?_
            obtain ⟨J170, eJ170, hV⟩ := zjn_abs hV
            have hJ170 : ∀ {H : Heap} {locs : List Loc}, zS P s G H locs → ∀ (z170_1 : Int), inR z170_1 → J170 z170_1 → ∀ (ls : Array Slot), zL ls 13 [(0, .ref (zA P 5 0 0)), (1, .int (zI p0)), (2, .int (zI p1)), (3, .int (zI p2)), (4, .int (zI p3)), (5, .int (zI x1)), (6, .int (zI z91_0)), (7, .int (zI z145_0)), (9, .int (zI a27_9))] → W p l e rX6_list s m args below meth c H locs 0 0 (MQ below (zQi P Q) args s 0 0 (zAr P)) (F0 m 170 ls [.int (zI z170_1), .int (zI a27_8)]) := by
              intro H locs hG z170_1 hz170_1 hV ls hL
              rw [eJ170] at hV
              refine z_ior hC dX6_list_170 ?_
              refine z_top hV (inR_toInt _) ?_
              intro x9 hx9 hV
              refine z_istore (lv' := [(8, .int (zI x9)), (0, .ref (zA P 5 0 0)), (1, .int (zI p0)), (2, .int (zI p1)), (3, .int (zI p2)), (4, .int (zI p3)), (5, .int (zI x1)), (6, .int (zI z91_0)), (7, .int (zI z145_0)), (9, .int (zI a27_9))]) hC hL (by decide) rfl dX6_list_171 (fun ls hL => ?_)
              refine z_iincV (fun x10 => [(9, .int (zI x10)), (8, .int (zI x9)), (0, .ref (zA P 5 0 0)), (1, .int (zI p0)), (2, .int (zI p1)), (3, .int (zI p2)), (4, .int (zI p3)), (5, .int (zI x1)), (6, .int (zI z91_0)), (7, .int (zI z145_0))]) hC hL (k := 9) rfl (by decide) (fun _ => rfl) hV dX6_list_173 ?_
              intro x10 hx10 hV ls hL
              refine z_goto (tgt := 27) hC dX6_list_176 (by decide) ?_
              exact hP27 z91_0 z145_0 x9 x10 hV hz91_0 hz145_0 hx9 hx10 _ _ hG _ (hL.sub [2, 3, 4, 5, 6, 7, 8, 9, 1, 0] rfl)
            obtain ⟨J169, eJ169, hV⟩ := zjn_abs hV
            have hJ169 : ∀ {H : Heap} {locs : List Loc}, zS P s G H locs → J169 () → ∀ (ls : Array Slot), zL ls 13 [(0, .ref (zA P 5 0 0)), (1, .int (zI p0)), (2, .int (zI p1)), (3, .int (zI p2)), (4, .int (zI p3)), (5, .int (zI x1)), (6, .int (zI z91_0)), (7, .int (zI z145_0)), (9, .int (zI a27_9))] → W p l e rX6_list s m args below meth c H locs 0 0 (MQ below (zQi P Q) args s 0 0 (zAr P)) (F0 m 169 ls [.int (zI a27_8)]) := by
              intro H locs hG hV ls hL
              rw [eJ169] at hV
              refine z_iconst hC dX6_list_169 ?_
              exact hJ170 hG 0 (inR_lit rfl) hV _ hL
            refine z_if_eq (tgt := 169) hC (inR_b hz61_0) hV dX6_list_151 (by decide) ?_ ?_
            · intro hV
              exact hJ169 hG hV _ (hL.sub [1, 2, 3, 4, 5, 6, 7, 0, 9] rfl)
            · intro hV
              refine z_iload hC (hL.at 12 rfl) dX6_list_154 ?_
              refine z_if_eq (tgt := 169) hC (inR_b hx8) hV dX6_list_156 (by decide) ?_ ?_
              · intro hV
                exact hJ169 hG hV _ (hL.sub [1, 2, 3, 4, 5, 6, 7, 0, 9] rfl)
              · intro hV
                refine z_aload_n hC zvr_a rfl (hL.at 1 rfl) dX6_list_159 ?_
                refine z_getA hC hG kFX6_52_6 rfl rfl dX6_list_160 ?_
                refine z_iload hC (hL.at 10 rfl) dX6_list_163 ?_
                refine z_iald hC hG rfl rfl rfl hz43_0 hV dX6_list_165 ?_
                intro x11 hx11 hV
                refine z_goto (tgt := 170) hC dX6_list_166 (by decide) ?_
                exact hJ170 hG x11 hx11 hV _ (hL.sub [1, 2, 3, 4, 5, 6, 7, 0, 9] rfl)
          obtain ⟨J144, eJ144, hV⟩ := zjn_abs hV
          have hJ144 : ∀ {H : Heap} {locs : List Loc}, zS P s G H locs → J144 () → ∀ (ls : Array Slot), zL ls 13 [(0, .ref (zA P 5 0 0)), (1, .int (zI p0)), (2, .int (zI p1)), (3, .int (zI p2)), (4, .int (zI p3)), (5, .int (zI x1)), (6, .int (zI z91_0)), (8, .int (zI a27_8)), (9, .int (zI a27_9)), (10, .int (zI z43_0)), (11, .int (zI z61_0)), (12, .int (zI x8))] → W p l e rX6_list s m args below meth c H locs 0 0 (MQ below (zQi P Q) args s 0 0 (zAr P)) (F0 m 144 ls []) := by
            intro H locs hG hV ls hL
            rw [eJ144] at hV
            refine z_iconst hC dX6_list_144 ?_
            exact hJ145 hG 0 (Or.inl rfl) hV _ hL
          refine z_if_eq (tgt := 144) hC (inR_b ha27_7) hV dX6_list_95 (by decide) ?_ ?_
          · intro hV
            exact hJ144 hG hV _ (hL.sub [1, 2, 3, 4, 5, 6, 0, 8, 9, 10, 11, 12] rfl)
          · intro hV
            refine z_iload hC (hL.at 11 rfl) dX6_list_98 ?_
            obtain ⟨J140, eJ140, hV⟩ := zjn_abs hV
            have hJ140 : ∀ {H : Heap} {locs : List Loc}, zS P s G H locs → J140 () → ∀ (ls : Array Slot), zL ls 13 [(0, .ref (zA P 5 0 0)), (1, .int (zI p0)), (2, .int (zI p1)), (3, .int (zI p2)), (4, .int (zI p3)), (5, .int (zI x1)), (6, .int (zI z91_0)), (8, .int (zI a27_8)), (9, .int (zI a27_9)), (10, .int (zI z43_0)), (11, .int (zI z61_0)), (12, .int (zI x8))] → W p l e rX6_list s m args below meth c H locs 0 0 (MQ below (zQi P Q) args s 0 0 (zAr P)) (F0 m 140 ls []) := by
              intro H locs hG hV ls hL
              rw [eJ140] at hV
              refine z_iconst hC dX6_list_140 ?_
              refine z_goto (tgt := 145) hC dX6_list_141 (by decide) ?_
              exact hJ145 hG 1 (Or.inr rfl) hV _ hL
            refine z_if_eq (tgt := 134) hC (inR_b hz61_0) hV dX6_list_100 (by decide) ?_ ?_
            · intro hV
              refine z_iload hC (hL.at 10 rfl) dX6_list_134 ?_
              refine z_iconst hC dX6_list_136 ?_
              refine z_icmp_ne (tgt := 144) hC hz43_0 (inR_lit rfl) hV dX6_list_137 (by decide) ?_ ?_
              · intro hV
                exact hJ144 hG hV _ (hL.sub [1, 2, 3, 4, 5, 6, 0, 8, 9, 10, 11, 12] rfl)
              · intro hV
                exact hJ140 hG hV _ (hL.sub [1, 2, 3, 4, 5, 6, 0, 8, 9, 10, 11, 12] rfl)
            · intro hV
              refine z_iload hC (hL.at 12 rfl) dX6_list_103 ?_
              refine z_if_eq (tgt := 144) hC (inR_b hx8) hV dX6_list_105 (by decide) ?_ ?_
              · intro hV
                exact hJ144 hG hV _ (hL.sub [1, 2, 3, 4, 5, 6, 0, 8, 9, 10, 11, 12] rfl)
              · intro hV
                refine z_aload_n hC zvr_a rfl (hL.at 1 rfl) dX6_list_108 ?_
                refine z_iload hC (hL.at 10 rfl) dX6_list_109 ?_
                refine z_iconst hC dX6_list_111 ?_
                refine z_call_z hG (zrunV (ci := 6) hC hG (Nat.le_of_ble_eq_true rfl) (Nat.le_of_ble_eq_true rfl) (zobj hG rfl (Nat.le_of_ble_eq_true rfl) (Nat.le_of_ble_eq_true rfl)) (mX6_suits l P G z43_0 hz43_0 4 (inR_lit rfl) hV) kVX6_215 rfl rfl rfl ⟨(Nat.le_of_ble_eq_true rfl), (Nat.le_of_ble_eq_true rfl)⟩ ⟨(Nat.le_of_ble_eq_true rfl), (Nat.le_of_ble_eq_true rfl)⟩ rfl ⟨zcs_0, (Nat.le_of_ble_eq_true rfl)⟩ hL.1.1 dX6_list_112) ?_
                rintro x12 _ _ _ hx12 ⟨rfl, hV⟩ hG
                refine z_if_eq (tgt := 144) hC (inR_b hx12) hV dX6_list_115 (by decide) ?_ ?_
                · intro hV
                  exact hJ144 hG hV _ (hL.sub [1, 2, 3, 4, 5, 6, 0, 8, 9, 10, 11, 12] rfl)
                · intro hV
                  refine z_aload_n hC zvr_a rfl (hL.at 1 rfl) dX6_list_118 ?_
                  refine z_getA hC hG kFX6_52_6 rfl rfl dX6_list_119 ?_
                  refine z_iload hC (hL.at 10 rfl) dX6_list_122 ?_
                  refine z_iald hC hG rfl rfl rfl hz43_0 hV dX6_list_124 ?_
                  intro x13 hx13 hV
                  refine z_iload hC (hL.at 8 rfl) dX6_list_125 ?_
                  refine z_iand hC dX6_list_127 ?_
                  refine z_if_ne (tgt := 144) hC (inR_toInt _) hV dX6_list_128 (by decide) ?_ ?_
                  · intro hV
                    exact hJ144 hG hV _ (hL.sub [1, 2, 3, 4, 5, 6, 0, 8, 9, 10, 11, 12] rfl)
                  · intro hV
                    refine z_goto (tgt := 140) hC dX6_list_131 (by decide) ?_
                    exact hJ140 hG hV _ (hL.sub [1, 2, 3, 4, 5, 6, 0, 8, 9, 10, 11, 12] rfl)
        obtain ⟨J90, eJ90, hV⟩ := zjn_abs hV
        have hJ90 : ∀ {H : Heap} {locs : List Loc}, zS P s G H locs → J90 () → ∀ (ls : Array Slot), zL ls 13 [(0, .ref (zA P 5 0 0)), (1, .int (zI p0)), (2, .int (zI p1)), (3, .int (zI p2)), (4, .int (zI p3)), (5, .int (zI x1)), (7, .int (zI a27_7)), (8, .int (zI a27_8)), (9, .int (zI a27_9)), (10, .int (zI z43_0)), (11, .int (zI z61_0)), (12, .int (zI x8))] → W p l e rX6_list s m args below meth c H locs 0 0 (MQ below (zQi P Q) args s 0 0 (zAr P)) (F0 m 90 ls []) := by
          intro H locs hG hV ls hL
          rw [eJ90] at hV
          refine z_iconst hC dX6_list_90 ?_
          exact hJ91 hG 0 (Or.inl rfl) hV _ hL
        refine z_if_eq (tgt := 90) hC (inR_b ha27_6) hV dX6_list_73 (by decide) ?_ ?_
        · intro hV
          exact hJ90 hG hV _ (hL.sub [2, 3, 4, 5, 6, 7, 9, 10, 11, 12, 1, 0] rfl)
        · intro hV
          refine z_iload hC (hL.at 1 rfl) dX6_list_76 ?_
          obtain ⟨J86, eJ86, hV⟩ := zjn_abs hV
          have hJ86 : ∀ {H : Heap} {locs : List Loc}, zS P s G H locs → J86 () → ∀ (ls : Array Slot), zL ls 13 [(0, .ref (zA P 5 0 0)), (1, .int (zI p0)), (2, .int (zI p1)), (3, .int (zI p2)), (4, .int (zI p3)), (5, .int (zI x1)), (7, .int (zI a27_7)), (8, .int (zI a27_8)), (9, .int (zI a27_9)), (10, .int (zI z43_0)), (11, .int (zI z61_0)), (12, .int (zI x8))] → W p l e rX6_list s m args below meth c H locs 0 0 (MQ below (zQi P Q) args s 0 0 (zAr P)) (F0 m 86 ls []) := by
            intro H locs hG hV ls hL
            rw [eJ86] at hV
            refine z_iconst hC dX6_list_86 ?_
            refine z_goto (tgt := 91) hC dX6_list_87 (by decide) ?_
            exact hJ91 hG 1 (Or.inr rfl) hV _ hL
          refine z_if_eq (tgt := 86) hC (inR_b hz61_0) hV dX6_list_78 (by decide) ?_ ?_
          · intro hV
            exact hJ86 hG hV _ (hL.sub [2, 3, 4, 5, 6, 7, 9, 10, 11, 12, 1, 0] rfl)
          · intro hV
            refine z_iload hC (hL.at 0 rfl) dX6_list_81 ?_
            refine z_if_eq (tgt := 90) hC (inR_b hx8) hV dX6_list_83 (by decide) ?_ ?_
            · intro hV
              exact hJ90 hG hV _ (hL.sub [2, 3, 4, 5, 6, 7, 9, 10, 11, 12, 1, 0] rfl)
            · intro hV
              exact hJ86 hG hV _ (hL.sub [2, 3, 4, 5, 6, 7, 9, 10, 11, 12, 1, 0] rfl)
      obtain ⟨J60, eJ60, hV⟩ := zjn_abs hV
      have hJ60 : ∀ {H : Heap} {locs : List Loc}, zS P s G H locs → J60 () → ∀ (ls : Array Slot), zL ls 13 [(0, .ref (zA P 5 0 0)), (1, .int (zI p0)), (2, .int (zI p1)), (3, .int (zI p2)), (4, .int (zI p3)), (5, .int (zI x1)), (6, .int (zI a27_6)), (7, .int (zI a27_7)), (8, .int (zI a27_8)), (9, .int (zI a27_9)), (10, .int (zI z43_0))] → W p l e rX6_list s m args below meth c H locs 0 0 (MQ below (zQi P Q) args s 0 0 (zAr P)) (F0 m 60 ls []) := by
        intro H locs hG hV ls hL
        rw [eJ60] at hV
        refine z_iconst hC dX6_list_60 ?_
        exact hJ61 hG 0 (Or.inl rfl) hV _ hL
      refine z_if_eq (tgt := 60) hC (inR_b hx1) hV dX6_list_47 (by decide) ?_ ?_
      · intro hV
        exact hJ60 hG hV _ (hL.sub [1, 2, 3, 4, 5, 6, 7, 8, 9, 10, 0] rfl)
      · intro hV
        refine z_iload hC (hL.at 10 rfl) dX6_list_50 ?_
        refine z_iload_n hC rfl (hL.at 2 rfl) dX6_list_52 ?_
        refine z_icmp_ge (tgt := 60) hC ha27_9 hp0 hV dX6_list_53 (by decide) ?_ ?_
        · intro hV
          exact hJ60 hG hV _ (hL.sub [1, 2, 3, 4, 5, 6, 7, 8, 9, 10, 0] rfl)
        · intro hV
          refine z_iconst hC dX6_list_56 ?_
          refine z_goto (tgt := 61) hC dX6_list_57 (by decide) ?_
          exact hJ61 hG 1 (Or.inr rfl) hV _ (hL.sub [1, 2, 3, 4, 5, 6, 7, 8, 9, 10, 0] rfl)
    refine z_if_ne (tgt := 42) hC ha27_9 hV dX6_list_35 (by decide) ?_ ?_
    · intro hV
      refine z_iload_n hC rfl (hL.at 3 rfl) dX6_list_42 ?_
      exact hJ43 hG p2 hp2 hV _ hL
    · intro hV
      refine z_iload_n hC rfl (hL.at 2 rfl) dX6_list_38 ?_
      refine z_goto (tgt := 43) hC dX6_list_39 (by decide) ?_
      exact hJ43 hG p1 hp1 hV _ hL
abbrev rX6_setView : Room := { frames := 2, cells := 0, slots := 0, locals := 34 }
def vX6_setView (p0 : Int) (p1 : Int) (p2 : Int) (p3 : Int) (p4 : Int) (G : ZG) (Q : Int → ZG → Prop) : Prop := vX6_in p1 (-9) 9 fun (x1 : Int) => zjn (fun (z50_0 : Int) => vX6_in p0 0 2 fun (x2 : Int) => zjn (fun (z76_1 : Int) => vX6_refused z76_1 G fun (x3 : Int) (G1 : ZG) => zbr (x3 = 0) (zaL G1 5 20 12 (w32 ((w32 (4 * p0)) + 3)) fun (x4 : Int) => zaS G1 5 20 12 (w32 (4 * p0)) p1 fun (G2 : ZG) => zaS G2 5 20 12 (w32 ((w32 (4 * p0)) + 1)) p2 fun (G3 : ZG) => zaS G3 5 20 12 (w32 ((w32 (4 * p0)) + 2)) p3 fun (G4 : ZG) => zaS G4 5 20 12 (w32 ((w32 (4 * p0)) + 3)) p4 fun (G5 : ZG) => zpF G5 5 54 (-1) fun (G6 : ZG) => Q x4 G6) (Q 0 G1)) fun J76 => zbr (x2 ≠ 0) (zbr (z50_0 = 0) (J76 2) (J76 0)) (J76 1)) fun J50 => zjn (fun (_ : Unit) => J50 0) fun J49 => zbr (x1 = 0) (J49 ()) (vX6_in p2 (-9) 9 fun (x5 : Int) => zbr (x5 = 0) (J49 ()) (vX6_in p3 (-9) 9 fun (x6 : Int) => zbr (x6 = 0) (J49 ()) (vX6_in p4 1 10 fun (x7 : Int) => zbr (x7 = 0) (J49 ()) (J50 1))))
set_option maxHeartbeats 4000000 in
theorem mX6_setView (l : Launch) (P : ZP) (G : ZG) (p0 : Int) (hp0 : inR p0) (p1 : Int) (hp1 : inR p1) (p2 : Int) (hp2 : inR p2) (p3 : Int) (hp3 : inR p3) (p4 : Int) (hp4 : inR p4) {Q : Int → ZG → Prop} (hV : vX6_setView p0 p1 p2 p3 p4 G Q) : Met l yX6_setView (ws_ yX6_setView cX6_setView 8 (some .int)) rX6_setView (zPc P G [.ref (zA P 5 0 0), .int (zI p0), .int (zI p1), .int (zI p2), .int (zI p3), .int (zI p4)]) (zQi P Q) 0 0 (zAr P) := by
  refine zMet RX6 (plainFor_of_name (by decide)) rfl (zcs_c rfl (zcs_c rfl (zcs_c rfl (zcs_c rfl (zcs_c rfl (zcs_c rfl zcs_0)))))) (Nat.le_of_ble_eq_true rfl) (fun p e s m args below meth c ls hC hr hk hn hG hL => ?_)
  unfold vX6_setView at hV
  refine z_iload_n hC rfl (hL.at 2 rfl) dX6_setView_0 ?_
  refine z_bipush hC rfl dX6_setView_1 ?_
  refine z_bipush hC rfl dX6_setView_3 ?_
  refine z_call_z hG (zrunS hC hG (mX6_in l P G p1 hp1 (-9) (inR_lit rfl) 9 (inR_lit rfl) hV) kSX6_171 rfl rfl rfl ⟨(Nat.le_of_ble_eq_true rfl), (Nat.le_of_ble_eq_true rfl)⟩ ⟨(Nat.le_of_ble_eq_true rfl), (Nat.le_of_ble_eq_true rfl)⟩ rfl ⟨zcs_0, (Nat.le_of_ble_eq_true rfl)⟩ hL.1.1 dX6_setView_5) ?_
  rintro x1 _ _ _ hx1 ⟨rfl, hV⟩ hG
  obtain ⟨J50, eJ50, hV⟩ := zjn_abs hV
  have hJ50 : ∀ {H : Heap} {locs : List Loc}, zS P s G H locs → ∀ (z50_0 : Int), (z50_0 = 0 ∨ z50_0 = 1) → J50 z50_0 → ∀ (ls : Array Slot), zL ls 8 [(0, .ref (zA P 5 0 0)), (1, .int (zI p0)), (2, .int (zI p1)), (3, .int (zI p2)), (4, .int (zI p3)), (5, .int (zI p4))] → W p l e rX6_setView s m args below meth c H locs 0 0 (MQ below (zQi P Q) args s 0 0 (zAr P)) (F0 m 50 ls [.int (zI z50_0)]) := by
    intro H locs hG z50_0 hz50_0 hV ls hL
    rw [eJ50] at hV
    refine z_istore (lv' := [(6, .int (zI z50_0)), (0, .ref (zA P 5 0 0)), (1, .int (zI p0)), (2, .int (zI p1)), (3, .int (zI p2)), (4, .int (zI p3)), (5, .int (zI p4))]) hC hL (by decide) rfl dX6_setView_50 (fun ls hL => ?_)
    refine z_aload_n hC zvr_a rfl (hL.at 1 rfl) dX6_setView_52 ?_
    refine z_iload_n hC rfl (hL.at 2 rfl) dX6_setView_53 ?_
    refine z_iconst hC dX6_setView_54 ?_
    refine z_iconst hC dX6_setView_55 ?_
    refine z_call_z hG (zrunS hC hG (mX6_in l P G p0 hp0 0 (inR_lit rfl) 2 (inR_lit rfl) hV) kSX6_171 rfl rfl rfl ⟨(Nat.le_of_ble_eq_true rfl), (Nat.le_of_ble_eq_true rfl)⟩ ⟨(Nat.le_of_ble_eq_true rfl), (Nat.le_of_ble_eq_true rfl)⟩ rfl ⟨(zcs_c rfl zcs_0), (Nat.le_of_ble_eq_true rfl)⟩ hL.1.1 dX6_setView_56) ?_
    rintro x2 _ _ _ hx2 ⟨rfl, hV⟩ hG
    obtain ⟨J76, eJ76, hV⟩ := zjn_abs hV
    have hJ76 : ∀ {H : Heap} {locs : List Loc}, zS P s G H locs → ∀ (z76_1 : Int), inR z76_1 → J76 z76_1 → ∀ (ls : Array Slot), zL ls 8 [(0, .ref (zA P 5 0 0)), (1, .int (zI p0)), (2, .int (zI p1)), (3, .int (zI p2)), (4, .int (zI p3)), (5, .int (zI p4))] → W p l e rX6_setView s m args below meth c H locs 0 0 (MQ below (zQi P Q) args s 0 0 (zAr P)) (F0 m 76 ls [.int (zI z76_1), .ref (zA P 5 0 0)]) := by
      intro H locs hG z76_1 hz76_1 hV ls hL
      rw [eJ76] at hV
      refine z_call_z hG (zrunV (ci := 6) hC hG (Nat.le_of_ble_eq_true rfl) (Nat.le_of_ble_eq_true rfl) (zobj hG rfl (Nat.le_of_ble_eq_true rfl) (Nat.le_of_ble_eq_true rfl)) (mX6_refused l P G z76_1 hz76_1 hV) kVX6_183 rfl rfl rfl ⟨(Nat.le_of_ble_eq_true rfl), (Nat.le_of_ble_eq_true rfl)⟩ ⟨(Nat.le_of_ble_eq_true rfl), (Nat.le_of_ble_eq_true rfl)⟩ rfl ⟨zcs_0, (Nat.le_of_ble_eq_true rfl)⟩ hL.1.1 dX6_setView_76) ?_
      rintro x3 G1 _ _ hx3 hV hG
      refine z_if_eq (tgt := 84) hC (inR_b hx3) hV dX6_setView_79 (by decide) ?_ ?_
      · intro hV
        refine z_aload_n hC zvr_a rfl (hL.at 0 rfl) dX6_setView_84 ?_
        refine z_getA hC hG kFX6_62_6 rfl rfl dX6_setView_85 ?_
        refine z_iconst hC dX6_setView_88 ?_
        refine z_iload_n hC rfl (hL.at 1 rfl) dX6_setView_89 ?_
        refine z_imul hC dX6_setView_90 ?_
        refine z_iconst hC dX6_setView_91 ?_
        refine z_iadd hC dX6_setView_92 ?_
        refine z_iald hC hG rfl rfl rfl (inR_w _) hV dX6_setView_93 ?_
        intro x4 hx4 hV
        refine z_istore (lv' := [(7, .int (zI x4)), (0, .ref (zA P 5 0 0)), (1, .int (zI p0)), (2, .int (zI p1)), (3, .int (zI p2)), (4, .int (zI p3)), (5, .int (zI p4))]) hC hL (by decide) rfl dX6_setView_94 (fun ls hL => ?_)
        refine z_aload_n hC zvr_a rfl (hL.at 1 rfl) dX6_setView_96 ?_
        refine z_getA hC hG kFX6_62_6 rfl rfl dX6_setView_97 ?_
        refine z_iconst hC dX6_setView_100 ?_
        refine z_iload_n hC rfl (hL.at 2 rfl) dX6_setView_101 ?_
        refine z_imul hC dX6_setView_102 ?_
        refine z_iload_n hC rfl (hL.at 3 rfl) dX6_setView_103 ?_
        refine z_iast hC hG rfl (Nat.le_of_ble_eq_true rfl) (Nat.le_of_ble_eq_true rfl) rfl rfl rfl (inR_w _) hp1 hV dX6_setView_104 ?_
        intro G2 _ _ hG hV
        refine z_aload_n hC zvr_a rfl (hL.at 1 rfl) dX6_setView_105 ?_
        refine z_getA hC hG kFX6_62_6 rfl rfl dX6_setView_106 ?_
        refine z_iconst hC dX6_setView_109 ?_
        refine z_iload_n hC rfl (hL.at 2 rfl) dX6_setView_110 ?_
        refine z_imul hC dX6_setView_111 ?_
        refine z_iconst hC dX6_setView_112 ?_
        refine z_iadd hC dX6_setView_113 ?_
        refine z_iload_n hC rfl (hL.at 4 rfl) dX6_setView_114 ?_
        refine z_iast hC hG rfl (Nat.le_of_ble_eq_true rfl) (Nat.le_of_ble_eq_true rfl) rfl rfl rfl (inR_w _) hp2 hV dX6_setView_115 ?_
        intro G3 _ _ hG hV
        refine z_aload_n hC zvr_a rfl (hL.at 1 rfl) dX6_setView_116 ?_
        refine z_getA hC hG kFX6_62_6 rfl rfl dX6_setView_117 ?_
        refine z_iconst hC dX6_setView_120 ?_
        refine z_iload_n hC rfl (hL.at 2 rfl) dX6_setView_121 ?_
        refine z_imul hC dX6_setView_122 ?_
        refine z_iconst hC dX6_setView_123 ?_
        refine z_iadd hC dX6_setView_124 ?_
        refine z_iload hC (hL.at 5 rfl) dX6_setView_125 ?_
        refine z_iast hC hG rfl (Nat.le_of_ble_eq_true rfl) (Nat.le_of_ble_eq_true rfl) rfl rfl rfl (inR_w _) hp3 hV dX6_setView_127 ?_
        intro G4 _ _ hG hV
        refine z_aload_n hC zvr_a rfl (hL.at 1 rfl) dX6_setView_128 ?_
        refine z_getA hC hG kFX6_62_6 rfl rfl dX6_setView_129 ?_
        refine z_iconst hC dX6_setView_132 ?_
        refine z_iload_n hC rfl (hL.at 2 rfl) dX6_setView_133 ?_
        refine z_imul hC dX6_setView_134 ?_
        refine z_iconst hC dX6_setView_135 ?_
        refine z_iadd hC dX6_setView_136 ?_
        refine z_iload hC (hL.at 6 rfl) dX6_setView_137 ?_
        refine z_iast hC hG rfl (Nat.le_of_ble_eq_true rfl) (Nat.le_of_ble_eq_true rfl) rfl rfl rfl (inR_w _) hp4 hV dX6_setView_139 ?_
        intro G5 _ _ hG hV
        refine z_aload_n hC zvr_a rfl (hL.at 1 rfl) dX6_setView_140 ?_
        refine z_iconst hC dX6_setView_141 ?_
        refine z_putF hC hG kFX6_161_6 rfl rfl rfl rfl nk_6_54 (inR_lit rfl) (Or.inl rfl) hV dX6_setView_142 ?_
        intro G6 _ _ hG hV
        refine z_iload hC (hL.at 0 rfl) dX6_setView_145 ?_
        exact z_iret hC hG hr hk hx4 hV (Nat.le_of_ble_eq_true rfl) (Nat.le_of_ble_eq_true rfl) dX6_setView_147
      · intro hV
        refine z_iconst hC dX6_setView_82 ?_
        exact z_iret hC hG hr hk (inR_lit rfl) hV (Nat.le_of_ble_eq_true rfl) (Nat.le_of_ble_eq_true rfl) dX6_setView_83
    refine z_if_ne (tgt := 66) hC (inR_b hx2) hV dX6_setView_59 (by decide) ?_ ?_
    · intro hV
      refine z_iload hC (hL.at 0 rfl) dX6_setView_66 ?_
      refine z_if_eq (tgt := 75) hC (inR_b hz50_0) hV dX6_setView_68 (by decide) ?_ ?_
      · intro hV
        refine z_iconst hC dX6_setView_75 ?_
        exact hJ76 hG 2 (inR_lit rfl) hV _ (hL.sub [1, 2, 3, 4, 5, 6] rfl)
      · intro hV
        refine z_iconst hC dX6_setView_71 ?_
        refine z_goto (tgt := 76) hC dX6_setView_72 (by decide) ?_
        exact hJ76 hG 0 (inR_lit rfl) hV _ (hL.sub [1, 2, 3, 4, 5, 6] rfl)
    · intro hV
      refine z_iconst hC dX6_setView_62 ?_
      refine z_goto (tgt := 76) hC dX6_setView_63 (by decide) ?_
      exact hJ76 hG 1 (inR_lit rfl) hV _ (hL.sub [1, 2, 3, 4, 5, 6] rfl)
  obtain ⟨J49, eJ49, hV⟩ := zjn_abs hV
  have hJ49 : ∀ {H : Heap} {locs : List Loc}, zS P s G H locs → J49 () → ∀ (ls : Array Slot), zL ls 8 [(0, .ref (zA P 5 0 0)), (1, .int (zI p0)), (2, .int (zI p1)), (3, .int (zI p2)), (4, .int (zI p3)), (5, .int (zI p4))] → W p l e rX6_setView s m args below meth c H locs 0 0 (MQ below (zQi P Q) args s 0 0 (zAr P)) (F0 m 49 ls []) := by
    intro H locs hG hV ls hL
    rw [eJ49] at hV
    refine z_iconst hC dX6_setView_49 ?_
    exact hJ50 hG 0 (Or.inl rfl) hV _ hL
  refine z_if_eq (tgt := 49) hC (inR_b hx1) hV dX6_setView_8 (by decide) ?_ ?_
  · intro hV
    exact hJ49 hG hV _ hL
  · intro hV
    refine z_iload_n hC rfl (hL.at 3 rfl) dX6_setView_11 ?_
    refine z_bipush hC rfl dX6_setView_12 ?_
    refine z_bipush hC rfl dX6_setView_14 ?_
    refine z_call_z hG (zrunS hC hG (mX6_in l P G p2 hp2 (-9) (inR_lit rfl) 9 (inR_lit rfl) hV) kSX6_171 rfl rfl rfl ⟨(Nat.le_of_ble_eq_true rfl), (Nat.le_of_ble_eq_true rfl)⟩ ⟨(Nat.le_of_ble_eq_true rfl), (Nat.le_of_ble_eq_true rfl)⟩ rfl ⟨zcs_0, (Nat.le_of_ble_eq_true rfl)⟩ hL.1.1 dX6_setView_16) ?_
    rintro x5 _ _ _ hx5 ⟨rfl, hV⟩ hG
    refine z_if_eq (tgt := 49) hC (inR_b hx5) hV dX6_setView_19 (by decide) ?_ ?_
    · intro hV
      exact hJ49 hG hV _ hL
    · intro hV
      refine z_iload hC (hL.at 4 rfl) dX6_setView_22 ?_
      refine z_bipush hC rfl dX6_setView_24 ?_
      refine z_bipush hC rfl dX6_setView_26 ?_
      refine z_call_z hG (zrunS hC hG (mX6_in l P G p3 hp3 (-9) (inR_lit rfl) 9 (inR_lit rfl) hV) kSX6_171 rfl rfl rfl ⟨(Nat.le_of_ble_eq_true rfl), (Nat.le_of_ble_eq_true rfl)⟩ ⟨(Nat.le_of_ble_eq_true rfl), (Nat.le_of_ble_eq_true rfl)⟩ rfl ⟨zcs_0, (Nat.le_of_ble_eq_true rfl)⟩ hL.1.1 dX6_setView_28) ?_
      rintro x6 _ _ _ hx6 ⟨rfl, hV⟩ hG
      refine z_if_eq (tgt := 49) hC (inR_b hx6) hV dX6_setView_31 (by decide) ?_ ?_
      · intro hV
        exact hJ49 hG hV _ hL
      · intro hV
        refine z_iload hC (hL.at 5 rfl) dX6_setView_34 ?_
        refine z_iconst hC dX6_setView_36 ?_
        refine z_bipush hC rfl dX6_setView_37 ?_
        refine z_call_z hG (zrunS hC hG (mX6_in l P G p4 hp4 1 (inR_lit rfl) 10 (inR_lit rfl) hV) kSX6_171 rfl rfl rfl ⟨(Nat.le_of_ble_eq_true rfl), (Nat.le_of_ble_eq_true rfl)⟩ ⟨(Nat.le_of_ble_eq_true rfl), (Nat.le_of_ble_eq_true rfl)⟩ rfl ⟨zcs_0, (Nat.le_of_ble_eq_true rfl)⟩ hL.1.1 dX6_setView_39) ?_
        rintro x7 _ _ _ hx7 ⟨rfl, hV⟩ hG
        refine z_if_eq (tgt := 49) hC (inR_b hx7) hV dX6_setView_42 (by decide) ?_ ?_
        · intro hV
          exact hJ49 hG hV _ hL
        · intro hV
          refine z_iconst hC dX6_setView_45 ?_
          refine z_goto (tgt := 50) hC dX6_setView_46 (by decide) ?_
          exact hJ50 hG 1 (Or.inr rfl) hV _ hL
abbrev rX6_begin : Room := { frames := 3, cells := 0, slots := 0, locals := 54 }
def vX6_begin (p0 : Int) (p1 : Int) (p2 : Int) (p3 : Int) (G : ZG) (Q : Int → ZG → Prop) : Prop := vX6_in p0 1 3 fun (x1 : Int) => zl2 (fun (P11 : Int → Int → Prop) (a11_5 : Int) (a11_6 : Int) => zbr (3 ≤ a11_6) (zjn (fun (z79_1 : Int) => vX6_refused z79_1 G fun (x2 : Int) (G1 : ZG) => zbr (x2 = 0) (zgF G1 5 23 fun (x3 : Int) => zpF G1 5 21 p0 fun (G2 : ZG) => zl2 (fun (P101 : Int → ZG → Prop) (a101_7 : Int) (K101 : ZG) => zbr (3 ≤ a101_7) (zpF K101 5 23 0 fun (G3 : ZG) => zpF G3 5 47 0 fun (G4 : ZG) => zpF G4 5 48 0 fun (G5 : ZG) => zpF G5 5 52 (-1) fun (G6 : ZG) => zpF G6 5 54 (-1) fun (G7 : ZG) => Q x3 G7) (vX6_pick p1 p2 p3 a101_7 fun (x4 : Int) => zaS K101 5 22 3 a101_7 x4 fun (G8 : ZG) => zlt1 (w32 (a101_7 + 1)) fun (x5 : Int) => P101 x5 G8)) 0 G2) (Q 0 G1)) fun J79 => zbr (a11_5 = 0) (J79 1) (J79 0)) (vX6_pick p1 p2 p3 a11_6 fun (x6 : Int) => zjn (fun (z60_0 : Int) => zlt1 (w32 (a11_6 + 1)) fun (x7 : Int) => P11 z60_0 x7) fun J60 => zjn (fun (_ : Unit) => J60 0) fun J59 => zbr (a11_5 = 0) (J59 ()) (zjn (fun (_ : Unit) => J60 1) fun J55 => zbr (p0 ≤ a11_6) (zbr (x6 ≠ 0) (J59 ()) (J55 ())) (vX6_isKind x6 fun (x8 : Int) => zbr (x8 = 0) (J59 ()) (J55 ()))))) x1 0
set_option maxHeartbeats 4000000 in
theorem mX6_begin (l : Launch) (P : ZP) (G : ZG) (p0 : Int) (hp0 : inR p0) (p1 : Int) (hp1 : inR p1) (p2 : Int) (hp2 : inR p2) (p3 : Int) (hp3 : inR p3) {Q : Int → ZG → Prop} (hV : vX6_begin p0 p1 p2 p3 G Q) : Met l yX6_begin (ws_ yX6_begin cX6_begin 8 (some .int)) rX6_begin (zPc P G [.ref (zA P 5 0 0), .int (zI p0), .int (zI p1), .int (zI p2), .int (zI p3)]) (zQi P Q) 0 0 (zAr P) := by
  refine zMet RX6 (plainFor_of_name (by decide)) rfl (zcs_c rfl (zcs_c rfl (zcs_c rfl (zcs_c rfl (zcs_c rfl zcs_0))))) (Nat.le_of_ble_eq_true rfl) (fun p e s m args below meth c ls hC hr hk hn hG hL => ?_)
  unfold vX6_begin at hV
  refine z_iload_n hC rfl (hL.at 1 rfl) dX6_begin_0 ?_
  refine z_iconst hC dX6_begin_1 ?_
  refine z_iconst hC dX6_begin_2 ?_
  refine z_call_z hG (zrunS hC hG (mX6_in l P G p0 hp0 1 (inR_lit rfl) 3 (inR_lit rfl) hV) kSX6_171 rfl rfl rfl ⟨(Nat.le_of_ble_eq_true rfl), (Nat.le_of_ble_eq_true rfl)⟩ ⟨(Nat.le_of_ble_eq_true rfl), (Nat.le_of_ble_eq_true rfl)⟩ rfl ⟨zcs_0, (Nat.le_of_ble_eq_true rfl)⟩ hL.1.1 dX6_begin_3) ?_
  rintro x1 _ _ _ hx1 ⟨rfl, hV⟩ hG
  refine z_istore (lv' := [(5, .int (zI x1)), (0, .ref (zA P 5 0 0)), (1, .int (zI p0)), (2, .int (zI p1)), (3, .int (zI p2)), (4, .int (zI p3))]) hC hL (by decide) rfl dX6_begin_6 (fun ls hL => ?_)
  refine z_iconst hC dX6_begin_8 ?_
  refine z_istore (lv' := [(6, .int (zI 0)), (5, .int (zI x1)), (0, .ref (zA P 5 0 0)), (1, .int (zI p0)), (2, .int (zI p1)), (3, .int (zI p2)), (4, .int (zI p3))]) hC hL (by decide) rfl dX6_begin_9 (fun ls hL => ?_)
  refine zl2_use hV (fun (a11_5 : Int) (a11_6 : Int) => (a11_5 = 0 ∨ a11_5 = 1) → inR a11_6 → ∀ (H : Heap) (locs : List Loc), zS P s G H locs → ∀ (ls : Array Slot), zL ls 8 [(0, .ref (zA P 5 0 0)), (1, .int (zI p0)), (2, .int (zI p1)), (3, .int (zI p2)), (4, .int (zI p3)), (5, .int (zI a11_5)), (6, .int (zI a11_6))] → W p l e rX6_begin s m args below meth c H locs 0 0 (MQ below (zQi P Q) args s 0 0 (zAr P)) (F0 m 11 ls [])) ?_ hx1 (inR_lit rfl) _ _ hG _ (hL.sub [2, 3, 4, 5, 6, 1, 0] rfl)
  intro P11 a11_5 a11_6 hP11 hV ha11_5 ha11_6 H locs hG ls hL
  refine z_iload hC (hL.at 6 rfl) dX6_begin_11 ?_
  refine z_iconst hC dX6_begin_13 ?_
  refine z_icmp_ge (tgt := 68) hC ha11_6 (inR_lit rfl) hV dX6_begin_14 (by decide) ?_ ?_
  · intro hV
    refine z_aload_n hC zvr_a rfl (hL.at 0 rfl) dX6_begin_68 ?_
    refine z_iload hC (hL.at 5 rfl) dX6_begin_69 ?_
    obtain ⟨J79, eJ79, hV⟩ := zjn_abs hV
    have hJ79 : ∀ {H : Heap} {locs : List Loc}, zS P s G H locs → ∀ (z79_1 : Int), (z79_1 = 0 ∨ z79_1 = 1) → J79 z79_1 → ∀ (ls : Array Slot), zL ls 8 [(0, .ref (zA P 5 0 0)), (1, .int (zI p0)), (2, .int (zI p1)), (3, .int (zI p2)), (4, .int (zI p3))] → W p l e rX6_begin s m args below meth c H locs 0 0 (MQ below (zQi P Q) args s 0 0 (zAr P)) (F0 m 79 ls [.int (zI z79_1), .ref (zA P 5 0 0)]) := by
      intro H locs hG z79_1 hz79_1 hV ls hL
      rw [eJ79] at hV
      refine z_call_z hG (zrunV (ci := 6) hC hG (Nat.le_of_ble_eq_true rfl) (Nat.le_of_ble_eq_true rfl) (zobj hG rfl (Nat.le_of_ble_eq_true rfl) (Nat.le_of_ble_eq_true rfl)) (mX6_refused l P G z79_1 (inR_b hz79_1) hV) kVX6_183 rfl rfl rfl ⟨(Nat.le_of_ble_eq_true rfl), (Nat.le_of_ble_eq_true rfl)⟩ ⟨(Nat.le_of_ble_eq_true rfl), (Nat.le_of_ble_eq_true rfl)⟩ rfl ⟨zcs_0, (Nat.le_of_ble_eq_true rfl)⟩ hL.1.1 dX6_begin_79) ?_
      rintro x2 G1 _ _ hx2 hV hG
      refine z_if_eq (tgt := 87) hC (inR_b hx2) hV dX6_begin_82 (by decide) ?_ ?_
      · intro hV
        refine z_aload_n hC zvr_a rfl (hL.at 0 rfl) dX6_begin_87 ?_
        refine z_getF hC hG kFX6_228_6 rfl rfl hV dX6_begin_88 ?_
        intro x3 hx3 hV
        refine z_istore (lv' := [(6, .int (zI x3)), (0, .ref (zA P 5 0 0)), (1, .int (zI p0)), (2, .int (zI p1)), (3, .int (zI p2)), (4, .int (zI p3))]) hC hL (by decide) rfl dX6_begin_91 (fun ls hL => ?_)
        refine z_aload_n hC zvr_a rfl (hL.at 1 rfl) dX6_begin_93 ?_
        refine z_iload_n hC rfl (hL.at 2 rfl) dX6_begin_94 ?_
        refine z_putF hC hG kFX6_231_6 rfl rfl rfl rfl nk_6_21 hp0 (Or.inl rfl) hV dX6_begin_95 ?_
        intro G2 _ _ hG hV
        refine z_iconst hC dX6_begin_98 ?_
        refine z_istore (lv' := [(7, .int (zI 0)), (6, .int (zI x3)), (0, .ref (zA P 5 0 0)), (1, .int (zI p0)), (2, .int (zI p1)), (3, .int (zI p2)), (4, .int (zI p3))]) hC hL (by decide) rfl dX6_begin_99 (fun ls hL => ?_)
        refine zl2_use hV (fun (a101_7 : Int) (K101 : ZG) => inR a101_7 → ∀ (H : Heap) (locs : List Loc), zS P s K101 H locs → ∀ (ls : Array Slot), zL ls 8 [(0, .ref (zA P 5 0 0)), (2, .int (zI p1)), (3, .int (zI p2)), (4, .int (zI p3)), (6, .int (zI x3)), (7, .int (zI a101_7))] → W p l e rX6_begin s m args below meth c H locs 0 0 (MQ below (zQi P Q) args s 0 0 (zAr P)) (F0 m 101 ls [])) ?_ (inR_lit rfl) _ _ hG _ (hL.sub [2, 4, 5, 6, 1, 0] rfl)
        intro P101 a101_7 K101 hP101 hV ha101_7 H locs hG ls hL
        refine z_iload hC (hL.at 5 rfl) dX6_begin_101 ?_
        refine z_iconst hC dX6_begin_103 ?_
        refine z_icmp_ge (tgt := 129) hC ha101_7 (inR_lit rfl) hV dX6_begin_104 (by decide) ?_ ?_
        · intro hV
          refine z_aload_n hC zvr_a rfl (hL.at 0 rfl) dX6_begin_129 ?_
          refine z_iconst hC dX6_begin_130 ?_
          refine z_putF hC hG kFX6_228_6 rfl rfl rfl rfl nk_6_23 (inR_lit rfl) (Or.inl rfl) hV dX6_begin_131 ?_
          intro G3 _ _ hG hV
          refine z_aload_n hC zvr_a rfl (hL.at 0 rfl) dX6_begin_134 ?_
          refine z_iconst hC dX6_begin_135 ?_
          refine z_putF hC hG kFX6_234_6 rfl rfl rfl rfl nk_6_47 (inR_lit rfl) (Or.inl rfl) hV dX6_begin_136 ?_
          intro G4 _ _ hG hV
          refine z_aload_n hC zvr_a rfl (hL.at 0 rfl) dX6_begin_139 ?_
          refine z_iconst hC dX6_begin_140 ?_
          refine z_putF hC hG kFX6_237_6 rfl rfl rfl rfl nk_6_48 (inR_lit rfl) (Or.inl rfl) hV dX6_begin_141 ?_
          intro G5 _ _ hG hV
          refine z_aload_n hC zvr_a rfl (hL.at 0 rfl) dX6_begin_144 ?_
          refine z_iconst hC dX6_begin_145 ?_
          refine z_putF hC hG kFX6_165_6 rfl rfl rfl rfl nk_6_52 (inR_lit rfl) (Or.inl rfl) hV dX6_begin_146 ?_
          intro G6 _ _ hG hV
          refine z_aload_n hC zvr_a rfl (hL.at 0 rfl) dX6_begin_149 ?_
          refine z_iconst hC dX6_begin_150 ?_
          refine z_putF hC hG kFX6_161_6 rfl rfl rfl rfl nk_6_54 (inR_lit rfl) (Or.inl rfl) hV dX6_begin_151 ?_
          intro G7 _ _ hG hV
          refine z_iload hC (hL.at 4 rfl) dX6_begin_154 ?_
          exact z_iret hC hG hr hk hx3 hV (Nat.le_of_ble_eq_true rfl) (Nat.le_of_ble_eq_true rfl) dX6_begin_156
        · intro hV
          refine z_aload_n hC zvr_a rfl (hL.at 0 rfl) dX6_begin_107 ?_
          refine z_getA hC hG kFX6_65_6 rfl rfl dX6_begin_108 ?_
          refine z_iload hC (hL.at 5 rfl) dX6_begin_111 ?_
          refine z_iload_n hC rfl (hL.at 1 rfl) dX6_begin_113 ?_
          refine z_iload_n hC rfl (hL.at 2 rfl) dX6_begin_114 ?_
          refine z_iload hC (hL.at 3 rfl) dX6_begin_115 ?_
          refine z_iload hC (hL.at 5 rfl) dX6_begin_117 ?_
          refine z_call_i hG (zrunS hC hG (mX6_pick l P K101 p1 hp1 p2 hp2 p3 hp3 a101_7 ha101_7 hV) kSX6_175 rfl rfl rfl ⟨(Nat.le_of_ble_eq_true rfl), (Nat.le_of_ble_eq_true rfl)⟩ ⟨(Nat.le_of_ble_eq_true rfl), (Nat.le_of_ble_eq_true rfl)⟩ rfl ⟨(zcs_c rfl (zcs_c rfl zcs_0)), (Nat.le_of_ble_eq_true rfl)⟩ hL.1.1 dX6_begin_119) ?_
          rintro x4 _ _ _ hx4 ⟨rfl, hV⟩ hG
          refine z_iast hC hG rfl (Nat.le_of_ble_eq_true rfl) (Nat.le_of_ble_eq_true rfl) rfl rfl rfl ha101_7 hx4 hV dX6_begin_122 ?_
          intro G8 _ _ hG hV
          refine z_iincV (fun x5 => [(7, .int (zI x5)), (0, .ref (zA P 5 0 0)), (2, .int (zI p1)), (3, .int (zI p2)), (4, .int (zI p3)), (6, .int (zI x3))]) hC hL (k := 5) rfl (by decide) (fun _ => rfl) hV dX6_begin_123 ?_
          intro x5 hx5 hV ls hL
          refine z_goto (tgt := 101) hC dX6_begin_126 (by decide) ?_
          exact hP101 x5 G8 hV hx5 _ _ hG _ (hL.sub [1, 2, 3, 4, 5, 0] rfl)
      · intro hV
        refine z_iconst hC dX6_begin_85 ?_
        exact z_iret hC hG hr hk (inR_lit rfl) hV (Nat.le_of_ble_eq_true rfl) (Nat.le_of_ble_eq_true rfl) dX6_begin_86
    refine z_if_eq (tgt := 78) hC (inR_b ha11_5) hV dX6_begin_71 (by decide) ?_ ?_
    · intro hV
      refine z_iconst hC dX6_begin_78 ?_
      exact hJ79 hG 1 (Or.inr rfl) hV _ (hL.sub [0, 1, 2, 3, 4] rfl)
    · intro hV
      refine z_iconst hC dX6_begin_74 ?_
      refine z_goto (tgt := 79) hC dX6_begin_75 (by decide) ?_
      exact hJ79 hG 0 (Or.inl rfl) hV _ (hL.sub [0, 1, 2, 3, 4] rfl)
  · intro hV
    refine z_iload_n hC rfl (hL.at 2 rfl) dX6_begin_17 ?_
    refine z_iload_n hC rfl (hL.at 3 rfl) dX6_begin_18 ?_
    refine z_iload hC (hL.at 4 rfl) dX6_begin_19 ?_
    refine z_iload hC (hL.at 6 rfl) dX6_begin_21 ?_
    refine z_call_i hG (zrunS hC hG (mX6_pick l P G p1 hp1 p2 hp2 p3 hp3 a11_6 ha11_6 hV) kSX6_175 rfl rfl rfl ⟨(Nat.le_of_ble_eq_true rfl), (Nat.le_of_ble_eq_true rfl)⟩ ⟨(Nat.le_of_ble_eq_true rfl), (Nat.le_of_ble_eq_true rfl)⟩ rfl ⟨zcs_0, (Nat.le_of_ble_eq_true rfl)⟩ hL.1.1 dX6_begin_23) ?_
    rintro x6 _ _ _ hx6 ⟨rfl, hV⟩ hG
    refine z_istore (lv' := [(7, .int (zI x6)), (0, .ref (zA P 5 0 0)), (1, .int (zI p0)), (2, .int (zI p1)), (3, .int (zI p2)), (4, .int (zI p3)), (5, .int (zI a11_5)), (6, .int (zI a11_6))]) hC hL (by decide) rfl dX6_begin_26 (fun ls hL => ?_)
    refine z_iload hC (hL.at 6 rfl) dX6_begin_28 ?_
    obtain ⟨J60, eJ60, hV⟩ := zjn_abs hV
    have hJ60 : ∀ {H : Heap} {locs : List Loc}, zS P s G H locs → ∀ (z60_0 : Int), (z60_0 = 0 ∨ z60_0 = 1) → J60 z60_0 → ∀ (ls : Array Slot), zL ls 8 [(0, .ref (zA P 5 0 0)), (1, .int (zI p0)), (2, .int (zI p1)), (3, .int (zI p2)), (4, .int (zI p3)), (6, .int (zI a11_6))] → W p l e rX6_begin s m args below meth c H locs 0 0 (MQ below (zQi P Q) args s 0 0 (zAr P)) (F0 m 60 ls [.int (zI z60_0)]) := by
      intro H locs hG z60_0 hz60_0 hV ls hL
      rw [eJ60] at hV
      refine z_istore (lv' := [(5, .int (zI z60_0)), (0, .ref (zA P 5 0 0)), (1, .int (zI p0)), (2, .int (zI p1)), (3, .int (zI p2)), (4, .int (zI p3)), (6, .int (zI a11_6))]) hC hL (by decide) rfl dX6_begin_60 (fun ls hL => ?_)
      refine z_iincV (fun x7 => [(6, .int (zI x7)), (5, .int (zI z60_0)), (0, .ref (zA P 5 0 0)), (1, .int (zI p0)), (2, .int (zI p1)), (3, .int (zI p2)), (4, .int (zI p3))]) hC hL (k := 6) rfl (by decide) (fun _ => rfl) hV dX6_begin_62 ?_
      intro x7 hx7 hV ls hL
      refine z_goto (tgt := 11) hC dX6_begin_65 (by decide) ?_
      exact hP11 z60_0 x7 hV hz60_0 hx7 _ _ hG _ (hL.sub [2, 3, 4, 5, 6, 1, 0] rfl)
    obtain ⟨J59, eJ59, hV⟩ := zjn_abs hV
    have hJ59 : ∀ {H : Heap} {locs : List Loc}, zS P s G H locs → J59 () → ∀ (ls : Array Slot), zL ls 8 [(0, .ref (zA P 5 0 0)), (1, .int (zI p0)), (2, .int (zI p1)), (3, .int (zI p2)), (4, .int (zI p3)), (6, .int (zI a11_6))] → W p l e rX6_begin s m args below meth c H locs 0 0 (MQ below (zQi P Q) args s 0 0 (zAr P)) (F0 m 59 ls []) := by
      intro H locs hG hV ls hL
      rw [eJ59] at hV
      refine z_iconst hC dX6_begin_59 ?_
      exact hJ60 hG 0 (Or.inl rfl) hV _ hL
    refine z_if_eq (tgt := 59) hC (inR_b ha11_5) hV dX6_begin_30 (by decide) ?_ ?_
    · intro hV
      exact hJ59 hG hV _ (hL.sub [1, 2, 3, 4, 5, 7] rfl)
    · intro hV
      refine z_iload hC (hL.at 7 rfl) dX6_begin_33 ?_
      refine z_iload_n hC rfl (hL.at 2 rfl) dX6_begin_35 ?_
      obtain ⟨J55, eJ55, hV⟩ := zjn_abs hV
      have hJ55 : ∀ {H : Heap} {locs : List Loc}, zS P s G H locs → J55 () → ∀ (ls : Array Slot), zL ls 8 [(0, .ref (zA P 5 0 0)), (1, .int (zI p0)), (2, .int (zI p1)), (3, .int (zI p2)), (4, .int (zI p3)), (6, .int (zI a11_6))] → W p l e rX6_begin s m args below meth c H locs 0 0 (MQ below (zQi P Q) args s 0 0 (zAr P)) (F0 m 55 ls []) := by
        intro H locs hG hV ls hL
        rw [eJ55] at hV
        refine z_iconst hC dX6_begin_55 ?_
        refine z_goto (tgt := 60) hC dX6_begin_56 (by decide) ?_
        exact hJ60 hG 1 (Or.inr rfl) hV _ hL
      refine z_icmp_ge (tgt := 50) hC ha11_6 hp0 hV dX6_begin_36 (by decide) ?_ ?_
      · intro hV
        refine z_iload hC (hL.at 0 rfl) dX6_begin_50 ?_
        refine z_if_ne (tgt := 59) hC hx6 hV dX6_begin_52 (by decide) ?_ ?_
        · intro hV
          exact hJ59 hG hV _ (hL.sub [1, 2, 3, 4, 5, 7] rfl)
        · intro hV
          exact hJ55 hG hV _ (hL.sub [1, 2, 3, 4, 5, 7] rfl)
      · intro hV
        refine z_iload hC (hL.at 0 rfl) dX6_begin_39 ?_
        refine z_call_z hG (zrunS hC hG (mX6_isKind l P G x6 hx6 hV) kSX6_179 rfl rfl rfl ⟨(Nat.le_of_ble_eq_true rfl), (Nat.le_of_ble_eq_true rfl)⟩ ⟨(Nat.le_of_ble_eq_true rfl), (Nat.le_of_ble_eq_true rfl)⟩ rfl ⟨zcs_0, (Nat.le_of_ble_eq_true rfl)⟩ hL.1.1 dX6_begin_41) ?_
        rintro x8 _ _ _ hx8 ⟨rfl, hV⟩ hG
        refine z_if_eq (tgt := 59) hC (inR_b hx8) hV dX6_begin_44 (by decide) ?_ ?_
        · intro hV
          exact hJ59 hG hV _ (hL.sub [1, 2, 3, 4, 5, 7] rfl)
        · intro hV
          refine z_goto (tgt := 55) hC dX6_begin_47 (by decide) ?_
          exact hJ55 hG hV _ (hL.sub [1, 2, 3, 4, 5, 7] rfl)
abbrev rX6_copyCase : Room := { frames := 1, cells := 0, slots := 0, locals := 12 }
def vX6_copyCase (p0 : Int) (p1 : Int) (G : ZG) (Q : ZG → Prop) : Prop := zl2 (fun (P2 : Int → ZG → Prop) (a2_3 : Int) (K2 : ZG) => zbr (3 ≤ a2_3) (zaL K2 5 25 8 p0 fun (x1 : Int) => zaS K2 5 25 8 p1 x1 fun (G1 : ZG) => zaL G1 5 26 8 p0 fun (x2 : Int) => zaS G1 5 26 8 p1 x2 fun (G2 : ZG) => zaL G2 5 27 8 p0 fun (x3 : Int) => zaS G2 5 27 8 p1 x3 fun (G3 : ZG) => zaL G3 5 28 8 p0 fun (x4 : Int) => zaS G3 5 28 8 p1 x4 fun (G4 : ZG) => zaL G4 5 29 8 p0 fun (x5 : Int) => zaS G4 5 29 8 p1 x5 fun (G5 : ZG) => Q G5) (zaL K2 5 24 24 (w32 ((w32 (3 * p0)) + a2_3)) fun (x6 : Int) => zaS K2 5 24 24 (w32 ((w32 (3 * p1)) + a2_3)) x6 fun (G6 : ZG) => zlt1 (w32 (a2_3 + 1)) fun (x7 : Int) => P2 x7 G6)) 0 G
set_option maxHeartbeats 4000000 in
theorem mX6_copyCase (l : Launch) (P : ZP) (G : ZG) (p0 : Int) (hp0 : inR p0) (p1 : Int) (hp1 : inR p1) {Q : ZG → Prop} (hV : vX6_copyCase p0 p1 G Q) : Met l yX6_copyCase (ws_ yX6_copyCase cX6_copyCase 4 none) rX6_copyCase (zPc P G [.ref (zA P 5 0 0), .int (zI p0), .int (zI p1)]) (zQv P Q) 0 0 (zAr P) := by
  refine zMet RX6 (plainFor_of_name (by decide)) rfl (zcs_c rfl (zcs_c rfl (zcs_c rfl zcs_0))) (Nat.le_of_ble_eq_true rfl) (fun p e s m args below meth c ls hC hr hk hn hG hL => ?_)
  unfold vX6_copyCase at hV
  refine z_iconst hC dX6_copyCase_0 ?_
  refine z_istore_n (lv' := [(3, .int (zI 0)), (0, .ref (zA P 5 0 0)), (1, .int (zI p0)), (2, .int (zI p1))]) hC rfl hL (by decide) rfl dX6_copyCase_1 (fun ls hL => ?_)
  refine zl2_use hV (fun (a2_3 : Int) (K2 : ZG) => inR a2_3 → ∀ (H : Heap) (locs : List Loc), zS P s K2 H locs → ∀ (ls : Array Slot), zL ls 4 [(0, .ref (zA P 5 0 0)), (1, .int (zI p0)), (2, .int (zI p1)), (3, .int (zI a2_3))] → W p l e rX6_copyCase s m args below meth c H locs 0 0 (MQ below (zQv P Q) args s 0 0 (zAr P)) (F0 m 2 ls [])) ?_ (inR_lit rfl) _ _ hG _ (hL.sub [1, 2, 3, 0] rfl)
  intro P2 a2_3 K2 hP2 hV ha2_3 H locs hG ls hL
  refine z_iload_n hC rfl (hL.at 3 rfl) dX6_copyCase_2 ?_
  refine z_iconst hC dX6_copyCase_3 ?_
  refine z_icmp_ge (tgt := 33) hC ha2_3 (inR_lit rfl) hV dX6_copyCase_4 (by decide) ?_ ?_
  · intro hV
    refine z_aload_n hC zvr_a rfl (hL.at 0 rfl) dX6_copyCase_33 ?_
    refine z_getA hC hG kFX6_71_6 rfl rfl dX6_copyCase_34 ?_
    refine z_iload_n hC rfl (hL.at 2 rfl) dX6_copyCase_37 ?_
    refine z_aload_n hC zvr_a rfl (hL.at 0 rfl) dX6_copyCase_38 ?_
    refine z_getA hC hG kFX6_71_6 rfl rfl dX6_copyCase_39 ?_
    refine z_iload_n hC rfl (hL.at 1 rfl) dX6_copyCase_42 ?_
    refine z_iald hC hG rfl rfl rfl hp0 hV dX6_copyCase_43 ?_
    intro x1 hx1 hV
    refine z_iast hC hG rfl (Nat.le_of_ble_eq_true rfl) (Nat.le_of_ble_eq_true rfl) rfl rfl rfl hp1 hx1 hV dX6_copyCase_44 ?_
    intro G1 _ _ hG hV
    refine z_aload_n hC zvr_a rfl (hL.at 0 rfl) dX6_copyCase_45 ?_
    refine z_getA hC hG kFX6_74_6 rfl rfl dX6_copyCase_46 ?_
    refine z_iload_n hC rfl (hL.at 2 rfl) dX6_copyCase_49 ?_
    refine z_aload_n hC zvr_a rfl (hL.at 0 rfl) dX6_copyCase_50 ?_
    refine z_getA hC hG kFX6_74_6 rfl rfl dX6_copyCase_51 ?_
    refine z_iload_n hC rfl (hL.at 1 rfl) dX6_copyCase_54 ?_
    refine z_iald hC hG rfl rfl rfl hp0 hV dX6_copyCase_55 ?_
    intro x2 hx2 hV
    refine z_iast hC hG rfl (Nat.le_of_ble_eq_true rfl) (Nat.le_of_ble_eq_true rfl) rfl rfl rfl hp1 hx2 hV dX6_copyCase_56 ?_
    intro G2 _ _ hG hV
    refine z_aload_n hC zvr_a rfl (hL.at 0 rfl) dX6_copyCase_57 ?_
    refine z_getA hC hG kFX6_77_6 rfl rfl dX6_copyCase_58 ?_
    refine z_iload_n hC rfl (hL.at 2 rfl) dX6_copyCase_61 ?_
    refine z_aload_n hC zvr_a rfl (hL.at 0 rfl) dX6_copyCase_62 ?_
    refine z_getA hC hG kFX6_77_6 rfl rfl dX6_copyCase_63 ?_
    refine z_iload_n hC rfl (hL.at 1 rfl) dX6_copyCase_66 ?_
    refine z_iald hC hG rfl rfl rfl hp0 hV dX6_copyCase_67 ?_
    intro x3 hx3 hV
    refine z_iast hC hG rfl (Nat.le_of_ble_eq_true rfl) (Nat.le_of_ble_eq_true rfl) rfl rfl rfl hp1 hx3 hV dX6_copyCase_68 ?_
    intro G3 _ _ hG hV
    refine z_aload_n hC zvr_a rfl (hL.at 0 rfl) dX6_copyCase_69 ?_
    refine z_getA hC hG kFX6_80_6 rfl rfl dX6_copyCase_70 ?_
    refine z_iload_n hC rfl (hL.at 2 rfl) dX6_copyCase_73 ?_
    refine z_aload_n hC zvr_a rfl (hL.at 0 rfl) dX6_copyCase_74 ?_
    refine z_getA hC hG kFX6_80_6 rfl rfl dX6_copyCase_75 ?_
    refine z_iload_n hC rfl (hL.at 1 rfl) dX6_copyCase_78 ?_
    refine z_iald hC hG rfl rfl rfl hp0 hV dX6_copyCase_79 ?_
    intro x4 hx4 hV
    refine z_iast hC hG rfl (Nat.le_of_ble_eq_true rfl) (Nat.le_of_ble_eq_true rfl) rfl rfl rfl hp1 hx4 hV dX6_copyCase_80 ?_
    intro G4 _ _ hG hV
    refine z_aload_n hC zvr_a rfl (hL.at 0 rfl) dX6_copyCase_81 ?_
    refine z_getA hC hG kFX6_83_6 rfl rfl dX6_copyCase_82 ?_
    refine z_iload_n hC rfl (hL.at 2 rfl) dX6_copyCase_85 ?_
    refine z_aload_n hC zvr_a rfl (hL.at 0 rfl) dX6_copyCase_86 ?_
    refine z_getA hC hG kFX6_83_6 rfl rfl dX6_copyCase_87 ?_
    refine z_iload_n hC rfl (hL.at 1 rfl) dX6_copyCase_90 ?_
    refine z_iald hC hG rfl rfl rfl hp0 hV dX6_copyCase_91 ?_
    intro x5 hx5 hV
    refine z_iast hC hG rfl (Nat.le_of_ble_eq_true rfl) (Nat.le_of_ble_eq_true rfl) rfl rfl rfl hp1 hx5 hV dX6_copyCase_92 ?_
    intro G5 _ _ hG hV
    exact z_vret hC hG hr hk hV (Nat.le_of_ble_eq_true rfl) (Nat.le_of_ble_eq_true rfl) dX6_copyCase_93
  · intro hV
    refine z_aload_n hC zvr_a rfl (hL.at 0 rfl) dX6_copyCase_7 ?_
    refine z_getA hC hG kFX6_68_6 rfl rfl dX6_copyCase_8 ?_
    refine z_iconst hC dX6_copyCase_11 ?_
    refine z_iload_n hC rfl (hL.at 2 rfl) dX6_copyCase_12 ?_
    refine z_imul hC dX6_copyCase_13 ?_
    refine z_iload_n hC rfl (hL.at 3 rfl) dX6_copyCase_14 ?_
    refine z_iadd hC dX6_copyCase_15 ?_
    refine z_aload_n hC zvr_a rfl (hL.at 0 rfl) dX6_copyCase_16 ?_
    refine z_getA hC hG kFX6_68_6 rfl rfl dX6_copyCase_17 ?_
    refine z_iconst hC dX6_copyCase_20 ?_
    refine z_iload_n hC rfl (hL.at 1 rfl) dX6_copyCase_21 ?_
    refine z_imul hC dX6_copyCase_22 ?_
    refine z_iload_n hC rfl (hL.at 3 rfl) dX6_copyCase_23 ?_
    refine z_iadd hC dX6_copyCase_24 ?_
    refine z_iald hC hG rfl rfl rfl (inR_w _) hV dX6_copyCase_25 ?_
    intro x6 hx6 hV
    refine z_iast hC hG rfl (Nat.le_of_ble_eq_true rfl) (Nat.le_of_ble_eq_true rfl) rfl rfl rfl (inR_w _) hx6 hV dX6_copyCase_26 ?_
    intro G6 _ _ hG hV
    refine z_iincV (fun x7 => [(3, .int (zI x7)), (0, .ref (zA P 5 0 0)), (1, .int (zI p0)), (2, .int (zI p1))]) hC hL (k := 3) rfl (by decide) (fun _ => rfl) hV dX6_copyCase_27 ?_
    intro x7 hx7 hV ls hL
    refine z_goto (tgt := 2) hC dX6_copyCase_30 (by decide) ?_
    exact hP2 x7 G6 hV hx7 _ _ hG _ (hL.sub [1, 2, 3, 0] rfl)
abbrev rX6_open : Room := { frames := 2, cells := 0, slots := 0, locals := 35 }
def vX6_open (p0 : Int) (G : ZG) (Q : ZG → Prop) : Prop := zgF G 5 23 fun (x1 : Int) => zl2 (fun (P5 : Int → ZG → Prop) (a5_2 : Int) (K5 : ZG) => zbr (a5_2 ≤ p0) (zgF K5 5 23 fun (x2 : Int) => zpF K5 5 23 (w32 (x2 + 1)) fun (G1 : ZG) => zaS G1 5 29 8 p0 0 fun (G2 : ZG) => zaS G2 5 26 8 p0 (-1) fun (G3 : ZG) => zpF G3 5 54 (-1) fun (G4 : ZG) => Q G4) (vX6_copyCase (w32 (a5_2 - 1)) a5_2 K5 fun (G5 : ZG) => zlt1 (w32 (a5_2 + (-1))) fun (x3 : Int) => P5 x3 G5)) x1 G
set_option maxHeartbeats 4000000 in
theorem mX6_open (l : Launch) (P : ZP) (G : ZG) (p0 : Int) (hp0 : inR p0) {Q : ZG → Prop} (hV : vX6_open p0 G Q) : Met l yX6_open (ws_ yX6_open cX6_open 3 none) rX6_open (zPc P G [.ref (zA P 5 0 0), .int (zI p0)]) (zQv P Q) 0 0 (zAr P) := by
  refine zMet RX6 (plainFor_of_name (by decide)) rfl (zcs_c rfl (zcs_c rfl zcs_0)) (Nat.le_of_ble_eq_true rfl) (fun p e s m args below meth c ls hC hr hk hn hG hL => ?_)
  unfold vX6_open at hV
  refine z_aload_n hC zvr_a rfl (hL.at 0 rfl) dX6_open_0 ?_
  refine z_getF hC hG kFX6_228_6 rfl rfl hV dX6_open_1 ?_
  intro x1 hx1 hV
  refine z_istore_n (lv' := [(2, .int (zI x1)), (0, .ref (zA P 5 0 0)), (1, .int (zI p0))]) hC rfl hL (by decide) rfl dX6_open_4 (fun ls hL => ?_)
  refine zl2_use hV (fun (a5_2 : Int) (K5 : ZG) => inR a5_2 → ∀ (H : Heap) (locs : List Loc), zS P s K5 H locs → ∀ (ls : Array Slot), zL ls 3 [(0, .ref (zA P 5 0 0)), (1, .int (zI p0)), (2, .int (zI a5_2))] → W p l e rX6_open s m args below meth c H locs 0 0 (MQ below (zQv P Q) args s 0 0 (zAr P)) (F0 m 5 ls [])) ?_ hx1 _ _ hG _ (hL.sub [1, 2, 0] rfl)
  intro P5 a5_2 K5 hP5 hV ha5_2 H locs hG ls hL
  refine z_iload_n hC rfl (hL.at 2 rfl) dX6_open_5 ?_
  refine z_iload_n hC rfl (hL.at 1 rfl) dX6_open_6 ?_
  refine z_icmp_le (tgt := 24) hC ha5_2 hp0 hV dX6_open_7 (by decide) ?_ ?_
  · intro hV
    refine z_aload_n hC zvr_a rfl (hL.at 0 rfl) dX6_open_24 ?_
    refine z_dup hC rfl dX6_open_25 ?_
    refine z_getF hC hG kFX6_228_6 rfl rfl hV dX6_open_26 ?_
    intro x2 hx2 hV
    refine z_iconst hC dX6_open_29 ?_
    refine z_iadd hC dX6_open_30 ?_
    refine z_putF hC hG kFX6_228_6 rfl rfl rfl rfl nk_6_23 (inR_w _) (Or.inl rfl) hV dX6_open_31 ?_
    intro G1 _ _ hG hV
    refine z_aload_n hC zvr_a rfl (hL.at 0 rfl) dX6_open_34 ?_
    refine z_getA hC hG kFX6_83_6 rfl rfl dX6_open_35 ?_
    refine z_iload_n hC rfl (hL.at 1 rfl) dX6_open_38 ?_
    refine z_iconst hC dX6_open_39 ?_
    refine z_iast hC hG rfl (Nat.le_of_ble_eq_true rfl) (Nat.le_of_ble_eq_true rfl) rfl rfl rfl hp0 (inR_lit rfl) hV dX6_open_40 ?_
    intro G2 _ _ hG hV
    refine z_aload_n hC zvr_a rfl (hL.at 0 rfl) dX6_open_41 ?_
    refine z_getA hC hG kFX6_74_6 rfl rfl dX6_open_42 ?_
    refine z_iload_n hC rfl (hL.at 1 rfl) dX6_open_45 ?_
    refine z_iconst hC dX6_open_46 ?_
    refine z_iast hC hG rfl (Nat.le_of_ble_eq_true rfl) (Nat.le_of_ble_eq_true rfl) rfl rfl rfl hp0 (inR_lit rfl) hV dX6_open_47 ?_
    intro G3 _ _ hG hV
    refine z_aload_n hC zvr_a rfl (hL.at 0 rfl) dX6_open_48 ?_
    refine z_iconst hC dX6_open_49 ?_
    refine z_putF hC hG kFX6_161_6 rfl rfl rfl rfl nk_6_54 (inR_lit rfl) (Or.inl rfl) hV dX6_open_50 ?_
    intro G4 _ _ hG hV
    exact z_vret hC hG hr hk hV (Nat.le_of_ble_eq_true rfl) (Nat.le_of_ble_eq_true rfl) dX6_open_53
  · intro hV
    refine z_aload_n hC zvr_a rfl (hL.at 0 rfl) dX6_open_10 ?_
    refine z_iload_n hC rfl (hL.at 2 rfl) dX6_open_11 ?_
    refine z_iconst hC dX6_open_12 ?_
    refine z_isub hC dX6_open_13 ?_
    refine z_iload_n hC rfl (hL.at 2 rfl) dX6_open_14 ?_
    refine z_call_v hG (zrunV (ci := 6) hC hG (Nat.le_of_ble_eq_true rfl) (Nat.le_of_ble_eq_true rfl) (zobj hG rfl (Nat.le_of_ble_eq_true rfl) (Nat.le_of_ble_eq_true rfl)) (mX6_copyCase l P K5 (w32 (a5_2 - 1)) (inR_w _) a5_2 ha5_2 hV) kVX6_240 rfl rfl rfl ⟨(Nat.le_of_ble_eq_true rfl), (Nat.le_of_ble_eq_true rfl)⟩ ⟨(Nat.le_of_ble_eq_true rfl), (Nat.le_of_ble_eq_true rfl)⟩ rfl ⟨zcs_0, (Nat.le_of_ble_eq_true rfl)⟩ hL.1.1 dX6_open_15) ?_
    rintro G5 _ _ hV hG
    refine z_iincV (fun x3 => [(2, .int (zI x3)), (0, .ref (zA P 5 0 0)), (1, .int (zI p0))]) hC hL (k := 2) rfl (by decide) (fun _ => rfl) hV dX6_open_18 ?_
    intro x3 hx3 hV ls hL
    refine z_goto (tgt := 5) hC dX6_open_21 (by decide) ?_
    exact hP5 x3 G5 hV hx3 _ _ hG _ (hL.sub [1, 2, 0] rfl)
abbrev rX6_add : Room := { frames := 3, cells := 0, slots := 0, locals := 57 }
def vX6_add (p0 : Int) (p1 : Int) (p2 : Int) (p3 : Int) (G : ZG) (Q : Int → ZG → Prop) : Prop := vX6_in p3 0 99 fun (x1 : Int) => zl4 (fun (P19 : Int → Int → Int → Int → Prop) (a19_5 : Int) (a19_6 : Int) (a19_7 : Int) (a19_8 : Int) => zbr (3 ≤ a19_8) (zjn (fun (z213_1 : Int) => vX6_refused z213_1 G fun (x2 : Int) (G1 : ZG) => zbr (x2 = 0) (zgF G1 5 23 fun (x3 : Int) => vX6_open x3 G1 fun (G2 : ZG) => zl2 (fun (P236 : Int → ZG → Prop) (a236_9 : Int) (K236 : ZG) => zbr (3 ≤ a236_9) (zaS K236 5 25 8 x3 p3 fun (G3 : ZG) => Q x3 G3) (vX6_pick p0 p1 p2 a236_9 fun (x4 : Int) => zaS K236 5 24 24 (w32 ((w32 (3 * x3)) + a236_9)) x4 fun (G4 : ZG) => zlt1 (w32 (a236_9 + 1)) fun (x5 : Int) => P236 x5 G4)) 0 G2) (Q 0 G1)) fun J213 => zbr (a19_5 ≠ 0) (zbr (a19_6 ≠ 0) (zgF G 5 21 fun (x6 : Int) => zjn (fun (_ : Unit) => J213 3) fun J208 => zbr (x6 = 0) (J208 ()) (zgF G 5 23 fun (x7 : Int) => zbr (x7 ≠ 8) (J213 0) (J208 ()))) (J213 2)) (J213 1)) (vX6_pick p0 p1 p2 a19_8 fun (x8 : Int) => zgF G 5 21 fun (x9 : Int) => zjn (fun (z49_0 : Int) => vX6_isPattern x8 G fun (x10 : Int) => zjn (fun (z79_0 : Int) => zjn (fun (z139_0 : Int) => zjn (fun (z164_1 : Int) => zlt1 (bOr a19_7 z164_1) fun (x11 : Int) => zlt1 (w32 (a19_8 + 1)) fun (x12 : Int) => P19 z79_0 z139_0 x11 x12) fun J164 => zjn (fun (_ : Unit) => J164 0) fun J163 => zbr (z49_0 = 0) (J163 ()) (zbr (x10 = 0) (J163 ()) (zaL G 5 17 60 x8 fun (x13 : Int) => J164 x13))) fun J139 => zjn (fun (_ : Unit) => J139 0) fun J138 => zbr (a19_6 = 0) (J138 ()) (zjn (fun (_ : Unit) => J139 1) fun J134 => zbr (z49_0 = 0) (zbr (x8 ≠ (-1)) (J138 ()) (J134 ())) (zbr (x10 = 0) (J138 ()) (zaL G 5 22 3 a19_8 fun (x14 : Int) => vX6_suits x8 x14 G fun (x15 : Int) => zbr (x15 = 0) (J138 ()) (zaL G 5 17 60 x8 fun (x16 : Int) => zbr (bAnd x16 a19_7 ≠ 0) (J138 ()) (J134 ())))))) fun J79 => zjn (fun (_ : Unit) => J79 0) fun J78 => zbr (a19_5 = 0) (J78 ()) (zjn (fun (_ : Unit) => J79 1) fun J74 => zbr (z49_0 = 0) (J74 ()) (zbr (x10 = 0) (J78 ()) (J74 ())))) fun J49 => zbr (x9 ≤ a19_8) (J49 0) (J49 1))) 1 x1 0 0
set_option maxHeartbeats 4000000 in
theorem mX6_add (l : Launch) (P : ZP) (G : ZG) (p0 : Int) (hp0 : inR p0) (p1 : Int) (hp1 : inR p1) (p2 : Int) (hp2 : inR p2) (p3 : Int) (hp3 : inR p3) {Q : Int → ZG → Prop} (hV : vX6_add p0 p1 p2 p3 G Q) : Met l yX6_add (ws_ yX6_add cX6_add 12 (some .int)) rX6_add (zPc P G [.ref (zA P 5 0 0), .int (zI p0), .int (zI p1), .int (zI p2), .int (zI p3)]) (zQi P Q) 0 0 (zAr P) := by
  refine zMet RX6 (plainFor_of_name (by decide)) rfl (zcs_c rfl (zcs_c rfl (zcs_c rfl (zcs_c rfl (zcs_c rfl zcs_0))))) (Nat.le_of_ble_eq_true rfl) (fun p e s m args below meth c ls hC hr hk hn hG hL => ?_)
  unfold vX6_add at hV
  refine z_iconst hC dX6_add_0 ?_
  refine z_istore (lv' := [(5, .int (zI 1)), (0, .ref (zA P 5 0 0)), (1, .int (zI p0)), (2, .int (zI p1)), (3, .int (zI p2)), (4, .int (zI p3))]) hC hL (by decide) rfl dX6_add_1 (fun ls hL => ?_)
  refine z_iload hC (hL.at 5 rfl) dX6_add_3 ?_
  refine z_iconst hC dX6_add_5 ?_
  refine z_bipush hC rfl dX6_add_6 ?_
  refine z_call_z hG (zrunS hC hG (mX6_in l P G p3 hp3 0 (inR_lit rfl) 99 (inR_lit rfl) hV) kSX6_171 rfl rfl rfl ⟨(Nat.le_of_ble_eq_true rfl), (Nat.le_of_ble_eq_true rfl)⟩ ⟨(Nat.le_of_ble_eq_true rfl), (Nat.le_of_ble_eq_true rfl)⟩ rfl ⟨zcs_0, (Nat.le_of_ble_eq_true rfl)⟩ hL.1.1 dX6_add_8) ?_
  rintro x1 _ _ _ hx1 ⟨rfl, hV⟩ hG
  refine z_istore (lv' := [(6, .int (zI x1)), (5, .int (zI 1)), (0, .ref (zA P 5 0 0)), (1, .int (zI p0)), (2, .int (zI p1)), (3, .int (zI p2)), (4, .int (zI p3))]) hC hL (by decide) rfl dX6_add_11 (fun ls hL => ?_)
  refine z_iconst hC dX6_add_13 ?_
  refine z_istore (lv' := [(7, .int (zI 0)), (6, .int (zI x1)), (5, .int (zI 1)), (0, .ref (zA P 5 0 0)), (1, .int (zI p0)), (2, .int (zI p1)), (3, .int (zI p2)), (4, .int (zI p3))]) hC hL (by decide) rfl dX6_add_14 (fun ls hL => ?_)
  refine z_iconst hC dX6_add_16 ?_
  refine z_istore (lv' := [(8, .int (zI 0)), (7, .int (zI 0)), (6, .int (zI x1)), (5, .int (zI 1)), (0, .ref (zA P 5 0 0)), (1, .int (zI p0)), (2, .int (zI p1)), (3, .int (zI p2)), (4, .int (zI p3))]) hC hL (by decide) rfl dX6_add_17 (fun ls hL => ?_)
  refine zl4_use hV (fun (a19_5 : Int) (a19_6 : Int) (a19_7 : Int) (a19_8 : Int) => (a19_5 = 0 ∨ a19_5 = 1) → (a19_6 = 0 ∨ a19_6 = 1) → inR a19_7 → inR a19_8 → ∀ (H : Heap) (locs : List Loc), zS P s G H locs → ∀ (ls : Array Slot), zL ls 12 [(0, .ref (zA P 5 0 0)), (1, .int (zI p0)), (2, .int (zI p1)), (3, .int (zI p2)), (4, .int (zI p3)), (5, .int (zI a19_5)), (6, .int (zI a19_6)), (7, .int (zI a19_7)), (8, .int (zI a19_8))] → W p l e rX6_add s m args below meth c H locs 0 0 (MQ below (zQi P Q) args s 0 0 (zAr P)) (F0 m 19 ls [])) ?_ (Or.inr rfl) hx1 (inR_lit rfl) (inR_lit rfl) _ _ hG _ (hL.sub [4, 5, 6, 7, 8, 3, 2, 1, 0] rfl)
  intro P19 a19_5 a19_6 a19_7 a19_8 hP19 hV ha19_5 ha19_6 ha19_7 ha19_8 H locs hG ls hL
  refine z_iload hC (hL.at 8 rfl) dX6_add_19 ?_
  refine z_iconst hC dX6_add_21 ?_
  refine z_icmp_ge (tgt := 173) hC ha19_8 (inR_lit rfl) hV dX6_add_22 (by decide) ?_ ?_
  · intro hV
    refine z_aload_n hC zvr_a rfl (hL.at 0 rfl) dX6_add_173 ?_
    refine z_iload hC (hL.at 5 rfl) dX6_add_174 ?_
    obtain ⟨J213, eJ213, hV⟩ := zjn_abs hV
    have hJ213 : ∀ {H : Heap} {locs : List Loc}, zS P s G H locs → ∀ (z213_1 : Int), inR z213_1 → J213 z213_1 → ∀ (ls : Array Slot), zL ls 12 [(0, .ref (zA P 5 0 0)), (1, .int (zI p0)), (2, .int (zI p1)), (3, .int (zI p2)), (4, .int (zI p3))] → W p l e rX6_add s m args below meth c H locs 0 0 (MQ below (zQi P Q) args s 0 0 (zAr P)) (F0 m 213 ls [.int (zI z213_1), .ref (zA P 5 0 0)]) := by
      intro H locs hG z213_1 hz213_1 hV ls hL
      rw [eJ213] at hV
      refine z_call_z hG (zrunV (ci := 6) hC hG (Nat.le_of_ble_eq_true rfl) (Nat.le_of_ble_eq_true rfl) (zobj hG rfl (Nat.le_of_ble_eq_true rfl) (Nat.le_of_ble_eq_true rfl)) (mX6_refused l P G z213_1 hz213_1 hV) kVX6_183 rfl rfl rfl ⟨(Nat.le_of_ble_eq_true rfl), (Nat.le_of_ble_eq_true rfl)⟩ ⟨(Nat.le_of_ble_eq_true rfl), (Nat.le_of_ble_eq_true rfl)⟩ rfl ⟨zcs_0, (Nat.le_of_ble_eq_true rfl)⟩ hL.1.1 dX6_add_213) ?_
      rintro x2 G1 _ _ hx2 hV hG
      refine z_if_eq (tgt := 221) hC (inR_b hx2) hV dX6_add_216 (by decide) ?_ ?_
      · intro hV
        refine z_aload_n hC zvr_a rfl (hL.at 0 rfl) dX6_add_221 ?_
        refine z_getF hC hG kFX6_228_6 rfl rfl hV dX6_add_222 ?_
        intro x3 hx3 hV
        refine z_istore (lv' := [(8, .int (zI x3)), (0, .ref (zA P 5 0 0)), (1, .int (zI p0)), (2, .int (zI p1)), (3, .int (zI p2)), (4, .int (zI p3))]) hC hL (by decide) rfl dX6_add_225 (fun ls hL => ?_)
        refine z_aload_n hC zvr_a rfl (hL.at 1 rfl) dX6_add_227 ?_
        refine z_iload hC (hL.at 0 rfl) dX6_add_228 ?_
        refine z_call_v hG (zrunV (ci := 6) hC hG (Nat.le_of_ble_eq_true rfl) (Nat.le_of_ble_eq_true rfl) (zobj hG rfl (Nat.le_of_ble_eq_true rfl) (Nat.le_of_ble_eq_true rfl)) (mX6_open l P G1 x3 hx3 hV) kVX6_244 rfl rfl rfl ⟨(Nat.le_of_ble_eq_true rfl), (Nat.le_of_ble_eq_true rfl)⟩ ⟨(Nat.le_of_ble_eq_true rfl), (Nat.le_of_ble_eq_true rfl)⟩ rfl ⟨zcs_0, (Nat.le_of_ble_eq_true rfl)⟩ hL.1.1 dX6_add_230) ?_
        rintro G2 _ _ hV hG
        refine z_iconst hC dX6_add_233 ?_
        refine z_istore (lv' := [(9, .int (zI 0)), (8, .int (zI x3)), (0, .ref (zA P 5 0 0)), (1, .int (zI p0)), (2, .int (zI p1)), (3, .int (zI p2)), (4, .int (zI p3))]) hC hL (by decide) rfl dX6_add_234 (fun ls hL => ?_)
        refine zl2_use hV (fun (a236_9 : Int) (K236 : ZG) => inR a236_9 → ∀ (H : Heap) (locs : List Loc), zS P s K236 H locs → ∀ (ls : Array Slot), zL ls 12 [(0, .ref (zA P 5 0 0)), (1, .int (zI p0)), (2, .int (zI p1)), (3, .int (zI p2)), (4, .int (zI p3)), (8, .int (zI x3)), (9, .int (zI a236_9))] → W p l e rX6_add s m args below meth c H locs 0 0 (MQ below (zQi P Q) args s 0 0 (zAr P)) (F0 m 236 ls [])) ?_ (inR_lit rfl) _ _ hG _ (hL.sub [2, 3, 4, 5, 6, 1, 0] rfl)
        intro P236 a236_9 K236 hP236 hV ha236_9 H locs hG ls hL
        refine z_iload hC (hL.at 6 rfl) dX6_add_236 ?_
        refine z_iconst hC dX6_add_238 ?_
        refine z_icmp_ge (tgt := 268) hC ha236_9 (inR_lit rfl) hV dX6_add_239 (by decide) ?_ ?_
        · intro hV
          refine z_aload_n hC zvr_a rfl (hL.at 0 rfl) dX6_add_268 ?_
          refine z_getA hC hG kFX6_71_6 rfl rfl dX6_add_269 ?_
          refine z_iload hC (hL.at 5 rfl) dX6_add_272 ?_
          refine z_iload hC (hL.at 4 rfl) dX6_add_274 ?_
          refine z_iast hC hG rfl (Nat.le_of_ble_eq_true rfl) (Nat.le_of_ble_eq_true rfl) rfl rfl rfl hx3 hp3 hV dX6_add_276 ?_
          intro G3 _ _ hG hV
          refine z_iload hC (hL.at 5 rfl) dX6_add_277 ?_
          exact z_iret hC hG hr hk hx3 hV (Nat.le_of_ble_eq_true rfl) (Nat.le_of_ble_eq_true rfl) dX6_add_279
        · intro hV
          refine z_aload_n hC zvr_a rfl (hL.at 0 rfl) dX6_add_242 ?_
          refine z_getA hC hG kFX6_68_6 rfl rfl dX6_add_243 ?_
          refine z_iconst hC dX6_add_246 ?_
          refine z_iload hC (hL.at 5 rfl) dX6_add_247 ?_
          refine z_imul hC dX6_add_249 ?_
          refine z_iload hC (hL.at 6 rfl) dX6_add_250 ?_
          refine z_iadd hC dX6_add_252 ?_
          refine z_iload_n hC rfl (hL.at 1 rfl) dX6_add_253 ?_
          refine z_iload_n hC rfl (hL.at 2 rfl) dX6_add_254 ?_
          refine z_iload_n hC rfl (hL.at 3 rfl) dX6_add_255 ?_
          refine z_iload hC (hL.at 6 rfl) dX6_add_256 ?_
          refine z_call_i hG (zrunS hC hG (mX6_pick l P K236 p0 hp0 p1 hp1 p2 hp2 a236_9 ha236_9 hV) kSX6_175 rfl rfl rfl ⟨(Nat.le_of_ble_eq_true rfl), (Nat.le_of_ble_eq_true rfl)⟩ ⟨(Nat.le_of_ble_eq_true rfl), (Nat.le_of_ble_eq_true rfl)⟩ rfl ⟨(zcs_c rfl (zcs_c rfl zcs_0)), (Nat.le_of_ble_eq_true rfl)⟩ hL.1.1 dX6_add_258) ?_
          rintro x4 _ _ _ hx4 ⟨rfl, hV⟩ hG
          refine z_iast hC hG rfl (Nat.le_of_ble_eq_true rfl) (Nat.le_of_ble_eq_true rfl) rfl rfl rfl (inR_w _) hx4 hV dX6_add_261 ?_
          intro G4 _ _ hG hV
          refine z_iincV (fun x5 => [(9, .int (zI x5)), (0, .ref (zA P 5 0 0)), (1, .int (zI p0)), (2, .int (zI p1)), (3, .int (zI p2)), (4, .int (zI p3)), (8, .int (zI x3))]) hC hL (k := 6) rfl (by decide) (fun _ => rfl) hV dX6_add_262 ?_
          intro x5 hx5 hV ls hL
          refine z_goto (tgt := 236) hC dX6_add_265 (by decide) ?_
          exact hP236 x5 G4 hV hx5 _ _ hG _ (hL.sub [1, 2, 3, 4, 5, 6, 0] rfl)
      · intro hV
        refine z_iconst hC dX6_add_219 ?_
        exact z_iret hC hG hr hk (inR_lit rfl) hV (Nat.le_of_ble_eq_true rfl) (Nat.le_of_ble_eq_true rfl) dX6_add_220
    refine z_if_ne (tgt := 183) hC (inR_b ha19_5) hV dX6_add_176 (by decide) ?_ ?_
    · intro hV
      refine z_iload hC (hL.at 6 rfl) dX6_add_183 ?_
      refine z_if_ne (tgt := 192) hC (inR_b ha19_6) hV dX6_add_185 (by decide) ?_ ?_
      · intro hV
        refine z_aload_n hC zvr_a rfl (hL.at 0 rfl) dX6_add_192 ?_
        refine z_getF hC hG kFX6_231_6 rfl rfl hV dX6_add_193 ?_
        intro x6 hx6 hV
        obtain ⟨J208, eJ208, hV⟩ := zjn_abs hV
        have hJ208 : ∀ {H : Heap} {locs : List Loc}, zS P s G H locs → J208 () → ∀ (ls : Array Slot), zL ls 12 [(0, .ref (zA P 5 0 0)), (1, .int (zI p0)), (2, .int (zI p1)), (3, .int (zI p2)), (4, .int (zI p3))] → W p l e rX6_add s m args below meth c H locs 0 0 (MQ below (zQi P Q) args s 0 0 (zAr P)) (F0 m 208 ls [.ref (zA P 5 0 0)]) := by
          intro H locs hG hV ls hL
          rw [eJ208] at hV
          refine z_iconst hC dX6_add_208 ?_
          refine z_goto (tgt := 213) hC dX6_add_209 (by decide) ?_
          exact hJ213 hG 3 (inR_lit rfl) hV _ hL
        refine z_if_eq (tgt := 208) hC hx6 hV dX6_add_196 (by decide) ?_ ?_
        · intro hV
          exact hJ208 hG hV _ (hL.sub [0, 1, 2, 3, 4] rfl)
        · intro hV
          refine z_aload_n hC zvr_a rfl (hL.at 0 rfl) dX6_add_199 ?_
          refine z_getF hC hG kFX6_228_6 rfl rfl hV dX6_add_200 ?_
          intro x7 hx7 hV
          refine z_bipush hC rfl dX6_add_203 ?_
          refine z_icmp_ne (tgt := 212) hC hx7 (inR_lit rfl) hV dX6_add_205 (by decide) ?_ ?_
          · intro hV
            refine z_iconst hC dX6_add_212 ?_
            exact hJ213 hG 0 (inR_lit rfl) hV _ (hL.sub [0, 1, 2, 3, 4] rfl)
          · intro hV
            exact hJ208 hG hV _ (hL.sub [0, 1, 2, 3, 4] rfl)
      · intro hV
        refine z_iconst hC dX6_add_188 ?_
        refine z_goto (tgt := 213) hC dX6_add_189 (by decide) ?_
        exact hJ213 hG 2 (inR_lit rfl) hV _ (hL.sub [0, 1, 2, 3, 4] rfl)
    · intro hV
      refine z_iconst hC dX6_add_179 ?_
      refine z_goto (tgt := 213) hC dX6_add_180 (by decide) ?_
      exact hJ213 hG 1 (inR_lit rfl) hV _ (hL.sub [0, 1, 2, 3, 4] rfl)
  · intro hV
    refine z_iload_n hC rfl (hL.at 1 rfl) dX6_add_25 ?_
    refine z_iload_n hC rfl (hL.at 2 rfl) dX6_add_26 ?_
    refine z_iload_n hC rfl (hL.at 3 rfl) dX6_add_27 ?_
    refine z_iload hC (hL.at 8 rfl) dX6_add_28 ?_
    refine z_call_i hG (zrunS hC hG (mX6_pick l P G p0 hp0 p1 hp1 p2 hp2 a19_8 ha19_8 hV) kSX6_175 rfl rfl rfl ⟨(Nat.le_of_ble_eq_true rfl), (Nat.le_of_ble_eq_true rfl)⟩ ⟨(Nat.le_of_ble_eq_true rfl), (Nat.le_of_ble_eq_true rfl)⟩ rfl ⟨zcs_0, (Nat.le_of_ble_eq_true rfl)⟩ hL.1.1 dX6_add_30) ?_
    rintro x8 _ _ _ hx8 ⟨rfl, hV⟩ hG
    refine z_istore (lv' := [(9, .int (zI x8)), (0, .ref (zA P 5 0 0)), (1, .int (zI p0)), (2, .int (zI p1)), (3, .int (zI p2)), (4, .int (zI p3)), (5, .int (zI a19_5)), (6, .int (zI a19_6)), (7, .int (zI a19_7)), (8, .int (zI a19_8))]) hC hL (by decide) rfl dX6_add_33 (fun ls hL => ?_)
    refine z_iload hC (hL.at 9 rfl) dX6_add_35 ?_
    refine z_aload_n hC zvr_a rfl (hL.at 1 rfl) dX6_add_37 ?_
    refine z_getF hC hG kFX6_231_6 rfl rfl hV dX6_add_38 ?_
    intro x9 hx9 hV
    obtain ⟨J49, eJ49, hV⟩ := zjn_abs hV
    have hJ49 : ∀ {H : Heap} {locs : List Loc}, zS P s G H locs → ∀ (z49_0 : Int), (z49_0 = 0 ∨ z49_0 = 1) → J49 z49_0 → ∀ (ls : Array Slot), zL ls 12 [(0, .ref (zA P 5 0 0)), (1, .int (zI p0)), (2, .int (zI p1)), (3, .int (zI p2)), (4, .int (zI p3)), (5, .int (zI a19_5)), (6, .int (zI a19_6)), (7, .int (zI a19_7)), (8, .int (zI a19_8)), (9, .int (zI x8))] → W p l e rX6_add s m args below meth c H locs 0 0 (MQ below (zQi P Q) args s 0 0 (zAr P)) (F0 m 49 ls [.int (zI z49_0)]) := by
      intro H locs hG z49_0 hz49_0 hV ls hL
      rw [eJ49] at hV
      refine z_istore (lv' := [(10, .int (zI z49_0)), (0, .ref (zA P 5 0 0)), (1, .int (zI p0)), (2, .int (zI p1)), (3, .int (zI p2)), (4, .int (zI p3)), (5, .int (zI a19_5)), (6, .int (zI a19_6)), (7, .int (zI a19_7)), (8, .int (zI a19_8)), (9, .int (zI x8))]) hC hL (by decide) rfl dX6_add_49 (fun ls hL => ?_)
      refine z_aload_n hC zvr_a rfl (hL.at 1 rfl) dX6_add_51 ?_
      refine z_iload hC (hL.at 10 rfl) dX6_add_52 ?_
      refine z_call_z hG (zrunV (ci := 6) hC hG (Nat.le_of_ble_eq_true rfl) (Nat.le_of_ble_eq_true rfl) (zobj hG rfl (Nat.le_of_ble_eq_true rfl) (Nat.le_of_ble_eq_true rfl)) (mX6_isPattern l P G x8 hx8 hV) kVX6_212 rfl rfl rfl ⟨(Nat.le_of_ble_eq_true rfl), (Nat.le_of_ble_eq_true rfl)⟩ ⟨(Nat.le_of_ble_eq_true rfl), (Nat.le_of_ble_eq_true rfl)⟩ rfl ⟨zcs_0, (Nat.le_of_ble_eq_true rfl)⟩ hL.1.1 dX6_add_54) ?_
      rintro x10 _ _ _ hx10 ⟨rfl, hV⟩ hG
      refine z_istore (lv' := [(11, .int (zI x10)), (10, .int (zI z49_0)), (0, .ref (zA P 5 0 0)), (1, .int (zI p0)), (2, .int (zI p1)), (3, .int (zI p2)), (4, .int (zI p3)), (5, .int (zI a19_5)), (6, .int (zI a19_6)), (7, .int (zI a19_7)), (8, .int (zI a19_8)), (9, .int (zI x8))]) hC hL (by decide) rfl dX6_add_57 (fun ls hL => ?_)
      refine z_iload hC (hL.at 7 rfl) dX6_add_59 ?_
      obtain ⟨J79, eJ79, hV⟩ := zjn_abs hV
      have hJ79 : ∀ {H : Heap} {locs : List Loc}, zS P s G H locs → ∀ (z79_0 : Int), (z79_0 = 0 ∨ z79_0 = 1) → J79 z79_0 → ∀ (ls : Array Slot), zL ls 12 [(0, .ref (zA P 5 0 0)), (1, .int (zI p0)), (2, .int (zI p1)), (3, .int (zI p2)), (4, .int (zI p3)), (6, .int (zI a19_6)), (7, .int (zI a19_7)), (8, .int (zI a19_8)), (9, .int (zI x8)), (10, .int (zI z49_0)), (11, .int (zI x10))] → W p l e rX6_add s m args below meth c H locs 0 0 (MQ below (zQi P Q) args s 0 0 (zAr P)) (F0 m 79 ls [.int (zI z79_0)]) := by
        intro H locs hG z79_0 hz79_0 hV ls hL
        rw [eJ79] at hV
        refine z_istore (lv' := [(5, .int (zI z79_0)), (0, .ref (zA P 5 0 0)), (1, .int (zI p0)), (2, .int (zI p1)), (3, .int (zI p2)), (4, .int (zI p3)), (6, .int (zI a19_6)), (7, .int (zI a19_7)), (8, .int (zI a19_8)), (9, .int (zI x8)), (10, .int (zI z49_0)), (11, .int (zI x10))]) hC hL (by decide) rfl dX6_add_79 (fun ls hL => ?_)
        refine z_iload hC (hL.at 6 rfl) dX6_add_81 ?_
        obtain ⟨J139, eJ139, hV⟩ := zjn_abs hV
        have hJ139 : ∀ {H : Heap} {locs : List Loc}, zS P s G H locs → ∀ (z139_0 : Int), (z139_0 = 0 ∨ z139_0 = 1) → J139 z139_0 → ∀ (ls : Array Slot), zL ls 12 [(0, .ref (zA P 5 0 0)), (1, .int (zI p0)), (2, .int (zI p1)), (3, .int (zI p2)), (4, .int (zI p3)), (5, .int (zI z79_0)), (7, .int (zI a19_7)), (8, .int (zI a19_8)), (9, .int (zI x8)), (10, .int (zI z49_0)), (11, .int (zI x10))] → W p l e rX6_add s m args below meth c H locs 0 0 (MQ below (zQi P Q) args s 0 0 (zAr P)) (F0 m 139 ls [.int (zI z139_0)]) := by
          intro H locs hG z139_0 hz139_0 hV ls hL
          rw [eJ139] at hV
          refine z_istore (lv' := [(6, .int (zI z139_0)), (0, .ref (zA P 5 0 0)), (1, .int (zI p0)), (2, .int (zI p1)), (3, .int (zI p2)), (4, .int (zI p3)), (5, .int (zI z79_0)), (7, .int (zI a19_7)), (8, .int (zI a19_8)), (9, .int (zI x8)), (10, .int (zI z49_0)), (11, .int (zI x10))]) hC hL (by decide) rfl dX6_add_139 (fun ls hL => ?_)
          refine z_iload hC (hL.at 7 rfl) dX6_add_141 ?_
          refine z_iload hC (hL.at 10 rfl) dX6_add_143 ?_
          obtain ⟨J164, eJ164, hV⟩ := zjn_abs hV
          have hJ164 : ∀ {H : Heap} {locs : List Loc}, zS P s G H locs → ∀ (z164_1 : Int), inR z164_1 → J164 z164_1 → ∀ (ls : Array Slot), zL ls 12 [(0, .ref (zA P 5 0 0)), (1, .int (zI p0)), (2, .int (zI p1)), (3, .int (zI p2)), (4, .int (zI p3)), (5, .int (zI z79_0)), (6, .int (zI z139_0)), (8, .int (zI a19_8))] → W p l e rX6_add s m args below meth c H locs 0 0 (MQ below (zQi P Q) args s 0 0 (zAr P)) (F0 m 164 ls [.int (zI z164_1), .int (zI a19_7)]) := by
            intro H locs hG z164_1 hz164_1 hV ls hL
            rw [eJ164] at hV
            refine z_ior hC dX6_add_164 ?_
            refine z_top hV (inR_toInt _) ?_
            intro x11 hx11 hV
            refine z_istore (lv' := [(7, .int (zI x11)), (0, .ref (zA P 5 0 0)), (1, .int (zI p0)), (2, .int (zI p1)), (3, .int (zI p2)), (4, .int (zI p3)), (5, .int (zI z79_0)), (6, .int (zI z139_0)), (8, .int (zI a19_8))]) hC hL (by decide) rfl dX6_add_165 (fun ls hL => ?_)
            refine z_iincV (fun x12 => [(8, .int (zI x12)), (7, .int (zI x11)), (0, .ref (zA P 5 0 0)), (1, .int (zI p0)), (2, .int (zI p1)), (3, .int (zI p2)), (4, .int (zI p3)), (5, .int (zI z79_0)), (6, .int (zI z139_0))]) hC hL (k := 8) rfl (by decide) (fun _ => rfl) hV dX6_add_167 ?_
            intro x12 hx12 hV ls hL
            refine z_goto (tgt := 19) hC dX6_add_170 (by decide) ?_
            exact hP19 z79_0 z139_0 x11 x12 hV hz79_0 hz139_0 hx11 hx12 _ _ hG _ (hL.sub [2, 3, 4, 5, 6, 7, 8, 1, 0] rfl)
          obtain ⟨J163, eJ163, hV⟩ := zjn_abs hV
          have hJ163 : ∀ {H : Heap} {locs : List Loc}, zS P s G H locs → J163 () → ∀ (ls : Array Slot), zL ls 12 [(0, .ref (zA P 5 0 0)), (1, .int (zI p0)), (2, .int (zI p1)), (3, .int (zI p2)), (4, .int (zI p3)), (5, .int (zI z79_0)), (6, .int (zI z139_0)), (8, .int (zI a19_8))] → W p l e rX6_add s m args below meth c H locs 0 0 (MQ below (zQi P Q) args s 0 0 (zAr P)) (F0 m 163 ls [.int (zI a19_7)]) := by
            intro H locs hG hV ls hL
            rw [eJ163] at hV
            refine z_iconst hC dX6_add_163 ?_
            exact hJ164 hG 0 (inR_lit rfl) hV _ hL
          refine z_if_eq (tgt := 163) hC (inR_b hz49_0) hV dX6_add_145 (by decide) ?_ ?_
          · intro hV
            exact hJ163 hG hV _ (hL.sub [1, 2, 3, 4, 5, 6, 0, 8] rfl)
          · intro hV
            refine z_iload hC (hL.at 11 rfl) dX6_add_148 ?_
            refine z_if_eq (tgt := 163) hC (inR_b hx10) hV dX6_add_150 (by decide) ?_ ?_
            · intro hV
              exact hJ163 hG hV _ (hL.sub [1, 2, 3, 4, 5, 6, 0, 8] rfl)
            · intro hV
              refine z_aload_n hC zvr_a rfl (hL.at 1 rfl) dX6_add_153 ?_
              refine z_getA hC hG kFX6_52_6 rfl rfl dX6_add_154 ?_
              refine z_iload hC (hL.at 9 rfl) dX6_add_157 ?_
              refine z_iald hC hG rfl rfl rfl hx8 hV dX6_add_159 ?_
              intro x13 hx13 hV
              refine z_goto (tgt := 164) hC dX6_add_160 (by decide) ?_
              exact hJ164 hG x13 hx13 hV _ (hL.sub [1, 2, 3, 4, 5, 6, 0, 8] rfl)
        obtain ⟨J138, eJ138, hV⟩ := zjn_abs hV
        have hJ138 : ∀ {H : Heap} {locs : List Loc}, zS P s G H locs → J138 () → ∀ (ls : Array Slot), zL ls 12 [(0, .ref (zA P 5 0 0)), (1, .int (zI p0)), (2, .int (zI p1)), (3, .int (zI p2)), (4, .int (zI p3)), (5, .int (zI z79_0)), (7, .int (zI a19_7)), (8, .int (zI a19_8)), (9, .int (zI x8)), (10, .int (zI z49_0)), (11, .int (zI x10))] → W p l e rX6_add s m args below meth c H locs 0 0 (MQ below (zQi P Q) args s 0 0 (zAr P)) (F0 m 138 ls []) := by
          intro H locs hG hV ls hL
          rw [eJ138] at hV
          refine z_iconst hC dX6_add_138 ?_
          exact hJ139 hG 0 (Or.inl rfl) hV _ hL
        refine z_if_eq (tgt := 138) hC (inR_b ha19_6) hV dX6_add_83 (by decide) ?_ ?_
        · intro hV
          exact hJ138 hG hV _ (hL.sub [1, 2, 3, 4, 5, 0, 7, 8, 9, 10, 11] rfl)
        · intro hV
          refine z_iload hC (hL.at 10 rfl) dX6_add_86 ?_
          obtain ⟨J134, eJ134, hV⟩ := zjn_abs hV
          have hJ134 : ∀ {H : Heap} {locs : List Loc}, zS P s G H locs → J134 () → ∀ (ls : Array Slot), zL ls 12 [(0, .ref (zA P 5 0 0)), (1, .int (zI p0)), (2, .int (zI p1)), (3, .int (zI p2)), (4, .int (zI p3)), (5, .int (zI z79_0)), (7, .int (zI a19_7)), (8, .int (zI a19_8)), (9, .int (zI x8)), (10, .int (zI z49_0)), (11, .int (zI x10))] → W p l e rX6_add s m args below meth c H locs 0 0 (MQ below (zQi P Q) args s 0 0 (zAr P)) (F0 m 134 ls []) := by
            intro H locs hG hV ls hL
            rw [eJ134] at hV
            refine z_iconst hC dX6_add_134 ?_
            refine z_goto (tgt := 139) hC dX6_add_135 (by decide) ?_
            exact hJ139 hG 1 (Or.inr rfl) hV _ hL
          refine z_if_eq (tgt := 128) hC (inR_b hz49_0) hV dX6_add_88 (by decide) ?_ ?_
          · intro hV
            refine z_iload hC (hL.at 9 rfl) dX6_add_128 ?_
            refine z_iconst hC dX6_add_130 ?_
            refine z_icmp_ne (tgt := 138) hC hx8 (inR_lit rfl) hV dX6_add_131 (by decide) ?_ ?_
            · intro hV
              exact hJ138 hG hV _ (hL.sub [1, 2, 3, 4, 5, 0, 7, 8, 9, 10, 11] rfl)
            · intro hV
              exact hJ134 hG hV _ (hL.sub [1, 2, 3, 4, 5, 0, 7, 8, 9, 10, 11] rfl)
          · intro hV
            refine z_iload hC (hL.at 11 rfl) dX6_add_91 ?_
            refine z_if_eq (tgt := 138) hC (inR_b hx10) hV dX6_add_93 (by decide) ?_ ?_
            · intro hV
              exact hJ138 hG hV _ (hL.sub [1, 2, 3, 4, 5, 0, 7, 8, 9, 10, 11] rfl)
            · intro hV
              refine z_aload_n hC zvr_a rfl (hL.at 1 rfl) dX6_add_96 ?_
              refine z_iload hC (hL.at 9 rfl) dX6_add_97 ?_
              refine z_aload_n hC zvr_a rfl (hL.at 1 rfl) dX6_add_99 ?_
              refine z_getA hC hG kFX6_65_6 rfl rfl dX6_add_100 ?_
              refine z_iload hC (hL.at 8 rfl) dX6_add_103 ?_
              refine z_iald hC hG rfl rfl rfl ha19_8 hV dX6_add_105 ?_
              intro x14 hx14 hV
              refine z_call_z hG (zrunV (ci := 6) hC hG (Nat.le_of_ble_eq_true rfl) (Nat.le_of_ble_eq_true rfl) (zobj hG rfl (Nat.le_of_ble_eq_true rfl) (Nat.le_of_ble_eq_true rfl)) (mX6_suits l P G x8 hx8 x14 hx14 hV) kVX6_215 rfl rfl rfl ⟨(Nat.le_of_ble_eq_true rfl), (Nat.le_of_ble_eq_true rfl)⟩ ⟨(Nat.le_of_ble_eq_true rfl), (Nat.le_of_ble_eq_true rfl)⟩ rfl ⟨zcs_0, (Nat.le_of_ble_eq_true rfl)⟩ hL.1.1 dX6_add_106) ?_
              rintro x15 _ _ _ hx15 ⟨rfl, hV⟩ hG
              refine z_if_eq (tgt := 138) hC (inR_b hx15) hV dX6_add_109 (by decide) ?_ ?_
              · intro hV
                exact hJ138 hG hV _ (hL.sub [1, 2, 3, 4, 5, 0, 7, 8, 9, 10, 11] rfl)
              · intro hV
                refine z_aload_n hC zvr_a rfl (hL.at 1 rfl) dX6_add_112 ?_
                refine z_getA hC hG kFX6_52_6 rfl rfl dX6_add_113 ?_
                refine z_iload hC (hL.at 9 rfl) dX6_add_116 ?_
                refine z_iald hC hG rfl rfl rfl hx8 hV dX6_add_118 ?_
                intro x16 hx16 hV
                refine z_iload hC (hL.at 7 rfl) dX6_add_119 ?_
                refine z_iand hC dX6_add_121 ?_
                refine z_if_ne (tgt := 138) hC (inR_toInt _) hV dX6_add_122 (by decide) ?_ ?_
                · intro hV
                  exact hJ138 hG hV _ (hL.sub [1, 2, 3, 4, 5, 0, 7, 8, 9, 10, 11] rfl)
                · intro hV
                  refine z_goto (tgt := 134) hC dX6_add_125 (by decide) ?_
                  exact hJ134 hG hV _ (hL.sub [1, 2, 3, 4, 5, 0, 7, 8, 9, 10, 11] rfl)
      obtain ⟨J78, eJ78, hV⟩ := zjn_abs hV
      have hJ78 : ∀ {H : Heap} {locs : List Loc}, zS P s G H locs → J78 () → ∀ (ls : Array Slot), zL ls 12 [(0, .ref (zA P 5 0 0)), (1, .int (zI p0)), (2, .int (zI p1)), (3, .int (zI p2)), (4, .int (zI p3)), (6, .int (zI a19_6)), (7, .int (zI a19_7)), (8, .int (zI a19_8)), (9, .int (zI x8)), (10, .int (zI z49_0)), (11, .int (zI x10))] → W p l e rX6_add s m args below meth c H locs 0 0 (MQ below (zQi P Q) args s 0 0 (zAr P)) (F0 m 78 ls []) := by
        intro H locs hG hV ls hL
        rw [eJ78] at hV
        refine z_iconst hC dX6_add_78 ?_
        exact hJ79 hG 0 (Or.inl rfl) hV _ hL
      refine z_if_eq (tgt := 78) hC (inR_b ha19_5) hV dX6_add_61 (by decide) ?_ ?_
      · intro hV
        exact hJ78 hG hV _ (hL.sub [2, 3, 4, 5, 6, 8, 9, 10, 11, 1, 0] rfl)
      · intro hV
        refine z_iload hC (hL.at 1 rfl) dX6_add_64 ?_
        obtain ⟨J74, eJ74, hV⟩ := zjn_abs hV
        have hJ74 : ∀ {H : Heap} {locs : List Loc}, zS P s G H locs → J74 () → ∀ (ls : Array Slot), zL ls 12 [(0, .ref (zA P 5 0 0)), (1, .int (zI p0)), (2, .int (zI p1)), (3, .int (zI p2)), (4, .int (zI p3)), (6, .int (zI a19_6)), (7, .int (zI a19_7)), (8, .int (zI a19_8)), (9, .int (zI x8)), (10, .int (zI z49_0)), (11, .int (zI x10))] → W p l e rX6_add s m args below meth c H locs 0 0 (MQ below (zQi P Q) args s 0 0 (zAr P)) (F0 m 74 ls []) := by
          intro H locs hG hV ls hL
          rw [eJ74] at hV
          refine z_iconst hC dX6_add_74 ?_
          refine z_goto (tgt := 79) hC dX6_add_75 (by decide) ?_
          exact hJ79 hG 1 (Or.inr rfl) hV _ hL
        refine z_if_eq (tgt := 74) hC (inR_b hz49_0) hV dX6_add_66 (by decide) ?_ ?_
        · intro hV
          exact hJ74 hG hV _ (hL.sub [2, 3, 4, 5, 6, 8, 9, 10, 11, 1, 0] rfl)
        · intro hV
          refine z_iload hC (hL.at 0 rfl) dX6_add_69 ?_
          refine z_if_eq (tgt := 78) hC (inR_b hx10) hV dX6_add_71 (by decide) ?_ ?_
          · intro hV
            exact hJ78 hG hV _ (hL.sub [2, 3, 4, 5, 6, 8, 9, 10, 11, 1, 0] rfl)
          · intro hV
            exact hJ74 hG hV _ (hL.sub [2, 3, 4, 5, 6, 8, 9, 10, 11, 1, 0] rfl)
    refine z_icmp_ge (tgt := 48) hC ha19_8 hx9 hV dX6_add_41 (by decide) ?_ ?_
    · intro hV
      refine z_iconst hC dX6_add_48 ?_
      exact hJ49 hG 0 (Or.inl rfl) hV _ (hL.sub [1, 2, 3, 4, 5, 6, 7, 8, 9, 0] rfl)
    · intro hV
      refine z_iconst hC dX6_add_44 ?_
      refine z_goto (tgt := 49) hC dX6_add_45 (by decide) ?_
      exact hJ49 hG 1 (Or.inr rfl) hV _ (hL.sub [1, 2, 3, 4, 5, 6, 7, 8, 9, 0] rfl)
abbrev rX6_isCase : Room := { frames := 2, cells := 0, slots := 0, locals := 34 }
def vX6_isCase (p0 : Int) (G : ZG) (Q : Int → Prop) : Prop := zgF G 5 23 fun (x1 : Int) => vX6_in p0 0 (w32 (x1 - 1)) fun (x2 : Int) => Q x2
set_option maxHeartbeats 4000000 in
theorem mX6_isCase (l : Launch) (P : ZP) (G : ZG) (p0 : Int) (hp0 : inR p0) {Q : Int → Prop} (hV : vX6_isCase p0 G Q) : Met l yX6_isCase (ws_ yX6_isCase cX6_isCase 2 (some .boolean)) rX6_isCase (zPc P G [.ref (zA P 5 0 0), .int (zI p0)]) (zQz P (fun r G2 => G = G2 ∧ Q r)) 0 0 (zAr P) := by
  refine zMet RX6 (plainFor_of_name (by decide)) rfl (zcs_c rfl (zcs_c rfl zcs_0)) (Nat.le_of_ble_eq_true rfl) (fun p e s m args below meth c ls hC hr hk hn hG hL => ?_)
  unfold vX6_isCase at hV
  refine z_iload_n hC rfl (hL.at 1 rfl) dX6_isCase_0 ?_
  refine z_iconst hC dX6_isCase_1 ?_
  refine z_aload_n hC zvr_a rfl (hL.at 0 rfl) dX6_isCase_2 ?_
  refine z_getF hC hG kFX6_228_6 rfl rfl hV dX6_isCase_3 ?_
  intro x1 hx1 hV
  refine z_iconst hC dX6_isCase_6 ?_
  refine z_isub hC dX6_isCase_7 ?_
  refine z_call_z hG (zrunS hC hG (mX6_in l P G p0 hp0 0 (inR_lit rfl) (w32 (x1 - 1)) (inR_w _) hV) kSX6_171 rfl rfl rfl ⟨(Nat.le_of_ble_eq_true rfl), (Nat.le_of_ble_eq_true rfl)⟩ ⟨(Nat.le_of_ble_eq_true rfl), (Nat.le_of_ble_eq_true rfl)⟩ rfl ⟨zcs_0, (Nat.le_of_ble_eq_true rfl)⟩ hL.1.1 dX6_isCase_8) ?_
  rintro x2 _ _ _ hx2 ⟨rfl, hV⟩ hG
  exact z_zret hC hG hr hk hx2 ⟨rfl, hV⟩ (Nat.le_of_ble_eq_true rfl) (Nat.le_of_ble_eq_true rfl) dX6_isCase_11
abbrev rX6_bindsNumber : Room := { frames := 1, cells := 0, slots := 0, locals := 12 }
def vX6_bindsNumber (p0 : Int) (p1 : Int) (G : ZG) (Q : Int → ZG → Prop) : Prop := zl3 (fun (P11 : Int → Int → ZG → Prop) (a11_3 : Int) (a11_6 : Int) (K11 : ZG) => zgF K11 5 21 fun (x1 : Int) => zbr (x1 ≤ a11_6) (zl4 (fun (P59 : Int → Int → Int → ZG → Prop) (a59_3 : Int) (a59_4 : Int) (a59_5 : Int) (K59 : ZG) => zbr (a59_3 ≤ 0) (zjn (fun (z270_0 : Int) => Q z270_0 K59) fun J270 => zjn (fun (_ : Unit) => J270 0) fun J269 => zbr (a59_4 = 0) (J269 ()) (zbr (a59_5 = 0) (J269 ()) (J270 1))) (zlt1 (w32 (a59_3 + (-1))) fun (x2 : Int) => zaL K59 5 30 256 x2 fun (x3 : Int) => zaL K59 5 31 256 x2 fun (x4 : Int) => zaL K59 5 10 60 x3 fun (x5 : Int) => zjn (fun (z109_0 : Int) => zjn (fun (z126_0 : Int) => zjn (fun (z149_0 : Int) => zl3 (fun (P154 : Int → Int → ZG → Prop) (a154_3 : Int) (a154_9 : Int) (K154 : ZG) => zbr (3 ≤ a154_9) (P59 a154_3 z126_0 z149_0 K154) (zaL K154 5 13 180 (w32 ((w32 (3 * x3)) + a154_9)) fun (x6 : Int) => zjn (fun (y246_3 : Int) (H246 : ZG) => zlt1 (w32 (a154_9 + 1)) fun (x7 : Int) => P154 y246_3 x7 H246) fun J246 => zbr (x6 = (-1)) (J246 a154_3 K154) (zaS K154 5 30 256 a154_3 x6 fun (G1 : ZG) => zaL G1 5 10 60 x3 fun (x8 : Int) => zjn (fun (z242_2 : Int) => zaS G1 5 31 256 a154_3 z242_2 fun (G2 : ZG) => zlt1 (w32 (a154_3 + 1)) fun (x9 : Int) => J246 x9 G2) fun J242 => zbr (x8 ≠ 3) (zaL G1 5 10 60 x3 fun (x10 : Int) => zbr (x10 ≠ 6) (J242 x4) (J242 4)) (zaL G1 5 11 60 x3 fun (x11 : Int) => zaL G1 5 3 48 (w32 ((w32 (3 * x11)) + a154_9)) fun (x12 : Int) => J242 x12)))) x2 0 K59) fun J149 => zjn (fun (_ : Unit) => J149 0) fun J148 => zbr (a59_5 = 0) (J148 ()) (zjn (fun (_ : Unit) => J149 1) fun J144 => zbr (z109_0 = 0) (J144 ()) (zbr (x4 ≠ 4) (J148 ()) (J144 ())))) fun J126 => zjn (fun (_ : Unit) => J126 1) fun J121 => zbr (a59_4 ≠ 0) (J121 ()) (zbr (z109_0 = 0) (J126 0) (J121 ()))) fun J109 => zjn (fun (_ : Unit) => J109 0) fun J108 => zbr (x5 ≠ 1) (J108 ()) (zaL K59 5 11 60 x3 fun (x13 : Int) => zbr (x13 ≠ p1) (J108 ()) (J109 1)))) a11_3 0 1 K11) (zaL K11 5 24 24 (w32 ((w32 (3 * p0)) + a11_6)) fun (x14 : Int) => zaS K11 5 30 256 a11_3 x14 fun (G3 : ZG) => zaL G3 5 22 3 a11_6 fun (x15 : Int) => zaS G3 5 31 256 a11_3 x15 fun (G4 : ZG) => zlt1 (w32 (a11_3 + 1)) fun (x16 : Int) => zlt1 (w32 (a11_6 + 1)) fun (x17 : Int) => P11 x16 x17 G4)) 0 0 G
set_option maxHeartbeats 4000000 in
theorem mX6_bindsNumber (l : Launch) (P : ZP) (G : ZG) (p0 : Int) (hp0 : inR p0) (p1 : Int) (hp1 : inR p1) {Q : Int → ZG → Prop} (hV : vX6_bindsNumber p0 p1 G Q) : Met l yX6_bindsNumber (ws_ yX6_bindsNumber cX6_bindsNumber 11 (some .boolean)) rX6_bindsNumber (zPc P G [.ref (zA P 5 0 0), .int (zI p0), .int (zI p1)]) (zQz P Q) 0 0 (zAr P) := by
  refine zMet RX6 (plainFor_of_name (by decide)) rfl (zcs_c rfl (zcs_c rfl (zcs_c rfl zcs_0))) (Nat.le_of_ble_eq_true rfl) (fun p e s m args below meth c ls hC hr hk hn hG hL => ?_)
  unfold vX6_bindsNumber at hV
  refine z_iconst hC dX6_bindsNumber_0 ?_
  refine z_istore_n (lv' := [(3, .int (zI 0)), (0, .ref (zA P 5 0 0)), (1, .int (zI p0)), (2, .int (zI p1))]) hC rfl hL (by decide) rfl dX6_bindsNumber_1 (fun ls hL => ?_)
  refine z_iconst hC dX6_bindsNumber_2 ?_
  refine z_istore (lv' := [(4, .int (zI 0)), (3, .int (zI 0)), (0, .ref (zA P 5 0 0)), (1, .int (zI p0)), (2, .int (zI p1))]) hC hL (by decide) rfl dX6_bindsNumber_3 (fun ls hL => ?_)
  refine z_iconst hC dX6_bindsNumber_5 ?_
  refine z_istore (lv' := [(5, .int (zI 1)), (4, .int (zI 0)), (3, .int (zI 0)), (0, .ref (zA P 5 0 0)), (1, .int (zI p0)), (2, .int (zI p1))]) hC hL (by decide) rfl dX6_bindsNumber_6 (fun ls hL => ?_)
  refine z_iconst hC dX6_bindsNumber_8 ?_
  refine z_istore (lv' := [(6, .int (zI 0)), (5, .int (zI 1)), (4, .int (zI 0)), (3, .int (zI 0)), (0, .ref (zA P 5 0 0)), (1, .int (zI p0)), (2, .int (zI p1))]) hC hL (by decide) rfl dX6_bindsNumber_9 (fun ls hL => ?_)
  refine zl3_use hV (fun (a11_3 : Int) (a11_6 : Int) (K11 : ZG) => inR a11_3 → inR a11_6 → ∀ (H : Heap) (locs : List Loc), zS P s K11 H locs → ∀ (ls : Array Slot), zL ls 11 [(0, .ref (zA P 5 0 0)), (1, .int (zI p0)), (2, .int (zI p1)), (3, .int (zI a11_3)), (4, .int (zI 0)), (5, .int (zI 1)), (6, .int (zI a11_6))] → W p l e rX6_bindsNumber s m args below meth c H locs 0 0 (MQ below (zQz P Q) args s 0 0 (zAr P)) (F0 m 11 ls [])) ?_ (inR_lit rfl) (inR_lit rfl) _ _ hG _ (hL.sub [4, 5, 6, 3, 2, 1, 0] rfl)
  intro P11 a11_3 a11_6 K11 hP11 hV ha11_3 ha11_6 H locs hG ls hL
  refine z_iload hC (hL.at 6 rfl) dX6_bindsNumber_11 ?_
  refine z_aload_n hC zvr_a rfl (hL.at 0 rfl) dX6_bindsNumber_13 ?_
  refine z_getF hC hG kFX6_231_6 rfl rfl hV dX6_bindsNumber_14 ?_
  intro x1 hx1 hV
  refine z_icmp_ge (tgt := 59) hC ha11_6 hx1 hV dX6_bindsNumber_17 (by decide) ?_ ?_
  · intro hV
    refine zl4_use hV (fun (a59_3 : Int) (a59_4 : Int) (a59_5 : Int) (K59 : ZG) => inR a59_3 → (a59_4 = 0 ∨ a59_4 = 1) → (a59_5 = 0 ∨ a59_5 = 1) → ∀ (H : Heap) (locs : List Loc), zS P s K59 H locs → ∀ (ls : Array Slot), zL ls 11 [(0, .ref (zA P 5 0 0)), (2, .int (zI p1)), (3, .int (zI a59_3)), (4, .int (zI a59_4)), (5, .int (zI a59_5))] → W p l e rX6_bindsNumber s m args below meth c H locs 0 0 (MQ below (zQz P Q) args s 0 0 (zAr P)) (F0 m 59 ls [])) ?_ ha11_3 (Or.inl rfl) (Or.inr rfl) _ _ hG _ (hL.sub [0, 2, 3, 4, 5] rfl)
    intro P59 a59_3 a59_4 a59_5 K59 hP59 hV ha59_3 ha59_4 ha59_5 H locs hG ls hL
    refine z_iload_n hC rfl (hL.at 2 rfl) dX6_bindsNumber_59 ?_
    refine z_if_le (tgt := 255) hC ha59_3 hV dX6_bindsNumber_60 (by decide) ?_ ?_
    · intro hV
      refine z_iload hC (hL.at 3 rfl) dX6_bindsNumber_255 ?_
      obtain ⟨J270, eJ270, hV⟩ := zjn_abs hV
      have hJ270 : ∀ {H : Heap} {locs : List Loc}, zS P s K59 H locs → ∀ (z270_0 : Int), (z270_0 = 0 ∨ z270_0 = 1) → J270 z270_0 → ∀ (ls : Array Slot), zL ls 11 [] → W p l e rX6_bindsNumber s m args below meth c H locs 0 0 (MQ below (zQz P Q) args s 0 0 (zAr P)) (F0 m 270 ls [.int (zI z270_0)]) := by
        intro H locs hG z270_0 hz270_0 hV ls hL
        rw [eJ270] at hV
        exact z_zret hC hG hr hk hz270_0 hV (Nat.le_of_ble_eq_true rfl) (Nat.le_of_ble_eq_true rfl) dX6_bindsNumber_270
      obtain ⟨J269, eJ269, hV⟩ := zjn_abs hV
      have hJ269 : ∀ {H : Heap} {locs : List Loc}, zS P s K59 H locs → J269 () → ∀ (ls : Array Slot), zL ls 11 [] → W p l e rX6_bindsNumber s m args below meth c H locs 0 0 (MQ below (zQz P Q) args s 0 0 (zAr P)) (F0 m 269 ls []) := by
        intro H locs hG hV ls hL
        rw [eJ269] at hV
        refine z_iconst hC dX6_bindsNumber_269 ?_
        exact hJ270 hG 0 (Or.inl rfl) hV _ hL
      refine z_if_eq (tgt := 269) hC (inR_b ha59_4) hV dX6_bindsNumber_257 (by decide) ?_ ?_
      · intro hV
        exact hJ269 hG hV _ (hL.sub [] rfl)
      · intro hV
        refine z_iload hC (hL.at 4 rfl) dX6_bindsNumber_260 ?_
        refine z_if_eq (tgt := 269) hC (inR_b ha59_5) hV dX6_bindsNumber_262 (by decide) ?_ ?_
        · intro hV
          exact hJ269 hG hV _ (hL.sub [] rfl)
        · intro hV
          refine z_iconst hC dX6_bindsNumber_265 ?_
          refine z_goto (tgt := 270) hC dX6_bindsNumber_266 (by decide) ?_
          exact hJ270 hG 1 (Or.inr rfl) hV _ (hL.sub [] rfl)
    · intro hV
      refine z_iincV (fun x2 => [(3, .int (zI x2)), (0, .ref (zA P 5 0 0)), (2, .int (zI p1)), (4, .int (zI a59_4)), (5, .int (zI a59_5))]) hC hL (k := 2) rfl (by decide) (fun _ => rfl) hV dX6_bindsNumber_63 ?_
      intro x2 hx2 hV ls hL
      refine z_aload_n hC zvr_a rfl (hL.at 1 rfl) dX6_bindsNumber_66 ?_
      refine z_getA hC hG kFX6_86_6 rfl rfl dX6_bindsNumber_67 ?_
      refine z_iload_n hC rfl (hL.at 0 rfl) dX6_bindsNumber_70 ?_
      refine z_iald hC hG rfl rfl rfl hx2 hV dX6_bindsNumber_71 ?_
      intro x3 hx3 hV
      refine z_istore (lv' := [(6, .int (zI x3)), (3, .int (zI x2)), (0, .ref (zA P 5 0 0)), (2, .int (zI p1)), (4, .int (zI a59_4)), (5, .int (zI a59_5))]) hC hL (by decide) rfl dX6_bindsNumber_72 (fun ls hL => ?_)
      refine z_aload_n hC zvr_a rfl (hL.at 2 rfl) dX6_bindsNumber_74 ?_
      refine z_getA hC hG kFX6_89_6 rfl rfl dX6_bindsNumber_75 ?_
      refine z_iload_n hC rfl (hL.at 1 rfl) dX6_bindsNumber_78 ?_
      refine z_iald hC hG rfl rfl rfl hx2 hV dX6_bindsNumber_79 ?_
      intro x4 hx4 hV
      refine z_istore (lv' := [(7, .int (zI x4)), (6, .int (zI x3)), (3, .int (zI x2)), (0, .ref (zA P 5 0 0)), (2, .int (zI p1)), (4, .int (zI a59_4)), (5, .int (zI a59_5))]) hC hL (by decide) rfl dX6_bindsNumber_80 (fun ls hL => ?_)
      refine z_aload_n hC zvr_a rfl (hL.at 3 rfl) dX6_bindsNumber_82 ?_
      refine z_getA hC hG kFX6_31_6 rfl rfl dX6_bindsNumber_83 ?_
      refine z_iload hC (hL.at 1 rfl) dX6_bindsNumber_86 ?_
      refine z_iald hC hG rfl rfl rfl hx3 hV dX6_bindsNumber_88 ?_
      intro x5 hx5 hV
      refine z_iconst hC dX6_bindsNumber_89 ?_
      obtain ⟨J109, eJ109, hV⟩ := zjn_abs hV
      have hJ109 : ∀ {H : Heap} {locs : List Loc}, zS P s K59 H locs → ∀ (z109_0 : Int), (z109_0 = 0 ∨ z109_0 = 1) → J109 z109_0 → ∀ (ls : Array Slot), zL ls 11 [(0, .ref (zA P 5 0 0)), (2, .int (zI p1)), (3, .int (zI x2)), (4, .int (zI a59_4)), (5, .int (zI a59_5)), (6, .int (zI x3)), (7, .int (zI x4))] → W p l e rX6_bindsNumber s m args below meth c H locs 0 0 (MQ below (zQz P Q) args s 0 0 (zAr P)) (F0 m 109 ls [.int (zI z109_0)]) := by
        intro H locs hG z109_0 hz109_0 hV ls hL
        rw [eJ109] at hV
        refine z_istore (lv' := [(8, .int (zI z109_0)), (0, .ref (zA P 5 0 0)), (2, .int (zI p1)), (3, .int (zI x2)), (4, .int (zI a59_4)), (5, .int (zI a59_5)), (6, .int (zI x3)), (7, .int (zI x4))]) hC hL (by decide) rfl dX6_bindsNumber_109 (fun ls hL => ?_)
        refine z_iload hC (hL.at 4 rfl) dX6_bindsNumber_111 ?_
        obtain ⟨J126, eJ126, hV⟩ := zjn_abs hV
        have hJ126 : ∀ {H : Heap} {locs : List Loc}, zS P s K59 H locs → ∀ (z126_0 : Int), (z126_0 = 0 ∨ z126_0 = 1) → J126 z126_0 → ∀ (ls : Array Slot), zL ls 11 [(0, .ref (zA P 5 0 0)), (2, .int (zI p1)), (3, .int (zI x2)), (5, .int (zI a59_5)), (6, .int (zI x3)), (7, .int (zI x4)), (8, .int (zI z109_0))] → W p l e rX6_bindsNumber s m args below meth c H locs 0 0 (MQ below (zQz P Q) args s 0 0 (zAr P)) (F0 m 126 ls [.int (zI z126_0)]) := by
          intro H locs hG z126_0 hz126_0 hV ls hL
          rw [eJ126] at hV
          refine z_istore (lv' := [(4, .int (zI z126_0)), (0, .ref (zA P 5 0 0)), (2, .int (zI p1)), (3, .int (zI x2)), (5, .int (zI a59_5)), (6, .int (zI x3)), (7, .int (zI x4)), (8, .int (zI z109_0))]) hC hL (by decide) rfl dX6_bindsNumber_126 (fun ls hL => ?_)
          refine z_iload hC (hL.at 4 rfl) dX6_bindsNumber_128 ?_
          obtain ⟨J149, eJ149, hV⟩ := zjn_abs hV
          have hJ149 : ∀ {H : Heap} {locs : List Loc}, zS P s K59 H locs → ∀ (z149_0 : Int), (z149_0 = 0 ∨ z149_0 = 1) → J149 z149_0 → ∀ (ls : Array Slot), zL ls 11 [(0, .ref (zA P 5 0 0)), (2, .int (zI p1)), (3, .int (zI x2)), (4, .int (zI z126_0)), (6, .int (zI x3)), (7, .int (zI x4))] → W p l e rX6_bindsNumber s m args below meth c H locs 0 0 (MQ below (zQz P Q) args s 0 0 (zAr P)) (F0 m 149 ls [.int (zI z149_0)]) := by
            intro H locs hG z149_0 hz149_0 hV ls hL
            rw [eJ149] at hV
            refine z_istore (lv' := [(5, .int (zI z149_0)), (0, .ref (zA P 5 0 0)), (2, .int (zI p1)), (3, .int (zI x2)), (4, .int (zI z126_0)), (6, .int (zI x3)), (7, .int (zI x4))]) hC hL (by decide) rfl dX6_bindsNumber_149 (fun ls hL => ?_)
            refine z_iconst hC dX6_bindsNumber_151 ?_
            refine z_istore (lv' := [(9, .int (zI 0)), (5, .int (zI z149_0)), (0, .ref (zA P 5 0 0)), (2, .int (zI p1)), (3, .int (zI x2)), (4, .int (zI z126_0)), (6, .int (zI x3)), (7, .int (zI x4))]) hC hL (by decide) rfl dX6_bindsNumber_152 (fun ls hL => ?_)
            refine zl3_use hV (fun (a154_3 : Int) (a154_9 : Int) (K154 : ZG) => inR a154_3 → inR a154_9 → ∀ (H : Heap) (locs : List Loc), zS P s K154 H locs → ∀ (ls : Array Slot), zL ls 11 [(0, .ref (zA P 5 0 0)), (2, .int (zI p1)), (3, .int (zI a154_3)), (4, .int (zI z126_0)), (5, .int (zI z149_0)), (6, .int (zI x3)), (7, .int (zI x4)), (9, .int (zI a154_9))] → W p l e rX6_bindsNumber s m args below meth c H locs 0 0 (MQ below (zQz P Q) args s 0 0 (zAr P)) (F0 m 154 ls [])) ?_ hx2 (inR_lit rfl) _ _ hG _ (hL.sub [2, 3, 4, 5, 1, 6, 7, 0] rfl)
            intro P154 a154_3 a154_9 K154 hP154 hV ha154_3 ha154_9 H locs hG ls hL
            refine z_iload hC (hL.at 7 rfl) dX6_bindsNumber_154 ?_
            refine z_iconst hC dX6_bindsNumber_156 ?_
            refine z_icmp_ge (tgt := 252) hC ha154_9 (inR_lit rfl) hV dX6_bindsNumber_157 (by decide) ?_ ?_
            · intro hV
              refine z_goto (tgt := 59) hC dX6_bindsNumber_252 (by decide) ?_
              exact hP59 a154_3 z126_0 z149_0 K154 hV ha154_3 hz126_0 hz149_0 _ _ hG _ (hL.sub [0, 1, 2, 3, 4] rfl)
            · intro hV
              refine z_aload_n hC zvr_a rfl (hL.at 0 rfl) dX6_bindsNumber_160 ?_
              refine z_getA hC hG kFX6_40_6 rfl rfl dX6_bindsNumber_161 ?_
              refine z_iconst hC dX6_bindsNumber_164 ?_
              refine z_iload hC (hL.at 5 rfl) dX6_bindsNumber_165 ?_
              refine z_imul hC dX6_bindsNumber_167 ?_
              refine z_iload hC (hL.at 7 rfl) dX6_bindsNumber_168 ?_
              refine z_iadd hC dX6_bindsNumber_170 ?_
              refine z_iald hC hG rfl rfl rfl (inR_w _) hV dX6_bindsNumber_171 ?_
              intro x6 hx6 hV
              refine z_istore (lv' := [(10, .int (zI x6)), (0, .ref (zA P 5 0 0)), (2, .int (zI p1)), (3, .int (zI a154_3)), (4, .int (zI z126_0)), (5, .int (zI z149_0)), (6, .int (zI x3)), (7, .int (zI x4)), (9, .int (zI a154_9))]) hC hL (by decide) rfl dX6_bindsNumber_172 (fun ls hL => ?_)
              refine z_iload hC (hL.at 0 rfl) dX6_bindsNumber_174 ?_
              refine z_iconst hC dX6_bindsNumber_176 ?_
              obtain ⟨J246, eJ246, hV⟩ := zjn_abs hV
              have hJ246 : ∀ (y246_3 : Int) (H246 : ZG), inR y246_3 → J246 y246_3 H246 → ∀ (H : Heap) (locs : List Loc) (ls : Array Slot), zS P s H246 H locs → zL ls 11 [(0, .ref (zA P 5 0 0)), (2, .int (zI p1)), (3, .int (zI y246_3)), (4, .int (zI z126_0)), (5, .int (zI z149_0)), (6, .int (zI x3)), (7, .int (zI x4)), (9, .int (zI a154_9))] → W p l e rX6_bindsNumber s m args below meth c H locs 0 0 (MQ below (zQz P Q) args s 0 0 (zAr P)) (F0 m 246 ls []) := by
                intro y246_3 H246 hy246_3 hV H locs ls hG hL
                rw [eJ246] at hV
                refine z_iincV (fun x7 => [(9, .int (zI x7)), (0, .ref (zA P 5 0 0)), (2, .int (zI p1)), (3, .int (zI y246_3)), (4, .int (zI z126_0)), (5, .int (zI z149_0)), (6, .int (zI x3)), (7, .int (zI x4))]) hC hL (k := 7) rfl (by decide) (fun _ => rfl) hV dX6_bindsNumber_246 ?_
                intro x7 hx7 hV ls hL
                refine z_goto (tgt := 154) hC dX6_bindsNumber_249 (by decide) ?_
                exact hP154 y246_3 x7 H246 hV hy246_3 hx7 _ _ hG _ (hL.sub [1, 2, 3, 4, 5, 6, 7, 0] rfl)
              refine z_icmp_eq (tgt := 246) hC hx6 (inR_lit rfl) hV dX6_bindsNumber_177 (by decide) ?_ ?_
              · intro hV
                exact hJ246 a154_3 K154 ha154_3 hV _ _ _ hG (hL.sub [1, 2, 3, 4, 5, 6, 7, 8] rfl)
              · intro hV
                refine z_aload_n hC zvr_a rfl (hL.at 1 rfl) dX6_bindsNumber_180 ?_
                refine z_getA hC hG kFX6_86_6 rfl rfl dX6_bindsNumber_181 ?_
                refine z_iload_n hC rfl (hL.at 3 rfl) dX6_bindsNumber_184 ?_
                refine z_iload hC (hL.at 0 rfl) dX6_bindsNumber_185 ?_
                refine z_iast hC hG rfl (Nat.le_of_ble_eq_true rfl) (Nat.le_of_ble_eq_true rfl) rfl rfl rfl ha154_3 hx6 hV dX6_bindsNumber_187 ?_
                intro G1 _ _ hG hV
                refine z_aload_n hC zvr_a rfl (hL.at 1 rfl) dX6_bindsNumber_188 ?_
                refine z_getA hC hG kFX6_89_6 rfl rfl dX6_bindsNumber_189 ?_
                refine z_iload_n hC rfl (hL.at 3 rfl) dX6_bindsNumber_192 ?_
                refine z_aload_n hC zvr_a rfl (hL.at 1 rfl) dX6_bindsNumber_193 ?_
                refine z_getA hC hG kFX6_31_6 rfl rfl dX6_bindsNumber_194 ?_
                refine z_iload hC (hL.at 6 rfl) dX6_bindsNumber_197 ?_
                refine z_iald hC hG rfl rfl rfl hx3 hV dX6_bindsNumber_199 ?_
                intro x8 hx8 hV
                refine z_iconst hC dX6_bindsNumber_200 ?_
                obtain ⟨J242, eJ242, hV⟩ := zjn_abs hV
                have hJ242 : ∀ {H : Heap} {locs : List Loc}, zS P s G1 H locs → ∀ (z242_2 : Int), inR z242_2 → J242 z242_2 → ∀ (ls : Array Slot), zL ls 11 [(0, .ref (zA P 5 0 0)), (2, .int (zI p1)), (3, .int (zI a154_3)), (4, .int (zI z126_0)), (5, .int (zI z149_0)), (6, .int (zI x3)), (7, .int (zI x4)), (9, .int (zI a154_9))] → W p l e rX6_bindsNumber s m args below meth c H locs 0 0 (MQ below (zQz P Q) args s 0 0 (zAr P)) (F0 m 242 ls [.int (zI z242_2), .int (zI a154_3), .ref (zA P 5 32 0)]) := by
                  intro H locs hG z242_2 hz242_2 hV ls hL
                  rw [eJ242] at hV
                  refine z_iast hC hG rfl (Nat.le_of_ble_eq_true rfl) (Nat.le_of_ble_eq_true rfl) rfl rfl rfl ha154_3 hz242_2 hV dX6_bindsNumber_242 ?_
                  intro G2 _ _ hG hV
                  refine z_iincV (fun x9 => [(3, .int (zI x9)), (0, .ref (zA P 5 0 0)), (2, .int (zI p1)), (4, .int (zI z126_0)), (5, .int (zI z149_0)), (6, .int (zI x3)), (7, .int (zI x4)), (9, .int (zI a154_9))]) hC hL (k := 2) rfl (by decide) (fun _ => rfl) hV dX6_bindsNumber_243 ?_
                  intro x9 hx9 hV ls hL
                  exact hJ246 x9 G2 hx9 hV _ _ _ hG (hL.sub [1, 2, 0, 3, 4, 5, 6, 7] rfl)
                refine z_icmp_ne (tgt := 224) hC hx8 (inR_lit rfl) hV dX6_bindsNumber_201 (by decide) ?_ ?_
                · intro hV
                  refine z_aload_n hC zvr_a rfl (hL.at 1 rfl) dX6_bindsNumber_224 ?_
                  refine z_getA hC hG kFX6_31_6 rfl rfl dX6_bindsNumber_225 ?_
                  refine z_iload hC (hL.at 6 rfl) dX6_bindsNumber_228 ?_
                  refine z_iald hC hG rfl rfl rfl hx3 hV dX6_bindsNumber_230 ?_
                  intro x10 hx10 hV
                  refine z_bipush hC rfl dX6_bindsNumber_231 ?_
                  refine z_icmp_ne (tgt := 240) hC hx10 (inR_lit rfl) hV dX6_bindsNumber_233 (by decide) ?_ ?_
                  · intro hV
                    refine z_iload hC (hL.at 7 rfl) dX6_bindsNumber_240 ?_
                    exact hJ242 hG x4 hx4 hV _ (hL.sub [1, 2, 3, 4, 5, 6, 7, 8] rfl)
                  · intro hV
                    refine z_iconst hC dX6_bindsNumber_236 ?_
                    refine z_goto (tgt := 242) hC dX6_bindsNumber_237 (by decide) ?_
                    exact hJ242 hG 4 (inR_lit rfl) hV _ (hL.sub [1, 2, 3, 4, 5, 6, 7, 8] rfl)
                · intro hV
                  refine z_aload_n hC zvr_a rfl (hL.at 1 rfl) dX6_bindsNumber_204 ?_
                  refine z_getA hC hG kFX6_16_6 rfl rfl dX6_bindsNumber_205 ?_
                  refine z_iconst hC dX6_bindsNumber_208 ?_
                  refine z_aload_n hC zvr_a rfl (hL.at 1 rfl) dX6_bindsNumber_209 ?_
                  refine z_getA hC hG kFX6_34_6 rfl rfl dX6_bindsNumber_210 ?_
                  refine z_iload hC (hL.at 6 rfl) dX6_bindsNumber_213 ?_
                  refine z_iald hC hG rfl rfl rfl hx3 hV dX6_bindsNumber_215 ?_
                  intro x11 hx11 hV
                  refine z_imul hC dX6_bindsNumber_216 ?_
                  refine z_iload hC (hL.at 8 rfl) dX6_bindsNumber_217 ?_
                  refine z_iadd hC dX6_bindsNumber_219 ?_
                  refine z_iald hC hG rfl rfl rfl (inR_w _) hV dX6_bindsNumber_220 ?_
                  intro x12 hx12 hV
                  refine z_goto (tgt := 242) hC dX6_bindsNumber_221 (by decide) ?_
                  exact hJ242 hG x12 hx12 hV _ (hL.sub [1, 2, 3, 4, 5, 6, 7, 8] rfl)
          obtain ⟨J148, eJ148, hV⟩ := zjn_abs hV
          have hJ148 : ∀ {H : Heap} {locs : List Loc}, zS P s K59 H locs → J148 () → ∀ (ls : Array Slot), zL ls 11 [(0, .ref (zA P 5 0 0)), (2, .int (zI p1)), (3, .int (zI x2)), (4, .int (zI z126_0)), (6, .int (zI x3)), (7, .int (zI x4))] → W p l e rX6_bindsNumber s m args below meth c H locs 0 0 (MQ below (zQz P Q) args s 0 0 (zAr P)) (F0 m 148 ls []) := by
            intro H locs hG hV ls hL
            rw [eJ148] at hV
            refine z_iconst hC dX6_bindsNumber_148 ?_
            exact hJ149 hG 0 (Or.inl rfl) hV _ hL
          refine z_if_eq (tgt := 148) hC (inR_b ha59_5) hV dX6_bindsNumber_130 (by decide) ?_ ?_
          · intro hV
            exact hJ148 hG hV _ (hL.sub [1, 2, 3, 0, 5, 6] rfl)
          · intro hV
            refine z_iload hC (hL.at 7 rfl) dX6_bindsNumber_133 ?_
            obtain ⟨J144, eJ144, hV⟩ := zjn_abs hV
            have hJ144 : ∀ {H : Heap} {locs : List Loc}, zS P s K59 H locs → J144 () → ∀ (ls : Array Slot), zL ls 11 [(0, .ref (zA P 5 0 0)), (2, .int (zI p1)), (3, .int (zI x2)), (4, .int (zI z126_0)), (6, .int (zI x3)), (7, .int (zI x4))] → W p l e rX6_bindsNumber s m args below meth c H locs 0 0 (MQ below (zQz P Q) args s 0 0 (zAr P)) (F0 m 144 ls []) := by
              intro H locs hG hV ls hL
              rw [eJ144] at hV
              refine z_iconst hC dX6_bindsNumber_144 ?_
              refine z_goto (tgt := 149) hC dX6_bindsNumber_145 (by decide) ?_
              exact hJ149 hG 1 (Or.inr rfl) hV _ hL
            refine z_if_eq (tgt := 144) hC (inR_b hz109_0) hV dX6_bindsNumber_135 (by decide) ?_ ?_
            · intro hV
              exact hJ144 hG hV _ (hL.sub [1, 2, 3, 0, 5, 6] rfl)
            · intro hV
              refine z_iload hC (hL.at 6 rfl) dX6_bindsNumber_138 ?_
              refine z_iconst hC dX6_bindsNumber_140 ?_
              refine z_icmp_ne (tgt := 148) hC hx4 (inR_lit rfl) hV dX6_bindsNumber_141 (by decide) ?_ ?_
              · intro hV
                exact hJ148 hG hV _ (hL.sub [1, 2, 3, 0, 5, 6] rfl)
              · intro hV
                exact hJ144 hG hV _ (hL.sub [1, 2, 3, 0, 5, 6] rfl)
        obtain ⟨J121, eJ121, hV⟩ := zjn_abs hV
        have hJ121 : ∀ {H : Heap} {locs : List Loc}, zS P s K59 H locs → J121 () → ∀ (ls : Array Slot), zL ls 11 [(0, .ref (zA P 5 0 0)), (2, .int (zI p1)), (3, .int (zI x2)), (5, .int (zI a59_5)), (6, .int (zI x3)), (7, .int (zI x4)), (8, .int (zI z109_0))] → W p l e rX6_bindsNumber s m args below meth c H locs 0 0 (MQ below (zQz P Q) args s 0 0 (zAr P)) (F0 m 121 ls []) := by
          intro H locs hG hV ls hL
          rw [eJ121] at hV
          refine z_iconst hC dX6_bindsNumber_121 ?_
          refine z_goto (tgt := 126) hC dX6_bindsNumber_122 (by decide) ?_
          exact hJ126 hG 1 (Or.inr rfl) hV _ hL
        refine z_if_ne (tgt := 121) hC (inR_b ha59_4) hV dX6_bindsNumber_113 (by decide) ?_ ?_
        · intro hV
          exact hJ121 hG hV _ (hL.sub [1, 2, 3, 5, 6, 7, 0] rfl)
        · intro hV
          refine z_iload hC (hL.at 0 rfl) dX6_bindsNumber_116 ?_
          refine z_if_eq (tgt := 125) hC (inR_b hz109_0) hV dX6_bindsNumber_118 (by decide) ?_ ?_
          · intro hV
            refine z_iconst hC dX6_bindsNumber_125 ?_
            exact hJ126 hG 0 (Or.inl rfl) hV _ (hL.sub [1, 2, 3, 5, 6, 7, 0] rfl)
          · intro hV
            exact hJ121 hG hV _ (hL.sub [1, 2, 3, 5, 6, 7, 0] rfl)
      obtain ⟨J108, eJ108, hV⟩ := zjn_abs hV
      have hJ108 : ∀ {H : Heap} {locs : List Loc}, zS P s K59 H locs → J108 () → ∀ (ls : Array Slot), zL ls 11 [(0, .ref (zA P 5 0 0)), (2, .int (zI p1)), (3, .int (zI x2)), (4, .int (zI a59_4)), (5, .int (zI a59_5)), (6, .int (zI x3)), (7, .int (zI x4))] → W p l e rX6_bindsNumber s m args below meth c H locs 0 0 (MQ below (zQz P Q) args s 0 0 (zAr P)) (F0 m 108 ls []) := by
        intro H locs hG hV ls hL
        rw [eJ108] at hV
        refine z_iconst hC dX6_bindsNumber_108 ?_
        exact hJ109 hG 0 (Or.inl rfl) hV _ hL
      refine z_icmp_ne (tgt := 108) hC hx5 (inR_lit rfl) hV dX6_bindsNumber_90 (by decide) ?_ ?_
      · intro hV
        exact hJ108 hG hV _ (hL.sub [3, 4, 2, 5, 6, 1, 0] rfl)
      · intro hV
        refine z_aload_n hC zvr_a rfl (hL.at 3 rfl) dX6_bindsNumber_93 ?_
        refine z_getA hC hG kFX6_34_6 rfl rfl dX6_bindsNumber_94 ?_
        refine z_iload hC (hL.at 1 rfl) dX6_bindsNumber_97 ?_
        refine z_iald hC hG rfl rfl rfl hx3 hV dX6_bindsNumber_99 ?_
        intro x13 hx13 hV
        refine z_iload_n hC rfl (hL.at 4 rfl) dX6_bindsNumber_100 ?_
        refine z_icmp_ne (tgt := 108) hC hx13 hp1 hV dX6_bindsNumber_101 (by decide) ?_ ?_
        · intro hV
          exact hJ108 hG hV _ (hL.sub [3, 4, 2, 5, 6, 1, 0] rfl)
        · intro hV
          refine z_iconst hC dX6_bindsNumber_104 ?_
          refine z_goto (tgt := 109) hC dX6_bindsNumber_105 (by decide) ?_
          exact hJ109 hG 1 (Or.inr rfl) hV _ (hL.sub [3, 4, 2, 5, 6, 1, 0] rfl)
  · intro hV
    refine z_aload_n hC zvr_a rfl (hL.at 0 rfl) dX6_bindsNumber_20 ?_
    refine z_getA hC hG kFX6_86_6 rfl rfl dX6_bindsNumber_21 ?_
    refine z_iload_n hC rfl (hL.at 3 rfl) dX6_bindsNumber_24 ?_
    refine z_aload_n hC zvr_a rfl (hL.at 0 rfl) dX6_bindsNumber_25 ?_
    refine z_getA hC hG kFX6_68_6 rfl rfl dX6_bindsNumber_26 ?_
    refine z_iconst hC dX6_bindsNumber_29 ?_
    refine z_iload_n hC rfl (hL.at 1 rfl) dX6_bindsNumber_30 ?_
    refine z_imul hC dX6_bindsNumber_31 ?_
    refine z_iload hC (hL.at 6 rfl) dX6_bindsNumber_32 ?_
    refine z_iadd hC dX6_bindsNumber_34 ?_
    refine z_iald hC hG rfl rfl rfl (inR_w _) hV dX6_bindsNumber_35 ?_
    intro x14 hx14 hV
    refine z_iast hC hG rfl (Nat.le_of_ble_eq_true rfl) (Nat.le_of_ble_eq_true rfl) rfl rfl rfl ha11_3 hx14 hV dX6_bindsNumber_36 ?_
    intro G3 _ _ hG hV
    refine z_aload_n hC zvr_a rfl (hL.at 0 rfl) dX6_bindsNumber_37 ?_
    refine z_getA hC hG kFX6_89_6 rfl rfl dX6_bindsNumber_38 ?_
    refine z_iload_n hC rfl (hL.at 3 rfl) dX6_bindsNumber_41 ?_
    refine z_aload_n hC zvr_a rfl (hL.at 0 rfl) dX6_bindsNumber_42 ?_
    refine z_getA hC hG kFX6_65_6 rfl rfl dX6_bindsNumber_43 ?_
    refine z_iload hC (hL.at 6 rfl) dX6_bindsNumber_46 ?_
    refine z_iald hC hG rfl rfl rfl ha11_6 hV dX6_bindsNumber_48 ?_
    intro x15 hx15 hV
    refine z_iast hC hG rfl (Nat.le_of_ble_eq_true rfl) (Nat.le_of_ble_eq_true rfl) rfl rfl rfl ha11_3 hx15 hV dX6_bindsNumber_49 ?_
    intro G4 _ _ hG hV
    refine z_iincV (fun x16 => [(3, .int (zI x16)), (0, .ref (zA P 5 0 0)), (1, .int (zI p0)), (2, .int (zI p1)), (4, .int (zI 0)), (5, .int (zI 1)), (6, .int (zI a11_6))]) hC hL (k := 3) rfl (by decide) (fun _ => rfl) hV dX6_bindsNumber_50 ?_
    intro x16 hx16 hV ls hL
    refine z_iincV (fun x17 => [(6, .int (zI x17)), (3, .int (zI x16)), (0, .ref (zA P 5 0 0)), (1, .int (zI p0)), (2, .int (zI p1)), (4, .int (zI 0)), (5, .int (zI 1))]) hC hL (k := 6) rfl (by decide) (fun _ => rfl) hV dX6_bindsNumber_53 ?_
    intro x17 hx17 hV ls hL
    refine z_goto (tgt := 11) hC dX6_bindsNumber_56 (by decide) ?_
    exact hP11 x16 x17 G4 hV hx16 hx17 _ _ hG _ (hL.sub [2, 3, 4, 1, 5, 6, 0] rfl)
abbrev rX6_guard : Room := { frames := 3, cells := 0, slots := 0, locals := 55 }
def vX6_guard (p0 : Int) (p1 : Int) (p2 : Int) (p3 : Int) (G : ZG) (Q : Int → ZG → Prop) : Prop := vX6_isCase p0 G fun (x1 : Int) => zjn (fun (z31_0 : Int) => zjn (fun (z75_0 : Int) (H75 : ZG) => zjn (fun (z97_1 : Int) => vX6_refused z97_1 H75 fun (x2 : Int) (G1 : ZG) => zbr (x2 = 0) (zaL G1 5 26 8 p0 fun (x3 : Int) => zaS G1 5 26 8 p0 p1 fun (G2 : ZG) => zaS G2 5 27 8 p0 p2 fun (G3 : ZG) => zaS G3 5 28 8 p0 p3 fun (G4 : ZG) => zpF G4 5 54 (-1) fun (G5 : ZG) => Q x3 G5) (Q 0 G1)) fun J97 => zbr (z31_0 ≠ 0) (zbr (z75_0 = 0) (J97 2) (J97 0)) (J97 1)) fun J75 => zjn (fun (H74 : ZG) => J75 0 H74) fun J74 => zbr (z31_0 = 0) (J74 G) (vX6_in p3 0 9 fun (x4 : Int) => zbr (x4 = 0) (J74 G) (zjn (fun (H70 : ZG) => J75 1 H70) fun J70 => zbr (p1 ≠ (-1)) (vX6_bindsNumber p0 p2 G fun (x5 : Int) (G6 : ZG) => zbr (x5 = 0) (J74 G6) (J70 G6)) (zbr (p2 ≠ 0) (J74 G) (J70 G))))) fun J31 => zjn (fun (_ : Unit) => J31 0) fun J30 => zbr (x1 = 0) (J30 ()) (vX6_in p1 (-1) 3 fun (x6 : Int) => zbr (x6 = 0) (J30 ()) (vX6_in p2 0 5 fun (x7 : Int) => zbr (x7 = 0) (J30 ()) (J31 1)))
set_option maxHeartbeats 4000000 in
theorem mX6_guard (l : Launch) (P : ZP) (G : ZG) (p0 : Int) (hp0 : inR p0) (p1 : Int) (hp1 : inR p1) (p2 : Int) (hp2 : inR p2) (p3 : Int) (hp3 : inR p3) {Q : Int → ZG → Prop} (hV : vX6_guard p0 p1 p2 p3 G Q) : Met l yX6_guard (ws_ yX6_guard cX6_guard 8 (some .int)) rX6_guard (zPc P G [.ref (zA P 5 0 0), .int (zI p0), .int (zI p1), .int (zI p2), .int (zI p3)]) (zQi P Q) 0 0 (zAr P) := by
  refine zMet RX6 (plainFor_of_name (by decide)) rfl (zcs_c rfl (zcs_c rfl (zcs_c rfl (zcs_c rfl (zcs_c rfl zcs_0))))) (Nat.le_of_ble_eq_true rfl) (fun p e s m args below meth c ls hC hr hk hn hG hL => ?_)
  unfold vX6_guard at hV
  refine z_aload_n hC zvr_a rfl (hL.at 0 rfl) dX6_guard_0 ?_
  refine z_iload_n hC rfl (hL.at 1 rfl) dX6_guard_1 ?_
  refine z_call_z hG (zrunV (ci := 6) hC hG (Nat.le_of_ble_eq_true rfl) (Nat.le_of_ble_eq_true rfl) (zobj hG rfl (Nat.le_of_ble_eq_true rfl) (Nat.le_of_ble_eq_true rfl)) (mX6_isCase l P G p0 hp0 hV) kVX6_248 rfl rfl rfl ⟨(Nat.le_of_ble_eq_true rfl), (Nat.le_of_ble_eq_true rfl)⟩ ⟨(Nat.le_of_ble_eq_true rfl), (Nat.le_of_ble_eq_true rfl)⟩ rfl ⟨zcs_0, (Nat.le_of_ble_eq_true rfl)⟩ hL.1.1 dX6_guard_2) ?_
  rintro x1 _ _ _ hx1 ⟨rfl, hV⟩ hG
  obtain ⟨J31, eJ31, hV⟩ := zjn_abs hV
  have hJ31 : ∀ {H : Heap} {locs : List Loc}, zS P s G H locs → ∀ (z31_0 : Int), (z31_0 = 0 ∨ z31_0 = 1) → J31 z31_0 → ∀ (ls : Array Slot), zL ls 8 [(0, .ref (zA P 5 0 0)), (1, .int (zI p0)), (2, .int (zI p1)), (3, .int (zI p2)), (4, .int (zI p3))] → W p l e rX6_guard s m args below meth c H locs 0 0 (MQ below (zQi P Q) args s 0 0 (zAr P)) (F0 m 31 ls [.int (zI z31_0)]) := by
    intro H locs hG z31_0 hz31_0 hV ls hL
    rw [eJ31] at hV
    refine z_istore (lv' := [(5, .int (zI z31_0)), (0, .ref (zA P 5 0 0)), (1, .int (zI p0)), (2, .int (zI p1)), (3, .int (zI p2)), (4, .int (zI p3))]) hC hL (by decide) rfl dX6_guard_31 (fun ls hL => ?_)
    refine z_iload hC (hL.at 0 rfl) dX6_guard_33 ?_
    obtain ⟨J75, eJ75, hV⟩ := zjn_abs hV
    have hJ75 : ∀ (z75_0 : Int) (H75 : ZG), (z75_0 = 0 ∨ z75_0 = 1) → J75 z75_0 H75 → ∀ (H : Heap) (locs : List Loc) (ls : Array Slot), zS P s H75 H locs → zL ls 8 [(0, .ref (zA P 5 0 0)), (1, .int (zI p0)), (2, .int (zI p1)), (3, .int (zI p2)), (4, .int (zI p3)), (5, .int (zI z31_0))] → W p l e rX6_guard s m args below meth c H locs 0 0 (MQ below (zQi P Q) args s 0 0 (zAr P)) (F0 m 75 ls [.int (zI z75_0)]) := by
      intro z75_0 H75 hz75_0 hV H locs ls hG hL
      rw [eJ75] at hV
      refine z_istore (lv' := [(6, .int (zI z75_0)), (0, .ref (zA P 5 0 0)), (1, .int (zI p0)), (2, .int (zI p1)), (3, .int (zI p2)), (4, .int (zI p3)), (5, .int (zI z31_0))]) hC hL (by decide) rfl dX6_guard_75 (fun ls hL => ?_)
      refine z_aload_n hC zvr_a rfl (hL.at 1 rfl) dX6_guard_77 ?_
      refine z_iload hC (hL.at 6 rfl) dX6_guard_78 ?_
      obtain ⟨J97, eJ97, hV⟩ := zjn_abs hV
      have hJ97 : ∀ {H : Heap} {locs : List Loc}, zS P s H75 H locs → ∀ (z97_1 : Int), inR z97_1 → J97 z97_1 → ∀ (ls : Array Slot), zL ls 8 [(0, .ref (zA P 5 0 0)), (1, .int (zI p0)), (2, .int (zI p1)), (3, .int (zI p2)), (4, .int (zI p3))] → W p l e rX6_guard s m args below meth c H locs 0 0 (MQ below (zQi P Q) args s 0 0 (zAr P)) (F0 m 97 ls [.int (zI z97_1), .ref (zA P 5 0 0)]) := by
        intro H locs hG z97_1 hz97_1 hV ls hL
        rw [eJ97] at hV
        refine z_call_z hG (zrunV (ci := 6) hC hG (Nat.le_of_ble_eq_true rfl) (Nat.le_of_ble_eq_true rfl) (zobj hG rfl (Nat.le_of_ble_eq_true rfl) (Nat.le_of_ble_eq_true rfl)) (mX6_refused l P H75 z97_1 hz97_1 hV) kVX6_183 rfl rfl rfl ⟨(Nat.le_of_ble_eq_true rfl), (Nat.le_of_ble_eq_true rfl)⟩ ⟨(Nat.le_of_ble_eq_true rfl), (Nat.le_of_ble_eq_true rfl)⟩ rfl ⟨zcs_0, (Nat.le_of_ble_eq_true rfl)⟩ hL.1.1 dX6_guard_97) ?_
        rintro x2 G1 _ _ hx2 hV hG
        refine z_if_eq (tgt := 105) hC (inR_b hx2) hV dX6_guard_100 (by decide) ?_ ?_
        · intro hV
          refine z_aload_n hC zvr_a rfl (hL.at 0 rfl) dX6_guard_105 ?_
          refine z_getA hC hG kFX6_74_6 rfl rfl dX6_guard_106 ?_
          refine z_iload_n hC rfl (hL.at 1 rfl) dX6_guard_109 ?_
          refine z_iald hC hG rfl rfl rfl hp0 hV dX6_guard_110 ?_
          intro x3 hx3 hV
          refine z_istore (lv' := [(7, .int (zI x3)), (0, .ref (zA P 5 0 0)), (1, .int (zI p0)), (2, .int (zI p1)), (3, .int (zI p2)), (4, .int (zI p3))]) hC hL (by decide) rfl dX6_guard_111 (fun ls hL => ?_)
          refine z_aload_n hC zvr_a rfl (hL.at 1 rfl) dX6_guard_113 ?_
          refine z_getA hC hG kFX6_74_6 rfl rfl dX6_guard_114 ?_
          refine z_iload_n hC rfl (hL.at 2 rfl) dX6_guard_117 ?_
          refine z_iload_n hC rfl (hL.at 3 rfl) dX6_guard_118 ?_
          refine z_iast hC hG rfl (Nat.le_of_ble_eq_true rfl) (Nat.le_of_ble_eq_true rfl) rfl rfl rfl hp0 hp1 hV dX6_guard_119 ?_
          intro G2 _ _ hG hV
          refine z_aload_n hC zvr_a rfl (hL.at 1 rfl) dX6_guard_120 ?_
          refine z_getA hC hG kFX6_77_6 rfl rfl dX6_guard_121 ?_
          refine z_iload_n hC rfl (hL.at 2 rfl) dX6_guard_124 ?_
          refine z_iload_n hC rfl (hL.at 4 rfl) dX6_guard_125 ?_
          refine z_iast hC hG rfl (Nat.le_of_ble_eq_true rfl) (Nat.le_of_ble_eq_true rfl) rfl rfl rfl hp0 hp2 hV dX6_guard_126 ?_
          intro G3 _ _ hG hV
          refine z_aload_n hC zvr_a rfl (hL.at 1 rfl) dX6_guard_127 ?_
          refine z_getA hC hG kFX6_80_6 rfl rfl dX6_guard_128 ?_
          refine z_iload_n hC rfl (hL.at 2 rfl) dX6_guard_131 ?_
          refine z_iload hC (hL.at 5 rfl) dX6_guard_132 ?_
          refine z_iast hC hG rfl (Nat.le_of_ble_eq_true rfl) (Nat.le_of_ble_eq_true rfl) rfl rfl rfl hp0 hp3 hV dX6_guard_134 ?_
          intro G4 _ _ hG hV
          refine z_aload_n hC zvr_a rfl (hL.at 1 rfl) dX6_guard_135 ?_
          refine z_iconst hC dX6_guard_136 ?_
          refine z_putF hC hG kFX6_161_6 rfl rfl rfl rfl nk_6_54 (inR_lit rfl) (Or.inl rfl) hV dX6_guard_137 ?_
          intro G5 _ _ hG hV
          refine z_iload hC (hL.at 0 rfl) dX6_guard_140 ?_
          exact z_iret hC hG hr hk hx3 hV (Nat.le_of_ble_eq_true rfl) (Nat.le_of_ble_eq_true rfl) dX6_guard_142
        · intro hV
          refine z_iconst hC dX6_guard_103 ?_
          exact z_iret hC hG hr hk (inR_lit rfl) hV (Nat.le_of_ble_eq_true rfl) (Nat.le_of_ble_eq_true rfl) dX6_guard_104
      refine z_if_ne (tgt := 87) hC (inR_b hz31_0) hV dX6_guard_80 (by decide) ?_ ?_
      · intro hV
        refine z_iload hC (hL.at 0 rfl) dX6_guard_87 ?_
        refine z_if_eq (tgt := 96) hC (inR_b hz75_0) hV dX6_guard_89 (by decide) ?_ ?_
        · intro hV
          refine z_iconst hC dX6_guard_96 ?_
          exact hJ97 hG 2 (inR_lit rfl) hV _ (hL.sub [1, 2, 3, 4, 5] rfl)
        · intro hV
          refine z_iconst hC dX6_guard_92 ?_
          refine z_goto (tgt := 97) hC dX6_guard_93 (by decide) ?_
          exact hJ97 hG 0 (inR_lit rfl) hV _ (hL.sub [1, 2, 3, 4, 5] rfl)
      · intro hV
        refine z_iconst hC dX6_guard_83 ?_
        refine z_goto (tgt := 97) hC dX6_guard_84 (by decide) ?_
        exact hJ97 hG 1 (inR_lit rfl) hV _ (hL.sub [1, 2, 3, 4, 5] rfl)
    obtain ⟨J74, eJ74, hV⟩ := zjn_abs hV
    have hJ74 : ∀ (H74 : ZG), J74 H74 → ∀ (H : Heap) (locs : List Loc) (ls : Array Slot), zS P s H74 H locs → zL ls 8 [(0, .ref (zA P 5 0 0)), (1, .int (zI p0)), (2, .int (zI p1)), (3, .int (zI p2)), (4, .int (zI p3)), (5, .int (zI z31_0))] → W p l e rX6_guard s m args below meth c H locs 0 0 (MQ below (zQi P Q) args s 0 0 (zAr P)) (F0 m 74 ls []) := by
      intro H74 hV H locs ls hG hL
      rw [eJ74] at hV
      refine z_iconst hC dX6_guard_74 ?_
      exact hJ75 0 H74 (Or.inl rfl) hV _ _ _ hG hL
    refine z_if_eq (tgt := 74) hC (inR_b hz31_0) hV dX6_guard_35 (by decide) ?_ ?_
    · intro hV
      exact hJ74 G hV _ _ _ hG (hL.sub [1, 2, 3, 4, 5, 0] rfl)
    · intro hV
      refine z_iload hC (hL.at 5 rfl) dX6_guard_38 ?_
      refine z_iconst hC dX6_guard_40 ?_
      refine z_bipush hC rfl dX6_guard_41 ?_
      refine z_call_z hG (zrunS hC hG (mX6_in l P G p3 hp3 0 (inR_lit rfl) 9 (inR_lit rfl) hV) kSX6_171 rfl rfl rfl ⟨(Nat.le_of_ble_eq_true rfl), (Nat.le_of_ble_eq_true rfl)⟩ ⟨(Nat.le_of_ble_eq_true rfl), (Nat.le_of_ble_eq_true rfl)⟩ rfl ⟨zcs_0, (Nat.le_of_ble_eq_true rfl)⟩ hL.1.1 dX6_guard_43) ?_
      rintro x4 _ _ _ hx4 ⟨rfl, hV⟩ hG
      refine z_if_eq (tgt := 74) hC (inR_b hx4) hV dX6_guard_46 (by decide) ?_ ?_
      · intro hV
        exact hJ74 G hV _ _ _ hG (hL.sub [1, 2, 3, 4, 5, 0] rfl)
      · intro hV
        refine z_iload_n hC rfl (hL.at 3 rfl) dX6_guard_49 ?_
        refine z_iconst hC dX6_guard_50 ?_
        obtain ⟨J70, eJ70, hV⟩ := zjn_abs hV
        have hJ70 : ∀ (H70 : ZG), J70 H70 → ∀ (H : Heap) (locs : List Loc) (ls : Array Slot), zS P s H70 H locs → zL ls 8 [(0, .ref (zA P 5 0 0)), (1, .int (zI p0)), (2, .int (zI p1)), (3, .int (zI p2)), (4, .int (zI p3)), (5, .int (zI z31_0))] → W p l e rX6_guard s m args below meth c H locs 0 0 (MQ below (zQi P Q) args s 0 0 (zAr P)) (F0 m 70 ls []) := by
          intro H70 hV H locs ls hG hL
          rw [eJ70] at hV
          refine z_iconst hC dX6_guard_70 ?_
          refine z_goto (tgt := 75) hC dX6_guard_71 (by decide) ?_
          exact hJ75 1 H70 (Or.inr rfl) hV _ _ _ hG hL
        refine z_icmp_ne (tgt := 61) hC hp1 (inR_lit rfl) hV dX6_guard_51 (by decide) ?_ ?_
        · intro hV
          refine z_aload_n hC zvr_a rfl (hL.at 1 rfl) dX6_guard_61 ?_
          refine z_iload_n hC rfl (hL.at 2 rfl) dX6_guard_62 ?_
          refine z_iload_n hC rfl (hL.at 4 rfl) dX6_guard_63 ?_
          refine z_call_z hG (zrunV (ci := 6) hC hG (Nat.le_of_ble_eq_true rfl) (Nat.le_of_ble_eq_true rfl) (zobj hG rfl (Nat.le_of_ble_eq_true rfl) (Nat.le_of_ble_eq_true rfl)) (mX6_bindsNumber l P G p0 hp0 p2 hp2 hV) kVX6_251 rfl rfl rfl ⟨(Nat.le_of_ble_eq_true rfl), (Nat.le_of_ble_eq_true rfl)⟩ ⟨(Nat.le_of_ble_eq_true rfl), (Nat.le_of_ble_eq_true rfl)⟩ rfl ⟨zcs_0, (Nat.le_of_ble_eq_true rfl)⟩ hL.1.1 dX6_guard_64) ?_
          rintro x5 G6 _ _ hx5 hV hG
          refine z_if_eq (tgt := 74) hC (inR_b hx5) hV dX6_guard_67 (by decide) ?_ ?_
          · intro hV
            exact hJ74 G6 hV _ _ _ hG (hL.sub [1, 2, 3, 4, 5, 0] rfl)
          · intro hV
            exact hJ70 G6 hV _ _ _ hG (hL.sub [1, 2, 3, 4, 5, 0] rfl)
        · intro hV
          refine z_iload_n hC rfl (hL.at 4 rfl) dX6_guard_54 ?_
          refine z_if_ne (tgt := 74) hC hp2 hV dX6_guard_55 (by decide) ?_ ?_
          · intro hV
            exact hJ74 G hV _ _ _ hG (hL.sub [1, 2, 3, 4, 5, 0] rfl)
          · intro hV
            refine z_goto (tgt := 70) hC dX6_guard_58 (by decide) ?_
            exact hJ70 G hV _ _ _ hG (hL.sub [1, 2, 3, 4, 5, 0] rfl)
  obtain ⟨J30, eJ30, hV⟩ := zjn_abs hV
  have hJ30 : ∀ {H : Heap} {locs : List Loc}, zS P s G H locs → J30 () → ∀ (ls : Array Slot), zL ls 8 [(0, .ref (zA P 5 0 0)), (1, .int (zI p0)), (2, .int (zI p1)), (3, .int (zI p2)), (4, .int (zI p3))] → W p l e rX6_guard s m args below meth c H locs 0 0 (MQ below (zQi P Q) args s 0 0 (zAr P)) (F0 m 30 ls []) := by
    intro H locs hG hV ls hL
    rw [eJ30] at hV
    refine z_iconst hC dX6_guard_30 ?_
    exact hJ31 hG 0 (Or.inl rfl) hV _ hL
  refine z_if_eq (tgt := 30) hC (inR_b hx1) hV dX6_guard_5 (by decide) ?_ ?_
  · intro hV
    exact hJ30 hG hV _ hL
  · intro hV
    refine z_iload_n hC rfl (hL.at 2 rfl) dX6_guard_8 ?_
    refine z_iconst hC dX6_guard_9 ?_
    refine z_iconst hC dX6_guard_10 ?_
    refine z_call_z hG (zrunS hC hG (mX6_in l P G p1 hp1 (-1) (inR_lit rfl) 3 (inR_lit rfl) hV) kSX6_171 rfl rfl rfl ⟨(Nat.le_of_ble_eq_true rfl), (Nat.le_of_ble_eq_true rfl)⟩ ⟨(Nat.le_of_ble_eq_true rfl), (Nat.le_of_ble_eq_true rfl)⟩ rfl ⟨zcs_0, (Nat.le_of_ble_eq_true rfl)⟩ hL.1.1 dX6_guard_11) ?_
    rintro x6 _ _ _ hx6 ⟨rfl, hV⟩ hG
    refine z_if_eq (tgt := 30) hC (inR_b hx6) hV dX6_guard_14 (by decide) ?_ ?_
    · intro hV
      exact hJ30 hG hV _ hL
    · intro hV
      refine z_iload_n hC rfl (hL.at 3 rfl) dX6_guard_17 ?_
      refine z_iconst hC dX6_guard_18 ?_
      refine z_iconst hC dX6_guard_19 ?_
      refine z_call_z hG (zrunS hC hG (mX6_in l P G p2 hp2 0 (inR_lit rfl) 5 (inR_lit rfl) hV) kSX6_171 rfl rfl rfl ⟨(Nat.le_of_ble_eq_true rfl), (Nat.le_of_ble_eq_true rfl)⟩ ⟨(Nat.le_of_ble_eq_true rfl), (Nat.le_of_ble_eq_true rfl)⟩ rfl ⟨zcs_0, (Nat.le_of_ble_eq_true rfl)⟩ hL.1.1 dX6_guard_20) ?_
      rintro x7 _ _ _ hx7 ⟨rfl, hV⟩ hG
      refine z_if_eq (tgt := 30) hC (inR_b hx7) hV dX6_guard_23 (by decide) ?_ ?_
      · intro hV
        exact hJ30 hG hV _ hL
      · intro hV
        refine z_iconst hC dX6_guard_26 ?_
        refine z_goto (tgt := 31) hC dX6_guard_27 (by decide) ?_
        exact hJ31 hG 1 (Or.inr rfl) hV _ hL
abbrev rX6_split : Room := { frames := 3, cells := 0, slots := 0, locals := 57 }
def vX6_split (p0 : Int) (p1 : Int) (G : ZG) (Q : Int → ZG → Prop) : Prop := vX6_isCase p0 G fun (x1 : Int) => zjn (fun (z27_0 : Int) => zjn (fun (z46_0 : Int) => zjn (fun (z97_0 : Int) => zjn (fun (z118_1 : Int) => vX6_refused z118_1 G fun (x2 : Int) (G1 : ZG) => zbr (x2 = 0) (vX6_open p0 G1 fun (G2 : ZG) => vX6_copyCase (w32 (p0 + 1)) p0 G2 fun (G3 : ZG) => zaS G3 5 29 8 p0 0 fun (G4 : ZG) => zaS G4 5 29 8 (w32 (p0 + 1)) 0 fun (G5 : ZG) => zaL G5 5 13 180 (w32 (3 * z46_0)) fun (x3 : Int) => zaS G5 5 24 24 (w32 ((w32 (3 * p0)) + p1)) x3 fun (G6 : ZG) => zaL G6 5 13 180 (w32 ((w32 (3 * z46_0)) + 1)) fun (x4 : Int) => zaS G6 5 24 24 (w32 ((w32 ((w32 (3 * p0)) + 3)) + p1)) x4 fun (G7 : ZG) => zgF G7 5 23 fun (x5 : Int) => Q x5 G7) (Q 0 G1)) fun J118 => zbr (z27_0 ≠ 0) (zbr (z97_0 = 0) (J118 2) (J118 0)) (J118 1)) fun J97 => zjn (fun (_ : Unit) => J97 0) fun J96 => zbr (z27_0 = 0) (J96 ()) (zaL G 5 26 8 p0 fun (x6 : Int) => zbr (x6 ≠ (-1)) (J96 ()) (zaL G 5 10 60 z46_0 fun (x7 : Int) => zbr (x7 ≠ 4) (J96 ()) (zaL G 5 18 60 z46_0 fun (x8 : Int) => zbr (x8 ≠ 0) (J96 ()) (zgF G 5 23 fun (x9 : Int) => zbr (8 ≤ x9) (J96 ()) (J97 1)))))) fun J46 => zbr (z27_0 = 0) (J46 0) (zaL G 5 24 24 (w32 ((w32 (3 * p0)) + p1)) fun (x10 : Int) => J46 x10)) fun J27 => zjn (fun (_ : Unit) => J27 0) fun J26 => zbr (x1 = 0) (J26 ()) (zgF G 5 21 fun (x11 : Int) => vX6_in p1 0 (w32 (x11 - 1)) fun (x12 : Int) => zbr (x12 = 0) (J26 ()) (J27 1))
set_option maxHeartbeats 4000000 in
theorem mX6_split (l : Launch) (P : ZP) (G : ZG) (p0 : Int) (hp0 : inR p0) (p1 : Int) (hp1 : inR p1) {Q : Int → ZG → Prop} (hV : vX6_split p0 p1 G Q) : Met l yX6_split (ws_ yX6_split cX6_split 6 (some .int)) rX6_split (zPc P G [.ref (zA P 5 0 0), .int (zI p0), .int (zI p1)]) (zQi P Q) 0 0 (zAr P) := by
  refine zMet RX6 (plainFor_of_name (by decide)) rfl (zcs_c rfl (zcs_c rfl (zcs_c rfl zcs_0))) (Nat.le_of_ble_eq_true rfl) (fun p e s m args below meth c ls hC hr hk hn hG hL => ?_)
  unfold vX6_split at hV
  refine z_aload_n hC zvr_a rfl (hL.at 0 rfl) dX6_split_0 ?_
  refine z_iload_n hC rfl (hL.at 1 rfl) dX6_split_1 ?_
  refine z_call_z hG (zrunV (ci := 6) hC hG (Nat.le_of_ble_eq_true rfl) (Nat.le_of_ble_eq_true rfl) (zobj hG rfl (Nat.le_of_ble_eq_true rfl) (Nat.le_of_ble_eq_true rfl)) (mX6_isCase l P G p0 hp0 hV) kVX6_248 rfl rfl rfl ⟨(Nat.le_of_ble_eq_true rfl), (Nat.le_of_ble_eq_true rfl)⟩ ⟨(Nat.le_of_ble_eq_true rfl), (Nat.le_of_ble_eq_true rfl)⟩ rfl ⟨zcs_0, (Nat.le_of_ble_eq_true rfl)⟩ hL.1.1 dX6_split_2) ?_
  rintro x1 _ _ _ hx1 ⟨rfl, hV⟩ hG
  obtain ⟨J27, eJ27, hV⟩ := zjn_abs hV
  have hJ27 : ∀ {H : Heap} {locs : List Loc}, zS P s G H locs → ∀ (z27_0 : Int), (z27_0 = 0 ∨ z27_0 = 1) → J27 z27_0 → ∀ (ls : Array Slot), zL ls 6 [(0, .ref (zA P 5 0 0)), (1, .int (zI p0)), (2, .int (zI p1))] → W p l e rX6_split s m args below meth c H locs 0 0 (MQ below (zQi P Q) args s 0 0 (zAr P)) (F0 m 27 ls [.int (zI z27_0)]) := by
    intro H locs hG z27_0 hz27_0 hV ls hL
    rw [eJ27] at hV
    refine z_istore_n (lv' := [(3, .int (zI z27_0)), (0, .ref (zA P 5 0 0)), (1, .int (zI p0)), (2, .int (zI p1))]) hC rfl hL (by decide) rfl dX6_split_27 (fun ls hL => ?_)
    refine z_iload_n hC rfl (hL.at 0 rfl) dX6_split_28 ?_
    obtain ⟨J46, eJ46, hV⟩ := zjn_abs hV
    have hJ46 : ∀ {H : Heap} {locs : List Loc}, zS P s G H locs → ∀ (z46_0 : Int), inR z46_0 → J46 z46_0 → ∀ (ls : Array Slot), zL ls 6 [(0, .ref (zA P 5 0 0)), (1, .int (zI p0)), (2, .int (zI p1)), (3, .int (zI z27_0))] → W p l e rX6_split s m args below meth c H locs 0 0 (MQ below (zQi P Q) args s 0 0 (zAr P)) (F0 m 46 ls [.int (zI z46_0)]) := by
      intro H locs hG z46_0 hz46_0 hV ls hL
      rw [eJ46] at hV
      refine z_istore (lv' := [(4, .int (zI z46_0)), (0, .ref (zA P 5 0 0)), (1, .int (zI p0)), (2, .int (zI p1)), (3, .int (zI z27_0))]) hC hL (by decide) rfl dX6_split_46 (fun ls hL => ?_)
      refine z_iload_n hC rfl (hL.at 4 rfl) dX6_split_48 ?_
      obtain ⟨J97, eJ97, hV⟩ := zjn_abs hV
      have hJ97 : ∀ {H : Heap} {locs : List Loc}, zS P s G H locs → ∀ (z97_0 : Int), (z97_0 = 0 ∨ z97_0 = 1) → J97 z97_0 → ∀ (ls : Array Slot), zL ls 6 [(0, .ref (zA P 5 0 0)), (1, .int (zI p0)), (2, .int (zI p1)), (3, .int (zI z27_0)), (4, .int (zI z46_0))] → W p l e rX6_split s m args below meth c H locs 0 0 (MQ below (zQi P Q) args s 0 0 (zAr P)) (F0 m 97 ls [.int (zI z97_0)]) := by
        intro H locs hG z97_0 hz97_0 hV ls hL
        rw [eJ97] at hV
        refine z_istore (lv' := [(5, .int (zI z97_0)), (0, .ref (zA P 5 0 0)), (1, .int (zI p0)), (2, .int (zI p1)), (3, .int (zI z27_0)), (4, .int (zI z46_0))]) hC hL (by decide) rfl dX6_split_97 (fun ls hL => ?_)
        refine z_aload_n hC zvr_a rfl (hL.at 1 rfl) dX6_split_99 ?_
        refine z_iload_n hC rfl (hL.at 4 rfl) dX6_split_100 ?_
        obtain ⟨J118, eJ118, hV⟩ := zjn_abs hV
        have hJ118 : ∀ {H : Heap} {locs : List Loc}, zS P s G H locs → ∀ (z118_1 : Int), inR z118_1 → J118 z118_1 → ∀ (ls : Array Slot), zL ls 6 [(0, .ref (zA P 5 0 0)), (1, .int (zI p0)), (2, .int (zI p1)), (4, .int (zI z46_0))] → W p l e rX6_split s m args below meth c H locs 0 0 (MQ below (zQi P Q) args s 0 0 (zAr P)) (F0 m 118 ls [.int (zI z118_1), .ref (zA P 5 0 0)]) := by
          intro H locs hG z118_1 hz118_1 hV ls hL
          rw [eJ118] at hV
          refine z_call_z hG (zrunV (ci := 6) hC hG (Nat.le_of_ble_eq_true rfl) (Nat.le_of_ble_eq_true rfl) (zobj hG rfl (Nat.le_of_ble_eq_true rfl) (Nat.le_of_ble_eq_true rfl)) (mX6_refused l P G z118_1 hz118_1 hV) kVX6_183 rfl rfl rfl ⟨(Nat.le_of_ble_eq_true rfl), (Nat.le_of_ble_eq_true rfl)⟩ ⟨(Nat.le_of_ble_eq_true rfl), (Nat.le_of_ble_eq_true rfl)⟩ rfl ⟨zcs_0, (Nat.le_of_ble_eq_true rfl)⟩ hL.1.1 dX6_split_118) ?_
          rintro x2 G1 _ _ hx2 hV hG
          refine z_if_eq (tgt := 126) hC (inR_b hx2) hV dX6_split_121 (by decide) ?_ ?_
          · intro hV
            refine z_aload_n hC zvr_a rfl (hL.at 0 rfl) dX6_split_126 ?_
            refine z_iload_n hC rfl (hL.at 1 rfl) dX6_split_127 ?_
            refine z_call_v hG (zrunV (ci := 6) hC hG (Nat.le_of_ble_eq_true rfl) (Nat.le_of_ble_eq_true rfl) (zobj hG rfl (Nat.le_of_ble_eq_true rfl) (Nat.le_of_ble_eq_true rfl)) (mX6_open l P G1 p0 hp0 hV) kVX6_244 rfl rfl rfl ⟨(Nat.le_of_ble_eq_true rfl), (Nat.le_of_ble_eq_true rfl)⟩ ⟨(Nat.le_of_ble_eq_true rfl), (Nat.le_of_ble_eq_true rfl)⟩ rfl ⟨zcs_0, (Nat.le_of_ble_eq_true rfl)⟩ hL.1.1 dX6_split_128) ?_
            rintro G2 _ _ hV hG
            refine z_aload_n hC zvr_a rfl (hL.at 0 rfl) dX6_split_131 ?_
            refine z_iload_n hC rfl (hL.at 1 rfl) dX6_split_132 ?_
            refine z_iconst hC dX6_split_133 ?_
            refine z_iadd hC dX6_split_134 ?_
            refine z_iload_n hC rfl (hL.at 1 rfl) dX6_split_135 ?_
            refine z_call_v hG (zrunV (ci := 6) hC hG (Nat.le_of_ble_eq_true rfl) (Nat.le_of_ble_eq_true rfl) (zobj hG rfl (Nat.le_of_ble_eq_true rfl) (Nat.le_of_ble_eq_true rfl)) (mX6_copyCase l P G2 (w32 (p0 + 1)) (inR_w _) p0 hp0 hV) kVX6_240 rfl rfl rfl ⟨(Nat.le_of_ble_eq_true rfl), (Nat.le_of_ble_eq_true rfl)⟩ ⟨(Nat.le_of_ble_eq_true rfl), (Nat.le_of_ble_eq_true rfl)⟩ rfl ⟨zcs_0, (Nat.le_of_ble_eq_true rfl)⟩ hL.1.1 dX6_split_136) ?_
            rintro G3 _ _ hV hG
            refine z_aload_n hC zvr_a rfl (hL.at 0 rfl) dX6_split_139 ?_
            refine z_getA hC hG kFX6_83_6 rfl rfl dX6_split_140 ?_
            refine z_iload_n hC rfl (hL.at 1 rfl) dX6_split_143 ?_
            refine z_iconst hC dX6_split_144 ?_
            refine z_iast hC hG rfl (Nat.le_of_ble_eq_true rfl) (Nat.le_of_ble_eq_true rfl) rfl rfl rfl hp0 (inR_lit rfl) hV dX6_split_145 ?_
            intro G4 _ _ hG hV
            refine z_aload_n hC zvr_a rfl (hL.at 0 rfl) dX6_split_146 ?_
            refine z_getA hC hG kFX6_83_6 rfl rfl dX6_split_147 ?_
            refine z_iload_n hC rfl (hL.at 1 rfl) dX6_split_150 ?_
            refine z_iconst hC dX6_split_151 ?_
            refine z_iadd hC dX6_split_152 ?_
            refine z_iconst hC dX6_split_153 ?_
            refine z_iast hC hG rfl (Nat.le_of_ble_eq_true rfl) (Nat.le_of_ble_eq_true rfl) rfl rfl rfl (inR_w _) (inR_lit rfl) hV dX6_split_154 ?_
            intro G5 _ _ hG hV
            refine z_aload_n hC zvr_a rfl (hL.at 0 rfl) dX6_split_155 ?_
            refine z_getA hC hG kFX6_68_6 rfl rfl dX6_split_156 ?_
            refine z_iconst hC dX6_split_159 ?_
            refine z_iload_n hC rfl (hL.at 1 rfl) dX6_split_160 ?_
            refine z_imul hC dX6_split_161 ?_
            refine z_iload_n hC rfl (hL.at 2 rfl) dX6_split_162 ?_
            refine z_iadd hC dX6_split_163 ?_
            refine z_aload_n hC zvr_a rfl (hL.at 0 rfl) dX6_split_164 ?_
            refine z_getA hC hG kFX6_40_6 rfl rfl dX6_split_165 ?_
            refine z_iconst hC dX6_split_168 ?_
            refine z_iload hC (hL.at 3 rfl) dX6_split_169 ?_
            refine z_imul hC dX6_split_171 ?_
            refine z_iald hC hG rfl rfl rfl (inR_w _) hV dX6_split_172 ?_
            intro x3 hx3 hV
            refine z_iast hC hG rfl (Nat.le_of_ble_eq_true rfl) (Nat.le_of_ble_eq_true rfl) rfl rfl rfl (inR_w _) hx3 hV dX6_split_173 ?_
            intro G6 _ _ hG hV
            refine z_aload_n hC zvr_a rfl (hL.at 0 rfl) dX6_split_174 ?_
            refine z_getA hC hG kFX6_68_6 rfl rfl dX6_split_175 ?_
            refine z_iconst hC dX6_split_178 ?_
            refine z_iload_n hC rfl (hL.at 1 rfl) dX6_split_179 ?_
            refine z_imul hC dX6_split_180 ?_
            refine z_iconst hC dX6_split_181 ?_
            refine z_iadd hC dX6_split_182 ?_
            refine z_iload_n hC rfl (hL.at 2 rfl) dX6_split_183 ?_
            refine z_iadd hC dX6_split_184 ?_
            refine z_aload_n hC zvr_a rfl (hL.at 0 rfl) dX6_split_185 ?_
            refine z_getA hC hG kFX6_40_6 rfl rfl dX6_split_186 ?_
            refine z_iconst hC dX6_split_189 ?_
            refine z_iload hC (hL.at 3 rfl) dX6_split_190 ?_
            refine z_imul hC dX6_split_192 ?_
            refine z_iconst hC dX6_split_193 ?_
            refine z_iadd hC dX6_split_194 ?_
            refine z_iald hC hG rfl rfl rfl (inR_w _) hV dX6_split_195 ?_
            intro x4 hx4 hV
            refine z_iast hC hG rfl (Nat.le_of_ble_eq_true rfl) (Nat.le_of_ble_eq_true rfl) rfl rfl rfl (inR_w _) hx4 hV dX6_split_196 ?_
            intro G7 _ _ hG hV
            refine z_aload_n hC zvr_a rfl (hL.at 0 rfl) dX6_split_197 ?_
            refine z_getF hC hG kFX6_228_6 rfl rfl hV dX6_split_198 ?_
            intro x5 hx5 hV
            exact z_iret hC hG hr hk hx5 hV (Nat.le_of_ble_eq_true rfl) (Nat.le_of_ble_eq_true rfl) dX6_split_201
          · intro hV
            refine z_iconst hC dX6_split_124 ?_
            exact z_iret hC hG hr hk (inR_lit rfl) hV (Nat.le_of_ble_eq_true rfl) (Nat.le_of_ble_eq_true rfl) dX6_split_125
        refine z_if_ne (tgt := 108) hC (inR_b hz27_0) hV dX6_split_101 (by decide) ?_ ?_
        · intro hV
          refine z_iload hC (hL.at 0 rfl) dX6_split_108 ?_
          refine z_if_eq (tgt := 117) hC (inR_b hz97_0) hV dX6_split_110 (by decide) ?_ ?_
          · intro hV
            refine z_iconst hC dX6_split_117 ?_
            exact hJ118 hG 2 (inR_lit rfl) hV _ (hL.sub [1, 2, 3, 5] rfl)
          · intro hV
            refine z_iconst hC dX6_split_113 ?_
            refine z_goto (tgt := 118) hC dX6_split_114 (by decide) ?_
            exact hJ118 hG 0 (inR_lit rfl) hV _ (hL.sub [1, 2, 3, 5] rfl)
        · intro hV
          refine z_iconst hC dX6_split_104 ?_
          refine z_goto (tgt := 118) hC dX6_split_105 (by decide) ?_
          exact hJ118 hG 1 (inR_lit rfl) hV _ (hL.sub [1, 2, 3, 5] rfl)
      obtain ⟨J96, eJ96, hV⟩ := zjn_abs hV
      have hJ96 : ∀ {H : Heap} {locs : List Loc}, zS P s G H locs → J96 () → ∀ (ls : Array Slot), zL ls 6 [(0, .ref (zA P 5 0 0)), (1, .int (zI p0)), (2, .int (zI p1)), (3, .int (zI z27_0)), (4, .int (zI z46_0))] → W p l e rX6_split s m args below meth c H locs 0 0 (MQ below (zQi P Q) args s 0 0 (zAr P)) (F0 m 96 ls []) := by
        intro H locs hG hV ls hL
        rw [eJ96] at hV
        refine z_iconst hC dX6_split_96 ?_
        exact hJ97 hG 0 (Or.inl rfl) hV _ hL
      refine z_if_eq (tgt := 96) hC (inR_b hz27_0) hV dX6_split_49 (by decide) ?_ ?_
      · intro hV
        exact hJ96 hG hV _ (hL.sub [1, 2, 3, 4, 0] rfl)
      · intro hV
        refine z_aload_n hC zvr_a rfl (hL.at 1 rfl) dX6_split_52 ?_
        refine z_getA hC hG kFX6_74_6 rfl rfl dX6_split_53 ?_
        refine z_iload_n hC rfl (hL.at 2 rfl) dX6_split_56 ?_
        refine z_iald hC hG rfl rfl rfl hp0 hV dX6_split_57 ?_
        intro x6 hx6 hV
        refine z_iconst hC dX6_split_58 ?_
        refine z_icmp_ne (tgt := 96) hC hx6 (inR_lit rfl) hV dX6_split_59 (by decide) ?_ ?_
        · intro hV
          exact hJ96 hG hV _ (hL.sub [1, 2, 3, 4, 0] rfl)
        · intro hV
          refine z_aload_n hC zvr_a rfl (hL.at 1 rfl) dX6_split_62 ?_
          refine z_getA hC hG kFX6_31_6 rfl rfl dX6_split_63 ?_
          refine z_iload hC (hL.at 0 rfl) dX6_split_66 ?_
          refine z_iald hC hG rfl rfl rfl hz46_0 hV dX6_split_68 ?_
          intro x7 hx7 hV
          refine z_iconst hC dX6_split_69 ?_
          refine z_icmp_ne (tgt := 96) hC hx7 (inR_lit rfl) hV dX6_split_70 (by decide) ?_ ?_
          · intro hV
            exact hJ96 hG hV _ (hL.sub [1, 2, 3, 4, 0] rfl)
          · intro hV
            refine z_aload_n hC zvr_a rfl (hL.at 1 rfl) dX6_split_73 ?_
            refine z_getA hC hG kFX6_55_6 rfl rfl dX6_split_74 ?_
            refine z_iload hC (hL.at 0 rfl) dX6_split_77 ?_
            refine z_zald hC hG rfl rfl rfl hz46_0 hV dX6_split_79 ?_
            intro x8 hx8 hV
            refine z_if_ne (tgt := 96) hC hx8 hV dX6_split_80 (by decide) ?_ ?_
            · intro hV
              exact hJ96 hG hV _ (hL.sub [1, 2, 3, 4, 0] rfl)
            · intro hV
              refine z_aload_n hC zvr_a rfl (hL.at 1 rfl) dX6_split_83 ?_
              refine z_getF hC hG kFX6_228_6 rfl rfl hV dX6_split_84 ?_
              intro x9 hx9 hV
              refine z_bipush hC rfl dX6_split_87 ?_
              refine z_icmp_ge (tgt := 96) hC hx9 (inR_lit rfl) hV dX6_split_89 (by decide) ?_ ?_
              · intro hV
                exact hJ96 hG hV _ (hL.sub [1, 2, 3, 4, 0] rfl)
              · intro hV
                refine z_iconst hC dX6_split_92 ?_
                refine z_goto (tgt := 97) hC dX6_split_93 (by decide) ?_
                exact hJ97 hG 1 (Or.inr rfl) hV _ (hL.sub [1, 2, 3, 4, 0] rfl)
    refine z_if_eq (tgt := 45) hC (inR_b hz27_0) hV dX6_split_29 (by decide) ?_ ?_
    · intro hV
      refine z_iconst hC dX6_split_45 ?_
      exact hJ46 hG 0 (inR_lit rfl) hV _ (hL.sub [1, 2, 3, 0] rfl)
    · intro hV
      refine z_aload_n hC zvr_a rfl (hL.at 1 rfl) dX6_split_32 ?_
      refine z_getA hC hG kFX6_68_6 rfl rfl dX6_split_33 ?_
      refine z_iconst hC dX6_split_36 ?_
      refine z_iload_n hC rfl (hL.at 2 rfl) dX6_split_37 ?_
      refine z_imul hC dX6_split_38 ?_
      refine z_iload_n hC rfl (hL.at 3 rfl) dX6_split_39 ?_
      refine z_iadd hC dX6_split_40 ?_
      refine z_iald hC hG rfl rfl rfl (inR_w _) hV dX6_split_41 ?_
      intro x10 hx10 hV
      refine z_goto (tgt := 46) hC dX6_split_42 (by decide) ?_
      exact hJ46 hG x10 hx10 hV _ (hL.sub [1, 2, 3, 0] rfl)
  obtain ⟨J26, eJ26, hV⟩ := zjn_abs hV
  have hJ26 : ∀ {H : Heap} {locs : List Loc}, zS P s G H locs → J26 () → ∀ (ls : Array Slot), zL ls 6 [(0, .ref (zA P 5 0 0)), (1, .int (zI p0)), (2, .int (zI p1))] → W p l e rX6_split s m args below meth c H locs 0 0 (MQ below (zQi P Q) args s 0 0 (zAr P)) (F0 m 26 ls []) := by
    intro H locs hG hV ls hL
    rw [eJ26] at hV
    refine z_iconst hC dX6_split_26 ?_
    exact hJ27 hG 0 (Or.inl rfl) hV _ hL
  refine z_if_eq (tgt := 26) hC (inR_b hx1) hV dX6_split_5 (by decide) ?_ ?_
  · intro hV
    exact hJ26 hG hV _ hL
  · intro hV
    refine z_iload_n hC rfl (hL.at 2 rfl) dX6_split_8 ?_
    refine z_iconst hC dX6_split_9 ?_
    refine z_aload_n hC zvr_a rfl (hL.at 0 rfl) dX6_split_10 ?_
    refine z_getF hC hG kFX6_231_6 rfl rfl hV dX6_split_11 ?_
    intro x11 hx11 hV
    refine z_iconst hC dX6_split_14 ?_
    refine z_isub hC dX6_split_15 ?_
    refine z_call_z hG (zrunS hC hG (mX6_in l P G p1 hp1 0 (inR_lit rfl) (w32 (x11 - 1)) (inR_w _) hV) kSX6_171 rfl rfl rfl ⟨(Nat.le_of_ble_eq_true rfl), (Nat.le_of_ble_eq_true rfl)⟩ ⟨(Nat.le_of_ble_eq_true rfl), (Nat.le_of_ble_eq_true rfl)⟩ rfl ⟨zcs_0, (Nat.le_of_ble_eq_true rfl)⟩ hL.1.1 dX6_split_16) ?_
    rintro x12 _ _ _ hx12 ⟨rfl, hV⟩ hG
    refine z_if_eq (tgt := 26) hC (inR_b hx12) hV dX6_split_19 (by decide) ?_ ?_
    · intro hV
      exact hJ26 hG hV _ hL
    · intro hV
      refine z_iconst hC dX6_split_22 ?_
      refine z_goto (tgt := 27) hC dX6_split_23 (by decide) ?_
      exact hJ27 hG 1 (Or.inr rfl) hV _ hL
abbrev rX6_merge : Room := { frames := 4, cells := 0, slots := 0, locals := 87 }
def vX6_merge (p0 : Int) (p1 : Int) (G : ZG) (Q : Int → ZG → Prop) : Prop := zgF G 5 23 fun (x1 : Int) => vX6_in p0 0 (w32 (x1 - 2)) fun (x2 : Int) => zjn (fun (z33_0 : Int) => zjn (fun (z82_0 : Int) => zl2 (fun (P87 : Int → Int → Prop) (a87_4 : Int) (a87_5 : Int) => zgF G 5 21 fun (x3 : Int) => zjn (fun (_ : Unit) => zjn (fun (z220_1 : Int) => vX6_refused z220_1 G fun (x4 : Int) (G1 : ZG) => zbr (x4 = 0) (zaL G1 5 24 24 (w32 ((w32 (3 * p0)) + p1)) fun (x5 : Int) => zaL G1 5 24 24 (w32 ((w32 ((w32 (3 * p0)) + 3)) + p1)) fun (x6 : Int) => vX6_alternatives x5 x6 G1 fun (x7 : Int) (G2 : ZG) => zaS G2 5 24 24 (w32 ((w32 (3 * p0)) + p1)) x7 fun (G3 : ZG) => zaS G3 5 29 8 p0 0 fun (G4 : ZG) => zlt1 (w32 (p0 + 1)) fun (x8 : Int) => zl2 (fun (P276 : Int → ZG → Prop) (a276_5 : Int) (K276 : ZG) => zgF K276 5 23 fun (x9 : Int) => zbr (w32 (x9 - 1) ≤ a276_5) (zgF K276 5 23 fun (x10 : Int) => zpF K276 5 23 (w32 (x10 - 1)) fun (G5 : ZG) => zpF G5 5 54 (-1) fun (G6 : ZG) => zgF G6 5 23 fun (x11 : Int) => Q x11 G6) (vX6_copyCase (w32 (a276_5 + 1)) a276_5 K276 fun (G7 : ZG) => zlt1 (w32 (a276_5 + 1)) fun (x12 : Int) => P276 x12 G7)) x8 G4) (Q 0 G1)) fun J220 => zbr (z33_0 ≠ 0) (zbr (a87_4 = 0) (J220 2) (J220 0)) (J220 1)) fun J201 => zbr (x3 ≤ a87_5) (J201 ()) (zbr (a87_4 = 0) (J201 ()) (zaL G 5 24 24 (w32 ((w32 (3 * p0)) + a87_5)) fun (x13 : Int) => zaL G 5 24 24 (w32 ((w32 ((w32 (3 * p0)) + 3)) + a87_5)) fun (x14 : Int) => zjn (fun (z193_0 : Int) => zlt1 (w32 (a87_5 + 1)) fun (x15 : Int) => P87 z193_0 x15) fun J193 => zbr (a87_5 ≠ p1) (zbr (x13 ≠ x14) (J193 0) (J193 1)) (zaL G 5 18 60 x13 fun (x16 : Int) => zjn (fun (_ : Unit) => J193 0) fun J177 => zbr (x16 ≠ 0) (J177 ()) (zaL G 5 18 60 x14 fun (x17 : Int) => zbr (x17 ≠ 0) (J177 ()) (vX6_areAlternatives x13 x14 G fun (x18 : Int) => zbr (x18 = 0) (J177 ()) (vX6_isFull G fun (x19 : Int) => zbr (x19 ≠ 0) (J177 ()) (J193 1)))))))) z82_0 0) fun J82 => zjn (fun (_ : Unit) => J82 0) fun J81 => zbr (z33_0 = 0) (J81 ()) (zaL G 5 26 8 p0 fun (x20 : Int) => zbr (x20 ≠ (-1)) (J81 ()) (zaL G 5 26 8 (w32 (p0 + 1)) fun (x21 : Int) => zbr (x21 ≠ (-1)) (J81 ()) (zaL G 5 25 8 p0 fun (x22 : Int) => zaL G 5 25 8 (w32 (p0 + 1)) fun (x23 : Int) => zbr (x22 ≠ x23) (J81 ()) (J82 1))))) fun J33 => zjn (fun (_ : Unit) => J33 0) fun J32 => zbr (x2 = 0) (J32 ()) (zgF G 5 21 fun (x24 : Int) => vX6_in p1 0 (w32 (x24 - 1)) fun (x25 : Int) => zbr (x25 = 0) (J32 ()) (J33 1))
set_option maxHeartbeats 4000000 in
theorem mX6_merge (l : Launch) (P : ZP) (G : ZG) (p0 : Int) (hp0 : inR p0) (p1 : Int) (hp1 : inR p1) {Q : Int → ZG → Prop} (hV : vX6_merge p0 p1 G Q) : Met l yX6_merge (ws_ yX6_merge cX6_merge 8 (some .int)) rX6_merge (zPc P G [.ref (zA P 5 0 0), .int (zI p0), .int (zI p1)]) (zQi P Q) 0 0 (zAr P) := by
  refine zMet RX6 (plainFor_of_name (by decide)) rfl (zcs_c rfl (zcs_c rfl (zcs_c rfl zcs_0))) (Nat.le_of_ble_eq_true rfl) (fun p e s m args below meth c ls hC hr hk hn hG hL => ?_)
  unfold vX6_merge at hV
  refine z_iload_n hC rfl (hL.at 1 rfl) dX6_merge_0 ?_
  refine z_iconst hC dX6_merge_1 ?_
  refine z_aload_n hC zvr_a rfl (hL.at 0 rfl) dX6_merge_2 ?_
  refine z_getF hC hG kFX6_228_6 rfl rfl hV dX6_merge_3 ?_
  intro x1 hx1 hV
  refine z_iconst hC dX6_merge_6 ?_
  refine z_isub hC dX6_merge_7 ?_
  refine z_call_z hG (zrunS hC hG (mX6_in l P G p0 hp0 0 (inR_lit rfl) (w32 (x1 - 2)) (inR_w _) hV) kSX6_171 rfl rfl rfl ⟨(Nat.le_of_ble_eq_true rfl), (Nat.le_of_ble_eq_true rfl)⟩ ⟨(Nat.le_of_ble_eq_true rfl), (Nat.le_of_ble_eq_true rfl)⟩ rfl ⟨zcs_0, (Nat.le_of_ble_eq_true rfl)⟩ hL.1.1 dX6_merge_8) ?_
  rintro x2 _ _ _ hx2 ⟨rfl, hV⟩ hG
  obtain ⟨J33, eJ33, hV⟩ := zjn_abs hV
  have hJ33 : ∀ {H : Heap} {locs : List Loc}, zS P s G H locs → ∀ (z33_0 : Int), (z33_0 = 0 ∨ z33_0 = 1) → J33 z33_0 → ∀ (ls : Array Slot), zL ls 8 [(0, .ref (zA P 5 0 0)), (1, .int (zI p0)), (2, .int (zI p1))] → W p l e rX6_merge s m args below meth c H locs 0 0 (MQ below (zQi P Q) args s 0 0 (zAr P)) (F0 m 33 ls [.int (zI z33_0)]) := by
    intro H locs hG z33_0 hz33_0 hV ls hL
    rw [eJ33] at hV
    refine z_istore_n (lv' := [(3, .int (zI z33_0)), (0, .ref (zA P 5 0 0)), (1, .int (zI p0)), (2, .int (zI p1))]) hC rfl hL (by decide) rfl dX6_merge_33 (fun ls hL => ?_)
    refine z_iload_n hC rfl (hL.at 0 rfl) dX6_merge_34 ?_
    obtain ⟨J82, eJ82, hV⟩ := zjn_abs hV
    have hJ82 : ∀ {H : Heap} {locs : List Loc}, zS P s G H locs → ∀ (z82_0 : Int), (z82_0 = 0 ∨ z82_0 = 1) → J82 z82_0 → ∀ (ls : Array Slot), zL ls 8 [(0, .ref (zA P 5 0 0)), (1, .int (zI p0)), (2, .int (zI p1)), (3, .int (zI z33_0))] → W p l e rX6_merge s m args below meth c H locs 0 0 (MQ below (zQi P Q) args s 0 0 (zAr P)) (F0 m 82 ls [.int (zI z82_0)]) := by
      intro H locs hG z82_0 hz82_0 hV ls hL
      rw [eJ82] at hV
      refine z_istore (lv' := [(4, .int (zI z82_0)), (0, .ref (zA P 5 0 0)), (1, .int (zI p0)), (2, .int (zI p1)), (3, .int (zI z33_0))]) hC hL (by decide) rfl dX6_merge_82 (fun ls hL => ?_)
      refine z_iconst hC dX6_merge_84 ?_
      refine z_istore (lv' := [(5, .int (zI 0)), (4, .int (zI z82_0)), (0, .ref (zA P 5 0 0)), (1, .int (zI p0)), (2, .int (zI p1)), (3, .int (zI z33_0))]) hC hL (by decide) rfl dX6_merge_85 (fun ls hL => ?_)
      refine zl2_use hV (fun (a87_4 : Int) (a87_5 : Int) => (a87_4 = 0 ∨ a87_4 = 1) → inR a87_5 → ∀ (H : Heap) (locs : List Loc), zS P s G H locs → ∀ (ls : Array Slot), zL ls 8 [(0, .ref (zA P 5 0 0)), (1, .int (zI p0)), (2, .int (zI p1)), (3, .int (zI z33_0)), (4, .int (zI a87_4)), (5, .int (zI a87_5))] → W p l e rX6_merge s m args below meth c H locs 0 0 (MQ below (zQi P Q) args s 0 0 (zAr P)) (F0 m 87 ls [])) ?_ hz82_0 (inR_lit rfl) _ _ hG _ (hL.sub [2, 3, 4, 5, 1, 0] rfl)
      intro P87 a87_4 a87_5 hP87 hV ha87_4 ha87_5 H locs hG ls hL
      refine z_iload hC (hL.at 5 rfl) dX6_merge_87 ?_
      refine z_aload_n hC zvr_a rfl (hL.at 0 rfl) dX6_merge_89 ?_
      refine z_getF hC hG kFX6_231_6 rfl rfl hV dX6_merge_90 ?_
      intro x3 hx3 hV
      obtain ⟨J201, eJ201, hV⟩ := zjn_abs hV
      have hJ201 : ∀ {H : Heap} {locs : List Loc}, zS P s G H locs → J201 () → ∀ (ls : Array Slot), zL ls 8 [(0, .ref (zA P 5 0 0)), (1, .int (zI p0)), (2, .int (zI p1)), (3, .int (zI z33_0)), (4, .int (zI a87_4))] → W p l e rX6_merge s m args below meth c H locs 0 0 (MQ below (zQi P Q) args s 0 0 (zAr P)) (F0 m 201 ls []) := by
        intro H locs hG hV ls hL
        rw [eJ201] at hV
        refine z_aload_n hC zvr_a rfl (hL.at 0 rfl) dX6_merge_201 ?_
        refine z_iload_n hC rfl (hL.at 3 rfl) dX6_merge_202 ?_
        obtain ⟨J220, eJ220, hV⟩ := zjn_abs hV
        have hJ220 : ∀ {H : Heap} {locs : List Loc}, zS P s G H locs → ∀ (z220_1 : Int), inR z220_1 → J220 z220_1 → ∀ (ls : Array Slot), zL ls 8 [(0, .ref (zA P 5 0 0)), (1, .int (zI p0)), (2, .int (zI p1))] → W p l e rX6_merge s m args below meth c H locs 0 0 (MQ below (zQi P Q) args s 0 0 (zAr P)) (F0 m 220 ls [.int (zI z220_1), .ref (zA P 5 0 0)]) := by
          intro H locs hG z220_1 hz220_1 hV ls hL
          rw [eJ220] at hV
          refine z_call_z hG (zrunV (ci := 6) hC hG (Nat.le_of_ble_eq_true rfl) (Nat.le_of_ble_eq_true rfl) (zobj hG rfl (Nat.le_of_ble_eq_true rfl) (Nat.le_of_ble_eq_true rfl)) (mX6_refused l P G z220_1 hz220_1 hV) kVX6_183 rfl rfl rfl ⟨(Nat.le_of_ble_eq_true rfl), (Nat.le_of_ble_eq_true rfl)⟩ ⟨(Nat.le_of_ble_eq_true rfl), (Nat.le_of_ble_eq_true rfl)⟩ rfl ⟨zcs_0, (Nat.le_of_ble_eq_true rfl)⟩ hL.1.1 dX6_merge_220) ?_
          rintro x4 G1 _ _ hx4 hV hG
          refine z_if_eq (tgt := 228) hC (inR_b hx4) hV dX6_merge_223 (by decide) ?_ ?_
          · intro hV
            refine z_aload_n hC zvr_a rfl (hL.at 0 rfl) dX6_merge_228 ?_
            refine z_getA hC hG kFX6_68_6 rfl rfl dX6_merge_229 ?_
            refine z_iconst hC dX6_merge_232 ?_
            refine z_iload_n hC rfl (hL.at 1 rfl) dX6_merge_233 ?_
            refine z_imul hC dX6_merge_234 ?_
            refine z_iload_n hC rfl (hL.at 2 rfl) dX6_merge_235 ?_
            refine z_iadd hC dX6_merge_236 ?_
            refine z_aload_n hC zvr_a rfl (hL.at 0 rfl) dX6_merge_237 ?_
            refine z_aload_n hC zvr_a rfl (hL.at 0 rfl) dX6_merge_238 ?_
            refine z_getA hC hG kFX6_68_6 rfl rfl dX6_merge_239 ?_
            refine z_iconst hC dX6_merge_242 ?_
            refine z_iload_n hC rfl (hL.at 1 rfl) dX6_merge_243 ?_
            refine z_imul hC dX6_merge_244 ?_
            refine z_iload_n hC rfl (hL.at 2 rfl) dX6_merge_245 ?_
            refine z_iadd hC dX6_merge_246 ?_
            refine z_iald hC hG rfl rfl rfl (inR_w _) hV dX6_merge_247 ?_
            intro x5 hx5 hV
            refine z_aload_n hC zvr_a rfl (hL.at 0 rfl) dX6_merge_248 ?_
            refine z_getA hC hG kFX6_68_6 rfl rfl dX6_merge_249 ?_
            refine z_iconst hC dX6_merge_252 ?_
            refine z_iload_n hC rfl (hL.at 1 rfl) dX6_merge_253 ?_
            refine z_imul hC dX6_merge_254 ?_
            refine z_iconst hC dX6_merge_255 ?_
            refine z_iadd hC dX6_merge_256 ?_
            refine z_iload_n hC rfl (hL.at 2 rfl) dX6_merge_257 ?_
            refine z_iadd hC dX6_merge_258 ?_
            refine z_iald hC hG rfl rfl rfl (inR_w _) hV dX6_merge_259 ?_
            intro x6 hx6 hV
            refine z_call_i hG (zrunV (ci := 6) hC hG (Nat.le_of_ble_eq_true rfl) (Nat.le_of_ble_eq_true rfl) (zobj hG rfl (Nat.le_of_ble_eq_true rfl) (Nat.le_of_ble_eq_true rfl)) (mX6_alternatives l P G1 x5 hx5 x6 hx6 hV) kVX6_224 rfl rfl rfl ⟨(Nat.le_of_ble_eq_true rfl), (Nat.le_of_ble_eq_true rfl)⟩ ⟨(Nat.le_of_ble_eq_true rfl), (Nat.le_of_ble_eq_true rfl)⟩ rfl ⟨(zcs_c rfl (zcs_c rfl zcs_0)), (Nat.le_of_ble_eq_true rfl)⟩ hL.1.1 dX6_merge_260) ?_
            rintro x7 G2 _ _ hx7 hV hG
            refine z_iast hC hG rfl (Nat.le_of_ble_eq_true rfl) (Nat.le_of_ble_eq_true rfl) rfl rfl rfl (inR_w _) hx7 hV dX6_merge_263 ?_
            intro G3 _ _ hG hV
            refine z_aload_n hC zvr_a rfl (hL.at 0 rfl) dX6_merge_264 ?_
            refine z_getA hC hG kFX6_83_6 rfl rfl dX6_merge_265 ?_
            refine z_iload_n hC rfl (hL.at 1 rfl) dX6_merge_268 ?_
            refine z_iconst hC dX6_merge_269 ?_
            refine z_iast hC hG rfl (Nat.le_of_ble_eq_true rfl) (Nat.le_of_ble_eq_true rfl) rfl rfl rfl hp0 (inR_lit rfl) hV dX6_merge_270 ?_
            intro G4 _ _ hG hV
            refine z_iload_n hC rfl (hL.at 1 rfl) dX6_merge_271 ?_
            refine z_iconst hC dX6_merge_272 ?_
            refine z_iadd hC dX6_merge_273 ?_
            refine z_top hV (inR_w _) ?_
            intro x8 hx8 hV
            refine z_istore (lv' := [(5, .int (zI x8)), (0, .ref (zA P 5 0 0)), (1, .int (zI p0)), (2, .int (zI p1))]) hC hL (by decide) rfl dX6_merge_274 (fun ls hL => ?_)
            refine zl2_use hV (fun (a276_5 : Int) (K276 : ZG) => inR a276_5 → ∀ (H : Heap) (locs : List Loc), zS P s K276 H locs → ∀ (ls : Array Slot), zL ls 8 [(0, .ref (zA P 5 0 0)), (5, .int (zI a276_5))] → W p l e rX6_merge s m args below meth c H locs 0 0 (MQ below (zQi P Q) args s 0 0 (zAr P)) (F0 m 276 ls [])) ?_ hx8 _ _ hG _ (hL.sub [1, 0] rfl)
            intro P276 a276_5 K276 hP276 hV ha276_5 H locs hG ls hL
            refine z_iload hC (hL.at 1 rfl) dX6_merge_276 ?_
            refine z_aload_n hC zvr_a rfl (hL.at 0 rfl) dX6_merge_278 ?_
            refine z_getF hC hG kFX6_228_6 rfl rfl hV dX6_merge_279 ?_
            intro x9 hx9 hV
            refine z_iconst hC dX6_merge_282 ?_
            refine z_isub hC dX6_merge_283 ?_
            refine z_icmp_ge (tgt := 303) hC ha276_5 (inR_w _) hV dX6_merge_284 (by decide) ?_ ?_
            · intro hV
              refine z_aload_n hC zvr_a rfl (hL.at 0 rfl) dX6_merge_303 ?_
              refine z_dup hC rfl dX6_merge_304 ?_
              refine z_getF hC hG kFX6_228_6 rfl rfl hV dX6_merge_305 ?_
              intro x10 hx10 hV
              refine z_iconst hC dX6_merge_308 ?_
              refine z_isub hC dX6_merge_309 ?_
              refine z_putF hC hG kFX6_228_6 rfl rfl rfl rfl nk_6_23 (inR_w _) (Or.inl rfl) hV dX6_merge_310 ?_
              intro G5 _ _ hG hV
              refine z_aload_n hC zvr_a rfl (hL.at 0 rfl) dX6_merge_313 ?_
              refine z_iconst hC dX6_merge_314 ?_
              refine z_putF hC hG kFX6_161_6 rfl rfl rfl rfl nk_6_54 (inR_lit rfl) (Or.inl rfl) hV dX6_merge_315 ?_
              intro G6 _ _ hG hV
              refine z_aload_n hC zvr_a rfl (hL.at 0 rfl) dX6_merge_318 ?_
              refine z_getF hC hG kFX6_228_6 rfl rfl hV dX6_merge_319 ?_
              intro x11 hx11 hV
              exact z_iret hC hG hr hk hx11 hV (Nat.le_of_ble_eq_true rfl) (Nat.le_of_ble_eq_true rfl) dX6_merge_322
            · intro hV
              refine z_aload_n hC zvr_a rfl (hL.at 0 rfl) dX6_merge_287 ?_
              refine z_iload hC (hL.at 1 rfl) dX6_merge_288 ?_
              refine z_iconst hC dX6_merge_290 ?_
              refine z_iadd hC dX6_merge_291 ?_
              refine z_iload hC (hL.at 1 rfl) dX6_merge_292 ?_
              refine z_call_v hG (zrunV (ci := 6) hC hG (Nat.le_of_ble_eq_true rfl) (Nat.le_of_ble_eq_true rfl) (zobj hG rfl (Nat.le_of_ble_eq_true rfl) (Nat.le_of_ble_eq_true rfl)) (mX6_copyCase l P K276 (w32 (a276_5 + 1)) (inR_w _) a276_5 ha276_5 hV) kVX6_240 rfl rfl rfl ⟨(Nat.le_of_ble_eq_true rfl), (Nat.le_of_ble_eq_true rfl)⟩ ⟨(Nat.le_of_ble_eq_true rfl), (Nat.le_of_ble_eq_true rfl)⟩ rfl ⟨zcs_0, (Nat.le_of_ble_eq_true rfl)⟩ hL.1.1 dX6_merge_294) ?_
              rintro G7 _ _ hV hG
              refine z_iincV (fun x12 => [(5, .int (zI x12)), (0, .ref (zA P 5 0 0))]) hC hL (k := 1) rfl (by decide) (fun _ => rfl) hV dX6_merge_297 ?_
              intro x12 hx12 hV ls hL
              refine z_goto (tgt := 276) hC dX6_merge_300 (by decide) ?_
              exact hP276 x12 G7 hV hx12 _ _ hG _ (hL.sub [1, 0] rfl)
          · intro hV
            refine z_iconst hC dX6_merge_226 ?_
            exact z_iret hC hG hr hk (inR_lit rfl) hV (Nat.le_of_ble_eq_true rfl) (Nat.le_of_ble_eq_true rfl) dX6_merge_227
        refine z_if_ne (tgt := 210) hC (inR_b hz33_0) hV dX6_merge_203 (by decide) ?_ ?_
        · intro hV
          refine z_iload hC (hL.at 4 rfl) dX6_merge_210 ?_
          refine z_if_eq (tgt := 219) hC (inR_b ha87_4) hV dX6_merge_212 (by decide) ?_ ?_
          · intro hV
            refine z_iconst hC dX6_merge_219 ?_
            exact hJ220 hG 2 (inR_lit rfl) hV _ (hL.sub [0, 1, 2] rfl)
          · intro hV
            refine z_iconst hC dX6_merge_215 ?_
            refine z_goto (tgt := 220) hC dX6_merge_216 (by decide) ?_
            exact hJ220 hG 0 (inR_lit rfl) hV _ (hL.sub [0, 1, 2] rfl)
        · intro hV
          refine z_iconst hC dX6_merge_206 ?_
          refine z_goto (tgt := 220) hC dX6_merge_207 (by decide) ?_
          exact hJ220 hG 1 (inR_lit rfl) hV _ (hL.sub [0, 1, 2] rfl)
      refine z_icmp_ge (tgt := 201) hC ha87_5 hx3 hV dX6_merge_93 (by decide) ?_ ?_
      · intro hV
        exact hJ201 hG hV _ (hL.sub [0, 1, 2, 3, 4] rfl)
      · intro hV
        refine z_iload hC (hL.at 4 rfl) dX6_merge_96 ?_
        refine z_if_eq (tgt := 201) hC (inR_b ha87_4) hV dX6_merge_98 (by decide) ?_ ?_
        · intro hV
          exact hJ201 hG hV _ (hL.sub [0, 1, 2, 3, 4] rfl)
        · intro hV
          refine z_aload_n hC zvr_a rfl (hL.at 0 rfl) dX6_merge_101 ?_
          refine z_getA hC hG kFX6_68_6 rfl rfl dX6_merge_102 ?_
          refine z_iconst hC dX6_merge_105 ?_
          refine z_iload_n hC rfl (hL.at 1 rfl) dX6_merge_106 ?_
          refine z_imul hC dX6_merge_107 ?_
          refine z_iload hC (hL.at 5 rfl) dX6_merge_108 ?_
          refine z_iadd hC dX6_merge_110 ?_
          refine z_iald hC hG rfl rfl rfl (inR_w _) hV dX6_merge_111 ?_
          intro x13 hx13 hV
          refine z_istore (lv' := [(6, .int (zI x13)), (0, .ref (zA P 5 0 0)), (1, .int (zI p0)), (2, .int (zI p1)), (3, .int (zI z33_0)), (4, .int (zI a87_4)), (5, .int (zI a87_5))]) hC hL (by decide) rfl dX6_merge_112 (fun ls hL => ?_)
          refine z_aload_n hC zvr_a rfl (hL.at 1 rfl) dX6_merge_114 ?_
          refine z_getA hC hG kFX6_68_6 rfl rfl dX6_merge_115 ?_
          refine z_iconst hC dX6_merge_118 ?_
          refine z_iload_n hC rfl (hL.at 2 rfl) dX6_merge_119 ?_
          refine z_imul hC dX6_merge_120 ?_
          refine z_iconst hC dX6_merge_121 ?_
          refine z_iadd hC dX6_merge_122 ?_
          refine z_iload hC (hL.at 6 rfl) dX6_merge_123 ?_
          refine z_iadd hC dX6_merge_125 ?_
          refine z_iald hC hG rfl rfl rfl (inR_w _) hV dX6_merge_126 ?_
          intro x14 hx14 hV
          refine z_istore (lv' := [(7, .int (zI x14)), (6, .int (zI x13)), (0, .ref (zA P 5 0 0)), (1, .int (zI p0)), (2, .int (zI p1)), (3, .int (zI z33_0)), (4, .int (zI a87_4)), (5, .int (zI a87_5))]) hC hL (by decide) rfl dX6_merge_127 (fun ls hL => ?_)
          refine z_iload hC (hL.at 7 rfl) dX6_merge_129 ?_
          refine z_iload_n hC rfl (hL.at 4 rfl) dX6_merge_131 ?_
          obtain ⟨J193, eJ193, hV⟩ := zjn_abs hV
          have hJ193 : ∀ {H : Heap} {locs : List Loc}, zS P s G H locs → ∀ (z193_0 : Int), (z193_0 = 0 ∨ z193_0 = 1) → J193 z193_0 → ∀ (ls : Array Slot), zL ls 8 [(0, .ref (zA P 5 0 0)), (1, .int (zI p0)), (2, .int (zI p1)), (3, .int (zI z33_0)), (5, .int (zI a87_5))] → W p l e rX6_merge s m args below meth c H locs 0 0 (MQ below (zQi P Q) args s 0 0 (zAr P)) (F0 m 193 ls [.int (zI z193_0)]) := by
            intro H locs hG z193_0 hz193_0 hV ls hL
            rw [eJ193] at hV
            refine z_istore (lv' := [(4, .int (zI z193_0)), (0, .ref (zA P 5 0 0)), (1, .int (zI p0)), (2, .int (zI p1)), (3, .int (zI z33_0)), (5, .int (zI a87_5))]) hC hL (by decide) rfl dX6_merge_193 (fun ls hL => ?_)
            refine z_iincV (fun x15 => [(5, .int (zI x15)), (4, .int (zI z193_0)), (0, .ref (zA P 5 0 0)), (1, .int (zI p0)), (2, .int (zI p1)), (3, .int (zI z33_0))]) hC hL (k := 5) rfl (by decide) (fun _ => rfl) hV dX6_merge_195 ?_
            intro x15 hx15 hV ls hL
            refine z_goto (tgt := 87) hC dX6_merge_198 (by decide) ?_
            exact hP87 z193_0 x15 hV hz193_0 hx15 _ _ hG _ (hL.sub [2, 3, 4, 5, 1, 0] rfl)
          refine z_icmp_ne (tgt := 181) hC ha87_5 hp1 hV dX6_merge_132 (by decide) ?_ ?_
          · intro hV
            refine z_iload hC (hL.at 1 rfl) dX6_merge_181 ?_
            refine z_iload hC (hL.at 0 rfl) dX6_merge_183 ?_
            refine z_icmp_ne (tgt := 192) hC hx13 hx14 hV dX6_merge_185 (by decide) ?_ ?_
            · intro hV
              refine z_iconst hC dX6_merge_192 ?_
              exact hJ193 hG 0 (Or.inl rfl) hV _ (hL.sub [2, 3, 4, 5, 7] rfl)
            · intro hV
              refine z_iconst hC dX6_merge_188 ?_
              refine z_goto (tgt := 193) hC dX6_merge_189 (by decide) ?_
              exact hJ193 hG 1 (Or.inr rfl) hV _ (hL.sub [2, 3, 4, 5, 7] rfl)
          · intro hV
            refine z_aload_n hC zvr_a rfl (hL.at 2 rfl) dX6_merge_135 ?_
            refine z_getA hC hG kFX6_55_6 rfl rfl dX6_merge_136 ?_
            refine z_iload hC (hL.at 1 rfl) dX6_merge_139 ?_
            refine z_zald hC hG rfl rfl rfl hx13 hV dX6_merge_141 ?_
            intro x16 hx16 hV
            obtain ⟨J177, eJ177, hV⟩ := zjn_abs hV
            have hJ177 : ∀ {H : Heap} {locs : List Loc}, zS P s G H locs → J177 () → ∀ (ls : Array Slot), zL ls 8 [(0, .ref (zA P 5 0 0)), (1, .int (zI p0)), (2, .int (zI p1)), (3, .int (zI z33_0)), (5, .int (zI a87_5))] → W p l e rX6_merge s m args below meth c H locs 0 0 (MQ below (zQi P Q) args s 0 0 (zAr P)) (F0 m 177 ls []) := by
              intro H locs hG hV ls hL
              rw [eJ177] at hV
              refine z_iconst hC dX6_merge_177 ?_
              refine z_goto (tgt := 193) hC dX6_merge_178 (by decide) ?_
              exact hJ193 hG 0 (Or.inl rfl) hV _ hL
            refine z_if_ne (tgt := 177) hC hx16 hV dX6_merge_142 (by decide) ?_ ?_
            · intro hV
              exact hJ177 hG hV _ (hL.sub [2, 3, 4, 5, 7] rfl)
            · intro hV
              refine z_aload_n hC zvr_a rfl (hL.at 2 rfl) dX6_merge_145 ?_
              refine z_getA hC hG kFX6_55_6 rfl rfl dX6_merge_146 ?_
              refine z_iload hC (hL.at 0 rfl) dX6_merge_149 ?_
              refine z_zald hC hG rfl rfl rfl hx14 hV dX6_merge_151 ?_
              intro x17 hx17 hV
              refine z_if_ne (tgt := 177) hC hx17 hV dX6_merge_152 (by decide) ?_ ?_
              · intro hV
                exact hJ177 hG hV _ (hL.sub [2, 3, 4, 5, 7] rfl)
              · intro hV
                refine z_aload_n hC zvr_a rfl (hL.at 2 rfl) dX6_merge_155 ?_
                refine z_iload hC (hL.at 1 rfl) dX6_merge_156 ?_
                refine z_iload hC (hL.at 0 rfl) dX6_merge_158 ?_
                refine z_call_z hG (zrunV (ci := 6) hC hG (Nat.le_of_ble_eq_true rfl) (Nat.le_of_ble_eq_true rfl) (zobj hG rfl (Nat.le_of_ble_eq_true rfl) (Nat.le_of_ble_eq_true rfl)) (mX6_areAlternatives l P G x13 hx13 x14 hx14 hV) kVX6_221 rfl rfl rfl ⟨(Nat.le_of_ble_eq_true rfl), (Nat.le_of_ble_eq_true rfl)⟩ ⟨(Nat.le_of_ble_eq_true rfl), (Nat.le_of_ble_eq_true rfl)⟩ rfl ⟨zcs_0, (Nat.le_of_ble_eq_true rfl)⟩ hL.1.1 dX6_merge_160) ?_
                rintro x18 _ _ _ hx18 ⟨rfl, hV⟩ hG
                refine z_if_eq (tgt := 177) hC (inR_b hx18) hV dX6_merge_163 (by decide) ?_ ?_
                · intro hV
                  exact hJ177 hG hV _ (hL.sub [2, 3, 4, 5, 7] rfl)
                · intro hV
                  refine z_aload_n hC zvr_a rfl (hL.at 2 rfl) dX6_merge_166 ?_
                  refine z_call_z hG (zrunV (ci := 6) hC hG (Nat.le_of_ble_eq_true rfl) (Nat.le_of_ble_eq_true rfl) (zobj hG rfl (Nat.le_of_ble_eq_true rfl) (Nat.le_of_ble_eq_true rfl)) (mX6_isFull l P G hV) kVX6_204 rfl rfl rfl ⟨(Nat.le_of_ble_eq_true rfl), (Nat.le_of_ble_eq_true rfl)⟩ ⟨(Nat.le_of_ble_eq_true rfl), (Nat.le_of_ble_eq_true rfl)⟩ rfl ⟨zcs_0, (Nat.le_of_ble_eq_true rfl)⟩ hL.1.1 dX6_merge_167) ?_
                  rintro x19 _ _ _ hx19 ⟨rfl, hV⟩ hG
                  refine z_if_ne (tgt := 177) hC (inR_b hx19) hV dX6_merge_170 (by decide) ?_ ?_
                  · intro hV
                    exact hJ177 hG hV _ (hL.sub [2, 3, 4, 5, 7] rfl)
                  · intro hV
                    refine z_iconst hC dX6_merge_173 ?_
                    refine z_goto (tgt := 193) hC dX6_merge_174 (by decide) ?_
                    exact hJ193 hG 1 (Or.inr rfl) hV _ (hL.sub [2, 3, 4, 5, 7] rfl)
    obtain ⟨J81, eJ81, hV⟩ := zjn_abs hV
    have hJ81 : ∀ {H : Heap} {locs : List Loc}, zS P s G H locs → J81 () → ∀ (ls : Array Slot), zL ls 8 [(0, .ref (zA P 5 0 0)), (1, .int (zI p0)), (2, .int (zI p1)), (3, .int (zI z33_0))] → W p l e rX6_merge s m args below meth c H locs 0 0 (MQ below (zQi P Q) args s 0 0 (zAr P)) (F0 m 81 ls []) := by
      intro H locs hG hV ls hL
      rw [eJ81] at hV
      refine z_iconst hC dX6_merge_81 ?_
      exact hJ82 hG 0 (Or.inl rfl) hV _ hL
    refine z_if_eq (tgt := 81) hC (inR_b hz33_0) hV dX6_merge_35 (by decide) ?_ ?_
    · intro hV
      exact hJ81 hG hV _ (hL.sub [1, 2, 3, 0] rfl)
    · intro hV
      refine z_aload_n hC zvr_a rfl (hL.at 1 rfl) dX6_merge_38 ?_
      refine z_getA hC hG kFX6_74_6 rfl rfl dX6_merge_39 ?_
      refine z_iload_n hC rfl (hL.at 2 rfl) dX6_merge_42 ?_
      refine z_iald hC hG rfl rfl rfl hp0 hV dX6_merge_43 ?_
      intro x20 hx20 hV
      refine z_iconst hC dX6_merge_44 ?_
      refine z_icmp_ne (tgt := 81) hC hx20 (inR_lit rfl) hV dX6_merge_45 (by decide) ?_ ?_
      · intro hV
        exact hJ81 hG hV _ (hL.sub [1, 2, 3, 0] rfl)
      · intro hV
        refine z_aload_n hC zvr_a rfl (hL.at 1 rfl) dX6_merge_48 ?_
        refine z_getA hC hG kFX6_74_6 rfl rfl dX6_merge_49 ?_
        refine z_iload_n hC rfl (hL.at 2 rfl) dX6_merge_52 ?_
        refine z_iconst hC dX6_merge_53 ?_
        refine z_iadd hC dX6_merge_54 ?_
        refine z_iald hC hG rfl rfl rfl (inR_w _) hV dX6_merge_55 ?_
        intro x21 hx21 hV
        refine z_iconst hC dX6_merge_56 ?_
        refine z_icmp_ne (tgt := 81) hC hx21 (inR_lit rfl) hV dX6_merge_57 (by decide) ?_ ?_
        · intro hV
          exact hJ81 hG hV _ (hL.sub [1, 2, 3, 0] rfl)
        · intro hV
          refine z_aload_n hC zvr_a rfl (hL.at 1 rfl) dX6_merge_60 ?_
          refine z_getA hC hG kFX6_71_6 rfl rfl dX6_merge_61 ?_
          refine z_iload_n hC rfl (hL.at 2 rfl) dX6_merge_64 ?_
          refine z_iald hC hG rfl rfl rfl hp0 hV dX6_merge_65 ?_
          intro x22 hx22 hV
          refine z_aload_n hC zvr_a rfl (hL.at 1 rfl) dX6_merge_66 ?_
          refine z_getA hC hG kFX6_71_6 rfl rfl dX6_merge_67 ?_
          refine z_iload_n hC rfl (hL.at 2 rfl) dX6_merge_70 ?_
          refine z_iconst hC dX6_merge_71 ?_
          refine z_iadd hC dX6_merge_72 ?_
          refine z_iald hC hG rfl rfl rfl (inR_w _) hV dX6_merge_73 ?_
          intro x23 hx23 hV
          refine z_icmp_ne (tgt := 81) hC hx22 hx23 hV dX6_merge_74 (by decide) ?_ ?_
          · intro hV
            exact hJ81 hG hV _ (hL.sub [1, 2, 3, 0] rfl)
          · intro hV
            refine z_iconst hC dX6_merge_77 ?_
            refine z_goto (tgt := 82) hC dX6_merge_78 (by decide) ?_
            exact hJ82 hG 1 (Or.inr rfl) hV _ (hL.sub [1, 2, 3, 0] rfl)
  obtain ⟨J32, eJ32, hV⟩ := zjn_abs hV
  have hJ32 : ∀ {H : Heap} {locs : List Loc}, zS P s G H locs → J32 () → ∀ (ls : Array Slot), zL ls 8 [(0, .ref (zA P 5 0 0)), (1, .int (zI p0)), (2, .int (zI p1))] → W p l e rX6_merge s m args below meth c H locs 0 0 (MQ below (zQi P Q) args s 0 0 (zAr P)) (F0 m 32 ls []) := by
    intro H locs hG hV ls hL
    rw [eJ32] at hV
    refine z_iconst hC dX6_merge_32 ?_
    exact hJ33 hG 0 (Or.inl rfl) hV _ hL
  refine z_if_eq (tgt := 32) hC (inR_b hx2) hV dX6_merge_11 (by decide) ?_ ?_
  · intro hV
    exact hJ32 hG hV _ hL
  · intro hV
    refine z_iload_n hC rfl (hL.at 2 rfl) dX6_merge_14 ?_
    refine z_iconst hC dX6_merge_15 ?_
    refine z_aload_n hC zvr_a rfl (hL.at 0 rfl) dX6_merge_16 ?_
    refine z_getF hC hG kFX6_231_6 rfl rfl hV dX6_merge_17 ?_
    intro x24 hx24 hV
    refine z_iconst hC dX6_merge_20 ?_
    refine z_isub hC dX6_merge_21 ?_
    refine z_call_z hG (zrunS hC hG (mX6_in l P G p1 hp1 0 (inR_lit rfl) (w32 (x24 - 1)) (inR_w _) hV) kSX6_171 rfl rfl rfl ⟨(Nat.le_of_ble_eq_true rfl), (Nat.le_of_ble_eq_true rfl)⟩ ⟨(Nat.le_of_ble_eq_true rfl), (Nat.le_of_ble_eq_true rfl)⟩ rfl ⟨zcs_0, (Nat.le_of_ble_eq_true rfl)⟩ hL.1.1 dX6_merge_22) ?_
    rintro x25 _ _ _ hx25 ⟨rfl, hV⟩ hG
    refine z_if_eq (tgt := 32) hC (inR_b hx25) hV dX6_merge_25 (by decide) ?_ ?_
    · intro hV
      exact hJ32 hG hV _ hL
    · intro hV
      refine z_iconst hC dX6_merge_28 ?_
      refine z_goto (tgt := 33) hC dX6_merge_29 (by decide) ?_
      exact hJ33 hG 1 (Or.inr rfl) hV _ hL
abbrev rX6_node : Room := { frames := 1, cells := 0, slots := 0, locals := 12 }
def vX6_node (p0 : Int) (p1 : Int) (p2 : Int) (p3 : Int) (G : ZG) (Q : Int → ZG → Prop) : Prop := zgF G 5 56 fun (x1 : Int) => zaS G 5 57 512 x1 p0 fun (G1 : ZG) => zgF G1 5 56 fun (x2 : Int) => zaS G1 5 58 512 x2 p1 fun (G2 : ZG) => zgF G2 5 56 fun (x3 : Int) => zaS G2 5 59 512 x3 p2 fun (G3 : ZG) => zgF G3 5 56 fun (x4 : Int) => zaS G3 5 60 512 x4 p3 fun (G4 : ZG) => zgF G4 5 56 fun (x5 : Int) => zgF G4 5 56 fun (x6 : Int) => zaS G4 5 61 512 x5 x6 fun (G5 : ZG) => zgF G5 5 56 fun (x7 : Int) => zaS G5 5 62 512 x7 0 fun (G6 : ZG) => zgF G6 5 56 fun (x8 : Int) => zpF G6 5 56 (w32 (x8 + 1)) fun (G7 : ZG) => zgF G7 5 56 fun (x9 : Int) => Q (w32 (x9 - 1)) G7
set_option maxHeartbeats 4000000 in
theorem mX6_node (l : Launch) (P : ZP) (G : ZG) (p0 : Int) (hp0 : inR p0) (p1 : Int) (hp1 : inR p1) (p2 : Int) (hp2 : inR p2) (p3 : Int) (hp3 : inR p3) {Q : Int → ZG → Prop} (hV : vX6_node p0 p1 p2 p3 G Q) : Met l yX6_node (ws_ yX6_node cX6_node 5 (some .int)) rX6_node (zPc P G [.ref (zA P 5 0 0), .int (zI p0), .int (zI p1), .int (zI p2), .int (zI p3)]) (zQi P Q) 0 0 (zAr P) := by
  refine zMet RX6 (plainFor_of_name (by decide)) rfl (zcs_c rfl (zcs_c rfl (zcs_c rfl (zcs_c rfl (zcs_c rfl zcs_0))))) (Nat.le_of_ble_eq_true rfl) (fun p e s m args below meth c ls hC hr hk hn hG hL => ?_)
  unfold vX6_node at hV
  refine z_aload_n hC zvr_a rfl (hL.at 0 rfl) dX6_node_0 ?_
  refine z_getA hC hG kFX6_128_6 rfl rfl dX6_node_1 ?_
  refine z_aload_n hC zvr_a rfl (hL.at 0 rfl) dX6_node_4 ?_
  refine z_getF hC hG kFX6_321_6 rfl rfl hV dX6_node_5 ?_
  intro x1 hx1 hV
  refine z_iload_n hC rfl (hL.at 1 rfl) dX6_node_8 ?_
  refine z_iast hC hG rfl (Nat.le_of_ble_eq_true rfl) (Nat.le_of_ble_eq_true rfl) rfl rfl rfl hx1 hp0 hV dX6_node_9 ?_
  intro G1 _ _ hG hV
  refine z_aload_n hC zvr_a rfl (hL.at 0 rfl) dX6_node_10 ?_
  refine z_getA hC hG kFX6_131_6 rfl rfl dX6_node_11 ?_
  refine z_aload_n hC zvr_a rfl (hL.at 0 rfl) dX6_node_14 ?_
  refine z_getF hC hG kFX6_321_6 rfl rfl hV dX6_node_15 ?_
  intro x2 hx2 hV
  refine z_iload_n hC rfl (hL.at 2 rfl) dX6_node_18 ?_
  refine z_iast hC hG rfl (Nat.le_of_ble_eq_true rfl) (Nat.le_of_ble_eq_true rfl) rfl rfl rfl hx2 hp1 hV dX6_node_19 ?_
  intro G2 _ _ hG hV
  refine z_aload_n hC zvr_a rfl (hL.at 0 rfl) dX6_node_20 ?_
  refine z_getA hC hG kFX6_134_6 rfl rfl dX6_node_21 ?_
  refine z_aload_n hC zvr_a rfl (hL.at 0 rfl) dX6_node_24 ?_
  refine z_getF hC hG kFX6_321_6 rfl rfl hV dX6_node_25 ?_
  intro x3 hx3 hV
  refine z_iload_n hC rfl (hL.at 3 rfl) dX6_node_28 ?_
  refine z_iast hC hG rfl (Nat.le_of_ble_eq_true rfl) (Nat.le_of_ble_eq_true rfl) rfl rfl rfl hx3 hp2 hV dX6_node_29 ?_
  intro G3 _ _ hG hV
  refine z_aload_n hC zvr_a rfl (hL.at 0 rfl) dX6_node_30 ?_
  refine z_getA hC hG kFX6_137_6 rfl rfl dX6_node_31 ?_
  refine z_aload_n hC zvr_a rfl (hL.at 0 rfl) dX6_node_34 ?_
  refine z_getF hC hG kFX6_321_6 rfl rfl hV dX6_node_35 ?_
  intro x4 hx4 hV
  refine z_iload hC (hL.at 4 rfl) dX6_node_38 ?_
  refine z_iast hC hG rfl (Nat.le_of_ble_eq_true rfl) (Nat.le_of_ble_eq_true rfl) rfl rfl rfl hx4 hp3 hV dX6_node_40 ?_
  intro G4 _ _ hG hV
  refine z_aload_n hC zvr_a rfl (hL.at 0 rfl) dX6_node_41 ?_
  refine z_getA hC hG kFX6_140_6 rfl rfl dX6_node_42 ?_
  refine z_aload_n hC zvr_a rfl (hL.at 0 rfl) dX6_node_45 ?_
  refine z_getF hC hG kFX6_321_6 rfl rfl hV dX6_node_46 ?_
  intro x5 hx5 hV
  refine z_aload_n hC zvr_a rfl (hL.at 0 rfl) dX6_node_49 ?_
  refine z_getF hC hG kFX6_321_6 rfl rfl hV dX6_node_50 ?_
  intro x6 hx6 hV
  refine z_iast hC hG rfl (Nat.le_of_ble_eq_true rfl) (Nat.le_of_ble_eq_true rfl) rfl rfl rfl hx5 hx6 hV dX6_node_53 ?_
  intro G5 _ _ hG hV
  refine z_aload_n hC zvr_a rfl (hL.at 0 rfl) dX6_node_54 ?_
  refine z_getA hC hG kFX6_143_6 rfl rfl dX6_node_55 ?_
  refine z_aload_n hC zvr_a rfl (hL.at 0 rfl) dX6_node_58 ?_
  refine z_getF hC hG kFX6_321_6 rfl rfl hV dX6_node_59 ?_
  intro x7 hx7 hV
  refine z_iconst hC dX6_node_62 ?_
  refine z_iast hC hG rfl (Nat.le_of_ble_eq_true rfl) (Nat.le_of_ble_eq_true rfl) rfl rfl rfl hx7 (inR_lit rfl) hV dX6_node_63 ?_
  intro G6 _ _ hG hV
  refine z_aload_n hC zvr_a rfl (hL.at 0 rfl) dX6_node_64 ?_
  refine z_dup hC rfl dX6_node_65 ?_
  refine z_getF hC hG kFX6_321_6 rfl rfl hV dX6_node_66 ?_
  intro x8 hx8 hV
  refine z_iconst hC dX6_node_69 ?_
  refine z_iadd hC dX6_node_70 ?_
  refine z_putF hC hG kFX6_321_6 rfl rfl rfl rfl nk_6_56 (inR_w _) (Or.inl rfl) hV dX6_node_71 ?_
  intro G7 _ _ hG hV
  refine z_aload_n hC zvr_a rfl (hL.at 0 rfl) dX6_node_74 ?_
  refine z_getF hC hG kFX6_321_6 rfl rfl hV dX6_node_75 ?_
  intro x9 hx9 hV
  refine z_iconst hC dX6_node_78 ?_
  refine z_isub hC dX6_node_79 ?_
  exact z_iret hC hG hr hk (inR_w _) hV (Nat.le_of_ble_eq_true rfl) (Nat.le_of_ble_eq_true rfl) dX6_node_80
abbrev rX6_hasFailed : Room := { frames := 1, cells := 0, slots := 0, locals := 12 }
def vX6_hasFailed (p0 : Int) (G : ZG) (Q : Int → Prop) : Prop := zgF G 5 41 fun (x1 : Int) => zl2 (fun (P7 : Int → Int → Prop) (a7_2 : Int) (a7_3 : Int) => zbr (a7_3 ≤ 0) (Q a7_2) (zjn (fun (z65_0 : Int) => zaL G 5 57 512 a7_3 fun (x2 : Int) => P7 z65_0 x2) fun J65 => zjn (fun (_ : Unit) => J65 1) fun J60 => zbr (a7_2 ≠ 0) (J60 ()) (zaL G 5 57 512 a7_3 fun (x3 : Int) => zaL G 5 58 512 x3 fun (x4 : Int) => zjn (fun (_ : Unit) => J65 0) fun J64 => zbr (x4 ≠ 3) (J64 ()) (zaL G 5 57 512 a7_3 fun (x5 : Int) => zaL G 5 59 512 x5 fun (x6 : Int) => zbr (x6 ≠ p0) (J64 ()) (zaL G 5 57 512 a7_3 fun (x7 : Int) => zaL G 5 61 512 x7 fun (x8 : Int) => zbr (a7_3 ≤ x8) (J64 ()) (J60 ())))))) 0 x1
set_option maxHeartbeats 4000000 in
theorem mX6_hasFailed (l : Launch) (P : ZP) (G : ZG) (p0 : Int) (hp0 : inR p0) {Q : Int → Prop} (hV : vX6_hasFailed p0 G Q) : Met l yX6_hasFailed (ws_ yX6_hasFailed cX6_hasFailed 4 (some .boolean)) rX6_hasFailed (zPc P G [.ref (zA P 5 0 0), .int (zI p0)]) (zQz P (fun r G2 => G = G2 ∧ Q r)) 0 0 (zAr P) := by
  refine zMet RX6 (plainFor_of_name (by decide)) rfl (zcs_c rfl (zcs_c rfl zcs_0)) (Nat.le_of_ble_eq_true rfl) (fun p e s m args below meth c ls hC hr hk hn hG hL => ?_)
  unfold vX6_hasFailed at hV
  refine z_iconst hC dX6_hasFailed_0 ?_
  refine z_istore_n (lv' := [(2, .int (zI 0)), (0, .ref (zA P 5 0 0)), (1, .int (zI p0))]) hC rfl hL (by decide) rfl dX6_hasFailed_1 (fun ls hL => ?_)
  refine z_aload_n hC zvr_a rfl (hL.at 1 rfl) dX6_hasFailed_2 ?_
  refine z_getF hC hG kFX6_268_6 rfl rfl hV dX6_hasFailed_3 ?_
  intro x1 hx1 hV
  refine z_istore_n (lv' := [(3, .int (zI x1)), (2, .int (zI 0)), (0, .ref (zA P 5 0 0)), (1, .int (zI p0))]) hC rfl hL (by decide) rfl dX6_hasFailed_6 (fun ls hL => ?_)
  refine zl2_use hV (fun (a7_2 : Int) (a7_3 : Int) => (a7_2 = 0 ∨ a7_2 = 1) → inR a7_3 → ∀ (H : Heap) (locs : List Loc), zS P s G H locs → ∀ (ls : Array Slot), zL ls 4 [(0, .ref (zA P 5 0 0)), (1, .int (zI p0)), (2, .int (zI a7_2)), (3, .int (zI a7_3))] → W p l e rX6_hasFailed s m args below meth c H locs 0 0 (MQ below (zQz P (fun r G2 => G = G2 ∧ Q r)) args s 0 0 (zAr P)) (F0 m 7 ls [])) ?_ (Or.inl rfl) hx1 _ _ hG _ (hL.sub [2, 3, 1, 0] rfl)
  intro P7 a7_2 a7_3 hP7 hV ha7_2 ha7_3 H locs hG ls hL
  refine z_iload_n hC rfl (hL.at 3 rfl) dX6_hasFailed_7 ?_
  refine z_if_le (tgt := 76) hC ha7_3 hV dX6_hasFailed_8 (by decide) ?_ ?_
  · intro hV
    refine z_iload_n hC rfl (hL.at 2 rfl) dX6_hasFailed_76 ?_
    exact z_zret hC hG hr hk ha7_2 ⟨rfl, hV⟩ (Nat.le_of_ble_eq_true rfl) (Nat.le_of_ble_eq_true rfl) dX6_hasFailed_77
  · intro hV
    refine z_iload_n hC rfl (hL.at 2 rfl) dX6_hasFailed_11 ?_
    obtain ⟨J65, eJ65, hV⟩ := zjn_abs hV
    have hJ65 : ∀ {H : Heap} {locs : List Loc}, zS P s G H locs → ∀ (z65_0 : Int), (z65_0 = 0 ∨ z65_0 = 1) → J65 z65_0 → ∀ (ls : Array Slot), zL ls 4 [(0, .ref (zA P 5 0 0)), (1, .int (zI p0)), (3, .int (zI a7_3))] → W p l e rX6_hasFailed s m args below meth c H locs 0 0 (MQ below (zQz P (fun r G2 => G = G2 ∧ Q r)) args s 0 0 (zAr P)) (F0 m 65 ls [.int (zI z65_0)]) := by
      intro H locs hG z65_0 hz65_0 hV ls hL
      rw [eJ65] at hV
      refine z_istore_n (lv' := [(2, .int (zI z65_0)), (0, .ref (zA P 5 0 0)), (1, .int (zI p0)), (3, .int (zI a7_3))]) hC rfl hL (by decide) rfl dX6_hasFailed_65 (fun ls hL => ?_)
      refine z_aload_n hC zvr_a rfl (hL.at 1 rfl) dX6_hasFailed_66 ?_
      refine z_getA hC hG kFX6_128_6 rfl rfl dX6_hasFailed_67 ?_
      refine z_iload_n hC rfl (hL.at 3 rfl) dX6_hasFailed_70 ?_
      refine z_iald hC hG rfl rfl rfl ha7_3 hV dX6_hasFailed_71 ?_
      intro x2 hx2 hV
      refine z_istore_n (lv' := [(3, .int (zI x2)), (2, .int (zI z65_0)), (0, .ref (zA P 5 0 0)), (1, .int (zI p0))]) hC rfl hL (by decide) rfl dX6_hasFailed_72 (fun ls hL => ?_)
      refine z_goto (tgt := 7) hC dX6_hasFailed_73 (by decide) ?_
      exact hP7 z65_0 x2 hV hz65_0 hx2 _ _ hG _ (hL.sub [2, 3, 1, 0] rfl)
    obtain ⟨J60, eJ60, hV⟩ := zjn_abs hV
    have hJ60 : ∀ {H : Heap} {locs : List Loc}, zS P s G H locs → J60 () → ∀ (ls : Array Slot), zL ls 4 [(0, .ref (zA P 5 0 0)), (1, .int (zI p0)), (3, .int (zI a7_3))] → W p l e rX6_hasFailed s m args below meth c H locs 0 0 (MQ below (zQz P (fun r G2 => G = G2 ∧ Q r)) args s 0 0 (zAr P)) (F0 m 60 ls []) := by
      intro H locs hG hV ls hL
      rw [eJ60] at hV
      refine z_iconst hC dX6_hasFailed_60 ?_
      refine z_goto (tgt := 65) hC dX6_hasFailed_61 (by decide) ?_
      exact hJ65 hG 1 (Or.inr rfl) hV _ hL
    refine z_if_ne (tgt := 60) hC (inR_b ha7_2) hV dX6_hasFailed_12 (by decide) ?_ ?_
    · intro hV
      exact hJ60 hG hV _ (hL.sub [0, 1, 3] rfl)
    · intro hV
      refine z_aload_n hC zvr_a rfl (hL.at 0 rfl) dX6_hasFailed_15 ?_
      refine z_getA hC hG kFX6_131_6 rfl rfl dX6_hasFailed_16 ?_
      refine z_aload_n hC zvr_a rfl (hL.at 0 rfl) dX6_hasFailed_19 ?_
      refine z_getA hC hG kFX6_128_6 rfl rfl dX6_hasFailed_20 ?_
      refine z_iload_n hC rfl (hL.at 3 rfl) dX6_hasFailed_23 ?_
      refine z_iald hC hG rfl rfl rfl ha7_3 hV dX6_hasFailed_24 ?_
      intro x3 hx3 hV
      refine z_iald hC hG rfl rfl rfl hx3 hV dX6_hasFailed_25 ?_
      intro x4 hx4 hV
      refine z_iconst hC dX6_hasFailed_26 ?_
      obtain ⟨J64, eJ64, hV⟩ := zjn_abs hV
      have hJ64 : ∀ {H : Heap} {locs : List Loc}, zS P s G H locs → J64 () → ∀ (ls : Array Slot), zL ls 4 [(0, .ref (zA P 5 0 0)), (1, .int (zI p0)), (3, .int (zI a7_3))] → W p l e rX6_hasFailed s m args below meth c H locs 0 0 (MQ below (zQz P (fun r G2 => G = G2 ∧ Q r)) args s 0 0 (zAr P)) (F0 m 64 ls []) := by
        intro H locs hG hV ls hL
        rw [eJ64] at hV
        refine z_iconst hC dX6_hasFailed_64 ?_
        exact hJ65 hG 0 (Or.inl rfl) hV _ hL
      refine z_icmp_ne (tgt := 64) hC hx4 (inR_lit rfl) hV dX6_hasFailed_27 (by decide) ?_ ?_
      · intro hV
        exact hJ64 hG hV _ (hL.sub [0, 1, 3] rfl)
      · intro hV
        refine z_aload_n hC zvr_a rfl (hL.at 0 rfl) dX6_hasFailed_30 ?_
        refine z_getA hC hG kFX6_134_6 rfl rfl dX6_hasFailed_31 ?_
        refine z_aload_n hC zvr_a rfl (hL.at 0 rfl) dX6_hasFailed_34 ?_
        refine z_getA hC hG kFX6_128_6 rfl rfl dX6_hasFailed_35 ?_
        refine z_iload_n hC rfl (hL.at 3 rfl) dX6_hasFailed_38 ?_
        refine z_iald hC hG rfl rfl rfl ha7_3 hV dX6_hasFailed_39 ?_
        intro x5 hx5 hV
        refine z_iald hC hG rfl rfl rfl hx5 hV dX6_hasFailed_40 ?_
        intro x6 hx6 hV
        refine z_iload_n hC rfl (hL.at 1 rfl) dX6_hasFailed_41 ?_
        refine z_icmp_ne (tgt := 64) hC hx6 hp0 hV dX6_hasFailed_42 (by decide) ?_ ?_
        · intro hV
          exact hJ64 hG hV _ (hL.sub [0, 1, 3] rfl)
        · intro hV
          refine z_iload_n hC rfl (hL.at 3 rfl) dX6_hasFailed_45 ?_
          refine z_aload_n hC zvr_a rfl (hL.at 0 rfl) dX6_hasFailed_46 ?_
          refine z_getA hC hG kFX6_140_6 rfl rfl dX6_hasFailed_47 ?_
          refine z_aload_n hC zvr_a rfl (hL.at 0 rfl) dX6_hasFailed_50 ?_
          refine z_getA hC hG kFX6_128_6 rfl rfl dX6_hasFailed_51 ?_
          refine z_iload_n hC rfl (hL.at 3 rfl) dX6_hasFailed_54 ?_
          refine z_iald hC hG rfl rfl rfl ha7_3 hV dX6_hasFailed_55 ?_
          intro x7 hx7 hV
          refine z_iald hC hG rfl rfl rfl hx7 hV dX6_hasFailed_56 ?_
          intro x8 hx8 hV
          refine z_icmp_le (tgt := 64) hC ha7_3 hx8 hV dX6_hasFailed_57 (by decide) ?_ ?_
          · intro hV
            exact hJ64 hG hV _ (hL.sub [0, 1, 3] rfl)
          · intro hV
            exact hJ60 hG hV _ (hL.sub [0, 1, 3] rfl)
abbrev rX6_push : Room := { frames := 1, cells := 0, slots := 0, locals := 12 }
def vX6_push (p0 : Int) (p1 : Int) (G : ZG) (Q : ZG → Prop) : Prop := zgF G 5 34 fun (x1 : Int) => zaS G 5 32 256 x1 p0 fun (G1 : ZG) => zgF G1 5 34 fun (x2 : Int) => zaS G1 5 33 256 x2 p1 fun (G2 : ZG) => zgF G2 5 34 fun (x3 : Int) => zpF G2 5 34 (w32 (x3 + 1)) fun (G3 : ZG) => Q G3
set_option maxHeartbeats 4000000 in
theorem mX6_push (l : Launch) (P : ZP) (G : ZG) (p0 : Int) (hp0 : inR p0) (p1 : Int) (hp1 : inR p1) {Q : ZG → Prop} (hV : vX6_push p0 p1 G Q) : Met l yX6_push (ws_ yX6_push cX6_push 3 none) rX6_push (zPc P G [.ref (zA P 5 0 0), .int (zI p0), .int (zI p1)]) (zQv P Q) 0 0 (zAr P) := by
  refine zMet RX6 (plainFor_of_name (by decide)) rfl (zcs_c rfl (zcs_c rfl (zcs_c rfl zcs_0))) (Nat.le_of_ble_eq_true rfl) (fun p e s m args below meth c ls hC hr hk hn hG hL => ?_)
  unfold vX6_push at hV
  refine z_aload_n hC zvr_a rfl (hL.at 0 rfl) dX6_push_0 ?_
  refine z_getA hC hG kFX6_92_6 rfl rfl dX6_push_1 ?_
  refine z_aload_n hC zvr_a rfl (hL.at 0 rfl) dX6_push_4 ?_
  refine z_getF hC hG kFX6_274_6 rfl rfl hV dX6_push_5 ?_
  intro x1 hx1 hV
  refine z_iload_n hC rfl (hL.at 1 rfl) dX6_push_8 ?_
  refine z_iast hC hG rfl (Nat.le_of_ble_eq_true rfl) (Nat.le_of_ble_eq_true rfl) rfl rfl rfl hx1 hp0 hV dX6_push_9 ?_
  intro G1 _ _ hG hV
  refine z_aload_n hC zvr_a rfl (hL.at 0 rfl) dX6_push_10 ?_
  refine z_getA hC hG kFX6_95_6 rfl rfl dX6_push_11 ?_
  refine z_aload_n hC zvr_a rfl (hL.at 0 rfl) dX6_push_14 ?_
  refine z_getF hC hG kFX6_274_6 rfl rfl hV dX6_push_15 ?_
  intro x2 hx2 hV
  refine z_iload_n hC rfl (hL.at 2 rfl) dX6_push_18 ?_
  refine z_iast hC hG rfl (Nat.le_of_ble_eq_true rfl) (Nat.le_of_ble_eq_true rfl) rfl rfl rfl hx2 hp1 hV dX6_push_19 ?_
  intro G2 _ _ hG hV
  refine z_aload_n hC zvr_a rfl (hL.at 0 rfl) dX6_push_20 ?_
  refine z_dup hC rfl dX6_push_21 ?_
  refine z_getF hC hG kFX6_274_6 rfl rfl hV dX6_push_22 ?_
  intro x3 hx3 hV
  refine z_iconst hC dX6_push_25 ?_
  refine z_iadd hC dX6_push_26 ?_
  refine z_putF hC hG kFX6_274_6 rfl rfl rfl rfl nk_6_34 (inR_w _) (Or.inl rfl) hV dX6_push_27 ?_
  intro G3 _ _ hG hV
  exact z_vret hC hG hr hk hV (Nat.le_of_ble_eq_true rfl) (Nat.le_of_ble_eq_true rfl) dX6_push_30
abbrev rX6_took : Room := { frames := 1, cells := 0, slots := 0, locals := 12 }
def vX6_took (G : ZG) (Q : Int → ZG → Prop) : Prop := zgF G 5 38 fun (x1 : Int) => zpF G 5 38 (w32 (x1 - 1)) fun (G1 : ZG) => Q 0 G1
set_option maxHeartbeats 4000000 in
theorem mX6_took (l : Launch) (P : ZP) (G : ZG) {Q : Int → ZG → Prop} (hV : vX6_took G Q) : Met l yX6_took (ws_ yX6_took cX6_took 1 (some .int)) rX6_took (zPc P G [.ref (zA P 5 0 0)]) (zQi P Q) 0 0 (zAr P) := by
  refine zMet RX6 (plainFor_of_name (by decide)) rfl (zcs_c rfl zcs_0) (Nat.le_of_ble_eq_true rfl) (fun p e s m args below meth c ls hC hr hk hn hG hL => ?_)
  unfold vX6_took at hV
  refine z_aload_n hC zvr_a rfl (hL.at 0 rfl) dX6_took_0 ?_
  refine z_dup hC rfl dX6_took_1 ?_
  refine z_getF hC hG kFX6_277_6 rfl rfl hV dX6_took_2 ?_
  intro x1 hx1 hV
  refine z_iconst hC dX6_took_5 ?_
  refine z_isub hC dX6_took_6 ?_
  refine z_putF hC hG kFX6_277_6 rfl rfl rfl rfl nk_6_38 (inR_w _) (Or.inl rfl) hV dX6_took_7 ?_
  intro G1 _ _ hG hV
  refine z_iconst hC dX6_took_10 ?_
  exact z_iret hC hG hr hk (inR_lit rfl) hV (Nat.le_of_ble_eq_true rfl) (Nat.le_of_ble_eq_true rfl) dX6_took_11
abbrev rX6_wayTo : Room := { frames := 1, cells := 0, slots := 0, locals := 12 }
def vX6_wayTo (p0 : Int) (G : ZG) (Q : Int → ZG → Prop) : Prop := zl3 (fun (P4 : Int → Int → ZG → Prop) (a4_2 : Int) (a4_3 : Int) (K4 : ZG) => zbr (a4_3 ≤ 3) (zaS K4 5 45 8 a4_2 (w32 (a4_3 - 1)) fun (G1 : ZG) => Q a4_2 G1) (zn0 5 ∧ zaS K4 5 45 8 a4_2 (dRem (w32 (a4_3 - 1)) 5) fun (G2 : ZG) => zlt1 (w32 (a4_2 + 1)) fun (x1 : Int) => zn0 5 ∧ zlt1 (dDiv (w32 (a4_3 - 1)) 5) fun (x2 : Int) => P4 x1 x2 G2)) 0 p0 G
set_option maxHeartbeats 4000000 in
theorem mX6_wayTo (l : Launch) (P : ZP) (G : ZG) (p0 : Int) (hp0 : inR p0) {Q : Int → ZG → Prop} (hV : vX6_wayTo p0 G Q) : Met l yX6_wayTo (ws_ yX6_wayTo cX6_wayTo 4 (some .int)) rX6_wayTo (zPc P G [.ref (zA P 5 0 0), .int (zI p0)]) (zQi P Q) 0 0 (zAr P) := by
  refine zMet RX6 (plainFor_of_name (by decide)) rfl (zcs_c rfl (zcs_c rfl zcs_0)) (Nat.le_of_ble_eq_true rfl) (fun p e s m args below meth c ls hC hr hk hn hG hL => ?_)
  unfold vX6_wayTo at hV
  refine z_iconst hC dX6_wayTo_0 ?_
  refine z_istore_n (lv' := [(2, .int (zI 0)), (0, .ref (zA P 5 0 0)), (1, .int (zI p0))]) hC rfl hL (by decide) rfl dX6_wayTo_1 (fun ls hL => ?_)
  refine z_iload_n hC rfl (hL.at 2 rfl) dX6_wayTo_2 ?_
  refine z_istore_n (lv' := [(3, .int (zI p0)), (2, .int (zI 0)), (0, .ref (zA P 5 0 0)), (1, .int (zI p0))]) hC rfl hL (by decide) rfl dX6_wayTo_3 (fun ls hL => ?_)
  refine zl3_use hV (fun (a4_2 : Int) (a4_3 : Int) (K4 : ZG) => inR a4_2 → inR a4_3 → ∀ (H : Heap) (locs : List Loc), zS P s K4 H locs → ∀ (ls : Array Slot), zL ls 4 [(0, .ref (zA P 5 0 0)), (2, .int (zI a4_2)), (3, .int (zI a4_3))] → W p l e rX6_wayTo s m args below meth c H locs 0 0 (MQ below (zQi P Q) args s 0 0 (zAr P)) (F0 m 4 ls [])) ?_ (inR_lit rfl) hp0 _ _ hG _ (hL.sub [2, 1, 0] rfl)
  intro P4 a4_2 a4_3 K4 hP4 hV ha4_2 ha4_3 H locs hG ls hL
  refine z_iload_n hC rfl (hL.at 2 rfl) dX6_wayTo_4 ?_
  refine z_iconst hC dX6_wayTo_5 ?_
  refine z_icmp_le (tgt := 32) hC ha4_3 (inR_lit rfl) hV dX6_wayTo_6 (by decide) ?_ ?_
  · intro hV
    refine z_aload_n hC zvr_a rfl (hL.at 0 rfl) dX6_wayTo_32 ?_
    refine z_getA hC hG kFX6_110_6 rfl rfl dX6_wayTo_33 ?_
    refine z_iload_n hC rfl (hL.at 1 rfl) dX6_wayTo_36 ?_
    refine z_iload_n hC rfl (hL.at 2 rfl) dX6_wayTo_37 ?_
    refine z_iconst hC dX6_wayTo_38 ?_
    refine z_isub hC dX6_wayTo_39 ?_
    refine z_iast hC hG rfl (Nat.le_of_ble_eq_true rfl) (Nat.le_of_ble_eq_true rfl) rfl rfl rfl ha4_2 (inR_w _) hV dX6_wayTo_40 ?_
    intro G1 _ _ hG hV
    refine z_iload_n hC rfl (hL.at 1 rfl) dX6_wayTo_41 ?_
    exact z_iret hC hG hr hk ha4_2 hV (Nat.le_of_ble_eq_true rfl) (Nat.le_of_ble_eq_true rfl) dX6_wayTo_42
  · intro hV
    refine z_aload_n hC zvr_a rfl (hL.at 0 rfl) dX6_wayTo_9 ?_
    refine z_getA hC hG kFX6_110_6 rfl rfl dX6_wayTo_10 ?_
    refine z_iload_n hC rfl (hL.at 1 rfl) dX6_wayTo_13 ?_
    refine z_iload_n hC rfl (hL.at 2 rfl) dX6_wayTo_14 ?_
    refine z_iconst hC dX6_wayTo_15 ?_
    refine z_isub hC dX6_wayTo_16 ?_
    refine z_iconst hC dX6_wayTo_17 ?_
    refine z_irem hC (inR_lit rfl) hV dX6_wayTo_18 (fun hV => ?_)
    refine z_iast hC hG rfl (Nat.le_of_ble_eq_true rfl) (Nat.le_of_ble_eq_true rfl) rfl rfl rfl ha4_2 (inR_toInt _) hV dX6_wayTo_19 ?_
    intro G2 _ _ hG hV
    refine z_iincV (fun x1 => [(2, .int (zI x1)), (0, .ref (zA P 5 0 0)), (3, .int (zI a4_3))]) hC hL (k := 1) rfl (by decide) (fun _ => rfl) hV dX6_wayTo_20 ?_
    intro x1 hx1 hV ls hL
    refine z_iload_n hC rfl (hL.at 2 rfl) dX6_wayTo_23 ?_
    refine z_iconst hC dX6_wayTo_24 ?_
    refine z_isub hC dX6_wayTo_25 ?_
    refine z_iconst hC dX6_wayTo_26 ?_
    refine z_idiv hC (inR_lit rfl) hV dX6_wayTo_27 (fun hV => ?_)
    refine z_top hV (inR_toInt _) ?_
    intro x2 hx2 hV
    refine z_istore_n (lv' := [(3, .int (zI x2)), (2, .int (zI x1)), (0, .ref (zA P 5 0 0))]) hC rfl hL (by decide) rfl dX6_wayTo_28 (fun ls hL => ?_)
    refine z_goto (tgt := 4) hC dX6_wayTo_29 (by decide) ?_
    exact hP4 x1 x2 G2 hV hx1 hx2 _ _ hG _ (hL.sub [2, 1, 0] rfl)
abbrev rX6_valueAt : Room := { frames := 2, cells := 0, slots := 0, locals := 35 }
def vX6_valueAt (p0 : Int) (G : ZG) (Q : Int → ZG → Prop) : Prop := vX6_wayTo p0 G fun (x1 : Int) (G1 : ZG) => zaL G1 5 45 8 x1 fun (x2 : Int) => zaL G1 5 46 3 x2 fun (x3 : Int) => zlt1 (w32 (x1 - 1)) fun (x4 : Int) => zl2 (fun (P23 : Int → Int → Prop) (a23_3 : Int) (a23_4 : Int) => zbr (a23_4 < 0) (Q a23_3 G1) (zaL G1 5 45 8 a23_4 fun (x5 : Int) => zaL G1 5 7 120 (w32 ((w32 (3 * a23_3)) + x5)) fun (x6 : Int) => zaL G1 5 5 40 a23_3 fun (x7 : Int) => zjn (fun (z65_0 : Int) => zlt1 (w32 (a23_4 + (-1))) fun (x8 : Int) => P23 z65_0 x8) fun J65 => zbr (x7 ≠ 5) (J65 x6) (J65 (w32 ((-1) - x6))))) x3 x4
set_option maxHeartbeats 4000000 in
theorem mX6_valueAt (l : Launch) (P : ZP) (G : ZG) (p0 : Int) (hp0 : inR p0) {Q : Int → ZG → Prop} (hV : vX6_valueAt p0 G Q) : Met l yX6_valueAt (ws_ yX6_valueAt cX6_valueAt 6 (some .int)) rX6_valueAt (zPc P G [.ref (zA P 5 0 0), .int (zI p0)]) (zQi P Q) 0 0 (zAr P) := by
  refine zMet RX6 (plainFor_of_name (by decide)) rfl (zcs_c rfl (zcs_c rfl zcs_0)) (Nat.le_of_ble_eq_true rfl) (fun p e s m args below meth c ls hC hr hk hn hG hL => ?_)
  unfold vX6_valueAt at hV
  refine z_aload_n hC zvr_a rfl (hL.at 0 rfl) dX6_valueAt_0 ?_
  refine z_iload_n hC rfl (hL.at 1 rfl) dX6_valueAt_1 ?_
  refine z_call_i hG (zrunV (ci := 6) hC hG (Nat.le_of_ble_eq_true rfl) (Nat.le_of_ble_eq_true rfl) (zobj hG rfl (Nat.le_of_ble_eq_true rfl) (Nat.le_of_ble_eq_true rfl)) (mX6_wayTo l P G p0 hp0 hV) kVX6_254 rfl rfl rfl ⟨(Nat.le_of_ble_eq_true rfl), (Nat.le_of_ble_eq_true rfl)⟩ ⟨(Nat.le_of_ble_eq_true rfl), (Nat.le_of_ble_eq_true rfl)⟩ rfl ⟨zcs_0, (Nat.le_of_ble_eq_true rfl)⟩ hL.1.1 dX6_valueAt_2) ?_
  rintro x1 G1 _ _ hx1 hV hG
  refine z_istore_n (lv' := [(2, .int (zI x1)), (0, .ref (zA P 5 0 0)), (1, .int (zI p0))]) hC rfl hL (by decide) rfl dX6_valueAt_5 (fun ls hL => ?_)
  refine z_aload_n hC zvr_a rfl (hL.at 1 rfl) dX6_valueAt_6 ?_
  refine z_getA hC hG kFX6_113_6 rfl rfl dX6_valueAt_7 ?_
  refine z_aload_n hC zvr_a rfl (hL.at 1 rfl) dX6_valueAt_10 ?_
  refine z_getA hC hG kFX6_110_6 rfl rfl dX6_valueAt_11 ?_
  refine z_iload_n hC rfl (hL.at 0 rfl) dX6_valueAt_14 ?_
  refine z_iald hC hG rfl rfl rfl hx1 hV dX6_valueAt_15 ?_
  intro x2 hx2 hV
  refine z_iald hC hG rfl rfl rfl hx2 hV dX6_valueAt_16 ?_
  intro x3 hx3 hV
  refine z_istore_n (lv' := [(3, .int (zI x3)), (2, .int (zI x1)), (0, .ref (zA P 5 0 0)), (1, .int (zI p0))]) hC rfl hL (by decide) rfl dX6_valueAt_17 (fun ls hL => ?_)
  refine z_iload_n hC rfl (hL.at 1 rfl) dX6_valueAt_18 ?_
  refine z_iconst hC dX6_valueAt_19 ?_
  refine z_isub hC dX6_valueAt_20 ?_
  refine z_top hV (inR_w _) ?_
  intro x4 hx4 hV
  refine z_istore (lv' := [(4, .int (zI x4)), (3, .int (zI x3)), (2, .int (zI x1)), (0, .ref (zA P 5 0 0)), (1, .int (zI p0))]) hC hL (by decide) rfl dX6_valueAt_21 (fun ls hL => ?_)
  refine zl2_use hV (fun (a23_3 : Int) (a23_4 : Int) => inR a23_3 → inR a23_4 → ∀ (H : Heap) (locs : List Loc), zS P s G1 H locs → ∀ (ls : Array Slot), zL ls 6 [(0, .ref (zA P 5 0 0)), (3, .int (zI a23_3)), (4, .int (zI a23_4))] → W p l e rX6_valueAt s m args below meth c H locs 0 0 (MQ below (zQi P Q) args s 0 0 (zAr P)) (F0 m 23 ls [])) ?_ hx3 hx4 _ _ hG _ (hL.sub [3, 1, 0] rfl)
  intro P23 a23_3 a23_4 hP23 hV ha23_3 ha23_4 H locs hG ls hL
  refine z_iload hC (hL.at 2 rfl) dX6_valueAt_23 ?_
  refine z_if_lt (tgt := 72) hC ha23_4 hV dX6_valueAt_25 (by decide) ?_ ?_
  · intro hV
    refine z_iload_n hC rfl (hL.at 1 rfl) dX6_valueAt_72 ?_
    exact z_iret hC hG hr hk ha23_3 hV (Nat.le_of_ble_eq_true rfl) (Nat.le_of_ble_eq_true rfl) dX6_valueAt_73
  · intro hV
    refine z_aload_n hC zvr_a rfl (hL.at 0 rfl) dX6_valueAt_28 ?_
    refine z_getA hC hG kFX6_25_6 rfl rfl dX6_valueAt_29 ?_
    refine z_iconst hC dX6_valueAt_32 ?_
    refine z_iload_n hC rfl (hL.at 1 rfl) dX6_valueAt_33 ?_
    refine z_imul hC dX6_valueAt_34 ?_
    refine z_aload_n hC zvr_a rfl (hL.at 0 rfl) dX6_valueAt_35 ?_
    refine z_getA hC hG kFX6_110_6 rfl rfl dX6_valueAt_36 ?_
    refine z_iload hC (hL.at 2 rfl) dX6_valueAt_39 ?_
    refine z_iald hC hG rfl rfl rfl ha23_4 hV dX6_valueAt_41 ?_
    intro x5 hx5 hV
    refine z_iadd hC dX6_valueAt_42 ?_
    refine z_iald hC hG rfl rfl rfl (inR_w _) hV dX6_valueAt_43 ?_
    intro x6 hx6 hV
    refine z_istore (lv' := [(5, .int (zI x6)), (0, .ref (zA P 5 0 0)), (3, .int (zI a23_3)), (4, .int (zI a23_4))]) hC hL (by decide) rfl dX6_valueAt_44 (fun ls hL => ?_)
    refine z_aload_n hC zvr_a rfl (hL.at 1 rfl) dX6_valueAt_46 ?_
    refine z_getA hC hG kFX6_19_6 rfl rfl dX6_valueAt_47 ?_
    refine z_iload_n hC rfl (hL.at 2 rfl) dX6_valueAt_50 ?_
    refine z_iald hC hG rfl rfl rfl ha23_3 hV dX6_valueAt_51 ?_
    intro x7 hx7 hV
    refine z_iconst hC dX6_valueAt_52 ?_
    obtain ⟨J65, eJ65, hV⟩ := zjn_abs hV
    have hJ65 : ∀ {H : Heap} {locs : List Loc}, zS P s G1 H locs → ∀ (z65_0 : Int), inR z65_0 → J65 z65_0 → ∀ (ls : Array Slot), zL ls 6 [(0, .ref (zA P 5 0 0)), (4, .int (zI a23_4))] → W p l e rX6_valueAt s m args below meth c H locs 0 0 (MQ below (zQi P Q) args s 0 0 (zAr P)) (F0 m 65 ls [.int (zI z65_0)]) := by
      intro H locs hG z65_0 hz65_0 hV ls hL
      rw [eJ65] at hV
      refine z_istore_n (lv' := [(3, .int (zI z65_0)), (0, .ref (zA P 5 0 0)), (4, .int (zI a23_4))]) hC rfl hL (by decide) rfl dX6_valueAt_65 (fun ls hL => ?_)
      refine z_iincV (fun x8 => [(4, .int (zI x8)), (3, .int (zI z65_0)), (0, .ref (zA P 5 0 0))]) hC hL (k := 2) rfl (by decide) (fun _ => rfl) hV dX6_valueAt_66 ?_
      intro x8 hx8 hV ls hL
      refine z_goto (tgt := 23) hC dX6_valueAt_69 (by decide) ?_
      exact hP23 z65_0 x8 hV hz65_0 hx8 _ _ hG _ (hL.sub [2, 1, 0] rfl)
    refine z_icmp_ne (tgt := 63) hC hx7 (inR_lit rfl) hV dX6_valueAt_53 (by decide) ?_ ?_
    · intro hV
      refine z_iload hC (hL.at 0 rfl) dX6_valueAt_63 ?_
      exact hJ65 hG x6 hx6 hV _ (hL.sub [1, 3] rfl)
    · intro hV
      refine z_iconst hC dX6_valueAt_56 ?_
      refine z_iload hC (hL.at 0 rfl) dX6_valueAt_57 ?_
      refine z_isub hC dX6_valueAt_59 ?_
      refine z_goto (tgt := 65) hC dX6_valueAt_60 (by decide) ?_
      exact hJ65 hG (w32 ((-1) - x6)) (inR_w _) hV _ (hL.sub [1, 3] rfl)
abbrev rX6_measureAt : Room := { frames := 3, cells := 0, slots := 0, locals := 60 }
def vX6_measureAt (p0 : Int) (G : ZG) (Q : Int → ZG → Prop) : Prop := vX6_valueAt p0 G fun (x1 : Int) (G1 : ZG) => zjn (fun (z22_0 : Int) => Q z22_0 G1) fun J22 => zbr (0 ≤ x1) (zaL G1 5 8 40 x1 fun (x2 : Int) => J22 x2) (J22 (w32 ((-1) - x1)))
set_option maxHeartbeats 4000000 in
theorem mX6_measureAt (l : Launch) (P : ZP) (G : ZG) (p0 : Int) (hp0 : inR p0) {Q : Int → ZG → Prop} (hV : vX6_measureAt p0 G Q) : Met l yX6_measureAt (ws_ yX6_measureAt cX6_measureAt 3 (some .int)) rX6_measureAt (zPc P G [.ref (zA P 5 0 0), .int (zI p0)]) (zQi P Q) 0 0 (zAr P) := by
  refine zMet RX6 (plainFor_of_name (by decide)) rfl (zcs_c rfl (zcs_c rfl zcs_0)) (Nat.le_of_ble_eq_true rfl) (fun p e s m args below meth c ls hC hr hk hn hG hL => ?_)
  unfold vX6_measureAt at hV
  refine z_aload_n hC zvr_a rfl (hL.at 0 rfl) dX6_measureAt_0 ?_
  refine z_iload_n hC rfl (hL.at 1 rfl) dX6_measureAt_1 ?_
  refine z_call_i hG (zrunV (ci := 6) hC hG (Nat.le_of_ble_eq_true rfl) (Nat.le_of_ble_eq_true rfl) (zobj hG rfl (Nat.le_of_ble_eq_true rfl) (Nat.le_of_ble_eq_true rfl)) (mX6_valueAt l P G p0 hp0 hV) kVX6_258 rfl rfl rfl ⟨(Nat.le_of_ble_eq_true rfl), (Nat.le_of_ble_eq_true rfl)⟩ ⟨(Nat.le_of_ble_eq_true rfl), (Nat.le_of_ble_eq_true rfl)⟩ rfl ⟨zcs_0, (Nat.le_of_ble_eq_true rfl)⟩ hL.1.1 dX6_measureAt_2) ?_
  rintro x1 G1 _ _ hx1 hV hG
  refine z_istore_n (lv' := [(2, .int (zI x1)), (0, .ref (zA P 5 0 0)), (1, .int (zI p0))]) hC rfl hL (by decide) rfl dX6_measureAt_5 (fun ls hL => ?_)
  refine z_iload_n hC rfl (hL.at 0 rfl) dX6_measureAt_6 ?_
  obtain ⟨J22, eJ22, hV⟩ := zjn_abs hV
  have hJ22 : ∀ {H : Heap} {locs : List Loc}, zS P s G1 H locs → ∀ (z22_0 : Int), inR z22_0 → J22 z22_0 → ∀ (ls : Array Slot), zL ls 3 [] → W p l e rX6_measureAt s m args below meth c H locs 0 0 (MQ below (zQi P Q) args s 0 0 (zAr P)) (F0 m 22 ls [.int (zI z22_0)]) := by
    intro H locs hG z22_0 hz22_0 hV ls hL
    rw [eJ22] at hV
    exact z_iret hC hG hr hk hz22_0 hV (Nat.le_of_ble_eq_true rfl) (Nat.le_of_ble_eq_true rfl) dX6_measureAt_22
  refine z_if_ge (tgt := 16) hC hx1 hV dX6_measureAt_7 (by decide) ?_ ?_
  · intro hV
    refine z_aload_n hC zvr_a rfl (hL.at 1 rfl) dX6_measureAt_16 ?_
    refine z_getA hC hG kFX6_28_6 rfl rfl dX6_measureAt_17 ?_
    refine z_iload_n hC rfl (hL.at 0 rfl) dX6_measureAt_20 ?_
    refine z_iald hC hG rfl rfl rfl hx1 hV dX6_measureAt_21 ?_
    intro x2 hx2 hV
    exact hJ22 hG x2 hx2 hV _ (hL.sub [] rfl)
  · intro hV
    refine z_iconst hC dX6_measureAt_10 ?_
    refine z_iload_n hC rfl (hL.at 0 rfl) dX6_measureAt_11 ?_
    refine z_isub hC dX6_measureAt_12 ?_
    refine z_goto (tgt := 22) hC dX6_measureAt_13 (by decide) ?_
    exact hJ22 hG (w32 ((-1) - x1)) (inR_w _) hV _ (hL.sub [] rfl)
abbrev rX6_gave : Room := { frames := 4, cells := 0, slots := 0, locals := 82 }
def vX6_gave (p0 : Int) (p1 : Int) (G : ZG) (Q : Int → ZG → Prop) : Prop := zgF G 5 40 fun (x1 : Int) => zbr (x1 ≠ 0) (zl2 (fun (P118 : Int → Int → Prop) (a118_3 : Int) (a118_4 : Int) => zgF G 5 48 fun (x2 : Int) => zbr (x2 ≤ a118_4) (zjn (fun (y280_3 : Int) (H280 : ZG) => Q y280_3 H280) fun J280 => zbr (a118_3 ≠ (-9)) (J280 a118_3 G) (zaL G 5 20 12 (w32 ((w32 (4 * p0)) + 3)) fun (x3 : Int) => zaL G 5 20 12 (w32 (4 * p0)) fun (x4 : Int) => vX6_measureAt p1 G fun (x5 : Int) (G1 : ZG) => zaL G1 5 20 12 (w32 ((w32 (4 * p0)) + 1)) fun (x6 : Int) => zgF G1 5 48 fun (x7 : Int) => zaL G1 5 20 12 (w32 ((w32 (4 * p0)) + 2)) fun (x8 : Int) => zlt1 (w32 ((w32 ((w32 (x4 * x5)) + (w32 (x6 * x7)))) + x8)) fun (x9 : Int) => zn0 x3 ∧ zn0 x3 ∧ zlt1 (dRem (w32 ((dRem x9 x3) + x3)) x3) fun (x10 : Int) => zgF G1 5 48 fun (x11 : Int) => zaS G1 5 49 1500 x11 p0 fun (G2 : ZG) => zgF G2 5 48 fun (x12 : Int) => zaS G2 5 50 1500 x12 p1 fun (G3 : ZG) => zgF G3 5 48 fun (x13 : Int) => zaS G3 5 51 1500 x13 x10 fun (G4 : ZG) => zgF G4 5 48 fun (x14 : Int) => zpF G4 5 48 (w32 (x14 + 1)) fun (G5 : ZG) => J280 x10 G5)) (zaL G 5 49 1500 a118_4 fun (x15 : Int) => zjn (fun (z160_0 : Int) => zlt1 (w32 (a118_4 + 1)) fun (x16 : Int) => P118 z160_0 x16) fun J160 => zjn (fun (_ : Unit) => J160 a118_3) fun J159 => zbr (x15 ≠ p0) (J159 ()) (zaL G 5 50 1500 a118_4 fun (x17 : Int) => zbr (x17 ≠ p1) (J159 ()) (zaL G 5 51 1500 a118_4 fun (x18 : Int) => J160 x18)))) (-9) 0) (zgF G 5 41 fun (x19 : Int) => zl2 (fun (P16 : Int → Int → Prop) (a16_3 : Int) (a16_4 : Int) => zbr (a16_4 ≤ 0) (Q a16_3 G) (zaL G 5 57 512 a16_4 fun (x20 : Int) => zaL G 5 58 512 x20 fun (x21 : Int) => zjn (fun (z74_0 : Int) => zjn (fun (z100_0 : Int) => zaL G 5 57 512 a16_4 fun (x22 : Int) => P16 z100_0 x22) fun J100 => zbr (z74_0 = 0) (J100 a16_3) (zaL G 5 57 512 a16_4 fun (x23 : Int) => zaL G 5 61 512 x23 fun (x24 : Int) => J100 (w32 (a16_4 - x24)))) fun J74 => zjn (fun (_ : Unit) => J74 0) fun J73 => zbr (x21 ≠ 4) (J73 ()) (zaL G 5 57 512 a16_4 fun (x25 : Int) => zaL G 5 59 512 x25 fun (x26 : Int) => zbr (x26 ≠ p0) (J73 ()) (zaL G 5 57 512 a16_4 fun (x27 : Int) => zaL G 5 60 512 x27 fun (x28 : Int) => zbr (x28 ≠ p1) (J73 ()) (J74 1))))) (-9) x19)
set_option maxHeartbeats 4000000 in
theorem mX6_gave (l : Launch) (P : ZP) (G : ZG) (p0 : Int) (hp0 : inR p0) (p1 : Int) (hp1 : inR p1) {Q : Int → ZG → Prop} (hV : vX6_gave p0 p1 G Q) : Met l yX6_gave (ws_ yX6_gave cX6_gave 6 (some .int)) rX6_gave (zPc P G [.ref (zA P 5 0 0), .int (zI p0), .int (zI p1)]) (zQi P Q) 0 0 (zAr P) := by
  refine zMet RX6 (plainFor_of_name (by decide)) rfl (zcs_c rfl (zcs_c rfl (zcs_c rfl zcs_0))) (Nat.le_of_ble_eq_true rfl) (fun p e s m args below meth c ls hC hr hk hn hG hL => ?_)
  unfold vX6_gave at hV
  refine z_bipush hC rfl dX6_gave_0 ?_
  refine z_istore_n (lv' := [(3, .int (zI (-9))), (0, .ref (zA P 5 0 0)), (1, .int (zI p0)), (2, .int (zI p1))]) hC rfl hL (by decide) rfl dX6_gave_2 (fun ls hL => ?_)
  refine z_aload_n hC zvr_a rfl (hL.at 1 rfl) dX6_gave_3 ?_
  refine z_getF hC hG kFX6_261_6 rfl rfl hV dX6_gave_4 ?_
  intro x1 hx1 hV
  refine z_if_ne (tgt := 115) hC hx1 hV dX6_gave_7 (by decide) ?_ ?_
  · intro hV
    refine z_iconst hC dX6_gave_115 ?_
    refine z_istore (lv' := [(4, .int (zI 0)), (3, .int (zI (-9))), (0, .ref (zA P 5 0 0)), (1, .int (zI p0)), (2, .int (zI p1))]) hC hL (by decide) rfl dX6_gave_116 (fun ls hL => ?_)
    refine zl2_use hV (fun (a118_3 : Int) (a118_4 : Int) => inR a118_3 → inR a118_4 → ∀ (H : Heap) (locs : List Loc), zS P s G H locs → ∀ (ls : Array Slot), zL ls 6 [(0, .ref (zA P 5 0 0)), (1, .int (zI p0)), (2, .int (zI p1)), (3, .int (zI a118_3)), (4, .int (zI a118_4))] → W p l e rX6_gave s m args below meth c H locs 0 0 (MQ below (zQi P Q) args s 0 0 (zAr P)) (F0 m 118 ls [])) ?_ (inR_lit rfl) (inR_lit rfl) _ _ hG _ (hL.sub [2, 3, 4, 1, 0] rfl)
    intro P118 a118_3 a118_4 hP118 hV ha118_3 ha118_4 H locs hG ls hL
    refine z_iload hC (hL.at 4 rfl) dX6_gave_118 ?_
    refine z_aload_n hC zvr_a rfl (hL.at 0 rfl) dX6_gave_120 ?_
    refine z_getF hC hG kFX6_237_6 rfl rfl hV dX6_gave_121 ?_
    intro x2 hx2 hV
    refine z_icmp_ge (tgt := 167) hC ha118_4 hx2 hV dX6_gave_124 (by decide) ?_ ?_
    · intro hV
      refine z_iload_n hC rfl (hL.at 3 rfl) dX6_gave_167 ?_
      refine z_bipush hC rfl dX6_gave_168 ?_
      obtain ⟨J280, eJ280, hV⟩ := zjn_abs hV
      have hJ280 : ∀ (y280_3 : Int) (H280 : ZG), inR y280_3 → J280 y280_3 H280 → ∀ (H : Heap) (locs : List Loc) (ls : Array Slot), zS P s H280 H locs → zL ls 6 [(3, .int (zI y280_3))] → W p l e rX6_gave s m args below meth c H locs 0 0 (MQ below (zQi P Q) args s 0 0 (zAr P)) (F0 m 280 ls []) := by
        intro y280_3 H280 hy280_3 hV H locs ls hG hL
        rw [eJ280] at hV
        refine z_iload_n hC rfl (hL.at 0 rfl) dX6_gave_280 ?_
        exact z_iret hC hG hr hk hy280_3 hV (Nat.le_of_ble_eq_true rfl) (Nat.le_of_ble_eq_true rfl) dX6_gave_281
      refine z_icmp_ne (tgt := 280) hC ha118_3 (inR_lit rfl) hV dX6_gave_170 (by decide) ?_ ?_
      · intro hV
        exact hJ280 a118_3 G ha118_3 hV _ _ _ hG (hL.sub [3] rfl)
      · intro hV
        refine z_aload_n hC zvr_a rfl (hL.at 0 rfl) dX6_gave_173 ?_
        refine z_getA hC hG kFX6_62_6 rfl rfl dX6_gave_174 ?_
        refine z_iconst hC dX6_gave_177 ?_
        refine z_iload_n hC rfl (hL.at 1 rfl) dX6_gave_178 ?_
        refine z_imul hC dX6_gave_179 ?_
        refine z_iconst hC dX6_gave_180 ?_
        refine z_iadd hC dX6_gave_181 ?_
        refine z_iald hC hG rfl rfl rfl (inR_w _) hV dX6_gave_182 ?_
        intro x3 hx3 hV
        refine z_istore (lv' := [(4, .int (zI x3)), (0, .ref (zA P 5 0 0)), (1, .int (zI p0)), (2, .int (zI p1)), (3, .int (zI a118_3))]) hC hL (by decide) rfl dX6_gave_183 (fun ls hL => ?_)
        refine z_aload_n hC zvr_a rfl (hL.at 1 rfl) dX6_gave_185 ?_
        refine z_getA hC hG kFX6_62_6 rfl rfl dX6_gave_186 ?_
        refine z_iconst hC dX6_gave_189 ?_
        refine z_iload_n hC rfl (hL.at 2 rfl) dX6_gave_190 ?_
        refine z_imul hC dX6_gave_191 ?_
        refine z_iald hC hG rfl rfl rfl (inR_w _) hV dX6_gave_192 ?_
        intro x4 hx4 hV
        refine z_aload_n hC zvr_a rfl (hL.at 1 rfl) dX6_gave_193 ?_
        refine z_iload_n hC rfl (hL.at 3 rfl) dX6_gave_194 ?_
        refine z_call_i hG (zrunV (ci := 6) hC hG (Nat.le_of_ble_eq_true rfl) (Nat.le_of_ble_eq_true rfl) (zobj hG rfl (Nat.le_of_ble_eq_true rfl) (Nat.le_of_ble_eq_true rfl)) (mX6_measureAt l P G p1 hp1 hV) kVX6_271 rfl rfl rfl ⟨(Nat.le_of_ble_eq_true rfl), (Nat.le_of_ble_eq_true rfl)⟩ ⟨(Nat.le_of_ble_eq_true rfl), (Nat.le_of_ble_eq_true rfl)⟩ rfl ⟨(zcs_c rfl zcs_0), (Nat.le_of_ble_eq_true rfl)⟩ hL.1.1 dX6_gave_195) ?_
        rintro x5 G1 _ _ hx5 hV hG
        refine z_imul hC dX6_gave_198 ?_
        refine z_aload_n hC zvr_a rfl (hL.at 1 rfl) dX6_gave_199 ?_
        refine z_getA hC hG kFX6_62_6 rfl rfl dX6_gave_200 ?_
        refine z_iconst hC dX6_gave_203 ?_
        refine z_iload_n hC rfl (hL.at 2 rfl) dX6_gave_204 ?_
        refine z_imul hC dX6_gave_205 ?_
        refine z_iconst hC dX6_gave_206 ?_
        refine z_iadd hC dX6_gave_207 ?_
        refine z_iald hC hG rfl rfl rfl (inR_w _) hV dX6_gave_208 ?_
        intro x6 hx6 hV
        refine z_aload_n hC zvr_a rfl (hL.at 1 rfl) dX6_gave_209 ?_
        refine z_getF hC hG kFX6_237_6 rfl rfl hV dX6_gave_210 ?_
        intro x7 hx7 hV
        refine z_imul hC dX6_gave_213 ?_
        refine z_iadd hC dX6_gave_214 ?_
        refine z_aload_n hC zvr_a rfl (hL.at 1 rfl) dX6_gave_215 ?_
        refine z_getA hC hG kFX6_62_6 rfl rfl dX6_gave_216 ?_
        refine z_iconst hC dX6_gave_219 ?_
        refine z_iload_n hC rfl (hL.at 2 rfl) dX6_gave_220 ?_
        refine z_imul hC dX6_gave_221 ?_
        refine z_iconst hC dX6_gave_222 ?_
        refine z_iadd hC dX6_gave_223 ?_
        refine z_iald hC hG rfl rfl rfl (inR_w _) hV dX6_gave_224 ?_
        intro x8 hx8 hV
        refine z_iadd hC dX6_gave_225 ?_
        refine z_top hV (inR_w _) ?_
        intro x9 hx9 hV
        refine z_istore (lv' := [(5, .int (zI x9)), (4, .int (zI x3)), (0, .ref (zA P 5 0 0)), (1, .int (zI p0)), (2, .int (zI p1)), (3, .int (zI a118_3))]) hC hL (by decide) rfl dX6_gave_226 (fun ls hL => ?_)
        refine z_iload hC (hL.at 0 rfl) dX6_gave_228 ?_
        refine z_iload hC (hL.at 1 rfl) dX6_gave_230 ?_
        refine z_irem hC hx3 hV dX6_gave_232 (fun hV => ?_)
        refine z_iload hC (hL.at 1 rfl) dX6_gave_233 ?_
        refine z_iadd hC dX6_gave_235 ?_
        refine z_iload hC (hL.at 1 rfl) dX6_gave_236 ?_
        refine z_irem hC hx3 hV dX6_gave_238 (fun hV => ?_)
        refine z_top hV (inR_toInt _) ?_
        intro x10 hx10 hV
        refine z_istore_n (lv' := [(3, .int (zI x10)), (5, .int (zI x9)), (4, .int (zI x3)), (0, .ref (zA P 5 0 0)), (1, .int (zI p0)), (2, .int (zI p1))]) hC rfl hL (by decide) rfl dX6_gave_239 (fun ls hL => ?_)
        refine z_aload_n hC zvr_a rfl (hL.at 3 rfl) dX6_gave_240 ?_
        refine z_getA hC hG kFX6_116_6 rfl rfl dX6_gave_241 ?_
        refine z_aload_n hC zvr_a rfl (hL.at 3 rfl) dX6_gave_244 ?_
        refine z_getF hC hG kFX6_237_6 rfl rfl hV dX6_gave_245 ?_
        intro x11 hx11 hV
        refine z_iload_n hC rfl (hL.at 4 rfl) dX6_gave_248 ?_
        refine z_iast hC hG rfl (Nat.le_of_ble_eq_true rfl) (Nat.le_of_ble_eq_true rfl) rfl rfl rfl hx11 hp0 hV dX6_gave_249 ?_
        intro G2 _ _ hG hV
        refine z_aload_n hC zvr_a rfl (hL.at 3 rfl) dX6_gave_250 ?_
        refine z_getA hC hG kFX6_119_6 rfl rfl dX6_gave_251 ?_
        refine z_aload_n hC zvr_a rfl (hL.at 3 rfl) dX6_gave_254 ?_
        refine z_getF hC hG kFX6_237_6 rfl rfl hV dX6_gave_255 ?_
        intro x12 hx12 hV
        refine z_iload_n hC rfl (hL.at 5 rfl) dX6_gave_258 ?_
        refine z_iast hC hG rfl (Nat.le_of_ble_eq_true rfl) (Nat.le_of_ble_eq_true rfl) rfl rfl rfl hx12 hp1 hV dX6_gave_259 ?_
        intro G3 _ _ hG hV
        refine z_aload_n hC zvr_a rfl (hL.at 3 rfl) dX6_gave_260 ?_
        refine z_getA hC hG kFX6_122_6 rfl rfl dX6_gave_261 ?_
        refine z_aload_n hC zvr_a rfl (hL.at 3 rfl) dX6_gave_264 ?_
        refine z_getF hC hG kFX6_237_6 rfl rfl hV dX6_gave_265 ?_
        intro x13 hx13 hV
        refine z_iload_n hC rfl (hL.at 0 rfl) dX6_gave_268 ?_
        refine z_iast hC hG rfl (Nat.le_of_ble_eq_true rfl) (Nat.le_of_ble_eq_true rfl) rfl rfl rfl hx13 hx10 hV dX6_gave_269 ?_
        intro G4 _ _ hG hV
        refine z_aload_n hC zvr_a rfl (hL.at 3 rfl) dX6_gave_270 ?_
        refine z_dup hC rfl dX6_gave_271 ?_
        refine z_getF hC hG kFX6_237_6 rfl rfl hV dX6_gave_272 ?_
        intro x14 hx14 hV
        refine z_iconst hC dX6_gave_275 ?_
        refine z_iadd hC dX6_gave_276 ?_
        refine z_putF hC hG kFX6_237_6 rfl rfl rfl rfl nk_6_48 (inR_w _) (Or.inl rfl) hV dX6_gave_277 ?_
        intro G5 _ _ hG hV
        exact hJ280 x10 G5 hx10 hV _ _ _ hG (hL.sub [0] rfl)
    · intro hV
      refine z_aload_n hC zvr_a rfl (hL.at 0 rfl) dX6_gave_127 ?_
      refine z_getA hC hG kFX6_116_6 rfl rfl dX6_gave_128 ?_
      refine z_iload hC (hL.at 4 rfl) dX6_gave_131 ?_
      refine z_iald hC hG rfl rfl rfl ha118_4 hV dX6_gave_133 ?_
      intro x15 hx15 hV
      refine z_iload_n hC rfl (hL.at 1 rfl) dX6_gave_134 ?_
      obtain ⟨J160, eJ160, hV⟩ := zjn_abs hV
      have hJ160 : ∀ {H : Heap} {locs : List Loc}, zS P s G H locs → ∀ (z160_0 : Int), inR z160_0 → J160 z160_0 → ∀ (ls : Array Slot), zL ls 6 [(0, .ref (zA P 5 0 0)), (1, .int (zI p0)), (2, .int (zI p1)), (4, .int (zI a118_4))] → W p l e rX6_gave s m args below meth c H locs 0 0 (MQ below (zQi P Q) args s 0 0 (zAr P)) (F0 m 160 ls [.int (zI z160_0)]) := by
        intro H locs hG z160_0 hz160_0 hV ls hL
        rw [eJ160] at hV
        refine z_istore_n (lv' := [(3, .int (zI z160_0)), (0, .ref (zA P 5 0 0)), (1, .int (zI p0)), (2, .int (zI p1)), (4, .int (zI a118_4))]) hC rfl hL (by decide) rfl dX6_gave_160 (fun ls hL => ?_)
        refine z_iincV (fun x16 => [(4, .int (zI x16)), (3, .int (zI z160_0)), (0, .ref (zA P 5 0 0)), (1, .int (zI p0)), (2, .int (zI p1))]) hC hL (k := 4) rfl (by decide) (fun _ => rfl) hV dX6_gave_161 ?_
        intro x16 hx16 hV ls hL
        refine z_goto (tgt := 118) hC dX6_gave_164 (by decide) ?_
        exact hP118 z160_0 x16 hV hz160_0 hx16 _ _ hG _ (hL.sub [2, 3, 4, 1, 0] rfl)
      obtain ⟨J159, eJ159, hV⟩ := zjn_abs hV
      have hJ159 : ∀ {H : Heap} {locs : List Loc}, zS P s G H locs → J159 () → ∀ (ls : Array Slot), zL ls 6 [(0, .ref (zA P 5 0 0)), (1, .int (zI p0)), (2, .int (zI p1)), (3, .int (zI a118_3)), (4, .int (zI a118_4))] → W p l e rX6_gave s m args below meth c H locs 0 0 (MQ below (zQi P Q) args s 0 0 (zAr P)) (F0 m 159 ls []) := by
        intro H locs hG hV ls hL
        rw [eJ159] at hV
        refine z_iload_n hC rfl (hL.at 3 rfl) dX6_gave_159 ?_
        exact hJ160 hG a118_3 ha118_3 hV _ (hL.sub [0, 1, 2, 4] rfl)
      refine z_icmp_ne (tgt := 159) hC hx15 hp0 hV dX6_gave_135 (by decide) ?_ ?_
      · intro hV
        exact hJ159 hG hV _ hL
      · intro hV
        refine z_aload_n hC zvr_a rfl (hL.at 0 rfl) dX6_gave_138 ?_
        refine z_getA hC hG kFX6_119_6 rfl rfl dX6_gave_139 ?_
        refine z_iload hC (hL.at 4 rfl) dX6_gave_142 ?_
        refine z_iald hC hG rfl rfl rfl ha118_4 hV dX6_gave_144 ?_
        intro x17 hx17 hV
        refine z_iload_n hC rfl (hL.at 2 rfl) dX6_gave_145 ?_
        refine z_icmp_ne (tgt := 159) hC hx17 hp1 hV dX6_gave_146 (by decide) ?_ ?_
        · intro hV
          exact hJ159 hG hV _ hL
        · intro hV
          refine z_aload_n hC zvr_a rfl (hL.at 0 rfl) dX6_gave_149 ?_
          refine z_getA hC hG kFX6_122_6 rfl rfl dX6_gave_150 ?_
          refine z_iload hC (hL.at 4 rfl) dX6_gave_153 ?_
          refine z_iald hC hG rfl rfl rfl ha118_4 hV dX6_gave_155 ?_
          intro x18 hx18 hV
          refine z_goto (tgt := 160) hC dX6_gave_156 (by decide) ?_
          exact hJ160 hG x18 hx18 hV _ (hL.sub [0, 1, 2, 4] rfl)
  · intro hV
    refine z_aload_n hC zvr_a rfl (hL.at 1 rfl) dX6_gave_10 ?_
    refine z_getF hC hG kFX6_268_6 rfl rfl hV dX6_gave_11 ?_
    intro x19 hx19 hV
    refine z_istore (lv' := [(4, .int (zI x19)), (3, .int (zI (-9))), (0, .ref (zA P 5 0 0)), (1, .int (zI p0)), (2, .int (zI p1))]) hC hL (by decide) rfl dX6_gave_14 (fun ls hL => ?_)
    refine zl2_use hV (fun (a16_3 : Int) (a16_4 : Int) => inR a16_3 → inR a16_4 → ∀ (H : Heap) (locs : List Loc), zS P s G H locs → ∀ (ls : Array Slot), zL ls 6 [(0, .ref (zA P 5 0 0)), (1, .int (zI p0)), (2, .int (zI p1)), (3, .int (zI a16_3)), (4, .int (zI a16_4))] → W p l e rX6_gave s m args below meth c H locs 0 0 (MQ below (zQi P Q) args s 0 0 (zAr P)) (F0 m 16 ls [])) ?_ (inR_lit rfl) hx19 _ _ hG _ (hL.sub [2, 3, 4, 1, 0] rfl)
    intro P16 a16_3 a16_4 hP16 hV ha16_3 ha16_4 H locs hG ls hL
    refine z_iload hC (hL.at 4 rfl) dX6_gave_16 ?_
    refine z_if_le (tgt := 113) hC ha16_4 hV dX6_gave_18 (by decide) ?_ ?_
    · intro hV
      refine z_iload_n hC rfl (hL.at 3 rfl) dX6_gave_113 ?_
      exact z_iret hC hG hr hk ha16_3 hV (Nat.le_of_ble_eq_true rfl) (Nat.le_of_ble_eq_true rfl) dX6_gave_114
    · intro hV
      refine z_aload_n hC zvr_a rfl (hL.at 0 rfl) dX6_gave_21 ?_
      refine z_getA hC hG kFX6_131_6 rfl rfl dX6_gave_22 ?_
      refine z_aload_n hC zvr_a rfl (hL.at 0 rfl) dX6_gave_25 ?_
      refine z_getA hC hG kFX6_128_6 rfl rfl dX6_gave_26 ?_
      refine z_iload hC (hL.at 4 rfl) dX6_gave_29 ?_
      refine z_iald hC hG rfl rfl rfl ha16_4 hV dX6_gave_31 ?_
      intro x20 hx20 hV
      refine z_iald hC hG rfl rfl rfl hx20 hV dX6_gave_32 ?_
      intro x21 hx21 hV
      refine z_iconst hC dX6_gave_33 ?_
      obtain ⟨J74, eJ74, hV⟩ := zjn_abs hV
      have hJ74 : ∀ {H : Heap} {locs : List Loc}, zS P s G H locs → ∀ (z74_0 : Int), (z74_0 = 0 ∨ z74_0 = 1) → J74 z74_0 → ∀ (ls : Array Slot), zL ls 6 [(0, .ref (zA P 5 0 0)), (1, .int (zI p0)), (2, .int (zI p1)), (3, .int (zI a16_3)), (4, .int (zI a16_4))] → W p l e rX6_gave s m args below meth c H locs 0 0 (MQ below (zQi P Q) args s 0 0 (zAr P)) (F0 m 74 ls [.int (zI z74_0)]) := by
        intro H locs hG z74_0 hz74_0 hV ls hL
        rw [eJ74] at hV
        refine z_istore (lv' := [(5, .int (zI z74_0)), (0, .ref (zA P 5 0 0)), (1, .int (zI p0)), (2, .int (zI p1)), (3, .int (zI a16_3)), (4, .int (zI a16_4))]) hC hL (by decide) rfl dX6_gave_74 (fun ls hL => ?_)
        refine z_iload hC (hL.at 0 rfl) dX6_gave_76 ?_
        obtain ⟨J100, eJ100, hV⟩ := zjn_abs hV
        have hJ100 : ∀ {H : Heap} {locs : List Loc}, zS P s G H locs → ∀ (z100_0 : Int), inR z100_0 → J100 z100_0 → ∀ (ls : Array Slot), zL ls 6 [(0, .ref (zA P 5 0 0)), (1, .int (zI p0)), (2, .int (zI p1)), (4, .int (zI a16_4))] → W p l e rX6_gave s m args below meth c H locs 0 0 (MQ below (zQi P Q) args s 0 0 (zAr P)) (F0 m 100 ls [.int (zI z100_0)]) := by
          intro H locs hG z100_0 hz100_0 hV ls hL
          rw [eJ100] at hV
          refine z_istore_n (lv' := [(3, .int (zI z100_0)), (0, .ref (zA P 5 0 0)), (1, .int (zI p0)), (2, .int (zI p1)), (4, .int (zI a16_4))]) hC rfl hL (by decide) rfl dX6_gave_100 (fun ls hL => ?_)
          refine z_aload_n hC zvr_a rfl (hL.at 1 rfl) dX6_gave_101 ?_
          refine z_getA hC hG kFX6_128_6 rfl rfl dX6_gave_102 ?_
          refine z_iload hC (hL.at 4 rfl) dX6_gave_105 ?_
          refine z_iald hC hG rfl rfl rfl ha16_4 hV dX6_gave_107 ?_
          intro x22 hx22 hV
          refine z_istore (lv' := [(4, .int (zI x22)), (3, .int (zI z100_0)), (0, .ref (zA P 5 0 0)), (1, .int (zI p0)), (2, .int (zI p1))]) hC hL (by decide) rfl dX6_gave_108 (fun ls hL => ?_)
          refine z_goto (tgt := 16) hC dX6_gave_110 (by decide) ?_
          exact hP16 z100_0 x22 hV hz100_0 hx22 _ _ hG _ (hL.sub [2, 3, 4, 1, 0] rfl)
        refine z_if_eq (tgt := 99) hC (inR_b hz74_0) hV dX6_gave_78 (by decide) ?_ ?_
        · intro hV
          refine z_iload_n hC rfl (hL.at 4 rfl) dX6_gave_99 ?_
          exact hJ100 hG a16_3 ha16_3 hV _ (hL.sub [1, 2, 3, 5] rfl)
        · intro hV
          refine z_iload hC (hL.at 5 rfl) dX6_gave_81 ?_
          refine z_aload_n hC zvr_a rfl (hL.at 1 rfl) dX6_gave_83 ?_
          refine z_getA hC hG kFX6_140_6 rfl rfl dX6_gave_84 ?_
          refine z_aload_n hC zvr_a rfl (hL.at 1 rfl) dX6_gave_87 ?_
          refine z_getA hC hG kFX6_128_6 rfl rfl dX6_gave_88 ?_
          refine z_iload hC (hL.at 5 rfl) dX6_gave_91 ?_
          refine z_iald hC hG rfl rfl rfl ha16_4 hV dX6_gave_93 ?_
          intro x23 hx23 hV
          refine z_iald hC hG rfl rfl rfl hx23 hV dX6_gave_94 ?_
          intro x24 hx24 hV
          refine z_isub hC dX6_gave_95 ?_
          refine z_goto (tgt := 100) hC dX6_gave_96 (by decide) ?_
          exact hJ100 hG (w32 (a16_4 - x24)) (inR_w _) hV _ (hL.sub [1, 2, 3, 5] rfl)
      obtain ⟨J73, eJ73, hV⟩ := zjn_abs hV
      have hJ73 : ∀ {H : Heap} {locs : List Loc}, zS P s G H locs → J73 () → ∀ (ls : Array Slot), zL ls 6 [(0, .ref (zA P 5 0 0)), (1, .int (zI p0)), (2, .int (zI p1)), (3, .int (zI a16_3)), (4, .int (zI a16_4))] → W p l e rX6_gave s m args below meth c H locs 0 0 (MQ below (zQi P Q) args s 0 0 (zAr P)) (F0 m 73 ls []) := by
        intro H locs hG hV ls hL
        rw [eJ73] at hV
        refine z_iconst hC dX6_gave_73 ?_
        exact hJ74 hG 0 (Or.inl rfl) hV _ hL
      refine z_icmp_ne (tgt := 73) hC hx21 (inR_lit rfl) hV dX6_gave_34 (by decide) ?_ ?_
      · intro hV
        exact hJ73 hG hV _ hL
      · intro hV
        refine z_aload_n hC zvr_a rfl (hL.at 0 rfl) dX6_gave_37 ?_
        refine z_getA hC hG kFX6_134_6 rfl rfl dX6_gave_38 ?_
        refine z_aload_n hC zvr_a rfl (hL.at 0 rfl) dX6_gave_41 ?_
        refine z_getA hC hG kFX6_128_6 rfl rfl dX6_gave_42 ?_
        refine z_iload hC (hL.at 4 rfl) dX6_gave_45 ?_
        refine z_iald hC hG rfl rfl rfl ha16_4 hV dX6_gave_47 ?_
        intro x25 hx25 hV
        refine z_iald hC hG rfl rfl rfl hx25 hV dX6_gave_48 ?_
        intro x26 hx26 hV
        refine z_iload_n hC rfl (hL.at 1 rfl) dX6_gave_49 ?_
        refine z_icmp_ne (tgt := 73) hC hx26 hp0 hV dX6_gave_50 (by decide) ?_ ?_
        · intro hV
          exact hJ73 hG hV _ hL
        · intro hV
          refine z_aload_n hC zvr_a rfl (hL.at 0 rfl) dX6_gave_53 ?_
          refine z_getA hC hG kFX6_137_6 rfl rfl dX6_gave_54 ?_
          refine z_aload_n hC zvr_a rfl (hL.at 0 rfl) dX6_gave_57 ?_
          refine z_getA hC hG kFX6_128_6 rfl rfl dX6_gave_58 ?_
          refine z_iload hC (hL.at 4 rfl) dX6_gave_61 ?_
          refine z_iald hC hG rfl rfl rfl ha16_4 hV dX6_gave_63 ?_
          intro x27 hx27 hV
          refine z_iald hC hG rfl rfl rfl hx27 hV dX6_gave_64 ?_
          intro x28 hx28 hV
          refine z_iload_n hC rfl (hL.at 2 rfl) dX6_gave_65 ?_
          refine z_icmp_ne (tgt := 73) hC hx28 hp1 hV dX6_gave_66 (by decide) ?_ ?_
          · intro hV
            exact hJ73 hG hV _ hL
          · intro hV
            refine z_iconst hC dX6_gave_69 ?_
            refine z_goto (tgt := 74) hC dX6_gave_70 (by decide) ?_
            exact hJ74 hG 1 (Or.inr rfl) hV _ hL
abbrev rX6_headAt : Room := { frames := 3, cells := 0, slots := 0, locals := 60 }
def vX6_headAt (p0 : Int) (G : ZG) (Q : Int → ZG → Prop) : Prop := vX6_valueAt p0 G fun (x1 : Int) (G1 : ZG) => zjn (fun (z22_0 : Int) => Q z22_0 G1) fun J22 => zbr (0 ≤ x1) (zaL G1 5 6 40 x1 fun (x2 : Int) => J22 x2) (J22 (w32 ((-1) - x1)))
set_option maxHeartbeats 4000000 in
theorem mX6_headAt (l : Launch) (P : ZP) (G : ZG) (p0 : Int) (hp0 : inR p0) {Q : Int → ZG → Prop} (hV : vX6_headAt p0 G Q) : Met l yX6_headAt (ws_ yX6_headAt cX6_headAt 3 (some .int)) rX6_headAt (zPc P G [.ref (zA P 5 0 0), .int (zI p0)]) (zQi P Q) 0 0 (zAr P) := by
  refine zMet RX6 (plainFor_of_name (by decide)) rfl (zcs_c rfl (zcs_c rfl zcs_0)) (Nat.le_of_ble_eq_true rfl) (fun p e s m args below meth c ls hC hr hk hn hG hL => ?_)
  unfold vX6_headAt at hV
  refine z_aload_n hC zvr_a rfl (hL.at 0 rfl) dX6_headAt_0 ?_
  refine z_iload_n hC rfl (hL.at 1 rfl) dX6_headAt_1 ?_
  refine z_call_i hG (zrunV (ci := 6) hC hG (Nat.le_of_ble_eq_true rfl) (Nat.le_of_ble_eq_true rfl) (zobj hG rfl (Nat.le_of_ble_eq_true rfl) (Nat.le_of_ble_eq_true rfl)) (mX6_valueAt l P G p0 hp0 hV) kVX6_258 rfl rfl rfl ⟨(Nat.le_of_ble_eq_true rfl), (Nat.le_of_ble_eq_true rfl)⟩ ⟨(Nat.le_of_ble_eq_true rfl), (Nat.le_of_ble_eq_true rfl)⟩ rfl ⟨zcs_0, (Nat.le_of_ble_eq_true rfl)⟩ hL.1.1 dX6_headAt_2) ?_
  rintro x1 G1 _ _ hx1 hV hG
  refine z_istore_n (lv' := [(2, .int (zI x1)), (0, .ref (zA P 5 0 0)), (1, .int (zI p0))]) hC rfl hL (by decide) rfl dX6_headAt_5 (fun ls hL => ?_)
  refine z_iload_n hC rfl (hL.at 0 rfl) dX6_headAt_6 ?_
  obtain ⟨J22, eJ22, hV⟩ := zjn_abs hV
  have hJ22 : ∀ {H : Heap} {locs : List Loc}, zS P s G1 H locs → ∀ (z22_0 : Int), inR z22_0 → J22 z22_0 → ∀ (ls : Array Slot), zL ls 3 [] → W p l e rX6_headAt s m args below meth c H locs 0 0 (MQ below (zQi P Q) args s 0 0 (zAr P)) (F0 m 22 ls [.int (zI z22_0)]) := by
    intro H locs hG z22_0 hz22_0 hV ls hL
    rw [eJ22] at hV
    exact z_iret hC hG hr hk hz22_0 hV (Nat.le_of_ble_eq_true rfl) (Nat.le_of_ble_eq_true rfl) dX6_headAt_22
  refine z_if_ge (tgt := 16) hC hx1 hV dX6_headAt_7 (by decide) ?_ ?_
  · intro hV
    refine z_aload_n hC zvr_a rfl (hL.at 1 rfl) dX6_headAt_16 ?_
    refine z_getA hC hG kFX6_22_6 rfl rfl dX6_headAt_17 ?_
    refine z_iload_n hC rfl (hL.at 0 rfl) dX6_headAt_20 ?_
    refine z_iald hC hG rfl rfl rfl hx1 hV dX6_headAt_21 ?_
    intro x2 hx2 hV
    exact hJ22 hG x2 hx2 hV _ (hL.sub [] rfl)
  · intro hV
    refine z_iconst hC dX6_headAt_10 ?_
    refine z_iload_n hC rfl (hL.at 0 rfl) dX6_headAt_11 ?_
    refine z_isub hC dX6_headAt_12 ?_
    refine z_goto (tgt := 22) hC dX6_headAt_13 (by decide) ?_
    exact hJ22 hG (w32 ((-1) - x1)) (inR_w _) hV _ (hL.sub [] rfl)
abbrev rX6_factAt : Room := { frames := 4, cells := 0, slots := 0, locals := 82 }
def vX6_factAt (p0 : Int) (G : ZG) (Q : Int → ZG → Prop) : Prop := zbr (0 ≤ p0) (zgF G 5 40 fun (x1 : Int) => zbr (x1 = 0) (zgF G 5 41 fun (x2 : Int) => zl2 (fun (P29 : Int → Int → Prop) (a29_2 : Int) (a29_3 : Int) => zbr (a29_3 ≤ 0) (Q a29_2 G) (zaL G 5 57 512 a29_3 fun (x3 : Int) => zaL G 5 58 512 x3 fun (x4 : Int) => zjn (fun (z80_0 : Int) => zaL G 5 57 512 a29_3 fun (x5 : Int) => P29 z80_0 x5) fun J80 => zjn (fun (_ : Unit) => J80 a29_2) fun J79 => zbr (x4 ≠ 5) (J79 ()) (zaL G 5 57 512 a29_3 fun (x6 : Int) => zaL G 5 60 512 x6 fun (x7 : Int) => zbr (x7 ≠ p0) (J79 ()) (zaL G 5 57 512 a29_3 fun (x8 : Int) => zaL G 5 61 512 x8 fun (x9 : Int) => J80 (w32 (a29_3 - x9)))))) (-9) x2) (vX6_headAt p0 G fun (x10 : Int) (G1 : ZG) => Q x10 G1)) (Q (w32 ((-1) - p0)) G)
set_option maxHeartbeats 4000000 in
theorem mX6_factAt (l : Launch) (P : ZP) (G : ZG) (p0 : Int) (hp0 : inR p0) {Q : Int → ZG → Prop} (hV : vX6_factAt p0 G Q) : Met l yX6_factAt (ws_ yX6_factAt cX6_factAt 4 (some .int)) rX6_factAt (zPc P G [.ref (zA P 5 0 0), .int (zI p0)]) (zQi P Q) 0 0 (zAr P) := by
  refine zMet RX6 (plainFor_of_name (by decide)) rfl (zcs_c rfl (zcs_c rfl zcs_0)) (Nat.le_of_ble_eq_true rfl) (fun p e s m args below meth c ls hC hr hk hn hG hL => ?_)
  unfold vX6_factAt at hV
  refine z_iload_n hC rfl (hL.at 1 rfl) dX6_factAt_0 ?_
  refine z_if_ge (tgt := 8) hC hp0 hV dX6_factAt_1 (by decide) ?_ ?_
  · intro hV
    refine z_aload_n hC zvr_a rfl (hL.at 0 rfl) dX6_factAt_8 ?_
    refine z_getF hC hG kFX6_261_6 rfl rfl hV dX6_factAt_9 ?_
    intro x1 hx1 hV
    refine z_if_eq (tgt := 21) hC hx1 hV dX6_factAt_12 (by decide) ?_ ?_
    · intro hV
      refine z_bipush hC rfl dX6_factAt_21 ?_
      refine z_istore_n (lv' := [(2, .int (zI (-9))), (0, .ref (zA P 5 0 0)), (1, .int (zI p0))]) hC rfl hL (by decide) rfl dX6_factAt_23 (fun ls hL => ?_)
      refine z_aload_n hC zvr_a rfl (hL.at 1 rfl) dX6_factAt_24 ?_
      refine z_getF hC hG kFX6_268_6 rfl rfl hV dX6_factAt_25 ?_
      intro x2 hx2 hV
      refine z_istore_n (lv' := [(3, .int (zI x2)), (2, .int (zI (-9))), (0, .ref (zA P 5 0 0)), (1, .int (zI p0))]) hC rfl hL (by decide) rfl dX6_factAt_28 (fun ls hL => ?_)
      refine zl2_use hV (fun (a29_2 : Int) (a29_3 : Int) => inR a29_2 → inR a29_3 → ∀ (H : Heap) (locs : List Loc), zS P s G H locs → ∀ (ls : Array Slot), zL ls 4 [(0, .ref (zA P 5 0 0)), (1, .int (zI p0)), (2, .int (zI a29_2)), (3, .int (zI a29_3))] → W p l e rX6_factAt s m args below meth c H locs 0 0 (MQ below (zQi P Q) args s 0 0 (zAr P)) (F0 m 29 ls [])) ?_ (inR_lit rfl) hx2 _ _ hG _ (hL.sub [2, 3, 1, 0] rfl)
      intro P29 a29_2 a29_3 hP29 hV ha29_2 ha29_3 H locs hG ls hL
      refine z_iload_n hC rfl (hL.at 3 rfl) dX6_factAt_29 ?_
      refine z_if_le (tgt := 91) hC ha29_3 hV dX6_factAt_30 (by decide) ?_ ?_
      · intro hV
        refine z_iload_n hC rfl (hL.at 2 rfl) dX6_factAt_91 ?_
        exact z_iret hC hG hr hk ha29_2 hV (Nat.le_of_ble_eq_true rfl) (Nat.le_of_ble_eq_true rfl) dX6_factAt_92
      · intro hV
        refine z_aload_n hC zvr_a rfl (hL.at 0 rfl) dX6_factAt_33 ?_
        refine z_getA hC hG kFX6_131_6 rfl rfl dX6_factAt_34 ?_
        refine z_aload_n hC zvr_a rfl (hL.at 0 rfl) dX6_factAt_37 ?_
        refine z_getA hC hG kFX6_128_6 rfl rfl dX6_factAt_38 ?_
        refine z_iload_n hC rfl (hL.at 3 rfl) dX6_factAt_41 ?_
        refine z_iald hC hG rfl rfl rfl ha29_3 hV dX6_factAt_42 ?_
        intro x3 hx3 hV
        refine z_iald hC hG rfl rfl rfl hx3 hV dX6_factAt_43 ?_
        intro x4 hx4 hV
        refine z_iconst hC dX6_factAt_44 ?_
        obtain ⟨J80, eJ80, hV⟩ := zjn_abs hV
        have hJ80 : ∀ {H : Heap} {locs : List Loc}, zS P s G H locs → ∀ (z80_0 : Int), inR z80_0 → J80 z80_0 → ∀ (ls : Array Slot), zL ls 4 [(0, .ref (zA P 5 0 0)), (1, .int (zI p0)), (3, .int (zI a29_3))] → W p l e rX6_factAt s m args below meth c H locs 0 0 (MQ below (zQi P Q) args s 0 0 (zAr P)) (F0 m 80 ls [.int (zI z80_0)]) := by
          intro H locs hG z80_0 hz80_0 hV ls hL
          rw [eJ80] at hV
          refine z_istore_n (lv' := [(2, .int (zI z80_0)), (0, .ref (zA P 5 0 0)), (1, .int (zI p0)), (3, .int (zI a29_3))]) hC rfl hL (by decide) rfl dX6_factAt_80 (fun ls hL => ?_)
          refine z_aload_n hC zvr_a rfl (hL.at 1 rfl) dX6_factAt_81 ?_
          refine z_getA hC hG kFX6_128_6 rfl rfl dX6_factAt_82 ?_
          refine z_iload_n hC rfl (hL.at 3 rfl) dX6_factAt_85 ?_
          refine z_iald hC hG rfl rfl rfl ha29_3 hV dX6_factAt_86 ?_
          intro x5 hx5 hV
          refine z_istore_n (lv' := [(3, .int (zI x5)), (2, .int (zI z80_0)), (0, .ref (zA P 5 0 0)), (1, .int (zI p0))]) hC rfl hL (by decide) rfl dX6_factAt_87 (fun ls hL => ?_)
          refine z_goto (tgt := 29) hC dX6_factAt_88 (by decide) ?_
          exact hP29 z80_0 x5 hV hz80_0 hx5 _ _ hG _ (hL.sub [2, 3, 1, 0] rfl)
        obtain ⟨J79, eJ79, hV⟩ := zjn_abs hV
        have hJ79 : ∀ {H : Heap} {locs : List Loc}, zS P s G H locs → J79 () → ∀ (ls : Array Slot), zL ls 4 [(0, .ref (zA P 5 0 0)), (1, .int (zI p0)), (2, .int (zI a29_2)), (3, .int (zI a29_3))] → W p l e rX6_factAt s m args below meth c H locs 0 0 (MQ below (zQi P Q) args s 0 0 (zAr P)) (F0 m 79 ls []) := by
          intro H locs hG hV ls hL
          rw [eJ79] at hV
          refine z_iload_n hC rfl (hL.at 2 rfl) dX6_factAt_79 ?_
          exact hJ80 hG a29_2 ha29_2 hV _ (hL.sub [0, 1, 3] rfl)
        refine z_icmp_ne (tgt := 79) hC hx4 (inR_lit rfl) hV dX6_factAt_45 (by decide) ?_ ?_
        · intro hV
          exact hJ79 hG hV _ hL
        · intro hV
          refine z_aload_n hC zvr_a rfl (hL.at 0 rfl) dX6_factAt_48 ?_
          refine z_getA hC hG kFX6_137_6 rfl rfl dX6_factAt_49 ?_
          refine z_aload_n hC zvr_a rfl (hL.at 0 rfl) dX6_factAt_52 ?_
          refine z_getA hC hG kFX6_128_6 rfl rfl dX6_factAt_53 ?_
          refine z_iload_n hC rfl (hL.at 3 rfl) dX6_factAt_56 ?_
          refine z_iald hC hG rfl rfl rfl ha29_3 hV dX6_factAt_57 ?_
          intro x6 hx6 hV
          refine z_iald hC hG rfl rfl rfl hx6 hV dX6_factAt_58 ?_
          intro x7 hx7 hV
          refine z_iload_n hC rfl (hL.at 1 rfl) dX6_factAt_59 ?_
          refine z_icmp_ne (tgt := 79) hC hx7 hp0 hV dX6_factAt_60 (by decide) ?_ ?_
          · intro hV
            exact hJ79 hG hV _ hL
          · intro hV
            refine z_iload_n hC rfl (hL.at 3 rfl) dX6_factAt_63 ?_
            refine z_aload_n hC zvr_a rfl (hL.at 0 rfl) dX6_factAt_64 ?_
            refine z_getA hC hG kFX6_140_6 rfl rfl dX6_factAt_65 ?_
            refine z_aload_n hC zvr_a rfl (hL.at 0 rfl) dX6_factAt_68 ?_
            refine z_getA hC hG kFX6_128_6 rfl rfl dX6_factAt_69 ?_
            refine z_iload_n hC rfl (hL.at 3 rfl) dX6_factAt_72 ?_
            refine z_iald hC hG rfl rfl rfl ha29_3 hV dX6_factAt_73 ?_
            intro x8 hx8 hV
            refine z_iald hC hG rfl rfl rfl hx8 hV dX6_factAt_74 ?_
            intro x9 hx9 hV
            refine z_isub hC dX6_factAt_75 ?_
            refine z_goto (tgt := 80) hC dX6_factAt_76 (by decide) ?_
            exact hJ80 hG (w32 (a29_3 - x9)) (inR_w _) hV _ (hL.sub [0, 1, 3] rfl)
    · intro hV
      refine z_aload_n hC zvr_a rfl (hL.at 0 rfl) dX6_factAt_15 ?_
      refine z_iload_n hC rfl (hL.at 1 rfl) dX6_factAt_16 ?_
      refine z_call_i hG (zrunV (ci := 6) hC hG (Nat.le_of_ble_eq_true rfl) (Nat.le_of_ble_eq_true rfl) (zobj hG rfl (Nat.le_of_ble_eq_true rfl) (Nat.le_of_ble_eq_true rfl)) (mX6_headAt l P G p0 hp0 hV) kVX6_265 rfl rfl rfl ⟨(Nat.le_of_ble_eq_true rfl), (Nat.le_of_ble_eq_true rfl)⟩ ⟨(Nat.le_of_ble_eq_true rfl), (Nat.le_of_ble_eq_true rfl)⟩ rfl ⟨zcs_0, (Nat.le_of_ble_eq_true rfl)⟩ hL.1.1 dX6_factAt_17) ?_
      rintro x10 G1 _ _ hx10 hV hG
      exact z_iret hC hG hr hk hx10 hV (Nat.le_of_ble_eq_true rfl) (Nat.le_of_ble_eq_true rfl) dX6_factAt_20
  · intro hV
    refine z_iconst hC dX6_factAt_4 ?_
    refine z_iload_n hC rfl (hL.at 1 rfl) dX6_factAt_5 ?_
    refine z_isub hC dX6_factAt_6 ?_
    exact z_iret hC hG hr hk (inR_w _) hV (Nat.le_of_ble_eq_true rfl) (Nat.le_of_ble_eq_true rfl) dX6_factAt_7
abbrev rX6_isAsked : Room := { frames := 1, cells := 0, slots := 0, locals := 12 }
def vX6_isAsked (p0 : Int) (p1 : Int) (G : ZG) (Q : Int → ZG → Prop) : Prop := zjn (fun (H16 : ZG) => zjn (fun (z27_0 : Int) => Q z27_0 H16) fun J27 => zbr (p0 ≠ (-9)) (J27 0) (J27 1)) fun J16 => zbr (p0 ≠ (-9)) (J16 G) (zpF G 5 42 5 fun (G1 : ZG) => zpF G1 5 44 p1 fun (G2 : ZG) => J16 G2)
set_option maxHeartbeats 4000000 in
theorem mX6_isAsked (l : Launch) (P : ZP) (G : ZG) (p0 : Int) (hp0 : inR p0) (p1 : Int) (hp1 : inR p1) {Q : Int → ZG → Prop} (hV : vX6_isAsked p0 p1 G Q) : Met l yX6_isAsked (ws_ yX6_isAsked cX6_isAsked 3 (some .boolean)) rX6_isAsked (zPc P G [.ref (zA P 5 0 0), .int (zI p0), .int (zI p1)]) (zQz P Q) 0 0 (zAr P) := by
  refine zMet RX6 (plainFor_of_name (by decide)) rfl (zcs_c rfl (zcs_c rfl (zcs_c rfl zcs_0))) (Nat.le_of_ble_eq_true rfl) (fun p e s m args below meth c ls hC hr hk hn hG hL => ?_)
  unfold vX6_isAsked at hV
  refine z_iload_n hC rfl (hL.at 1 rfl) dX6_isAsked_0 ?_
  refine z_bipush hC rfl dX6_isAsked_1 ?_
  obtain ⟨J16, eJ16, hV⟩ := zjn_abs hV
  have hJ16 : ∀ (H16 : ZG), J16 H16 → ∀ (H : Heap) (locs : List Loc) (ls : Array Slot), zS P s H16 H locs → zL ls 3 [(1, .int (zI p0))] → W p l e rX6_isAsked s m args below meth c H locs 0 0 (MQ below (zQz P Q) args s 0 0 (zAr P)) (F0 m 16 ls []) := by
    intro H16 hV H locs ls hG hL
    rw [eJ16] at hV
    refine z_iload_n hC rfl (hL.at 0 rfl) dX6_isAsked_16 ?_
    refine z_bipush hC rfl dX6_isAsked_17 ?_
    obtain ⟨J27, eJ27, hV⟩ := zjn_abs hV
    have hJ27 : ∀ {H : Heap} {locs : List Loc}, zS P s H16 H locs → ∀ (z27_0 : Int), (z27_0 = 0 ∨ z27_0 = 1) → J27 z27_0 → ∀ (ls : Array Slot), zL ls 3 [] → W p l e rX6_isAsked s m args below meth c H locs 0 0 (MQ below (zQz P Q) args s 0 0 (zAr P)) (F0 m 27 ls [.int (zI z27_0)]) := by
      intro H locs hG z27_0 hz27_0 hV ls hL
      rw [eJ27] at hV
      exact z_zret hC hG hr hk hz27_0 hV (Nat.le_of_ble_eq_true rfl) (Nat.le_of_ble_eq_true rfl) dX6_isAsked_27
    refine z_icmp_ne (tgt := 26) hC hp0 (inR_lit rfl) hV dX6_isAsked_19 (by decide) ?_ ?_
    · intro hV
      refine z_iconst hC dX6_isAsked_26 ?_
      exact hJ27 hG 0 (Or.inl rfl) hV _ (hL.sub [] rfl)
    · intro hV
      refine z_iconst hC dX6_isAsked_22 ?_
      refine z_goto (tgt := 27) hC dX6_isAsked_23 (by decide) ?_
      exact hJ27 hG 1 (Or.inr rfl) hV _ (hL.sub [] rfl)
  refine z_icmp_ne (tgt := 16) hC hp0 (inR_lit rfl) hV dX6_isAsked_3 (by decide) ?_ ?_
  · intro hV
    exact hJ16 G hV _ _ _ hG (hL.sub [1] rfl)
  · intro hV
    refine z_aload_n hC zvr_a rfl (hL.at 0 rfl) dX6_isAsked_6 ?_
    refine z_iconst hC dX6_isAsked_7 ?_
    refine z_putF hC hG kFX6_283_6 rfl rfl rfl rfl nk_6_42 (inR_lit rfl) (Or.inl rfl) hV dX6_isAsked_8 ?_
    intro G1 _ _ hG hV
    refine z_aload_n hC zvr_a rfl (hL.at 0 rfl) dX6_isAsked_11 ?_
    refine z_iload_n hC rfl (hL.at 2 rfl) dX6_isAsked_12 ?_
    refine z_putF hC hG kFX6_286_6 rfl rfl rfl rfl nk_6_44 hp1 (Or.inl rfl) hV dX6_isAsked_13 ?_
    intro G2 _ _ hG hV
    exact hJ16 G2 hV _ _ _ hG (hL.sub [1] rfl)
abbrev rX6_fitsLength : Room := { frames := 1, cells := 0, slots := 0, locals := 12 }
def vX6_fitsLength (p0 : Int) (p1 : Int) (G : ZG) (Q : Int → Prop) : Prop := zaL G 5 12 60 p0 fun (x1 : Int) => zjn (fun (z42_0 : Int) => Q z42_0) fun J42 => zbr (x1 ≠ 0) (zaL G 5 11 60 p0 fun (x2 : Int) => zbr (p1 < x2) (J42 0) (J42 1)) (zaL G 5 11 60 p0 fun (x3 : Int) => zbr (p1 ≠ x3) (J42 0) (J42 1))
set_option maxHeartbeats 4000000 in
theorem mX6_fitsLength (l : Launch) (P : ZP) (G : ZG) (p0 : Int) (hp0 : inR p0) (p1 : Int) (hp1 : inR p1) {Q : Int → Prop} (hV : vX6_fitsLength p0 p1 G Q) : Met l yX6_fitsLength (ws_ yX6_fitsLength cX6_fitsLength 3 (some .boolean)) rX6_fitsLength (zPc P G [.ref (zA P 5 0 0), .int (zI p0), .int (zI p1)]) (zQz P (fun r G2 => G = G2 ∧ Q r)) 0 0 (zAr P) := by
  refine zMet RX6 (plainFor_of_name (by decide)) rfl (zcs_c rfl (zcs_c rfl (zcs_c rfl zcs_0))) (Nat.le_of_ble_eq_true rfl) (fun p e s m args below meth c ls hC hr hk hn hG hL => ?_)
  unfold vX6_fitsLength at hV
  refine z_aload_n hC zvr_a rfl (hL.at 0 rfl) dX6_fitsLength_0 ?_
  refine z_getA hC hG kFX6_37_6 rfl rfl dX6_fitsLength_1 ?_
  refine z_iload_n hC rfl (hL.at 1 rfl) dX6_fitsLength_4 ?_
  refine z_iald hC hG rfl rfl rfl hp0 hV dX6_fitsLength_5 ?_
  intro x1 hx1 hV
  obtain ⟨J42, eJ42, hV⟩ := zjn_abs hV
  have hJ42 : ∀ {H : Heap} {locs : List Loc}, zS P s G H locs → ∀ (z42_0 : Int), (z42_0 = 0 ∨ z42_0 = 1) → J42 z42_0 → ∀ (ls : Array Slot), zL ls 3 [] → W p l e rX6_fitsLength s m args below meth c H locs 0 0 (MQ below (zQz P (fun r G2 => G = G2 ∧ Q r)) args s 0 0 (zAr P)) (F0 m 42 ls [.int (zI z42_0)]) := by
    intro H locs hG z42_0 hz42_0 hV ls hL
    rw [eJ42] at hV
    exact z_zret hC hG hr hk hz42_0 ⟨rfl, hV⟩ (Nat.le_of_ble_eq_true rfl) (Nat.le_of_ble_eq_true rfl) dX6_fitsLength_42
  refine z_if_ne (tgt := 27) hC hx1 hV dX6_fitsLength_6 (by decide) ?_ ?_
  · intro hV
    refine z_iload_n hC rfl (hL.at 2 rfl) dX6_fitsLength_27 ?_
    refine z_aload_n hC zvr_a rfl (hL.at 0 rfl) dX6_fitsLength_28 ?_
    refine z_getA hC hG kFX6_34_6 rfl rfl dX6_fitsLength_29 ?_
    refine z_iload_n hC rfl (hL.at 1 rfl) dX6_fitsLength_32 ?_
    refine z_iald hC hG rfl rfl rfl hp0 hV dX6_fitsLength_33 ?_
    intro x2 hx2 hV
    refine z_icmp_lt (tgt := 41) hC hp1 hx2 hV dX6_fitsLength_34 (by decide) ?_ ?_
    · intro hV
      refine z_iconst hC dX6_fitsLength_41 ?_
      exact hJ42 hG 0 (Or.inl rfl) hV _ (hL.sub [] rfl)
    · intro hV
      refine z_iconst hC dX6_fitsLength_37 ?_
      refine z_goto (tgt := 42) hC dX6_fitsLength_38 (by decide) ?_
      exact hJ42 hG 1 (Or.inr rfl) hV _ (hL.sub [] rfl)
  · intro hV
    refine z_iload_n hC rfl (hL.at 2 rfl) dX6_fitsLength_9 ?_
    refine z_aload_n hC zvr_a rfl (hL.at 0 rfl) dX6_fitsLength_10 ?_
    refine z_getA hC hG kFX6_34_6 rfl rfl dX6_fitsLength_11 ?_
    refine z_iload_n hC rfl (hL.at 1 rfl) dX6_fitsLength_14 ?_
    refine z_iald hC hG rfl rfl rfl hp0 hV dX6_fitsLength_15 ?_
    intro x3 hx3 hV
    refine z_icmp_ne (tgt := 23) hC hp1 hx3 hV dX6_fitsLength_16 (by decide) ?_ ?_
    · intro hV
      refine z_iconst hC dX6_fitsLength_23 ?_
      refine z_goto (tgt := 42) hC dX6_fitsLength_24 (by decide) ?_
      exact hJ42 hG 0 (Or.inl rfl) hV _ (hL.sub [] rfl)
    · intro hV
      refine z_iconst hC dX6_fitsLength_19 ?_
      refine z_goto (tgt := 42) hC dX6_fitsLength_20 (by decide) ?_
      exact hJ42 hG 1 (Or.inr rfl) hV _ (hL.sub [] rfl)
abbrev rX6_isRight : Room := { frames := 2, cells := 0, slots := 0, locals := 34 }
def vX6_isRight (p0 : Int) (p1 : Int) (G : ZG) (Q : Int → Prop) : Prop := zaL G 5 10 60 p0 fun (x1 : Int) => zjn (fun (z65_0 : Int) => Q z65_0) fun J65 => zbr (x1 ≠ 2) (zaL G 5 10 60 p0 fun (x2 : Int) => zbr (x2 ≠ 3) (vX6_fitsLength p0 p1 G fun (x3 : Int) => J65 x3) (zaL G 5 11 60 p0 fun (x4 : Int) => zn0 4 ∧ zbr (p1 ≠ dRem x4 4) (J65 0) (J65 1))) (zaL G 5 11 60 p0 fun (x5 : Int) => zaL G 5 12 60 p0 fun (x6 : Int) => vX6_in p1 x5 x6 fun (x7 : Int) => J65 x7)
set_option maxHeartbeats 4000000 in
theorem mX6_isRight (l : Launch) (P : ZP) (G : ZG) (p0 : Int) (hp0 : inR p0) (p1 : Int) (hp1 : inR p1) {Q : Int → Prop} (hV : vX6_isRight p0 p1 G Q) : Met l yX6_isRight (ws_ yX6_isRight cX6_isRight 3 (some .boolean)) rX6_isRight (zPc P G [.ref (zA P 5 0 0), .int (zI p0), .int (zI p1)]) (zQz P (fun r G2 => G = G2 ∧ Q r)) 0 0 (zAr P) := by
  refine zMet RX6 (plainFor_of_name (by decide)) rfl (zcs_c rfl (zcs_c rfl (zcs_c rfl zcs_0))) (Nat.le_of_ble_eq_true rfl) (fun p e s m args below meth c ls hC hr hk hn hG hL => ?_)
  unfold vX6_isRight at hV
  refine z_aload_n hC zvr_a rfl (hL.at 0 rfl) dX6_isRight_0 ?_
  refine z_getA hC hG kFX6_31_6 rfl rfl dX6_isRight_1 ?_
  refine z_iload_n hC rfl (hL.at 1 rfl) dX6_isRight_4 ?_
  refine z_iald hC hG rfl rfl rfl hp0 hV dX6_isRight_5 ?_
  intro x1 hx1 hV
  refine z_iconst hC dX6_isRight_6 ?_
  obtain ⟨J65, eJ65, hV⟩ := zjn_abs hV
  have hJ65 : ∀ {H : Heap} {locs : List Loc}, zS P s G H locs → ∀ (z65_0 : Int), (z65_0 = 0 ∨ z65_0 = 1) → J65 z65_0 → ∀ (ls : Array Slot), zL ls 3 [] → W p l e rX6_isRight s m args below meth c H locs 0 0 (MQ below (zQz P (fun r G2 => G = G2 ∧ Q r)) args s 0 0 (zAr P)) (F0 m 65 ls [.int (zI z65_0)]) := by
    intro H locs hG z65_0 hz65_0 hV ls hL
    rw [eJ65] at hV
    exact z_zret hC hG hr hk hz65_0 ⟨rfl, hV⟩ (Nat.le_of_ble_eq_true rfl) (Nat.le_of_ble_eq_true rfl) dX6_isRight_65
  refine z_icmp_ne (tgt := 29) hC hx1 (inR_lit rfl) hV dX6_isRight_7 (by decide) ?_ ?_
  · intro hV
    refine z_aload_n hC zvr_a rfl (hL.at 0 rfl) dX6_isRight_29 ?_
    refine z_getA hC hG kFX6_31_6 rfl rfl dX6_isRight_30 ?_
    refine z_iload_n hC rfl (hL.at 1 rfl) dX6_isRight_33 ?_
    refine z_iald hC hG rfl rfl rfl hp0 hV dX6_isRight_34 ?_
    intro x2 hx2 hV
    refine z_iconst hC dX6_isRight_35 ?_
    refine z_icmp_ne (tgt := 59) hC hx2 (inR_lit rfl) hV dX6_isRight_36 (by decide) ?_ ?_
    · intro hV
      refine z_aload_n hC zvr_a rfl (hL.at 0 rfl) dX6_isRight_59 ?_
      refine z_iload_n hC rfl (hL.at 1 rfl) dX6_isRight_60 ?_
      refine z_iload_n hC rfl (hL.at 2 rfl) dX6_isRight_61 ?_
      refine z_call_z hG (zrunV (ci := 6) hC hG (Nat.le_of_ble_eq_true rfl) (Nat.le_of_ble_eq_true rfl) (zobj hG rfl (Nat.le_of_ble_eq_true rfl) (Nat.le_of_ble_eq_true rfl)) (mX6_fitsLength l P G p0 hp0 p1 hp1 hV) kVX6_318 rfl rfl rfl ⟨(Nat.le_of_ble_eq_true rfl), (Nat.le_of_ble_eq_true rfl)⟩ ⟨(Nat.le_of_ble_eq_true rfl), (Nat.le_of_ble_eq_true rfl)⟩ rfl ⟨zcs_0, (Nat.le_of_ble_eq_true rfl)⟩ hL.1.1 dX6_isRight_62) ?_
      rintro x3 _ _ _ hx3 ⟨rfl, hV⟩ hG
      exact hJ65 hG x3 hx3 hV _ (hL.sub [] rfl)
    · intro hV
      refine z_iload_n hC rfl (hL.at 2 rfl) dX6_isRight_39 ?_
      refine z_aload_n hC zvr_a rfl (hL.at 0 rfl) dX6_isRight_40 ?_
      refine z_getA hC hG kFX6_34_6 rfl rfl dX6_isRight_41 ?_
      refine z_iload_n hC rfl (hL.at 1 rfl) dX6_isRight_44 ?_
      refine z_iald hC hG rfl rfl rfl hp0 hV dX6_isRight_45 ?_
      intro x4 hx4 hV
      refine z_iconst hC dX6_isRight_46 ?_
      refine z_irem hC (inR_lit rfl) hV dX6_isRight_47 (fun hV => ?_)
      refine z_icmp_ne (tgt := 55) hC hp1 (inR_toInt _) hV dX6_isRight_48 (by decide) ?_ ?_
      · intro hV
        refine z_iconst hC dX6_isRight_55 ?_
        refine z_goto (tgt := 65) hC dX6_isRight_56 (by decide) ?_
        exact hJ65 hG 0 (Or.inl rfl) hV _ (hL.sub [] rfl)
      · intro hV
        refine z_iconst hC dX6_isRight_51 ?_
        refine z_goto (tgt := 65) hC dX6_isRight_52 (by decide) ?_
        exact hJ65 hG 1 (Or.inr rfl) hV _ (hL.sub [] rfl)
  · intro hV
    refine z_iload_n hC rfl (hL.at 2 rfl) dX6_isRight_10 ?_
    refine z_aload_n hC zvr_a rfl (hL.at 0 rfl) dX6_isRight_11 ?_
    refine z_getA hC hG kFX6_34_6 rfl rfl dX6_isRight_12 ?_
    refine z_iload_n hC rfl (hL.at 1 rfl) dX6_isRight_15 ?_
    refine z_iald hC hG rfl rfl rfl hp0 hV dX6_isRight_16 ?_
    intro x5 hx5 hV
    refine z_aload_n hC zvr_a rfl (hL.at 0 rfl) dX6_isRight_17 ?_
    refine z_getA hC hG kFX6_37_6 rfl rfl dX6_isRight_18 ?_
    refine z_iload_n hC rfl (hL.at 1 rfl) dX6_isRight_21 ?_
    refine z_iald hC hG rfl rfl rfl hp0 hV dX6_isRight_22 ?_
    intro x6 hx6 hV
    refine z_call_z hG (zrunS hC hG (mX6_in l P G p1 hp1 x5 hx5 x6 hx6 hV) kSX6_171 rfl rfl rfl ⟨(Nat.le_of_ble_eq_true rfl), (Nat.le_of_ble_eq_true rfl)⟩ ⟨(Nat.le_of_ble_eq_true rfl), (Nat.le_of_ble_eq_true rfl)⟩ rfl ⟨zcs_0, (Nat.le_of_ble_eq_true rfl)⟩ hL.1.1 dX6_isRight_23) ?_
    rintro x7 _ _ _ hx7 ⟨rfl, hV⟩ hG
    refine z_goto (tgt := 65) hC dX6_isRight_26 (by decide) ?_
    exact hJ65 hG x7 hx7 hV _ (hL.sub [] rfl)
abbrev rX6_pushParts : Room := { frames := 2, cells := 0, slots := 0, locals := 34 }
def vX6_pushParts (p0 : Int) (p1 : Int) (p2 : Int) (G : ZG) (Q : ZG → Prop) : Prop := zaL G 5 10 60 p0 fun (x1 : Int) => zjn (fun (z33_0 : Int) => zl2 (fun (P38 : Int → ZG → Prop) (a38_5 : Int) (K38 : ZG) => zbr (a38_5 < 0) (Q K38) (zaL K38 5 13 180 (w32 ((w32 (3 * p0)) + a38_5)) fun (x2 : Int) => zjn (fun (H84 : ZG) => zlt1 (w32 (a38_5 + (-1))) fun (x3 : Int) => P38 x3 H84) fun J84 => zbr (x2 = (-1)) (J84 K38) (zaL K38 5 13 180 (w32 ((w32 (3 * p0)) + a38_5)) fun (x4 : Int) => vX6_push x4 (w32 ((w32 ((w32 ((w32 (5 * p1)) + z33_0)) + a38_5)) + 1)) K38 fun (G1 : ZG) => J84 G1))) 2 G) fun J33 => zjn (fun (_ : Unit) => J33 0) fun J32 => zbr (x1 ≠ 6) (J32 ()) (zaL G 5 12 60 p0 fun (x5 : Int) => zbr (x5 ≠ 2) (J32 ()) (zaL G 5 11 60 p0 fun (x6 : Int) => J33 (w32 (p2 - x6))))
set_option maxHeartbeats 4000000 in
theorem mX6_pushParts (l : Launch) (P : ZP) (G : ZG) (p0 : Int) (hp0 : inR p0) (p1 : Int) (hp1 : inR p1) (p2 : Int) (hp2 : inR p2) {Q : ZG → Prop} (hV : vX6_pushParts p0 p1 p2 G Q) : Met l yX6_pushParts (ws_ yX6_pushParts cX6_pushParts 6 none) rX6_pushParts (zPc P G [.ref (zA P 5 0 0), .int (zI p0), .int (zI p1), .int (zI p2)]) (zQv P Q) 0 0 (zAr P) := by
  refine zMet RX6 (plainFor_of_name (by decide)) rfl (zcs_c rfl (zcs_c rfl (zcs_c rfl (zcs_c rfl zcs_0)))) (Nat.le_of_ble_eq_true rfl) (fun p e s m args below meth c ls hC hr hk hn hG hL => ?_)
  unfold vX6_pushParts at hV
  refine z_aload_n hC zvr_a rfl (hL.at 0 rfl) dX6_pushParts_0 ?_
  refine z_getA hC hG kFX6_31_6 rfl rfl dX6_pushParts_1 ?_
  refine z_iload_n hC rfl (hL.at 1 rfl) dX6_pushParts_4 ?_
  refine z_iald hC hG rfl rfl rfl hp0 hV dX6_pushParts_5 ?_
  intro x1 hx1 hV
  refine z_bipush hC rfl dX6_pushParts_6 ?_
  obtain ⟨J33, eJ33, hV⟩ := zjn_abs hV
  have hJ33 : ∀ {H : Heap} {locs : List Loc}, zS P s G H locs → ∀ (z33_0 : Int), inR z33_0 → J33 z33_0 → ∀ (ls : Array Slot), zL ls 6 [(0, .ref (zA P 5 0 0)), (1, .int (zI p0)), (2, .int (zI p1))] → W p l e rX6_pushParts s m args below meth c H locs 0 0 (MQ below (zQv P Q) args s 0 0 (zAr P)) (F0 m 33 ls [.int (zI z33_0)]) := by
    intro H locs hG z33_0 hz33_0 hV ls hL
    rw [eJ33] at hV
    refine z_istore (lv' := [(4, .int (zI z33_0)), (0, .ref (zA P 5 0 0)), (1, .int (zI p0)), (2, .int (zI p1))]) hC hL (by decide) rfl dX6_pushParts_33 (fun ls hL => ?_)
    refine z_iconst hC dX6_pushParts_35 ?_
    refine z_istore (lv' := [(5, .int (zI 2)), (4, .int (zI z33_0)), (0, .ref (zA P 5 0 0)), (1, .int (zI p0)), (2, .int (zI p1))]) hC hL (by decide) rfl dX6_pushParts_36 (fun ls hL => ?_)
    refine zl2_use hV (fun (a38_5 : Int) (K38 : ZG) => inR a38_5 → ∀ (H : Heap) (locs : List Loc), zS P s K38 H locs → ∀ (ls : Array Slot), zL ls 6 [(0, .ref (zA P 5 0 0)), (1, .int (zI p0)), (2, .int (zI p1)), (4, .int (zI z33_0)), (5, .int (zI a38_5))] → W p l e rX6_pushParts s m args below meth c H locs 0 0 (MQ below (zQv P Q) args s 0 0 (zAr P)) (F0 m 38 ls [])) ?_ (inR_lit rfl) _ _ hG _ (hL.sub [2, 3, 4, 1, 0] rfl)
    intro P38 a38_5 K38 hP38 hV ha38_5 H locs hG ls hL
    refine z_iload hC (hL.at 4 rfl) dX6_pushParts_38 ?_
    refine z_if_lt (tgt := 90) hC ha38_5 hV dX6_pushParts_40 (by decide) ?_ ?_
    · intro hV
      exact z_vret hC hG hr hk hV (Nat.le_of_ble_eq_true rfl) (Nat.le_of_ble_eq_true rfl) dX6_pushParts_90
    · intro hV
      refine z_aload_n hC zvr_a rfl (hL.at 0 rfl) dX6_pushParts_43 ?_
      refine z_getA hC hG kFX6_40_6 rfl rfl dX6_pushParts_44 ?_
      refine z_iconst hC dX6_pushParts_47 ?_
      refine z_iload_n hC rfl (hL.at 1 rfl) dX6_pushParts_48 ?_
      refine z_imul hC dX6_pushParts_49 ?_
      refine z_iload hC (hL.at 4 rfl) dX6_pushParts_50 ?_
      refine z_iadd hC dX6_pushParts_52 ?_
      refine z_iald hC hG rfl rfl rfl (inR_w _) hV dX6_pushParts_53 ?_
      intro x2 hx2 hV
      refine z_iconst hC dX6_pushParts_54 ?_
      obtain ⟨J84, eJ84, hV⟩ := zjn_abs hV
      have hJ84 : ∀ (H84 : ZG), J84 H84 → ∀ (H : Heap) (locs : List Loc) (ls : Array Slot), zS P s H84 H locs → zL ls 6 [(0, .ref (zA P 5 0 0)), (1, .int (zI p0)), (2, .int (zI p1)), (4, .int (zI z33_0)), (5, .int (zI a38_5))] → W p l e rX6_pushParts s m args below meth c H locs 0 0 (MQ below (zQv P Q) args s 0 0 (zAr P)) (F0 m 84 ls []) := by
        intro H84 hV H locs ls hG hL
        rw [eJ84] at hV
        refine z_iincV (fun x3 => [(5, .int (zI x3)), (0, .ref (zA P 5 0 0)), (1, .int (zI p0)), (2, .int (zI p1)), (4, .int (zI z33_0))]) hC hL (k := 4) rfl (by decide) (fun _ => rfl) hV dX6_pushParts_84 ?_
        intro x3 hx3 hV ls hL
        refine z_goto (tgt := 38) hC dX6_pushParts_87 (by decide) ?_
        exact hP38 x3 H84 hV hx3 _ _ hG _ (hL.sub [1, 2, 3, 4, 0] rfl)
      refine z_icmp_eq (tgt := 84) hC hx2 (inR_lit rfl) hV dX6_pushParts_55 (by decide) ?_ ?_
      · intro hV
        exact hJ84 K38 hV _ _ _ hG hL
      · intro hV
        refine z_aload_n hC zvr_a rfl (hL.at 0 rfl) dX6_pushParts_58 ?_
        refine z_aload_n hC zvr_a rfl (hL.at 0 rfl) dX6_pushParts_59 ?_
        refine z_getA hC hG kFX6_40_6 rfl rfl dX6_pushParts_60 ?_
        refine z_iconst hC dX6_pushParts_63 ?_
        refine z_iload_n hC rfl (hL.at 1 rfl) dX6_pushParts_64 ?_
        refine z_imul hC dX6_pushParts_65 ?_
        refine z_iload hC (hL.at 4 rfl) dX6_pushParts_66 ?_
        refine z_iadd hC dX6_pushParts_68 ?_
        refine z_iald hC hG rfl rfl rfl (inR_w _) hV dX6_pushParts_69 ?_
        intro x4 hx4 hV
        refine z_iconst hC dX6_pushParts_70 ?_
        refine z_iload_n hC rfl (hL.at 2 rfl) dX6_pushParts_71 ?_
        refine z_imul hC dX6_pushParts_72 ?_
        refine z_iload hC (hL.at 3 rfl) dX6_pushParts_73 ?_
        refine z_iadd hC dX6_pushParts_75 ?_
        refine z_iload hC (hL.at 4 rfl) dX6_pushParts_76 ?_
        refine z_iadd hC dX6_pushParts_78 ?_
        refine z_iconst hC dX6_pushParts_79 ?_
        refine z_iadd hC dX6_pushParts_80 ?_
        refine z_call_v hG (zrunV (ci := 6) hC hG (Nat.le_of_ble_eq_true rfl) (Nat.le_of_ble_eq_true rfl) (zobj hG rfl (Nat.le_of_ble_eq_true rfl) (Nat.le_of_ble_eq_true rfl)) (mX6_push l P K38 x4 hx4 (w32 ((w32 ((w32 ((w32 (5 * p1)) + z33_0)) + a38_5)) + 1)) (inR_w _) hV) kVX6_280 rfl rfl rfl ⟨(Nat.le_of_ble_eq_true rfl), (Nat.le_of_ble_eq_true rfl)⟩ ⟨(Nat.le_of_ble_eq_true rfl), (Nat.le_of_ble_eq_true rfl)⟩ rfl ⟨zcs_0, (Nat.le_of_ble_eq_true rfl)⟩ hL.1.1 dX6_pushParts_81) ?_
        rintro G1 _ _ hV hG
        exact hJ84 G1 hV _ _ _ hG hL
  obtain ⟨J32, eJ32, hV⟩ := zjn_abs hV
  have hJ32 : ∀ {H : Heap} {locs : List Loc}, zS P s G H locs → J32 () → ∀ (ls : Array Slot), zL ls 6 [(0, .ref (zA P 5 0 0)), (1, .int (zI p0)), (2, .int (zI p1))] → W p l e rX6_pushParts s m args below meth c H locs 0 0 (MQ below (zQv P Q) args s 0 0 (zAr P)) (F0 m 32 ls []) := by
    intro H locs hG hV ls hL
    rw [eJ32] at hV
    refine z_iconst hC dX6_pushParts_32 ?_
    exact hJ33 hG 0 (inR_lit rfl) hV _ hL
  refine z_icmp_ne (tgt := 32) hC hx1 (inR_lit rfl) hV dX6_pushParts_8 (by decide) ?_ ?_
  · intro hV
    exact hJ32 hG hV _ (hL.sub [0, 1, 2] rfl)
  · intro hV
    refine z_aload_n hC zvr_a rfl (hL.at 0 rfl) dX6_pushParts_11 ?_
    refine z_getA hC hG kFX6_37_6 rfl rfl dX6_pushParts_12 ?_
    refine z_iload_n hC rfl (hL.at 1 rfl) dX6_pushParts_15 ?_
    refine z_iald hC hG rfl rfl rfl hp0 hV dX6_pushParts_16 ?_
    intro x5 hx5 hV
    refine z_iconst hC dX6_pushParts_17 ?_
    refine z_icmp_ne (tgt := 32) hC hx5 (inR_lit rfl) hV dX6_pushParts_18 (by decide) ?_ ?_
    · intro hV
      exact hJ32 hG hV _ (hL.sub [0, 1, 2] rfl)
    · intro hV
      refine z_iload_n hC rfl (hL.at 3 rfl) dX6_pushParts_21 ?_
      refine z_aload_n hC zvr_a rfl (hL.at 0 rfl) dX6_pushParts_22 ?_
      refine z_getA hC hG kFX6_34_6 rfl rfl dX6_pushParts_23 ?_
      refine z_iload_n hC rfl (hL.at 1 rfl) dX6_pushParts_26 ?_
      refine z_iald hC hG rfl rfl rfl hp0 hV dX6_pushParts_27 ?_
      intro x6 hx6 hV
      refine z_isub hC dX6_pushParts_28 ?_
      refine z_goto (tgt := 33) hC dX6_pushParts_29 (by decide) ?_
      exact hJ33 hG (w32 (p2 - x6)) (inR_w _) hV _ (hL.sub [0, 1, 2] rfl)
abbrev rX6_matches : Room := { frames := 5, cells := 0, slots := 0, locals := 107 }
def vX6_matches (p0 : Int) (p1 : Int) (G : ZG) (Q : Int → ZG → Prop) : Prop := zaL G 5 10 60 p0 fun (x1 : Int) => zbr (x1 = 0) (Q 0 G) (zbr (x1 = 1) (zaL G 5 11 60 p0 fun (x2 : Int) => zaS G 5 39 6 x2 p1 fun (G1 : ZG) => zaL G1 5 13 180 (w32 (3 * p0)) fun (x3 : Int) => vX6_push x3 p1 G1 fun (G2 : ZG) => Q 0 G2) (zbr (x1 = 4) (zgF G 5 38 fun (x4 : Int) => zgF G 5 34 fun (x5 : Int) => zaS G 5 35 64 x4 x5 fun (G3 : ZG) => zgF G3 5 38 fun (x6 : Int) => zaL G3 5 13 180 (w32 ((w32 (3 * p0)) + 1)) fun (x7 : Int) => zaS G3 5 36 64 x6 x7 fun (G4 : ZG) => zgF G4 5 38 fun (x8 : Int) => zaS G4 5 37 64 x8 p1 fun (G5 : ZG) => zgF G5 5 38 fun (x9 : Int) => zpF G5 5 38 (w32 (x9 + 1)) fun (G6 : ZG) => vX6_push (-1) 0 G6 fun (G7 : ZG) => zaL G7 5 13 180 (w32 (3 * p0)) fun (x10 : Int) => vX6_push x10 p1 G7 fun (G8 : ZG) => Q 0 G8) (zbr (x1 = 5) (zaL G 5 11 60 p0 fun (x11 : Int) => vX6_gave x11 p1 G fun (x12 : Int) (G9 : ZG) => zbr (x12 ≠ (-9)) (zaL G9 5 13 180 (w32 (3 * p0)) fun (x13 : Int) => vX6_push x13 (w32 ((-1) - x12)) G9 fun (G10 : ZG) => Q 0 G10) (zpF G9 5 42 4 fun (G11 : ZG) => zaL G11 5 11 60 p0 fun (x14 : Int) => zpF G11 5 43 x14 fun (G12 : ZG) => zpF G12 5 44 p1 fun (G13 : ZG) => Q 2 G13)) (vX6_factAt p1 G fun (x15 : Int) (G14 : ZG) => vX6_isAsked x15 p1 G14 fun (x16 : Int) (G15 : ZG) => zbr (x16 = 0) (zgF G15 5 47 fun (x17 : Int) => zgF G15 5 40 fun (x18 : Int) => zjn (fun (z241_2 : Int) => zpF G15 5 47 (w32 (x17 + z241_2)) fun (G16 : ZG) => vX6_isRight p0 x15 G16 fun (x19 : Int) => zjn (fun (H275 : ZG) => zjn (fun (z285_0 : Int) => Q z285_0 H275) fun J285 => zbr (x19 = 0) (J285 1) (J285 0)) fun J275 => zbr (x19 = 0) (J275 G16) (zaL G16 5 10 60 p0 fun (x20 : Int) => zbr (x20 = 2) (J275 G16) (vX6_pushParts p0 p1 x15 G16 fun (G17 : ZG) => J275 G17))) fun J241 => zbr (x18 = 0) (J241 0) (J241 1)) (Q 2 G15)))))
set_option maxHeartbeats 4000000 in
theorem mX6_matches (l : Launch) (P : ZP) (G : ZG) (p0 : Int) (hp0 : inR p0) (p1 : Int) (hp1 : inR p1) {Q : Int → ZG → Prop} (hV : vX6_matches p0 p1 G Q) : Met l yX6_matches (ws_ yX6_matches cX6_matches 5 (some .int)) rX6_matches (zPc P G [.ref (zA P 5 0 0), .int (zI p0), .int (zI p1)]) (zQi P Q) 0 0 (zAr P) := by
  refine zMet RX6 (plainFor_of_name (by decide)) rfl (zcs_c rfl (zcs_c rfl (zcs_c rfl zcs_0))) (Nat.le_of_ble_eq_true rfl) (fun p e s m args below meth c ls hC hr hk hn hG hL => ?_)
  unfold vX6_matches at hV
  refine z_iconst hC dX6_matches_0 ?_
  refine z_istore_n (lv' := [(3, .int (zI 0)), (0, .ref (zA P 5 0 0)), (1, .int (zI p0)), (2, .int (zI p1))]) hC rfl hL (by decide) rfl dX6_matches_1 (fun ls hL => ?_)
  refine z_aload_n hC zvr_a rfl (hL.at 1 rfl) dX6_matches_2 ?_
  refine z_getA hC hG kFX6_31_6 rfl rfl dX6_matches_3 ?_
  refine z_iload_n hC rfl (hL.at 2 rfl) dX6_matches_6 ?_
  refine z_iald hC hG rfl rfl rfl hp0 hV dX6_matches_7 ?_
  intro x1 hx1 hV
  refine z_case (x := x1) (v := 0) hV (fun hc0 hV => ?_) (fun hd0 hV => ?_)
  · refine z_tsw (tgt := 205) hC hx1 dX6_matches_8 (by rw [hc0]; decide) (fun i hi => by simp only [List.size_toArray, List.length_cons, List.length_nil]; omega) ?_
    refine z_iconst hC dX6_matches_205 ?_
    exact z_iret hC hG hr hk (inR_lit rfl) hV (Nat.le_of_ble_eq_true rfl) (Nat.le_of_ble_eq_true rfl) dX6_matches_206
  ·
    refine z_case (x := x1) (v := 1) hV (fun hc1 hV => ?_) (fun hd1 hV => ?_)
    · refine z_tsw (tgt := 48) hC hx1 dX6_matches_8 (by rw [hc1]; decide) (fun i hi => by simp only [List.size_toArray, List.length_cons, List.length_nil]; omega) ?_
      refine z_aload_n hC zvr_a rfl (hL.at 1 rfl) dX6_matches_48 ?_
      refine z_getA hC hG kFX6_107_6 rfl rfl dX6_matches_49 ?_
      refine z_aload_n hC zvr_a rfl (hL.at 1 rfl) dX6_matches_52 ?_
      refine z_getA hC hG kFX6_34_6 rfl rfl dX6_matches_53 ?_
      refine z_iload_n hC rfl (hL.at 2 rfl) dX6_matches_56 ?_
      refine z_iald hC hG rfl rfl rfl hp0 hV dX6_matches_57 ?_
      intro x2 hx2 hV
      refine z_iload_n hC rfl (hL.at 3 rfl) dX6_matches_58 ?_
      refine z_iast hC hG rfl (Nat.le_of_ble_eq_true rfl) (Nat.le_of_ble_eq_true rfl) rfl rfl rfl hx2 hp1 hV dX6_matches_59 ?_
      intro G1 _ _ hG hV
      refine z_aload_n hC zvr_a rfl (hL.at 1 rfl) dX6_matches_60 ?_
      refine z_aload_n hC zvr_a rfl (hL.at 1 rfl) dX6_matches_61 ?_
      refine z_getA hC hG kFX6_40_6 rfl rfl dX6_matches_62 ?_
      refine z_iconst hC dX6_matches_65 ?_
      refine z_iload_n hC rfl (hL.at 2 rfl) dX6_matches_66 ?_
      refine z_imul hC dX6_matches_67 ?_
      refine z_iald hC hG rfl rfl rfl (inR_w _) hV dX6_matches_68 ?_
      intro x3 hx3 hV
      refine z_iload_n hC rfl (hL.at 3 rfl) dX6_matches_69 ?_
      refine z_call_v hG (zrunV (ci := 6) hC hG (Nat.le_of_ble_eq_true rfl) (Nat.le_of_ble_eq_true rfl) (zobj hG rfl (Nat.le_of_ble_eq_true rfl) (Nat.le_of_ble_eq_true rfl)) (mX6_push l P G1 x3 hx3 p1 hp1 hV) kVX6_280 rfl rfl rfl ⟨(Nat.le_of_ble_eq_true rfl), (Nat.le_of_ble_eq_true rfl)⟩ ⟨(Nat.le_of_ble_eq_true rfl), (Nat.le_of_ble_eq_true rfl)⟩ rfl ⟨zcs_0, (Nat.le_of_ble_eq_true rfl)⟩ hL.1.1 dX6_matches_70) ?_
      rintro G2 _ _ hV hG
      refine z_iconst hC dX6_matches_73 ?_
      exact z_iret hC hG hr hk (inR_lit rfl) hV (Nat.le_of_ble_eq_true rfl) (Nat.le_of_ble_eq_true rfl) dX6_matches_74
    ·
      refine z_case (x := x1) (v := 4) hV (fun hc4 hV => ?_) (fun hd4 hV => ?_)
      · refine z_tsw (tgt := 75) hC hx1 dX6_matches_8 (by rw [hc4]; decide) (fun i hi => by simp only [List.size_toArray, List.length_cons, List.length_nil]; omega) ?_
        refine z_aload_n hC zvr_a rfl (hL.at 1 rfl) dX6_matches_75 ?_
        refine z_getA hC hG kFX6_98_6 rfl rfl dX6_matches_76 ?_
        refine z_aload_n hC zvr_a rfl (hL.at 1 rfl) dX6_matches_79 ?_
        refine z_getF hC hG kFX6_277_6 rfl rfl hV dX6_matches_80 ?_
        intro x4 hx4 hV
        refine z_aload_n hC zvr_a rfl (hL.at 1 rfl) dX6_matches_83 ?_
        refine z_getF hC hG kFX6_274_6 rfl rfl hV dX6_matches_84 ?_
        intro x5 hx5 hV
        refine z_iast hC hG rfl (Nat.le_of_ble_eq_true rfl) (Nat.le_of_ble_eq_true rfl) rfl rfl rfl hx4 hx5 hV dX6_matches_87 ?_
        intro G3 _ _ hG hV
        refine z_aload_n hC zvr_a rfl (hL.at 1 rfl) dX6_matches_88 ?_
        refine z_getA hC hG kFX6_101_6 rfl rfl dX6_matches_89 ?_
        refine z_aload_n hC zvr_a rfl (hL.at 1 rfl) dX6_matches_92 ?_
        refine z_getF hC hG kFX6_277_6 rfl rfl hV dX6_matches_93 ?_
        intro x6 hx6 hV
        refine z_aload_n hC zvr_a rfl (hL.at 1 rfl) dX6_matches_96 ?_
        refine z_getA hC hG kFX6_40_6 rfl rfl dX6_matches_97 ?_
        refine z_iconst hC dX6_matches_100 ?_
        refine z_iload_n hC rfl (hL.at 2 rfl) dX6_matches_101 ?_
        refine z_imul hC dX6_matches_102 ?_
        refine z_iconst hC dX6_matches_103 ?_
        refine z_iadd hC dX6_matches_104 ?_
        refine z_iald hC hG rfl rfl rfl (inR_w _) hV dX6_matches_105 ?_
        intro x7 hx7 hV
        refine z_iast hC hG rfl (Nat.le_of_ble_eq_true rfl) (Nat.le_of_ble_eq_true rfl) rfl rfl rfl hx6 hx7 hV dX6_matches_106 ?_
        intro G4 _ _ hG hV
        refine z_aload_n hC zvr_a rfl (hL.at 1 rfl) dX6_matches_107 ?_
        refine z_getA hC hG kFX6_104_6 rfl rfl dX6_matches_108 ?_
        refine z_aload_n hC zvr_a rfl (hL.at 1 rfl) dX6_matches_111 ?_
        refine z_getF hC hG kFX6_277_6 rfl rfl hV dX6_matches_112 ?_
        intro x8 hx8 hV
        refine z_iload_n hC rfl (hL.at 3 rfl) dX6_matches_115 ?_
        refine z_iast hC hG rfl (Nat.le_of_ble_eq_true rfl) (Nat.le_of_ble_eq_true rfl) rfl rfl rfl hx8 hp1 hV dX6_matches_116 ?_
        intro G5 _ _ hG hV
        refine z_aload_n hC zvr_a rfl (hL.at 1 rfl) dX6_matches_117 ?_
        refine z_dup hC rfl dX6_matches_118 ?_
        refine z_getF hC hG kFX6_277_6 rfl rfl hV dX6_matches_119 ?_
        intro x9 hx9 hV
        refine z_iconst hC dX6_matches_122 ?_
        refine z_iadd hC dX6_matches_123 ?_
        refine z_putF hC hG kFX6_277_6 rfl rfl rfl rfl nk_6_38 (inR_w _) (Or.inl rfl) hV dX6_matches_124 ?_
        intro G6 _ _ hG hV
        refine z_aload_n hC zvr_a rfl (hL.at 1 rfl) dX6_matches_127 ?_
        refine z_iconst hC dX6_matches_128 ?_
        refine z_iconst hC dX6_matches_129 ?_
        refine z_call_v hG (zrunV (ci := 6) hC hG (Nat.le_of_ble_eq_true rfl) (Nat.le_of_ble_eq_true rfl) (zobj hG rfl (Nat.le_of_ble_eq_true rfl) (Nat.le_of_ble_eq_true rfl)) (mX6_push l P G6 (-1) (inR_lit rfl) 0 (inR_lit rfl) hV) kVX6_280 rfl rfl rfl ⟨(Nat.le_of_ble_eq_true rfl), (Nat.le_of_ble_eq_true rfl)⟩ ⟨(Nat.le_of_ble_eq_true rfl), (Nat.le_of_ble_eq_true rfl)⟩ rfl ⟨zcs_0, (Nat.le_of_ble_eq_true rfl)⟩ hL.1.1 dX6_matches_130) ?_
        rintro G7 _ _ hV hG
        refine z_aload_n hC zvr_a rfl (hL.at 1 rfl) dX6_matches_133 ?_
        refine z_aload_n hC zvr_a rfl (hL.at 1 rfl) dX6_matches_134 ?_
        refine z_getA hC hG kFX6_40_6 rfl rfl dX6_matches_135 ?_
        refine z_iconst hC dX6_matches_138 ?_
        refine z_iload_n hC rfl (hL.at 2 rfl) dX6_matches_139 ?_
        refine z_imul hC dX6_matches_140 ?_
        refine z_iald hC hG rfl rfl rfl (inR_w _) hV dX6_matches_141 ?_
        intro x10 hx10 hV
        refine z_iload_n hC rfl (hL.at 3 rfl) dX6_matches_142 ?_
        refine z_call_v hG (zrunV (ci := 6) hC hG (Nat.le_of_ble_eq_true rfl) (Nat.le_of_ble_eq_true rfl) (zobj hG rfl (Nat.le_of_ble_eq_true rfl) (Nat.le_of_ble_eq_true rfl)) (mX6_push l P G7 x10 hx10 p1 hp1 hV) kVX6_280 rfl rfl rfl ⟨(Nat.le_of_ble_eq_true rfl), (Nat.le_of_ble_eq_true rfl)⟩ ⟨(Nat.le_of_ble_eq_true rfl), (Nat.le_of_ble_eq_true rfl)⟩ rfl ⟨zcs_0, (Nat.le_of_ble_eq_true rfl)⟩ hL.1.1 dX6_matches_143) ?_
        rintro G8 _ _ hV hG
        refine z_iconst hC dX6_matches_146 ?_
        exact z_iret hC hG hr hk (inR_lit rfl) hV (Nat.le_of_ble_eq_true rfl) (Nat.le_of_ble_eq_true rfl) dX6_matches_147
      ·
        refine z_case (x := x1) (v := 5) hV (fun hc5 hV => ?_) (fun hd5 hV => ?_)
        · refine z_tsw (tgt := 148) hC hx1 dX6_matches_8 (by rw [hc5]; decide) (fun i hi => by simp only [List.size_toArray, List.length_cons, List.length_nil]; omega) ?_
          refine z_aload_n hC zvr_a rfl (hL.at 1 rfl) dX6_matches_148 ?_
          refine z_aload_n hC zvr_a rfl (hL.at 1 rfl) dX6_matches_149 ?_
          refine z_getA hC hG kFX6_34_6 rfl rfl dX6_matches_150 ?_
          refine z_iload_n hC rfl (hL.at 2 rfl) dX6_matches_153 ?_
          refine z_iald hC hG rfl rfl rfl hp0 hV dX6_matches_154 ?_
          intro x11 hx11 hV
          refine z_iload_n hC rfl (hL.at 3 rfl) dX6_matches_155 ?_
          refine z_call_i hG (zrunV (ci := 6) hC hG (Nat.le_of_ble_eq_true rfl) (Nat.le_of_ble_eq_true rfl) (zobj hG rfl (Nat.le_of_ble_eq_true rfl) (Nat.le_of_ble_eq_true rfl)) (mX6_gave l P G x11 hx11 p1 hp1 hV) kVX6_299 rfl rfl rfl ⟨(Nat.le_of_ble_eq_true rfl), (Nat.le_of_ble_eq_true rfl)⟩ ⟨(Nat.le_of_ble_eq_true rfl), (Nat.le_of_ble_eq_true rfl)⟩ rfl ⟨zcs_0, (Nat.le_of_ble_eq_true rfl)⟩ hL.1.1 dX6_matches_156) ?_
          rintro x12 G9 _ _ hx12 hV hG
          refine z_istore_n (lv' := [(3, .int (zI x12)), (0, .ref (zA P 5 0 0)), (1, .int (zI p0)), (2, .int (zI p1))]) hC rfl hL (by decide) rfl dX6_matches_159 (fun ls hL => ?_)
          refine z_iload_n hC rfl (hL.at 0 rfl) dX6_matches_160 ?_
          refine z_bipush hC rfl dX6_matches_161 ?_
          refine z_icmp_ne (tgt := 188) hC hx12 (inR_lit rfl) hV dX6_matches_163 (by decide) ?_ ?_
          · intro hV
            refine z_aload_n hC zvr_a rfl (hL.at 1 rfl) dX6_matches_188 ?_
            refine z_aload_n hC zvr_a rfl (hL.at 1 rfl) dX6_matches_189 ?_
            refine z_getA hC hG kFX6_40_6 rfl rfl dX6_matches_190 ?_
            refine z_iconst hC dX6_matches_193 ?_
            refine z_iload_n hC rfl (hL.at 2 rfl) dX6_matches_194 ?_
            refine z_imul hC dX6_matches_195 ?_
            refine z_iald hC hG rfl rfl rfl (inR_w _) hV dX6_matches_196 ?_
            intro x13 hx13 hV
            refine z_iconst hC dX6_matches_197 ?_
            refine z_iload_n hC rfl (hL.at 0 rfl) dX6_matches_198 ?_
            refine z_isub hC dX6_matches_199 ?_
            refine z_call_v hG (zrunV (ci := 6) hC hG (Nat.le_of_ble_eq_true rfl) (Nat.le_of_ble_eq_true rfl) (zobj hG rfl (Nat.le_of_ble_eq_true rfl) (Nat.le_of_ble_eq_true rfl)) (mX6_push l P G9 x13 hx13 (w32 ((-1) - x12)) (inR_w _) hV) kVX6_280 rfl rfl rfl ⟨(Nat.le_of_ble_eq_true rfl), (Nat.le_of_ble_eq_true rfl)⟩ ⟨(Nat.le_of_ble_eq_true rfl), (Nat.le_of_ble_eq_true rfl)⟩ rfl ⟨zcs_0, (Nat.le_of_ble_eq_true rfl)⟩ hL.1.1 dX6_matches_200) ?_
            rintro G10 _ _ hV hG
            refine z_iconst hC dX6_matches_203 ?_
            exact z_iret hC hG hr hk (inR_lit rfl) hV (Nat.le_of_ble_eq_true rfl) (Nat.le_of_ble_eq_true rfl) dX6_matches_204
          · intro hV
            refine z_aload_n hC zvr_a rfl (hL.at 1 rfl) dX6_matches_166 ?_
            refine z_iconst hC dX6_matches_167 ?_
            refine z_putF hC hG kFX6_283_6 rfl rfl rfl rfl nk_6_42 (inR_lit rfl) (Or.inl rfl) hV dX6_matches_168 ?_
            intro G11 _ _ hG hV
            refine z_aload_n hC zvr_a rfl (hL.at 1 rfl) dX6_matches_171 ?_
            refine z_aload_n hC zvr_a rfl (hL.at 1 rfl) dX6_matches_172 ?_
            refine z_getA hC hG kFX6_34_6 rfl rfl dX6_matches_173 ?_
            refine z_iload_n hC rfl (hL.at 2 rfl) dX6_matches_176 ?_
            refine z_iald hC hG rfl rfl rfl hp0 hV dX6_matches_177 ?_
            intro x14 hx14 hV
            refine z_putF hC hG kFX6_302_6 rfl rfl rfl rfl nk_6_43 hx14 (Or.inl rfl) hV dX6_matches_178 ?_
            intro G12 _ _ hG hV
            refine z_aload_n hC zvr_a rfl (hL.at 1 rfl) dX6_matches_181 ?_
            refine z_iload_n hC rfl (hL.at 3 rfl) dX6_matches_182 ?_
            refine z_putF hC hG kFX6_286_6 rfl rfl rfl rfl nk_6_44 hp1 (Or.inl rfl) hV dX6_matches_183 ?_
            intro G13 _ _ hG hV
            refine z_iconst hC dX6_matches_186 ?_
            exact z_iret hC hG hr hk (inR_lit rfl) hV (Nat.le_of_ble_eq_true rfl) (Nat.le_of_ble_eq_true rfl) dX6_matches_187
        ·
          refine z_tsw (tgt := 207) hC hx1 dX6_matches_8 ?_ (fun i hi => by simp only [List.size_toArray, List.length_cons, List.length_nil]; omega) ?_
          · by_cases hz : x1 < 0 ∨ 5 < x1
            · rw [if_pos hz]; decide
            · have hq : x1 = 2 ∨ x1 = 3 := by omega
              rcases hq with hq | hq <;> (rw [hq]; decide)
          refine z_aload_n hC zvr_a rfl (hL.at 1 rfl) dX6_matches_207 ?_
          refine z_iload_n hC rfl (hL.at 3 rfl) dX6_matches_208 ?_
          refine z_call_i hG (zrunV (ci := 6) hC hG (Nat.le_of_ble_eq_true rfl) (Nat.le_of_ble_eq_true rfl) (zobj hG rfl (Nat.le_of_ble_eq_true rfl) (Nat.le_of_ble_eq_true rfl)) (mX6_factAt l P G p1 hp1 hV) kVX6_305 rfl rfl rfl ⟨(Nat.le_of_ble_eq_true rfl), (Nat.le_of_ble_eq_true rfl)⟩ ⟨(Nat.le_of_ble_eq_true rfl), (Nat.le_of_ble_eq_true rfl)⟩ rfl ⟨zcs_0, (Nat.le_of_ble_eq_true rfl)⟩ hL.1.1 dX6_matches_209) ?_
          rintro x15 G14 _ _ hx15 hV hG
          refine z_istore_n (lv' := [(3, .int (zI x15)), (0, .ref (zA P 5 0 0)), (1, .int (zI p0)), (2, .int (zI p1))]) hC rfl hL (by decide) rfl dX6_matches_212 (fun ls hL => ?_)
          refine z_aload_n hC zvr_a rfl (hL.at 1 rfl) dX6_matches_213 ?_
          refine z_iload_n hC rfl (hL.at 0 rfl) dX6_matches_214 ?_
          refine z_iload_n hC rfl (hL.at 3 rfl) dX6_matches_215 ?_
          refine z_call_z hG (zrunV (ci := 6) hC hG (Nat.le_of_ble_eq_true rfl) (Nat.le_of_ble_eq_true rfl) (zobj hG rfl (Nat.le_of_ble_eq_true rfl) (Nat.le_of_ble_eq_true rfl)) (mX6_isAsked l P G14 x15 hx15 p1 hp1 hV) kVX6_308 rfl rfl rfl ⟨(Nat.le_of_ble_eq_true rfl), (Nat.le_of_ble_eq_true rfl)⟩ ⟨(Nat.le_of_ble_eq_true rfl), (Nat.le_of_ble_eq_true rfl)⟩ rfl ⟨zcs_0, (Nat.le_of_ble_eq_true rfl)⟩ hL.1.1 dX6_matches_216) ?_
          rintro x16 G15 _ _ hx16 hV hG
          refine z_if_eq (tgt := 224) hC (inR_b hx16) hV dX6_matches_219 (by decide) ?_ ?_
          · intro hV
            refine z_aload_n hC zvr_a rfl (hL.at 1 rfl) dX6_matches_224 ?_
            refine z_dup hC rfl dX6_matches_225 ?_
            refine z_getF hC hG kFX6_234_6 rfl rfl hV dX6_matches_226 ?_
            intro x17 hx17 hV
            refine z_aload_n hC zvr_a rfl (hL.at 1 rfl) dX6_matches_229 ?_
            refine z_getF hC hG kFX6_261_6 rfl rfl hV dX6_matches_230 ?_
            intro x18 hx18 hV
            obtain ⟨J241, eJ241, hV⟩ := zjn_abs hV
            have hJ241 : ∀ {H : Heap} {locs : List Loc}, zS P s G15 H locs → ∀ (z241_2 : Int), (z241_2 = 0 ∨ z241_2 = 1) → J241 z241_2 → ∀ (ls : Array Slot), zL ls 5 [(0, .ref (zA P 5 0 0)), (1, .int (zI p0)), (2, .int (zI p1)), (3, .int (zI x15))] → W p l e rX6_matches s m args below meth c H locs 0 0 (MQ below (zQi P Q) args s 0 0 (zAr P)) (F0 m 241 ls [.int (zI z241_2), .int (zI x17), .ref (zA P 5 0 0)]) := by
              intro H locs hG z241_2 hz241_2 hV ls hL
              rw [eJ241] at hV
              refine z_iadd hC dX6_matches_241 ?_
              refine z_putF hC hG kFX6_234_6 rfl rfl rfl rfl nk_6_47 (inR_w _) (Or.inl rfl) hV dX6_matches_242 ?_
              intro G16 _ _ hG hV
              refine z_aload_n hC zvr_a rfl (hL.at 0 rfl) dX6_matches_245 ?_
              refine z_iload_n hC rfl (hL.at 1 rfl) dX6_matches_246 ?_
              refine z_iload_n hC rfl (hL.at 3 rfl) dX6_matches_247 ?_
              refine z_call_z hG (zrunV (ci := 6) hC hG (Nat.le_of_ble_eq_true rfl) (Nat.le_of_ble_eq_true rfl) (zobj hG rfl (Nat.le_of_ble_eq_true rfl) (Nat.le_of_ble_eq_true rfl)) (mX6_isRight l P G16 p0 hp0 x15 hx15 hV) kVX6_311 rfl rfl rfl ⟨(Nat.le_of_ble_eq_true rfl), (Nat.le_of_ble_eq_true rfl)⟩ ⟨(Nat.le_of_ble_eq_true rfl), (Nat.le_of_ble_eq_true rfl)⟩ rfl ⟨zcs_0, (Nat.le_of_ble_eq_true rfl)⟩ hL.1.1 dX6_matches_248) ?_
              rintro x19 _ _ _ hx19 ⟨rfl, hV⟩ hG
              refine z_istore (lv' := [(4, .int (zI x19)), (0, .ref (zA P 5 0 0)), (1, .int (zI p0)), (2, .int (zI p1)), (3, .int (zI x15))]) hC hL (by decide) rfl dX6_matches_251 (fun ls hL => ?_)
              refine z_iload hC (hL.at 0 rfl) dX6_matches_253 ?_
              obtain ⟨J275, eJ275, hV⟩ := zjn_abs hV
              have hJ275 : ∀ (H275 : ZG), J275 H275 → ∀ (H : Heap) (locs : List Loc) (ls : Array Slot), zS P s H275 H locs → zL ls 5 [(4, .int (zI x19))] → W p l e rX6_matches s m args below meth c H locs 0 0 (MQ below (zQi P Q) args s 0 0 (zAr P)) (F0 m 275 ls []) := by
                intro H275 hV H locs ls hG hL
                rw [eJ275] at hV
                refine z_iload hC (hL.at 0 rfl) dX6_matches_275 ?_
                obtain ⟨J285, eJ285, hV⟩ := zjn_abs hV
                have hJ285 : ∀ {H : Heap} {locs : List Loc}, zS P s H275 H locs → ∀ (z285_0 : Int), (z285_0 = 0 ∨ z285_0 = 1) → J285 z285_0 → ∀ (ls : Array Slot), zL ls 5 [] → W p l e rX6_matches s m args below meth c H locs 0 0 (MQ below (zQi P Q) args s 0 0 (zAr P)) (F0 m 285 ls [.int (zI z285_0)]) := by
                  intro H locs hG z285_0 hz285_0 hV ls hL
                  rw [eJ285] at hV
                  exact z_iret hC hG hr hk (inR_b hz285_0) hV (Nat.le_of_ble_eq_true rfl) (Nat.le_of_ble_eq_true rfl) dX6_matches_285
                refine z_if_eq (tgt := 284) hC (inR_b hx19) hV dX6_matches_277 (by decide) ?_ ?_
                · intro hV
                  refine z_iconst hC dX6_matches_284 ?_
                  exact hJ285 hG 1 (Or.inr rfl) hV _ (hL.sub [] rfl)
                · intro hV
                  refine z_iconst hC dX6_matches_280 ?_
                  refine z_goto (tgt := 285) hC dX6_matches_281 (by decide) ?_
                  exact hJ285 hG 0 (Or.inl rfl) hV _ (hL.sub [] rfl)
              refine z_if_eq (tgt := 275) hC (inR_b hx19) hV dX6_matches_255 (by decide) ?_ ?_
              · intro hV
                exact hJ275 G16 hV _ _ _ hG (hL.sub [0] rfl)
              · intro hV
                refine z_aload_n hC zvr_a rfl (hL.at 1 rfl) dX6_matches_258 ?_
                refine z_getA hC hG kFX6_31_6 rfl rfl dX6_matches_259 ?_
                refine z_iload_n hC rfl (hL.at 2 rfl) dX6_matches_262 ?_
                refine z_iald hC hG rfl rfl rfl hp0 hV dX6_matches_263 ?_
                intro x20 hx20 hV
                refine z_iconst hC dX6_matches_264 ?_
                refine z_icmp_eq (tgt := 275) hC hx20 (inR_lit rfl) hV dX6_matches_265 (by decide) ?_ ?_
                · intro hV
                  exact hJ275 G16 hV _ _ _ hG (hL.sub [0] rfl)
                · intro hV
                  refine z_aload_n hC zvr_a rfl (hL.at 1 rfl) dX6_matches_268 ?_
                  refine z_iload_n hC rfl (hL.at 2 rfl) dX6_matches_269 ?_
                  refine z_iload_n hC rfl (hL.at 3 rfl) dX6_matches_270 ?_
                  refine z_iload_n hC rfl (hL.at 4 rfl) dX6_matches_271 ?_
                  refine z_call_v hG (zrunV (ci := 6) hC hG (Nat.le_of_ble_eq_true rfl) (Nat.le_of_ble_eq_true rfl) (zobj hG rfl (Nat.le_of_ble_eq_true rfl) (Nat.le_of_ble_eq_true rfl)) (mX6_pushParts l P G16 p0 hp0 p1 hp1 x15 hx15 hV) kVX6_314 rfl rfl rfl ⟨(Nat.le_of_ble_eq_true rfl), (Nat.le_of_ble_eq_true rfl)⟩ ⟨(Nat.le_of_ble_eq_true rfl), (Nat.le_of_ble_eq_true rfl)⟩ rfl ⟨zcs_0, (Nat.le_of_ble_eq_true rfl)⟩ hL.1.1 dX6_matches_272) ?_
                  rintro G17 _ _ hV hG
                  exact hJ275 G17 hV _ _ _ hG (hL.sub [0] rfl)
            refine z_if_eq (tgt := 240) hC hx18 hV dX6_matches_233 (by decide) ?_ ?_
            · intro hV
              refine z_iconst hC dX6_matches_240 ?_
              exact hJ241 hG 0 (Or.inl rfl) hV _ (hL.sub [1, 2, 3, 0] rfl)
            · intro hV
              refine z_iconst hC dX6_matches_236 ?_
              refine z_goto (tgt := 241) hC dX6_matches_237 (by decide) ?_
              exact hJ241 hG 1 (Or.inr rfl) hV _ (hL.sub [1, 2, 3, 0] rfl)
          · intro hV
            refine z_iconst hC dX6_matches_222 ?_
            exact z_iret hC hG hr hk (inR_lit rfl) hV (Nat.le_of_ble_eq_true rfl) (Nat.le_of_ble_eq_true rfl) dX6_matches_223
abbrev rX6_turns : Room := { frames := 2, cells := 0, slots := 0, locals := 34 }
def vX6_turns (G : ZG) (Q : Int → ZG → Prop) : Prop := zgF G 5 38 fun (x1 : Int) => zbr (x1 ≠ 0) (zgF G 5 38 fun (x2 : Int) => zpF G 5 38 (w32 (x2 - 1)) fun (G1 : ZG) => zgF G1 5 38 fun (x3 : Int) => zaL G1 5 35 64 x3 fun (x4 : Int) => zpF G1 5 34 x4 fun (G2 : ZG) => zgF G2 5 38 fun (x5 : Int) => zaL G2 5 36 64 x5 fun (x6 : Int) => zgF G2 5 38 fun (x7 : Int) => zaL G2 5 37 64 x7 fun (x8 : Int) => vX6_push x6 x8 G2 fun (G3 : ZG) => Q 1 G3) (Q 0 G)
set_option maxHeartbeats 4000000 in
theorem mX6_turns (l : Launch) (P : ZP) (G : ZG) {Q : Int → ZG → Prop} (hV : vX6_turns G Q) : Met l yX6_turns (ws_ yX6_turns cX6_turns 1 (some .boolean)) rX6_turns (zPc P G [.ref (zA P 5 0 0)]) (zQz P Q) 0 0 (zAr P) := by
  refine zMet RX6 (plainFor_of_name (by decide)) rfl (zcs_c rfl zcs_0) (Nat.le_of_ble_eq_true rfl) (fun p e s m args below meth c ls hC hr hk hn hG hL => ?_)
  unfold vX6_turns at hV
  refine z_aload_n hC zvr_a rfl (hL.at 0 rfl) dX6_turns_0 ?_
  refine z_getF hC hG kFX6_277_6 rfl rfl hV dX6_turns_1 ?_
  intro x1 hx1 hV
  refine z_if_ne (tgt := 9) hC hx1 hV dX6_turns_4 (by decide) ?_ ?_
  · intro hV
    refine z_aload_n hC zvr_a rfl (hL.at 0 rfl) dX6_turns_9 ?_
    refine z_dup hC rfl dX6_turns_10 ?_
    refine z_getF hC hG kFX6_277_6 rfl rfl hV dX6_turns_11 ?_
    intro x2 hx2 hV
    refine z_iconst hC dX6_turns_14 ?_
    refine z_isub hC dX6_turns_15 ?_
    refine z_putF hC hG kFX6_277_6 rfl rfl rfl rfl nk_6_38 (inR_w _) (Or.inl rfl) hV dX6_turns_16 ?_
    intro G1 _ _ hG hV
    refine z_aload_n hC zvr_a rfl (hL.at 0 rfl) dX6_turns_19 ?_
    refine z_aload_n hC zvr_a rfl (hL.at 0 rfl) dX6_turns_20 ?_
    refine z_getA hC hG kFX6_98_6 rfl rfl dX6_turns_21 ?_
    refine z_aload_n hC zvr_a rfl (hL.at 0 rfl) dX6_turns_24 ?_
    refine z_getF hC hG kFX6_277_6 rfl rfl hV dX6_turns_25 ?_
    intro x3 hx3 hV
    refine z_iald hC hG rfl rfl rfl hx3 hV dX6_turns_28 ?_
    intro x4 hx4 hV
    refine z_putF hC hG kFX6_274_6 rfl rfl rfl rfl nk_6_34 hx4 (Or.inl rfl) hV dX6_turns_29 ?_
    intro G2 _ _ hG hV
    refine z_aload_n hC zvr_a rfl (hL.at 0 rfl) dX6_turns_32 ?_
    refine z_aload_n hC zvr_a rfl (hL.at 0 rfl) dX6_turns_33 ?_
    refine z_getA hC hG kFX6_101_6 rfl rfl dX6_turns_34 ?_
    refine z_aload_n hC zvr_a rfl (hL.at 0 rfl) dX6_turns_37 ?_
    refine z_getF hC hG kFX6_277_6 rfl rfl hV dX6_turns_38 ?_
    intro x5 hx5 hV
    refine z_iald hC hG rfl rfl rfl hx5 hV dX6_turns_41 ?_
    intro x6 hx6 hV
    refine z_aload_n hC zvr_a rfl (hL.at 0 rfl) dX6_turns_42 ?_
    refine z_getA hC hG kFX6_104_6 rfl rfl dX6_turns_43 ?_
    refine z_aload_n hC zvr_a rfl (hL.at 0 rfl) dX6_turns_46 ?_
    refine z_getF hC hG kFX6_277_6 rfl rfl hV dX6_turns_47 ?_
    intro x7 hx7 hV
    refine z_iald hC hG rfl rfl rfl hx7 hV dX6_turns_50 ?_
    intro x8 hx8 hV
    refine z_call_v hG (zrunV (ci := 6) hC hG (Nat.le_of_ble_eq_true rfl) (Nat.le_of_ble_eq_true rfl) (zobj hG rfl (Nat.le_of_ble_eq_true rfl) (Nat.le_of_ble_eq_true rfl)) (mX6_push l P G2 x6 hx6 x8 hx8 hV) kVX6_280 rfl rfl rfl ⟨(Nat.le_of_ble_eq_true rfl), (Nat.le_of_ble_eq_true rfl)⟩ ⟨(Nat.le_of_ble_eq_true rfl), (Nat.le_of_ble_eq_true rfl)⟩ rfl ⟨zcs_0, (Nat.le_of_ble_eq_true rfl)⟩ hL.1.1 dX6_turns_51) ?_
    rintro G3 _ _ hV hG
    refine z_iconst hC dX6_turns_54 ?_
    exact z_zret hC hG hr hk (Or.inr rfl) hV (Nat.le_of_ble_eq_true rfl) (Nat.le_of_ble_eq_true rfl) dX6_turns_55
  · intro hV
    refine z_iconst hC dX6_turns_7 ?_
    exact z_zret hC hG hr hk (Or.inl rfl) hV (Nat.le_of_ble_eq_true rfl) (Nat.le_of_ble_eq_true rfl) dX6_turns_8
abbrev rX6_tryCase : Room := { frames := 6, cells := 0, slots := 0, locals := 131 }
def vX6_tryCase (p0 : Int) (G : ZG) (Q : Int → ZG → Prop) : Prop := zpF G 5 34 0 fun (G1 : ZG) => zpF G1 5 38 0 fun (G2 : ZG) => zl2 (fun (P12 : Int → ZG → Prop) (a12_2 : Int) (K12 : ZG) => zbr (6 ≤ a12_2) (zgF K12 5 21 fun (x1 : Int) => zlt1 (w32 (x1 - 1)) fun (x2 : Int) => zl2 (fun (P38 : Int → ZG → Prop) (a38_2 : Int) (K38 : ZG) => zbr (a38_2 < 0) (zl1 (fun (P65 : ZG → Prop) (K65 : ZG) => zgF K65 5 34 fun (x3 : Int) => zbr (x3 ≤ 0) (Q 0 K65) (zgF K65 5 34 fun (x4 : Int) => zpF K65 5 34 (w32 (x4 - 1)) fun (G3 : ZG) => zgF G3 5 34 fun (x5 : Int) => zaL G3 5 32 256 x5 fun (x6 : Int) => zjn (fun (z124_0 : Int) (H124 : ZG) => zjn (fun (H142 : ZG) => Q z124_0 H142) fun J142 => zbr (z124_0 = 2) (J142 H124) (zjn (fun (H144 : ZG) => P65 H144) fun J144 => zbr (z124_0 ≠ 1) (J144 H124) (vX6_turns H124 fun (x7 : Int) (G4 : ZG) => zbr (x7 ≠ 0) (J144 G4) (J142 G4)))) fun J124 => zbr (x6 ≠ (-1)) (zgF G3 5 34 fun (x8 : Int) => zaL G3 5 32 256 x8 fun (x9 : Int) => zgF G3 5 34 fun (x10 : Int) => zaL G3 5 33 256 x10 fun (x11 : Int) => vX6_matches x9 x11 G3 fun (x12 : Int) (G5 : ZG) => J124 x12 G5) (vX6_took G3 fun (x13 : Int) (G6 : ZG) => J124 x13 G6))) K38) (zaL K38 5 24 24 (w32 ((w32 (3 * p0)) + a38_2)) fun (x14 : Int) => vX6_push x14 (w32 (a38_2 + 1)) K38 fun (G7 : ZG) => zlt1 (w32 (a38_2 + (-1))) fun (x15 : Int) => P38 x15 G7)) x2 K12) (zaS K12 5 39 6 a12_2 (-1) fun (G8 : ZG) => zlt1 (w32 (a12_2 + 1)) fun (x16 : Int) => P12 x16 G8)) 0 G2
set_option maxHeartbeats 4000000 in
theorem mX6_tryCase (l : Launch) (P : ZP) (G : ZG) (p0 : Int) (hp0 : inR p0) {Q : Int → ZG → Prop} (hV : vX6_tryCase p0 G Q) : Met l yX6_tryCase (ws_ yX6_tryCase cX6_tryCase 3 (some .int)) rX6_tryCase (zPc P G [.ref (zA P 5 0 0), .int (zI p0)]) (zQi P Q) 0 0 (zAr P) := by
  refine zMet RX6 (plainFor_of_name (by decide)) rfl (zcs_c rfl (zcs_c rfl zcs_0)) (Nat.le_of_ble_eq_true rfl) (fun p e s m args below meth c ls hC hr hk hn hG hL => ?_)
  unfold vX6_tryCase at hV
  refine z_aload_n hC zvr_a rfl (hL.at 0 rfl) dX6_tryCase_0 ?_
  refine z_iconst hC dX6_tryCase_1 ?_
  refine z_putF hC hG kFX6_274_6 rfl rfl rfl rfl nk_6_34 (inR_lit rfl) (Or.inl rfl) hV dX6_tryCase_2 ?_
  intro G1 _ _ hG hV
  refine z_aload_n hC zvr_a rfl (hL.at 0 rfl) dX6_tryCase_5 ?_
  refine z_iconst hC dX6_tryCase_6 ?_
  refine z_putF hC hG kFX6_277_6 rfl rfl rfl rfl nk_6_38 (inR_lit rfl) (Or.inl rfl) hV dX6_tryCase_7 ?_
  intro G2 _ _ hG hV
  refine z_iconst hC dX6_tryCase_10 ?_
  refine z_istore_n (lv' := [(2, .int (zI 0)), (0, .ref (zA P 5 0 0)), (1, .int (zI p0))]) hC rfl hL (by decide) rfl dX6_tryCase_11 (fun ls hL => ?_)
  refine zl2_use hV (fun (a12_2 : Int) (K12 : ZG) => inR a12_2 → ∀ (H : Heap) (locs : List Loc), zS P s K12 H locs → ∀ (ls : Array Slot), zL ls 3 [(0, .ref (zA P 5 0 0)), (1, .int (zI p0)), (2, .int (zI a12_2))] → W p l e rX6_tryCase s m args below meth c H locs 0 0 (MQ below (zQi P Q) args s 0 0 (zAr P)) (F0 m 12 ls [])) ?_ (inR_lit rfl) _ _ hG _ (hL.sub [1, 2, 0] rfl)
  intro P12 a12_2 K12 hP12 hV ha12_2 H locs hG ls hL
  refine z_iload_n hC rfl (hL.at 2 rfl) dX6_tryCase_12 ?_
  refine z_bipush hC rfl dX6_tryCase_13 ?_
  refine z_icmp_ge (tgt := 31) hC ha12_2 (inR_lit rfl) hV dX6_tryCase_15 (by decide) ?_ ?_
  · intro hV
    refine z_aload_n hC zvr_a rfl (hL.at 0 rfl) dX6_tryCase_31 ?_
    refine z_getF hC hG kFX6_231_6 rfl rfl hV dX6_tryCase_32 ?_
    intro x1 hx1 hV
    refine z_iconst hC dX6_tryCase_35 ?_
    refine z_isub hC dX6_tryCase_36 ?_
    refine z_top hV (inR_w _) ?_
    intro x2 hx2 hV
    refine z_istore_n (lv' := [(2, .int (zI x2)), (0, .ref (zA P 5 0 0)), (1, .int (zI p0))]) hC rfl hL (by decide) rfl dX6_tryCase_37 (fun ls hL => ?_)
    refine zl2_use hV (fun (a38_2 : Int) (K38 : ZG) => inR a38_2 → ∀ (H : Heap) (locs : List Loc), zS P s K38 H locs → ∀ (ls : Array Slot), zL ls 3 [(0, .ref (zA P 5 0 0)), (1, .int (zI p0)), (2, .int (zI a38_2))] → W p l e rX6_tryCase s m args below meth c H locs 0 0 (MQ below (zQi P Q) args s 0 0 (zAr P)) (F0 m 38 ls [])) ?_ hx2 _ _ hG _ (hL.sub [1, 2, 0] rfl)
    intro P38 a38_2 K38 hP38 hV ha38_2 H locs hG ls hL
    refine z_iload_n hC rfl (hL.at 2 rfl) dX6_tryCase_38 ?_
    refine z_if_lt (tgt := 65) hC ha38_2 hV dX6_tryCase_39 (by decide) ?_ ?_
    · intro hV
      refine zl1_use hV (fun (K65 : ZG) => ∀ (H : Heap) (locs : List Loc), zS P s K65 H locs → ∀ (ls : Array Slot), zL ls 3 [(0, .ref (zA P 5 0 0))] → W p l e rX6_tryCase s m args below meth c H locs 0 0 (MQ below (zQi P Q) args s 0 0 (zAr P)) (F0 m 65 ls [])) ?_ _ _ hG _ (hL.sub [0] rfl)
      intro P65  K65 hP65 hV H locs hG ls hL
      refine z_aload_n hC zvr_a rfl (hL.at 0 rfl) dX6_tryCase_65 ?_
      refine z_getF hC hG kFX6_274_6 rfl rfl hV dX6_tryCase_66 ?_
      intro x3 hx3 hV
      refine z_if_le (tgt := 147) hC hx3 hV dX6_tryCase_69 (by decide) ?_ ?_
      · intro hV
        refine z_iconst hC dX6_tryCase_147 ?_
        exact z_iret hC hG hr hk (inR_lit rfl) hV (Nat.le_of_ble_eq_true rfl) (Nat.le_of_ble_eq_true rfl) dX6_tryCase_148
      · intro hV
        refine z_aload_n hC zvr_a rfl (hL.at 0 rfl) dX6_tryCase_72 ?_
        refine z_dup hC rfl dX6_tryCase_73 ?_
        refine z_getF hC hG kFX6_274_6 rfl rfl hV dX6_tryCase_74 ?_
        intro x4 hx4 hV
        refine z_iconst hC dX6_tryCase_77 ?_
        refine z_isub hC dX6_tryCase_78 ?_
        refine z_putF hC hG kFX6_274_6 rfl rfl rfl rfl nk_6_34 (inR_w _) (Or.inl rfl) hV dX6_tryCase_79 ?_
        intro G3 _ _ hG hV
        refine z_aload_n hC zvr_a rfl (hL.at 0 rfl) dX6_tryCase_82 ?_
        refine z_getA hC hG kFX6_92_6 rfl rfl dX6_tryCase_83 ?_
        refine z_aload_n hC zvr_a rfl (hL.at 0 rfl) dX6_tryCase_86 ?_
        refine z_getF hC hG kFX6_274_6 rfl rfl hV dX6_tryCase_87 ?_
        intro x5 hx5 hV
        refine z_iald hC hG rfl rfl rfl hx5 hV dX6_tryCase_90 ?_
        intro x6 hx6 hV
        refine z_iconst hC dX6_tryCase_91 ?_
        obtain ⟨J124, eJ124, hV⟩ := zjn_abs hV
        have hJ124 : ∀ (z124_0 : Int) (H124 : ZG), inR z124_0 → J124 z124_0 H124 → ∀ (H : Heap) (locs : List Loc) (ls : Array Slot), zS P s H124 H locs → zL ls 3 [(0, .ref (zA P 5 0 0))] → W p l e rX6_tryCase s m args below meth c H locs 0 0 (MQ below (zQi P Q) args s 0 0 (zAr P)) (F0 m 124 ls [.int (zI z124_0)]) := by
          intro z124_0 H124 hz124_0 hV H locs ls hG hL
          rw [eJ124] at hV
          refine z_istore_n (lv' := [(2, .int (zI z124_0)), (0, .ref (zA P 5 0 0))]) hC rfl hL (by decide) rfl dX6_tryCase_124 (fun ls hL => ?_)
          refine z_iload_n hC rfl (hL.at 0 rfl) dX6_tryCase_125 ?_
          refine z_iconst hC dX6_tryCase_126 ?_
          obtain ⟨J142, eJ142, hV⟩ := zjn_abs hV
          have hJ142 : ∀ (H142 : ZG), J142 H142 → ∀ (H : Heap) (locs : List Loc) (ls : Array Slot), zS P s H142 H locs → zL ls 3 [(2, .int (zI z124_0))] → W p l e rX6_tryCase s m args below meth c H locs 0 0 (MQ below (zQi P Q) args s 0 0 (zAr P)) (F0 m 142 ls []) := by
            intro H142 hV H locs ls hG hL
            rw [eJ142] at hV
            refine z_iload_n hC rfl (hL.at 0 rfl) dX6_tryCase_142 ?_
            exact z_iret hC hG hr hk hz124_0 hV (Nat.le_of_ble_eq_true rfl) (Nat.le_of_ble_eq_true rfl) dX6_tryCase_143
          refine z_icmp_eq (tgt := 142) hC hz124_0 (inR_lit rfl) hV dX6_tryCase_127 (by decide) ?_ ?_
          · intro hV
            exact hJ142 H124 hV _ _ _ hG (hL.sub [0] rfl)
          · intro hV
            refine z_iload_n hC rfl (hL.at 0 rfl) dX6_tryCase_130 ?_
            refine z_iconst hC dX6_tryCase_131 ?_
            obtain ⟨J144, eJ144, hV⟩ := zjn_abs hV
            have hJ144 : ∀ (H144 : ZG), J144 H144 → ∀ (H : Heap) (locs : List Loc) (ls : Array Slot), zS P s H144 H locs → zL ls 3 [(0, .ref (zA P 5 0 0))] → W p l e rX6_tryCase s m args below meth c H locs 0 0 (MQ below (zQi P Q) args s 0 0 (zAr P)) (F0 m 144 ls []) := by
              intro H144 hV H locs ls hG hL
              rw [eJ144] at hV
              refine z_goto (tgt := 65) hC dX6_tryCase_144 (by decide) ?_
              exact hP65 H144 hV _ _ hG _ hL
            refine z_icmp_ne (tgt := 144) hC hz124_0 (inR_lit rfl) hV dX6_tryCase_132 (by decide) ?_ ?_
            · intro hV
              exact hJ144 H124 hV _ _ _ hG (hL.sub [1] rfl)
            · intro hV
              refine z_aload_n hC zvr_a rfl (hL.at 1 rfl) dX6_tryCase_135 ?_
              refine z_call_z hG (zrunV (ci := 6) hC hG (Nat.le_of_ble_eq_true rfl) (Nat.le_of_ble_eq_true rfl) (zobj hG rfl (Nat.le_of_ble_eq_true rfl) (Nat.le_of_ble_eq_true rfl)) (mX6_turns l P H124 hV) kVX6_296 rfl rfl rfl ⟨(Nat.le_of_ble_eq_true rfl), (Nat.le_of_ble_eq_true rfl)⟩ ⟨(Nat.le_of_ble_eq_true rfl), (Nat.le_of_ble_eq_true rfl)⟩ rfl ⟨zcs_0, (Nat.le_of_ble_eq_true rfl)⟩ hL.1.1 dX6_tryCase_136) ?_
              rintro x7 G4 _ _ hx7 hV hG
              refine z_if_ne (tgt := 144) hC (inR_b hx7) hV dX6_tryCase_139 (by decide) ?_ ?_
              · intro hV
                exact hJ144 G4 hV _ _ _ hG (hL.sub [1] rfl)
              · intro hV
                exact hJ142 G4 hV _ _ _ hG (hL.sub [0] rfl)
        refine z_icmp_ne (tgt := 102) hC hx6 (inR_lit rfl) hV dX6_tryCase_92 (by decide) ?_ ?_
        · intro hV
          refine z_aload_n hC zvr_a rfl (hL.at 0 rfl) dX6_tryCase_102 ?_
          refine z_aload_n hC zvr_a rfl (hL.at 0 rfl) dX6_tryCase_103 ?_
          refine z_getA hC hG kFX6_92_6 rfl rfl dX6_tryCase_104 ?_
          refine z_aload_n hC zvr_a rfl (hL.at 0 rfl) dX6_tryCase_107 ?_
          refine z_getF hC hG kFX6_274_6 rfl rfl hV dX6_tryCase_108 ?_
          intro x8 hx8 hV
          refine z_iald hC hG rfl rfl rfl hx8 hV dX6_tryCase_111 ?_
          intro x9 hx9 hV
          refine z_aload_n hC zvr_a rfl (hL.at 0 rfl) dX6_tryCase_112 ?_
          refine z_getA hC hG kFX6_95_6 rfl rfl dX6_tryCase_113 ?_
          refine z_aload_n hC zvr_a rfl (hL.at 0 rfl) dX6_tryCase_116 ?_
          refine z_getF hC hG kFX6_274_6 rfl rfl hV dX6_tryCase_117 ?_
          intro x10 hx10 hV
          refine z_iald hC hG rfl rfl rfl hx10 hV dX6_tryCase_120 ?_
          intro x11 hx11 hV
          refine z_call_i hG (zrunV (ci := 6) hC hG (Nat.le_of_ble_eq_true rfl) (Nat.le_of_ble_eq_true rfl) (zobj hG rfl (Nat.le_of_ble_eq_true rfl) (Nat.le_of_ble_eq_true rfl)) (mX6_matches l P G3 x9 hx9 x11 hx11 hV) kVX6_293 rfl rfl rfl ⟨(Nat.le_of_ble_eq_true rfl), (Nat.le_of_ble_eq_true rfl)⟩ ⟨(Nat.le_of_ble_eq_true rfl), (Nat.le_of_ble_eq_true rfl)⟩ rfl ⟨zcs_0, (Nat.le_of_ble_eq_true rfl)⟩ hL.1.1 dX6_tryCase_121) ?_
          rintro x12 G5 _ _ hx12 hV hG
          exact hJ124 x12 G5 hx12 hV _ _ _ hG hL
        · intro hV
          refine z_aload_n hC zvr_a rfl (hL.at 0 rfl) dX6_tryCase_95 ?_
          refine z_call_i hG (zrunV (ci := 6) hC hG (Nat.le_of_ble_eq_true rfl) (Nat.le_of_ble_eq_true rfl) (zobj hG rfl (Nat.le_of_ble_eq_true rfl) (Nat.le_of_ble_eq_true rfl)) (mX6_took l P G3 hV) kVX6_289 rfl rfl rfl ⟨(Nat.le_of_ble_eq_true rfl), (Nat.le_of_ble_eq_true rfl)⟩ ⟨(Nat.le_of_ble_eq_true rfl), (Nat.le_of_ble_eq_true rfl)⟩ rfl ⟨zcs_0, (Nat.le_of_ble_eq_true rfl)⟩ hL.1.1 dX6_tryCase_96) ?_
          rintro x13 G6 _ _ hx13 hV hG
          refine z_goto (tgt := 124) hC dX6_tryCase_99 (by decide) ?_
          exact hJ124 x13 G6 hx13 hV _ _ _ hG hL
    · intro hV
      refine z_aload_n hC zvr_a rfl (hL.at 0 rfl) dX6_tryCase_42 ?_
      refine z_aload_n hC zvr_a rfl (hL.at 0 rfl) dX6_tryCase_43 ?_
      refine z_getA hC hG kFX6_68_6 rfl rfl dX6_tryCase_44 ?_
      refine z_iconst hC dX6_tryCase_47 ?_
      refine z_iload_n hC rfl (hL.at 1 rfl) dX6_tryCase_48 ?_
      refine z_imul hC dX6_tryCase_49 ?_
      refine z_iload_n hC rfl (hL.at 2 rfl) dX6_tryCase_50 ?_
      refine z_iadd hC dX6_tryCase_51 ?_
      refine z_iald hC hG rfl rfl rfl (inR_w _) hV dX6_tryCase_52 ?_
      intro x14 hx14 hV
      refine z_iload_n hC rfl (hL.at 2 rfl) dX6_tryCase_53 ?_
      refine z_iconst hC dX6_tryCase_54 ?_
      refine z_iadd hC dX6_tryCase_55 ?_
      refine z_call_v hG (zrunV (ci := 6) hC hG (Nat.le_of_ble_eq_true rfl) (Nat.le_of_ble_eq_true rfl) (zobj hG rfl (Nat.le_of_ble_eq_true rfl) (Nat.le_of_ble_eq_true rfl)) (mX6_push l P K38 x14 hx14 (w32 (a38_2 + 1)) (inR_w _) hV) kVX6_280 rfl rfl rfl ⟨(Nat.le_of_ble_eq_true rfl), (Nat.le_of_ble_eq_true rfl)⟩ ⟨(Nat.le_of_ble_eq_true rfl), (Nat.le_of_ble_eq_true rfl)⟩ rfl ⟨zcs_0, (Nat.le_of_ble_eq_true rfl)⟩ hL.1.1 dX6_tryCase_56) ?_
      rintro G7 _ _ hV hG
      refine z_iincV (fun x15 => [(2, .int (zI x15)), (0, .ref (zA P 5 0 0)), (1, .int (zI p0))]) hC hL (k := 2) rfl (by decide) (fun _ => rfl) hV dX6_tryCase_59 ?_
      intro x15 hx15 hV ls hL
      refine z_goto (tgt := 38) hC dX6_tryCase_62 (by decide) ?_
      exact hP38 x15 G7 hV hx15 _ _ hG _ (hL.sub [1, 2, 0] rfl)
  · intro hV
    refine z_aload_n hC zvr_a rfl (hL.at 0 rfl) dX6_tryCase_18 ?_
    refine z_getA hC hG kFX6_107_6 rfl rfl dX6_tryCase_19 ?_
    refine z_iload_n hC rfl (hL.at 2 rfl) dX6_tryCase_22 ?_
    refine z_iconst hC dX6_tryCase_23 ?_
    refine z_iast hC hG rfl (Nat.le_of_ble_eq_true rfl) (Nat.le_of_ble_eq_true rfl) rfl rfl rfl ha12_2 (inR_lit rfl) hV dX6_tryCase_24 ?_
    intro G8 _ _ hG hV
    refine z_iincV (fun x16 => [(2, .int (zI x16)), (0, .ref (zA P 5 0 0)), (1, .int (zI p0))]) hC hL (k := 2) rfl (by decide) (fun _ => rfl) hV dX6_tryCase_25 ?_
    intro x16 hx16 hV ls hL
    refine z_goto (tgt := 12) hC dX6_tryCase_28 (by decide) ?_
    exact hP12 x16 G8 hV hx16 _ _ hG _ (hL.sub [1, 2, 0] rfl)
abbrev rX6_need : Room := { frames := 1, cells := 0, slots := 0, locals := 12 }
def vX6_need (p0 : Int) (p1 : Int) (G : ZG) (Q : ZG → Prop) : Prop := zl2 (fun (P5 : Int → Int → Prop) (a5_3 : Int) (a5_4 : Int) => zgF G 5 67 fun (x1 : Int) => zbr (x1 ≤ a5_4) (zjn (fun (y79_3 : Int) (H79 : ZG) => zaL H79 5 65 512 y79_3 fun (x2 : Int) => zaL H79 5 66 512 y79_3 fun (x3 : Int) => zjn (fun (z101_3 : Int) => zaS H79 5 65 512 y79_3 (w32 (x2 + z101_3)) fun (G1 : ZG) => zaS G1 5 66 512 y79_3 p1 fun (G2 : ZG) => Q G2) fun J101 => zbr (x3 ≠ p1) (J101 1) (J101 0)) fun J79 => zbr (a5_3 ≠ (-1)) (J79 a5_3 G) (zgF G 5 67 fun (x4 : Int) => zaS G 5 64 512 x4 p0 fun (G3 : ZG) => zaS G3 5 65 512 x4 0 fun (G4 : ZG) => zaS G4 5 66 512 x4 (-1) fun (G5 : ZG) => zgF G5 5 67 fun (x5 : Int) => zpF G5 5 67 (w32 (x5 + 1)) fun (G6 : ZG) => J79 x4 G6)) (zaL G 5 64 512 a5_4 fun (x6 : Int) => zjn (fun (z31_0 : Int) => zlt1 (w32 (a5_4 + 1)) fun (x7 : Int) => P5 z31_0 x7) fun J31 => zbr (x6 ≠ p0) (J31 a5_3) (J31 a5_4))) (-1) 0
set_option maxHeartbeats 4000000 in
theorem mX6_need (l : Launch) (P : ZP) (G : ZG) (p0 : Int) (hp0 : inR p0) (p1 : Int) (hp1 : inR p1) {Q : ZG → Prop} (hV : vX6_need p0 p1 G Q) : Met l yX6_need (ws_ yX6_need cX6_need 5 none) rX6_need (zPc P G [.ref (zA P 5 0 0), .int (zI p0), .int (zI p1)]) (zQv P Q) 0 0 (zAr P) := by
  refine zMet RX6 (plainFor_of_name (by decide)) rfl (zcs_c rfl (zcs_c rfl (zcs_c rfl zcs_0))) (Nat.le_of_ble_eq_true rfl) (fun p e s m args below meth c ls hC hr hk hn hG hL => ?_)
  unfold vX6_need at hV
  refine z_iconst hC dX6_need_0 ?_
  refine z_istore_n (lv' := [(3, .int (zI (-1))), (0, .ref (zA P 5 0 0)), (1, .int (zI p0)), (2, .int (zI p1))]) hC rfl hL (by decide) rfl dX6_need_1 (fun ls hL => ?_)
  refine z_iconst hC dX6_need_2 ?_
  refine z_istore (lv' := [(4, .int (zI 0)), (3, .int (zI (-1))), (0, .ref (zA P 5 0 0)), (1, .int (zI p0)), (2, .int (zI p1))]) hC hL (by decide) rfl dX6_need_3 (fun ls hL => ?_)
  refine zl2_use hV (fun (a5_3 : Int) (a5_4 : Int) => inR a5_3 → inR a5_4 → ∀ (H : Heap) (locs : List Loc), zS P s G H locs → ∀ (ls : Array Slot), zL ls 5 [(0, .ref (zA P 5 0 0)), (1, .int (zI p0)), (2, .int (zI p1)), (3, .int (zI a5_3)), (4, .int (zI a5_4))] → W p l e rX6_need s m args below meth c H locs 0 0 (MQ below (zQv P Q) args s 0 0 (zAr P)) (F0 m 5 ls [])) ?_ (inR_lit rfl) (inR_lit rfl) _ _ hG _ (hL.sub [2, 3, 4, 1, 0] rfl)
  intro P5 a5_3 a5_4 hP5 hV ha5_3 ha5_4 H locs hG ls hL
  refine z_iload hC (hL.at 4 rfl) dX6_need_5 ?_
  refine z_aload_n hC zvr_a rfl (hL.at 0 rfl) dX6_need_7 ?_
  refine z_getF hC hG kFX6_324_6 rfl rfl hV dX6_need_8 ?_
  intro x1 hx1 hV
  refine z_icmp_ge (tgt := 38) hC ha5_4 hx1 hV dX6_need_11 (by decide) ?_ ?_
  · intro hV
    refine z_iload_n hC rfl (hL.at 3 rfl) dX6_need_38 ?_
    refine z_iconst hC dX6_need_39 ?_
    obtain ⟨J79, eJ79, hV⟩ := zjn_abs hV
    have hJ79 : ∀ (y79_3 : Int) (H79 : ZG), inR y79_3 → J79 y79_3 H79 → ∀ (H : Heap) (locs : List Loc) (ls : Array Slot), zS P s H79 H locs → zL ls 5 [(0, .ref (zA P 5 0 0)), (2, .int (zI p1)), (3, .int (zI y79_3))] → W p l e rX6_need s m args below meth c H locs 0 0 (MQ below (zQv P Q) args s 0 0 (zAr P)) (F0 m 79 ls []) := by
      intro y79_3 H79 hy79_3 hV H locs ls hG hL
      rw [eJ79] at hV
      refine z_aload_n hC zvr_a rfl (hL.at 0 rfl) dX6_need_79 ?_
      refine z_getA hC hG kFX6_152_6 rfl rfl dX6_need_80 ?_
      refine z_iload_n hC rfl (hL.at 2 rfl) dX6_need_83 ?_
      refine z_dup2 hC rfl rfl dX6_need_84 ?_
      refine z_iald hC hG rfl rfl rfl hy79_3 hV dX6_need_85 ?_
      intro x2 hx2 hV
      refine z_aload_n hC zvr_a rfl (hL.at 0 rfl) dX6_need_86 ?_
      refine z_getA hC hG kFX6_155_6 rfl rfl dX6_need_87 ?_
      refine z_iload_n hC rfl (hL.at 2 rfl) dX6_need_90 ?_
      refine z_iald hC hG rfl rfl rfl hy79_3 hV dX6_need_91 ?_
      intro x3 hx3 hV
      refine z_iload_n hC rfl (hL.at 1 rfl) dX6_need_92 ?_
      obtain ⟨J101, eJ101, hV⟩ := zjn_abs hV
      have hJ101 : ∀ {H : Heap} {locs : List Loc}, zS P s H79 H locs → ∀ (z101_3 : Int), (z101_3 = 0 ∨ z101_3 = 1) → J101 z101_3 → ∀ (ls : Array Slot), zL ls 5 [(0, .ref (zA P 5 0 0)), (2, .int (zI p1)), (3, .int (zI y79_3))] → W p l e rX6_need s m args below meth c H locs 0 0 (MQ below (zQv P Q) args s 0 0 (zAr P)) (F0 m 101 ls [.int (zI z101_3), .int (zI x2), .int (zI y79_3), .ref (zA P 5 66 0)]) := by
        intro H locs hG z101_3 hz101_3 hV ls hL
        rw [eJ101] at hV
        refine z_iadd hC dX6_need_101 ?_
        refine z_iast hC hG rfl (Nat.le_of_ble_eq_true rfl) (Nat.le_of_ble_eq_true rfl) rfl rfl rfl hy79_3 (inR_w _) hV dX6_need_102 ?_
        intro G1 _ _ hG hV
        refine z_aload_n hC zvr_a rfl (hL.at 0 rfl) dX6_need_103 ?_
        refine z_getA hC hG kFX6_155_6 rfl rfl dX6_need_104 ?_
        refine z_iload_n hC rfl (hL.at 2 rfl) dX6_need_107 ?_
        refine z_iload_n hC rfl (hL.at 1 rfl) dX6_need_108 ?_
        refine z_iast hC hG rfl (Nat.le_of_ble_eq_true rfl) (Nat.le_of_ble_eq_true rfl) rfl rfl rfl hy79_3 hp1 hV dX6_need_109 ?_
        intro G2 _ _ hG hV
        exact z_vret hC hG hr hk hV (Nat.le_of_ble_eq_true rfl) (Nat.le_of_ble_eq_true rfl) dX6_need_110
      refine z_icmp_ne (tgt := 100) hC hx3 hp1 hV dX6_need_93 (by decide) ?_ ?_
      · intro hV
        refine z_iconst hC dX6_need_100 ?_
        exact hJ101 hG 1 (Or.inr rfl) hV _ hL
      · intro hV
        refine z_iconst hC dX6_need_96 ?_
        refine z_goto (tgt := 101) hC dX6_need_97 (by decide) ?_
        exact hJ101 hG 0 (Or.inl rfl) hV _ hL
    refine z_icmp_ne (tgt := 79) hC ha5_3 (inR_lit rfl) hV dX6_need_40 (by decide) ?_ ?_
    · intro hV
      exact hJ79 a5_3 G ha5_3 hV _ _ _ hG (hL.sub [0, 2, 3] rfl)
    · intro hV
      refine z_aload_n hC zvr_a rfl (hL.at 0 rfl) dX6_need_43 ?_
      refine z_getF hC hG kFX6_324_6 rfl rfl hV dX6_need_44 ?_
      intro x4 hx4 hV
      refine z_istore_n (lv' := [(3, .int (zI x4)), (0, .ref (zA P 5 0 0)), (1, .int (zI p0)), (2, .int (zI p1)), (4, .int (zI a5_4))]) hC rfl hL (by decide) rfl dX6_need_47 (fun ls hL => ?_)
      refine z_aload_n hC zvr_a rfl (hL.at 1 rfl) dX6_need_48 ?_
      refine z_getA hC hG kFX6_149_6 rfl rfl dX6_need_49 ?_
      refine z_iload_n hC rfl (hL.at 0 rfl) dX6_need_52 ?_
      refine z_iload_n hC rfl (hL.at 2 rfl) dX6_need_53 ?_
      refine z_iast hC hG rfl (Nat.le_of_ble_eq_true rfl) (Nat.le_of_ble_eq_true rfl) rfl rfl rfl hx4 hp0 hV dX6_need_54 ?_
      intro G3 _ _ hG hV
      refine z_aload_n hC zvr_a rfl (hL.at 1 rfl) dX6_need_55 ?_
      refine z_getA hC hG kFX6_152_6 rfl rfl dX6_need_56 ?_
      refine z_iload_n hC rfl (hL.at 0 rfl) dX6_need_59 ?_
      refine z_iconst hC dX6_need_60 ?_
      refine z_iast hC hG rfl (Nat.le_of_ble_eq_true rfl) (Nat.le_of_ble_eq_true rfl) rfl rfl rfl hx4 (inR_lit rfl) hV dX6_need_61 ?_
      intro G4 _ _ hG hV
      refine z_aload_n hC zvr_a rfl (hL.at 1 rfl) dX6_need_62 ?_
      refine z_getA hC hG kFX6_155_6 rfl rfl dX6_need_63 ?_
      refine z_iload_n hC rfl (hL.at 0 rfl) dX6_need_66 ?_
      refine z_iconst hC dX6_need_67 ?_
      refine z_iast hC hG rfl (Nat.le_of_ble_eq_true rfl) (Nat.le_of_ble_eq_true rfl) rfl rfl rfl hx4 (inR_lit rfl) hV dX6_need_68 ?_
      intro G5 _ _ hG hV
      refine z_aload_n hC zvr_a rfl (hL.at 1 rfl) dX6_need_69 ?_
      refine z_dup hC rfl dX6_need_70 ?_
      refine z_getF hC hG kFX6_324_6 rfl rfl hV dX6_need_71 ?_
      intro x5 hx5 hV
      refine z_iconst hC dX6_need_74 ?_
      refine z_iadd hC dX6_need_75 ?_
      refine z_putF hC hG kFX6_324_6 rfl rfl rfl rfl nk_6_67 (inR_w _) (Or.inl rfl) hV dX6_need_76 ?_
      intro G6 _ _ hG hV
      exact hJ79 x4 G6 hx4 hV _ _ _ hG (hL.sub [1, 3, 0] rfl)
  · intro hV
    refine z_aload_n hC zvr_a rfl (hL.at 0 rfl) dX6_need_14 ?_
    refine z_getA hC hG kFX6_149_6 rfl rfl dX6_need_15 ?_
    refine z_iload hC (hL.at 4 rfl) dX6_need_18 ?_
    refine z_iald hC hG rfl rfl rfl ha5_4 hV dX6_need_20 ?_
    intro x6 hx6 hV
    refine z_iload_n hC rfl (hL.at 1 rfl) dX6_need_21 ?_
    obtain ⟨J31, eJ31, hV⟩ := zjn_abs hV
    have hJ31 : ∀ {H : Heap} {locs : List Loc}, zS P s G H locs → ∀ (z31_0 : Int), inR z31_0 → J31 z31_0 → ∀ (ls : Array Slot), zL ls 5 [(0, .ref (zA P 5 0 0)), (1, .int (zI p0)), (2, .int (zI p1)), (4, .int (zI a5_4))] → W p l e rX6_need s m args below meth c H locs 0 0 (MQ below (zQv P Q) args s 0 0 (zAr P)) (F0 m 31 ls [.int (zI z31_0)]) := by
      intro H locs hG z31_0 hz31_0 hV ls hL
      rw [eJ31] at hV
      refine z_istore_n (lv' := [(3, .int (zI z31_0)), (0, .ref (zA P 5 0 0)), (1, .int (zI p0)), (2, .int (zI p1)), (4, .int (zI a5_4))]) hC rfl hL (by decide) rfl dX6_need_31 (fun ls hL => ?_)
      refine z_iincV (fun x7 => [(4, .int (zI x7)), (3, .int (zI z31_0)), (0, .ref (zA P 5 0 0)), (1, .int (zI p0)), (2, .int (zI p1))]) hC hL (k := 4) rfl (by decide) (fun _ => rfl) hV dX6_need_32 ?_
      intro x7 hx7 hV ls hL
      refine z_goto (tgt := 5) hC dX6_need_35 (by decide) ?_
      exact hP5 z31_0 x7 hV hz31_0 hx7 _ _ hG _ (hL.sub [2, 3, 4, 1, 0] rfl)
    refine z_icmp_ne (tgt := 30) hC hx6 hp0 hV dX6_need_22 (by decide) ?_ ?_
    · intro hV
      refine z_iload_n hC rfl (hL.at 3 rfl) dX6_need_30 ?_
      exact hJ31 hG a5_3 ha5_3 hV _ (hL.sub [0, 1, 2, 4] rfl)
    · intro hV
      refine z_iload hC (hL.at 4 rfl) dX6_need_25 ?_
      refine z_goto (tgt := 31) hC dX6_need_27 (by decide) ?_
      exact hJ31 hG a5_4 ha5_4 hV _ (hL.sub [0, 1, 2, 4] rfl)
abbrev rX6_needsOf : Room := { frames := 5, cells := 0, slots := 0, locals := 105 }
def vX6_needsOf (p0 : Int) (G : ZG) (Q : ZG → Prop) : Prop := zl3 (fun (P4 : Int → Int → ZG → Prop) (a4_2 : Int) (a4_3 : Int) (K4 : ZG) => zgF K4 5 21 fun (x1 : Int) => zbr (x1 ≤ a4_3) (zl2 (fun (P46 : Int → ZG → Prop) (a46_2 : Int) (K46 : ZG) => zbr (a46_2 ≤ 0) (Q K46) (zlt1 (w32 (a46_2 + (-1))) fun (x2 : Int) => zaL K46 5 30 256 x2 fun (x3 : Int) => zaL K46 5 68 256 x2 fun (x4 : Int) => zaL K46 5 10 60 x3 fun (x5 : Int) => zjn (fun (z100_0 : Int) => zjn (fun (z117_0 : Int) (H117 : ZG) => zjn (fun (H138 : ZG) => zjn (fun (z185_0 : Int) => zjn (fun (z217_0 : Int) => zl3 (fun (P222 : Int → Int → ZG → Prop) (a222_2 : Int) (a222_10 : Int) (K222 : ZG) => zjn (fun (_ : Unit) => P46 a222_2 K222) fun J309 => zbr (3 ≤ a222_10) (J309 ()) (zbr (z185_0 = 0) (J309 ()) (zaL K222 5 13 180 (w32 ((w32 (3 * x3)) + a222_10)) fun (x6 : Int) => zjn (fun (y303_2 : Int) (H303 : ZG) => zlt1 (w32 (a222_10 + 1)) fun (x7 : Int) => P222 y303_2 x7 H303) fun J303 => zbr (x6 = (-1)) (J303 a222_2 K222) (zaL K222 5 13 180 (w32 ((w32 (3 * x3)) + a222_10)) fun (x8 : Int) => zaS K222 5 30 256 a222_2 x8 fun (G1 : ZG) => zjn (fun (z299_2 : Int) => zaS G1 5 68 256 a222_2 z299_2 fun (G2 : ZG) => zlt1 (w32 (a222_2 + 1)) fun (x9 : Int) => J303 x9 G2) fun J299 => zjn (fun (_ : Unit) => J299 x4) fun J282 => zbr (x5 = 1) (J282 ()) (zbr (x5 ≠ 4) (J299 (w32 ((w32 ((w32 ((w32 (5 * x4)) + z217_0)) + a222_10)) + 1))) (J282 ())))))) x2 0 H138) fun J217 => zjn (fun (_ : Unit) => J217 0) fun J216 => zbr (x5 ≠ 6) (J216 ()) (zaL H138 5 12 60 x3 fun (x10 : Int) => zbr (x10 ≠ 2) (J216 ()) (zaL H138 5 11 60 x3 fun (x11 : Int) => J217 (w32 (z117_0 - x11))))) fun J185 => zjn (fun (_ : Unit) => J185 1) fun J180 => zbr (x5 = 1) (J180 ()) (zbr (x5 = 4) (J180 ()) (zjn (fun (_ : Unit) => J185 0) fun J184 => zjn (fun (_ : Unit) => zbr (z117_0 = (-9)) (J184 ()) (vX6_isRight x3 z117_0 H138 fun (x12 : Int) => zbr (x12 = 0) (J184 ()) (J180 ()))) fun J163 => zbr (x5 = 3) (J163 ()) (zbr (x5 ≠ 6) (J184 ()) (J163 ()))))) fun J138 => zbr (z100_0 = 0) (J138 H117) (zbr (z117_0 ≠ (-9)) (J138 H117) (vX6_need x4 p0 H117 fun (G3 : ZG) => J138 G3))) fun J117 => zbr (z100_0 = 0) (J117 0 K46) (vX6_factAt x4 K46 fun (x13 : Int) (G4 : ZG) => J117 x13 G4)) fun J100 => zjn (fun (_ : Unit) => J100 1) fun J95 => zbr (x5 = 2) (J95 ()) (zbr (x5 = 3) (J95 ()) (zbr (x5 ≠ 6) (J100 0) (J95 ()))))) a4_2 K4) (zaL K4 5 24 24 (w32 ((w32 (3 * p0)) + a4_3)) fun (x14 : Int) => zaS K4 5 30 256 a4_2 x14 fun (G5 : ZG) => zaS G5 5 68 256 a4_2 (w32 (a4_3 + 1)) fun (G6 : ZG) => zlt1 (w32 (a4_2 + 1)) fun (x15 : Int) => zlt1 (w32 (a4_3 + 1)) fun (x16 : Int) => P4 x15 x16 G6)) 0 0 G
set_option maxHeartbeats 4000000 in
theorem mX6_needsOf (l : Launch) (P : ZP) (G : ZG) (p0 : Int) (hp0 : inR p0) {Q : ZG → Prop} (hV : vX6_needsOf p0 G Q) : Met l yX6_needsOf (ws_ yX6_needsOf cX6_needsOf 11 none) rX6_needsOf (zPc P G [.ref (zA P 5 0 0), .int (zI p0)]) (zQv P Q) 0 0 (zAr P) := by
  refine zMet RX6 (plainFor_of_name (by decide)) rfl (zcs_c rfl (zcs_c rfl zcs_0)) (Nat.le_of_ble_eq_true rfl) (fun p e s m args below meth c ls hC hr hk hn hG hL => ?_)
  unfold vX6_needsOf at hV
  refine z_iconst hC dX6_needsOf_0 ?_
  refine z_istore_n (lv' := [(2, .int (zI 0)), (0, .ref (zA P 5 0 0)), (1, .int (zI p0))]) hC rfl hL (by decide) rfl dX6_needsOf_1 (fun ls hL => ?_)
  refine z_iconst hC dX6_needsOf_2 ?_
  refine z_istore_n (lv' := [(3, .int (zI 0)), (2, .int (zI 0)), (0, .ref (zA P 5 0 0)), (1, .int (zI p0))]) hC rfl hL (by decide) rfl dX6_needsOf_3 (fun ls hL => ?_)
  refine zl3_use hV (fun (a4_2 : Int) (a4_3 : Int) (K4 : ZG) => inR a4_2 → inR a4_3 → ∀ (H : Heap) (locs : List Loc), zS P s K4 H locs → ∀ (ls : Array Slot), zL ls 11 [(0, .ref (zA P 5 0 0)), (1, .int (zI p0)), (2, .int (zI a4_2)), (3, .int (zI a4_3))] → W p l e rX6_needsOf s m args below meth c H locs 0 0 (MQ below (zQv P Q) args s 0 0 (zAr P)) (F0 m 4 ls [])) ?_ (inR_lit rfl) (inR_lit rfl) _ _ hG _ (hL.sub [2, 3, 1, 0] rfl)
  intro P4 a4_2 a4_3 K4 hP4 hV ha4_2 ha4_3 H locs hG ls hL
  refine z_iload_n hC rfl (hL.at 3 rfl) dX6_needsOf_4 ?_
  refine z_aload_n hC zvr_a rfl (hL.at 0 rfl) dX6_needsOf_5 ?_
  refine z_getF hC hG kFX6_231_6 rfl rfl hV dX6_needsOf_6 ?_
  intro x1 hx1 hV
  refine z_icmp_ge (tgt := 46) hC ha4_3 hx1 hV dX6_needsOf_9 (by decide) ?_ ?_
  · intro hV
    refine zl2_use hV (fun (a46_2 : Int) (K46 : ZG) => inR a46_2 → ∀ (H : Heap) (locs : List Loc), zS P s K46 H locs → ∀ (ls : Array Slot), zL ls 11 [(0, .ref (zA P 5 0 0)), (1, .int (zI p0)), (2, .int (zI a46_2))] → W p l e rX6_needsOf s m args below meth c H locs 0 0 (MQ below (zQv P Q) args s 0 0 (zAr P)) (F0 m 46 ls [])) ?_ ha4_2 _ _ hG _ (hL.sub [0, 1, 2] rfl)
    intro P46 a46_2 K46 hP46 hV ha46_2 H locs hG ls hL
    refine z_iload_n hC rfl (hL.at 2 rfl) dX6_needsOf_46 ?_
    refine z_if_le (tgt := 312) hC ha46_2 hV dX6_needsOf_47 (by decide) ?_ ?_
    · intro hV
      exact z_vret hC hG hr hk hV (Nat.le_of_ble_eq_true rfl) (Nat.le_of_ble_eq_true rfl) dX6_needsOf_312
    · intro hV
      refine z_iincV (fun x2 => [(2, .int (zI x2)), (0, .ref (zA P 5 0 0)), (1, .int (zI p0))]) hC hL (k := 2) rfl (by decide) (fun _ => rfl) hV dX6_needsOf_50 ?_
      intro x2 hx2 hV ls hL
      refine z_aload_n hC zvr_a rfl (hL.at 1 rfl) dX6_needsOf_53 ?_
      refine z_getA hC hG kFX6_86_6 rfl rfl dX6_needsOf_54 ?_
      refine z_iload_n hC rfl (hL.at 0 rfl) dX6_needsOf_57 ?_
      refine z_iald hC hG rfl rfl rfl hx2 hV dX6_needsOf_58 ?_
      intro x3 hx3 hV
      refine z_istore_n (lv' := [(3, .int (zI x3)), (2, .int (zI x2)), (0, .ref (zA P 5 0 0)), (1, .int (zI p0))]) hC rfl hL (by decide) rfl dX6_needsOf_59 (fun ls hL => ?_)
      refine z_aload_n hC zvr_a rfl (hL.at 2 rfl) dX6_needsOf_60 ?_
      refine z_getA hC hG kFX6_158_6 rfl rfl dX6_needsOf_61 ?_
      refine z_iload_n hC rfl (hL.at 1 rfl) dX6_needsOf_64 ?_
      refine z_iald hC hG rfl rfl rfl hx2 hV dX6_needsOf_65 ?_
      intro x4 hx4 hV
      refine z_istore (lv' := [(4, .int (zI x4)), (3, .int (zI x3)), (2, .int (zI x2)), (0, .ref (zA P 5 0 0)), (1, .int (zI p0))]) hC hL (by decide) rfl dX6_needsOf_66 (fun ls hL => ?_)
      refine z_aload_n hC zvr_a rfl (hL.at 3 rfl) dX6_needsOf_68 ?_
      refine z_getA hC hG kFX6_31_6 rfl rfl dX6_needsOf_69 ?_
      refine z_iload_n hC rfl (hL.at 1 rfl) dX6_needsOf_72 ?_
      refine z_iald hC hG rfl rfl rfl hx3 hV dX6_needsOf_73 ?_
      intro x5 hx5 hV
      refine z_istore (lv' := [(5, .int (zI x5)), (4, .int (zI x4)), (3, .int (zI x3)), (2, .int (zI x2)), (0, .ref (zA P 5 0 0)), (1, .int (zI p0))]) hC hL (by decide) rfl dX6_needsOf_74 (fun ls hL => ?_)
      refine z_iload hC (hL.at 0 rfl) dX6_needsOf_76 ?_
      refine z_iconst hC dX6_needsOf_78 ?_
      obtain ⟨J100, eJ100, hV⟩ := zjn_abs hV
      have hJ100 : ∀ {H : Heap} {locs : List Loc}, zS P s K46 H locs → ∀ (z100_0 : Int), (z100_0 = 0 ∨ z100_0 = 1) → J100 z100_0 → ∀ (ls : Array Slot), zL ls 11 [(0, .ref (zA P 5 0 0)), (1, .int (zI p0)), (2, .int (zI x2)), (3, .int (zI x3)), (4, .int (zI x4)), (5, .int (zI x5))] → W p l e rX6_needsOf s m args below meth c H locs 0 0 (MQ below (zQv P Q) args s 0 0 (zAr P)) (F0 m 100 ls [.int (zI z100_0)]) := by
        intro H locs hG z100_0 hz100_0 hV ls hL
        rw [eJ100] at hV
        refine z_istore (lv' := [(6, .int (zI z100_0)), (0, .ref (zA P 5 0 0)), (1, .int (zI p0)), (2, .int (zI x2)), (3, .int (zI x3)), (4, .int (zI x4)), (5, .int (zI x5))]) hC hL (by decide) rfl dX6_needsOf_100 (fun ls hL => ?_)
        refine z_iload hC (hL.at 0 rfl) dX6_needsOf_102 ?_
        obtain ⟨J117, eJ117, hV⟩ := zjn_abs hV
        have hJ117 : ∀ (z117_0 : Int) (H117 : ZG), inR z117_0 → J117 z117_0 H117 → ∀ (H : Heap) (locs : List Loc) (ls : Array Slot), zS P s H117 H locs → zL ls 11 [(0, .ref (zA P 5 0 0)), (1, .int (zI p0)), (2, .int (zI x2)), (3, .int (zI x3)), (4, .int (zI x4)), (5, .int (zI x5)), (6, .int (zI z100_0))] → W p l e rX6_needsOf s m args below meth c H locs 0 0 (MQ below (zQv P Q) args s 0 0 (zAr P)) (F0 m 117 ls [.int (zI z117_0)]) := by
          intro z117_0 H117 hz117_0 hV H locs ls hG hL
          rw [eJ117] at hV
          refine z_istore (lv' := [(7, .int (zI z117_0)), (0, .ref (zA P 5 0 0)), (1, .int (zI p0)), (2, .int (zI x2)), (3, .int (zI x3)), (4, .int (zI x4)), (5, .int (zI x5)), (6, .int (zI z100_0))]) hC hL (by decide) rfl dX6_needsOf_117 (fun ls hL => ?_)
          refine z_iload hC (hL.at 7 rfl) dX6_needsOf_119 ?_
          obtain ⟨J138, eJ138, hV⟩ := zjn_abs hV
          have hJ138 : ∀ (H138 : ZG), J138 H138 → ∀ (H : Heap) (locs : List Loc) (ls : Array Slot), zS P s H138 H locs → zL ls 11 [(0, .ref (zA P 5 0 0)), (1, .int (zI p0)), (2, .int (zI x2)), (3, .int (zI x3)), (4, .int (zI x4)), (5, .int (zI x5)), (7, .int (zI z117_0))] → W p l e rX6_needsOf s m args below meth c H locs 0 0 (MQ below (zQv P Q) args s 0 0 (zAr P)) (F0 m 138 ls []) := by
            intro H138 hV H locs ls hG hL
            rw [eJ138] at hV
            refine z_iload hC (hL.at 5 rfl) dX6_needsOf_138 ?_
            refine z_iconst hC dX6_needsOf_140 ?_
            obtain ⟨J185, eJ185, hV⟩ := zjn_abs hV
            have hJ185 : ∀ {H : Heap} {locs : List Loc}, zS P s H138 H locs → ∀ (z185_0 : Int), (z185_0 = 0 ∨ z185_0 = 1) → J185 z185_0 → ∀ (ls : Array Slot), zL ls 11 [(0, .ref (zA P 5 0 0)), (1, .int (zI p0)), (2, .int (zI x2)), (3, .int (zI x3)), (4, .int (zI x4)), (5, .int (zI x5)), (7, .int (zI z117_0))] → W p l e rX6_needsOf s m args below meth c H locs 0 0 (MQ below (zQv P Q) args s 0 0 (zAr P)) (F0 m 185 ls [.int (zI z185_0)]) := by
              intro H locs hG z185_0 hz185_0 hV ls hL
              rw [eJ185] at hV
              refine z_istore (lv' := [(8, .int (zI z185_0)), (0, .ref (zA P 5 0 0)), (1, .int (zI p0)), (2, .int (zI x2)), (3, .int (zI x3)), (4, .int (zI x4)), (5, .int (zI x5)), (7, .int (zI z117_0))]) hC hL (by decide) rfl dX6_needsOf_185 (fun ls hL => ?_)
              refine z_iload hC (hL.at 6 rfl) dX6_needsOf_187 ?_
              refine z_bipush hC rfl dX6_needsOf_189 ?_
              obtain ⟨J217, eJ217, hV⟩ := zjn_abs hV
              have hJ217 : ∀ {H : Heap} {locs : List Loc}, zS P s H138 H locs → ∀ (z217_0 : Int), inR z217_0 → J217 z217_0 → ∀ (ls : Array Slot), zL ls 11 [(0, .ref (zA P 5 0 0)), (1, .int (zI p0)), (2, .int (zI x2)), (3, .int (zI x3)), (4, .int (zI x4)), (5, .int (zI x5)), (8, .int (zI z185_0))] → W p l e rX6_needsOf s m args below meth c H locs 0 0 (MQ below (zQv P Q) args s 0 0 (zAr P)) (F0 m 217 ls [.int (zI z217_0)]) := by
                intro H locs hG z217_0 hz217_0 hV ls hL
                rw [eJ217] at hV
                refine z_istore (lv' := [(9, .int (zI z217_0)), (0, .ref (zA P 5 0 0)), (1, .int (zI p0)), (2, .int (zI x2)), (3, .int (zI x3)), (4, .int (zI x4)), (5, .int (zI x5)), (8, .int (zI z185_0))]) hC hL (by decide) rfl dX6_needsOf_217 (fun ls hL => ?_)
                refine z_iconst hC dX6_needsOf_219 ?_
                refine z_istore (lv' := [(10, .int (zI 0)), (9, .int (zI z217_0)), (0, .ref (zA P 5 0 0)), (1, .int (zI p0)), (2, .int (zI x2)), (3, .int (zI x3)), (4, .int (zI x4)), (5, .int (zI x5)), (8, .int (zI z185_0))]) hC hL (by decide) rfl dX6_needsOf_220 (fun ls hL => ?_)
                refine zl3_use hV (fun (a222_2 : Int) (a222_10 : Int) (K222 : ZG) => inR a222_2 → inR a222_10 → ∀ (H : Heap) (locs : List Loc), zS P s K222 H locs → ∀ (ls : Array Slot), zL ls 11 [(0, .ref (zA P 5 0 0)), (1, .int (zI p0)), (2, .int (zI a222_2)), (3, .int (zI x3)), (4, .int (zI x4)), (5, .int (zI x5)), (8, .int (zI z185_0)), (9, .int (zI z217_0)), (10, .int (zI a222_10))] → W p l e rX6_needsOf s m args below meth c H locs 0 0 (MQ below (zQv P Q) args s 0 0 (zAr P)) (F0 m 222 ls [])) ?_ hx2 (inR_lit rfl) _ _ hG _ (hL.sub [2, 3, 4, 5, 6, 7, 8, 1, 0] rfl)
                intro P222 a222_2 a222_10 K222 hP222 hV ha222_2 ha222_10 H locs hG ls hL
                refine z_iload hC (hL.at 8 rfl) dX6_needsOf_222 ?_
                refine z_iconst hC dX6_needsOf_224 ?_
                obtain ⟨J309, eJ309, hV⟩ := zjn_abs hV
                have hJ309 : ∀ {H : Heap} {locs : List Loc}, zS P s K222 H locs → J309 () → ∀ (ls : Array Slot), zL ls 11 [(0, .ref (zA P 5 0 0)), (1, .int (zI p0)), (2, .int (zI a222_2))] → W p l e rX6_needsOf s m args below meth c H locs 0 0 (MQ below (zQv P Q) args s 0 0 (zAr P)) (F0 m 309 ls []) := by
                  intro H locs hG hV ls hL
                  rw [eJ309] at hV
                  refine z_goto (tgt := 46) hC dX6_needsOf_309 (by decide) ?_
                  exact hP46 a222_2 K222 hV ha222_2 _ _ hG _ hL
                refine z_icmp_ge (tgt := 309) hC ha222_10 (inR_lit rfl) hV dX6_needsOf_225 (by decide) ?_ ?_
                · intro hV
                  exact hJ309 hG hV _ (hL.sub [0, 1, 2] rfl)
                · intro hV
                  refine z_iload hC (hL.at 6 rfl) dX6_needsOf_228 ?_
                  refine z_if_eq (tgt := 309) hC (inR_b hz185_0) hV dX6_needsOf_230 (by decide) ?_ ?_
                  · intro hV
                    exact hJ309 hG hV _ (hL.sub [0, 1, 2] rfl)
                  · intro hV
                    refine z_aload_n hC zvr_a rfl (hL.at 0 rfl) dX6_needsOf_233 ?_
                    refine z_getA hC hG kFX6_40_6 rfl rfl dX6_needsOf_234 ?_
                    refine z_iconst hC dX6_needsOf_237 ?_
                    refine z_iload_n hC rfl (hL.at 3 rfl) dX6_needsOf_238 ?_
                    refine z_imul hC dX6_needsOf_239 ?_
                    refine z_iload hC (hL.at 8 rfl) dX6_needsOf_240 ?_
                    refine z_iadd hC dX6_needsOf_242 ?_
                    refine z_iald hC hG rfl rfl rfl (inR_w _) hV dX6_needsOf_243 ?_
                    intro x6 hx6 hV
                    refine z_iconst hC dX6_needsOf_244 ?_
                    obtain ⟨J303, eJ303, hV⟩ := zjn_abs hV
                    have hJ303 : ∀ (y303_2 : Int) (H303 : ZG), inR y303_2 → J303 y303_2 H303 → ∀ (H : Heap) (locs : List Loc) (ls : Array Slot), zS P s H303 H locs → zL ls 11 [(0, .ref (zA P 5 0 0)), (1, .int (zI p0)), (2, .int (zI y303_2)), (3, .int (zI x3)), (4, .int (zI x4)), (5, .int (zI x5)), (8, .int (zI z185_0)), (9, .int (zI z217_0)), (10, .int (zI a222_10))] → W p l e rX6_needsOf s m args below meth c H locs 0 0 (MQ below (zQv P Q) args s 0 0 (zAr P)) (F0 m 303 ls []) := by
                      intro y303_2 H303 hy303_2 hV H locs ls hG hL
                      rw [eJ303] at hV
                      refine z_iincV (fun x7 => [(10, .int (zI x7)), (0, .ref (zA P 5 0 0)), (1, .int (zI p0)), (2, .int (zI y303_2)), (3, .int (zI x3)), (4, .int (zI x4)), (5, .int (zI x5)), (8, .int (zI z185_0)), (9, .int (zI z217_0))]) hC hL (k := 8) rfl (by decide) (fun _ => rfl) hV dX6_needsOf_303 ?_
                      intro x7 hx7 hV ls hL
                      refine z_goto (tgt := 222) hC dX6_needsOf_306 (by decide) ?_
                      exact hP222 y303_2 x7 H303 hV hy303_2 hx7 _ _ hG _ (hL.sub [1, 2, 3, 4, 5, 6, 7, 8, 0] rfl)
                    refine z_icmp_eq (tgt := 303) hC hx6 (inR_lit rfl) hV dX6_needsOf_245 (by decide) ?_ ?_
                    · intro hV
                      exact hJ303 a222_2 K222 ha222_2 hV _ _ _ hG hL
                    · intro hV
                      refine z_aload_n hC zvr_a rfl (hL.at 0 rfl) dX6_needsOf_248 ?_
                      refine z_getA hC hG kFX6_86_6 rfl rfl dX6_needsOf_249 ?_
                      refine z_iload_n hC rfl (hL.at 2 rfl) dX6_needsOf_252 ?_
                      refine z_aload_n hC zvr_a rfl (hL.at 0 rfl) dX6_needsOf_253 ?_
                      refine z_getA hC hG kFX6_40_6 rfl rfl dX6_needsOf_254 ?_
                      refine z_iconst hC dX6_needsOf_257 ?_
                      refine z_iload_n hC rfl (hL.at 3 rfl) dX6_needsOf_258 ?_
                      refine z_imul hC dX6_needsOf_259 ?_
                      refine z_iload hC (hL.at 8 rfl) dX6_needsOf_260 ?_
                      refine z_iadd hC dX6_needsOf_262 ?_
                      refine z_iald hC hG rfl rfl rfl (inR_w _) hV dX6_needsOf_263 ?_
                      intro x8 hx8 hV
                      refine z_iast hC hG rfl (Nat.le_of_ble_eq_true rfl) (Nat.le_of_ble_eq_true rfl) rfl rfl rfl ha222_2 hx8 hV dX6_needsOf_264 ?_
                      intro G1 _ _ hG hV
                      refine z_aload_n hC zvr_a rfl (hL.at 0 rfl) dX6_needsOf_265 ?_
                      refine z_getA hC hG kFX6_158_6 rfl rfl dX6_needsOf_266 ?_
                      refine z_iload_n hC rfl (hL.at 2 rfl) dX6_needsOf_269 ?_
                      refine z_iload hC (hL.at 5 rfl) dX6_needsOf_270 ?_
                      refine z_iconst hC dX6_needsOf_272 ?_
                      obtain ⟨J299, eJ299, hV⟩ := zjn_abs hV
                      have hJ299 : ∀ {H : Heap} {locs : List Loc}, zS P s G1 H locs → ∀ (z299_2 : Int), inR z299_2 → J299 z299_2 → ∀ (ls : Array Slot), zL ls 11 [(0, .ref (zA P 5 0 0)), (1, .int (zI p0)), (2, .int (zI a222_2)), (3, .int (zI x3)), (4, .int (zI x4)), (5, .int (zI x5)), (8, .int (zI z185_0)), (9, .int (zI z217_0)), (10, .int (zI a222_10))] → W p l e rX6_needsOf s m args below meth c H locs 0 0 (MQ below (zQv P Q) args s 0 0 (zAr P)) (F0 m 299 ls [.int (zI z299_2), .int (zI a222_2), .ref (zA P 5 69 0)]) := by
                        intro H locs hG z299_2 hz299_2 hV ls hL
                        rw [eJ299] at hV
                        refine z_iast hC hG rfl (Nat.le_of_ble_eq_true rfl) (Nat.le_of_ble_eq_true rfl) rfl rfl rfl ha222_2 hz299_2 hV dX6_needsOf_299 ?_
                        intro G2 _ _ hG hV
                        refine z_iincV (fun x9 => [(2, .int (zI x9)), (0, .ref (zA P 5 0 0)), (1, .int (zI p0)), (3, .int (zI x3)), (4, .int (zI x4)), (5, .int (zI x5)), (8, .int (zI z185_0)), (9, .int (zI z217_0)), (10, .int (zI a222_10))]) hC hL (k := 2) rfl (by decide) (fun _ => rfl) hV dX6_needsOf_300 ?_
                        intro x9 hx9 hV ls hL
                        exact hJ303 x9 G2 hx9 hV _ _ _ hG (hL.sub [1, 2, 0, 3, 4, 5, 6, 7, 8] rfl)
                      obtain ⟨J282, eJ282, hV⟩ := zjn_abs hV
                      have hJ282 : ∀ {H : Heap} {locs : List Loc}, zS P s G1 H locs → J282 () → ∀ (ls : Array Slot), zL ls 11 [(0, .ref (zA P 5 0 0)), (1, .int (zI p0)), (2, .int (zI a222_2)), (3, .int (zI x3)), (4, .int (zI x4)), (5, .int (zI x5)), (8, .int (zI z185_0)), (9, .int (zI z217_0)), (10, .int (zI a222_10))] → W p l e rX6_needsOf s m args below meth c H locs 0 0 (MQ below (zQv P Q) args s 0 0 (zAr P)) (F0 m 282 ls [.int (zI a222_2), .ref (zA P 5 69 0)]) := by
                        intro H locs hG hV ls hL
                        rw [eJ282] at hV
                        refine z_iload hC (hL.at 4 rfl) dX6_needsOf_282 ?_
                        refine z_goto (tgt := 299) hC dX6_needsOf_284 (by decide) ?_
                        exact hJ299 hG x4 hx4 hV _ hL
                      refine z_icmp_eq (tgt := 282) hC hx5 (inR_lit rfl) hV dX6_needsOf_273 (by decide) ?_ ?_
                      · intro hV
                        exact hJ282 hG hV _ hL
                      · intro hV
                        refine z_iload hC (hL.at 5 rfl) dX6_needsOf_276 ?_
                        refine z_iconst hC dX6_needsOf_278 ?_
                        refine z_icmp_ne (tgt := 287) hC hx5 (inR_lit rfl) hV dX6_needsOf_279 (by decide) ?_ ?_
                        · intro hV
                          refine z_iconst hC dX6_needsOf_287 ?_
                          refine z_iload hC (hL.at 4 rfl) dX6_needsOf_288 ?_
                          refine z_imul hC dX6_needsOf_290 ?_
                          refine z_iload hC (hL.at 7 rfl) dX6_needsOf_291 ?_
                          refine z_iadd hC dX6_needsOf_293 ?_
                          refine z_iload hC (hL.at 8 rfl) dX6_needsOf_294 ?_
                          refine z_iadd hC dX6_needsOf_296 ?_
                          refine z_iconst hC dX6_needsOf_297 ?_
                          refine z_iadd hC dX6_needsOf_298 ?_
                          exact hJ299 hG (w32 ((w32 ((w32 ((w32 (5 * x4)) + z217_0)) + a222_10)) + 1)) (inR_w _) hV _ hL
                        · intro hV
                          exact hJ282 hG hV _ hL
              obtain ⟨J216, eJ216, hV⟩ := zjn_abs hV
              have hJ216 : ∀ {H : Heap} {locs : List Loc}, zS P s H138 H locs → J216 () → ∀ (ls : Array Slot), zL ls 11 [(0, .ref (zA P 5 0 0)), (1, .int (zI p0)), (2, .int (zI x2)), (3, .int (zI x3)), (4, .int (zI x4)), (5, .int (zI x5)), (8, .int (zI z185_0))] → W p l e rX6_needsOf s m args below meth c H locs 0 0 (MQ below (zQv P Q) args s 0 0 (zAr P)) (F0 m 216 ls []) := by
                intro H locs hG hV ls hL
                rw [eJ216] at hV
                refine z_iconst hC dX6_needsOf_216 ?_
                exact hJ217 hG 0 (inR_lit rfl) hV _ hL
              refine z_icmp_ne (tgt := 216) hC hx5 (inR_lit rfl) hV dX6_needsOf_191 (by decide) ?_ ?_
              · intro hV
                exact hJ216 hG hV _ (hL.sub [1, 2, 3, 4, 5, 6, 0] rfl)
              · intro hV
                refine z_aload_n hC zvr_a rfl (hL.at 1 rfl) dX6_needsOf_194 ?_
                refine z_getA hC hG kFX6_37_6 rfl rfl dX6_needsOf_195 ?_
                refine z_iload_n hC rfl (hL.at 4 rfl) dX6_needsOf_198 ?_
                refine z_iald hC hG rfl rfl rfl hx3 hV dX6_needsOf_199 ?_
                intro x10 hx10 hV
                refine z_iconst hC dX6_needsOf_200 ?_
                refine z_icmp_ne (tgt := 216) hC hx10 (inR_lit rfl) hV dX6_needsOf_201 (by decide) ?_ ?_
                · intro hV
                  exact hJ216 hG hV _ (hL.sub [1, 2, 3, 4, 5, 6, 0] rfl)
                · intro hV
                  refine z_iload hC (hL.at 7 rfl) dX6_needsOf_204 ?_
                  refine z_aload_n hC zvr_a rfl (hL.at 1 rfl) dX6_needsOf_206 ?_
                  refine z_getA hC hG kFX6_34_6 rfl rfl dX6_needsOf_207 ?_
                  refine z_iload_n hC rfl (hL.at 4 rfl) dX6_needsOf_210 ?_
                  refine z_iald hC hG rfl rfl rfl hx3 hV dX6_needsOf_211 ?_
                  intro x11 hx11 hV
                  refine z_isub hC dX6_needsOf_212 ?_
                  refine z_goto (tgt := 217) hC dX6_needsOf_213 (by decide) ?_
                  exact hJ217 hG (w32 (z117_0 - x11)) (inR_w _) hV _ (hL.sub [1, 2, 3, 4, 5, 6, 0] rfl)
            obtain ⟨J180, eJ180, hV⟩ := zjn_abs hV
            have hJ180 : ∀ {H : Heap} {locs : List Loc}, zS P s H138 H locs → J180 () → ∀ (ls : Array Slot), zL ls 11 [(0, .ref (zA P 5 0 0)), (1, .int (zI p0)), (2, .int (zI x2)), (3, .int (zI x3)), (4, .int (zI x4)), (5, .int (zI x5)), (7, .int (zI z117_0))] → W p l e rX6_needsOf s m args below meth c H locs 0 0 (MQ below (zQv P Q) args s 0 0 (zAr P)) (F0 m 180 ls []) := by
              intro H locs hG hV ls hL
              rw [eJ180] at hV
              refine z_iconst hC dX6_needsOf_180 ?_
              refine z_goto (tgt := 185) hC dX6_needsOf_181 (by decide) ?_
              exact hJ185 hG 1 (Or.inr rfl) hV _ hL
            refine z_icmp_eq (tgt := 180) hC hx5 (inR_lit rfl) hV dX6_needsOf_141 (by decide) ?_ ?_
            · intro hV
              exact hJ180 hG hV _ hL
            · intro hV
              refine z_iload hC (hL.at 5 rfl) dX6_needsOf_144 ?_
              refine z_iconst hC dX6_needsOf_146 ?_
              refine z_icmp_eq (tgt := 180) hC hx5 (inR_lit rfl) hV dX6_needsOf_147 (by decide) ?_ ?_
              · intro hV
                exact hJ180 hG hV _ hL
              · intro hV
                refine z_iload hC (hL.at 5 rfl) dX6_needsOf_150 ?_
                refine z_iconst hC dX6_needsOf_152 ?_
                obtain ⟨J184, eJ184, hV⟩ := zjn_abs hV
                have hJ184 : ∀ {H : Heap} {locs : List Loc}, zS P s H138 H locs → J184 () → ∀ (ls : Array Slot), zL ls 11 [(0, .ref (zA P 5 0 0)), (1, .int (zI p0)), (2, .int (zI x2)), (3, .int (zI x3)), (4, .int (zI x4)), (5, .int (zI x5)), (7, .int (zI z117_0))] → W p l e rX6_needsOf s m args below meth c H locs 0 0 (MQ below (zQv P Q) args s 0 0 (zAr P)) (F0 m 184 ls []) := by
                  intro H locs hG hV ls hL
                  rw [eJ184] at hV
                  refine z_iconst hC dX6_needsOf_184 ?_
                  exact hJ185 hG 0 (Or.inl rfl) hV _ hL
                obtain ⟨J163, eJ163, hV⟩ := zjn_abs hV
                have hJ163 : ∀ {H : Heap} {locs : List Loc}, zS P s H138 H locs → J163 () → ∀ (ls : Array Slot), zL ls 11 [(0, .ref (zA P 5 0 0)), (1, .int (zI p0)), (2, .int (zI x2)), (3, .int (zI x3)), (4, .int (zI x4)), (5, .int (zI x5)), (7, .int (zI z117_0))] → W p l e rX6_needsOf s m args below meth c H locs 0 0 (MQ below (zQv P Q) args s 0 0 (zAr P)) (F0 m 163 ls []) := by
                  intro H locs hG hV ls hL
                  rw [eJ163] at hV
                  refine z_iload hC (hL.at 6 rfl) dX6_needsOf_163 ?_
                  refine z_bipush hC rfl dX6_needsOf_165 ?_
                  refine z_icmp_eq (tgt := 184) hC hz117_0 (inR_lit rfl) hV dX6_needsOf_167 (by decide) ?_ ?_
                  · intro hV
                    exact hJ184 hG hV _ hL
                  · intro hV
                    refine z_aload_n hC zvr_a rfl (hL.at 0 rfl) dX6_needsOf_170 ?_
                    refine z_iload_n hC rfl (hL.at 3 rfl) dX6_needsOf_171 ?_
                    refine z_iload hC (hL.at 6 rfl) dX6_needsOf_172 ?_
                    refine z_call_z hG (zrunV (ci := 6) hC hG (Nat.le_of_ble_eq_true rfl) (Nat.le_of_ble_eq_true rfl) (zobj hG rfl (Nat.le_of_ble_eq_true rfl) (Nat.le_of_ble_eq_true rfl)) (mX6_isRight l P H138 x3 hx3 z117_0 hz117_0 hV) kVX6_311 rfl rfl rfl ⟨(Nat.le_of_ble_eq_true rfl), (Nat.le_of_ble_eq_true rfl)⟩ ⟨(Nat.le_of_ble_eq_true rfl), (Nat.le_of_ble_eq_true rfl)⟩ rfl ⟨zcs_0, (Nat.le_of_ble_eq_true rfl)⟩ hL.1.1 dX6_needsOf_174) ?_
                    rintro x12 _ _ _ hx12 ⟨rfl, hV⟩ hG
                    refine z_if_eq (tgt := 184) hC (inR_b hx12) hV dX6_needsOf_177 (by decide) ?_ ?_
                    · intro hV
                      exact hJ184 hG hV _ hL
                    · intro hV
                      exact hJ180 hG hV _ hL
                refine z_icmp_eq (tgt := 163) hC hx5 (inR_lit rfl) hV dX6_needsOf_153 (by decide) ?_ ?_
                · intro hV
                  exact hJ163 hG hV _ hL
                · intro hV
                  refine z_iload hC (hL.at 5 rfl) dX6_needsOf_156 ?_
                  refine z_bipush hC rfl dX6_needsOf_158 ?_
                  refine z_icmp_ne (tgt := 184) hC hx5 (inR_lit rfl) hV dX6_needsOf_160 (by decide) ?_ ?_
                  · intro hV
                    exact hJ184 hG hV _ hL
                  · intro hV
                    exact hJ163 hG hV _ hL
          refine z_if_eq (tgt := 138) hC (inR_b hz100_0) hV dX6_needsOf_121 (by decide) ?_ ?_
          · intro hV
            exact hJ138 H117 hV _ _ _ hG (hL.sub [1, 2, 3, 4, 5, 6, 0] rfl)
          · intro hV
            refine z_iload hC (hL.at 0 rfl) dX6_needsOf_124 ?_
            refine z_bipush hC rfl dX6_needsOf_126 ?_
            refine z_icmp_ne (tgt := 138) hC hz117_0 (inR_lit rfl) hV dX6_needsOf_128 (by decide) ?_ ?_
            · intro hV
              exact hJ138 H117 hV _ _ _ hG (hL.sub [1, 2, 3, 4, 5, 6, 0] rfl)
            · intro hV
              refine z_aload_n hC zvr_a rfl (hL.at 1 rfl) dX6_needsOf_131 ?_
              refine z_iload hC (hL.at 5 rfl) dX6_needsOf_132 ?_
              refine z_iload_n hC rfl (hL.at 2 rfl) dX6_needsOf_134 ?_
              refine z_call_v hG (zrunV (ci := 6) hC hG (Nat.le_of_ble_eq_true rfl) (Nat.le_of_ble_eq_true rfl) (zobj hG rfl (Nat.le_of_ble_eq_true rfl) (Nat.le_of_ble_eq_true rfl)) (mX6_need l P H117 x4 hx4 p0 hp0 hV) kVX6_327 rfl rfl rfl ⟨(Nat.le_of_ble_eq_true rfl), (Nat.le_of_ble_eq_true rfl)⟩ ⟨(Nat.le_of_ble_eq_true rfl), (Nat.le_of_ble_eq_true rfl)⟩ rfl ⟨zcs_0, (Nat.le_of_ble_eq_true rfl)⟩ hL.1.1 dX6_needsOf_135) ?_
              rintro G3 _ _ hV hG
              exact hJ138 G3 hV _ _ _ hG (hL.sub [1, 2, 3, 4, 5, 6, 0] rfl)
        refine z_if_eq (tgt := 116) hC (inR_b hz100_0) hV dX6_needsOf_104 (by decide) ?_ ?_
        · intro hV
          refine z_iconst hC dX6_needsOf_116 ?_
          exact hJ117 0 K46 (inR_lit rfl) hV _ _ _ hG (hL.sub [1, 2, 3, 4, 5, 6, 0] rfl)
        · intro hV
          refine z_aload_n hC zvr_a rfl (hL.at 1 rfl) dX6_needsOf_107 ?_
          refine z_iload hC (hL.at 5 rfl) dX6_needsOf_108 ?_
          refine z_call_i hG (zrunV (ci := 6) hC hG (Nat.le_of_ble_eq_true rfl) (Nat.le_of_ble_eq_true rfl) (zobj hG rfl (Nat.le_of_ble_eq_true rfl) (Nat.le_of_ble_eq_true rfl)) (mX6_factAt l P K46 x4 hx4 hV) kVX6_305 rfl rfl rfl ⟨(Nat.le_of_ble_eq_true rfl), (Nat.le_of_ble_eq_true rfl)⟩ ⟨(Nat.le_of_ble_eq_true rfl), (Nat.le_of_ble_eq_true rfl)⟩ rfl ⟨zcs_0, (Nat.le_of_ble_eq_true rfl)⟩ hL.1.1 dX6_needsOf_110) ?_
          rintro x13 G4 _ _ hx13 hV hG
          refine z_goto (tgt := 117) hC dX6_needsOf_113 (by decide) ?_
          exact hJ117 x13 G4 hx13 hV _ _ _ hG (hL.sub [1, 2, 3, 4, 5, 6, 0] rfl)
      obtain ⟨J95, eJ95, hV⟩ := zjn_abs hV
      have hJ95 : ∀ {H : Heap} {locs : List Loc}, zS P s K46 H locs → J95 () → ∀ (ls : Array Slot), zL ls 11 [(0, .ref (zA P 5 0 0)), (1, .int (zI p0)), (2, .int (zI x2)), (3, .int (zI x3)), (4, .int (zI x4)), (5, .int (zI x5))] → W p l e rX6_needsOf s m args below meth c H locs 0 0 (MQ below (zQv P Q) args s 0 0 (zAr P)) (F0 m 95 ls []) := by
        intro H locs hG hV ls hL
        rw [eJ95] at hV
        refine z_iconst hC dX6_needsOf_95 ?_
        refine z_goto (tgt := 100) hC dX6_needsOf_96 (by decide) ?_
        exact hJ100 hG 1 (Or.inr rfl) hV _ hL
      refine z_icmp_eq (tgt := 95) hC hx5 (inR_lit rfl) hV dX6_needsOf_79 (by decide) ?_ ?_
      · intro hV
        exact hJ95 hG hV _ (hL.sub [4, 5, 3, 2, 1, 0] rfl)
      · intro hV
        refine z_iload hC (hL.at 0 rfl) dX6_needsOf_82 ?_
        refine z_iconst hC dX6_needsOf_84 ?_
        refine z_icmp_eq (tgt := 95) hC hx5 (inR_lit rfl) hV dX6_needsOf_85 (by decide) ?_ ?_
        · intro hV
          exact hJ95 hG hV _ (hL.sub [4, 5, 3, 2, 1, 0] rfl)
        · intro hV
          refine z_iload hC (hL.at 0 rfl) dX6_needsOf_88 ?_
          refine z_bipush hC rfl dX6_needsOf_90 ?_
          refine z_icmp_ne (tgt := 99) hC hx5 (inR_lit rfl) hV dX6_needsOf_92 (by decide) ?_ ?_
          · intro hV
            refine z_iconst hC dX6_needsOf_99 ?_
            exact hJ100 hG 0 (Or.inl rfl) hV _ (hL.sub [4, 5, 3, 2, 1, 0] rfl)
          · intro hV
            exact hJ95 hG hV _ (hL.sub [4, 5, 3, 2, 1, 0] rfl)
  · intro hV
    refine z_aload_n hC zvr_a rfl (hL.at 0 rfl) dX6_needsOf_12 ?_
    refine z_getA hC hG kFX6_86_6 rfl rfl dX6_needsOf_13 ?_
    refine z_iload_n hC rfl (hL.at 2 rfl) dX6_needsOf_16 ?_
    refine z_aload_n hC zvr_a rfl (hL.at 0 rfl) dX6_needsOf_17 ?_
    refine z_getA hC hG kFX6_68_6 rfl rfl dX6_needsOf_18 ?_
    refine z_iconst hC dX6_needsOf_21 ?_
    refine z_iload_n hC rfl (hL.at 1 rfl) dX6_needsOf_22 ?_
    refine z_imul hC dX6_needsOf_23 ?_
    refine z_iload_n hC rfl (hL.at 3 rfl) dX6_needsOf_24 ?_
    refine z_iadd hC dX6_needsOf_25 ?_
    refine z_iald hC hG rfl rfl rfl (inR_w _) hV dX6_needsOf_26 ?_
    intro x14 hx14 hV
    refine z_iast hC hG rfl (Nat.le_of_ble_eq_true rfl) (Nat.le_of_ble_eq_true rfl) rfl rfl rfl ha4_2 hx14 hV dX6_needsOf_27 ?_
    intro G5 _ _ hG hV
    refine z_aload_n hC zvr_a rfl (hL.at 0 rfl) dX6_needsOf_28 ?_
    refine z_getA hC hG kFX6_158_6 rfl rfl dX6_needsOf_29 ?_
    refine z_iload_n hC rfl (hL.at 2 rfl) dX6_needsOf_32 ?_
    refine z_iload_n hC rfl (hL.at 3 rfl) dX6_needsOf_33 ?_
    refine z_iconst hC dX6_needsOf_34 ?_
    refine z_iadd hC dX6_needsOf_35 ?_
    refine z_iast hC hG rfl (Nat.le_of_ble_eq_true rfl) (Nat.le_of_ble_eq_true rfl) rfl rfl rfl ha4_2 (inR_w _) hV dX6_needsOf_36 ?_
    intro G6 _ _ hG hV
    refine z_iincV (fun x15 => [(2, .int (zI x15)), (0, .ref (zA P 5 0 0)), (1, .int (zI p0)), (3, .int (zI a4_3))]) hC hL (k := 2) rfl (by decide) (fun _ => rfl) hV dX6_needsOf_37 ?_
    intro x15 hx15 hV ls hL
    refine z_iincV (fun x16 => [(3, .int (zI x16)), (2, .int (zI x15)), (0, .ref (zA P 5 0 0)), (1, .int (zI p0))]) hC hL (k := 3) rfl (by decide) (fun _ => rfl) hV dX6_needsOf_40 ?_
    intro x16 hx16 hV ls hL
    refine z_goto (tgt := 4) hC dX6_needsOf_43 (by decide) ?_
    exact hP4 x15 x16 G6 hV hx15 hx16 _ _ hG _ (hL.sub [2, 3, 1, 0] rfl)
abbrev rX6_mostNeeded : Room := { frames := 7, cells := 0, slots := 0, locals := 153 }
def vX6_mostNeeded (G : ZG) (Q : Int → ZG → Prop) : Prop := zpF G 5 67 0 fun (G1 : ZG) => zl2 (fun (P7 : Int → ZG → Prop) (a7_1 : Int) (K7 : ZG) => zgF K7 5 23 fun (x1 : Int) => zbr (x1 ≤ a7_1) (zl2 (fun (P47 : Int → Int → Prop) (a47_1 : Int) (a47_2 : Int) => zgF K7 5 67 fun (x2 : Int) => zbr (x2 ≤ a47_2) (zaL K7 5 64 512 a47_1 fun (x3 : Int) => Q x3 K7) (zaL K7 5 65 512 a47_2 fun (x4 : Int) => zaL K7 5 65 512 a47_1 fun (x5 : Int) => zjn (fun (z105_0 : Int) => zjn (fun (z115_0 : Int) => zlt1 (w32 (a47_2 + 1)) fun (x6 : Int) => P47 z115_0 x6) fun J115 => zbr (z105_0 = 0) (J115 a47_1) (J115 a47_2)) fun J105 => zjn (fun (_ : Unit) => J105 1) fun J100 => zbr (x5 < x4) (J100 ()) (zaL K7 5 65 512 a47_2 fun (x7 : Int) => zaL K7 5 65 512 a47_1 fun (x8 : Int) => zjn (fun (_ : Unit) => J105 0) fun J104 => zbr (x7 ≠ x8) (J104 ()) (zaL K7 5 64 512 a47_2 fun (x9 : Int) => zaL K7 5 64 512 a47_1 fun (x10 : Int) => zbr (x10 ≤ x9) (J104 ()) (J100 ()))))) 0 0) (vX6_hasFailed a7_1 K7 fun (x11 : Int) => zjn (fun (H37 : ZG) => zlt1 (w32 (a7_1 + 1)) fun (x12 : Int) => P7 x12 H37) fun J37 => zbr (x11 ≠ 0) (J37 K7) (vX6_tryCase a7_1 K7 fun (x13 : Int) (G2 : ZG) => zbr (x13 = 1) (J37 G2) (vX6_needsOf a7_1 G2 fun (G3 : ZG) => J37 G3)))) 0 G1
set_option maxHeartbeats 4000000 in
theorem mX6_mostNeeded (l : Launch) (P : ZP) (G : ZG) {Q : Int → ZG → Prop} (hV : vX6_mostNeeded G Q) : Met l yX6_mostNeeded (ws_ yX6_mostNeeded cX6_mostNeeded 4 (some .int)) rX6_mostNeeded (zPc P G [.ref (zA P 5 0 0)]) (zQi P Q) 0 0 (zAr P) := by
  refine zMet RX6 (plainFor_of_name (by decide)) rfl (zcs_c rfl zcs_0) (Nat.le_of_ble_eq_true rfl) (fun p e s m args below meth c ls hC hr hk hn hG hL => ?_)
  unfold vX6_mostNeeded at hV
  refine z_aload_n hC zvr_a rfl (hL.at 0 rfl) dX6_mostNeeded_0 ?_
  refine z_iconst hC dX6_mostNeeded_1 ?_
  refine z_putF hC hG kFX6_324_6 rfl rfl rfl rfl nk_6_67 (inR_lit rfl) (Or.inl rfl) hV dX6_mostNeeded_2 ?_
  intro G1 _ _ hG hV
  refine z_iconst hC dX6_mostNeeded_5 ?_
  refine z_istore_n (lv' := [(1, .int (zI 0)), (0, .ref (zA P 5 0 0))]) hC rfl hL (by decide) rfl dX6_mostNeeded_6 (fun ls hL => ?_)
  refine zl2_use hV (fun (a7_1 : Int) (K7 : ZG) => inR a7_1 → ∀ (H : Heap) (locs : List Loc), zS P s K7 H locs → ∀ (ls : Array Slot), zL ls 4 [(0, .ref (zA P 5 0 0)), (1, .int (zI a7_1))] → W p l e rX6_mostNeeded s m args below meth c H locs 0 0 (MQ below (zQi P Q) args s 0 0 (zAr P)) (F0 m 7 ls [])) ?_ (inR_lit rfl) _ _ hG _ (hL.sub [1, 0] rfl)
  intro P7 a7_1 K7 hP7 hV ha7_1 H locs hG ls hL
  refine z_iload_n hC rfl (hL.at 1 rfl) dX6_mostNeeded_7 ?_
  refine z_aload_n hC zvr_a rfl (hL.at 0 rfl) dX6_mostNeeded_8 ?_
  refine z_getF hC hG kFX6_228_6 rfl rfl hV dX6_mostNeeded_9 ?_
  intro x1 hx1 hV
  refine z_icmp_ge (tgt := 43) hC ha7_1 hx1 hV dX6_mostNeeded_12 (by decide) ?_ ?_
  · intro hV
    refine z_iconst hC dX6_mostNeeded_43 ?_
    refine z_istore_n (lv' := [(1, .int (zI 0)), (0, .ref (zA P 5 0 0))]) hC rfl hL (by decide) rfl dX6_mostNeeded_44 (fun ls hL => ?_)
    refine z_iconst hC dX6_mostNeeded_45 ?_
    refine z_istore_n (lv' := [(2, .int (zI 0)), (1, .int (zI 0)), (0, .ref (zA P 5 0 0))]) hC rfl hL (by decide) rfl dX6_mostNeeded_46 (fun ls hL => ?_)
    refine zl2_use hV (fun (a47_1 : Int) (a47_2 : Int) => inR a47_1 → inR a47_2 → ∀ (H : Heap) (locs : List Loc), zS P s K7 H locs → ∀ (ls : Array Slot), zL ls 4 [(0, .ref (zA P 5 0 0)), (1, .int (zI a47_1)), (2, .int (zI a47_2))] → W p l e rX6_mostNeeded s m args below meth c H locs 0 0 (MQ below (zQi P Q) args s 0 0 (zAr P)) (F0 m 47 ls [])) ?_ (inR_lit rfl) (inR_lit rfl) _ _ hG _ (hL.sub [2, 1, 0] rfl)
    intro P47 a47_1 a47_2 hP47 hV ha47_1 ha47_2 H locs hG ls hL
    refine z_iload_n hC rfl (hL.at 2 rfl) dX6_mostNeeded_47 ?_
    refine z_aload_n hC zvr_a rfl (hL.at 0 rfl) dX6_mostNeeded_48 ?_
    refine z_getF hC hG kFX6_324_6 rfl rfl hV dX6_mostNeeded_49 ?_
    intro x2 hx2 hV
    refine z_icmp_ge (tgt := 122) hC ha47_2 hx2 hV dX6_mostNeeded_52 (by decide) ?_ ?_
    · intro hV
      refine z_aload_n hC zvr_a rfl (hL.at 0 rfl) dX6_mostNeeded_122 ?_
      refine z_getA hC hG kFX6_149_6 rfl rfl dX6_mostNeeded_123 ?_
      refine z_iload_n hC rfl (hL.at 1 rfl) dX6_mostNeeded_126 ?_
      refine z_iald hC hG rfl rfl rfl ha47_1 hV dX6_mostNeeded_127 ?_
      intro x3 hx3 hV
      exact z_iret hC hG hr hk hx3 hV (Nat.le_of_ble_eq_true rfl) (Nat.le_of_ble_eq_true rfl) dX6_mostNeeded_128
    · intro hV
      refine z_aload_n hC zvr_a rfl (hL.at 0 rfl) dX6_mostNeeded_55 ?_
      refine z_getA hC hG kFX6_152_6 rfl rfl dX6_mostNeeded_56 ?_
      refine z_iload_n hC rfl (hL.at 2 rfl) dX6_mostNeeded_59 ?_
      refine z_iald hC hG rfl rfl rfl ha47_2 hV dX6_mostNeeded_60 ?_
      intro x4 hx4 hV
      refine z_aload_n hC zvr_a rfl (hL.at 0 rfl) dX6_mostNeeded_61 ?_
      refine z_getA hC hG kFX6_152_6 rfl rfl dX6_mostNeeded_62 ?_
      refine z_iload_n hC rfl (hL.at 1 rfl) dX6_mostNeeded_65 ?_
      refine z_iald hC hG rfl rfl rfl ha47_1 hV dX6_mostNeeded_66 ?_
      intro x5 hx5 hV
      obtain ⟨J105, eJ105, hV⟩ := zjn_abs hV
      have hJ105 : ∀ {H : Heap} {locs : List Loc}, zS P s K7 H locs → ∀ (z105_0 : Int), (z105_0 = 0 ∨ z105_0 = 1) → J105 z105_0 → ∀ (ls : Array Slot), zL ls 4 [(0, .ref (zA P 5 0 0)), (1, .int (zI a47_1)), (2, .int (zI a47_2))] → W p l e rX6_mostNeeded s m args below meth c H locs 0 0 (MQ below (zQi P Q) args s 0 0 (zAr P)) (F0 m 105 ls [.int (zI z105_0)]) := by
        intro H locs hG z105_0 hz105_0 hV ls hL
        rw [eJ105] at hV
        refine z_istore_n (lv' := [(3, .int (zI z105_0)), (0, .ref (zA P 5 0 0)), (1, .int (zI a47_1)), (2, .int (zI a47_2))]) hC rfl hL (by decide) rfl dX6_mostNeeded_105 (fun ls hL => ?_)
        refine z_iload_n hC rfl (hL.at 0 rfl) dX6_mostNeeded_106 ?_
        obtain ⟨J115, eJ115, hV⟩ := zjn_abs hV
        have hJ115 : ∀ {H : Heap} {locs : List Loc}, zS P s K7 H locs → ∀ (z115_0 : Int), inR z115_0 → J115 z115_0 → ∀ (ls : Array Slot), zL ls 4 [(0, .ref (zA P 5 0 0)), (2, .int (zI a47_2))] → W p l e rX6_mostNeeded s m args below meth c H locs 0 0 (MQ below (zQi P Q) args s 0 0 (zAr P)) (F0 m 115 ls [.int (zI z115_0)]) := by
          intro H locs hG z115_0 hz115_0 hV ls hL
          rw [eJ115] at hV
          refine z_istore_n (lv' := [(1, .int (zI z115_0)), (0, .ref (zA P 5 0 0)), (2, .int (zI a47_2))]) hC rfl hL (by decide) rfl dX6_mostNeeded_115 (fun ls hL => ?_)
          refine z_iincV (fun x6 => [(2, .int (zI x6)), (1, .int (zI z115_0)), (0, .ref (zA P 5 0 0))]) hC hL (k := 2) rfl (by decide) (fun _ => rfl) hV dX6_mostNeeded_116 ?_
          intro x6 hx6 hV ls hL
          refine z_goto (tgt := 47) hC dX6_mostNeeded_119 (by decide) ?_
          exact hP47 z115_0 x6 hV hz115_0 hx6 _ _ hG _ (hL.sub [2, 1, 0] rfl)
        refine z_if_eq (tgt := 114) hC (inR_b hz105_0) hV dX6_mostNeeded_107 (by decide) ?_ ?_
        · intro hV
          refine z_iload_n hC rfl (hL.at 2 rfl) dX6_mostNeeded_114 ?_
          exact hJ115 hG a47_1 ha47_1 hV _ (hL.sub [1, 3] rfl)
        · intro hV
          refine z_iload_n hC rfl (hL.at 3 rfl) dX6_mostNeeded_110 ?_
          refine z_goto (tgt := 115) hC dX6_mostNeeded_111 (by decide) ?_
          exact hJ115 hG a47_2 ha47_2 hV _ (hL.sub [1, 3] rfl)
      obtain ⟨J100, eJ100, hV⟩ := zjn_abs hV
      have hJ100 : ∀ {H : Heap} {locs : List Loc}, zS P s K7 H locs → J100 () → ∀ (ls : Array Slot), zL ls 4 [(0, .ref (zA P 5 0 0)), (1, .int (zI a47_1)), (2, .int (zI a47_2))] → W p l e rX6_mostNeeded s m args below meth c H locs 0 0 (MQ below (zQi P Q) args s 0 0 (zAr P)) (F0 m 100 ls []) := by
        intro H locs hG hV ls hL
        rw [eJ100] at hV
        refine z_iconst hC dX6_mostNeeded_100 ?_
        refine z_goto (tgt := 105) hC dX6_mostNeeded_101 (by decide) ?_
        exact hJ105 hG 1 (Or.inr rfl) hV _ hL
      refine z_icmp_gt (tgt := 100) hC hx4 hx5 hV dX6_mostNeeded_67 (by decide) ?_ ?_
      · intro hV
        exact hJ100 hG hV _ hL
      · intro hV
        refine z_aload_n hC zvr_a rfl (hL.at 0 rfl) dX6_mostNeeded_70 ?_
        refine z_getA hC hG kFX6_152_6 rfl rfl dX6_mostNeeded_71 ?_
        refine z_iload_n hC rfl (hL.at 2 rfl) dX6_mostNeeded_74 ?_
        refine z_iald hC hG rfl rfl rfl ha47_2 hV dX6_mostNeeded_75 ?_
        intro x7 hx7 hV
        refine z_aload_n hC zvr_a rfl (hL.at 0 rfl) dX6_mostNeeded_76 ?_
        refine z_getA hC hG kFX6_152_6 rfl rfl dX6_mostNeeded_77 ?_
        refine z_iload_n hC rfl (hL.at 1 rfl) dX6_mostNeeded_80 ?_
        refine z_iald hC hG rfl rfl rfl ha47_1 hV dX6_mostNeeded_81 ?_
        intro x8 hx8 hV
        obtain ⟨J104, eJ104, hV⟩ := zjn_abs hV
        have hJ104 : ∀ {H : Heap} {locs : List Loc}, zS P s K7 H locs → J104 () → ∀ (ls : Array Slot), zL ls 4 [(0, .ref (zA P 5 0 0)), (1, .int (zI a47_1)), (2, .int (zI a47_2))] → W p l e rX6_mostNeeded s m args below meth c H locs 0 0 (MQ below (zQi P Q) args s 0 0 (zAr P)) (F0 m 104 ls []) := by
          intro H locs hG hV ls hL
          rw [eJ104] at hV
          refine z_iconst hC dX6_mostNeeded_104 ?_
          exact hJ105 hG 0 (Or.inl rfl) hV _ hL
        refine z_icmp_ne (tgt := 104) hC hx7 hx8 hV dX6_mostNeeded_82 (by decide) ?_ ?_
        · intro hV
          exact hJ104 hG hV _ hL
        · intro hV
          refine z_aload_n hC zvr_a rfl (hL.at 0 rfl) dX6_mostNeeded_85 ?_
          refine z_getA hC hG kFX6_149_6 rfl rfl dX6_mostNeeded_86 ?_
          refine z_iload_n hC rfl (hL.at 2 rfl) dX6_mostNeeded_89 ?_
          refine z_iald hC hG rfl rfl rfl ha47_2 hV dX6_mostNeeded_90 ?_
          intro x9 hx9 hV
          refine z_aload_n hC zvr_a rfl (hL.at 0 rfl) dX6_mostNeeded_91 ?_
          refine z_getA hC hG kFX6_149_6 rfl rfl dX6_mostNeeded_92 ?_
          refine z_iload_n hC rfl (hL.at 1 rfl) dX6_mostNeeded_95 ?_
          refine z_iald hC hG rfl rfl rfl ha47_1 hV dX6_mostNeeded_96 ?_
          intro x10 hx10 hV
          refine z_icmp_ge (tgt := 104) hC hx9 hx10 hV dX6_mostNeeded_97 (by decide) ?_ ?_
          · intro hV
            exact hJ104 hG hV _ hL
          · intro hV
            exact hJ100 hG hV _ hL
  · intro hV
    refine z_aload_n hC zvr_a rfl (hL.at 0 rfl) dX6_mostNeeded_15 ?_
    refine z_iload_n hC rfl (hL.at 1 rfl) dX6_mostNeeded_16 ?_
    refine z_call_z hG (zrunV (ci := 6) hC hG (Nat.le_of_ble_eq_true rfl) (Nat.le_of_ble_eq_true rfl) (zobj hG rfl (Nat.le_of_ble_eq_true rfl) (Nat.le_of_ble_eq_true rfl)) (mX6_hasFailed l P K7 a7_1 ha7_1 hV) kVX6_330 rfl rfl rfl ⟨(Nat.le_of_ble_eq_true rfl), (Nat.le_of_ble_eq_true rfl)⟩ ⟨(Nat.le_of_ble_eq_true rfl), (Nat.le_of_ble_eq_true rfl)⟩ rfl ⟨zcs_0, (Nat.le_of_ble_eq_true rfl)⟩ hL.1.1 dX6_mostNeeded_17) ?_
    rintro x11 _ _ _ hx11 ⟨rfl, hV⟩ hG
    obtain ⟨J37, eJ37, hV⟩ := zjn_abs hV
    have hJ37 : ∀ (H37 : ZG), J37 H37 → ∀ (H : Heap) (locs : List Loc) (ls : Array Slot), zS P s H37 H locs → zL ls 4 [(0, .ref (zA P 5 0 0)), (1, .int (zI a7_1))] → W p l e rX6_mostNeeded s m args below meth c H locs 0 0 (MQ below (zQi P Q) args s 0 0 (zAr P)) (F0 m 37 ls []) := by
      intro H37 hV H locs ls hG hL
      rw [eJ37] at hV
      refine z_iincV (fun x12 => [(1, .int (zI x12)), (0, .ref (zA P 5 0 0))]) hC hL (k := 1) rfl (by decide) (fun _ => rfl) hV dX6_mostNeeded_37 ?_
      intro x12 hx12 hV ls hL
      refine z_goto (tgt := 7) hC dX6_mostNeeded_40 (by decide) ?_
      exact hP7 x12 H37 hV hx12 _ _ hG _ (hL.sub [1, 0] rfl)
    refine z_if_ne (tgt := 37) hC (inR_b hx11) hV dX6_mostNeeded_20 (by decide) ?_ ?_
    · intro hV
      exact hJ37 K7 hV _ _ _ hG hL
    · intro hV
      refine z_aload_n hC zvr_a rfl (hL.at 0 rfl) dX6_mostNeeded_23 ?_
      refine z_iload_n hC rfl (hL.at 1 rfl) dX6_mostNeeded_24 ?_
      refine z_call_i hG (zrunV (ci := 6) hC hG (Nat.le_of_ble_eq_true rfl) (Nat.le_of_ble_eq_true rfl) (zobj hG rfl (Nat.le_of_ble_eq_true rfl) (Nat.le_of_ble_eq_true rfl)) (mX6_tryCase l P K7 a7_1 ha7_1 hV) kVX6_333 rfl rfl rfl ⟨(Nat.le_of_ble_eq_true rfl), (Nat.le_of_ble_eq_true rfl)⟩ ⟨(Nat.le_of_ble_eq_true rfl), (Nat.le_of_ble_eq_true rfl)⟩ rfl ⟨zcs_0, (Nat.le_of_ble_eq_true rfl)⟩ hL.1.1 dX6_mostNeeded_25) ?_
      rintro x13 G2 _ _ hx13 hV hG
      refine z_iconst hC dX6_mostNeeded_28 ?_
      refine z_icmp_eq (tgt := 37) hC hx13 (inR_lit rfl) hV dX6_mostNeeded_29 (by decide) ?_ ?_
      · intro hV
        exact hJ37 G2 hV _ _ _ hG hL
      · intro hV
        refine z_aload_n hC zvr_a rfl (hL.at 0 rfl) dX6_mostNeeded_32 ?_
        refine z_iload_n hC rfl (hL.at 1 rfl) dX6_mostNeeded_33 ?_
        refine z_call_v hG (zrunV (ci := 6) hC hG (Nat.le_of_ble_eq_true rfl) (Nat.le_of_ble_eq_true rfl) (zobj hG rfl (Nat.le_of_ble_eq_true rfl) (Nat.le_of_ble_eq_true rfl)) (mX6_needsOf l P G2 a7_1 ha7_1 hV) kVX6_336 rfl rfl rfl ⟨(Nat.le_of_ble_eq_true rfl), (Nat.le_of_ble_eq_true rfl)⟩ ⟨(Nat.le_of_ble_eq_true rfl), (Nat.le_of_ble_eq_true rfl)⟩ rfl ⟨zcs_0, (Nat.le_of_ble_eq_true rfl)⟩ hL.1.1 dX6_mostNeeded_34) ?_
        rintro G3 _ _ hV hG
        exact hJ37 G3 hV _ _ _ hG hL
abbrev rX6_kindOf : Room := { frames := 5, cells := 0, slots := 0, locals := 105 }
def vX6_kindOf (p0 : Int) (G : ZG) (Q : Int → ZG → Prop) : Prop := vX6_wayTo p0 G fun (x1 : Int) (G1 : ZG) => zaL G1 5 45 8 x1 fun (x2 : Int) => zaL G1 5 22 3 x2 fun (x3 : Int) => zaL G1 5 45 8 x1 fun (x4 : Int) => zlt1 (w32 (x4 + 1)) fun (x5 : Int) => zlt1 (w32 (x1 - 1)) fun (x6 : Int) => zl4 (fun (P33 : Int → Int → Int → ZG → Prop) (a33_3 : Int) (a33_4 : Int) (a33_5 : Int) (K33 : ZG) => zbr (a33_5 < 0) (Q a33_3 K33) (zaL K33 5 45 8 a33_5 fun (x7 : Int) => vX6_factAt a33_4 K33 fun (x8 : Int) (G2 : ZG) => zjn (fun (z80_0 : Int) => zlt1 (w32 ((w32 ((w32 (5 * a33_4)) + x7)) + 1)) fun (x9 : Int) => zlt1 (w32 (a33_5 + (-1))) fun (x10 : Int) => P33 z80_0 x9 x10 G2) fun J80 => zbr (a33_3 ≠ 5) (zaL G2 5 3 48 (w32 ((w32 (3 * (w32 ((w32 (4 * a33_3)) + x8)))) + x7)) fun (x11 : Int) => J80 x11) (J80 4))) x3 x5 x6 G1
set_option maxHeartbeats 4000000 in
theorem mX6_kindOf (l : Launch) (P : ZP) (G : ZG) (p0 : Int) (hp0 : inR p0) {Q : Int → ZG → Prop} (hV : vX6_kindOf p0 G Q) : Met l yX6_kindOf (ws_ yX6_kindOf cX6_kindOf 8 (some .int)) rX6_kindOf (zPc P G [.ref (zA P 5 0 0), .int (zI p0)]) (zQi P Q) 0 0 (zAr P) := by
  refine zMet RX6 (plainFor_of_name (by decide)) rfl (zcs_c rfl (zcs_c rfl zcs_0)) (Nat.le_of_ble_eq_true rfl) (fun p e s m args below meth c ls hC hr hk hn hG hL => ?_)
  unfold vX6_kindOf at hV
  refine z_aload_n hC zvr_a rfl (hL.at 0 rfl) dX6_kindOf_0 ?_
  refine z_iload_n hC rfl (hL.at 1 rfl) dX6_kindOf_1 ?_
  refine z_call_i hG (zrunV (ci := 6) hC hG (Nat.le_of_ble_eq_true rfl) (Nat.le_of_ble_eq_true rfl) (zobj hG rfl (Nat.le_of_ble_eq_true rfl) (Nat.le_of_ble_eq_true rfl)) (mX6_wayTo l P G p0 hp0 hV) kVX6_254 rfl rfl rfl ⟨(Nat.le_of_ble_eq_true rfl), (Nat.le_of_ble_eq_true rfl)⟩ ⟨(Nat.le_of_ble_eq_true rfl), (Nat.le_of_ble_eq_true rfl)⟩ rfl ⟨zcs_0, (Nat.le_of_ble_eq_true rfl)⟩ hL.1.1 dX6_kindOf_2) ?_
  rintro x1 G1 _ _ hx1 hV hG
  refine z_istore_n (lv' := [(2, .int (zI x1)), (0, .ref (zA P 5 0 0)), (1, .int (zI p0))]) hC rfl hL (by decide) rfl dX6_kindOf_5 (fun ls hL => ?_)
  refine z_aload_n hC zvr_a rfl (hL.at 1 rfl) dX6_kindOf_6 ?_
  refine z_getA hC hG kFX6_65_6 rfl rfl dX6_kindOf_7 ?_
  refine z_aload_n hC zvr_a rfl (hL.at 1 rfl) dX6_kindOf_10 ?_
  refine z_getA hC hG kFX6_110_6 rfl rfl dX6_kindOf_11 ?_
  refine z_iload_n hC rfl (hL.at 0 rfl) dX6_kindOf_14 ?_
  refine z_iald hC hG rfl rfl rfl hx1 hV dX6_kindOf_15 ?_
  intro x2 hx2 hV
  refine z_iald hC hG rfl rfl rfl hx2 hV dX6_kindOf_16 ?_
  intro x3 hx3 hV
  refine z_istore_n (lv' := [(3, .int (zI x3)), (2, .int (zI x1)), (0, .ref (zA P 5 0 0)), (1, .int (zI p0))]) hC rfl hL (by decide) rfl dX6_kindOf_17 (fun ls hL => ?_)
  refine z_aload_n hC zvr_a rfl (hL.at 2 rfl) dX6_kindOf_18 ?_
  refine z_getA hC hG kFX6_110_6 rfl rfl dX6_kindOf_19 ?_
  refine z_iload_n hC rfl (hL.at 1 rfl) dX6_kindOf_22 ?_
  refine z_iald hC hG rfl rfl rfl hx1 hV dX6_kindOf_23 ?_
  intro x4 hx4 hV
  refine z_iconst hC dX6_kindOf_24 ?_
  refine z_iadd hC dX6_kindOf_25 ?_
  refine z_top hV (inR_w _) ?_
  intro x5 hx5 hV
  refine z_istore (lv' := [(4, .int (zI x5)), (3, .int (zI x3)), (2, .int (zI x1)), (0, .ref (zA P 5 0 0)), (1, .int (zI p0))]) hC hL (by decide) rfl dX6_kindOf_26 (fun ls hL => ?_)
  refine z_iload_n hC rfl (hL.at 2 rfl) dX6_kindOf_28 ?_
  refine z_iconst hC dX6_kindOf_29 ?_
  refine z_isub hC dX6_kindOf_30 ?_
  refine z_top hV (inR_w _) ?_
  intro x6 hx6 hV
  refine z_istore (lv' := [(5, .int (zI x6)), (4, .int (zI x5)), (3, .int (zI x3)), (2, .int (zI x1)), (0, .ref (zA P 5 0 0)), (1, .int (zI p0))]) hC hL (by decide) rfl dX6_kindOf_31 (fun ls hL => ?_)
  refine zl4_use hV (fun (a33_3 : Int) (a33_4 : Int) (a33_5 : Int) (K33 : ZG) => inR a33_3 → inR a33_4 → inR a33_5 → ∀ (H : Heap) (locs : List Loc), zS P s K33 H locs → ∀ (ls : Array Slot), zL ls 8 [(0, .ref (zA P 5 0 0)), (3, .int (zI a33_3)), (4, .int (zI a33_4)), (5, .int (zI a33_5))] → W p l e rX6_kindOf s m args below meth c H locs 0 0 (MQ below (zQi P Q) args s 0 0 (zAr P)) (F0 m 33 ls [])) ?_ hx3 hx5 hx6 _ _ hG _ (hL.sub [4, 2, 1, 0] rfl)
  intro P33 a33_3 a33_4 a33_5 K33 hP33 hV ha33_3 ha33_4 ha33_5 H locs hG ls hL
  refine z_iload hC (hL.at 3 rfl) dX6_kindOf_33 ?_
  refine z_if_lt (tgt := 98) hC ha33_5 hV dX6_kindOf_35 (by decide) ?_ ?_
  · intro hV
    refine z_iload_n hC rfl (hL.at 1 rfl) dX6_kindOf_98 ?_
    exact z_iret hC hG hr hk ha33_3 hV (Nat.le_of_ble_eq_true rfl) (Nat.le_of_ble_eq_true rfl) dX6_kindOf_99
  · intro hV
    refine z_aload_n hC zvr_a rfl (hL.at 0 rfl) dX6_kindOf_38 ?_
    refine z_getA hC hG kFX6_110_6 rfl rfl dX6_kindOf_39 ?_
    refine z_iload hC (hL.at 3 rfl) dX6_kindOf_42 ?_
    refine z_iald hC hG rfl rfl rfl ha33_5 hV dX6_kindOf_44 ?_
    intro x7 hx7 hV
    refine z_istore (lv' := [(6, .int (zI x7)), (0, .ref (zA P 5 0 0)), (3, .int (zI a33_3)), (4, .int (zI a33_4)), (5, .int (zI a33_5))]) hC hL (by decide) rfl dX6_kindOf_45 (fun ls hL => ?_)
    refine z_aload_n hC zvr_a rfl (hL.at 1 rfl) dX6_kindOf_47 ?_
    refine z_iload hC (hL.at 3 rfl) dX6_kindOf_48 ?_
    refine z_call_i hG (zrunV (ci := 6) hC hG (Nat.le_of_ble_eq_true rfl) (Nat.le_of_ble_eq_true rfl) (zobj hG rfl (Nat.le_of_ble_eq_true rfl) (Nat.le_of_ble_eq_true rfl)) (mX6_factAt l P K33 a33_4 ha33_4 hV) kVX6_305 rfl rfl rfl ⟨(Nat.le_of_ble_eq_true rfl), (Nat.le_of_ble_eq_true rfl)⟩ ⟨(Nat.le_of_ble_eq_true rfl), (Nat.le_of_ble_eq_true rfl)⟩ rfl ⟨zcs_0, (Nat.le_of_ble_eq_true rfl)⟩ hL.1.1 dX6_kindOf_50) ?_
    rintro x8 G2 _ _ hx8 hV hG
    refine z_istore (lv' := [(7, .int (zI x8)), (6, .int (zI x7)), (0, .ref (zA P 5 0 0)), (3, .int (zI a33_3)), (4, .int (zI a33_4)), (5, .int (zI a33_5))]) hC hL (by decide) rfl dX6_kindOf_53 (fun ls hL => ?_)
    refine z_iload_n hC rfl (hL.at 3 rfl) dX6_kindOf_55 ?_
    refine z_iconst hC dX6_kindOf_56 ?_
    obtain ⟨J80, eJ80, hV⟩ := zjn_abs hV
    have hJ80 : ∀ {H : Heap} {locs : List Loc}, zS P s G2 H locs → ∀ (z80_0 : Int), inR z80_0 → J80 z80_0 → ∀ (ls : Array Slot), zL ls 8 [(0, .ref (zA P 5 0 0)), (4, .int (zI a33_4)), (5, .int (zI a33_5)), (6, .int (zI x7))] → W p l e rX6_kindOf s m args below meth c H locs 0 0 (MQ below (zQi P Q) args s 0 0 (zAr P)) (F0 m 80 ls [.int (zI z80_0)]) := by
      intro H locs hG z80_0 hz80_0 hV ls hL
      rw [eJ80] at hV
      refine z_istore_n (lv' := [(3, .int (zI z80_0)), (0, .ref (zA P 5 0 0)), (4, .int (zI a33_4)), (5, .int (zI a33_5)), (6, .int (zI x7))]) hC rfl hL (by decide) rfl dX6_kindOf_80 (fun ls hL => ?_)
      refine z_iconst hC dX6_kindOf_81 ?_
      refine z_iload hC (hL.at 2 rfl) dX6_kindOf_82 ?_
      refine z_imul hC dX6_kindOf_84 ?_
      refine z_iload hC (hL.at 4 rfl) dX6_kindOf_85 ?_
      refine z_iadd hC dX6_kindOf_87 ?_
      refine z_iconst hC dX6_kindOf_88 ?_
      refine z_iadd hC dX6_kindOf_89 ?_
      refine z_top hV (inR_w _) ?_
      intro x9 hx9 hV
      refine z_istore (lv' := [(4, .int (zI x9)), (3, .int (zI z80_0)), (0, .ref (zA P 5 0 0)), (5, .int (zI a33_5)), (6, .int (zI x7))]) hC hL (by decide) rfl dX6_kindOf_90 (fun ls hL => ?_)
      refine z_iincV (fun x10 => [(5, .int (zI x10)), (4, .int (zI x9)), (3, .int (zI z80_0)), (0, .ref (zA P 5 0 0)), (6, .int (zI x7))]) hC hL (k := 3) rfl (by decide) (fun _ => rfl) hV dX6_kindOf_92 ?_
      intro x10 hx10 hV ls hL
      refine z_goto (tgt := 33) hC dX6_kindOf_95 (by decide) ?_
      exact hP33 z80_0 x9 x10 G2 hV hz80_0 hx9 hx10 _ _ hG _ (hL.sub [3, 2, 1, 0] rfl)
    refine z_icmp_ne (tgt := 64) hC ha33_3 (inR_lit rfl) hV dX6_kindOf_57 (by decide) ?_ ?_
    · intro hV
      refine z_aload_n hC zvr_a rfl (hL.at 2 rfl) dX6_kindOf_64 ?_
      refine z_getA hC hG kFX6_16_6 rfl rfl dX6_kindOf_65 ?_
      refine z_iconst hC dX6_kindOf_68 ?_
      refine z_iconst hC dX6_kindOf_69 ?_
      refine z_iload_n hC rfl (hL.at 3 rfl) dX6_kindOf_70 ?_
      refine z_imul hC dX6_kindOf_71 ?_
      refine z_iload hC (hL.at 0 rfl) dX6_kindOf_72 ?_
      refine z_iadd hC dX6_kindOf_74 ?_
      refine z_imul hC dX6_kindOf_75 ?_
      refine z_iload hC (hL.at 1 rfl) dX6_kindOf_76 ?_
      refine z_iadd hC dX6_kindOf_78 ?_
      refine z_iald hC hG rfl rfl rfl (inR_w _) hV dX6_kindOf_79 ?_
      intro x11 hx11 hV
      exact hJ80 hG x11 hx11 hV _ (hL.sub [2, 4, 5, 1] rfl)
    · intro hV
      refine z_iconst hC dX6_kindOf_60 ?_
      refine z_goto (tgt := 80) hC dX6_kindOf_61 (by decide) ?_
      exact hJ80 hG 4 (inR_lit rfl) hV _ (hL.sub [2, 4, 5, 1] rfl)
abbrev rX6_lay : Room := { frames := 8, cells := 0, slots := 0, locals := 176 }
def vX6_lay (p0 : Int) (p1 : Int) (G : ZG) (Q : Int → ZG → Prop) : Prop := zpF G 5 41 p0 fun (G1 : ZG) => zl4 (fun (P13 : Int → Int → Int → ZG → Prop) (a13_3 : Int) (a13_4 : Int) (a13_5 : Int) (K13 : ZG) => zjn (fun (_ : Unit) => zbr (a13_5 = 0) (zaS K13 5 59 512 p0 a13_3 fun (G2 : ZG) => zjn (fun (_ : Unit) => zjn (fun (z135_0 : Int) => zjn (fun (y267_6 : Int) (H267 : ZG) => zaS H267 5 58 512 p0 z135_0 fun (G3 : ZG) => zgF G3 5 56 fun (x1 : Int) => zbr (w32 (x1 + y267_6) ≤ 500) (zgF G3 5 56 fun (x2 : Int) => zaS G3 5 61 512 p0 x2 fun (G4 : ZG) => zaS G4 5 62 512 p0 y267_6 fun (G5 : ZG) => zl2 (fun (P311 : Int → ZG → Prop) (a311_8 : Int) (K311 : ZG) => zbr (y267_6 ≤ a311_8) (Q 1 K311) (zjn (fun (z344_0 : Int) => zjn (fun (z368_2 : Int) => vX6_node p0 z368_2 a13_3 0 K311 fun (x3 : Int) (G6 : ZG) => zlt1 (w32 (a311_8 + 1)) fun (x4 : Int) => P311 x4 G6) fun J368 => zbr (z344_0 = 0) (J368 (-9)) (zbr (a311_8 ≠ 0) (J368 1) (J368 0))) fun J344 => zjn (fun (_ : Unit) => J344 0) fun J343 => zbr (z135_0 ≠ 3) (J343 ()) (zjn (fun (_ : Unit) => J344 1) fun J339 => zbr (a311_8 = 0) (J339 ()) (zaL K311 5 26 8 a13_3 fun (x5 : Int) => zbr (x5 ≠ 3) (J343 ()) (J339 ()))))) 0 G5) (Q 0 G3)) fun J267 => zbr (z135_0 ≠ 4) (zbr (z135_0 ≠ 5) (J267 2 G2) (zjn (fun (z208_2 : Int) (H208 : ZG) => zaS H208 5 60 512 p0 z208_2 fun (G7 : ZG) => zaL G7 5 60 512 p0 fun (x6 : Int) => vX6_kindOf x6 G7 fun (x7 : Int) (G8 : ZG) => zaS G8 5 59 512 p0 x7 fun (G9 : ZG) => zaL G9 5 59 512 p0 fun (x8 : Int) => zjn (fun (z265_0 : Int) => J267 z265_0 G9) fun J265 => zbr (x8 ≠ 4) (zaL G9 5 59 512 p0 fun (x9 : Int) => zbr (x9 ≠ 5) (zaL G9 5 59 512 p0 fun (x10 : Int) => zaL G9 5 1 4 x10 fun (x11 : Int) => J265 x11) (J265 4)) (J265 10)) fun J208 => zbr (p1 ≠ 3) (zgF G2 5 44 fun (x12 : Int) => J208 x12 G2) (vX6_mostNeeded G2 fun (x13 : Int) (G10 : ZG) => J208 x13 G10))) (zgF G2 5 43 fun (x14 : Int) => zaS G2 5 59 512 p0 x14 fun (G11 : ZG) => zgF G11 5 44 fun (x15 : Int) => zaS G11 5 60 512 p0 x15 fun (G12 : ZG) => zgF G12 5 43 fun (x16 : Int) => zaL G12 5 20 12 (w32 ((w32 (4 * x16)) + 3)) fun (x17 : Int) => J267 x17 G12)) fun J135 => zbr (a13_4 ≠ 0) (zgF G2 5 42 fun (x18 : Int) => J135 x18) (J135 3)) fun J119 => zbr (a13_4 ≠ 0) (J119 ()) (zaL G2 5 26 8 a13_3 fun (x19 : Int) => zbr (x19 ≠ (-1)) (J119 ()) (zaS G2 5 58 512 p0 0 fun (G13 : ZG) => Q 1 G13))) (zaS K13 5 58 512 p0 2 fun (G14 : ZG) => Q 1 G14)) fun J74 => zbr (a13_5 = 0) (J74 ()) (zgF K13 5 23 fun (x20 : Int) => zbr (x20 ≤ a13_3) (J74 ()) (vX6_hasFailed a13_3 K13 fun (x21 : Int) => zjn (fun (z43_0 : Int) (H43 : ZG) => zjn (fun (z56_0 : Int) => zjn (fun (z69_1 : Int) => zlt1 (w32 (a13_3 + z69_1)) fun (x22 : Int) => P13 x22 z43_0 z56_0 H43) fun J69 => zbr (z56_0 = 0) (J69 0) (J69 1)) fun J56 => zbr (z43_0 ≠ 1) (J56 0) (J56 1)) fun J43 => zbr (x21 = 0) (vX6_tryCase a13_3 K13 fun (x23 : Int) (G15 : ZG) => J43 x23 G15) (J43 1 K13)))) 0 1 1 G1
set_option maxHeartbeats 4000000 in
theorem mX6_lay (l : Launch) (P : ZP) (G : ZG) (p0 : Int) (hp0 : inR p0) (p1 : Int) (hp1 : inR p1) {Q : Int → ZG → Prop} (hV : vX6_lay p0 p1 G Q) : Met l yX6_lay (ws_ yX6_lay cX6_lay 10 (some .boolean)) rX6_lay (zPc P G [.ref (zA P 5 0 0), .int (zI p0), .int (zI p1)]) (zQz P Q) 0 0 (zAr P) := by
  refine zMet RX6 (plainFor_of_name (by decide)) rfl (zcs_c rfl (zcs_c rfl (zcs_c rfl zcs_0))) (Nat.le_of_ble_eq_true rfl) (fun p e s m args below meth c ls hC hr hk hn hG hL => ?_)
  unfold vX6_lay at hV
  refine z_aload_n hC zvr_a rfl (hL.at 0 rfl) dX6_lay_0 ?_
  refine z_iload_n hC rfl (hL.at 1 rfl) dX6_lay_1 ?_
  refine z_putF hC hG kFX6_268_6 rfl rfl rfl rfl nk_6_41 hp0 (Or.inl rfl) hV dX6_lay_2 ?_
  intro G1 _ _ hG hV
  refine z_iconst hC dX6_lay_5 ?_
  refine z_istore_n (lv' := [(3, .int (zI 0)), (0, .ref (zA P 5 0 0)), (1, .int (zI p0)), (2, .int (zI p1))]) hC rfl hL (by decide) rfl dX6_lay_6 (fun ls hL => ?_)
  refine z_iconst hC dX6_lay_7 ?_
  refine z_istore (lv' := [(4, .int (zI 1)), (3, .int (zI 0)), (0, .ref (zA P 5 0 0)), (1, .int (zI p0)), (2, .int (zI p1))]) hC hL (by decide) rfl dX6_lay_8 (fun ls hL => ?_)
  refine z_iconst hC dX6_lay_10 ?_
  refine z_istore (lv' := [(5, .int (zI 1)), (4, .int (zI 1)), (3, .int (zI 0)), (0, .ref (zA P 5 0 0)), (1, .int (zI p0)), (2, .int (zI p1))]) hC hL (by decide) rfl dX6_lay_11 (fun ls hL => ?_)
  refine zl4_use hV (fun (a13_3 : Int) (a13_4 : Int) (a13_5 : Int) (K13 : ZG) => inR a13_3 → inR a13_4 → (a13_5 = 0 ∨ a13_5 = 1) → ∀ (H : Heap) (locs : List Loc), zS P s K13 H locs → ∀ (ls : Array Slot), zL ls 10 [(0, .ref (zA P 5 0 0)), (1, .int (zI p0)), (2, .int (zI p1)), (3, .int (zI a13_3)), (4, .int (zI a13_4)), (5, .int (zI a13_5))] → W p l e rX6_lay s m args below meth c H locs 0 0 (MQ below (zQz P Q) args s 0 0 (zAr P)) (F0 m 13 ls [])) ?_ (inR_lit rfl) (inR_lit rfl) (Or.inr rfl) _ _ hG _ (hL.sub [3, 4, 5, 2, 1, 0] rfl)
  intro P13 a13_3 a13_4 a13_5 K13 hP13 hV ha13_3 ha13_4 ha13_5 H locs hG ls hL
  refine z_iload hC (hL.at 5 rfl) dX6_lay_13 ?_
  obtain ⟨J74, eJ74, hV⟩ := zjn_abs hV
  have hJ74 : ∀ {H : Heap} {locs : List Loc}, zS P s K13 H locs → J74 () → ∀ (ls : Array Slot), zL ls 10 [(0, .ref (zA P 5 0 0)), (1, .int (zI p0)), (2, .int (zI p1)), (3, .int (zI a13_3)), (4, .int (zI a13_4)), (5, .int (zI a13_5))] → W p l e rX6_lay s m args below meth c H locs 0 0 (MQ below (zQz P Q) args s 0 0 (zAr P)) (F0 m 74 ls []) := by
    intro H locs hG hV ls hL
    rw [eJ74] at hV
    refine z_iload hC (hL.at 5 rfl) dX6_lay_74 ?_
    refine z_if_eq (tgt := 88) hC (inR_b ha13_5) hV dX6_lay_76 (by decide) ?_ ?_
    · intro hV
      refine z_aload_n hC zvr_a rfl (hL.at 0 rfl) dX6_lay_88 ?_
      refine z_getA hC hG kFX6_134_6 rfl rfl dX6_lay_89 ?_
      refine z_iload_n hC rfl (hL.at 1 rfl) dX6_lay_92 ?_
      refine z_iload_n hC rfl (hL.at 3 rfl) dX6_lay_93 ?_
      refine z_iast hC hG rfl (Nat.le_of_ble_eq_true rfl) (Nat.le_of_ble_eq_true rfl) rfl rfl rfl hp0 ha13_3 hV dX6_lay_94 ?_
      intro G2 _ _ hG hV
      refine z_iload hC (hL.at 4 rfl) dX6_lay_95 ?_
      obtain ⟨J119, eJ119, hV⟩ := zjn_abs hV
      have hJ119 : ∀ {H : Heap} {locs : List Loc}, zS P s G2 H locs → J119 () → ∀ (ls : Array Slot), zL ls 10 [(0, .ref (zA P 5 0 0)), (1, .int (zI p0)), (2, .int (zI p1)), (3, .int (zI a13_3)), (4, .int (zI a13_4))] → W p l e rX6_lay s m args below meth c H locs 0 0 (MQ below (zQz P Q) args s 0 0 (zAr P)) (F0 m 119 ls []) := by
        intro H locs hG hV ls hL
        rw [eJ119] at hV
        refine z_iconst hC dX6_lay_119 ?_
        refine z_istore (lv' := [(6, .int (zI 2)), (0, .ref (zA P 5 0 0)), (1, .int (zI p0)), (2, .int (zI p1)), (3, .int (zI a13_3)), (4, .int (zI a13_4))]) hC hL (by decide) rfl dX6_lay_120 (fun ls hL => ?_)
        refine z_iload hC (hL.at 5 rfl) dX6_lay_122 ?_
        obtain ⟨J135, eJ135, hV⟩ := zjn_abs hV
        have hJ135 : ∀ {H : Heap} {locs : List Loc}, zS P s G2 H locs → ∀ (z135_0 : Int), inR z135_0 → J135 z135_0 → ∀ (ls : Array Slot), zL ls 10 [(0, .ref (zA P 5 0 0)), (1, .int (zI p0)), (2, .int (zI p1)), (3, .int (zI a13_3)), (6, .int (zI 2))] → W p l e rX6_lay s m args below meth c H locs 0 0 (MQ below (zQz P Q) args s 0 0 (zAr P)) (F0 m 135 ls [.int (zI z135_0)]) := by
          intro H locs hG z135_0 hz135_0 hV ls hL
          rw [eJ135] at hV
          refine z_istore (lv' := [(7, .int (zI z135_0)), (0, .ref (zA P 5 0 0)), (1, .int (zI p0)), (2, .int (zI p1)), (3, .int (zI a13_3)), (6, .int (zI 2))]) hC hL (by decide) rfl dX6_lay_135 (fun ls hL => ?_)
          refine z_iload hC (hL.at 0 rfl) dX6_lay_137 ?_
          refine z_iconst hC dX6_lay_139 ?_
          obtain ⟨J267, eJ267, hV⟩ := zjn_abs hV
          have hJ267 : ∀ (y267_6 : Int) (H267 : ZG), inR y267_6 → J267 y267_6 H267 → ∀ (H : Heap) (locs : List Loc) (ls : Array Slot), zS P s H267 H locs → zL ls 10 [(0, .ref (zA P 5 0 0)), (1, .int (zI p0)), (3, .int (zI a13_3)), (6, .int (zI y267_6)), (7, .int (zI z135_0))] → W p l e rX6_lay s m args below meth c H locs 0 0 (MQ below (zQz P Q) args s 0 0 (zAr P)) (F0 m 267 ls []) := by
            intro y267_6 H267 hy267_6 hV H locs ls hG hL
            rw [eJ267] at hV
            refine z_aload_n hC zvr_a rfl (hL.at 0 rfl) dX6_lay_267 ?_
            refine z_getA hC hG kFX6_131_6 rfl rfl dX6_lay_268 ?_
            refine z_iload_n hC rfl (hL.at 1 rfl) dX6_lay_271 ?_
            refine z_iload hC (hL.at 4 rfl) dX6_lay_272 ?_
            refine z_iast hC hG rfl (Nat.le_of_ble_eq_true rfl) (Nat.le_of_ble_eq_true rfl) rfl rfl rfl hp0 hz135_0 hV dX6_lay_274 ?_
            intro G3 _ _ hG hV
            refine z_aload_n hC zvr_a rfl (hL.at 0 rfl) dX6_lay_275 ?_
            refine z_getF hC hG kFX6_321_6 rfl rfl hV dX6_lay_276 ?_
            intro x1 hx1 hV
            refine z_iload hC (hL.at 3 rfl) dX6_lay_279 ?_
            refine z_iadd hC dX6_lay_281 ?_
            refine z_sipush hC rfl dX6_lay_282 ?_
            refine z_icmp_le (tgt := 290) hC (inR_w _) (inR_lit rfl) hV dX6_lay_285 (by decide) ?_ ?_
            · intro hV
              refine z_aload_n hC zvr_a rfl (hL.at 0 rfl) dX6_lay_290 ?_
              refine z_getA hC hG kFX6_140_6 rfl rfl dX6_lay_291 ?_
              refine z_iload_n hC rfl (hL.at 1 rfl) dX6_lay_294 ?_
              refine z_aload_n hC zvr_a rfl (hL.at 0 rfl) dX6_lay_295 ?_
              refine z_getF hC hG kFX6_321_6 rfl rfl hV dX6_lay_296 ?_
              intro x2 hx2 hV
              refine z_iast hC hG rfl (Nat.le_of_ble_eq_true rfl) (Nat.le_of_ble_eq_true rfl) rfl rfl rfl hp0 hx2 hV dX6_lay_299 ?_
              intro G4 _ _ hG hV
              refine z_aload_n hC zvr_a rfl (hL.at 0 rfl) dX6_lay_300 ?_
              refine z_getA hC hG kFX6_143_6 rfl rfl dX6_lay_301 ?_
              refine z_iload_n hC rfl (hL.at 1 rfl) dX6_lay_304 ?_
              refine z_iload hC (hL.at 3 rfl) dX6_lay_305 ?_
              refine z_iast hC hG rfl (Nat.le_of_ble_eq_true rfl) (Nat.le_of_ble_eq_true rfl) rfl rfl rfl hp0 hy267_6 hV dX6_lay_307 ?_
              intro G5 _ _ hG hV
              refine z_iconst hC dX6_lay_308 ?_
              refine z_istore (lv' := [(8, .int (zI 0)), (0, .ref (zA P 5 0 0)), (1, .int (zI p0)), (3, .int (zI a13_3)), (6, .int (zI y267_6)), (7, .int (zI z135_0))]) hC hL (by decide) rfl dX6_lay_309 (fun ls hL => ?_)
              refine zl2_use hV (fun (a311_8 : Int) (K311 : ZG) => inR a311_8 → ∀ (H : Heap) (locs : List Loc), zS P s K311 H locs → ∀ (ls : Array Slot), zL ls 10 [(0, .ref (zA P 5 0 0)), (1, .int (zI p0)), (3, .int (zI a13_3)), (6, .int (zI y267_6)), (7, .int (zI z135_0)), (8, .int (zI a311_8))] → W p l e rX6_lay s m args below meth c H locs 0 0 (MQ below (zQz P Q) args s 0 0 (zAr P)) (F0 m 311 ls [])) ?_ (inR_lit rfl) _ _ hG _ (hL.sub [1, 2, 3, 4, 5, 0] rfl)
              intro P311 a311_8 K311 hP311 hV ha311_8 H locs hG ls hL
              refine z_iload hC (hL.at 5 rfl) dX6_lay_311 ?_
              refine z_iload hC (hL.at 3 rfl) dX6_lay_313 ?_
              refine z_icmp_ge (tgt := 380) hC ha311_8 hy267_6 hV dX6_lay_315 (by decide) ?_ ?_
              · intro hV
                refine z_iconst hC dX6_lay_380 ?_
                exact z_zret hC hG hr hk (Or.inr rfl) hV (Nat.le_of_ble_eq_true rfl) (Nat.le_of_ble_eq_true rfl) dX6_lay_381
              · intro hV
                refine z_iload hC (hL.at 4 rfl) dX6_lay_318 ?_
                refine z_iconst hC dX6_lay_320 ?_
                obtain ⟨J344, eJ344, hV⟩ := zjn_abs hV
                have hJ344 : ∀ {H : Heap} {locs : List Loc}, zS P s K311 H locs → ∀ (z344_0 : Int), (z344_0 = 0 ∨ z344_0 = 1) → J344 z344_0 → ∀ (ls : Array Slot), zL ls 10 [(0, .ref (zA P 5 0 0)), (1, .int (zI p0)), (3, .int (zI a13_3)), (6, .int (zI y267_6)), (7, .int (zI z135_0)), (8, .int (zI a311_8))] → W p l e rX6_lay s m args below meth c H locs 0 0 (MQ below (zQz P Q) args s 0 0 (zAr P)) (F0 m 344 ls [.int (zI z344_0)]) := by
                  intro H locs hG z344_0 hz344_0 hV ls hL
                  rw [eJ344] at hV
                  refine z_istore (lv' := [(9, .int (zI z344_0)), (0, .ref (zA P 5 0 0)), (1, .int (zI p0)), (3, .int (zI a13_3)), (6, .int (zI y267_6)), (7, .int (zI z135_0)), (8, .int (zI a311_8))]) hC hL (by decide) rfl dX6_lay_344 (fun ls hL => ?_)
                  refine z_aload_n hC zvr_a rfl (hL.at 1 rfl) dX6_lay_346 ?_
                  refine z_iload_n hC rfl (hL.at 2 rfl) dX6_lay_347 ?_
                  refine z_iload hC (hL.at 0 rfl) dX6_lay_348 ?_
                  obtain ⟨J368, eJ368, hV⟩ := zjn_abs hV
                  have hJ368 : ∀ {H : Heap} {locs : List Loc}, zS P s K311 H locs → ∀ (z368_2 : Int), inR z368_2 → J368 z368_2 → ∀ (ls : Array Slot), zL ls 10 [(0, .ref (zA P 5 0 0)), (1, .int (zI p0)), (3, .int (zI a13_3)), (6, .int (zI y267_6)), (7, .int (zI z135_0)), (8, .int (zI a311_8))] → W p l e rX6_lay s m args below meth c H locs 0 0 (MQ below (zQz P Q) args s 0 0 (zAr P)) (F0 m 368 ls [.int (zI z368_2), .int (zI p0), .ref (zA P 5 0 0)]) := by
                    intro H locs hG z368_2 hz368_2 hV ls hL
                    rw [eJ368] at hV
                    refine z_iload_n hC rfl (hL.at 2 rfl) dX6_lay_368 ?_
                    refine z_iconst hC dX6_lay_369 ?_
                    refine z_call_i hG (zrunV (ci := 6) hC hG (Nat.le_of_ble_eq_true rfl) (Nat.le_of_ble_eq_true rfl) (zobj hG rfl (Nat.le_of_ble_eq_true rfl) (Nat.le_of_ble_eq_true rfl)) (mX6_node l P K311 p0 hp0 z368_2 hz368_2 a13_3 ha13_3 0 (inR_lit rfl) hV) kVX6_345 rfl rfl rfl ⟨(Nat.le_of_ble_eq_true rfl), (Nat.le_of_ble_eq_true rfl)⟩ ⟨(Nat.le_of_ble_eq_true rfl), (Nat.le_of_ble_eq_true rfl)⟩ rfl ⟨zcs_0, (Nat.le_of_ble_eq_true rfl)⟩ hL.1.1 dX6_lay_370) ?_
                    rintro x3 G6 _ _ hx3 hV hG
                    refine z_pop hC rfl dX6_lay_373 ?_
                    refine z_iincV (fun x4 => [(8, .int (zI x4)), (0, .ref (zA P 5 0 0)), (1, .int (zI p0)), (3, .int (zI a13_3)), (6, .int (zI y267_6)), (7, .int (zI z135_0))]) hC hL (k := 5) rfl (by decide) (fun _ => rfl) hV dX6_lay_374 ?_
                    intro x4 hx4 hV ls hL
                    refine z_goto (tgt := 311) hC dX6_lay_377 (by decide) ?_
                    exact hP311 x4 G6 hV hx4 _ _ hG _ (hL.sub [1, 2, 3, 4, 5, 0] rfl)
                  refine z_if_eq (tgt := 366) hC (inR_b hz344_0) hV dX6_lay_350 (by decide) ?_ ?_
                  · intro hV
                    refine z_bipush hC rfl dX6_lay_366 ?_
                    exact hJ368 hG (-9) (inR_lit rfl) hV _ (hL.sub [1, 2, 3, 4, 5, 6] rfl)
                  · intro hV
                    refine z_iload hC (hL.at 6 rfl) dX6_lay_353 ?_
                    refine z_if_ne (tgt := 362) hC ha311_8 hV dX6_lay_355 (by decide) ?_ ?_
                    · intro hV
                      refine z_iconst hC dX6_lay_362 ?_
                      refine z_goto (tgt := 368) hC dX6_lay_363 (by decide) ?_
                      exact hJ368 hG 1 (inR_lit rfl) hV _ (hL.sub [1, 2, 3, 4, 5, 6] rfl)
                    · intro hV
                      refine z_iconst hC dX6_lay_358 ?_
                      refine z_goto (tgt := 368) hC dX6_lay_359 (by decide) ?_
                      exact hJ368 hG 0 (inR_lit rfl) hV _ (hL.sub [1, 2, 3, 4, 5, 6] rfl)
                obtain ⟨J343, eJ343, hV⟩ := zjn_abs hV
                have hJ343 : ∀ {H : Heap} {locs : List Loc}, zS P s K311 H locs → J343 () → ∀ (ls : Array Slot), zL ls 10 [(0, .ref (zA P 5 0 0)), (1, .int (zI p0)), (3, .int (zI a13_3)), (6, .int (zI y267_6)), (7, .int (zI z135_0)), (8, .int (zI a311_8))] → W p l e rX6_lay s m args below meth c H locs 0 0 (MQ below (zQz P Q) args s 0 0 (zAr P)) (F0 m 343 ls []) := by
                  intro H locs hG hV ls hL
                  rw [eJ343] at hV
                  refine z_iconst hC dX6_lay_343 ?_
                  exact hJ344 hG 0 (Or.inl rfl) hV _ hL
                refine z_icmp_ne (tgt := 343) hC hz135_0 (inR_lit rfl) hV dX6_lay_321 (by decide) ?_ ?_
                · intro hV
                  exact hJ343 hG hV _ hL
                · intro hV
                  refine z_iload hC (hL.at 5 rfl) dX6_lay_324 ?_
                  obtain ⟨J339, eJ339, hV⟩ := zjn_abs hV
                  have hJ339 : ∀ {H : Heap} {locs : List Loc}, zS P s K311 H locs → J339 () → ∀ (ls : Array Slot), zL ls 10 [(0, .ref (zA P 5 0 0)), (1, .int (zI p0)), (3, .int (zI a13_3)), (6, .int (zI y267_6)), (7, .int (zI z135_0)), (8, .int (zI a311_8))] → W p l e rX6_lay s m args below meth c H locs 0 0 (MQ below (zQz P Q) args s 0 0 (zAr P)) (F0 m 339 ls []) := by
                    intro H locs hG hV ls hL
                    rw [eJ339] at hV
                    refine z_iconst hC dX6_lay_339 ?_
                    refine z_goto (tgt := 344) hC dX6_lay_340 (by decide) ?_
                    exact hJ344 hG 1 (Or.inr rfl) hV _ hL
                  refine z_if_eq (tgt := 339) hC ha311_8 hV dX6_lay_326 (by decide) ?_ ?_
                  · intro hV
                    exact hJ339 hG hV _ hL
                  · intro hV
                    refine z_aload_n hC zvr_a rfl (hL.at 0 rfl) dX6_lay_329 ?_
                    refine z_getA hC hG kFX6_74_6 rfl rfl dX6_lay_330 ?_
                    refine z_iload_n hC rfl (hL.at 2 rfl) dX6_lay_333 ?_
                    refine z_iald hC hG rfl rfl rfl ha13_3 hV dX6_lay_334 ?_
                    intro x5 hx5 hV
                    refine z_iconst hC dX6_lay_335 ?_
                    refine z_icmp_ne (tgt := 343) hC hx5 (inR_lit rfl) hV dX6_lay_336 (by decide) ?_ ?_
                    · intro hV
                      exact hJ343 hG hV _ hL
                    · intro hV
                      exact hJ339 hG hV _ hL
            · intro hV
              refine z_iconst hC dX6_lay_288 ?_
              exact z_zret hC hG hr hk (Or.inl rfl) hV (Nat.le_of_ble_eq_true rfl) (Nat.le_of_ble_eq_true rfl) dX6_lay_289
          refine z_icmp_ne (tgt := 181) hC hz135_0 (inR_lit rfl) hV dX6_lay_140 (by decide) ?_ ?_
          · intro hV
            refine z_iload hC (hL.at 0 rfl) dX6_lay_181 ?_
            refine z_iconst hC dX6_lay_183 ?_
            refine z_icmp_ne (tgt := 267) hC hz135_0 (inR_lit rfl) hV dX6_lay_184 (by decide) ?_ ?_
            · intro hV
              exact hJ267 2 G2 (inR_lit rfl) hV _ _ _ hG (hL.sub [1, 2, 4, 5, 0] rfl)
            · intro hV
              refine z_aload_n hC zvr_a rfl (hL.at 1 rfl) dX6_lay_187 ?_
              refine z_getA hC hG kFX6_137_6 rfl rfl dX6_lay_188 ?_
              refine z_iload_n hC rfl (hL.at 2 rfl) dX6_lay_191 ?_
              refine z_iload_n hC rfl (hL.at 3 rfl) dX6_lay_192 ?_
              refine z_iconst hC dX6_lay_193 ?_
              obtain ⟨J208, eJ208, hV⟩ := zjn_abs hV
              have hJ208 : ∀ (z208_2 : Int) (H208 : ZG), inR z208_2 → J208 z208_2 H208 → ∀ (H : Heap) (locs : List Loc) (ls : Array Slot), zS P s H208 H locs → zL ls 10 [(0, .ref (zA P 5 0 0)), (1, .int (zI p0)), (3, .int (zI a13_3)), (7, .int (zI z135_0))] → W p l e rX6_lay s m args below meth c H locs 0 0 (MQ below (zQz P Q) args s 0 0 (zAr P)) (F0 m 208 ls [.int (zI z208_2), .int (zI p0), .ref (zA P 5 61 0)]) := by
                intro z208_2 H208 hz208_2 hV H locs ls hG hL
                rw [eJ208] at hV
                refine z_iast hC hG rfl (Nat.le_of_ble_eq_true rfl) (Nat.le_of_ble_eq_true rfl) rfl rfl rfl hp0 hz208_2 hV dX6_lay_208 ?_
                intro G7 _ _ hG hV
                refine z_aload_n hC zvr_a rfl (hL.at 0 rfl) dX6_lay_209 ?_
                refine z_getA hC hG kFX6_134_6 rfl rfl dX6_lay_210 ?_
                refine z_iload_n hC rfl (hL.at 1 rfl) dX6_lay_213 ?_
                refine z_aload_n hC zvr_a rfl (hL.at 0 rfl) dX6_lay_214 ?_
                refine z_aload_n hC zvr_a rfl (hL.at 0 rfl) dX6_lay_215 ?_
                refine z_getA hC hG kFX6_137_6 rfl rfl dX6_lay_216 ?_
                refine z_iload_n hC rfl (hL.at 1 rfl) dX6_lay_219 ?_
                refine z_iald hC hG rfl rfl rfl hp0 hV dX6_lay_220 ?_
                intro x6 hx6 hV
                refine z_call_i hG (zrunV (ci := 6) hC hG (Nat.le_of_ble_eq_true rfl) (Nat.le_of_ble_eq_true rfl) (zobj hG rfl (Nat.le_of_ble_eq_true rfl) (Nat.le_of_ble_eq_true rfl)) (mX6_kindOf l P G7 x6 hx6 hV) kVX6_342 rfl rfl rfl ⟨(Nat.le_of_ble_eq_true rfl), (Nat.le_of_ble_eq_true rfl)⟩ ⟨(Nat.le_of_ble_eq_true rfl), (Nat.le_of_ble_eq_true rfl)⟩ rfl ⟨(zcs_c rfl (zcs_c rfl zcs_0)), (Nat.le_of_ble_eq_true rfl)⟩ hL.1.1 dX6_lay_221) ?_
                rintro x7 G8 _ _ hx7 hV hG
                refine z_iast hC hG rfl (Nat.le_of_ble_eq_true rfl) (Nat.le_of_ble_eq_true rfl) rfl rfl rfl hp0 hx7 hV dX6_lay_224 ?_
                intro G9 _ _ hG hV
                refine z_aload_n hC zvr_a rfl (hL.at 0 rfl) dX6_lay_225 ?_
                refine z_getA hC hG kFX6_134_6 rfl rfl dX6_lay_226 ?_
                refine z_iload_n hC rfl (hL.at 1 rfl) dX6_lay_229 ?_
                refine z_iald hC hG rfl rfl rfl hp0 hV dX6_lay_230 ?_
                intro x8 hx8 hV
                refine z_iconst hC dX6_lay_231 ?_
                obtain ⟨J265, eJ265, hV⟩ := zjn_abs hV
                have hJ265 : ∀ {H : Heap} {locs : List Loc}, zS P s G9 H locs → ∀ (z265_0 : Int), inR z265_0 → J265 z265_0 → ∀ (ls : Array Slot), zL ls 10 [(0, .ref (zA P 5 0 0)), (1, .int (zI p0)), (3, .int (zI a13_3)), (7, .int (zI z135_0))] → W p l e rX6_lay s m args below meth c H locs 0 0 (MQ below (zQz P Q) args s 0 0 (zAr P)) (F0 m 265 ls [.int (zI z265_0)]) := by
                  intro H locs hG z265_0 hz265_0 hV ls hL
                  rw [eJ265] at hV
                  refine z_istore (lv' := [(6, .int (zI z265_0)), (0, .ref (zA P 5 0 0)), (1, .int (zI p0)), (3, .int (zI a13_3)), (7, .int (zI z135_0))]) hC hL (by decide) rfl dX6_lay_265 (fun ls hL => ?_)
                  exact hJ267 z265_0 G9 hz265_0 hV _ _ _ hG (hL.sub [1, 2, 3, 0, 4] rfl)
                refine z_icmp_ne (tgt := 240) hC hx8 (inR_lit rfl) hV dX6_lay_232 (by decide) ?_ ?_
                · intro hV
                  refine z_aload_n hC zvr_a rfl (hL.at 0 rfl) dX6_lay_240 ?_
                  refine z_getA hC hG kFX6_134_6 rfl rfl dX6_lay_241 ?_
                  refine z_iload_n hC rfl (hL.at 1 rfl) dX6_lay_244 ?_
                  refine z_iald hC hG rfl rfl rfl hp0 hV dX6_lay_245 ?_
                  intro x9 hx9 hV
                  refine z_iconst hC dX6_lay_246 ?_
                  refine z_icmp_ne (tgt := 254) hC hx9 (inR_lit rfl) hV dX6_lay_247 (by decide) ?_ ?_
                  · intro hV
                    refine z_aload_n hC zvr_a rfl (hL.at 0 rfl) dX6_lay_254 ?_
                    refine z_getA hC hG kFX6_7_6 rfl rfl dX6_lay_255 ?_
                    refine z_aload_n hC zvr_a rfl (hL.at 0 rfl) dX6_lay_258 ?_
                    refine z_getA hC hG kFX6_134_6 rfl rfl dX6_lay_259 ?_
                    refine z_iload_n hC rfl (hL.at 1 rfl) dX6_lay_262 ?_
                    refine z_iald hC hG rfl rfl rfl hp0 hV dX6_lay_263 ?_
                    intro x10 hx10 hV
                    refine z_iald hC hG rfl rfl rfl hx10 hV dX6_lay_264 ?_
                    intro x11 hx11 hV
                    exact hJ265 hG x11 hx11 hV _ hL
                  · intro hV
                    refine z_iconst hC dX6_lay_250 ?_
                    refine z_goto (tgt := 265) hC dX6_lay_251 (by decide) ?_
                    exact hJ265 hG 4 (inR_lit rfl) hV _ hL
                · intro hV
                  refine z_bipush hC rfl dX6_lay_235 ?_
                  refine z_goto (tgt := 265) hC dX6_lay_237 (by decide) ?_
                  exact hJ265 hG 10 (inR_lit rfl) hV _ hL
              refine z_icmp_ne (tgt := 204) hC hp1 (inR_lit rfl) hV dX6_lay_194 (by decide) ?_ ?_
              · intro hV
                refine z_aload_n hC zvr_a rfl (hL.at 1 rfl) dX6_lay_204 ?_
                refine z_getF hC hG kFX6_286_6 rfl rfl hV dX6_lay_205 ?_
                intro x12 hx12 hV
                exact hJ208 x12 G2 hx12 hV _ _ _ hG (hL.sub [1, 2, 4, 0] rfl)
              · intro hV
                refine z_aload_n hC zvr_a rfl (hL.at 1 rfl) dX6_lay_197 ?_
                refine z_call_i hG (zrunV (ci := 6) hC hG (Nat.le_of_ble_eq_true rfl) (Nat.le_of_ble_eq_true rfl) (zobj hG rfl (Nat.le_of_ble_eq_true rfl) (Nat.le_of_ble_eq_true rfl)) (mX6_mostNeeded l P G2 hV) kVX6_339 rfl rfl rfl ⟨(Nat.le_of_ble_eq_true rfl), (Nat.le_of_ble_eq_true rfl)⟩ ⟨(Nat.le_of_ble_eq_true rfl), (Nat.le_of_ble_eq_true rfl)⟩ rfl ⟨(zcs_c rfl (zcs_c rfl zcs_0)), (Nat.le_of_ble_eq_true rfl)⟩ hL.1.1 dX6_lay_198) ?_
                rintro x13 G10 _ _ hx13 hV hG
                refine z_goto (tgt := 208) hC dX6_lay_201 (by decide) ?_
                exact hJ208 x13 G10 hx13 hV _ _ _ hG (hL.sub [1, 2, 4, 0] rfl)
          · intro hV
            refine z_aload_n hC zvr_a rfl (hL.at 1 rfl) dX6_lay_143 ?_
            refine z_getA hC hG kFX6_134_6 rfl rfl dX6_lay_144 ?_
            refine z_iload_n hC rfl (hL.at 2 rfl) dX6_lay_147 ?_
            refine z_aload_n hC zvr_a rfl (hL.at 1 rfl) dX6_lay_148 ?_
            refine z_getF hC hG kFX6_302_6 rfl rfl hV dX6_lay_149 ?_
            intro x14 hx14 hV
            refine z_iast hC hG rfl (Nat.le_of_ble_eq_true rfl) (Nat.le_of_ble_eq_true rfl) rfl rfl rfl hp0 hx14 hV dX6_lay_152 ?_
            intro G11 _ _ hG hV
            refine z_aload_n hC zvr_a rfl (hL.at 1 rfl) dX6_lay_153 ?_
            refine z_getA hC hG kFX6_137_6 rfl rfl dX6_lay_154 ?_
            refine z_iload_n hC rfl (hL.at 2 rfl) dX6_lay_157 ?_
            refine z_aload_n hC zvr_a rfl (hL.at 1 rfl) dX6_lay_158 ?_
            refine z_getF hC hG kFX6_286_6 rfl rfl hV dX6_lay_159 ?_
            intro x15 hx15 hV
            refine z_iast hC hG rfl (Nat.le_of_ble_eq_true rfl) (Nat.le_of_ble_eq_true rfl) rfl rfl rfl hp0 hx15 hV dX6_lay_162 ?_
            intro G12 _ _ hG hV
            refine z_aload_n hC zvr_a rfl (hL.at 1 rfl) dX6_lay_163 ?_
            refine z_getA hC hG kFX6_62_6 rfl rfl dX6_lay_164 ?_
            refine z_iconst hC dX6_lay_167 ?_
            refine z_aload_n hC zvr_a rfl (hL.at 1 rfl) dX6_lay_168 ?_
            refine z_getF hC hG kFX6_302_6 rfl rfl hV dX6_lay_169 ?_
            intro x16 hx16 hV
            refine z_imul hC dX6_lay_172 ?_
            refine z_iconst hC dX6_lay_173 ?_
            refine z_iadd hC dX6_lay_174 ?_
            refine z_iald hC hG rfl rfl rfl (inR_w _) hV dX6_lay_175 ?_
            intro x17 hx17 hV
            refine z_istore (lv' := [(6, .int (zI x17)), (7, .int (zI z135_0)), (0, .ref (zA P 5 0 0)), (1, .int (zI p0)), (2, .int (zI p1)), (3, .int (zI a13_3))]) hC hL (by decide) rfl dX6_lay_176 (fun ls hL => ?_)
            refine z_goto (tgt := 267) hC dX6_lay_178 (by decide) ?_
            exact hJ267 x17 G12 hx17 hV _ _ _ hG (hL.sub [2, 3, 5, 0, 1] rfl)
        refine z_if_ne (tgt := 131) hC ha13_4 hV dX6_lay_124 (by decide) ?_ ?_
        · intro hV
          refine z_aload_n hC zvr_a rfl (hL.at 1 rfl) dX6_lay_131 ?_
          refine z_getF hC hG kFX6_283_6 rfl rfl hV dX6_lay_132 ?_
          intro x18 hx18 hV
          exact hJ135 hG x18 hx18 hV _ (hL.sub [1, 2, 3, 4, 0] rfl)
        · intro hV
          refine z_iconst hC dX6_lay_127 ?_
          refine z_goto (tgt := 135) hC dX6_lay_128 (by decide) ?_
          exact hJ135 hG 3 (inR_lit rfl) hV _ (hL.sub [1, 2, 3, 4, 0] rfl)
      refine z_if_ne (tgt := 119) hC ha13_4 hV dX6_lay_97 (by decide) ?_ ?_
      · intro hV
        exact hJ119 hG hV _ (hL.sub [0, 1, 2, 3, 4] rfl)
      · intro hV
        refine z_aload_n hC zvr_a rfl (hL.at 0 rfl) dX6_lay_100 ?_
        refine z_getA hC hG kFX6_74_6 rfl rfl dX6_lay_101 ?_
        refine z_iload_n hC rfl (hL.at 3 rfl) dX6_lay_104 ?_
        refine z_iald hC hG rfl rfl rfl ha13_3 hV dX6_lay_105 ?_
        intro x19 hx19 hV
        refine z_iconst hC dX6_lay_106 ?_
        refine z_icmp_ne (tgt := 119) hC hx19 (inR_lit rfl) hV dX6_lay_107 (by decide) ?_ ?_
        · intro hV
          exact hJ119 hG hV _ (hL.sub [0, 1, 2, 3, 4] rfl)
        · intro hV
          refine z_aload_n hC zvr_a rfl (hL.at 0 rfl) dX6_lay_110 ?_
          refine z_getA hC hG kFX6_131_6 rfl rfl dX6_lay_111 ?_
          refine z_iload_n hC rfl (hL.at 1 rfl) dX6_lay_114 ?_
          refine z_iconst hC dX6_lay_115 ?_
          refine z_iast hC hG rfl (Nat.le_of_ble_eq_true rfl) (Nat.le_of_ble_eq_true rfl) rfl rfl rfl hp0 (inR_lit rfl) hV dX6_lay_116 ?_
          intro G13 _ _ hG hV
          refine z_iconst hC dX6_lay_117 ?_
          exact z_zret hC hG hr hk (Or.inr rfl) hV (Nat.le_of_ble_eq_true rfl) (Nat.le_of_ble_eq_true rfl) dX6_lay_118
    · intro hV
      refine z_aload_n hC zvr_a rfl (hL.at 0 rfl) dX6_lay_79 ?_
      refine z_getA hC hG kFX6_131_6 rfl rfl dX6_lay_80 ?_
      refine z_iload_n hC rfl (hL.at 1 rfl) dX6_lay_83 ?_
      refine z_iconst hC dX6_lay_84 ?_
      refine z_iast hC hG rfl (Nat.le_of_ble_eq_true rfl) (Nat.le_of_ble_eq_true rfl) rfl rfl rfl hp0 (inR_lit rfl) hV dX6_lay_85 ?_
      intro G14 _ _ hG hV
      refine z_iconst hC dX6_lay_86 ?_
      exact z_zret hC hG hr hk (Or.inr rfl) hV (Nat.le_of_ble_eq_true rfl) (Nat.le_of_ble_eq_true rfl) dX6_lay_87
  refine z_if_eq (tgt := 74) hC (inR_b ha13_5) hV dX6_lay_15 (by decide) ?_ ?_
  · intro hV
    exact hJ74 hG hV _ hL
  · intro hV
    refine z_iload_n hC rfl (hL.at 3 rfl) dX6_lay_18 ?_
    refine z_aload_n hC zvr_a rfl (hL.at 0 rfl) dX6_lay_19 ?_
    refine z_getF hC hG kFX6_228_6 rfl rfl hV dX6_lay_20 ?_
    intro x20 hx20 hV
    refine z_icmp_ge (tgt := 74) hC ha13_3 hx20 hV dX6_lay_23 (by decide) ?_ ?_
    · intro hV
      exact hJ74 hG hV _ hL
    · intro hV
      refine z_aload_n hC zvr_a rfl (hL.at 0 rfl) dX6_lay_26 ?_
      refine z_iload_n hC rfl (hL.at 3 rfl) dX6_lay_27 ?_
      refine z_call_z hG (zrunV (ci := 6) hC hG (Nat.le_of_ble_eq_true rfl) (Nat.le_of_ble_eq_true rfl) (zobj hG rfl (Nat.le_of_ble_eq_true rfl) (Nat.le_of_ble_eq_true rfl)) (mX6_hasFailed l P K13 a13_3 ha13_3 hV) kVX6_330 rfl rfl rfl ⟨(Nat.le_of_ble_eq_true rfl), (Nat.le_of_ble_eq_true rfl)⟩ ⟨(Nat.le_of_ble_eq_true rfl), (Nat.le_of_ble_eq_true rfl)⟩ rfl ⟨zcs_0, (Nat.le_of_ble_eq_true rfl)⟩ hL.1.1 dX6_lay_28) ?_
      rintro x21 _ _ _ hx21 ⟨rfl, hV⟩ hG
      obtain ⟨J43, eJ43, hV⟩ := zjn_abs hV
      have hJ43 : ∀ (z43_0 : Int) (H43 : ZG), inR z43_0 → J43 z43_0 H43 → ∀ (H : Heap) (locs : List Loc) (ls : Array Slot), zS P s H43 H locs → zL ls 10 [(0, .ref (zA P 5 0 0)), (1, .int (zI p0)), (2, .int (zI p1)), (3, .int (zI a13_3))] → W p l e rX6_lay s m args below meth c H locs 0 0 (MQ below (zQz P Q) args s 0 0 (zAr P)) (F0 m 43 ls [.int (zI z43_0)]) := by
        intro z43_0 H43 hz43_0 hV H locs ls hG hL
        rw [eJ43] at hV
        refine z_istore (lv' := [(4, .int (zI z43_0)), (0, .ref (zA P 5 0 0)), (1, .int (zI p0)), (2, .int (zI p1)), (3, .int (zI a13_3))]) hC hL (by decide) rfl dX6_lay_43 (fun ls hL => ?_)
        refine z_iload hC (hL.at 0 rfl) dX6_lay_45 ?_
        refine z_iconst hC dX6_lay_47 ?_
        obtain ⟨J56, eJ56, hV⟩ := zjn_abs hV
        have hJ56 : ∀ {H : Heap} {locs : List Loc}, zS P s H43 H locs → ∀ (z56_0 : Int), (z56_0 = 0 ∨ z56_0 = 1) → J56 z56_0 → ∀ (ls : Array Slot), zL ls 10 [(0, .ref (zA P 5 0 0)), (1, .int (zI p0)), (2, .int (zI p1)), (3, .int (zI a13_3)), (4, .int (zI z43_0))] → W p l e rX6_lay s m args below meth c H locs 0 0 (MQ below (zQz P Q) args s 0 0 (zAr P)) (F0 m 56 ls [.int (zI z56_0)]) := by
          intro H locs hG z56_0 hz56_0 hV ls hL
          rw [eJ56] at hV
          refine z_istore (lv' := [(5, .int (zI z56_0)), (0, .ref (zA P 5 0 0)), (1, .int (zI p0)), (2, .int (zI p1)), (3, .int (zI a13_3)), (4, .int (zI z43_0))]) hC hL (by decide) rfl dX6_lay_56 (fun ls hL => ?_)
          refine z_iload_n hC rfl (hL.at 4 rfl) dX6_lay_58 ?_
          refine z_iload hC (hL.at 0 rfl) dX6_lay_59 ?_
          obtain ⟨J69, eJ69, hV⟩ := zjn_abs hV
          have hJ69 : ∀ {H : Heap} {locs : List Loc}, zS P s H43 H locs → ∀ (z69_1 : Int), (z69_1 = 0 ∨ z69_1 = 1) → J69 z69_1 → ∀ (ls : Array Slot), zL ls 10 [(0, .ref (zA P 5 0 0)), (1, .int (zI p0)), (2, .int (zI p1)), (4, .int (zI z43_0)), (5, .int (zI z56_0))] → W p l e rX6_lay s m args below meth c H locs 0 0 (MQ below (zQz P Q) args s 0 0 (zAr P)) (F0 m 69 ls [.int (zI z69_1), .int (zI a13_3)]) := by
            intro H locs hG z69_1 hz69_1 hV ls hL
            rw [eJ69] at hV
            refine z_iadd hC dX6_lay_69 ?_
            refine z_top hV (inR_w _) ?_
            intro x22 hx22 hV
            refine z_istore_n (lv' := [(3, .int (zI x22)), (0, .ref (zA P 5 0 0)), (1, .int (zI p0)), (2, .int (zI p1)), (4, .int (zI z43_0)), (5, .int (zI z56_0))]) hC rfl hL (by decide) rfl dX6_lay_70 (fun ls hL => ?_)
            refine z_goto (tgt := 13) hC dX6_lay_71 (by decide) ?_
            exact hP13 x22 z43_0 z56_0 H43 hV hx22 hz43_0 hz56_0 _ _ hG _ (hL.sub [1, 2, 3, 0, 4, 5] rfl)
          refine z_if_eq (tgt := 68) hC (inR_b hz56_0) hV dX6_lay_61 (by decide) ?_ ?_
          · intro hV
            refine z_iconst hC dX6_lay_68 ?_
            exact hJ69 hG 0 (Or.inl rfl) hV _ (hL.sub [1, 2, 3, 5, 0] rfl)
          · intro hV
            refine z_iconst hC dX6_lay_64 ?_
            refine z_goto (tgt := 69) hC dX6_lay_65 (by decide) ?_
            exact hJ69 hG 1 (Or.inr rfl) hV _ (hL.sub [1, 2, 3, 5, 0] rfl)
        refine z_icmp_ne (tgt := 55) hC hz43_0 (inR_lit rfl) hV dX6_lay_48 (by decide) ?_ ?_
        · intro hV
          refine z_iconst hC dX6_lay_55 ?_
          exact hJ56 hG 0 (Or.inl rfl) hV _ (hL.sub [1, 2, 3, 4, 0] rfl)
        · intro hV
          refine z_iconst hC dX6_lay_51 ?_
          refine z_goto (tgt := 56) hC dX6_lay_52 (by decide) ?_
          exact hJ56 hG 1 (Or.inr rfl) hV _ (hL.sub [1, 2, 3, 4, 0] rfl)
      refine z_if_eq (tgt := 38) hC (inR_b hx21) hV dX6_lay_31 (by decide) ?_ ?_
      · intro hV
        refine z_aload_n hC zvr_a rfl (hL.at 0 rfl) dX6_lay_38 ?_
        refine z_iload_n hC rfl (hL.at 3 rfl) dX6_lay_39 ?_
        refine z_call_i hG (zrunV (ci := 6) hC hG (Nat.le_of_ble_eq_true rfl) (Nat.le_of_ble_eq_true rfl) (zobj hG rfl (Nat.le_of_ble_eq_true rfl) (Nat.le_of_ble_eq_true rfl)) (mX6_tryCase l P K13 a13_3 ha13_3 hV) kVX6_333 rfl rfl rfl ⟨(Nat.le_of_ble_eq_true rfl), (Nat.le_of_ble_eq_true rfl)⟩ ⟨(Nat.le_of_ble_eq_true rfl), (Nat.le_of_ble_eq_true rfl)⟩ rfl ⟨zcs_0, (Nat.le_of_ble_eq_true rfl)⟩ hL.1.1 dX6_lay_40) ?_
        rintro x23 G15 _ _ hx23 hV hG
        exact hJ43 x23 G15 hx23 hV _ _ _ hG (hL.sub [0, 1, 2, 3] rfl)
      · intro hV
        refine z_iconst hC dX6_lay_34 ?_
        refine z_goto (tgt := 43) hC dX6_lay_35 (by decide) ?_
        exact hJ43 1 K13 (inR_lit rfl) hV _ _ _ hG (hL.sub [0, 1, 2, 3] rfl)
abbrev rX6_build : Room := { frames := 9, cells := 0, slots := 0, locals := 205 }
def vX6_build (p0 : Int) (G : ZG) (Q : ZG → Prop) : Prop := zgF G 5 54 fun (x1 : Int) => zbr (x1 ≠ p0) (zpF G 5 54 p0 fun (G1 : ZG) => zpF G1 5 40 0 fun (G2 : ZG) => zpF G2 5 55 0 fun (G3 : ZG) => zpF G3 5 56 0 fun (G4 : ZG) => vX6_node (-1) (-9) 0 0 G4 fun (x2 : Int) (G5 : ZG) => zl2 (fun (P41 : Int → ZG → Prop) (a41_2 : Int) (K41 : ZG) => zgF K41 5 56 fun (x3 : Int) => zjn (fun (_ : Unit) => Q K41) fun J91 => zbr (x3 ≤ a41_2) (J91 ()) (zgF K41 5 55 fun (x4 : Int) => zbr (x4 ≠ 0) (J91 ()) (zaL K41 5 58 512 a41_2 fun (x5 : Int) => zjn (fun (z82_1 : Int) (H82 : ZG) => zpF H82 5 55 z82_1 fun (G6 : ZG) => zlt1 (w32 (a41_2 + 1)) fun (x6 : Int) => P41 x6 G6) fun J82 => zjn (fun (H81 : ZG) => J82 0 H81) fun J81 => zbr (x5 ≠ (-9)) (J81 K41) (vX6_lay a41_2 p0 K41 fun (x7 : Int) (G7 : ZG) => zbr (x7 ≠ 0) (J81 G7) (J82 1 G7))))) 0 G5) (Q G)
set_option maxHeartbeats 4000000 in
theorem mX6_build (l : Launch) (P : ZP) (G : ZG) (p0 : Int) (hp0 : inR p0) {Q : ZG → Prop} (hV : vX6_build p0 G Q) : Met l yX6_build (ws_ yX6_build cX6_build 3 none) rX6_build (zPc P G [.ref (zA P 5 0 0), .int (zI p0)]) (zQv P Q) 0 0 (zAr P) := by
  refine zMet RX6 (plainFor_of_name (by decide)) rfl (zcs_c rfl (zcs_c rfl zcs_0)) (Nat.le_of_ble_eq_true rfl) (fun p e s m args below meth c ls hC hr hk hn hG hL => ?_)
  unfold vX6_build at hV
  refine z_aload_n hC zvr_a rfl (hL.at 0 rfl) dX6_build_0 ?_
  refine z_getF hC hG kFX6_161_6 rfl rfl hV dX6_build_1 ?_
  intro x1 hx1 hV
  refine z_iload_n hC rfl (hL.at 1 rfl) dX6_build_4 ?_
  refine z_icmp_ne (tgt := 9) hC hx1 hp0 hV dX6_build_5 (by decide) ?_ ?_
  · intro hV
    refine z_aload_n hC zvr_a rfl (hL.at 0 rfl) dX6_build_9 ?_
    refine z_iload_n hC rfl (hL.at 1 rfl) dX6_build_10 ?_
    refine z_putF hC hG kFX6_161_6 rfl rfl rfl rfl nk_6_54 hp0 (Or.inl rfl) hV dX6_build_11 ?_
    intro G1 _ _ hG hV
    refine z_aload_n hC zvr_a rfl (hL.at 0 rfl) dX6_build_14 ?_
    refine z_iconst hC dX6_build_15 ?_
    refine z_putF hC hG kFX6_261_6 rfl rfl rfl rfl nk_6_40 (inR_lit rfl) (Or.inr ⟨rfl, (Or.inl rfl)⟩) hV dX6_build_16 ?_
    intro G2 _ _ hG hV
    refine z_aload_n hC zvr_a rfl (hL.at 0 rfl) dX6_build_19 ?_
    refine z_iconst hC dX6_build_20 ?_
    refine z_putF hC hG kFX6_348_6 rfl rfl rfl rfl nk_6_55 (inR_lit rfl) (Or.inr ⟨rfl, (Or.inl rfl)⟩) hV dX6_build_21 ?_
    intro G3 _ _ hG hV
    refine z_aload_n hC zvr_a rfl (hL.at 0 rfl) dX6_build_24 ?_
    refine z_iconst hC dX6_build_25 ?_
    refine z_putF hC hG kFX6_321_6 rfl rfl rfl rfl nk_6_56 (inR_lit rfl) (Or.inl rfl) hV dX6_build_26 ?_
    intro G4 _ _ hG hV
    refine z_aload_n hC zvr_a rfl (hL.at 0 rfl) dX6_build_29 ?_
    refine z_iconst hC dX6_build_30 ?_
    refine z_bipush hC rfl dX6_build_31 ?_
    refine z_iconst hC dX6_build_33 ?_
    refine z_iconst hC dX6_build_34 ?_
    refine z_call_i hG (zrunV (ci := 6) hC hG (Nat.le_of_ble_eq_true rfl) (Nat.le_of_ble_eq_true rfl) (zobj hG rfl (Nat.le_of_ble_eq_true rfl) (Nat.le_of_ble_eq_true rfl)) (mX6_node l P G4 (-1) (inR_lit rfl) (-9) (inR_lit rfl) 0 (inR_lit rfl) 0 (inR_lit rfl) hV) kVX6_345 rfl rfl rfl ⟨(Nat.le_of_ble_eq_true rfl), (Nat.le_of_ble_eq_true rfl)⟩ ⟨(Nat.le_of_ble_eq_true rfl), (Nat.le_of_ble_eq_true rfl)⟩ rfl ⟨zcs_0, (Nat.le_of_ble_eq_true rfl)⟩ hL.1.1 dX6_build_35) ?_
    rintro x2 G5 _ _ hx2 hV hG
    refine z_pop hC rfl dX6_build_38 ?_
    refine z_iconst hC dX6_build_39 ?_
    refine z_istore_n (lv' := [(2, .int (zI 0)), (0, .ref (zA P 5 0 0)), (1, .int (zI p0))]) hC rfl hL (by decide) rfl dX6_build_40 (fun ls hL => ?_)
    refine zl2_use hV (fun (a41_2 : Int) (K41 : ZG) => inR a41_2 → ∀ (H : Heap) (locs : List Loc), zS P s K41 H locs → ∀ (ls : Array Slot), zL ls 3 [(0, .ref (zA P 5 0 0)), (1, .int (zI p0)), (2, .int (zI a41_2))] → W p l e rX6_build s m args below meth c H locs 0 0 (MQ below (zQv P Q) args s 0 0 (zAr P)) (F0 m 41 ls [])) ?_ (inR_lit rfl) _ _ hG _ (hL.sub [1, 2, 0] rfl)
    intro P41 a41_2 K41 hP41 hV ha41_2 H locs hG ls hL
    refine z_iload_n hC rfl (hL.at 2 rfl) dX6_build_41 ?_
    refine z_aload_n hC zvr_a rfl (hL.at 0 rfl) dX6_build_42 ?_
    refine z_getF hC hG kFX6_321_6 rfl rfl hV dX6_build_43 ?_
    intro x3 hx3 hV
    obtain ⟨J91, eJ91, hV⟩ := zjn_abs hV
    have hJ91 : ∀ {H : Heap} {locs : List Loc}, zS P s K41 H locs → J91 () → ∀ (ls : Array Slot), zL ls 3 [] → W p l e rX6_build s m args below meth c H locs 0 0 (MQ below (zQv P Q) args s 0 0 (zAr P)) (F0 m 91 ls []) := by
      intro H locs hG hV ls hL
      rw [eJ91] at hV
      exact z_vret hC hG hr hk hV (Nat.le_of_ble_eq_true rfl) (Nat.le_of_ble_eq_true rfl) dX6_build_91
    refine z_icmp_ge (tgt := 91) hC ha41_2 hx3 hV dX6_build_46 (by decide) ?_ ?_
    · intro hV
      exact hJ91 hG hV _ (hL.sub [] rfl)
    · intro hV
      refine z_aload_n hC zvr_a rfl (hL.at 0 rfl) dX6_build_49 ?_
      refine z_getF hC hG kFX6_348_6 rfl rfl hV dX6_build_50 ?_
      intro x4 hx4 hV
      refine z_if_ne (tgt := 91) hC hx4 hV dX6_build_53 (by decide) ?_ ?_
      · intro hV
        exact hJ91 hG hV _ (hL.sub [] rfl)
      · intro hV
        refine z_aload_n hC zvr_a rfl (hL.at 0 rfl) dX6_build_56 ?_
        refine z_aload_n hC zvr_a rfl (hL.at 0 rfl) dX6_build_57 ?_
        refine z_getA hC hG kFX6_131_6 rfl rfl dX6_build_58 ?_
        refine z_iload_n hC rfl (hL.at 2 rfl) dX6_build_61 ?_
        refine z_iald hC hG rfl rfl rfl ha41_2 hV dX6_build_62 ?_
        intro x5 hx5 hV
        refine z_bipush hC rfl dX6_build_63 ?_
        obtain ⟨J82, eJ82, hV⟩ := zjn_abs hV
        have hJ82 : ∀ (z82_1 : Int) (H82 : ZG), (z82_1 = 0 ∨ z82_1 = 1) → J82 z82_1 H82 → ∀ (H : Heap) (locs : List Loc) (ls : Array Slot), zS P s H82 H locs → zL ls 3 [(0, .ref (zA P 5 0 0)), (1, .int (zI p0)), (2, .int (zI a41_2))] → W p l e rX6_build s m args below meth c H locs 0 0 (MQ below (zQv P Q) args s 0 0 (zAr P)) (F0 m 82 ls [.int (zI z82_1), .ref (zA P 5 0 0)]) := by
          intro z82_1 H82 hz82_1 hV H locs ls hG hL
          rw [eJ82] at hV
          refine z_putF hC hG kFX6_348_6 rfl rfl rfl rfl nk_6_55 (inR_b hz82_1) (Or.inr ⟨rfl, hz82_1⟩) hV dX6_build_82 ?_
          intro G6 _ _ hG hV
          refine z_iincV (fun x6 => [(2, .int (zI x6)), (0, .ref (zA P 5 0 0)), (1, .int (zI p0))]) hC hL (k := 2) rfl (by decide) (fun _ => rfl) hV dX6_build_85 ?_
          intro x6 hx6 hV ls hL
          refine z_goto (tgt := 41) hC dX6_build_88 (by decide) ?_
          exact hP41 x6 G6 hV hx6 _ _ hG _ (hL.sub [1, 2, 0] rfl)
        obtain ⟨J81, eJ81, hV⟩ := zjn_abs hV
        have hJ81 : ∀ (H81 : ZG), J81 H81 → ∀ (H : Heap) (locs : List Loc) (ls : Array Slot), zS P s H81 H locs → zL ls 3 [(0, .ref (zA P 5 0 0)), (1, .int (zI p0)), (2, .int (zI a41_2))] → W p l e rX6_build s m args below meth c H locs 0 0 (MQ below (zQv P Q) args s 0 0 (zAr P)) (F0 m 81 ls [.ref (zA P 5 0 0)]) := by
          intro H81 hV H locs ls hG hL
          rw [eJ81] at hV
          refine z_iconst hC dX6_build_81 ?_
          exact hJ82 0 H81 (Or.inl rfl) hV _ _ _ hG hL
        refine z_icmp_ne (tgt := 81) hC hx5 (inR_lit rfl) hV dX6_build_65 (by decide) ?_ ?_
        · intro hV
          exact hJ81 K41 hV _ _ _ hG hL
        · intro hV
          refine z_aload_n hC zvr_a rfl (hL.at 0 rfl) dX6_build_68 ?_
          refine z_iload_n hC rfl (hL.at 2 rfl) dX6_build_69 ?_
          refine z_iload_n hC rfl (hL.at 1 rfl) dX6_build_70 ?_
          refine z_call_z hG (zrunV (ci := 6) hC hG (Nat.le_of_ble_eq_true rfl) (Nat.le_of_ble_eq_true rfl) (zobj hG rfl (Nat.le_of_ble_eq_true rfl) (Nat.le_of_ble_eq_true rfl)) (mX6_lay l P K41 a41_2 ha41_2 p0 hp0 hV) kVX6_351 rfl rfl rfl ⟨(Nat.le_of_ble_eq_true rfl), (Nat.le_of_ble_eq_true rfl)⟩ ⟨(Nat.le_of_ble_eq_true rfl), (Nat.le_of_ble_eq_true rfl)⟩ rfl ⟨(zcs_c rfl zcs_0), (Nat.le_of_ble_eq_true rfl)⟩ hL.1.1 dX6_build_71) ?_
          rintro x7 G7 _ _ hx7 hV hG
          refine z_if_ne (tgt := 81) hC (inR_b hx7) hV dX6_build_74 (by decide) ?_ ?_
          · intro hV
            exact hJ81 G7 hV _ _ _ hG hL
          · intro hV
            refine z_iconst hC dX6_build_77 ?_
            refine z_goto (tgt := 82) hC dX6_build_78 (by decide) ?_
            exact hJ82 1 G7 (Or.inr rfl) hV _ _ _ hG hL
  · intro hV
    exact z_vret hC hG hr hk hV (Nat.le_of_ble_eq_true rfl) (Nat.le_of_ble_eq_true rfl) dX6_build_8
abbrev rX6_bindBy : Room := { frames := 7, cells := 0, slots := 0, locals := 153 }
def vX6_bindBy (p0 : Int) (p1 : Int) (G : ZG) (Q : ZG → Prop) : Prop := zpF G 5 40 0 fun (G1 : ZG) => zpF G1 5 41 p1 fun (G2 : ZG) => vX6_tryCase p0 G2 fun (x1 : Int) (G3 : ZG) => Q G3
set_option maxHeartbeats 4000000 in
theorem mX6_bindBy (l : Launch) (P : ZP) (G : ZG) (p0 : Int) (hp0 : inR p0) (p1 : Int) (hp1 : inR p1) {Q : ZG → Prop} (hV : vX6_bindBy p0 p1 G Q) : Met l yX6_bindBy (ws_ yX6_bindBy cX6_bindBy 3 none) rX6_bindBy (zPc P G [.ref (zA P 5 0 0), .int (zI p0), .int (zI p1)]) (zQv P Q) 0 0 (zAr P) := by
  refine zMet RX6 (plainFor_of_name (by decide)) rfl (zcs_c rfl (zcs_c rfl (zcs_c rfl zcs_0))) (Nat.le_of_ble_eq_true rfl) (fun p e s m args below meth c ls hC hr hk hn hG hL => ?_)
  unfold vX6_bindBy at hV
  refine z_aload_n hC zvr_a rfl (hL.at 0 rfl) dX6_bindBy_0 ?_
  refine z_iconst hC dX6_bindBy_1 ?_
  refine z_putF hC hG kFX6_261_6 rfl rfl rfl rfl nk_6_40 (inR_lit rfl) (Or.inr ⟨rfl, (Or.inl rfl)⟩) hV dX6_bindBy_2 ?_
  intro G1 _ _ hG hV
  refine z_aload_n hC zvr_a rfl (hL.at 0 rfl) dX6_bindBy_5 ?_
  refine z_iload_n hC rfl (hL.at 2 rfl) dX6_bindBy_6 ?_
  refine z_putF hC hG kFX6_268_6 rfl rfl rfl rfl nk_6_41 hp1 (Or.inl rfl) hV dX6_bindBy_7 ?_
  intro G2 _ _ hG hV
  refine z_aload_n hC zvr_a rfl (hL.at 0 rfl) dX6_bindBy_10 ?_
  refine z_iload_n hC rfl (hL.at 1 rfl) dX6_bindBy_11 ?_
  refine z_call_i hG (zrunV (ci := 6) hC hG (Nat.le_of_ble_eq_true rfl) (Nat.le_of_ble_eq_true rfl) (zobj hG rfl (Nat.le_of_ble_eq_true rfl) (Nat.le_of_ble_eq_true rfl)) (mX6_tryCase l P G2 p0 hp0 hV) kVX6_333 rfl rfl rfl ⟨(Nat.le_of_ble_eq_true rfl), (Nat.le_of_ble_eq_true rfl)⟩ ⟨(Nat.le_of_ble_eq_true rfl), (Nat.le_of_ble_eq_true rfl)⟩ rfl ⟨zcs_0, (Nat.le_of_ble_eq_true rfl)⟩ hL.1.1 dX6_bindBy_12) ?_
  rintro x1 G3 _ _ hx1 hV hG
  refine z_pop hC rfl dX6_bindBy_15 ?_
  exact z_vret hC hG hr hk hV (Nat.le_of_ble_eq_true rfl) (Nat.le_of_ble_eq_true rfl) dX6_bindBy_16
abbrev rX6_guarded : Room := { frames := 4, cells := 0, slots := 0, locals := 82 }
def vX6_guarded (p0 : Int) (G : ZG) (Q : Int → ZG → Prop) : Prop := zaL G 5 27 8 p0 fun (x1 : Int) => zaL G 5 39 6 x1 fun (x2 : Int) => vX6_headAt x2 G fun (x3 : Int) (G1 : ZG) => zaL G1 5 28 8 p0 fun (x4 : Int) => zaL G1 5 26 8 p0 fun (x5 : Int) => zjn (fun (z97_0 : Int) => zjn (fun (z119_0 : Int) => Q z119_0 G1) fun J119 => zbr (z97_0 = 0) (zbr (x5 ≠ 3) (J119 1) (J119 2)) (J119 0)) fun J97 => zbr (x5 ≠ 0) (zbr (x5 ≠ 1) (zbr (x5 ≠ 2) (zbr (x3 = x4) (J97 0) (J97 1)) (zbr (x3 ≤ x4) (J97 0) (J97 1))) (zbr (x3 ≠ x4) (J97 0) (J97 1))) (zbr (x4 ≤ x3) (J97 0) (J97 1))
set_option maxHeartbeats 4000000 in
theorem mX6_guarded (l : Launch) (P : ZP) (G : ZG) (p0 : Int) (hp0 : inR p0) {Q : Int → ZG → Prop} (hV : vX6_guarded p0 G Q) : Met l yX6_guarded (ws_ yX6_guarded cX6_guarded 6 (some .int)) rX6_guarded (zPc P G [.ref (zA P 5 0 0), .int (zI p0)]) (zQi P Q) 0 0 (zAr P) := by
  refine zMet RX6 (plainFor_of_name (by decide)) rfl (zcs_c rfl (zcs_c rfl zcs_0)) (Nat.le_of_ble_eq_true rfl) (fun p e s m args below meth c ls hC hr hk hn hG hL => ?_)
  unfold vX6_guarded at hV
  refine z_aload_n hC zvr_a rfl (hL.at 0 rfl) dX6_guarded_0 ?_
  refine z_aload_n hC zvr_a rfl (hL.at 0 rfl) dX6_guarded_1 ?_
  refine z_getA hC hG kFX6_107_6 rfl rfl dX6_guarded_2 ?_
  refine z_aload_n hC zvr_a rfl (hL.at 0 rfl) dX6_guarded_5 ?_
  refine z_getA hC hG kFX6_77_6 rfl rfl dX6_guarded_6 ?_
  refine z_iload_n hC rfl (hL.at 1 rfl) dX6_guarded_9 ?_
  refine z_iald hC hG rfl rfl rfl hp0 hV dX6_guarded_10 ?_
  intro x1 hx1 hV
  refine z_iald hC hG rfl rfl rfl hx1 hV dX6_guarded_11 ?_
  intro x2 hx2 hV
  refine z_call_i hG (zrunV (ci := 6) hC hG (Nat.le_of_ble_eq_true rfl) (Nat.le_of_ble_eq_true rfl) (zobj hG rfl (Nat.le_of_ble_eq_true rfl) (Nat.le_of_ble_eq_true rfl)) (mX6_headAt l P G x2 hx2 hV) kVX6_265 rfl rfl rfl ⟨(Nat.le_of_ble_eq_true rfl), (Nat.le_of_ble_eq_true rfl)⟩ ⟨(Nat.le_of_ble_eq_true rfl), (Nat.le_of_ble_eq_true rfl)⟩ rfl ⟨zcs_0, (Nat.le_of_ble_eq_true rfl)⟩ hL.1.1 dX6_guarded_12) ?_
  rintro x3 G1 _ _ hx3 hV hG
  refine z_istore_n (lv' := [(2, .int (zI x3)), (0, .ref (zA P 5 0 0)), (1, .int (zI p0))]) hC rfl hL (by decide) rfl dX6_guarded_15 (fun ls hL => ?_)
  refine z_aload_n hC zvr_a rfl (hL.at 1 rfl) dX6_guarded_16 ?_
  refine z_getA hC hG kFX6_80_6 rfl rfl dX6_guarded_17 ?_
  refine z_iload_n hC rfl (hL.at 2 rfl) dX6_guarded_20 ?_
  refine z_iald hC hG rfl rfl rfl hp0 hV dX6_guarded_21 ?_
  intro x4 hx4 hV
  refine z_istore_n (lv' := [(3, .int (zI x4)), (2, .int (zI x3)), (0, .ref (zA P 5 0 0)), (1, .int (zI p0))]) hC rfl hL (by decide) rfl dX6_guarded_22 (fun ls hL => ?_)
  refine z_aload_n hC zvr_a rfl (hL.at 2 rfl) dX6_guarded_23 ?_
  refine z_getA hC hG kFX6_74_6 rfl rfl dX6_guarded_24 ?_
  refine z_iload_n hC rfl (hL.at 3 rfl) dX6_guarded_27 ?_
  refine z_iald hC hG rfl rfl rfl hp0 hV dX6_guarded_28 ?_
  intro x5 hx5 hV
  refine z_istore (lv' := [(4, .int (zI x5)), (3, .int (zI x4)), (2, .int (zI x3)), (0, .ref (zA P 5 0 0)), (1, .int (zI p0))]) hC hL (by decide) rfl dX6_guarded_29 (fun ls hL => ?_)
  refine z_iload hC (hL.at 0 rfl) dX6_guarded_31 ?_
  obtain ⟨J97, eJ97, hV⟩ := zjn_abs hV
  have hJ97 : ∀ {H : Heap} {locs : List Loc}, zS P s G1 H locs → ∀ (z97_0 : Int), (z97_0 = 0 ∨ z97_0 = 1) → J97 z97_0 → ∀ (ls : Array Slot), zL ls 6 [(4, .int (zI x5))] → W p l e rX6_guarded s m args below meth c H locs 0 0 (MQ below (zQi P Q) args s 0 0 (zAr P)) (F0 m 97 ls [.int (zI z97_0)]) := by
    intro H locs hG z97_0 hz97_0 hV ls hL
    rw [eJ97] at hV
    refine z_istore (lv' := [(5, .int (zI z97_0)), (4, .int (zI x5))]) hC hL (by decide) rfl dX6_guarded_97 (fun ls hL => ?_)
    refine z_iload hC (hL.at 0 rfl) dX6_guarded_99 ?_
    obtain ⟨J119, eJ119, hV⟩ := zjn_abs hV
    have hJ119 : ∀ {H : Heap} {locs : List Loc}, zS P s G1 H locs → ∀ (z119_0 : Int), inR z119_0 → J119 z119_0 → ∀ (ls : Array Slot), zL ls 6 [] → W p l e rX6_guarded s m args below meth c H locs 0 0 (MQ below (zQi P Q) args s 0 0 (zAr P)) (F0 m 119 ls [.int (zI z119_0)]) := by
      intro H locs hG z119_0 hz119_0 hV ls hL
      rw [eJ119] at hV
      exact z_iret hC hG hr hk hz119_0 hV (Nat.le_of_ble_eq_true rfl) (Nat.le_of_ble_eq_true rfl) dX6_guarded_119
    refine z_if_eq (tgt := 108) hC (inR_b hz97_0) hV dX6_guarded_101 (by decide) ?_ ?_
    · intro hV
      refine z_iload hC (hL.at 1 rfl) dX6_guarded_108 ?_
      refine z_iconst hC dX6_guarded_110 ?_
      refine z_icmp_ne (tgt := 118) hC hx5 (inR_lit rfl) hV dX6_guarded_111 (by decide) ?_ ?_
      · intro hV
        refine z_iconst hC dX6_guarded_118 ?_
        exact hJ119 hG 1 (inR_lit rfl) hV _ (hL.sub [] rfl)
      · intro hV
        refine z_iconst hC dX6_guarded_114 ?_
        refine z_goto (tgt := 119) hC dX6_guarded_115 (by decide) ?_
        exact hJ119 hG 2 (inR_lit rfl) hV _ (hL.sub [] rfl)
    · intro hV
      refine z_iconst hC dX6_guarded_104 ?_
      refine z_goto (tgt := 119) hC dX6_guarded_105 (by decide) ?_
      exact hJ119 hG 0 (inR_lit rfl) hV _ (hL.sub [] rfl)
  refine z_if_ne (tgt := 49) hC hx5 hV dX6_guarded_33 (by decide) ?_ ?_
  · intro hV
    refine z_iload hC (hL.at 0 rfl) dX6_guarded_49 ?_
    refine z_iconst hC dX6_guarded_51 ?_
    refine z_icmp_ne (tgt := 68) hC hx5 (inR_lit rfl) hV dX6_guarded_52 (by decide) ?_ ?_
    · intro hV
      refine z_iload hC (hL.at 0 rfl) dX6_guarded_68 ?_
      refine z_iconst hC dX6_guarded_70 ?_
      refine z_icmp_ne (tgt := 87) hC hx5 (inR_lit rfl) hV dX6_guarded_71 (by decide) ?_ ?_
      · intro hV
        refine z_iload_n hC rfl (hL.at 2 rfl) dX6_guarded_87 ?_
        refine z_iload_n hC rfl (hL.at 1 rfl) dX6_guarded_88 ?_
        refine z_icmp_eq (tgt := 96) hC hx3 hx4 hV dX6_guarded_89 (by decide) ?_ ?_
        · intro hV
          refine z_iconst hC dX6_guarded_96 ?_
          exact hJ97 hG 0 (Or.inl rfl) hV _ (hL.sub [0] rfl)
        · intro hV
          refine z_iconst hC dX6_guarded_92 ?_
          refine z_goto (tgt := 97) hC dX6_guarded_93 (by decide) ?_
          exact hJ97 hG 1 (Or.inr rfl) hV _ (hL.sub [0] rfl)
      · intro hV
        refine z_iload_n hC rfl (hL.at 2 rfl) dX6_guarded_74 ?_
        refine z_iload_n hC rfl (hL.at 1 rfl) dX6_guarded_75 ?_
        refine z_icmp_le (tgt := 83) hC hx3 hx4 hV dX6_guarded_76 (by decide) ?_ ?_
        · intro hV
          refine z_iconst hC dX6_guarded_83 ?_
          refine z_goto (tgt := 97) hC dX6_guarded_84 (by decide) ?_
          exact hJ97 hG 0 (Or.inl rfl) hV _ (hL.sub [0] rfl)
        · intro hV
          refine z_iconst hC dX6_guarded_79 ?_
          refine z_goto (tgt := 97) hC dX6_guarded_80 (by decide) ?_
          exact hJ97 hG 1 (Or.inr rfl) hV _ (hL.sub [0] rfl)
    · intro hV
      refine z_iload_n hC rfl (hL.at 2 rfl) dX6_guarded_55 ?_
      refine z_iload_n hC rfl (hL.at 1 rfl) dX6_guarded_56 ?_
      refine z_icmp_ne (tgt := 64) hC hx3 hx4 hV dX6_guarded_57 (by decide) ?_ ?_
      · intro hV
        refine z_iconst hC dX6_guarded_64 ?_
        refine z_goto (tgt := 97) hC dX6_guarded_65 (by decide) ?_
        exact hJ97 hG 0 (Or.inl rfl) hV _ (hL.sub [0] rfl)
      · intro hV
        refine z_iconst hC dX6_guarded_60 ?_
        refine z_goto (tgt := 97) hC dX6_guarded_61 (by decide) ?_
        exact hJ97 hG 1 (Or.inr rfl) hV _ (hL.sub [0] rfl)
  · intro hV
    refine z_iload_n hC rfl (hL.at 2 rfl) dX6_guarded_36 ?_
    refine z_iload_n hC rfl (hL.at 1 rfl) dX6_guarded_37 ?_
    refine z_icmp_ge (tgt := 45) hC hx3 hx4 hV dX6_guarded_38 (by decide) ?_ ?_
    · intro hV
      refine z_iconst hC dX6_guarded_45 ?_
      refine z_goto (tgt := 97) hC dX6_guarded_46 (by decide) ?_
      exact hJ97 hG 0 (Or.inl rfl) hV _ (hL.sub [0] rfl)
    · intro hV
      refine z_iconst hC dX6_guarded_41 ?_
      refine z_goto (tgt := 97) hC dX6_guarded_42 (by decide) ?_
      exact hJ97 hG 1 (Or.inr rfl) hV _ (hL.sub [0] rfl)
abbrev rX6_end : Room := { frames := 1, cells := 0, slots := 0, locals := 12 }
def vX6_end (p0 : Int) (p1 : Int) (G : ZG) (Q : Int → ZG → Prop) : Prop := zpF G 5 52 p0 fun (G1 : ZG) => zl2 (fun (P7 : Int → ZG → Prop) (a7_3 : Int) (K7 : ZG) => zbr (6 ≤ a7_3) (zjn (fun (z54_1 : Int) => zaL K7 5 29 8 z54_1 fun (x1 : Int) => zjn (fun (z70_3 : Int) => zaS K7 5 29 8 z54_1 (w32 (x1 + z70_3)) fun (G2 : ZG) => zjn (fun (z96_0 : Int) => Q z96_0 G2) fun J96 => zbr (p0 ≠ (-1)) (zbr (p1 = 0) (zaL G2 5 25 8 p0 fun (x2 : Int) => J96 x2) (J96 (-2))) (J96 (-1))) fun J70 => zjn (fun (_ : Unit) => J70 0) fun J65 => zbr (p0 = (-1)) (J65 ()) (zbr (p1 = 0) (J70 1) (J65 ()))) fun J54 => zbr (p0 ≠ (-1)) (J54 p0) (J54 0)) (zjn (fun (z33_2 : Int) => zaS K7 5 53 6 a7_3 z33_2 fun (G3 : ZG) => zlt1 (w32 (a7_3 + 1)) fun (x3 : Int) => P7 x3 G3) fun J33 => zbr (p0 ≠ (-1)) (zaL K7 5 39 6 a7_3 fun (x4 : Int) => J33 x4) (J33 (-1)))) 0 G1
set_option maxHeartbeats 4000000 in
theorem mX6_end (l : Launch) (P : ZP) (G : ZG) (p0 : Int) (hp0 : inR p0) (p1 : Int) (hp1 : p1 = 0 ∨ p1 = 1) {Q : Int → ZG → Prop} (hV : vX6_end p0 p1 G Q) : Met l yX6_end (ws_ yX6_end cX6_end 4 (some .int)) rX6_end (zPc P G [.ref (zA P 5 0 0), .int (zI p0), .int (zI p1)]) (zQi P Q) 0 0 (zAr P) := by
  refine zMet RX6 (plainFor_of_name (by decide)) rfl (zcs_c rfl (zcs_c rfl (zcs_c rfl zcs_0))) (Nat.le_of_ble_eq_true rfl) (fun p e s m args below meth c ls hC hr hk hn hG hL => ?_)
  unfold vX6_end at hV
  refine z_aload_n hC zvr_a rfl (hL.at 0 rfl) dX6_end_0 ?_
  refine z_iload_n hC rfl (hL.at 1 rfl) dX6_end_1 ?_
  refine z_putF hC hG kFX6_165_6 rfl rfl rfl rfl nk_6_52 hp0 (Or.inl rfl) hV dX6_end_2 ?_
  intro G1 _ _ hG hV
  refine z_iconst hC dX6_end_5 ?_
  refine z_istore_n (lv' := [(3, .int (zI 0)), (0, .ref (zA P 5 0 0)), (1, .int (zI p0)), (2, .int (zI p1))]) hC rfl hL (by decide) rfl dX6_end_6 (fun ls hL => ?_)
  refine zl2_use hV (fun (a7_3 : Int) (K7 : ZG) => inR a7_3 → ∀ (H : Heap) (locs : List Loc), zS P s K7 H locs → ∀ (ls : Array Slot), zL ls 4 [(0, .ref (zA P 5 0 0)), (1, .int (zI p0)), (2, .int (zI p1)), (3, .int (zI a7_3))] → W p l e rX6_end s m args below meth c H locs 0 0 (MQ below (zQi P Q) args s 0 0 (zAr P)) (F0 m 7 ls [])) ?_ (inR_lit rfl) _ _ hG _ (hL.sub [1, 2, 3, 0] rfl)
  intro P7 a7_3 K7 hP7 hV ha7_3 H locs hG ls hL
  refine z_iload_n hC rfl (hL.at 3 rfl) dX6_end_7 ?_
  refine z_bipush hC rfl dX6_end_8 ?_
  refine z_icmp_ge (tgt := 40) hC ha7_3 (inR_lit rfl) hV dX6_end_10 (by decide) ?_ ?_
  · intro hV
    refine z_aload_n hC zvr_a rfl (hL.at 0 rfl) dX6_end_40 ?_
    refine z_getA hC hG kFX6_83_6 rfl rfl dX6_end_41 ?_
    refine z_iload_n hC rfl (hL.at 1 rfl) dX6_end_44 ?_
    refine z_iconst hC dX6_end_45 ?_
    obtain ⟨J54, eJ54, hV⟩ := zjn_abs hV
    have hJ54 : ∀ {H : Heap} {locs : List Loc}, zS P s K7 H locs → ∀ (z54_1 : Int), inR z54_1 → J54 z54_1 → ∀ (ls : Array Slot), zL ls 4 [(0, .ref (zA P 5 0 0)), (1, .int (zI p0)), (2, .int (zI p1))] → W p l e rX6_end s m args below meth c H locs 0 0 (MQ below (zQi P Q) args s 0 0 (zAr P)) (F0 m 54 ls [.int (zI z54_1), .ref (zA P 5 30 0)]) := by
      intro H locs hG z54_1 hz54_1 hV ls hL
      rw [eJ54] at hV
      refine z_dup2 hC rfl rfl dX6_end_54 ?_
      refine z_iald hC hG rfl rfl rfl hz54_1 hV dX6_end_55 ?_
      intro x1 hx1 hV
      refine z_iload_n hC rfl (hL.at 1 rfl) dX6_end_56 ?_
      refine z_iconst hC dX6_end_57 ?_
      obtain ⟨J70, eJ70, hV⟩ := zjn_abs hV
      have hJ70 : ∀ {H : Heap} {locs : List Loc}, zS P s K7 H locs → ∀ (z70_3 : Int), (z70_3 = 0 ∨ z70_3 = 1) → J70 z70_3 → ∀ (ls : Array Slot), zL ls 4 [(0, .ref (zA P 5 0 0)), (1, .int (zI p0)), (2, .int (zI p1))] → W p l e rX6_end s m args below meth c H locs 0 0 (MQ below (zQi P Q) args s 0 0 (zAr P)) (F0 m 70 ls [.int (zI z70_3), .int (zI x1), .int (zI z54_1), .ref (zA P 5 30 0)]) := by
        intro H locs hG z70_3 hz70_3 hV ls hL
        rw [eJ70] at hV
        refine z_iadd hC dX6_end_70 ?_
        refine z_iast hC hG rfl (Nat.le_of_ble_eq_true rfl) (Nat.le_of_ble_eq_true rfl) rfl rfl rfl hz54_1 (inR_w _) hV dX6_end_71 ?_
        intro G2 _ _ hG hV
        refine z_iload_n hC rfl (hL.at 1 rfl) dX6_end_72 ?_
        refine z_iconst hC dX6_end_73 ?_
        obtain ⟨J96, eJ96, hV⟩ := zjn_abs hV
        have hJ96 : ∀ {H : Heap} {locs : List Loc}, zS P s G2 H locs → ∀ (z96_0 : Int), inR z96_0 → J96 z96_0 → ∀ (ls : Array Slot), zL ls 4 [] → W p l e rX6_end s m args below meth c H locs 0 0 (MQ below (zQi P Q) args s 0 0 (zAr P)) (F0 m 96 ls [.int (zI z96_0)]) := by
          intro H locs hG z96_0 hz96_0 hV ls hL
          rw [eJ96] at hV
          exact z_iret hC hG hr hk hz96_0 hV (Nat.le_of_ble_eq_true rfl) (Nat.le_of_ble_eq_true rfl) dX6_end_96
        refine z_icmp_ne (tgt := 81) hC hp0 (inR_lit rfl) hV dX6_end_74 (by decide) ?_ ?_
        · intro hV
          refine z_iload_n hC rfl (hL.at 2 rfl) dX6_end_81 ?_
          refine z_if_eq (tgt := 90) hC (inR_b hp1) hV dX6_end_82 (by decide) ?_ ?_
          · intro hV
            refine z_aload_n hC zvr_a rfl (hL.at 0 rfl) dX6_end_90 ?_
            refine z_getA hC hG kFX6_71_6 rfl rfl dX6_end_91 ?_
            refine z_iload_n hC rfl (hL.at 1 rfl) dX6_end_94 ?_
            refine z_iald hC hG rfl rfl rfl hp0 hV dX6_end_95 ?_
            intro x2 hx2 hV
            exact hJ96 hG x2 hx2 hV _ (hL.sub [] rfl)
          · intro hV
            refine z_bipush hC rfl dX6_end_85 ?_
            refine z_goto (tgt := 96) hC dX6_end_87 (by decide) ?_
            exact hJ96 hG (-2) (inR_lit rfl) hV _ (hL.sub [] rfl)
        · intro hV
          refine z_iconst hC dX6_end_77 ?_
          refine z_goto (tgt := 96) hC dX6_end_78 (by decide) ?_
          exact hJ96 hG (-1) (inR_lit rfl) hV _ (hL.sub [] rfl)
      obtain ⟨J65, eJ65, hV⟩ := zjn_abs hV
      have hJ65 : ∀ {H : Heap} {locs : List Loc}, zS P s K7 H locs → J65 () → ∀ (ls : Array Slot), zL ls 4 [(0, .ref (zA P 5 0 0)), (1, .int (zI p0)), (2, .int (zI p1))] → W p l e rX6_end s m args below meth c H locs 0 0 (MQ below (zQi P Q) args s 0 0 (zAr P)) (F0 m 65 ls [.int (zI x1), .int (zI z54_1), .ref (zA P 5 30 0)]) := by
        intro H locs hG hV ls hL
        rw [eJ65] at hV
        refine z_iconst hC dX6_end_65 ?_
        refine z_goto (tgt := 70) hC dX6_end_66 (by decide) ?_
        exact hJ70 hG 0 (Or.inl rfl) hV _ hL
      refine z_icmp_eq (tgt := 65) hC hp0 (inR_lit rfl) hV dX6_end_58 (by decide) ?_ ?_
      · intro hV
        exact hJ65 hG hV _ hL
      · intro hV
        refine z_iload_n hC rfl (hL.at 2 rfl) dX6_end_61 ?_
        refine z_if_eq (tgt := 69) hC (inR_b hp1) hV dX6_end_62 (by decide) ?_ ?_
        · intro hV
          refine z_iconst hC dX6_end_69 ?_
          exact hJ70 hG 1 (Or.inr rfl) hV _ hL
        · intro hV
          exact hJ65 hG hV _ hL
    refine z_icmp_ne (tgt := 53) hC hp0 (inR_lit rfl) hV dX6_end_46 (by decide) ?_ ?_
    · intro hV
      refine z_iload_n hC rfl (hL.at 1 rfl) dX6_end_53 ?_
      exact hJ54 hG p0 hp0 hV _ (hL.sub [0, 1, 2] rfl)
    · intro hV
      refine z_iconst hC dX6_end_49 ?_
      refine z_goto (tgt := 54) hC dX6_end_50 (by decide) ?_
      exact hJ54 hG 0 (inR_lit rfl) hV _ (hL.sub [0, 1, 2] rfl)
  · intro hV
    refine z_aload_n hC zvr_a rfl (hL.at 0 rfl) dX6_end_13 ?_
    refine z_getA hC hG kFX6_125_6 rfl rfl dX6_end_14 ?_
    refine z_iload_n hC rfl (hL.at 3 rfl) dX6_end_17 ?_
    refine z_iload_n hC rfl (hL.at 1 rfl) dX6_end_18 ?_
    refine z_iconst hC dX6_end_19 ?_
    obtain ⟨J33, eJ33, hV⟩ := zjn_abs hV
    have hJ33 : ∀ {H : Heap} {locs : List Loc}, zS P s K7 H locs → ∀ (z33_2 : Int), inR z33_2 → J33 z33_2 → ∀ (ls : Array Slot), zL ls 4 [(0, .ref (zA P 5 0 0)), (1, .int (zI p0)), (2, .int (zI p1)), (3, .int (zI a7_3))] → W p l e rX6_end s m args below meth c H locs 0 0 (MQ below (zQi P Q) args s 0 0 (zAr P)) (F0 m 33 ls [.int (zI z33_2), .int (zI a7_3), .ref (zA P 5 54 0)]) := by
      intro H locs hG z33_2 hz33_2 hV ls hL
      rw [eJ33] at hV
      refine z_iast hC hG rfl (Nat.le_of_ble_eq_true rfl) (Nat.le_of_ble_eq_true rfl) rfl rfl rfl ha7_3 hz33_2 hV dX6_end_33 ?_
      intro G3 _ _ hG hV
      refine z_iincV (fun x3 => [(3, .int (zI x3)), (0, .ref (zA P 5 0 0)), (1, .int (zI p0)), (2, .int (zI p1))]) hC hL (k := 3) rfl (by decide) (fun _ => rfl) hV dX6_end_34 ?_
      intro x3 hx3 hV ls hL
      refine z_goto (tgt := 7) hC dX6_end_37 (by decide) ?_
      exact hP7 x3 G3 hV hx3 _ _ hG _ (hL.sub [1, 2, 3, 0] rfl)
    refine z_icmp_ne (tgt := 27) hC hp0 (inR_lit rfl) hV dX6_end_20 (by decide) ?_ ?_
    · intro hV
      refine z_aload_n hC zvr_a rfl (hL.at 0 rfl) dX6_end_27 ?_
      refine z_getA hC hG kFX6_107_6 rfl rfl dX6_end_28 ?_
      refine z_iload_n hC rfl (hL.at 3 rfl) dX6_end_31 ?_
      refine z_iald hC hG rfl rfl rfl ha7_3 hV dX6_end_32 ?_
      intro x4 hx4 hV
      exact hJ33 hG x4 hx4 hV _ hL
    · intro hV
      refine z_iconst hC dX6_end_23 ?_
      refine z_goto (tgt := 33) hC dX6_end_24 (by decide) ?_
      exact hJ33 hG (-1) (inR_lit rfl) hV _ hL
abbrev rX6_runTree : Room := { frames := 8, cells := 0, slots := 0, locals := 175 }
def vX6_runTree (G : ZG) (Q : Int → ZG → Prop) : Prop := zl2 (fun (P2 : Int → ZG → Prop) (a2_1 : Int) (K2 : ZG) => zaL K2 5 58 512 a2_1 fun (x1 : Int) => zbr (x1 ≤ 2) (zaL K2 5 58 512 a2_1 fun (x2 : Int) => zbr (x2 ≠ 2) (zaL K2 5 59 512 a2_1 fun (x3 : Int) => vX6_bindBy x3 a2_1 K2 fun (G1 : ZG) => zaL G1 5 59 512 a2_1 fun (x4 : Int) => zaL G1 5 58 512 a2_1 fun (x5 : Int) => zjn (fun (z174_2 : Int) => vX6_end x4 z174_2 G1 fun (x6 : Int) (G2 : ZG) => Q x6 G2) fun J174 => zbr (x5 ≠ 1) (J174 0) (J174 1)) (vX6_end (-1) 0 K2 fun (x7 : Int) (G3 : ZG) => Q x7 G3)) (zaL K2 5 58 512 a2_1 fun (x8 : Int) => zjn (fun (y112_2 : Int) (H112 : ZG) => zaL H112 5 61 512 a2_1 fun (x9 : Int) => zlt1 (w32 (x9 + y112_2)) fun (x10 : Int) => P2 x10 H112) fun J112 => zbr (x8 ≠ 3) (zpF K2 5 40 1 fun (G4 : ZG) => zaL G4 5 58 512 a2_1 fun (x11 : Int) => zjn (fun (z101_0 : Int) (H101 : ZG) => zgF H101 5 47 fun (x12 : Int) => zpF H101 5 47 (w32 (x12 + 1)) fun (G5 : ZG) => J112 z101_0 G5) fun J101 => zbr (x11 ≠ 4) (zaL G4 5 60 512 a2_1 fun (x13 : Int) => vX6_headAt x13 G4 fun (x14 : Int) (G6 : ZG) => J101 x14 G6) (zaL G4 5 59 512 a2_1 fun (x15 : Int) => zaL G4 5 60 512 a2_1 fun (x16 : Int) => vX6_gave x15 x16 G4 fun (x17 : Int) (G7 : ZG) => J101 x17 G7)) (zaL K2 5 59 512 a2_1 fun (x18 : Int) => vX6_bindBy x18 a2_1 K2 fun (G8 : ZG) => zaL G8 5 59 512 a2_1 fun (x19 : Int) => vX6_guarded x19 G8 fun (x20 : Int) (G9 : ZG) => zjn (fun (z53_0 : Int) => J112 z53_0 G9) fun J53 => zbr (x20 ≠ 0) (J53 1) (J53 0)))) 0 G
set_option maxHeartbeats 4000000 in
theorem mX6_runTree (l : Launch) (P : ZP) (G : ZG) {Q : Int → ZG → Prop} (hV : vX6_runTree G Q) : Met l yX6_runTree (ws_ yX6_runTree cX6_runTree 3 (some .int)) rX6_runTree (zPc P G [.ref (zA P 5 0 0)]) (zQi P Q) 0 0 (zAr P) := by
  refine zMet RX6 (plainFor_of_name (by decide)) rfl (zcs_c rfl zcs_0) (Nat.le_of_ble_eq_true rfl) (fun p e s m args below meth c ls hC hr hk hn hG hL => ?_)
  unfold vX6_runTree at hV
  refine z_iconst hC dX6_runTree_0 ?_
  refine z_istore_n (lv' := [(1, .int (zI 0)), (0, .ref (zA P 5 0 0))]) hC rfl hL (by decide) rfl dX6_runTree_1 (fun ls hL => ?_)
  refine zl2_use hV (fun (a2_1 : Int) (K2 : ZG) => inR a2_1 → ∀ (H : Heap) (locs : List Loc), zS P s K2 H locs → ∀ (ls : Array Slot), zL ls 3 [(0, .ref (zA P 5 0 0)), (1, .int (zI a2_1))] → W p l e rX6_runTree s m args below meth c H locs 0 0 (MQ below (zQi P Q) args s 0 0 (zAr P)) (F0 m 2 ls [])) ?_ (inR_lit rfl) _ _ hG _ (hL.sub [1, 0] rfl)
  intro P2 a2_1 K2 hP2 hV ha2_1 H locs hG ls hL
  refine z_aload_n hC zvr_a rfl (hL.at 0 rfl) dX6_runTree_2 ?_
  refine z_getA hC hG kFX6_131_6 rfl rfl dX6_runTree_3 ?_
  refine z_iload_n hC rfl (hL.at 1 rfl) dX6_runTree_6 ?_
  refine z_iald hC hG rfl rfl rfl ha2_1 hV dX6_runTree_7 ?_
  intro x1 hx1 hV
  refine z_iconst hC dX6_runTree_8 ?_
  refine z_icmp_le (tgt := 124) hC hx1 (inR_lit rfl) hV dX6_runTree_9 (by decide) ?_ ?_
  · intro hV
    refine z_aload_n hC zvr_a rfl (hL.at 0 rfl) dX6_runTree_124 ?_
    refine z_getA hC hG kFX6_131_6 rfl rfl dX6_runTree_125 ?_
    refine z_iload_n hC rfl (hL.at 1 rfl) dX6_runTree_128 ?_
    refine z_iald hC hG rfl rfl rfl ha2_1 hV dX6_runTree_129 ?_
    intro x2 hx2 hV
    refine z_iconst hC dX6_runTree_130 ?_
    refine z_icmp_ne (tgt := 141) hC hx2 (inR_lit rfl) hV dX6_runTree_131 (by decide) ?_ ?_
    · intro hV
      refine z_aload_n hC zvr_a rfl (hL.at 0 rfl) dX6_runTree_141 ?_
      refine z_aload_n hC zvr_a rfl (hL.at 0 rfl) dX6_runTree_142 ?_
      refine z_getA hC hG kFX6_134_6 rfl rfl dX6_runTree_143 ?_
      refine z_iload_n hC rfl (hL.at 1 rfl) dX6_runTree_146 ?_
      refine z_iald hC hG rfl rfl rfl ha2_1 hV dX6_runTree_147 ?_
      intro x3 hx3 hV
      refine z_iload_n hC rfl (hL.at 1 rfl) dX6_runTree_148 ?_
      refine z_call_v hG (zrunV (ci := 6) hC hG (Nat.le_of_ble_eq_true rfl) (Nat.le_of_ble_eq_true rfl) (zobj hG rfl (Nat.le_of_ble_eq_true rfl) (Nat.le_of_ble_eq_true rfl)) (mX6_bindBy l P K2 x3 hx3 a2_1 ha2_1 hV) kVX6_361 rfl rfl rfl ⟨(Nat.le_of_ble_eq_true rfl), (Nat.le_of_ble_eq_true rfl)⟩ ⟨(Nat.le_of_ble_eq_true rfl), (Nat.le_of_ble_eq_true rfl)⟩ rfl ⟨zcs_0, (Nat.le_of_ble_eq_true rfl)⟩ hL.1.1 dX6_runTree_149) ?_
      rintro G1 _ _ hV hG
      refine z_aload_n hC zvr_a rfl (hL.at 0 rfl) dX6_runTree_152 ?_
      refine z_aload_n hC zvr_a rfl (hL.at 0 rfl) dX6_runTree_153 ?_
      refine z_getA hC hG kFX6_134_6 rfl rfl dX6_runTree_154 ?_
      refine z_iload_n hC rfl (hL.at 1 rfl) dX6_runTree_157 ?_
      refine z_iald hC hG rfl rfl rfl ha2_1 hV dX6_runTree_158 ?_
      intro x4 hx4 hV
      refine z_aload_n hC zvr_a rfl (hL.at 0 rfl) dX6_runTree_159 ?_
      refine z_getA hC hG kFX6_131_6 rfl rfl dX6_runTree_160 ?_
      refine z_iload_n hC rfl (hL.at 1 rfl) dX6_runTree_163 ?_
      refine z_iald hC hG rfl rfl rfl ha2_1 hV dX6_runTree_164 ?_
      intro x5 hx5 hV
      refine z_iconst hC dX6_runTree_165 ?_
      obtain ⟨J174, eJ174, hV⟩ := zjn_abs hV
      have hJ174 : ∀ {H : Heap} {locs : List Loc}, zS P s G1 H locs → ∀ (z174_2 : Int), (z174_2 = 0 ∨ z174_2 = 1) → J174 z174_2 → ∀ (ls : Array Slot), zL ls 3 [] → W p l e rX6_runTree s m args below meth c H locs 0 0 (MQ below (zQi P Q) args s 0 0 (zAr P)) (F0 m 174 ls [.int (zI z174_2), .int (zI x4), .ref (zA P 5 0 0)]) := by
        intro H locs hG z174_2 hz174_2 hV ls hL
        rw [eJ174] at hV
        refine z_call_i hG (zrunV (ci := 6) hC hG (Nat.le_of_ble_eq_true rfl) (Nat.le_of_ble_eq_true rfl) (zobj hG rfl (Nat.le_of_ble_eq_true rfl) (Nat.le_of_ble_eq_true rfl)) (mX6_end l P G1 x4 hx4 z174_2 hz174_2 hV) kVX6_357 rfl rfl rfl ⟨(Nat.le_of_ble_eq_true rfl), (Nat.le_of_ble_eq_true rfl)⟩ ⟨(Nat.le_of_ble_eq_true rfl), (Nat.le_of_ble_eq_true rfl)⟩ rfl ⟨zcs_0, (Nat.le_of_ble_eq_true rfl)⟩ hL.1.1 dX6_runTree_174) ?_
        rintro x6 G2 _ _ hx6 hV hG
        exact z_iret hC hG hr hk hx6 hV (Nat.le_of_ble_eq_true rfl) (Nat.le_of_ble_eq_true rfl) dX6_runTree_177
      refine z_icmp_ne (tgt := 173) hC hx5 (inR_lit rfl) hV dX6_runTree_166 (by decide) ?_ ?_
      · intro hV
        refine z_iconst hC dX6_runTree_173 ?_
        exact hJ174 hG 0 (Or.inl rfl) hV _ (hL.sub [] rfl)
      · intro hV
        refine z_iconst hC dX6_runTree_169 ?_
        refine z_goto (tgt := 174) hC dX6_runTree_170 (by decide) ?_
        exact hJ174 hG 1 (Or.inr rfl) hV _ (hL.sub [] rfl)
    · intro hV
      refine z_aload_n hC zvr_a rfl (hL.at 0 rfl) dX6_runTree_134 ?_
      refine z_iconst hC dX6_runTree_135 ?_
      refine z_iconst hC dX6_runTree_136 ?_
      refine z_call_i hG (zrunV (ci := 6) hC hG (Nat.le_of_ble_eq_true rfl) (Nat.le_of_ble_eq_true rfl) (zobj hG rfl (Nat.le_of_ble_eq_true rfl) (Nat.le_of_ble_eq_true rfl)) (mX6_end l P K2 (-1) (inR_lit rfl) 0 (Or.inl rfl) hV) kVX6_357 rfl rfl rfl ⟨(Nat.le_of_ble_eq_true rfl), (Nat.le_of_ble_eq_true rfl)⟩ ⟨(Nat.le_of_ble_eq_true rfl), (Nat.le_of_ble_eq_true rfl)⟩ rfl ⟨zcs_0, (Nat.le_of_ble_eq_true rfl)⟩ hL.1.1 dX6_runTree_137) ?_
      rintro x7 G3 _ _ hx7 hV hG
      exact z_iret hC hG hr hk hx7 hV (Nat.le_of_ble_eq_true rfl) (Nat.le_of_ble_eq_true rfl) dX6_runTree_140
  · intro hV
    refine z_iconst hC dX6_runTree_12 ?_
    refine z_istore_n (lv' := [(2, .int (zI 0)), (0, .ref (zA P 5 0 0)), (1, .int (zI a2_1))]) hC rfl hL (by decide) rfl dX6_runTree_13 (fun ls hL => ?_)
    refine z_aload_n hC zvr_a rfl (hL.at 1 rfl) dX6_runTree_14 ?_
    refine z_getA hC hG kFX6_131_6 rfl rfl dX6_runTree_15 ?_
    refine z_iload_n hC rfl (hL.at 2 rfl) dX6_runTree_18 ?_
    refine z_iald hC hG rfl rfl rfl ha2_1 hV dX6_runTree_19 ?_
    intro x8 hx8 hV
    refine z_iconst hC dX6_runTree_20 ?_
    obtain ⟨J112, eJ112, hV⟩ := zjn_abs hV
    have hJ112 : ∀ (y112_2 : Int) (H112 : ZG), inR y112_2 → J112 y112_2 H112 → ∀ (H : Heap) (locs : List Loc) (ls : Array Slot), zS P s H112 H locs → zL ls 3 [(0, .ref (zA P 5 0 0)), (1, .int (zI a2_1)), (2, .int (zI y112_2))] → W p l e rX6_runTree s m args below meth c H locs 0 0 (MQ below (zQi P Q) args s 0 0 (zAr P)) (F0 m 112 ls []) := by
      intro y112_2 H112 hy112_2 hV H locs ls hG hL
      rw [eJ112] at hV
      refine z_aload_n hC zvr_a rfl (hL.at 0 rfl) dX6_runTree_112 ?_
      refine z_getA hC hG kFX6_140_6 rfl rfl dX6_runTree_113 ?_
      refine z_iload_n hC rfl (hL.at 1 rfl) dX6_runTree_116 ?_
      refine z_iald hC hG rfl rfl rfl ha2_1 hV dX6_runTree_117 ?_
      intro x9 hx9 hV
      refine z_iload_n hC rfl (hL.at 2 rfl) dX6_runTree_118 ?_
      refine z_iadd hC dX6_runTree_119 ?_
      refine z_top hV (inR_w _) ?_
      intro x10 hx10 hV
      refine z_istore_n (lv' := [(1, .int (zI x10)), (0, .ref (zA P 5 0 0)), (2, .int (zI y112_2))]) hC rfl hL (by decide) rfl dX6_runTree_120 (fun ls hL => ?_)
      refine z_goto (tgt := 2) hC dX6_runTree_121 (by decide) ?_
      exact hP2 x10 H112 hV hx10 _ _ hG _ (hL.sub [1, 0] rfl)
    refine z_icmp_ne (tgt := 57) hC hx8 (inR_lit rfl) hV dX6_runTree_21 (by decide) ?_ ?_
    · intro hV
      refine z_aload_n hC zvr_a rfl (hL.at 1 rfl) dX6_runTree_57 ?_
      refine z_iconst hC dX6_runTree_58 ?_
      refine z_putF hC hG kFX6_261_6 rfl rfl rfl rfl nk_6_40 (inR_lit rfl) (Or.inr ⟨rfl, (Or.inr rfl)⟩) hV dX6_runTree_59 ?_
      intro G4 _ _ hG hV
      refine z_aload_n hC zvr_a rfl (hL.at 1 rfl) dX6_runTree_62 ?_
      refine z_getA hC hG kFX6_131_6 rfl rfl dX6_runTree_63 ?_
      refine z_iload_n hC rfl (hL.at 2 rfl) dX6_runTree_66 ?_
      refine z_iald hC hG rfl rfl rfl ha2_1 hV dX6_runTree_67 ?_
      intro x11 hx11 hV
      refine z_iconst hC dX6_runTree_68 ?_
      obtain ⟨J101, eJ101, hV⟩ := zjn_abs hV
      have hJ101 : ∀ (z101_0 : Int) (H101 : ZG), inR z101_0 → J101 z101_0 H101 → ∀ (H : Heap) (locs : List Loc) (ls : Array Slot), zS P s H101 H locs → zL ls 3 [(0, .ref (zA P 5 0 0)), (1, .int (zI a2_1))] → W p l e rX6_runTree s m args below meth c H locs 0 0 (MQ below (zQi P Q) args s 0 0 (zAr P)) (F0 m 101 ls [.int (zI z101_0)]) := by
        intro z101_0 H101 hz101_0 hV H locs ls hG hL
        rw [eJ101] at hV
        refine z_istore_n (lv' := [(2, .int (zI z101_0)), (0, .ref (zA P 5 0 0)), (1, .int (zI a2_1))]) hC rfl hL (by decide) rfl dX6_runTree_101 (fun ls hL => ?_)
        refine z_aload_n hC zvr_a rfl (hL.at 1 rfl) dX6_runTree_102 ?_
        refine z_dup hC rfl dX6_runTree_103 ?_
        refine z_getF hC hG kFX6_234_6 rfl rfl hV dX6_runTree_104 ?_
        intro x12 hx12 hV
        refine z_iconst hC dX6_runTree_107 ?_
        refine z_iadd hC dX6_runTree_108 ?_
        refine z_putF hC hG kFX6_234_6 rfl rfl rfl rfl nk_6_47 (inR_w _) (Or.inl rfl) hV dX6_runTree_109 ?_
        intro G5 _ _ hG hV
        exact hJ112 z101_0 G5 hz101_0 hV _ _ _ hG (hL.sub [1, 2, 0] rfl)
      refine z_icmp_ne (tgt := 91) hC hx11 (inR_lit rfl) hV dX6_runTree_69 (by decide) ?_ ?_
      · intro hV
        refine z_aload_n hC zvr_a rfl (hL.at 1 rfl) dX6_runTree_91 ?_
        refine z_aload_n hC zvr_a rfl (hL.at 1 rfl) dX6_runTree_92 ?_
        refine z_getA hC hG kFX6_137_6 rfl rfl dX6_runTree_93 ?_
        refine z_iload_n hC rfl (hL.at 2 rfl) dX6_runTree_96 ?_
        refine z_iald hC hG rfl rfl rfl ha2_1 hV dX6_runTree_97 ?_
        intro x13 hx13 hV
        refine z_call_i hG (zrunV (ci := 6) hC hG (Nat.le_of_ble_eq_true rfl) (Nat.le_of_ble_eq_true rfl) (zobj hG rfl (Nat.le_of_ble_eq_true rfl) (Nat.le_of_ble_eq_true rfl)) (mX6_headAt l P G4 x13 hx13 hV) kVX6_265 rfl rfl rfl ⟨(Nat.le_of_ble_eq_true rfl), (Nat.le_of_ble_eq_true rfl)⟩ ⟨(Nat.le_of_ble_eq_true rfl), (Nat.le_of_ble_eq_true rfl)⟩ rfl ⟨zcs_0, (Nat.le_of_ble_eq_true rfl)⟩ hL.1.1 dX6_runTree_98) ?_
        rintro x14 G6 _ _ hx14 hV hG
        exact hJ101 x14 G6 hx14 hV _ _ _ hG (hL.sub [1, 2] rfl)
      · intro hV
        refine z_aload_n hC zvr_a rfl (hL.at 1 rfl) dX6_runTree_72 ?_
        refine z_aload_n hC zvr_a rfl (hL.at 1 rfl) dX6_runTree_73 ?_
        refine z_getA hC hG kFX6_134_6 rfl rfl dX6_runTree_74 ?_
        refine z_iload_n hC rfl (hL.at 2 rfl) dX6_runTree_77 ?_
        refine z_iald hC hG rfl rfl rfl ha2_1 hV dX6_runTree_78 ?_
        intro x15 hx15 hV
        refine z_aload_n hC zvr_a rfl (hL.at 1 rfl) dX6_runTree_79 ?_
        refine z_getA hC hG kFX6_137_6 rfl rfl dX6_runTree_80 ?_
        refine z_iload_n hC rfl (hL.at 2 rfl) dX6_runTree_83 ?_
        refine z_iald hC hG rfl rfl rfl ha2_1 hV dX6_runTree_84 ?_
        intro x16 hx16 hV
        refine z_call_i hG (zrunV (ci := 6) hC hG (Nat.le_of_ble_eq_true rfl) (Nat.le_of_ble_eq_true rfl) (zobj hG rfl (Nat.le_of_ble_eq_true rfl) (Nat.le_of_ble_eq_true rfl)) (mX6_gave l P G4 x15 hx15 x16 hx16 hV) kVX6_299 rfl rfl rfl ⟨(Nat.le_of_ble_eq_true rfl), (Nat.le_of_ble_eq_true rfl)⟩ ⟨(Nat.le_of_ble_eq_true rfl), (Nat.le_of_ble_eq_true rfl)⟩ rfl ⟨zcs_0, (Nat.le_of_ble_eq_true rfl)⟩ hL.1.1 dX6_runTree_85) ?_
        rintro x17 G7 _ _ hx17 hV hG
        refine z_goto (tgt := 101) hC dX6_runTree_88 (by decide) ?_
        exact hJ101 x17 G7 hx17 hV _ _ _ hG (hL.sub [1, 2] rfl)
    · intro hV
      refine z_aload_n hC zvr_a rfl (hL.at 1 rfl) dX6_runTree_24 ?_
      refine z_aload_n hC zvr_a rfl (hL.at 1 rfl) dX6_runTree_25 ?_
      refine z_getA hC hG kFX6_134_6 rfl rfl dX6_runTree_26 ?_
      refine z_iload_n hC rfl (hL.at 2 rfl) dX6_runTree_29 ?_
      refine z_iald hC hG rfl rfl rfl ha2_1 hV dX6_runTree_30 ?_
      intro x18 hx18 hV
      refine z_iload_n hC rfl (hL.at 2 rfl) dX6_runTree_31 ?_
      refine z_call_v hG (zrunV (ci := 6) hC hG (Nat.le_of_ble_eq_true rfl) (Nat.le_of_ble_eq_true rfl) (zobj hG rfl (Nat.le_of_ble_eq_true rfl) (Nat.le_of_ble_eq_true rfl)) (mX6_bindBy l P K2 x18 hx18 a2_1 ha2_1 hV) kVX6_361 rfl rfl rfl ⟨(Nat.le_of_ble_eq_true rfl), (Nat.le_of_ble_eq_true rfl)⟩ ⟨(Nat.le_of_ble_eq_true rfl), (Nat.le_of_ble_eq_true rfl)⟩ rfl ⟨zcs_0, (Nat.le_of_ble_eq_true rfl)⟩ hL.1.1 dX6_runTree_32) ?_
      rintro G8 _ _ hV hG
      refine z_aload_n hC zvr_a rfl (hL.at 1 rfl) dX6_runTree_35 ?_
      refine z_aload_n hC zvr_a rfl (hL.at 1 rfl) dX6_runTree_36 ?_
      refine z_getA hC hG kFX6_134_6 rfl rfl dX6_runTree_37 ?_
      refine z_iload_n hC rfl (hL.at 2 rfl) dX6_runTree_40 ?_
      refine z_iald hC hG rfl rfl rfl ha2_1 hV dX6_runTree_41 ?_
      intro x19 hx19 hV
      refine z_call_i hG (zrunV (ci := 6) hC hG (Nat.le_of_ble_eq_true rfl) (Nat.le_of_ble_eq_true rfl) (zobj hG rfl (Nat.le_of_ble_eq_true rfl) (Nat.le_of_ble_eq_true rfl)) (mX6_guarded l P G8 x19 hx19 hV) kVX6_354 rfl rfl rfl ⟨(Nat.le_of_ble_eq_true rfl), (Nat.le_of_ble_eq_true rfl)⟩ ⟨(Nat.le_of_ble_eq_true rfl), (Nat.le_of_ble_eq_true rfl)⟩ rfl ⟨zcs_0, (Nat.le_of_ble_eq_true rfl)⟩ hL.1.1 dX6_runTree_42) ?_
      rintro x20 G9 _ _ hx20 hV hG
      obtain ⟨J53, eJ53, hV⟩ := zjn_abs hV
      have hJ53 : ∀ {H : Heap} {locs : List Loc}, zS P s G9 H locs → ∀ (z53_0 : Int), (z53_0 = 0 ∨ z53_0 = 1) → J53 z53_0 → ∀ (ls : Array Slot), zL ls 3 [(0, .ref (zA P 5 0 0)), (1, .int (zI a2_1))] → W p l e rX6_runTree s m args below meth c H locs 0 0 (MQ below (zQi P Q) args s 0 0 (zAr P)) (F0 m 53 ls [.int (zI z53_0)]) := by
        intro H locs hG z53_0 hz53_0 hV ls hL
        rw [eJ53] at hV
        refine z_istore_n (lv' := [(2, .int (zI z53_0)), (0, .ref (zA P 5 0 0)), (1, .int (zI a2_1))]) hC rfl hL (by decide) rfl dX6_runTree_53 (fun ls hL => ?_)
        refine z_goto (tgt := 112) hC dX6_runTree_54 (by decide) ?_
        exact hJ112 z53_0 G9 (inR_b hz53_0) hV _ _ _ hG (hL.sub [1, 2, 0] rfl)
      refine z_if_ne (tgt := 52) hC hx20 hV dX6_runTree_45 (by decide) ?_ ?_
      · intro hV
        refine z_iconst hC dX6_runTree_52 ?_
        exact hJ53 hG 1 (Or.inr rfl) hV _ (hL.sub [1, 2] rfl)
      · intro hV
        refine z_iconst hC dX6_runTree_48 ?_
        refine z_goto (tgt := 53) hC dX6_runTree_49 (by decide) ?_
        exact hJ53 hG 0 (Or.inl rfl) hV _ (hL.sub [1, 2] rfl)
abbrev rX6_runPlain : Room := { frames := 7, cells := 0, slots := 0, locals := 153 }
def vX6_runPlain (G : ZG) (Q : Int → ZG → Prop) : Prop := zpF G 5 40 1 fun (G1 : ZG) => zl2 (fun (P7 : Int → ZG → Prop) (a7_1 : Int) (K7 : ZG) => zgF K7 5 23 fun (x1 : Int) => zbr (x1 ≤ a7_1) (vX6_end (-1) 0 K7 fun (x2 : Int) (G2 : ZG) => Q x2 G2) (vX6_tryCase a7_1 K7 fun (x3 : Int) (G3 : ZG) => zjn (fun (H64 : ZG) => zlt1 (w32 (a7_1 + 1)) fun (x4 : Int) => P7 x4 H64) fun J64 => zbr (x3 ≠ 0) (J64 G3) (zaL G3 5 26 8 a7_1 fun (x5 : Int) => zjn (fun (z42_0 : Int) (H42 : ZG) => zbr (z42_0 = 1) (J64 H42) (zjn (fun (z60_2 : Int) => vX6_end a7_1 z60_2 H42 fun (x6 : Int) (G4 : ZG) => Q x6 G4) fun J60 => zbr (z42_0 ≠ 2) (J60 0) (J60 1))) fun J42 => zbr (x5 ≠ (-1)) (vX6_guarded a7_1 G3 fun (x7 : Int) (G5 : ZG) => J42 x7 G5) (J42 0 G3)))) 0 G1
set_option maxHeartbeats 4000000 in
theorem mX6_runPlain (l : Launch) (P : ZP) (G : ZG) {Q : Int → ZG → Prop} (hV : vX6_runPlain G Q) : Met l yX6_runPlain (ws_ yX6_runPlain cX6_runPlain 3 (some .int)) rX6_runPlain (zPc P G [.ref (zA P 5 0 0)]) (zQi P Q) 0 0 (zAr P) := by
  refine zMet RX6 (plainFor_of_name (by decide)) rfl (zcs_c rfl zcs_0) (Nat.le_of_ble_eq_true rfl) (fun p e s m args below meth c ls hC hr hk hn hG hL => ?_)
  unfold vX6_runPlain at hV
  refine z_aload_n hC zvr_a rfl (hL.at 0 rfl) dX6_runPlain_0 ?_
  refine z_iconst hC dX6_runPlain_1 ?_
  refine z_putF hC hG kFX6_261_6 rfl rfl rfl rfl nk_6_40 (inR_lit rfl) (Or.inr ⟨rfl, (Or.inr rfl)⟩) hV dX6_runPlain_2 ?_
  intro G1 _ _ hG hV
  refine z_iconst hC dX6_runPlain_5 ?_
  refine z_istore_n (lv' := [(1, .int (zI 0)), (0, .ref (zA P 5 0 0))]) hC rfl hL (by decide) rfl dX6_runPlain_6 (fun ls hL => ?_)
  refine zl2_use hV (fun (a7_1 : Int) (K7 : ZG) => inR a7_1 → ∀ (H : Heap) (locs : List Loc), zS P s K7 H locs → ∀ (ls : Array Slot), zL ls 3 [(0, .ref (zA P 5 0 0)), (1, .int (zI a7_1))] → W p l e rX6_runPlain s m args below meth c H locs 0 0 (MQ below (zQi P Q) args s 0 0 (zAr P)) (F0 m 7 ls [])) ?_ (inR_lit rfl) _ _ hG _ (hL.sub [1, 0] rfl)
  intro P7 a7_1 K7 hP7 hV ha7_1 H locs hG ls hL
  refine z_iload_n hC rfl (hL.at 1 rfl) dX6_runPlain_7 ?_
  refine z_aload_n hC zvr_a rfl (hL.at 0 rfl) dX6_runPlain_8 ?_
  refine z_getF hC hG kFX6_228_6 rfl rfl hV dX6_runPlain_9 ?_
  intro x1 hx1 hV
  refine z_icmp_ge (tgt := 70) hC ha7_1 hx1 hV dX6_runPlain_12 (by decide) ?_ ?_
  · intro hV
    refine z_aload_n hC zvr_a rfl (hL.at 0 rfl) dX6_runPlain_70 ?_
    refine z_iconst hC dX6_runPlain_71 ?_
    refine z_iconst hC dX6_runPlain_72 ?_
    refine z_call_i hG (zrunV (ci := 6) hC hG (Nat.le_of_ble_eq_true rfl) (Nat.le_of_ble_eq_true rfl) (zobj hG rfl (Nat.le_of_ble_eq_true rfl) (Nat.le_of_ble_eq_true rfl)) (mX6_end l P K7 (-1) (inR_lit rfl) 0 (Or.inl rfl) hV) kVX6_357 rfl rfl rfl ⟨(Nat.le_of_ble_eq_true rfl), (Nat.le_of_ble_eq_true rfl)⟩ ⟨(Nat.le_of_ble_eq_true rfl), (Nat.le_of_ble_eq_true rfl)⟩ rfl ⟨zcs_0, (Nat.le_of_ble_eq_true rfl)⟩ hL.1.1 dX6_runPlain_73) ?_
    rintro x2 G2 _ _ hx2 hV hG
    exact z_iret hC hG hr hk hx2 hV (Nat.le_of_ble_eq_true rfl) (Nat.le_of_ble_eq_true rfl) dX6_runPlain_76
  · intro hV
    refine z_aload_n hC zvr_a rfl (hL.at 0 rfl) dX6_runPlain_15 ?_
    refine z_iload_n hC rfl (hL.at 1 rfl) dX6_runPlain_16 ?_
    refine z_call_i hG (zrunV (ci := 6) hC hG (Nat.le_of_ble_eq_true rfl) (Nat.le_of_ble_eq_true rfl) (zobj hG rfl (Nat.le_of_ble_eq_true rfl) (Nat.le_of_ble_eq_true rfl)) (mX6_tryCase l P K7 a7_1 ha7_1 hV) kVX6_333 rfl rfl rfl ⟨(Nat.le_of_ble_eq_true rfl), (Nat.le_of_ble_eq_true rfl)⟩ ⟨(Nat.le_of_ble_eq_true rfl), (Nat.le_of_ble_eq_true rfl)⟩ rfl ⟨zcs_0, (Nat.le_of_ble_eq_true rfl)⟩ hL.1.1 dX6_runPlain_17) ?_
    rintro x3 G3 _ _ hx3 hV hG
    obtain ⟨J64, eJ64, hV⟩ := zjn_abs hV
    have hJ64 : ∀ (H64 : ZG), J64 H64 → ∀ (H : Heap) (locs : List Loc) (ls : Array Slot), zS P s H64 H locs → zL ls 3 [(0, .ref (zA P 5 0 0)), (1, .int (zI a7_1))] → W p l e rX6_runPlain s m args below meth c H locs 0 0 (MQ below (zQi P Q) args s 0 0 (zAr P)) (F0 m 64 ls []) := by
      intro H64 hV H locs ls hG hL
      rw [eJ64] at hV
      refine z_iincV (fun x4 => [(1, .int (zI x4)), (0, .ref (zA P 5 0 0))]) hC hL (k := 1) rfl (by decide) (fun _ => rfl) hV dX6_runPlain_64 ?_
      intro x4 hx4 hV ls hL
      refine z_goto (tgt := 7) hC dX6_runPlain_67 (by decide) ?_
      exact hP7 x4 H64 hV hx4 _ _ hG _ (hL.sub [1, 0] rfl)
    refine z_if_ne (tgt := 64) hC hx3 hV dX6_runPlain_20 (by decide) ?_ ?_
    · intro hV
      exact hJ64 G3 hV _ _ _ hG hL
    · intro hV
      refine z_aload_n hC zvr_a rfl (hL.at 0 rfl) dX6_runPlain_23 ?_
      refine z_getA hC hG kFX6_74_6 rfl rfl dX6_runPlain_24 ?_
      refine z_iload_n hC rfl (hL.at 1 rfl) dX6_runPlain_27 ?_
      refine z_iald hC hG rfl rfl rfl ha7_1 hV dX6_runPlain_28 ?_
      intro x5 hx5 hV
      refine z_iconst hC dX6_runPlain_29 ?_
      obtain ⟨J42, eJ42, hV⟩ := zjn_abs hV
      have hJ42 : ∀ (z42_0 : Int) (H42 : ZG), inR z42_0 → J42 z42_0 H42 → ∀ (H : Heap) (locs : List Loc) (ls : Array Slot), zS P s H42 H locs → zL ls 3 [(0, .ref (zA P 5 0 0)), (1, .int (zI a7_1))] → W p l e rX6_runPlain s m args below meth c H locs 0 0 (MQ below (zQi P Q) args s 0 0 (zAr P)) (F0 m 42 ls [.int (zI z42_0)]) := by
        intro z42_0 H42 hz42_0 hV H locs ls hG hL
        rw [eJ42] at hV
        refine z_istore_n (lv' := [(2, .int (zI z42_0)), (0, .ref (zA P 5 0 0)), (1, .int (zI a7_1))]) hC rfl hL (by decide) rfl dX6_runPlain_42 (fun ls hL => ?_)
        refine z_iload_n hC rfl (hL.at 0 rfl) dX6_runPlain_43 ?_
        refine z_iconst hC dX6_runPlain_44 ?_
        refine z_icmp_eq (tgt := 64) hC hz42_0 (inR_lit rfl) hV dX6_runPlain_45 (by decide) ?_ ?_
        · intro hV
          exact hJ64 H42 hV _ _ _ hG (hL.sub [1, 2] rfl)
        · intro hV
          refine z_aload_n hC zvr_a rfl (hL.at 1 rfl) dX6_runPlain_48 ?_
          refine z_iload_n hC rfl (hL.at 2 rfl) dX6_runPlain_49 ?_
          refine z_iload_n hC rfl (hL.at 0 rfl) dX6_runPlain_50 ?_
          refine z_iconst hC dX6_runPlain_51 ?_
          obtain ⟨J60, eJ60, hV⟩ := zjn_abs hV
          have hJ60 : ∀ {H : Heap} {locs : List Loc}, zS P s H42 H locs → ∀ (z60_2 : Int), (z60_2 = 0 ∨ z60_2 = 1) → J60 z60_2 → ∀ (ls : Array Slot), zL ls 3 [] → W p l e rX6_runPlain s m args below meth c H locs 0 0 (MQ below (zQi P Q) args s 0 0 (zAr P)) (F0 m 60 ls [.int (zI z60_2), .int (zI a7_1), .ref (zA P 5 0 0)]) := by
            intro H locs hG z60_2 hz60_2 hV ls hL
            rw [eJ60] at hV
            refine z_call_i hG (zrunV (ci := 6) hC hG (Nat.le_of_ble_eq_true rfl) (Nat.le_of_ble_eq_true rfl) (zobj hG rfl (Nat.le_of_ble_eq_true rfl) (Nat.le_of_ble_eq_true rfl)) (mX6_end l P H42 a7_1 ha7_1 z60_2 hz60_2 hV) kVX6_357 rfl rfl rfl ⟨(Nat.le_of_ble_eq_true rfl), (Nat.le_of_ble_eq_true rfl)⟩ ⟨(Nat.le_of_ble_eq_true rfl), (Nat.le_of_ble_eq_true rfl)⟩ rfl ⟨zcs_0, (Nat.le_of_ble_eq_true rfl)⟩ hL.1.1 dX6_runPlain_60) ?_
            rintro x6 G4 _ _ hx6 hV hG
            exact z_iret hC hG hr hk hx6 hV (Nat.le_of_ble_eq_true rfl) (Nat.le_of_ble_eq_true rfl) dX6_runPlain_63
          refine z_icmp_ne (tgt := 59) hC hz42_0 (inR_lit rfl) hV dX6_runPlain_52 (by decide) ?_ ?_
          · intro hV
            refine z_iconst hC dX6_runPlain_59 ?_
            exact hJ60 hG 0 (Or.inl rfl) hV _ (hL.sub [] rfl)
          · intro hV
            refine z_iconst hC dX6_runPlain_55 ?_
            refine z_goto (tgt := 60) hC dX6_runPlain_56 (by decide) ?_
            exact hJ60 hG 1 (Or.inr rfl) hV _ (hL.sub [] rfl)
      refine z_icmp_ne (tgt := 37) hC hx5 (inR_lit rfl) hV dX6_runPlain_30 (by decide) ?_ ?_
      · intro hV
        refine z_aload_n hC zvr_a rfl (hL.at 0 rfl) dX6_runPlain_37 ?_
        refine z_iload_n hC rfl (hL.at 1 rfl) dX6_runPlain_38 ?_
        refine z_call_i hG (zrunV (ci := 6) hC hG (Nat.le_of_ble_eq_true rfl) (Nat.le_of_ble_eq_true rfl) (zobj hG rfl (Nat.le_of_ble_eq_true rfl) (Nat.le_of_ble_eq_true rfl)) (mX6_guarded l P G3 a7_1 ha7_1 hV) kVX6_354 rfl rfl rfl ⟨(Nat.le_of_ble_eq_true rfl), (Nat.le_of_ble_eq_true rfl)⟩ ⟨(Nat.le_of_ble_eq_true rfl), (Nat.le_of_ble_eq_true rfl)⟩ rfl ⟨zcs_0, (Nat.le_of_ble_eq_true rfl)⟩ hL.1.1 dX6_runPlain_39) ?_
        rintro x7 G5 _ _ hx7 hV hG
        exact hJ42 x7 G5 hx7 hV _ _ _ hG hL
      · intro hV
        refine z_iconst hC dX6_runPlain_33 ?_
        refine z_goto (tgt := 42) hC dX6_runPlain_34 (by decide) ?_
        exact hJ42 0 G3 (inR_lit rfl) hV _ _ _ hG hL
abbrev rX6_run : Room := { frames := 10, cells := 0, slots := 0, locals := 227 }
def vX6_run (p0 : Int) (p1 : Int) (p2 : Int) (p3 : Int) (G : ZG) (Q : Int → ZG → Prop) : Prop := vX6_in p0 0 3 fun (x1 : Int) => zl3 (fun (P14 : Int → Int → Int → Prop) (a14_5 : Int) (a14_6 : Int) (a14_7 : Int) => zbr (3 ≤ a14_7) (zjn (fun (H156 : ZG) => zgF H156 5 21 fun (x2 : Int) => zjn (fun (z190_0 : Int) => zjn (fun (z221_1 : Int) => vX6_refused z221_1 H156 fun (x3 : Int) (G1 : ZG) => zbr (x3 = 0) (zl2 (fun (P232 : Int → ZG → Prop) (a232_8 : Int) (K232 : ZG) => zgF K232 5 21 fun (x4 : Int) => zbr (x4 ≤ a232_8) (zpF K232 5 47 0 fun (G2 : ZG) => zpF G2 5 48 0 fun (G3 : ZG) => zjn (fun (z289_0 : Int) (H289 : ZG) => Q z289_0 H289) fun J289 => zbr (p0 < 2) (vX6_runPlain G3 fun (x5 : Int) (G4 : ZG) => J289 x5 G4) (vX6_runTree G3 fun (x6 : Int) (G5 : ZG) => J289 x6 G5)) (vX6_pick p1 p2 p3 a232_8 fun (x7 : Int) => zaS K232 5 46 3 a232_8 x7 fun (G6 : ZG) => zlt1 (w32 (a232_8 + 1)) fun (x8 : Int) => P232 x8 G6)) 0 G1) (Q 0 G1)) fun J221 => zbr (a14_5 ≠ 0) (zbr (a14_6 ≠ 0) (zbr (z190_0 = 0) (J221 3) (J221 0)) (J221 2)) (J221 1)) fun J190 => zjn (fun (_ : Unit) => J190 0) fun J189 => zbr (x2 ≤ 0) (J189 ()) (zjn (fun (_ : Unit) => J190 1) fun J185 => zbr (a14_5 = 0) (J185 ()) (zbr (a14_6 = 0) (J185 ()) (zbr (p0 < 2) (J185 ()) (zgF H156 5 55 fun (x9 : Int) => zbr (x9 ≠ 0) (J189 ()) (J185 ())))))) fun J156 => zbr (a14_5 = 0) (J156 G) (zbr (a14_6 = 0) (J156 G) (zgF G 5 21 fun (x10 : Int) => zbr (x10 ≤ 0) (J156 G) (zbr (p0 < 2) (J156 G) (vX6_build p0 G fun (G7 : ZG) => J156 G7))))) (vX6_pick p1 p2 p3 a14_7 fun (x11 : Int) => zgF G 5 4 fun (x12 : Int) => vX6_in x11 0 (w32 (x12 - 1)) fun (x13 : Int) => zjn (fun (z69_0 : Int) => zjn (fun (z121_0 : Int) => zlt1 (w32 (a14_7 + 1)) fun (x14 : Int) => P14 z69_0 z121_0 x14) fun J121 => zjn (fun (_ : Unit) => J121 0) fun J120 => zbr (a14_6 = 0) (J120 ()) (zgF G 5 21 fun (x15 : Int) => zjn (fun (_ : Unit) => J121 1) fun J116 => zbr (x15 ≤ a14_7) (zbr (x11 ≠ (-1)) (J120 ()) (J116 ())) (zbr (x13 = 0) (J120 ()) (zaL G 5 5 40 x11 fun (x16 : Int) => zaL G 5 22 3 a14_7 fun (x17 : Int) => zbr (x16 ≠ x17) (J120 ()) (J116 ()))))) fun J69 => zjn (fun (_ : Unit) => J69 0) fun J68 => zbr (a14_5 = 0) (J68 ()) (zgF G 5 21 fun (x18 : Int) => zjn (fun (_ : Unit) => J69 1) fun J64 => zbr (x18 ≤ a14_7) (J64 ()) (zbr (x13 = 0) (J68 ()) (J64 ()))))) x1 1 0
set_option maxHeartbeats 4000000 in
theorem mX6_run (l : Launch) (P : ZP) (G : ZG) (p0 : Int) (hp0 : inR p0) (p1 : Int) (hp1 : inR p1) (p2 : Int) (hp2 : inR p2) (p3 : Int) (hp3 : inR p3) {Q : Int → ZG → Prop} (hV : vX6_run p0 p1 p2 p3 G Q) : Met l yX6_run (ws_ yX6_run cX6_run 10 (some .int)) rX6_run (zPc P G [.ref (zA P 5 0 0), .int (zI p0), .int (zI p1), .int (zI p2), .int (zI p3)]) (zQi P Q) 0 0 (zAr P) := by
  refine zMet RX6 (plainFor_of_name (by decide)) rfl (zcs_c rfl (zcs_c rfl (zcs_c rfl (zcs_c rfl (zcs_c rfl zcs_0))))) (Nat.le_of_ble_eq_true rfl) (fun p e s m args below meth c ls hC hr hk hn hG hL => ?_)
  unfold vX6_run at hV
  refine z_iload_n hC rfl (hL.at 1 rfl) dX6_run_0 ?_
  refine z_iconst hC dX6_run_1 ?_
  refine z_iconst hC dX6_run_2 ?_
  refine z_call_z hG (zrunS hC hG (mX6_in l P G p0 hp0 0 (inR_lit rfl) 3 (inR_lit rfl) hV) kSX6_171 rfl rfl rfl ⟨(Nat.le_of_ble_eq_true rfl), (Nat.le_of_ble_eq_true rfl)⟩ ⟨(Nat.le_of_ble_eq_true rfl), (Nat.le_of_ble_eq_true rfl)⟩ rfl ⟨zcs_0, (Nat.le_of_ble_eq_true rfl)⟩ hL.1.1 dX6_run_3) ?_
  rintro x1 _ _ _ hx1 ⟨rfl, hV⟩ hG
  refine z_istore (lv' := [(5, .int (zI x1)), (0, .ref (zA P 5 0 0)), (1, .int (zI p0)), (2, .int (zI p1)), (3, .int (zI p2)), (4, .int (zI p3))]) hC hL (by decide) rfl dX6_run_6 (fun ls hL => ?_)
  refine z_iconst hC dX6_run_8 ?_
  refine z_istore (lv' := [(6, .int (zI 1)), (5, .int (zI x1)), (0, .ref (zA P 5 0 0)), (1, .int (zI p0)), (2, .int (zI p1)), (3, .int (zI p2)), (4, .int (zI p3))]) hC hL (by decide) rfl dX6_run_9 (fun ls hL => ?_)
  refine z_iconst hC dX6_run_11 ?_
  refine z_istore (lv' := [(7, .int (zI 0)), (6, .int (zI 1)), (5, .int (zI x1)), (0, .ref (zA P 5 0 0)), (1, .int (zI p0)), (2, .int (zI p1)), (3, .int (zI p2)), (4, .int (zI p3))]) hC hL (by decide) rfl dX6_run_12 (fun ls hL => ?_)
  refine zl3_use hV (fun (a14_5 : Int) (a14_6 : Int) (a14_7 : Int) => (a14_5 = 0 ∨ a14_5 = 1) → (a14_6 = 0 ∨ a14_6 = 1) → inR a14_7 → ∀ (H : Heap) (locs : List Loc), zS P s G H locs → ∀ (ls : Array Slot), zL ls 10 [(0, .ref (zA P 5 0 0)), (1, .int (zI p0)), (2, .int (zI p1)), (3, .int (zI p2)), (4, .int (zI p3)), (5, .int (zI a14_5)), (6, .int (zI a14_6)), (7, .int (zI a14_7))] → W p l e rX6_run s m args below meth c H locs 0 0 (MQ below (zQi P Q) args s 0 0 (zAr P)) (F0 m 14 ls [])) ?_ hx1 (Or.inr rfl) (inR_lit rfl) _ _ hG _ (hL.sub [3, 4, 5, 6, 7, 2, 1, 0] rfl)
  intro P14 a14_5 a14_6 a14_7 hP14 hV ha14_5 ha14_6 ha14_7 H locs hG ls hL
  refine z_iload hC (hL.at 7 rfl) dX6_run_14 ?_
  refine z_iconst hC dX6_run_16 ?_
  refine z_icmp_ge (tgt := 129) hC ha14_7 (inR_lit rfl) hV dX6_run_17 (by decide) ?_ ?_
  · intro hV
    refine z_iload hC (hL.at 5 rfl) dX6_run_129 ?_
    obtain ⟨J156, eJ156, hV⟩ := zjn_abs hV
    have hJ156 : ∀ (H156 : ZG), J156 H156 → ∀ (H : Heap) (locs : List Loc) (ls : Array Slot), zS P s H156 H locs → zL ls 10 [(0, .ref (zA P 5 0 0)), (1, .int (zI p0)), (2, .int (zI p1)), (3, .int (zI p2)), (4, .int (zI p3)), (5, .int (zI a14_5)), (6, .int (zI a14_6))] → W p l e rX6_run s m args below meth c H locs 0 0 (MQ below (zQi P Q) args s 0 0 (zAr P)) (F0 m 156 ls []) := by
      intro H156 hV H locs ls hG hL
      rw [eJ156] at hV
      refine z_aload_n hC zvr_a rfl (hL.at 0 rfl) dX6_run_156 ?_
      refine z_getF hC hG kFX6_231_6 rfl rfl hV dX6_run_157 ?_
      intro x2 hx2 hV
      obtain ⟨J190, eJ190, hV⟩ := zjn_abs hV
      have hJ190 : ∀ {H : Heap} {locs : List Loc}, zS P s H156 H locs → ∀ (z190_0 : Int), (z190_0 = 0 ∨ z190_0 = 1) → J190 z190_0 → ∀ (ls : Array Slot), zL ls 10 [(0, .ref (zA P 5 0 0)), (1, .int (zI p0)), (2, .int (zI p1)), (3, .int (zI p2)), (4, .int (zI p3)), (5, .int (zI a14_5)), (6, .int (zI a14_6))] → W p l e rX6_run s m args below meth c H locs 0 0 (MQ below (zQi P Q) args s 0 0 (zAr P)) (F0 m 190 ls [.int (zI z190_0)]) := by
        intro H locs hG z190_0 hz190_0 hV ls hL
        rw [eJ190] at hV
        refine z_istore (lv' := [(7, .int (zI z190_0)), (0, .ref (zA P 5 0 0)), (1, .int (zI p0)), (2, .int (zI p1)), (3, .int (zI p2)), (4, .int (zI p3)), (5, .int (zI a14_5)), (6, .int (zI a14_6))]) hC hL (by decide) rfl dX6_run_190 (fun ls hL => ?_)
        refine z_aload_n hC zvr_a rfl (hL.at 1 rfl) dX6_run_192 ?_
        refine z_iload hC (hL.at 6 rfl) dX6_run_193 ?_
        obtain ⟨J221, eJ221, hV⟩ := zjn_abs hV
        have hJ221 : ∀ {H : Heap} {locs : List Loc}, zS P s H156 H locs → ∀ (z221_1 : Int), inR z221_1 → J221 z221_1 → ∀ (ls : Array Slot), zL ls 10 [(0, .ref (zA P 5 0 0)), (1, .int (zI p0)), (2, .int (zI p1)), (3, .int (zI p2)), (4, .int (zI p3))] → W p l e rX6_run s m args below meth c H locs 0 0 (MQ below (zQi P Q) args s 0 0 (zAr P)) (F0 m 221 ls [.int (zI z221_1), .ref (zA P 5 0 0)]) := by
          intro H locs hG z221_1 hz221_1 hV ls hL
          rw [eJ221] at hV
          refine z_call_z hG (zrunV (ci := 6) hC hG (Nat.le_of_ble_eq_true rfl) (Nat.le_of_ble_eq_true rfl) (zobj hG rfl (Nat.le_of_ble_eq_true rfl) (Nat.le_of_ble_eq_true rfl)) (mX6_refused l P H156 z221_1 hz221_1 hV) kVX6_183 rfl rfl rfl ⟨(Nat.le_of_ble_eq_true rfl), (Nat.le_of_ble_eq_true rfl)⟩ ⟨(Nat.le_of_ble_eq_true rfl), (Nat.le_of_ble_eq_true rfl)⟩ rfl ⟨zcs_0, (Nat.le_of_ble_eq_true rfl)⟩ hL.1.1 dX6_run_221) ?_
          rintro x3 G1 _ _ hx3 hV hG
          refine z_if_eq (tgt := 229) hC (inR_b hx3) hV dX6_run_224 (by decide) ?_ ?_
          · intro hV
            refine z_iconst hC dX6_run_229 ?_
            refine z_istore (lv' := [(8, .int (zI 0)), (0, .ref (zA P 5 0 0)), (1, .int (zI p0)), (2, .int (zI p1)), (3, .int (zI p2)), (4, .int (zI p3))]) hC hL (by decide) rfl dX6_run_230 (fun ls hL => ?_)
            refine zl2_use hV (fun (a232_8 : Int) (K232 : ZG) => inR a232_8 → ∀ (H : Heap) (locs : List Loc), zS P s K232 H locs → ∀ (ls : Array Slot), zL ls 10 [(0, .ref (zA P 5 0 0)), (1, .int (zI p0)), (2, .int (zI p1)), (3, .int (zI p2)), (4, .int (zI p3)), (8, .int (zI a232_8))] → W p l e rX6_run s m args below meth c H locs 0 0 (MQ below (zQi P Q) args s 0 0 (zAr P)) (F0 m 232 ls [])) ?_ (inR_lit rfl) _ _ hG _ (hL.sub [1, 2, 3, 4, 5, 0] rfl)
            intro P232 a232_8 K232 hP232 hV ha232_8 H locs hG ls hL
            refine z_iload hC (hL.at 5 rfl) dX6_run_232 ?_
            refine z_aload_n hC zvr_a rfl (hL.at 0 rfl) dX6_run_234 ?_
            refine z_getF hC hG kFX6_231_6 rfl rfl hV dX6_run_235 ?_
            intro x4 hx4 hV
            refine z_icmp_ge (tgt := 263) hC ha232_8 hx4 hV dX6_run_238 (by decide) ?_ ?_
            · intro hV
              refine z_aload_n hC zvr_a rfl (hL.at 0 rfl) dX6_run_263 ?_
              refine z_iconst hC dX6_run_264 ?_
              refine z_putF hC hG kFX6_234_6 rfl rfl rfl rfl nk_6_47 (inR_lit rfl) (Or.inl rfl) hV dX6_run_265 ?_
              intro G2 _ _ hG hV
              refine z_aload_n hC zvr_a rfl (hL.at 0 rfl) dX6_run_268 ?_
              refine z_iconst hC dX6_run_269 ?_
              refine z_putF hC hG kFX6_237_6 rfl rfl rfl rfl nk_6_48 (inR_lit rfl) (Or.inl rfl) hV dX6_run_270 ?_
              intro G3 _ _ hG hV
              refine z_iload_n hC rfl (hL.at 1 rfl) dX6_run_273 ?_
              refine z_iconst hC dX6_run_274 ?_
              obtain ⟨J289, eJ289, hV⟩ := zjn_abs hV
              have hJ289 : ∀ (z289_0 : Int) (H289 : ZG), inR z289_0 → J289 z289_0 H289 → ∀ (H : Heap) (locs : List Loc) (ls : Array Slot), zS P s H289 H locs → zL ls 10 [] → W p l e rX6_run s m args below meth c H locs 0 0 (MQ below (zQi P Q) args s 0 0 (zAr P)) (F0 m 289 ls [.int (zI z289_0)]) := by
                intro z289_0 H289 hz289_0 hV H locs ls hG hL
                rw [eJ289] at hV
                exact z_iret hC hG hr hk hz289_0 hV (Nat.le_of_ble_eq_true rfl) (Nat.le_of_ble_eq_true rfl) dX6_run_289
              refine z_icmp_lt (tgt := 285) hC hp0 (inR_lit rfl) hV dX6_run_275 (by decide) ?_ ?_
              · intro hV
                refine z_aload_n hC zvr_a rfl (hL.at 0 rfl) dX6_run_285 ?_
                refine z_call_i hG (zrunV (ci := 6) hC hG (Nat.le_of_ble_eq_true rfl) (Nat.le_of_ble_eq_true rfl) (zobj hG rfl (Nat.le_of_ble_eq_true rfl) (Nat.le_of_ble_eq_true rfl)) (mX6_runPlain l P G3 hV) kVX6_370 rfl rfl rfl ⟨(Nat.le_of_ble_eq_true rfl), (Nat.le_of_ble_eq_true rfl)⟩ ⟨(Nat.le_of_ble_eq_true rfl), (Nat.le_of_ble_eq_true rfl)⟩ rfl ⟨zcs_0, (Nat.le_of_ble_eq_true rfl)⟩ hL.1.1 dX6_run_286) ?_
                rintro x5 G4 _ _ hx5 hV hG
                exact hJ289 x5 G4 hx5 hV _ _ _ hG (hL.sub [] rfl)
              · intro hV
                refine z_aload_n hC zvr_a rfl (hL.at 0 rfl) dX6_run_278 ?_
                refine z_call_i hG (zrunV (ci := 6) hC hG (Nat.le_of_ble_eq_true rfl) (Nat.le_of_ble_eq_true rfl) (zobj hG rfl (Nat.le_of_ble_eq_true rfl) (Nat.le_of_ble_eq_true rfl)) (mX6_runTree l P G3 hV) kVX6_367 rfl rfl rfl ⟨(Nat.le_of_ble_eq_true rfl), (Nat.le_of_ble_eq_true rfl)⟩ ⟨(Nat.le_of_ble_eq_true rfl), (Nat.le_of_ble_eq_true rfl)⟩ rfl ⟨zcs_0, (Nat.le_of_ble_eq_true rfl)⟩ hL.1.1 dX6_run_279) ?_
                rintro x6 G5 _ _ hx6 hV hG
                refine z_goto (tgt := 289) hC dX6_run_282 (by decide) ?_
                exact hJ289 x6 G5 hx6 hV _ _ _ hG (hL.sub [] rfl)
            · intro hV
              refine z_aload_n hC zvr_a rfl (hL.at 0 rfl) dX6_run_241 ?_
              refine z_getA hC hG kFX6_113_6 rfl rfl dX6_run_242 ?_
              refine z_iload hC (hL.at 5 rfl) dX6_run_245 ?_
              refine z_iload_n hC rfl (hL.at 2 rfl) dX6_run_247 ?_
              refine z_iload_n hC rfl (hL.at 3 rfl) dX6_run_248 ?_
              refine z_iload hC (hL.at 4 rfl) dX6_run_249 ?_
              refine z_iload hC (hL.at 5 rfl) dX6_run_251 ?_
              refine z_call_i hG (zrunS hC hG (mX6_pick l P K232 p1 hp1 p2 hp2 p3 hp3 a232_8 ha232_8 hV) kSX6_175 rfl rfl rfl ⟨(Nat.le_of_ble_eq_true rfl), (Nat.le_of_ble_eq_true rfl)⟩ ⟨(Nat.le_of_ble_eq_true rfl), (Nat.le_of_ble_eq_true rfl)⟩ rfl ⟨(zcs_c rfl (zcs_c rfl zcs_0)), (Nat.le_of_ble_eq_true rfl)⟩ hL.1.1 dX6_run_253) ?_
              rintro x7 _ _ _ hx7 ⟨rfl, hV⟩ hG
              refine z_iast hC hG rfl (Nat.le_of_ble_eq_true rfl) (Nat.le_of_ble_eq_true rfl) rfl rfl rfl ha232_8 hx7 hV dX6_run_256 ?_
              intro G6 _ _ hG hV
              refine z_iincV (fun x8 => [(8, .int (zI x8)), (0, .ref (zA P 5 0 0)), (1, .int (zI p0)), (2, .int (zI p1)), (3, .int (zI p2)), (4, .int (zI p3))]) hC hL (k := 5) rfl (by decide) (fun _ => rfl) hV dX6_run_257 ?_
              intro x8 hx8 hV ls hL
              refine z_goto (tgt := 232) hC dX6_run_260 (by decide) ?_
              exact hP232 x8 G6 hV hx8 _ _ hG _ (hL.sub [1, 2, 3, 4, 5, 0] rfl)
          · intro hV
            refine z_iconst hC dX6_run_227 ?_
            exact z_iret hC hG hr hk (inR_lit rfl) hV (Nat.le_of_ble_eq_true rfl) (Nat.le_of_ble_eq_true rfl) dX6_run_228
        refine z_if_ne (tgt := 202) hC (inR_b ha14_5) hV dX6_run_195 (by decide) ?_ ?_
        · intro hV
          refine z_iload hC (hL.at 7 rfl) dX6_run_202 ?_
          refine z_if_ne (tgt := 211) hC (inR_b ha14_6) hV dX6_run_204 (by decide) ?_ ?_
          · intro hV
            refine z_iload hC (hL.at 0 rfl) dX6_run_211 ?_
            refine z_if_eq (tgt := 220) hC (inR_b hz190_0) hV dX6_run_213 (by decide) ?_ ?_
            · intro hV
              refine z_iconst hC dX6_run_220 ?_
              exact hJ221 hG 3 (inR_lit rfl) hV _ (hL.sub [1, 2, 3, 4, 5] rfl)
            · intro hV
              refine z_iconst hC dX6_run_216 ?_
              refine z_goto (tgt := 221) hC dX6_run_217 (by decide) ?_
              exact hJ221 hG 0 (inR_lit rfl) hV _ (hL.sub [1, 2, 3, 4, 5] rfl)
          · intro hV
            refine z_iconst hC dX6_run_207 ?_
            refine z_goto (tgt := 221) hC dX6_run_208 (by decide) ?_
            exact hJ221 hG 2 (inR_lit rfl) hV _ (hL.sub [1, 2, 3, 4, 5] rfl)
        · intro hV
          refine z_iconst hC dX6_run_198 ?_
          refine z_goto (tgt := 221) hC dX6_run_199 (by decide) ?_
          exact hJ221 hG 1 (inR_lit rfl) hV _ (hL.sub [1, 2, 3, 4, 5] rfl)
      obtain ⟨J189, eJ189, hV⟩ := zjn_abs hV
      have hJ189 : ∀ {H : Heap} {locs : List Loc}, zS P s H156 H locs → J189 () → ∀ (ls : Array Slot), zL ls 10 [(0, .ref (zA P 5 0 0)), (1, .int (zI p0)), (2, .int (zI p1)), (3, .int (zI p2)), (4, .int (zI p3)), (5, .int (zI a14_5)), (6, .int (zI a14_6))] → W p l e rX6_run s m args below meth c H locs 0 0 (MQ below (zQi P Q) args s 0 0 (zAr P)) (F0 m 189 ls []) := by
        intro H locs hG hV ls hL
        rw [eJ189] at hV
        refine z_iconst hC dX6_run_189 ?_
        exact hJ190 hG 0 (Or.inl rfl) hV _ hL
      refine z_if_le (tgt := 189) hC hx2 hV dX6_run_160 (by decide) ?_ ?_
      · intro hV
        exact hJ189 hG hV _ hL
      · intro hV
        refine z_iload hC (hL.at 5 rfl) dX6_run_163 ?_
        obtain ⟨J185, eJ185, hV⟩ := zjn_abs hV
        have hJ185 : ∀ {H : Heap} {locs : List Loc}, zS P s H156 H locs → J185 () → ∀ (ls : Array Slot), zL ls 10 [(0, .ref (zA P 5 0 0)), (1, .int (zI p0)), (2, .int (zI p1)), (3, .int (zI p2)), (4, .int (zI p3)), (5, .int (zI a14_5)), (6, .int (zI a14_6))] → W p l e rX6_run s m args below meth c H locs 0 0 (MQ below (zQi P Q) args s 0 0 (zAr P)) (F0 m 185 ls []) := by
          intro H locs hG hV ls hL
          rw [eJ185] at hV
          refine z_iconst hC dX6_run_185 ?_
          refine z_goto (tgt := 190) hC dX6_run_186 (by decide) ?_
          exact hJ190 hG 1 (Or.inr rfl) hV _ hL
        refine z_if_eq (tgt := 185) hC (inR_b ha14_5) hV dX6_run_165 (by decide) ?_ ?_
        · intro hV
          exact hJ185 hG hV _ hL
        · intro hV
          refine z_iload hC (hL.at 6 rfl) dX6_run_168 ?_
          refine z_if_eq (tgt := 185) hC (inR_b ha14_6) hV dX6_run_170 (by decide) ?_ ?_
          · intro hV
            exact hJ185 hG hV _ hL
          · intro hV
            refine z_iload_n hC rfl (hL.at 1 rfl) dX6_run_173 ?_
            refine z_iconst hC dX6_run_174 ?_
            refine z_icmp_lt (tgt := 185) hC hp0 (inR_lit rfl) hV dX6_run_175 (by decide) ?_ ?_
            · intro hV
              exact hJ185 hG hV _ hL
            · intro hV
              refine z_aload_n hC zvr_a rfl (hL.at 0 rfl) dX6_run_178 ?_
              refine z_getF hC hG kFX6_348_6 rfl rfl hV dX6_run_179 ?_
              intro x9 hx9 hV
              refine z_if_ne (tgt := 189) hC hx9 hV dX6_run_182 (by decide) ?_ ?_
              · intro hV
                exact hJ189 hG hV _ hL
              · intro hV
                exact hJ185 hG hV _ hL
    refine z_if_eq (tgt := 156) hC (inR_b ha14_5) hV dX6_run_131 (by decide) ?_ ?_
    · intro hV
      exact hJ156 G hV _ _ _ hG (hL.sub [0, 1, 2, 3, 4, 5, 6] rfl)
    · intro hV
      refine z_iload hC (hL.at 6 rfl) dX6_run_134 ?_
      refine z_if_eq (tgt := 156) hC (inR_b ha14_6) hV dX6_run_136 (by decide) ?_ ?_
      · intro hV
        exact hJ156 G hV _ _ _ hG (hL.sub [0, 1, 2, 3, 4, 5, 6] rfl)
      · intro hV
        refine z_aload_n hC zvr_a rfl (hL.at 0 rfl) dX6_run_139 ?_
        refine z_getF hC hG kFX6_231_6 rfl rfl hV dX6_run_140 ?_
        intro x10 hx10 hV
        refine z_if_le (tgt := 156) hC hx10 hV dX6_run_143 (by decide) ?_ ?_
        · intro hV
          exact hJ156 G hV _ _ _ hG (hL.sub [0, 1, 2, 3, 4, 5, 6] rfl)
        · intro hV
          refine z_iload_n hC rfl (hL.at 1 rfl) dX6_run_146 ?_
          refine z_iconst hC dX6_run_147 ?_
          refine z_icmp_lt (tgt := 156) hC hp0 (inR_lit rfl) hV dX6_run_148 (by decide) ?_ ?_
          · intro hV
            exact hJ156 G hV _ _ _ hG (hL.sub [0, 1, 2, 3, 4, 5, 6] rfl)
          · intro hV
            refine z_aload_n hC zvr_a rfl (hL.at 0 rfl) dX6_run_151 ?_
            refine z_iload_n hC rfl (hL.at 1 rfl) dX6_run_152 ?_
            refine z_call_v hG (zrunV (ci := 6) hC hG (Nat.le_of_ble_eq_true rfl) (Nat.le_of_ble_eq_true rfl) (zobj hG rfl (Nat.le_of_ble_eq_true rfl) (Nat.le_of_ble_eq_true rfl)) (mX6_build l P G p0 hp0 hV) kVX6_364 rfl rfl rfl ⟨(Nat.le_of_ble_eq_true rfl), (Nat.le_of_ble_eq_true rfl)⟩ ⟨(Nat.le_of_ble_eq_true rfl), (Nat.le_of_ble_eq_true rfl)⟩ rfl ⟨zcs_0, (Nat.le_of_ble_eq_true rfl)⟩ hL.1.1 dX6_run_153) ?_
            rintro G7 _ _ hV hG
            exact hJ156 G7 hV _ _ _ hG (hL.sub [0, 1, 2, 3, 4, 5, 6] rfl)
  · intro hV
    refine z_iload_n hC rfl (hL.at 2 rfl) dX6_run_20 ?_
    refine z_iload_n hC rfl (hL.at 3 rfl) dX6_run_21 ?_
    refine z_iload hC (hL.at 4 rfl) dX6_run_22 ?_
    refine z_iload hC (hL.at 7 rfl) dX6_run_24 ?_
    refine z_call_i hG (zrunS hC hG (mX6_pick l P G p1 hp1 p2 hp2 p3 hp3 a14_7 ha14_7 hV) kSX6_175 rfl rfl rfl ⟨(Nat.le_of_ble_eq_true rfl), (Nat.le_of_ble_eq_true rfl)⟩ ⟨(Nat.le_of_ble_eq_true rfl), (Nat.le_of_ble_eq_true rfl)⟩ rfl ⟨zcs_0, (Nat.le_of_ble_eq_true rfl)⟩ hL.1.1 dX6_run_26) ?_
    rintro x11 _ _ _ hx11 ⟨rfl, hV⟩ hG
    refine z_istore (lv' := [(8, .int (zI x11)), (0, .ref (zA P 5 0 0)), (1, .int (zI p0)), (2, .int (zI p1)), (3, .int (zI p2)), (4, .int (zI p3)), (5, .int (zI a14_5)), (6, .int (zI a14_6)), (7, .int (zI a14_7))]) hC hL (by decide) rfl dX6_run_29 (fun ls hL => ?_)
    refine z_iload hC (hL.at 0 rfl) dX6_run_31 ?_
    refine z_iconst hC dX6_run_33 ?_
    refine z_aload_n hC zvr_a rfl (hL.at 1 rfl) dX6_run_34 ?_
    refine z_getF hC hG kFX6_186_6 rfl rfl hV dX6_run_35 ?_
    intro x12 hx12 hV
    refine z_iconst hC dX6_run_38 ?_
    refine z_isub hC dX6_run_39 ?_
    refine z_call_z hG (zrunS hC hG (mX6_in l P G x11 hx11 0 (inR_lit rfl) (w32 (x12 - 1)) (inR_w _) hV) kSX6_171 rfl rfl rfl ⟨(Nat.le_of_ble_eq_true rfl), (Nat.le_of_ble_eq_true rfl)⟩ ⟨(Nat.le_of_ble_eq_true rfl), (Nat.le_of_ble_eq_true rfl)⟩ rfl ⟨zcs_0, (Nat.le_of_ble_eq_true rfl)⟩ hL.1.1 dX6_run_40) ?_
    rintro x13 _ _ _ hx13 ⟨rfl, hV⟩ hG
    refine z_istore (lv' := [(9, .int (zI x13)), (8, .int (zI x11)), (0, .ref (zA P 5 0 0)), (1, .int (zI p0)), (2, .int (zI p1)), (3, .int (zI p2)), (4, .int (zI p3)), (5, .int (zI a14_5)), (6, .int (zI a14_6)), (7, .int (zI a14_7))]) hC hL (by decide) rfl dX6_run_43 (fun ls hL => ?_)
    refine z_iload hC (hL.at 7 rfl) dX6_run_45 ?_
    obtain ⟨J69, eJ69, hV⟩ := zjn_abs hV
    have hJ69 : ∀ {H : Heap} {locs : List Loc}, zS P s G H locs → ∀ (z69_0 : Int), (z69_0 = 0 ∨ z69_0 = 1) → J69 z69_0 → ∀ (ls : Array Slot), zL ls 10 [(0, .ref (zA P 5 0 0)), (1, .int (zI p0)), (2, .int (zI p1)), (3, .int (zI p2)), (4, .int (zI p3)), (6, .int (zI a14_6)), (7, .int (zI a14_7)), (8, .int (zI x11)), (9, .int (zI x13))] → W p l e rX6_run s m args below meth c H locs 0 0 (MQ below (zQi P Q) args s 0 0 (zAr P)) (F0 m 69 ls [.int (zI z69_0)]) := by
      intro H locs hG z69_0 hz69_0 hV ls hL
      rw [eJ69] at hV
      refine z_istore (lv' := [(5, .int (zI z69_0)), (0, .ref (zA P 5 0 0)), (1, .int (zI p0)), (2, .int (zI p1)), (3, .int (zI p2)), (4, .int (zI p3)), (6, .int (zI a14_6)), (7, .int (zI a14_7)), (8, .int (zI x11)), (9, .int (zI x13))]) hC hL (by decide) rfl dX6_run_69 (fun ls hL => ?_)
      refine z_iload hC (hL.at 6 rfl) dX6_run_71 ?_
      obtain ⟨J121, eJ121, hV⟩ := zjn_abs hV
      have hJ121 : ∀ {H : Heap} {locs : List Loc}, zS P s G H locs → ∀ (z121_0 : Int), (z121_0 = 0 ∨ z121_0 = 1) → J121 z121_0 → ∀ (ls : Array Slot), zL ls 10 [(0, .ref (zA P 5 0 0)), (1, .int (zI p0)), (2, .int (zI p1)), (3, .int (zI p2)), (4, .int (zI p3)), (5, .int (zI z69_0)), (7, .int (zI a14_7))] → W p l e rX6_run s m args below meth c H locs 0 0 (MQ below (zQi P Q) args s 0 0 (zAr P)) (F0 m 121 ls [.int (zI z121_0)]) := by
        intro H locs hG z121_0 hz121_0 hV ls hL
        rw [eJ121] at hV
        refine z_istore (lv' := [(6, .int (zI z121_0)), (0, .ref (zA P 5 0 0)), (1, .int (zI p0)), (2, .int (zI p1)), (3, .int (zI p2)), (4, .int (zI p3)), (5, .int (zI z69_0)), (7, .int (zI a14_7))]) hC hL (by decide) rfl dX6_run_121 (fun ls hL => ?_)
        refine z_iincV (fun x14 => [(7, .int (zI x14)), (6, .int (zI z121_0)), (0, .ref (zA P 5 0 0)), (1, .int (zI p0)), (2, .int (zI p1)), (3, .int (zI p2)), (4, .int (zI p3)), (5, .int (zI z69_0))]) hC hL (k := 7) rfl (by decide) (fun _ => rfl) hV dX6_run_123 ?_
        intro x14 hx14 hV ls hL
        refine z_goto (tgt := 14) hC dX6_run_126 (by decide) ?_
        exact hP14 z69_0 z121_0 x14 hV hz69_0 hz121_0 hx14 _ _ hG _ (hL.sub [2, 3, 4, 5, 6, 7, 1, 0] rfl)
      obtain ⟨J120, eJ120, hV⟩ := zjn_abs hV
      have hJ120 : ∀ {H : Heap} {locs : List Loc}, zS P s G H locs → J120 () → ∀ (ls : Array Slot), zL ls 10 [(0, .ref (zA P 5 0 0)), (1, .int (zI p0)), (2, .int (zI p1)), (3, .int (zI p2)), (4, .int (zI p3)), (5, .int (zI z69_0)), (7, .int (zI a14_7))] → W p l e rX6_run s m args below meth c H locs 0 0 (MQ below (zQi P Q) args s 0 0 (zAr P)) (F0 m 120 ls []) := by
        intro H locs hG hV ls hL
        rw [eJ120] at hV
        refine z_iconst hC dX6_run_120 ?_
        exact hJ121 hG 0 (Or.inl rfl) hV _ hL
      refine z_if_eq (tgt := 120) hC (inR_b ha14_6) hV dX6_run_73 (by decide) ?_ ?_
      · intro hV
        exact hJ120 hG hV _ (hL.sub [1, 2, 3, 4, 5, 0, 7] rfl)
      · intro hV
        refine z_iload hC (hL.at 7 rfl) dX6_run_76 ?_
        refine z_aload_n hC zvr_a rfl (hL.at 1 rfl) dX6_run_78 ?_
        refine z_getF hC hG kFX6_231_6 rfl rfl hV dX6_run_79 ?_
        intro x15 hx15 hV
        obtain ⟨J116, eJ116, hV⟩ := zjn_abs hV
        have hJ116 : ∀ {H : Heap} {locs : List Loc}, zS P s G H locs → J116 () → ∀ (ls : Array Slot), zL ls 10 [(0, .ref (zA P 5 0 0)), (1, .int (zI p0)), (2, .int (zI p1)), (3, .int (zI p2)), (4, .int (zI p3)), (5, .int (zI z69_0)), (7, .int (zI a14_7))] → W p l e rX6_run s m args below meth c H locs 0 0 (MQ below (zQi P Q) args s 0 0 (zAr P)) (F0 m 116 ls []) := by
          intro H locs hG hV ls hL
          rw [eJ116] at hV
          refine z_iconst hC dX6_run_116 ?_
          refine z_goto (tgt := 121) hC dX6_run_117 (by decide) ?_
          exact hJ121 hG 1 (Or.inr rfl) hV _ hL
        refine z_icmp_ge (tgt := 110) hC ha14_7 hx15 hV dX6_run_82 (by decide) ?_ ?_
        · intro hV
          refine z_iload hC (hL.at 8 rfl) dX6_run_110 ?_
          refine z_iconst hC dX6_run_112 ?_
          refine z_icmp_ne (tgt := 120) hC hx11 (inR_lit rfl) hV dX6_run_113 (by decide) ?_ ?_
          · intro hV
            exact hJ120 hG hV _ (hL.sub [1, 2, 3, 4, 5, 0, 7] rfl)
          · intro hV
            exact hJ116 hG hV _ (hL.sub [1, 2, 3, 4, 5, 0, 7] rfl)
        · intro hV
          refine z_iload hC (hL.at 9 rfl) dX6_run_85 ?_
          refine z_if_eq (tgt := 120) hC (inR_b hx13) hV dX6_run_87 (by decide) ?_ ?_
          · intro hV
            exact hJ120 hG hV _ (hL.sub [1, 2, 3, 4, 5, 0, 7] rfl)
          · intro hV
            refine z_aload_n hC zvr_a rfl (hL.at 1 rfl) dX6_run_90 ?_
            refine z_getA hC hG kFX6_19_6 rfl rfl dX6_run_91 ?_
            refine z_iload hC (hL.at 8 rfl) dX6_run_94 ?_
            refine z_iald hC hG rfl rfl rfl hx11 hV dX6_run_96 ?_
            intro x16 hx16 hV
            refine z_aload_n hC zvr_a rfl (hL.at 1 rfl) dX6_run_97 ?_
            refine z_getA hC hG kFX6_65_6 rfl rfl dX6_run_98 ?_
            refine z_iload hC (hL.at 7 rfl) dX6_run_101 ?_
            refine z_iald hC hG rfl rfl rfl ha14_7 hV dX6_run_103 ?_
            intro x17 hx17 hV
            refine z_icmp_ne (tgt := 120) hC hx16 hx17 hV dX6_run_104 (by decide) ?_ ?_
            · intro hV
              exact hJ120 hG hV _ (hL.sub [1, 2, 3, 4, 5, 0, 7] rfl)
            · intro hV
              refine z_goto (tgt := 116) hC dX6_run_107 (by decide) ?_
              exact hJ116 hG hV _ (hL.sub [1, 2, 3, 4, 5, 0, 7] rfl)
    obtain ⟨J68, eJ68, hV⟩ := zjn_abs hV
    have hJ68 : ∀ {H : Heap} {locs : List Loc}, zS P s G H locs → J68 () → ∀ (ls : Array Slot), zL ls 10 [(0, .ref (zA P 5 0 0)), (1, .int (zI p0)), (2, .int (zI p1)), (3, .int (zI p2)), (4, .int (zI p3)), (6, .int (zI a14_6)), (7, .int (zI a14_7)), (8, .int (zI x11)), (9, .int (zI x13))] → W p l e rX6_run s m args below meth c H locs 0 0 (MQ below (zQi P Q) args s 0 0 (zAr P)) (F0 m 68 ls []) := by
      intro H locs hG hV ls hL
      rw [eJ68] at hV
      refine z_iconst hC dX6_run_68 ?_
      exact hJ69 hG 0 (Or.inl rfl) hV _ hL
    refine z_if_eq (tgt := 68) hC (inR_b ha14_5) hV dX6_run_47 (by decide) ?_ ?_
    · intro hV
      exact hJ68 hG hV _ (hL.sub [2, 3, 4, 5, 6, 8, 9, 1, 0] rfl)
    · intro hV
      refine z_iload hC (hL.at 9 rfl) dX6_run_50 ?_
      refine z_aload_n hC zvr_a rfl (hL.at 2 rfl) dX6_run_52 ?_
      refine z_getF hC hG kFX6_231_6 rfl rfl hV dX6_run_53 ?_
      intro x18 hx18 hV
      obtain ⟨J64, eJ64, hV⟩ := zjn_abs hV
      have hJ64 : ∀ {H : Heap} {locs : List Loc}, zS P s G H locs → J64 () → ∀ (ls : Array Slot), zL ls 10 [(0, .ref (zA P 5 0 0)), (1, .int (zI p0)), (2, .int (zI p1)), (3, .int (zI p2)), (4, .int (zI p3)), (6, .int (zI a14_6)), (7, .int (zI a14_7)), (8, .int (zI x11)), (9, .int (zI x13))] → W p l e rX6_run s m args below meth c H locs 0 0 (MQ below (zQi P Q) args s 0 0 (zAr P)) (F0 m 64 ls []) := by
        intro H locs hG hV ls hL
        rw [eJ64] at hV
        refine z_iconst hC dX6_run_64 ?_
        refine z_goto (tgt := 69) hC dX6_run_65 (by decide) ?_
        exact hJ69 hG 1 (Or.inr rfl) hV _ hL
      refine z_icmp_ge (tgt := 64) hC ha14_7 hx18 hV dX6_run_56 (by decide) ?_ ?_
      · intro hV
        exact hJ64 hG hV _ (hL.sub [2, 3, 4, 5, 6, 8, 9, 1, 0] rfl)
      · intro hV
        refine z_iload hC (hL.at 0 rfl) dX6_run_59 ?_
        refine z_if_eq (tgt := 68) hC (inR_b hx13) hV dX6_run_61 (by decide) ?_ ?_
        · intro hV
          exact hJ68 hG hV _ (hL.sub [2, 3, 4, 5, 6, 8, 9, 1, 0] rfl)
        · intro hV
          exact hJ64 hG hV _ (hL.sub [2, 3, 4, 5, 6, 8, 9, 1, 0] rfl)
abbrev rX6_tests : Room := { frames := 1, cells := 0, slots := 0, locals := 12 }
def vX6_tests (G : ZG) (Q : Int → ZG → Prop) : Prop := zpF G 5 0 0 fun (G1 : ZG) => zgF G1 5 47 fun (x1 : Int) => Q x1 G1
set_option maxHeartbeats 4000000 in
theorem mX6_tests (l : Launch) (P : ZP) (G : ZG) {Q : Int → ZG → Prop} (hV : vX6_tests G Q) : Met l yX6_tests (ws_ yX6_tests cX6_tests 1 (some .int)) rX6_tests (zPc P G [.ref (zA P 5 0 0)]) (zQi P Q) 0 0 (zAr P) := by
  refine zMet RX6 (plainFor_of_name (by decide)) rfl (zcs_c rfl zcs_0) (Nat.le_of_ble_eq_true rfl) (fun p e s m args below meth c ls hC hr hk hn hG hL => ?_)
  unfold vX6_tests at hV
  refine z_aload_n hC zvr_a rfl (hL.at 0 rfl) dX6_tests_0 ?_
  refine z_iconst hC dX6_tests_1 ?_
  refine z_putF hC hG kFX6_168_6 rfl rfl rfl rfl nk_6_0 (inR_lit rfl) (Or.inl rfl) hV dX6_tests_2 ?_
  intro G1 _ _ hG hV
  refine z_aload_n hC zvr_a rfl (hL.at 0 rfl) dX6_tests_5 ?_
  refine z_getF hC hG kFX6_234_6 rfl rfl hV dX6_tests_6 ?_
  intro x1 hx1 hV
  exact z_iret hC hG hr hk hx1 hV (Nat.le_of_ble_eq_true rfl) (Nat.le_of_ble_eq_true rfl) dX6_tests_9
abbrev rX6_views : Room := { frames := 1, cells := 0, slots := 0, locals := 12 }
def vX6_views (G : ZG) (Q : Int → ZG → Prop) : Prop := zpF G 5 0 0 fun (G1 : ZG) => zgF G1 5 48 fun (x1 : Int) => Q x1 G1
set_option maxHeartbeats 4000000 in
theorem mX6_views (l : Launch) (P : ZP) (G : ZG) {Q : Int → ZG → Prop} (hV : vX6_views G Q) : Met l yX6_views (ws_ yX6_views cX6_views 1 (some .int)) rX6_views (zPc P G [.ref (zA P 5 0 0)]) (zQi P Q) 0 0 (zAr P) := by
  refine zMet RX6 (plainFor_of_name (by decide)) rfl (zcs_c rfl zcs_0) (Nat.le_of_ble_eq_true rfl) (fun p e s m args below meth c ls hC hr hk hn hG hL => ?_)
  unfold vX6_views at hV
  refine z_aload_n hC zvr_a rfl (hL.at 0 rfl) dX6_views_0 ?_
  refine z_iconst hC dX6_views_1 ?_
  refine z_putF hC hG kFX6_168_6 rfl rfl rfl rfl nk_6_0 (inR_lit rfl) (Or.inl rfl) hV dX6_views_2 ?_
  intro G1 _ _ hG hV
  refine z_aload_n hC zvr_a rfl (hL.at 0 rfl) dX6_views_5 ?_
  refine z_getF hC hG kFX6_237_6 rfl rfl hV dX6_views_6 ?_
  intro x1 hx1 hV
  exact z_iret hC hG hr hk hx1 hV (Nat.le_of_ble_eq_true rfl) (Nat.le_of_ble_eq_true rfl) dX6_views_9
abbrev rX6_viewAt : Room := { frames := 2, cells := 0, slots := 0, locals := 34 }
def vX6_viewAt (p0 : Int) (G : ZG) (Q : Int → ZG → Prop) : Prop := zgF G 5 48 fun (x1 : Int) => vX6_in p0 0 (w32 (x1 - 1)) fun (x2 : Int) => zjn (fun (z20_1 : Int) => vX6_refused z20_1 G fun (x3 : Int) (G1 : ZG) => zjn (fun (z57_0 : Int) => Q z57_0 G1) fun J57 => zbr (x3 = 0) (zaL G1 5 49 1500 p0 fun (x4 : Int) => zaL G1 5 50 1500 p0 fun (x5 : Int) => zaL G1 5 51 1500 p0 fun (x6 : Int) => J57 (w32 ((w32 ((w32 (100000 * x4)) + (w32 (10 * x5)))) + x6))) (J57 0)) fun J20 => zbr (x2 = 0) (J20 1) (J20 0)
set_option maxHeartbeats 4000000 in
theorem mX6_viewAt (l : Launch) (P : ZP) (G : ZG) (p0 : Int) (hp0 : inR p0) {Q : Int → ZG → Prop} (hV : vX6_viewAt p0 G Q) : Met l yX6_viewAt (ws_ yX6_viewAt cX6_viewAt 2 (some .int)) rX6_viewAt (zPc P G [.ref (zA P 5 0 0), .int (zI p0)]) (zQi P Q) 0 0 (zAr P) := by
  refine zMet RX6 (plainFor_of_name (by decide)) rfl (zcs_c rfl (zcs_c rfl zcs_0)) (Nat.le_of_ble_eq_true rfl) (fun p e s m args below meth c ls hC hr hk hn hG hL => ?_)
  unfold vX6_viewAt at hV
  refine z_aload_n hC zvr_a rfl (hL.at 0 rfl) dX6_viewAt_0 ?_
  refine z_iload_n hC rfl (hL.at 1 rfl) dX6_viewAt_1 ?_
  refine z_iconst hC dX6_viewAt_2 ?_
  refine z_aload_n hC zvr_a rfl (hL.at 0 rfl) dX6_viewAt_3 ?_
  refine z_getF hC hG kFX6_237_6 rfl rfl hV dX6_viewAt_4 ?_
  intro x1 hx1 hV
  refine z_iconst hC dX6_viewAt_7 ?_
  refine z_isub hC dX6_viewAt_8 ?_
  refine z_call_z hG (zrunS hC hG (mX6_in l P G p0 hp0 0 (inR_lit rfl) (w32 (x1 - 1)) (inR_w _) hV) kSX6_171 rfl rfl rfl ⟨(Nat.le_of_ble_eq_true rfl), (Nat.le_of_ble_eq_true rfl)⟩ ⟨(Nat.le_of_ble_eq_true rfl), (Nat.le_of_ble_eq_true rfl)⟩ rfl ⟨(zcs_c rfl zcs_0), (Nat.le_of_ble_eq_true rfl)⟩ hL.1.1 dX6_viewAt_9) ?_
  rintro x2 _ _ _ hx2 ⟨rfl, hV⟩ hG
  obtain ⟨J20, eJ20, hV⟩ := zjn_abs hV
  have hJ20 : ∀ {H : Heap} {locs : List Loc}, zS P s G H locs → ∀ (z20_1 : Int), (z20_1 = 0 ∨ z20_1 = 1) → J20 z20_1 → ∀ (ls : Array Slot), zL ls 2 [(0, .ref (zA P 5 0 0)), (1, .int (zI p0))] → W p l e rX6_viewAt s m args below meth c H locs 0 0 (MQ below (zQi P Q) args s 0 0 (zAr P)) (F0 m 20 ls [.int (zI z20_1), .ref (zA P 5 0 0)]) := by
    intro H locs hG z20_1 hz20_1 hV ls hL
    rw [eJ20] at hV
    refine z_call_z hG (zrunV (ci := 6) hC hG (Nat.le_of_ble_eq_true rfl) (Nat.le_of_ble_eq_true rfl) (zobj hG rfl (Nat.le_of_ble_eq_true rfl) (Nat.le_of_ble_eq_true rfl)) (mX6_refused l P G z20_1 (inR_b hz20_1) hV) kVX6_183 rfl rfl rfl ⟨(Nat.le_of_ble_eq_true rfl), (Nat.le_of_ble_eq_true rfl)⟩ ⟨(Nat.le_of_ble_eq_true rfl), (Nat.le_of_ble_eq_true rfl)⟩ rfl ⟨zcs_0, (Nat.le_of_ble_eq_true rfl)⟩ hL.1.1 dX6_viewAt_20) ?_
    rintro x3 G1 _ _ hx3 hV hG
    obtain ⟨J57, eJ57, hV⟩ := zjn_abs hV
    have hJ57 : ∀ {H : Heap} {locs : List Loc}, zS P s G1 H locs → ∀ (z57_0 : Int), inR z57_0 → J57 z57_0 → ∀ (ls : Array Slot), zL ls 2 [] → W p l e rX6_viewAt s m args below meth c H locs 0 0 (MQ below (zQi P Q) args s 0 0 (zAr P)) (F0 m 57 ls [.int (zI z57_0)]) := by
      intro H locs hG z57_0 hz57_0 hV ls hL
      rw [eJ57] at hV
      exact z_iret hC hG hr hk hz57_0 hV (Nat.le_of_ble_eq_true rfl) (Nat.le_of_ble_eq_true rfl) dX6_viewAt_57
    refine z_if_eq (tgt := 30) hC (inR_b hx3) hV dX6_viewAt_23 (by decide) ?_ ?_
    · intro hV
      refine z_ldcw (n := 100000) hC q2242 rfl dX6_viewAt_30 ?_
      refine z_aload_n hC zvr_a rfl (hL.at 0 rfl) dX6_viewAt_33 ?_
      refine z_getA hC hG kFX6_116_6 rfl rfl dX6_viewAt_34 ?_
      refine z_iload_n hC rfl (hL.at 1 rfl) dX6_viewAt_37 ?_
      refine z_iald hC hG rfl rfl rfl hp0 hV dX6_viewAt_38 ?_
      intro x4 hx4 hV
      refine z_imul hC dX6_viewAt_39 ?_
      refine z_bipush hC rfl dX6_viewAt_40 ?_
      refine z_aload_n hC zvr_a rfl (hL.at 0 rfl) dX6_viewAt_42 ?_
      refine z_getA hC hG kFX6_119_6 rfl rfl dX6_viewAt_43 ?_
      refine z_iload_n hC rfl (hL.at 1 rfl) dX6_viewAt_46 ?_
      refine z_iald hC hG rfl rfl rfl hp0 hV dX6_viewAt_47 ?_
      intro x5 hx5 hV
      refine z_imul hC dX6_viewAt_48 ?_
      refine z_iadd hC dX6_viewAt_49 ?_
      refine z_aload_n hC zvr_a rfl (hL.at 0 rfl) dX6_viewAt_50 ?_
      refine z_getA hC hG kFX6_122_6 rfl rfl dX6_viewAt_51 ?_
      refine z_iload_n hC rfl (hL.at 1 rfl) dX6_viewAt_54 ?_
      refine z_iald hC hG rfl rfl rfl hp0 hV dX6_viewAt_55 ?_
      intro x6 hx6 hV
      refine z_iadd hC dX6_viewAt_56 ?_
      exact hJ57 hG (w32 ((w32 ((w32 (100000 * x4)) + (w32 (10 * x5)))) + x6)) (inR_w _) hV _ (hL.sub [] rfl)
    · intro hV
      refine z_iconst hC dX6_viewAt_26 ?_
      refine z_goto (tgt := 57) hC dX6_viewAt_27 (by decide) ?_
      exact hJ57 hG 0 (inR_lit rfl) hV _ (hL.sub [] rfl)
  refine z_if_eq (tgt := 19) hC (inR_b hx2) hV dX6_viewAt_12 (by decide) ?_ ?_
  · intro hV
    refine z_iconst hC dX6_viewAt_19 ?_
    exact hJ20 hG 1 (Or.inr rfl) hV _ hL
  · intro hV
    refine z_iconst hC dX6_viewAt_15 ?_
    refine z_goto (tgt := 20) hC dX6_viewAt_16 (by decide) ?_
    exact hJ20 hG 0 (Or.inl rfl) hV _ hL
abbrev rX6_bound : Room := { frames := 2, cells := 0, slots := 0, locals := 34 }
def vX6_bound (p0 : Int) (G : ZG) (Q : Int → ZG → Prop) : Prop := vX6_in p0 0 5 fun (x1 : Int) => zjn (fun (z15_1 : Int) => vX6_refused z15_1 G fun (x2 : Int) (G1 : ZG) => zjn (fun (z43_0 : Int) => Q z43_0 G1) fun J43 => zbr (x2 = 0) (zgF G1 5 52 fun (x3 : Int) => zbr (x3 ≠ (-1)) (zaL G1 5 53 6 p0 fun (x4 : Int) => J43 x4) (J43 (-1))) (J43 0)) fun J15 => zbr (x1 = 0) (J15 1) (J15 0)
set_option maxHeartbeats 4000000 in
theorem mX6_bound (l : Launch) (P : ZP) (G : ZG) (p0 : Int) (hp0 : inR p0) {Q : Int → ZG → Prop} (hV : vX6_bound p0 G Q) : Met l yX6_bound (ws_ yX6_bound cX6_bound 2 (some .int)) rX6_bound (zPc P G [.ref (zA P 5 0 0), .int (zI p0)]) (zQi P Q) 0 0 (zAr P) := by
  refine zMet RX6 (plainFor_of_name (by decide)) rfl (zcs_c rfl (zcs_c rfl zcs_0)) (Nat.le_of_ble_eq_true rfl) (fun p e s m args below meth c ls hC hr hk hn hG hL => ?_)
  unfold vX6_bound at hV
  refine z_aload_n hC zvr_a rfl (hL.at 0 rfl) dX6_bound_0 ?_
  refine z_iload_n hC rfl (hL.at 1 rfl) dX6_bound_1 ?_
  refine z_iconst hC dX6_bound_2 ?_
  refine z_iconst hC dX6_bound_3 ?_
  refine z_call_z hG (zrunS hC hG (mX6_in l P G p0 hp0 0 (inR_lit rfl) 5 (inR_lit rfl) hV) kSX6_171 rfl rfl rfl ⟨(Nat.le_of_ble_eq_true rfl), (Nat.le_of_ble_eq_true rfl)⟩ ⟨(Nat.le_of_ble_eq_true rfl), (Nat.le_of_ble_eq_true rfl)⟩ rfl ⟨(zcs_c rfl zcs_0), (Nat.le_of_ble_eq_true rfl)⟩ hL.1.1 dX6_bound_4) ?_
  rintro x1 _ _ _ hx1 ⟨rfl, hV⟩ hG
  obtain ⟨J15, eJ15, hV⟩ := zjn_abs hV
  have hJ15 : ∀ {H : Heap} {locs : List Loc}, zS P s G H locs → ∀ (z15_1 : Int), (z15_1 = 0 ∨ z15_1 = 1) → J15 z15_1 → ∀ (ls : Array Slot), zL ls 2 [(0, .ref (zA P 5 0 0)), (1, .int (zI p0))] → W p l e rX6_bound s m args below meth c H locs 0 0 (MQ below (zQi P Q) args s 0 0 (zAr P)) (F0 m 15 ls [.int (zI z15_1), .ref (zA P 5 0 0)]) := by
    intro H locs hG z15_1 hz15_1 hV ls hL
    rw [eJ15] at hV
    refine z_call_z hG (zrunV (ci := 6) hC hG (Nat.le_of_ble_eq_true rfl) (Nat.le_of_ble_eq_true rfl) (zobj hG rfl (Nat.le_of_ble_eq_true rfl) (Nat.le_of_ble_eq_true rfl)) (mX6_refused l P G z15_1 (inR_b hz15_1) hV) kVX6_183 rfl rfl rfl ⟨(Nat.le_of_ble_eq_true rfl), (Nat.le_of_ble_eq_true rfl)⟩ ⟨(Nat.le_of_ble_eq_true rfl), (Nat.le_of_ble_eq_true rfl)⟩ rfl ⟨zcs_0, (Nat.le_of_ble_eq_true rfl)⟩ hL.1.1 dX6_bound_15) ?_
    rintro x2 G1 _ _ hx2 hV hG
    obtain ⟨J43, eJ43, hV⟩ := zjn_abs hV
    have hJ43 : ∀ {H : Heap} {locs : List Loc}, zS P s G1 H locs → ∀ (z43_0 : Int), inR z43_0 → J43 z43_0 → ∀ (ls : Array Slot), zL ls 2 [] → W p l e rX6_bound s m args below meth c H locs 0 0 (MQ below (zQi P Q) args s 0 0 (zAr P)) (F0 m 43 ls [.int (zI z43_0)]) := by
      intro H locs hG z43_0 hz43_0 hV ls hL
      rw [eJ43] at hV
      exact z_iret hC hG hr hk hz43_0 hV (Nat.le_of_ble_eq_true rfl) (Nat.le_of_ble_eq_true rfl) dX6_bound_43
    refine z_if_eq (tgt := 25) hC (inR_b hx2) hV dX6_bound_18 (by decide) ?_ ?_
    · intro hV
      refine z_aload_n hC zvr_a rfl (hL.at 0 rfl) dX6_bound_25 ?_
      refine z_getF hC hG kFX6_165_6 rfl rfl hV dX6_bound_26 ?_
      intro x3 hx3 hV
      refine z_iconst hC dX6_bound_29 ?_
      refine z_icmp_ne (tgt := 37) hC hx3 (inR_lit rfl) hV dX6_bound_30 (by decide) ?_ ?_
      · intro hV
        refine z_aload_n hC zvr_a rfl (hL.at 0 rfl) dX6_bound_37 ?_
        refine z_getA hC hG kFX6_125_6 rfl rfl dX6_bound_38 ?_
        refine z_iload_n hC rfl (hL.at 1 rfl) dX6_bound_41 ?_
        refine z_iald hC hG rfl rfl rfl hp0 hV dX6_bound_42 ?_
        intro x4 hx4 hV
        exact hJ43 hG x4 hx4 hV _ (hL.sub [] rfl)
      · intro hV
        refine z_iconst hC dX6_bound_33 ?_
        refine z_goto (tgt := 43) hC dX6_bound_34 (by decide) ?_
        exact hJ43 hG (-1) (inR_lit rfl) hV _ (hL.sub [] rfl)
    · intro hV
      refine z_iconst hC dX6_bound_21 ?_
      refine z_goto (tgt := 43) hC dX6_bound_22 (by decide) ?_
      exact hJ43 hG 0 (inR_lit rfl) hV _ (hL.sub [] rfl)
  refine z_if_eq (tgt := 14) hC (inR_b hx1) hV dX6_bound_7 (by decide) ?_ ?_
  · intro hV
    refine z_iconst hC dX6_bound_14 ?_
    exact hJ15 hG 1 (Or.inr rfl) hV _ hL
  · intro hV
    refine z_iconst hC dX6_bound_10 ?_
    refine z_goto (tgt := 15) hC dX6_bound_11 (by decide) ?_
    exact hJ15 hG 0 (Or.inl rfl) hV _ hL
abbrev rX6_taken : Room := { frames := 3, cells := 0, slots := 0, locals := 55 }
def vX6_taken (p0 : Int) (G : ZG) (Q : Int → ZG → Prop) : Prop := vX6_isCase p0 G fun (x1 : Int) => zjn (fun (z14_1 : Int) => vX6_refused z14_1 G fun (x2 : Int) (G1 : ZG) => zjn (fun (z30_0 : Int) => Q z30_0 G1) fun J30 => zbr (x2 = 0) (zaL G1 5 29 8 p0 fun (x3 : Int) => J30 x3) (J30 0)) fun J14 => zbr (x1 = 0) (J14 1) (J14 0)
set_option maxHeartbeats 4000000 in
theorem mX6_taken (l : Launch) (P : ZP) (G : ZG) (p0 : Int) (hp0 : inR p0) {Q : Int → ZG → Prop} (hV : vX6_taken p0 G Q) : Met l yX6_taken (ws_ yX6_taken cX6_taken 2 (some .int)) rX6_taken (zPc P G [.ref (zA P 5 0 0), .int (zI p0)]) (zQi P Q) 0 0 (zAr P) := by
  refine zMet RX6 (plainFor_of_name (by decide)) rfl (zcs_c rfl (zcs_c rfl zcs_0)) (Nat.le_of_ble_eq_true rfl) (fun p e s m args below meth c ls hC hr hk hn hG hL => ?_)
  unfold vX6_taken at hV
  refine z_aload_n hC zvr_a rfl (hL.at 0 rfl) dX6_taken_0 ?_
  refine z_aload_n hC zvr_a rfl (hL.at 0 rfl) dX6_taken_1 ?_
  refine z_iload_n hC rfl (hL.at 1 rfl) dX6_taken_2 ?_
  refine z_call_z hG (zrunV (ci := 6) hC hG (Nat.le_of_ble_eq_true rfl) (Nat.le_of_ble_eq_true rfl) (zobj hG rfl (Nat.le_of_ble_eq_true rfl) (Nat.le_of_ble_eq_true rfl)) (mX6_isCase l P G p0 hp0 hV) kVX6_248 rfl rfl rfl ⟨(Nat.le_of_ble_eq_true rfl), (Nat.le_of_ble_eq_true rfl)⟩ ⟨(Nat.le_of_ble_eq_true rfl), (Nat.le_of_ble_eq_true rfl)⟩ rfl ⟨(zcs_c rfl zcs_0), (Nat.le_of_ble_eq_true rfl)⟩ hL.1.1 dX6_taken_3) ?_
  rintro x1 _ _ _ hx1 ⟨rfl, hV⟩ hG
  obtain ⟨J14, eJ14, hV⟩ := zjn_abs hV
  have hJ14 : ∀ {H : Heap} {locs : List Loc}, zS P s G H locs → ∀ (z14_1 : Int), (z14_1 = 0 ∨ z14_1 = 1) → J14 z14_1 → ∀ (ls : Array Slot), zL ls 2 [(0, .ref (zA P 5 0 0)), (1, .int (zI p0))] → W p l e rX6_taken s m args below meth c H locs 0 0 (MQ below (zQi P Q) args s 0 0 (zAr P)) (F0 m 14 ls [.int (zI z14_1), .ref (zA P 5 0 0)]) := by
    intro H locs hG z14_1 hz14_1 hV ls hL
    rw [eJ14] at hV
    refine z_call_z hG (zrunV (ci := 6) hC hG (Nat.le_of_ble_eq_true rfl) (Nat.le_of_ble_eq_true rfl) (zobj hG rfl (Nat.le_of_ble_eq_true rfl) (Nat.le_of_ble_eq_true rfl)) (mX6_refused l P G z14_1 (inR_b hz14_1) hV) kVX6_183 rfl rfl rfl ⟨(Nat.le_of_ble_eq_true rfl), (Nat.le_of_ble_eq_true rfl)⟩ ⟨(Nat.le_of_ble_eq_true rfl), (Nat.le_of_ble_eq_true rfl)⟩ rfl ⟨zcs_0, (Nat.le_of_ble_eq_true rfl)⟩ hL.1.1 dX6_taken_14) ?_
    rintro x2 G1 _ _ hx2 hV hG
    obtain ⟨J30, eJ30, hV⟩ := zjn_abs hV
    have hJ30 : ∀ {H : Heap} {locs : List Loc}, zS P s G1 H locs → ∀ (z30_0 : Int), inR z30_0 → J30 z30_0 → ∀ (ls : Array Slot), zL ls 2 [] → W p l e rX6_taken s m args below meth c H locs 0 0 (MQ below (zQi P Q) args s 0 0 (zAr P)) (F0 m 30 ls [.int (zI z30_0)]) := by
      intro H locs hG z30_0 hz30_0 hV ls hL
      rw [eJ30] at hV
      exact z_iret hC hG hr hk hz30_0 hV (Nat.le_of_ble_eq_true rfl) (Nat.le_of_ble_eq_true rfl) dX6_taken_30
    refine z_if_eq (tgt := 24) hC (inR_b hx2) hV dX6_taken_17 (by decide) ?_ ?_
    · intro hV
      refine z_aload_n hC zvr_a rfl (hL.at 0 rfl) dX6_taken_24 ?_
      refine z_getA hC hG kFX6_83_6 rfl rfl dX6_taken_25 ?_
      refine z_iload_n hC rfl (hL.at 1 rfl) dX6_taken_28 ?_
      refine z_iald hC hG rfl rfl rfl hp0 hV dX6_taken_29 ?_
      intro x3 hx3 hV
      exact hJ30 hG x3 hx3 hV _ (hL.sub [] rfl)
    · intro hV
      refine z_iconst hC dX6_taken_20 ?_
      refine z_goto (tgt := 30) hC dX6_taken_21 (by decide) ?_
      exact hJ30 hG 0 (inR_lit rfl) hV _ (hL.sub [] rfl)
  refine z_if_eq (tgt := 13) hC (inR_b hx1) hV dX6_taken_6 (by decide) ?_ ?_
  · intro hV
    refine z_iconst hC dX6_taken_13 ?_
    exact hJ14 hG 1 (Or.inr rfl) hV _ hL
  · intro hV
    refine z_iconst hC dX6_taken_9 ?_
    refine z_goto (tgt := 14) hC dX6_taken_10 (by decide) ?_
    exact hJ14 hG 0 (Or.inl rfl) hV _ hL
abbrev rX6_isOwn : Room := { frames := 1, cells := 0, slots := 0, locals := 12 }
def vX6_isOwn (p0 : Int) (G : ZG) (Q : Int → Prop) : Prop := zaL G 5 58 512 p0 fun (x1 : Int) => zjn (fun (z24_0 : Int) => zl2 (fun (P27 : Int → Int → Prop) (a27_2 : Int) (a27_3 : Int) => zaL G 5 62 512 p0 fun (x2 : Int) => zjn (fun (_ : Unit) => zjn (fun (z89_0 : Int) => Q z89_0) fun J89 => zbr (a27_2 ≠ 0) (J89 0) (J89 1)) fun J80 => zbr (x2 ≤ a27_3) (J80 ()) (zbr (a27_2 = 0) (J80 ()) (zaL G 5 61 512 p0 fun (x3 : Int) => zaL G 5 63 512 (w32 (x3 + a27_3)) fun (x4 : Int) => zaL G 5 61 512 p0 fun (x5 : Int) => zaL G 5 63 512 x5 fun (x6 : Int) => zjn (fun (z73_0 : Int) => zlt1 (w32 (a27_3 + 1)) fun (x7 : Int) => P27 z73_0 x7) fun J73 => zbr (x4 ≠ x6) (J73 0) (J73 1)))) z24_0 1) fun J24 => zjn (fun (_ : Unit) => J24 0) fun J23 => zbr (x1 ≠ 5) (J23 ()) (zaL G 5 62 512 p0 fun (x8 : Int) => zbr (x8 ≤ 0) (J23 ()) (J24 1))
set_option maxHeartbeats 4000000 in
theorem mX6_isOwn (l : Launch) (P : ZP) (G : ZG) (p0 : Int) (hp0 : inR p0) {Q : Int → Prop} (hV : vX6_isOwn p0 G Q) : Met l yX6_isOwn (ws_ yX6_isOwn cX6_isOwn 4 (some .boolean)) rX6_isOwn (zPc P G [.ref (zA P 5 0 0), .int (zI p0)]) (zQz P (fun r G2 => G = G2 ∧ Q r)) 0 0 (zAr P) := by
  refine zMet RX6 (plainFor_of_name (by decide)) rfl (zcs_c rfl (zcs_c rfl zcs_0)) (Nat.le_of_ble_eq_true rfl) (fun p e s m args below meth c ls hC hr hk hn hG hL => ?_)
  unfold vX6_isOwn at hV
  refine z_aload_n hC zvr_a rfl (hL.at 0 rfl) dX6_isOwn_0 ?_
  refine z_getA hC hG kFX6_131_6 rfl rfl dX6_isOwn_1 ?_
  refine z_iload_n hC rfl (hL.at 1 rfl) dX6_isOwn_4 ?_
  refine z_iald hC hG rfl rfl rfl hp0 hV dX6_isOwn_5 ?_
  intro x1 hx1 hV
  refine z_iconst hC dX6_isOwn_6 ?_
  obtain ⟨J24, eJ24, hV⟩ := zjn_abs hV
  have hJ24 : ∀ {H : Heap} {locs : List Loc}, zS P s G H locs → ∀ (z24_0 : Int), (z24_0 = 0 ∨ z24_0 = 1) → J24 z24_0 → ∀ (ls : Array Slot), zL ls 4 [(0, .ref (zA P 5 0 0)), (1, .int (zI p0))] → W p l e rX6_isOwn s m args below meth c H locs 0 0 (MQ below (zQz P (fun r G2 => G = G2 ∧ Q r)) args s 0 0 (zAr P)) (F0 m 24 ls [.int (zI z24_0)]) := by
    intro H locs hG z24_0 hz24_0 hV ls hL
    rw [eJ24] at hV
    refine z_istore_n (lv' := [(2, .int (zI z24_0)), (0, .ref (zA P 5 0 0)), (1, .int (zI p0))]) hC rfl hL (by decide) rfl dX6_isOwn_24 (fun ls hL => ?_)
    refine z_iconst hC dX6_isOwn_25 ?_
    refine z_istore_n (lv' := [(3, .int (zI 1)), (2, .int (zI z24_0)), (0, .ref (zA P 5 0 0)), (1, .int (zI p0))]) hC rfl hL (by decide) rfl dX6_isOwn_26 (fun ls hL => ?_)
    refine zl2_use hV (fun (a27_2 : Int) (a27_3 : Int) => (a27_2 = 0 ∨ a27_2 = 1) → inR a27_3 → ∀ (H : Heap) (locs : List Loc), zS P s G H locs → ∀ (ls : Array Slot), zL ls 4 [(0, .ref (zA P 5 0 0)), (1, .int (zI p0)), (2, .int (zI a27_2)), (3, .int (zI a27_3))] → W p l e rX6_isOwn s m args below meth c H locs 0 0 (MQ below (zQz P (fun r G2 => G = G2 ∧ Q r)) args s 0 0 (zAr P)) (F0 m 27 ls [])) ?_ hz24_0 (inR_lit rfl) _ _ hG _ (hL.sub [2, 3, 1, 0] rfl)
    intro P27 a27_2 a27_3 hP27 hV ha27_2 ha27_3 H locs hG ls hL
    refine z_iload_n hC rfl (hL.at 3 rfl) dX6_isOwn_27 ?_
    refine z_aload_n hC zvr_a rfl (hL.at 0 rfl) dX6_isOwn_28 ?_
    refine z_getA hC hG kFX6_143_6 rfl rfl dX6_isOwn_29 ?_
    refine z_iload_n hC rfl (hL.at 1 rfl) dX6_isOwn_32 ?_
    refine z_iald hC hG rfl rfl rfl hp0 hV dX6_isOwn_33 ?_
    intro x2 hx2 hV
    obtain ⟨J80, eJ80, hV⟩ := zjn_abs hV
    have hJ80 : ∀ {H : Heap} {locs : List Loc}, zS P s G H locs → J80 () → ∀ (ls : Array Slot), zL ls 4 [(2, .int (zI a27_2))] → W p l e rX6_isOwn s m args below meth c H locs 0 0 (MQ below (zQz P (fun r G2 => G = G2 ∧ Q r)) args s 0 0 (zAr P)) (F0 m 80 ls []) := by
      intro H locs hG hV ls hL
      rw [eJ80] at hV
      refine z_iload_n hC rfl (hL.at 0 rfl) dX6_isOwn_80 ?_
      obtain ⟨J89, eJ89, hV⟩ := zjn_abs hV
      have hJ89 : ∀ {H : Heap} {locs : List Loc}, zS P s G H locs → ∀ (z89_0 : Int), (z89_0 = 0 ∨ z89_0 = 1) → J89 z89_0 → ∀ (ls : Array Slot), zL ls 4 [] → W p l e rX6_isOwn s m args below meth c H locs 0 0 (MQ below (zQz P (fun r G2 => G = G2 ∧ Q r)) args s 0 0 (zAr P)) (F0 m 89 ls [.int (zI z89_0)]) := by
        intro H locs hG z89_0 hz89_0 hV ls hL
        rw [eJ89] at hV
        exact z_zret hC hG hr hk hz89_0 ⟨rfl, hV⟩ (Nat.le_of_ble_eq_true rfl) (Nat.le_of_ble_eq_true rfl) dX6_isOwn_89
      refine z_if_ne (tgt := 88) hC (inR_b ha27_2) hV dX6_isOwn_81 (by decide) ?_ ?_
      · intro hV
        refine z_iconst hC dX6_isOwn_88 ?_
        exact hJ89 hG 0 (Or.inl rfl) hV _ (hL.sub [] rfl)
      · intro hV
        refine z_iconst hC dX6_isOwn_84 ?_
        refine z_goto (tgt := 89) hC dX6_isOwn_85 (by decide) ?_
        exact hJ89 hG 1 (Or.inr rfl) hV _ (hL.sub [] rfl)
    refine z_icmp_ge (tgt := 80) hC ha27_3 hx2 hV dX6_isOwn_34 (by decide) ?_ ?_
    · intro hV
      exact hJ80 hG hV _ (hL.sub [2] rfl)
    · intro hV
      refine z_iload_n hC rfl (hL.at 2 rfl) dX6_isOwn_37 ?_
      refine z_if_eq (tgt := 80) hC (inR_b ha27_2) hV dX6_isOwn_38 (by decide) ?_ ?_
      · intro hV
        exact hJ80 hG hV _ (hL.sub [2] rfl)
      · intro hV
        refine z_aload_n hC zvr_a rfl (hL.at 0 rfl) dX6_isOwn_41 ?_
        refine z_getA hC hG kFX6_146_6 rfl rfl dX6_isOwn_42 ?_
        refine z_aload_n hC zvr_a rfl (hL.at 0 rfl) dX6_isOwn_45 ?_
        refine z_getA hC hG kFX6_140_6 rfl rfl dX6_isOwn_46 ?_
        refine z_iload_n hC rfl (hL.at 1 rfl) dX6_isOwn_49 ?_
        refine z_iald hC hG rfl rfl rfl hp0 hV dX6_isOwn_50 ?_
        intro x3 hx3 hV
        refine z_iload_n hC rfl (hL.at 3 rfl) dX6_isOwn_51 ?_
        refine z_iadd hC dX6_isOwn_52 ?_
        refine z_iald hC hG rfl rfl rfl (inR_w _) hV dX6_isOwn_53 ?_
        intro x4 hx4 hV
        refine z_aload_n hC zvr_a rfl (hL.at 0 rfl) dX6_isOwn_54 ?_
        refine z_getA hC hG kFX6_146_6 rfl rfl dX6_isOwn_55 ?_
        refine z_aload_n hC zvr_a rfl (hL.at 0 rfl) dX6_isOwn_58 ?_
        refine z_getA hC hG kFX6_140_6 rfl rfl dX6_isOwn_59 ?_
        refine z_iload_n hC rfl (hL.at 1 rfl) dX6_isOwn_62 ?_
        refine z_iald hC hG rfl rfl rfl hp0 hV dX6_isOwn_63 ?_
        intro x5 hx5 hV
        refine z_iald hC hG rfl rfl rfl hx5 hV dX6_isOwn_64 ?_
        intro x6 hx6 hV
        obtain ⟨J73, eJ73, hV⟩ := zjn_abs hV
        have hJ73 : ∀ {H : Heap} {locs : List Loc}, zS P s G H locs → ∀ (z73_0 : Int), (z73_0 = 0 ∨ z73_0 = 1) → J73 z73_0 → ∀ (ls : Array Slot), zL ls 4 [(0, .ref (zA P 5 0 0)), (1, .int (zI p0)), (3, .int (zI a27_3))] → W p l e rX6_isOwn s m args below meth c H locs 0 0 (MQ below (zQz P (fun r G2 => G = G2 ∧ Q r)) args s 0 0 (zAr P)) (F0 m 73 ls [.int (zI z73_0)]) := by
          intro H locs hG z73_0 hz73_0 hV ls hL
          rw [eJ73] at hV
          refine z_istore_n (lv' := [(2, .int (zI z73_0)), (0, .ref (zA P 5 0 0)), (1, .int (zI p0)), (3, .int (zI a27_3))]) hC rfl hL (by decide) rfl dX6_isOwn_73 (fun ls hL => ?_)
          refine z_iincV (fun x7 => [(3, .int (zI x7)), (2, .int (zI z73_0)), (0, .ref (zA P 5 0 0)), (1, .int (zI p0))]) hC hL (k := 3) rfl (by decide) (fun _ => rfl) hV dX6_isOwn_74 ?_
          intro x7 hx7 hV ls hL
          refine z_goto (tgt := 27) hC dX6_isOwn_77 (by decide) ?_
          exact hP27 z73_0 x7 hV hz73_0 hx7 _ _ hG _ (hL.sub [2, 3, 1, 0] rfl)
        refine z_icmp_ne (tgt := 72) hC hx4 hx6 hV dX6_isOwn_65 (by decide) ?_ ?_
        · intro hV
          refine z_iconst hC dX6_isOwn_72 ?_
          exact hJ73 hG 0 (Or.inl rfl) hV _ (hL.sub [0, 1, 3] rfl)
        · intro hV
          refine z_iconst hC dX6_isOwn_68 ?_
          refine z_goto (tgt := 73) hC dX6_isOwn_69 (by decide) ?_
          exact hJ73 hG 1 (Or.inr rfl) hV _ (hL.sub [0, 1, 3] rfl)
  obtain ⟨J23, eJ23, hV⟩ := zjn_abs hV
  have hJ23 : ∀ {H : Heap} {locs : List Loc}, zS P s G H locs → J23 () → ∀ (ls : Array Slot), zL ls 4 [(0, .ref (zA P 5 0 0)), (1, .int (zI p0))] → W p l e rX6_isOwn s m args below meth c H locs 0 0 (MQ below (zQz P (fun r G2 => G = G2 ∧ Q r)) args s 0 0 (zAr P)) (F0 m 23 ls []) := by
    intro H locs hG hV ls hL
    rw [eJ23] at hV
    refine z_iconst hC dX6_isOwn_23 ?_
    exact hJ24 hG 0 (Or.inl rfl) hV _ hL
  refine z_icmp_ne (tgt := 23) hC hx1 (inR_lit rfl) hV dX6_isOwn_7 (by decide) ?_ ?_
  · intro hV
    exact hJ23 hG hV _ hL
  · intro hV
    refine z_aload_n hC zvr_a rfl (hL.at 0 rfl) dX6_isOwn_10 ?_
    refine z_getA hC hG kFX6_143_6 rfl rfl dX6_isOwn_11 ?_
    refine z_iload_n hC rfl (hL.at 1 rfl) dX6_isOwn_14 ?_
    refine z_iald hC hG rfl rfl rfl hp0 hV dX6_isOwn_15 ?_
    intro x8 hx8 hV
    refine z_if_le (tgt := 23) hC hx8 hV dX6_isOwn_16 (by decide) ?_ ?_
    · intro hV
      exact hJ23 hG hV _ hL
    · intro hV
      refine z_iconst hC dX6_isOwn_19 ?_
      refine z_goto (tgt := 24) hC dX6_isOwn_20 (by decide) ?_
      exact hJ24 hG 1 (Or.inr rfl) hV _ hL
abbrev rX6_isSame : Room := { frames := 1, cells := 0, slots := 0, locals := 12 }
def vX6_isSame (p0 : Int) (p1 : Int) (G : ZG) (Q : Int → Prop) : Prop := zaL G 5 58 512 p0 fun (x1 : Int) => zaL G 5 58 512 p1 fun (x2 : Int) => zjn (fun (z35_0 : Int) => zjn (fun (z95_0 : Int) => zl2 (fun (P99 : Int → Int → Prop) (a99_3 : Int) (a99_4 : Int) => zaL G 5 62 512 p0 fun (x3 : Int) => zjn (fun (_ : Unit) => Q a99_3) fun J157 => zbr (x3 ≤ a99_4) (J157 ()) (zbr (a99_3 = 0) (J157 ()) (zaL G 5 61 512 p0 fun (x4 : Int) => zaL G 5 63 512 (w32 (x4 + a99_4)) fun (x5 : Int) => zaL G 5 61 512 p1 fun (x6 : Int) => zaL G 5 63 512 (w32 (x6 + a99_4)) fun (x7 : Int) => zjn (fun (z150_0 : Int) => zlt1 (w32 (a99_4 + 1)) fun (x8 : Int) => P99 z150_0 x8) fun J150 => zbr (x5 ≠ x7) (J150 0) (J150 1)))) z95_0 0) fun J95 => zjn (fun (_ : Unit) => J95 0) fun J94 => zbr (z35_0 = 0) (J94 ()) (zaL G 5 58 512 p0 fun (x9 : Int) => zjn (fun (_ : Unit) => zaL G 5 58 512 p0 fun (x10 : Int) => zjn (fun (_ : Unit) => J95 1) fun J90 => zbr (x10 < 4) (J90 ()) (zaL G 5 60 512 p0 fun (x11 : Int) => zaL G 5 60 512 p1 fun (x12 : Int) => zbr (x11 ≠ x12) (J94 ()) (J90 ()))) fun J65 => zbr (x9 = 2) (J65 ()) (zaL G 5 59 512 p0 fun (x13 : Int) => zaL G 5 59 512 p1 fun (x14 : Int) => zbr (x13 ≠ x14) (J94 ()) (J65 ())))) fun J35 => zjn (fun (_ : Unit) => J35 0) fun J34 => zbr (x1 ≠ x2) (J34 ()) (zaL G 5 62 512 p0 fun (x15 : Int) => zaL G 5 62 512 p1 fun (x16 : Int) => zbr (x15 ≠ x16) (J34 ()) (J35 1))
set_option maxHeartbeats 4000000 in
theorem mX6_isSame (l : Launch) (P : ZP) (G : ZG) (p0 : Int) (hp0 : inR p0) (p1 : Int) (hp1 : inR p1) {Q : Int → Prop} (hV : vX6_isSame p0 p1 G Q) : Met l yX6_isSame (ws_ yX6_isSame cX6_isSame 5 (some .boolean)) rX6_isSame (zPc P G [.ref (zA P 5 0 0), .int (zI p0), .int (zI p1)]) (zQz P (fun r G2 => G = G2 ∧ Q r)) 0 0 (zAr P) := by
  refine zMet RX6 (plainFor_of_name (by decide)) rfl (zcs_c rfl (zcs_c rfl (zcs_c rfl zcs_0))) (Nat.le_of_ble_eq_true rfl) (fun p e s m args below meth c ls hC hr hk hn hG hL => ?_)
  unfold vX6_isSame at hV
  refine z_aload_n hC zvr_a rfl (hL.at 0 rfl) dX6_isSame_0 ?_
  refine z_getA hC hG kFX6_131_6 rfl rfl dX6_isSame_1 ?_
  refine z_iload_n hC rfl (hL.at 1 rfl) dX6_isSame_4 ?_
  refine z_iald hC hG rfl rfl rfl hp0 hV dX6_isSame_5 ?_
  intro x1 hx1 hV
  refine z_aload_n hC zvr_a rfl (hL.at 0 rfl) dX6_isSame_6 ?_
  refine z_getA hC hG kFX6_131_6 rfl rfl dX6_isSame_7 ?_
  refine z_iload_n hC rfl (hL.at 2 rfl) dX6_isSame_10 ?_
  refine z_iald hC hG rfl rfl rfl hp1 hV dX6_isSame_11 ?_
  intro x2 hx2 hV
  obtain ⟨J35, eJ35, hV⟩ := zjn_abs hV
  have hJ35 : ∀ {H : Heap} {locs : List Loc}, zS P s G H locs → ∀ (z35_0 : Int), (z35_0 = 0 ∨ z35_0 = 1) → J35 z35_0 → ∀ (ls : Array Slot), zL ls 5 [(0, .ref (zA P 5 0 0)), (1, .int (zI p0)), (2, .int (zI p1))] → W p l e rX6_isSame s m args below meth c H locs 0 0 (MQ below (zQz P (fun r G2 => G = G2 ∧ Q r)) args s 0 0 (zAr P)) (F0 m 35 ls [.int (zI z35_0)]) := by
    intro H locs hG z35_0 hz35_0 hV ls hL
    rw [eJ35] at hV
    refine z_istore_n (lv' := [(3, .int (zI z35_0)), (0, .ref (zA P 5 0 0)), (1, .int (zI p0)), (2, .int (zI p1))]) hC rfl hL (by decide) rfl dX6_isSame_35 (fun ls hL => ?_)
    refine z_iload_n hC rfl (hL.at 0 rfl) dX6_isSame_36 ?_
    obtain ⟨J95, eJ95, hV⟩ := zjn_abs hV
    have hJ95 : ∀ {H : Heap} {locs : List Loc}, zS P s G H locs → ∀ (z95_0 : Int), (z95_0 = 0 ∨ z95_0 = 1) → J95 z95_0 → ∀ (ls : Array Slot), zL ls 5 [(0, .ref (zA P 5 0 0)), (1, .int (zI p0)), (2, .int (zI p1))] → W p l e rX6_isSame s m args below meth c H locs 0 0 (MQ below (zQz P (fun r G2 => G = G2 ∧ Q r)) args s 0 0 (zAr P)) (F0 m 95 ls [.int (zI z95_0)]) := by
      intro H locs hG z95_0 hz95_0 hV ls hL
      rw [eJ95] at hV
      refine z_istore_n (lv' := [(3, .int (zI z95_0)), (0, .ref (zA P 5 0 0)), (1, .int (zI p0)), (2, .int (zI p1))]) hC rfl hL (by decide) rfl dX6_isSame_95 (fun ls hL => ?_)
      refine z_iconst hC dX6_isSame_96 ?_
      refine z_istore (lv' := [(4, .int (zI 0)), (3, .int (zI z95_0)), (0, .ref (zA P 5 0 0)), (1, .int (zI p0)), (2, .int (zI p1))]) hC hL (by decide) rfl dX6_isSame_97 (fun ls hL => ?_)
      refine zl2_use hV (fun (a99_3 : Int) (a99_4 : Int) => (a99_3 = 0 ∨ a99_3 = 1) → inR a99_4 → ∀ (H : Heap) (locs : List Loc), zS P s G H locs → ∀ (ls : Array Slot), zL ls 5 [(0, .ref (zA P 5 0 0)), (1, .int (zI p0)), (2, .int (zI p1)), (3, .int (zI a99_3)), (4, .int (zI a99_4))] → W p l e rX6_isSame s m args below meth c H locs 0 0 (MQ below (zQz P (fun r G2 => G = G2 ∧ Q r)) args s 0 0 (zAr P)) (F0 m 99 ls [])) ?_ hz95_0 (inR_lit rfl) _ _ hG _ (hL.sub [2, 3, 4, 1, 0] rfl)
      intro P99 a99_3 a99_4 hP99 hV ha99_3 ha99_4 H locs hG ls hL
      refine z_iload hC (hL.at 4 rfl) dX6_isSame_99 ?_
      refine z_aload_n hC zvr_a rfl (hL.at 0 rfl) dX6_isSame_101 ?_
      refine z_getA hC hG kFX6_143_6 rfl rfl dX6_isSame_102 ?_
      refine z_iload_n hC rfl (hL.at 1 rfl) dX6_isSame_105 ?_
      refine z_iald hC hG rfl rfl rfl hp0 hV dX6_isSame_106 ?_
      intro x3 hx3 hV
      obtain ⟨J157, eJ157, hV⟩ := zjn_abs hV
      have hJ157 : ∀ {H : Heap} {locs : List Loc}, zS P s G H locs → J157 () → ∀ (ls : Array Slot), zL ls 5 [(3, .int (zI a99_3))] → W p l e rX6_isSame s m args below meth c H locs 0 0 (MQ below (zQz P (fun r G2 => G = G2 ∧ Q r)) args s 0 0 (zAr P)) (F0 m 157 ls []) := by
        intro H locs hG hV ls hL
        rw [eJ157] at hV
        refine z_iload_n hC rfl (hL.at 0 rfl) dX6_isSame_157 ?_
        exact z_zret hC hG hr hk ha99_3 ⟨rfl, hV⟩ (Nat.le_of_ble_eq_true rfl) (Nat.le_of_ble_eq_true rfl) dX6_isSame_158
      refine z_icmp_ge (tgt := 157) hC ha99_4 hx3 hV dX6_isSame_107 (by decide) ?_ ?_
      · intro hV
        exact hJ157 hG hV _ (hL.sub [3] rfl)
      · intro hV
        refine z_iload_n hC rfl (hL.at 3 rfl) dX6_isSame_110 ?_
        refine z_if_eq (tgt := 157) hC (inR_b ha99_3) hV dX6_isSame_111 (by decide) ?_ ?_
        · intro hV
          exact hJ157 hG hV _ (hL.sub [3] rfl)
        · intro hV
          refine z_aload_n hC zvr_a rfl (hL.at 0 rfl) dX6_isSame_114 ?_
          refine z_getA hC hG kFX6_146_6 rfl rfl dX6_isSame_115 ?_
          refine z_aload_n hC zvr_a rfl (hL.at 0 rfl) dX6_isSame_118 ?_
          refine z_getA hC hG kFX6_140_6 rfl rfl dX6_isSame_119 ?_
          refine z_iload_n hC rfl (hL.at 1 rfl) dX6_isSame_122 ?_
          refine z_iald hC hG rfl rfl rfl hp0 hV dX6_isSame_123 ?_
          intro x4 hx4 hV
          refine z_iload hC (hL.at 4 rfl) dX6_isSame_124 ?_
          refine z_iadd hC dX6_isSame_126 ?_
          refine z_iald hC hG rfl rfl rfl (inR_w _) hV dX6_isSame_127 ?_
          intro x5 hx5 hV
          refine z_aload_n hC zvr_a rfl (hL.at 0 rfl) dX6_isSame_128 ?_
          refine z_getA hC hG kFX6_146_6 rfl rfl dX6_isSame_129 ?_
          refine z_aload_n hC zvr_a rfl (hL.at 0 rfl) dX6_isSame_132 ?_
          refine z_getA hC hG kFX6_140_6 rfl rfl dX6_isSame_133 ?_
          refine z_iload_n hC rfl (hL.at 2 rfl) dX6_isSame_136 ?_
          refine z_iald hC hG rfl rfl rfl hp1 hV dX6_isSame_137 ?_
          intro x6 hx6 hV
          refine z_iload hC (hL.at 4 rfl) dX6_isSame_138 ?_
          refine z_iadd hC dX6_isSame_140 ?_
          refine z_iald hC hG rfl rfl rfl (inR_w _) hV dX6_isSame_141 ?_
          intro x7 hx7 hV
          obtain ⟨J150, eJ150, hV⟩ := zjn_abs hV
          have hJ150 : ∀ {H : Heap} {locs : List Loc}, zS P s G H locs → ∀ (z150_0 : Int), (z150_0 = 0 ∨ z150_0 = 1) → J150 z150_0 → ∀ (ls : Array Slot), zL ls 5 [(0, .ref (zA P 5 0 0)), (1, .int (zI p0)), (2, .int (zI p1)), (4, .int (zI a99_4))] → W p l e rX6_isSame s m args below meth c H locs 0 0 (MQ below (zQz P (fun r G2 => G = G2 ∧ Q r)) args s 0 0 (zAr P)) (F0 m 150 ls [.int (zI z150_0)]) := by
            intro H locs hG z150_0 hz150_0 hV ls hL
            rw [eJ150] at hV
            refine z_istore_n (lv' := [(3, .int (zI z150_0)), (0, .ref (zA P 5 0 0)), (1, .int (zI p0)), (2, .int (zI p1)), (4, .int (zI a99_4))]) hC rfl hL (by decide) rfl dX6_isSame_150 (fun ls hL => ?_)
            refine z_iincV (fun x8 => [(4, .int (zI x8)), (3, .int (zI z150_0)), (0, .ref (zA P 5 0 0)), (1, .int (zI p0)), (2, .int (zI p1))]) hC hL (k := 4) rfl (by decide) (fun _ => rfl) hV dX6_isSame_151 ?_
            intro x8 hx8 hV ls hL
            refine z_goto (tgt := 99) hC dX6_isSame_154 (by decide) ?_
            exact hP99 z150_0 x8 hV hz150_0 hx8 _ _ hG _ (hL.sub [2, 3, 4, 1, 0] rfl)
          refine z_icmp_ne (tgt := 149) hC hx5 hx7 hV dX6_isSame_142 (by decide) ?_ ?_
          · intro hV
            refine z_iconst hC dX6_isSame_149 ?_
            exact hJ150 hG 0 (Or.inl rfl) hV _ (hL.sub [0, 1, 2, 4] rfl)
          · intro hV
            refine z_iconst hC dX6_isSame_145 ?_
            refine z_goto (tgt := 150) hC dX6_isSame_146 (by decide) ?_
            exact hJ150 hG 1 (Or.inr rfl) hV _ (hL.sub [0, 1, 2, 4] rfl)
    obtain ⟨J94, eJ94, hV⟩ := zjn_abs hV
    have hJ94 : ∀ {H : Heap} {locs : List Loc}, zS P s G H locs → J94 () → ∀ (ls : Array Slot), zL ls 5 [(0, .ref (zA P 5 0 0)), (1, .int (zI p0)), (2, .int (zI p1))] → W p l e rX6_isSame s m args below meth c H locs 0 0 (MQ below (zQz P (fun r G2 => G = G2 ∧ Q r)) args s 0 0 (zAr P)) (F0 m 94 ls []) := by
      intro H locs hG hV ls hL
      rw [eJ94] at hV
      refine z_iconst hC dX6_isSame_94 ?_
      exact hJ95 hG 0 (Or.inl rfl) hV _ hL
    refine z_if_eq (tgt := 94) hC (inR_b hz35_0) hV dX6_isSame_37 (by decide) ?_ ?_
    · intro hV
      exact hJ94 hG hV _ (hL.sub [1, 2, 3] rfl)
    · intro hV
      refine z_aload_n hC zvr_a rfl (hL.at 1 rfl) dX6_isSame_40 ?_
      refine z_getA hC hG kFX6_131_6 rfl rfl dX6_isSame_41 ?_
      refine z_iload_n hC rfl (hL.at 2 rfl) dX6_isSame_44 ?_
      refine z_iald hC hG rfl rfl rfl hp0 hV dX6_isSame_45 ?_
      intro x9 hx9 hV
      refine z_iconst hC dX6_isSame_46 ?_
      obtain ⟨J65, eJ65, hV⟩ := zjn_abs hV
      have hJ65 : ∀ {H : Heap} {locs : List Loc}, zS P s G H locs → J65 () → ∀ (ls : Array Slot), zL ls 5 [(0, .ref (zA P 5 0 0)), (1, .int (zI p0)), (2, .int (zI p1))] → W p l e rX6_isSame s m args below meth c H locs 0 0 (MQ below (zQz P (fun r G2 => G = G2 ∧ Q r)) args s 0 0 (zAr P)) (F0 m 65 ls []) := by
        intro H locs hG hV ls hL
        rw [eJ65] at hV
        refine z_aload_n hC zvr_a rfl (hL.at 0 rfl) dX6_isSame_65 ?_
        refine z_getA hC hG kFX6_131_6 rfl rfl dX6_isSame_66 ?_
        refine z_iload_n hC rfl (hL.at 1 rfl) dX6_isSame_69 ?_
        refine z_iald hC hG rfl rfl rfl hp0 hV dX6_isSame_70 ?_
        intro x10 hx10 hV
        refine z_iconst hC dX6_isSame_71 ?_
        obtain ⟨J90, eJ90, hV⟩ := zjn_abs hV
        have hJ90 : ∀ {H : Heap} {locs : List Loc}, zS P s G H locs → J90 () → ∀ (ls : Array Slot), zL ls 5 [(0, .ref (zA P 5 0 0)), (1, .int (zI p0)), (2, .int (zI p1))] → W p l e rX6_isSame s m args below meth c H locs 0 0 (MQ below (zQz P (fun r G2 => G = G2 ∧ Q r)) args s 0 0 (zAr P)) (F0 m 90 ls []) := by
          intro H locs hG hV ls hL
          rw [eJ90] at hV
          refine z_iconst hC dX6_isSame_90 ?_
          refine z_goto (tgt := 95) hC dX6_isSame_91 (by decide) ?_
          exact hJ95 hG 1 (Or.inr rfl) hV _ hL
        refine z_icmp_lt (tgt := 90) hC hx10 (inR_lit rfl) hV dX6_isSame_72 (by decide) ?_ ?_
        · intro hV
          exact hJ90 hG hV _ hL
        · intro hV
          refine z_aload_n hC zvr_a rfl (hL.at 0 rfl) dX6_isSame_75 ?_
          refine z_getA hC hG kFX6_137_6 rfl rfl dX6_isSame_76 ?_
          refine z_iload_n hC rfl (hL.at 1 rfl) dX6_isSame_79 ?_
          refine z_iald hC hG rfl rfl rfl hp0 hV dX6_isSame_80 ?_
          intro x11 hx11 hV
          refine z_aload_n hC zvr_a rfl (hL.at 0 rfl) dX6_isSame_81 ?_
          refine z_getA hC hG kFX6_137_6 rfl rfl dX6_isSame_82 ?_
          refine z_iload_n hC rfl (hL.at 2 rfl) dX6_isSame_85 ?_
          refine z_iald hC hG rfl rfl rfl hp1 hV dX6_isSame_86 ?_
          intro x12 hx12 hV
          refine z_icmp_ne (tgt := 94) hC hx11 hx12 hV dX6_isSame_87 (by decide) ?_ ?_
          · intro hV
            exact hJ94 hG hV _ hL
          · intro hV
            exact hJ90 hG hV _ hL
      refine z_icmp_eq (tgt := 65) hC hx9 (inR_lit rfl) hV dX6_isSame_47 (by decide) ?_ ?_
      · intro hV
        exact hJ65 hG hV _ (hL.sub [1, 2, 3] rfl)
      · intro hV
        refine z_aload_n hC zvr_a rfl (hL.at 1 rfl) dX6_isSame_50 ?_
        refine z_getA hC hG kFX6_134_6 rfl rfl dX6_isSame_51 ?_
        refine z_iload_n hC rfl (hL.at 2 rfl) dX6_isSame_54 ?_
        refine z_iald hC hG rfl rfl rfl hp0 hV dX6_isSame_55 ?_
        intro x13 hx13 hV
        refine z_aload_n hC zvr_a rfl (hL.at 1 rfl) dX6_isSame_56 ?_
        refine z_getA hC hG kFX6_134_6 rfl rfl dX6_isSame_57 ?_
        refine z_iload_n hC rfl (hL.at 3 rfl) dX6_isSame_60 ?_
        refine z_iald hC hG rfl rfl rfl hp1 hV dX6_isSame_61 ?_
        intro x14 hx14 hV
        refine z_icmp_ne (tgt := 94) hC hx13 hx14 hV dX6_isSame_62 (by decide) ?_ ?_
        · intro hV
          exact hJ94 hG hV _ (hL.sub [1, 2, 3] rfl)
        · intro hV
          exact hJ65 hG hV _ (hL.sub [1, 2, 3] rfl)
  obtain ⟨J34, eJ34, hV⟩ := zjn_abs hV
  have hJ34 : ∀ {H : Heap} {locs : List Loc}, zS P s G H locs → J34 () → ∀ (ls : Array Slot), zL ls 5 [(0, .ref (zA P 5 0 0)), (1, .int (zI p0)), (2, .int (zI p1))] → W p l e rX6_isSame s m args below meth c H locs 0 0 (MQ below (zQz P (fun r G2 => G = G2 ∧ Q r)) args s 0 0 (zAr P)) (F0 m 34 ls []) := by
    intro H locs hG hV ls hL
    rw [eJ34] at hV
    refine z_iconst hC dX6_isSame_34 ?_
    exact hJ35 hG 0 (Or.inl rfl) hV _ hL
  refine z_icmp_ne (tgt := 34) hC hx1 hx2 hV dX6_isSame_12 (by decide) ?_ ?_
  · intro hV
    exact hJ34 hG hV _ hL
  · intro hV
    refine z_aload_n hC zvr_a rfl (hL.at 0 rfl) dX6_isSame_15 ?_
    refine z_getA hC hG kFX6_143_6 rfl rfl dX6_isSame_16 ?_
    refine z_iload_n hC rfl (hL.at 1 rfl) dX6_isSame_19 ?_
    refine z_iald hC hG rfl rfl rfl hp0 hV dX6_isSame_20 ?_
    intro x15 hx15 hV
    refine z_aload_n hC zvr_a rfl (hL.at 0 rfl) dX6_isSame_21 ?_
    refine z_getA hC hG kFX6_143_6 rfl rfl dX6_isSame_22 ?_
    refine z_iload_n hC rfl (hL.at 2 rfl) dX6_isSame_25 ?_
    refine z_iald hC hG rfl rfl rfl hp1 hV dX6_isSame_26 ?_
    intro x16 hx16 hV
    refine z_icmp_ne (tgt := 34) hC hx15 hx16 hV dX6_isSame_27 (by decide) ?_ ?_
    · intro hV
      exact hJ34 hG hV _ hL
    · intro hV
      refine z_iconst hC dX6_isSame_30 ?_
      refine z_goto (tgt := 35) hC dX6_isSame_31 (by decide) ?_
      exact hJ35 hG 1 (Or.inr rfl) hV _ hL
abbrev rX6_sharedSize : Room := { frames := 2, cells := 0, slots := 0, locals := 36 }
def vX6_sharedSize (G : ZG) (Q : Int → ZG → Prop) : Prop := zgF G 5 56 fun (x1 : Int) => zlt1 (w32 (x1 - 1)) fun (x2 : Int) => zl3 (fun (P9 : Int → Int → ZG → Prop) (a9_1 : Int) (a9_2 : Int) (K9 : ZG) => zbr (a9_2 < 0) (Q a9_1 K9) (zaL K9 5 58 512 a9_2 fun (x3 : Int) => zjn (fun (z37_0 : Int) => zl2 (fun (P41 : Int → Int → Prop) (a41_3 : Int) (a41_4 : Int) => zaL K9 5 62 512 a9_2 fun (x4 : Int) => zjn (fun (_ : Unit) => zjn (fun (z120_2 : Int) => zaS K9 5 63 512 a9_2 z120_2 fun (G1 : ZG) => zgF G1 5 56 fun (x5 : Int) => zlt1 (w32 (x5 - 1)) fun (x6 : Int) => zl2 (fun (P129 : Int → ZG → Prop) (a129_4 : Int) (K129 : ZG) => zjn (fun (_ : Unit) => zaL K129 5 63 512 a9_2 fun (x7 : Int) => zjn (fun (y217_1 : Int) (H217 : ZG) => zlt1 (w32 (a9_2 + (-1))) fun (x8 : Int) => P9 y217_1 x8 H217) fun J217 => zbr (x7 ≠ (-1)) (J217 a9_1 K129) (zaS K129 5 63 512 a9_2 a9_1 fun (G2 : ZG) => zlt1 (w32 (a9_1 + 1)) fun (x9 : Int) => J217 x9 G2)) fun J197 => zbr (a129_4 ≤ a9_2) (J197 ()) (zaL K129 5 63 512 a9_2 fun (x10 : Int) => zbr (x10 ≠ (-1)) (J197 ()) (zaL K129 5 63 512 a129_4 fun (x11 : Int) => zjn (fun (z190_2 : Int) => zaS K129 5 63 512 a9_2 z190_2 fun (G3 : ZG) => zlt1 (w32 (a129_4 + (-1))) fun (x12 : Int) => P129 x12 G3) fun J190 => zjn (fun (_ : Unit) => J190 (-1)) fun J189 => zbr (x11 < 0) (J189 ()) (vX6_isOwn a129_4 K129 fun (x13 : Int) => zbr (x13 = 0) (J189 ()) (vX6_isSame a129_4 a9_2 K129 fun (x14 : Int) => zbr (x14 = 0) (J189 ()) (zaL K129 5 63 512 a129_4 fun (x15 : Int) => J190 x15)))))) x6 G1) fun J120 => zbr (a41_3 = 0) (J120 (-1)) (zaL K9 5 61 512 a9_2 fun (x16 : Int) => zaL K9 5 63 512 x16 fun (x17 : Int) => J120 x17)) fun J96 => zbr (x4 ≤ a41_4) (J96 ()) (zbr (a41_3 = 0) (J96 ()) (zaL K9 5 61 512 a9_2 fun (x18 : Int) => zaL K9 5 63 512 (w32 (x18 + a41_4)) fun (x19 : Int) => zaL K9 5 61 512 a9_2 fun (x20 : Int) => zaL K9 5 63 512 x20 fun (x21 : Int) => zjn (fun (z89_0 : Int) => zlt1 (w32 (a41_4 + 1)) fun (x22 : Int) => P41 z89_0 x22) fun J89 => zbr (x19 ≠ x21) (J89 0) (J89 1)))) z37_0 1) fun J37 => zjn (fun (_ : Unit) => J37 0) fun J36 => zbr (x3 ≠ 5) (J36 ()) (zaL K9 5 62 512 a9_2 fun (x23 : Int) => zbr (x23 ≤ 0) (J36 ()) (J37 1)))) 0 x2 G
set_option maxHeartbeats 4000000 in
theorem mX6_sharedSize (l : Launch) (P : ZP) (G : ZG) {Q : Int → ZG → Prop} (hV : vX6_sharedSize G Q) : Met l yX6_sharedSize (ws_ yX6_sharedSize cX6_sharedSize 5 (some .int)) rX6_sharedSize (zPc P G [.ref (zA P 5 0 0)]) (zQi P Q) 0 0 (zAr P) := by
  refine zMet RX6 (plainFor_of_name (by decide)) rfl (zcs_c rfl zcs_0) (Nat.le_of_ble_eq_true rfl) (fun p e s m args below meth c ls hC hr hk hn hG hL => ?_)
  unfold vX6_sharedSize at hV
  refine z_iconst hC dX6_sharedSize_0 ?_
  refine z_istore_n (lv' := [(1, .int (zI 0)), (0, .ref (zA P 5 0 0))]) hC rfl hL (by decide) rfl dX6_sharedSize_1 (fun ls hL => ?_)
  refine z_aload_n hC zvr_a rfl (hL.at 1 rfl) dX6_sharedSize_2 ?_
  refine z_getF hC hG kFX6_321_6 rfl rfl hV dX6_sharedSize_3 ?_
  intro x1 hx1 hV
  refine z_iconst hC dX6_sharedSize_6 ?_
  refine z_isub hC dX6_sharedSize_7 ?_
  refine z_top hV (inR_w _) ?_
  intro x2 hx2 hV
  refine z_istore_n (lv' := [(2, .int (zI x2)), (1, .int (zI 0)), (0, .ref (zA P 5 0 0))]) hC rfl hL (by decide) rfl dX6_sharedSize_8 (fun ls hL => ?_)
  refine zl3_use hV (fun (a9_1 : Int) (a9_2 : Int) (K9 : ZG) => inR a9_1 → inR a9_2 → ∀ (H : Heap) (locs : List Loc), zS P s K9 H locs → ∀ (ls : Array Slot), zL ls 5 [(0, .ref (zA P 5 0 0)), (1, .int (zI a9_1)), (2, .int (zI a9_2))] → W p l e rX6_sharedSize s m args below meth c H locs 0 0 (MQ below (zQi P Q) args s 0 0 (zAr P)) (F0 m 9 ls [])) ?_ (inR_lit rfl) hx2 _ _ hG _ (hL.sub [2, 1, 0] rfl)
  intro P9 a9_1 a9_2 K9 hP9 hV ha9_1 ha9_2 H locs hG ls hL
  refine z_iload_n hC rfl (hL.at 2 rfl) dX6_sharedSize_9 ?_
  refine z_if_lt (tgt := 223) hC ha9_2 hV dX6_sharedSize_10 (by decide) ?_ ?_
  · intro hV
    refine z_iload_n hC rfl (hL.at 1 rfl) dX6_sharedSize_223 ?_
    exact z_iret hC hG hr hk ha9_1 hV (Nat.le_of_ble_eq_true rfl) (Nat.le_of_ble_eq_true rfl) dX6_sharedSize_224
  · intro hV
    refine z_aload_n hC zvr_a rfl (hL.at 0 rfl) dX6_sharedSize_13 ?_
    refine z_getA hC hG kFX6_131_6 rfl rfl dX6_sharedSize_14 ?_
    refine z_iload_n hC rfl (hL.at 2 rfl) dX6_sharedSize_17 ?_
    refine z_iald hC hG rfl rfl rfl ha9_2 hV dX6_sharedSize_18 ?_
    intro x3 hx3 hV
    refine z_iconst hC dX6_sharedSize_19 ?_
    obtain ⟨J37, eJ37, hV⟩ := zjn_abs hV
    have hJ37 : ∀ {H : Heap} {locs : List Loc}, zS P s K9 H locs → ∀ (z37_0 : Int), (z37_0 = 0 ∨ z37_0 = 1) → J37 z37_0 → ∀ (ls : Array Slot), zL ls 5 [(0, .ref (zA P 5 0 0)), (1, .int (zI a9_1)), (2, .int (zI a9_2))] → W p l e rX6_sharedSize s m args below meth c H locs 0 0 (MQ below (zQi P Q) args s 0 0 (zAr P)) (F0 m 37 ls [.int (zI z37_0)]) := by
      intro H locs hG z37_0 hz37_0 hV ls hL
      rw [eJ37] at hV
      refine z_istore_n (lv' := [(3, .int (zI z37_0)), (0, .ref (zA P 5 0 0)), (1, .int (zI a9_1)), (2, .int (zI a9_2))]) hC rfl hL (by decide) rfl dX6_sharedSize_37 (fun ls hL => ?_)
      refine z_iconst hC dX6_sharedSize_38 ?_
      refine z_istore (lv' := [(4, .int (zI 1)), (3, .int (zI z37_0)), (0, .ref (zA P 5 0 0)), (1, .int (zI a9_1)), (2, .int (zI a9_2))]) hC hL (by decide) rfl dX6_sharedSize_39 (fun ls hL => ?_)
      refine zl2_use hV (fun (a41_3 : Int) (a41_4 : Int) => (a41_3 = 0 ∨ a41_3 = 1) → inR a41_4 → ∀ (H : Heap) (locs : List Loc), zS P s K9 H locs → ∀ (ls : Array Slot), zL ls 5 [(0, .ref (zA P 5 0 0)), (1, .int (zI a9_1)), (2, .int (zI a9_2)), (3, .int (zI a41_3)), (4, .int (zI a41_4))] → W p l e rX6_sharedSize s m args below meth c H locs 0 0 (MQ below (zQi P Q) args s 0 0 (zAr P)) (F0 m 41 ls [])) ?_ hz37_0 (inR_lit rfl) _ _ hG _ (hL.sub [2, 3, 4, 1, 0] rfl)
      intro P41 a41_3 a41_4 hP41 hV ha41_3 ha41_4 H locs hG ls hL
      refine z_iload hC (hL.at 4 rfl) dX6_sharedSize_41 ?_
      refine z_aload_n hC zvr_a rfl (hL.at 0 rfl) dX6_sharedSize_43 ?_
      refine z_getA hC hG kFX6_143_6 rfl rfl dX6_sharedSize_44 ?_
      refine z_iload_n hC rfl (hL.at 2 rfl) dX6_sharedSize_47 ?_
      refine z_iald hC hG rfl rfl rfl ha9_2 hV dX6_sharedSize_48 ?_
      intro x4 hx4 hV
      obtain ⟨J96, eJ96, hV⟩ := zjn_abs hV
      have hJ96 : ∀ {H : Heap} {locs : List Loc}, zS P s K9 H locs → J96 () → ∀ (ls : Array Slot), zL ls 5 [(0, .ref (zA P 5 0 0)), (1, .int (zI a9_1)), (2, .int (zI a9_2)), (3, .int (zI a41_3))] → W p l e rX6_sharedSize s m args below meth c H locs 0 0 (MQ below (zQi P Q) args s 0 0 (zAr P)) (F0 m 96 ls []) := by
        intro H locs hG hV ls hL
        rw [eJ96] at hV
        refine z_aload_n hC zvr_a rfl (hL.at 0 rfl) dX6_sharedSize_96 ?_
        refine z_getA hC hG kFX6_146_6 rfl rfl dX6_sharedSize_97 ?_
        refine z_iload_n hC rfl (hL.at 2 rfl) dX6_sharedSize_100 ?_
        refine z_iload_n hC rfl (hL.at 3 rfl) dX6_sharedSize_101 ?_
        obtain ⟨J120, eJ120, hV⟩ := zjn_abs hV
        have hJ120 : ∀ {H : Heap} {locs : List Loc}, zS P s K9 H locs → ∀ (z120_2 : Int), inR z120_2 → J120 z120_2 → ∀ (ls : Array Slot), zL ls 5 [(0, .ref (zA P 5 0 0)), (1, .int (zI a9_1)), (2, .int (zI a9_2))] → W p l e rX6_sharedSize s m args below meth c H locs 0 0 (MQ below (zQi P Q) args s 0 0 (zAr P)) (F0 m 120 ls [.int (zI z120_2), .int (zI a9_2), .ref (zA P 5 64 0)]) := by
          intro H locs hG z120_2 hz120_2 hV ls hL
          rw [eJ120] at hV
          refine z_iast hC hG rfl (Nat.le_of_ble_eq_true rfl) (Nat.le_of_ble_eq_true rfl) rfl rfl rfl ha9_2 hz120_2 hV dX6_sharedSize_120 ?_
          intro G1 _ _ hG hV
          refine z_aload_n hC zvr_a rfl (hL.at 0 rfl) dX6_sharedSize_121 ?_
          refine z_getF hC hG kFX6_321_6 rfl rfl hV dX6_sharedSize_122 ?_
          intro x5 hx5 hV
          refine z_iconst hC dX6_sharedSize_125 ?_
          refine z_isub hC dX6_sharedSize_126 ?_
          refine z_top hV (inR_w _) ?_
          intro x6 hx6 hV
          refine z_istore (lv' := [(4, .int (zI x6)), (0, .ref (zA P 5 0 0)), (1, .int (zI a9_1)), (2, .int (zI a9_2))]) hC hL (by decide) rfl dX6_sharedSize_127 (fun ls hL => ?_)
          refine zl2_use hV (fun (a129_4 : Int) (K129 : ZG) => inR a129_4 → ∀ (H : Heap) (locs : List Loc), zS P s K129 H locs → ∀ (ls : Array Slot), zL ls 5 [(0, .ref (zA P 5 0 0)), (1, .int (zI a9_1)), (2, .int (zI a9_2)), (4, .int (zI a129_4))] → W p l e rX6_sharedSize s m args below meth c H locs 0 0 (MQ below (zQi P Q) args s 0 0 (zAr P)) (F0 m 129 ls [])) ?_ hx6 _ _ hG _ (hL.sub [1, 2, 3, 0] rfl)
          intro P129 a129_4 K129 hP129 hV ha129_4 H locs hG ls hL
          refine z_iload hC (hL.at 3 rfl) dX6_sharedSize_129 ?_
          refine z_iload_n hC rfl (hL.at 2 rfl) dX6_sharedSize_131 ?_
          obtain ⟨J197, eJ197, hV⟩ := zjn_abs hV
          have hJ197 : ∀ {H : Heap} {locs : List Loc}, zS P s K129 H locs → J197 () → ∀ (ls : Array Slot), zL ls 5 [(0, .ref (zA P 5 0 0)), (1, .int (zI a9_1)), (2, .int (zI a9_2))] → W p l e rX6_sharedSize s m args below meth c H locs 0 0 (MQ below (zQi P Q) args s 0 0 (zAr P)) (F0 m 197 ls []) := by
            intro H locs hG hV ls hL
            rw [eJ197] at hV
            refine z_aload_n hC zvr_a rfl (hL.at 0 rfl) dX6_sharedSize_197 ?_
            refine z_getA hC hG kFX6_146_6 rfl rfl dX6_sharedSize_198 ?_
            refine z_iload_n hC rfl (hL.at 2 rfl) dX6_sharedSize_201 ?_
            refine z_iald hC hG rfl rfl rfl ha9_2 hV dX6_sharedSize_202 ?_
            intro x7 hx7 hV
            refine z_iconst hC dX6_sharedSize_203 ?_
            obtain ⟨J217, eJ217, hV⟩ := zjn_abs hV
            have hJ217 : ∀ (y217_1 : Int) (H217 : ZG), inR y217_1 → J217 y217_1 H217 → ∀ (H : Heap) (locs : List Loc) (ls : Array Slot), zS P s H217 H locs → zL ls 5 [(0, .ref (zA P 5 0 0)), (1, .int (zI y217_1)), (2, .int (zI a9_2))] → W p l e rX6_sharedSize s m args below meth c H locs 0 0 (MQ below (zQi P Q) args s 0 0 (zAr P)) (F0 m 217 ls []) := by
              intro y217_1 H217 hy217_1 hV H locs ls hG hL
              rw [eJ217] at hV
              refine z_iincV (fun x8 => [(2, .int (zI x8)), (0, .ref (zA P 5 0 0)), (1, .int (zI y217_1))]) hC hL (k := 2) rfl (by decide) (fun _ => rfl) hV dX6_sharedSize_217 ?_
              intro x8 hx8 hV ls hL
              refine z_goto (tgt := 9) hC dX6_sharedSize_220 (by decide) ?_
              exact hP9 y217_1 x8 H217 hV hy217_1 hx8 _ _ hG _ (hL.sub [1, 2, 0] rfl)
            refine z_icmp_ne (tgt := 217) hC hx7 (inR_lit rfl) hV dX6_sharedSize_204 (by decide) ?_ ?_
            · intro hV
              exact hJ217 a9_1 K129 ha9_1 hV _ _ _ hG hL
            · intro hV
              refine z_aload_n hC zvr_a rfl (hL.at 0 rfl) dX6_sharedSize_207 ?_
              refine z_getA hC hG kFX6_146_6 rfl rfl dX6_sharedSize_208 ?_
              refine z_iload_n hC rfl (hL.at 2 rfl) dX6_sharedSize_211 ?_
              refine z_iload_n hC rfl (hL.at 1 rfl) dX6_sharedSize_212 ?_
              refine z_iast hC hG rfl (Nat.le_of_ble_eq_true rfl) (Nat.le_of_ble_eq_true rfl) rfl rfl rfl ha9_2 ha9_1 hV dX6_sharedSize_213 ?_
              intro G2 _ _ hG hV
              refine z_iincV (fun x9 => [(1, .int (zI x9)), (0, .ref (zA P 5 0 0)), (2, .int (zI a9_2))]) hC hL (k := 1) rfl (by decide) (fun _ => rfl) hV dX6_sharedSize_214 ?_
              intro x9 hx9 hV ls hL
              exact hJ217 x9 G2 hx9 hV _ _ _ hG (hL.sub [1, 0, 2] rfl)
          refine z_icmp_le (tgt := 197) hC ha129_4 ha9_2 hV dX6_sharedSize_132 (by decide) ?_ ?_
          · intro hV
            exact hJ197 hG hV _ (hL.sub [0, 1, 2] rfl)
          · intro hV
            refine z_aload_n hC zvr_a rfl (hL.at 0 rfl) dX6_sharedSize_135 ?_
            refine z_getA hC hG kFX6_146_6 rfl rfl dX6_sharedSize_136 ?_
            refine z_iload_n hC rfl (hL.at 2 rfl) dX6_sharedSize_139 ?_
            refine z_iald hC hG rfl rfl rfl ha9_2 hV dX6_sharedSize_140 ?_
            intro x10 hx10 hV
            refine z_iconst hC dX6_sharedSize_141 ?_
            refine z_icmp_ne (tgt := 197) hC hx10 (inR_lit rfl) hV dX6_sharedSize_142 (by decide) ?_ ?_
            · intro hV
              exact hJ197 hG hV _ (hL.sub [0, 1, 2] rfl)
            · intro hV
              refine z_aload_n hC zvr_a rfl (hL.at 0 rfl) dX6_sharedSize_145 ?_
              refine z_getA hC hG kFX6_146_6 rfl rfl dX6_sharedSize_146 ?_
              refine z_iload_n hC rfl (hL.at 2 rfl) dX6_sharedSize_149 ?_
              refine z_aload_n hC zvr_a rfl (hL.at 0 rfl) dX6_sharedSize_150 ?_
              refine z_getA hC hG kFX6_146_6 rfl rfl dX6_sharedSize_151 ?_
              refine z_iload hC (hL.at 3 rfl) dX6_sharedSize_154 ?_
              refine z_iald hC hG rfl rfl rfl ha129_4 hV dX6_sharedSize_156 ?_
              intro x11 hx11 hV
              obtain ⟨J190, eJ190, hV⟩ := zjn_abs hV
              have hJ190 : ∀ {H : Heap} {locs : List Loc}, zS P s K129 H locs → ∀ (z190_2 : Int), inR z190_2 → J190 z190_2 → ∀ (ls : Array Slot), zL ls 5 [(0, .ref (zA P 5 0 0)), (1, .int (zI a9_1)), (2, .int (zI a9_2)), (4, .int (zI a129_4))] → W p l e rX6_sharedSize s m args below meth c H locs 0 0 (MQ below (zQi P Q) args s 0 0 (zAr P)) (F0 m 190 ls [.int (zI z190_2), .int (zI a9_2), .ref (zA P 5 64 0)]) := by
                intro H locs hG z190_2 hz190_2 hV ls hL
                rw [eJ190] at hV
                refine z_iast hC hG rfl (Nat.le_of_ble_eq_true rfl) (Nat.le_of_ble_eq_true rfl) rfl rfl rfl ha9_2 hz190_2 hV dX6_sharedSize_190 ?_
                intro G3 _ _ hG hV
                refine z_iincV (fun x12 => [(4, .int (zI x12)), (0, .ref (zA P 5 0 0)), (1, .int (zI a9_1)), (2, .int (zI a9_2))]) hC hL (k := 3) rfl (by decide) (fun _ => rfl) hV dX6_sharedSize_191 ?_
                intro x12 hx12 hV ls hL
                refine z_goto (tgt := 129) hC dX6_sharedSize_194 (by decide) ?_
                exact hP129 x12 G3 hV hx12 _ _ hG _ (hL.sub [1, 2, 3, 0] rfl)
              obtain ⟨J189, eJ189, hV⟩ := zjn_abs hV
              have hJ189 : ∀ {H : Heap} {locs : List Loc}, zS P s K129 H locs → J189 () → ∀ (ls : Array Slot), zL ls 5 [(0, .ref (zA P 5 0 0)), (1, .int (zI a9_1)), (2, .int (zI a9_2)), (4, .int (zI a129_4))] → W p l e rX6_sharedSize s m args below meth c H locs 0 0 (MQ below (zQi P Q) args s 0 0 (zAr P)) (F0 m 189 ls [.int (zI a9_2), .ref (zA P 5 64 0)]) := by
                intro H locs hG hV ls hL
                rw [eJ189] at hV
                refine z_iconst hC dX6_sharedSize_189 ?_
                exact hJ190 hG (-1) (inR_lit rfl) hV _ hL
              refine z_if_lt (tgt := 189) hC hx11 hV dX6_sharedSize_157 (by decide) ?_ ?_
              · intro hV
                exact hJ189 hG hV _ hL
              · intro hV
                refine z_aload_n hC zvr_a rfl (hL.at 0 rfl) dX6_sharedSize_160 ?_
                refine z_iload hC (hL.at 3 rfl) dX6_sharedSize_161 ?_
                refine z_call_z hG (zrunV (ci := 6) hC hG (Nat.le_of_ble_eq_true rfl) (Nat.le_of_ble_eq_true rfl) (zobj hG rfl (Nat.le_of_ble_eq_true rfl) (Nat.le_of_ble_eq_true rfl)) (mX6_isOwn l P K129 a129_4 ha129_4 hV) kVX6_374 rfl rfl rfl ⟨(Nat.le_of_ble_eq_true rfl), (Nat.le_of_ble_eq_true rfl)⟩ ⟨(Nat.le_of_ble_eq_true rfl), (Nat.le_of_ble_eq_true rfl)⟩ rfl ⟨(zcs_c rfl (zcs_c rfl zcs_0)), (Nat.le_of_ble_eq_true rfl)⟩ hL.1.1 dX6_sharedSize_163) ?_
                rintro x13 _ _ _ hx13 ⟨rfl, hV⟩ hG
                refine z_if_eq (tgt := 189) hC (inR_b hx13) hV dX6_sharedSize_166 (by decide) ?_ ?_
                · intro hV
                  exact hJ189 hG hV _ hL
                · intro hV
                  refine z_aload_n hC zvr_a rfl (hL.at 0 rfl) dX6_sharedSize_169 ?_
                  refine z_iload hC (hL.at 3 rfl) dX6_sharedSize_170 ?_
                  refine z_iload_n hC rfl (hL.at 2 rfl) dX6_sharedSize_172 ?_
                  refine z_call_z hG (zrunV (ci := 6) hC hG (Nat.le_of_ble_eq_true rfl) (Nat.le_of_ble_eq_true rfl) (zobj hG rfl (Nat.le_of_ble_eq_true rfl) (Nat.le_of_ble_eq_true rfl)) (mX6_isSame l P K129 a129_4 ha129_4 a9_2 ha9_2 hV) kVX6_377 rfl rfl rfl ⟨(Nat.le_of_ble_eq_true rfl), (Nat.le_of_ble_eq_true rfl)⟩ ⟨(Nat.le_of_ble_eq_true rfl), (Nat.le_of_ble_eq_true rfl)⟩ rfl ⟨(zcs_c rfl (zcs_c rfl zcs_0)), (Nat.le_of_ble_eq_true rfl)⟩ hL.1.1 dX6_sharedSize_173) ?_
                  rintro x14 _ _ _ hx14 ⟨rfl, hV⟩ hG
                  refine z_if_eq (tgt := 189) hC (inR_b hx14) hV dX6_sharedSize_176 (by decide) ?_ ?_
                  · intro hV
                    exact hJ189 hG hV _ hL
                  · intro hV
                    refine z_aload_n hC zvr_a rfl (hL.at 0 rfl) dX6_sharedSize_179 ?_
                    refine z_getA hC hG kFX6_146_6 rfl rfl dX6_sharedSize_180 ?_
                    refine z_iload hC (hL.at 3 rfl) dX6_sharedSize_183 ?_
                    refine z_iald hC hG rfl rfl rfl ha129_4 hV dX6_sharedSize_185 ?_
                    intro x15 hx15 hV
                    refine z_goto (tgt := 190) hC dX6_sharedSize_186 (by decide) ?_
                    exact hJ190 hG x15 hx15 hV _ hL
        refine z_if_eq (tgt := 119) hC (inR_b ha41_3) hV dX6_sharedSize_102 (by decide) ?_ ?_
        · intro hV
          refine z_iconst hC dX6_sharedSize_119 ?_
          exact hJ120 hG (-1) (inR_lit rfl) hV _ (hL.sub [0, 1, 2] rfl)
        · intro hV
          refine z_aload_n hC zvr_a rfl (hL.at 0 rfl) dX6_sharedSize_105 ?_
          refine z_getA hC hG kFX6_146_6 rfl rfl dX6_sharedSize_106 ?_
          refine z_aload_n hC zvr_a rfl (hL.at 0 rfl) dX6_sharedSize_109 ?_
          refine z_getA hC hG kFX6_140_6 rfl rfl dX6_sharedSize_110 ?_
          refine z_iload_n hC rfl (hL.at 2 rfl) dX6_sharedSize_113 ?_
          refine z_iald hC hG rfl rfl rfl ha9_2 hV dX6_sharedSize_114 ?_
          intro x16 hx16 hV
          refine z_iald hC hG rfl rfl rfl hx16 hV dX6_sharedSize_115 ?_
          intro x17 hx17 hV
          refine z_goto (tgt := 120) hC dX6_sharedSize_116 (by decide) ?_
          exact hJ120 hG x17 hx17 hV _ (hL.sub [0, 1, 2] rfl)
      refine z_icmp_ge (tgt := 96) hC ha41_4 hx4 hV dX6_sharedSize_49 (by decide) ?_ ?_
      · intro hV
        exact hJ96 hG hV _ (hL.sub [0, 1, 2, 3] rfl)
      · intro hV
        refine z_iload_n hC rfl (hL.at 3 rfl) dX6_sharedSize_52 ?_
        refine z_if_eq (tgt := 96) hC (inR_b ha41_3) hV dX6_sharedSize_53 (by decide) ?_ ?_
        · intro hV
          exact hJ96 hG hV _ (hL.sub [0, 1, 2, 3] rfl)
        · intro hV
          refine z_aload_n hC zvr_a rfl (hL.at 0 rfl) dX6_sharedSize_56 ?_
          refine z_getA hC hG kFX6_146_6 rfl rfl dX6_sharedSize_57 ?_
          refine z_aload_n hC zvr_a rfl (hL.at 0 rfl) dX6_sharedSize_60 ?_
          refine z_getA hC hG kFX6_140_6 rfl rfl dX6_sharedSize_61 ?_
          refine z_iload_n hC rfl (hL.at 2 rfl) dX6_sharedSize_64 ?_
          refine z_iald hC hG rfl rfl rfl ha9_2 hV dX6_sharedSize_65 ?_
          intro x18 hx18 hV
          refine z_iload hC (hL.at 4 rfl) dX6_sharedSize_66 ?_
          refine z_iadd hC dX6_sharedSize_68 ?_
          refine z_iald hC hG rfl rfl rfl (inR_w _) hV dX6_sharedSize_69 ?_
          intro x19 hx19 hV
          refine z_aload_n hC zvr_a rfl (hL.at 0 rfl) dX6_sharedSize_70 ?_
          refine z_getA hC hG kFX6_146_6 rfl rfl dX6_sharedSize_71 ?_
          refine z_aload_n hC zvr_a rfl (hL.at 0 rfl) dX6_sharedSize_74 ?_
          refine z_getA hC hG kFX6_140_6 rfl rfl dX6_sharedSize_75 ?_
          refine z_iload_n hC rfl (hL.at 2 rfl) dX6_sharedSize_78 ?_
          refine z_iald hC hG rfl rfl rfl ha9_2 hV dX6_sharedSize_79 ?_
          intro x20 hx20 hV
          refine z_iald hC hG rfl rfl rfl hx20 hV dX6_sharedSize_80 ?_
          intro x21 hx21 hV
          obtain ⟨J89, eJ89, hV⟩ := zjn_abs hV
          have hJ89 : ∀ {H : Heap} {locs : List Loc}, zS P s K9 H locs → ∀ (z89_0 : Int), (z89_0 = 0 ∨ z89_0 = 1) → J89 z89_0 → ∀ (ls : Array Slot), zL ls 5 [(0, .ref (zA P 5 0 0)), (1, .int (zI a9_1)), (2, .int (zI a9_2)), (4, .int (zI a41_4))] → W p l e rX6_sharedSize s m args below meth c H locs 0 0 (MQ below (zQi P Q) args s 0 0 (zAr P)) (F0 m 89 ls [.int (zI z89_0)]) := by
            intro H locs hG z89_0 hz89_0 hV ls hL
            rw [eJ89] at hV
            refine z_istore_n (lv' := [(3, .int (zI z89_0)), (0, .ref (zA P 5 0 0)), (1, .int (zI a9_1)), (2, .int (zI a9_2)), (4, .int (zI a41_4))]) hC rfl hL (by decide) rfl dX6_sharedSize_89 (fun ls hL => ?_)
            refine z_iincV (fun x22 => [(4, .int (zI x22)), (3, .int (zI z89_0)), (0, .ref (zA P 5 0 0)), (1, .int (zI a9_1)), (2, .int (zI a9_2))]) hC hL (k := 4) rfl (by decide) (fun _ => rfl) hV dX6_sharedSize_90 ?_
            intro x22 hx22 hV ls hL
            refine z_goto (tgt := 41) hC dX6_sharedSize_93 (by decide) ?_
            exact hP41 z89_0 x22 hV hz89_0 hx22 _ _ hG _ (hL.sub [2, 3, 4, 1, 0] rfl)
          refine z_icmp_ne (tgt := 88) hC hx19 hx21 hV dX6_sharedSize_81 (by decide) ?_ ?_
          · intro hV
            refine z_iconst hC dX6_sharedSize_88 ?_
            exact hJ89 hG 0 (Or.inl rfl) hV _ (hL.sub [0, 1, 2, 4] rfl)
          · intro hV
            refine z_iconst hC dX6_sharedSize_84 ?_
            refine z_goto (tgt := 89) hC dX6_sharedSize_85 (by decide) ?_
            exact hJ89 hG 1 (Or.inr rfl) hV _ (hL.sub [0, 1, 2, 4] rfl)
    obtain ⟨J36, eJ36, hV⟩ := zjn_abs hV
    have hJ36 : ∀ {H : Heap} {locs : List Loc}, zS P s K9 H locs → J36 () → ∀ (ls : Array Slot), zL ls 5 [(0, .ref (zA P 5 0 0)), (1, .int (zI a9_1)), (2, .int (zI a9_2))] → W p l e rX6_sharedSize s m args below meth c H locs 0 0 (MQ below (zQi P Q) args s 0 0 (zAr P)) (F0 m 36 ls []) := by
      intro H locs hG hV ls hL
      rw [eJ36] at hV
      refine z_iconst hC dX6_sharedSize_36 ?_
      exact hJ37 hG 0 (Or.inl rfl) hV _ hL
    refine z_icmp_ne (tgt := 36) hC hx3 (inR_lit rfl) hV dX6_sharedSize_20 (by decide) ?_ ?_
    · intro hV
      exact hJ36 hG hV _ hL
    · intro hV
      refine z_aload_n hC zvr_a rfl (hL.at 0 rfl) dX6_sharedSize_23 ?_
      refine z_getA hC hG kFX6_143_6 rfl rfl dX6_sharedSize_24 ?_
      refine z_iload_n hC rfl (hL.at 2 rfl) dX6_sharedSize_27 ?_
      refine z_iald hC hG rfl rfl rfl ha9_2 hV dX6_sharedSize_28 ?_
      intro x23 hx23 hV
      refine z_if_le (tgt := 36) hC hx23 hV dX6_sharedSize_29 (by decide) ?_ ?_
      · intro hV
        exact hJ36 hG hV _ hL
      · intro hV
        refine z_iconst hC dX6_sharedSize_32 ?_
        refine z_goto (tgt := 37) hC dX6_sharedSize_33 (by decide) ?_
        exact hJ37 hG 1 (Or.inr rfl) hV _ hL
abbrev rX6_size : Room := { frames := 10, cells := 0, slots := 0, locals := 227 }
def vX6_size (p0 : Int) (p1 : Int) (G : ZG) (Q : Int → ZG → Prop) : Prop := vX6_in p0 2 3 fun (x1 : Int) => zjn (fun (z26_1 : Int) => vX6_refused z26_1 G fun (x2 : Int) (G1 : ZG) => zbr (x2 = 0) (vX6_build p0 G1 fun (G2 : ZG) => zgF G2 5 55 fun (x3 : Int) => zjn (fun (z66_0 : Int) (H66 : ZG) => Q z66_0 H66) fun J66 => zbr (x3 = 0) (zbr (p1 = 0) (zgF G2 5 56 fun (x4 : Int) => J66 x4 G2) (vX6_sharedSize G2 fun (x5 : Int) (G3 : ZG) => J66 x5 G3)) (J66 (-3) G2)) (Q 0 G1)) fun J26 => zbr (x1 ≠ 0) (zgF G 5 21 fun (x6 : Int) => zbr (x6 ≠ 0) (J26 0) (J26 2)) (J26 1)
set_option maxHeartbeats 4000000 in
theorem mX6_size (l : Launch) (P : ZP) (G : ZG) (p0 : Int) (hp0 : inR p0) (p1 : Int) (hp1 : p1 = 0 ∨ p1 = 1) {Q : Int → ZG → Prop} (hV : vX6_size p0 p1 G Q) : Met l yX6_size (ws_ yX6_size cX6_size 3 (some .int)) rX6_size (zPc P G [.ref (zA P 5 0 0), .int (zI p0), .int (zI p1)]) (zQi P Q) 0 0 (zAr P) := by
  refine zMet RX6 (plainFor_of_name (by decide)) rfl (zcs_c rfl (zcs_c rfl (zcs_c rfl zcs_0))) (Nat.le_of_ble_eq_true rfl) (fun p e s m args below meth c ls hC hr hk hn hG hL => ?_)
  unfold vX6_size at hV
  refine z_aload_n hC zvr_a rfl (hL.at 0 rfl) dX6_size_0 ?_
  refine z_iload_n hC rfl (hL.at 1 rfl) dX6_size_1 ?_
  refine z_iconst hC dX6_size_2 ?_
  refine z_iconst hC dX6_size_3 ?_
  refine z_call_z hG (zrunS hC hG (mX6_in l P G p0 hp0 2 (inR_lit rfl) 3 (inR_lit rfl) hV) kSX6_171 rfl rfl rfl ⟨(Nat.le_of_ble_eq_true rfl), (Nat.le_of_ble_eq_true rfl)⟩ ⟨(Nat.le_of_ble_eq_true rfl), (Nat.le_of_ble_eq_true rfl)⟩ rfl ⟨(zcs_c rfl zcs_0), (Nat.le_of_ble_eq_true rfl)⟩ hL.1.1 dX6_size_4) ?_
  rintro x1 _ _ _ hx1 ⟨rfl, hV⟩ hG
  obtain ⟨J26, eJ26, hV⟩ := zjn_abs hV
  have hJ26 : ∀ {H : Heap} {locs : List Loc}, zS P s G H locs → ∀ (z26_1 : Int), inR z26_1 → J26 z26_1 → ∀ (ls : Array Slot), zL ls 3 [(0, .ref (zA P 5 0 0)), (1, .int (zI p0)), (2, .int (zI p1))] → W p l e rX6_size s m args below meth c H locs 0 0 (MQ below (zQi P Q) args s 0 0 (zAr P)) (F0 m 26 ls [.int (zI z26_1), .ref (zA P 5 0 0)]) := by
    intro H locs hG z26_1 hz26_1 hV ls hL
    rw [eJ26] at hV
    refine z_call_z hG (zrunV (ci := 6) hC hG (Nat.le_of_ble_eq_true rfl) (Nat.le_of_ble_eq_true rfl) (zobj hG rfl (Nat.le_of_ble_eq_true rfl) (Nat.le_of_ble_eq_true rfl)) (mX6_refused l P G z26_1 hz26_1 hV) kVX6_183 rfl rfl rfl ⟨(Nat.le_of_ble_eq_true rfl), (Nat.le_of_ble_eq_true rfl)⟩ ⟨(Nat.le_of_ble_eq_true rfl), (Nat.le_of_ble_eq_true rfl)⟩ rfl ⟨zcs_0, (Nat.le_of_ble_eq_true rfl)⟩ hL.1.1 dX6_size_26) ?_
    rintro x2 G1 _ _ hx2 hV hG
    refine z_if_eq (tgt := 34) hC (inR_b hx2) hV dX6_size_29 (by decide) ?_ ?_
    · intro hV
      refine z_aload_n hC zvr_a rfl (hL.at 0 rfl) dX6_size_34 ?_
      refine z_iload_n hC rfl (hL.at 1 rfl) dX6_size_35 ?_
      refine z_call_v hG (zrunV (ci := 6) hC hG (Nat.le_of_ble_eq_true rfl) (Nat.le_of_ble_eq_true rfl) (zobj hG rfl (Nat.le_of_ble_eq_true rfl) (Nat.le_of_ble_eq_true rfl)) (mX6_build l P G1 p0 hp0 hV) kVX6_364 rfl rfl rfl ⟨(Nat.le_of_ble_eq_true rfl), (Nat.le_of_ble_eq_true rfl)⟩ ⟨(Nat.le_of_ble_eq_true rfl), (Nat.le_of_ble_eq_true rfl)⟩ rfl ⟨zcs_0, (Nat.le_of_ble_eq_true rfl)⟩ hL.1.1 dX6_size_36) ?_
      rintro G2 _ _ hV hG
      refine z_aload_n hC zvr_a rfl (hL.at 0 rfl) dX6_size_39 ?_
      refine z_getF hC hG kFX6_348_6 rfl rfl hV dX6_size_40 ?_
      intro x3 hx3 hV
      obtain ⟨J66, eJ66, hV⟩ := zjn_abs hV
      have hJ66 : ∀ (z66_0 : Int) (H66 : ZG), inR z66_0 → J66 z66_0 H66 → ∀ (H : Heap) (locs : List Loc) (ls : Array Slot), zS P s H66 H locs → zL ls 3 [] → W p l e rX6_size s m args below meth c H locs 0 0 (MQ below (zQi P Q) args s 0 0 (zAr P)) (F0 m 66 ls [.int (zI z66_0)]) := by
        intro z66_0 H66 hz66_0 hV H locs ls hG hL
        rw [eJ66] at hV
        exact z_iret hC hG hr hk hz66_0 hV (Nat.le_of_ble_eq_true rfl) (Nat.le_of_ble_eq_true rfl) dX6_size_66
      refine z_if_eq (tgt := 51) hC hx3 hV dX6_size_43 (by decide) ?_ ?_
      · intro hV
        refine z_iload_n hC rfl (hL.at 2 rfl) dX6_size_51 ?_
        refine z_if_eq (tgt := 62) hC (inR_b hp1) hV dX6_size_52 (by decide) ?_ ?_
        · intro hV
          refine z_aload_n hC zvr_a rfl (hL.at 0 rfl) dX6_size_62 ?_
          refine z_getF hC hG kFX6_321_6 rfl rfl hV dX6_size_63 ?_
          intro x4 hx4 hV
          exact hJ66 x4 G2 hx4 hV _ _ _ hG (hL.sub [] rfl)
        · intro hV
          refine z_aload_n hC zvr_a rfl (hL.at 0 rfl) dX6_size_55 ?_
          refine z_call_i hG (zrunV (ci := 6) hC hG (Nat.le_of_ble_eq_true rfl) (Nat.le_of_ble_eq_true rfl) (zobj hG rfl (Nat.le_of_ble_eq_true rfl) (Nat.le_of_ble_eq_true rfl)) (mX6_sharedSize l P G2 hV) kVX6_380 rfl rfl rfl ⟨(Nat.le_of_ble_eq_true rfl), (Nat.le_of_ble_eq_true rfl)⟩ ⟨(Nat.le_of_ble_eq_true rfl), (Nat.le_of_ble_eq_true rfl)⟩ rfl ⟨zcs_0, (Nat.le_of_ble_eq_true rfl)⟩ hL.1.1 dX6_size_56) ?_
          rintro x5 G3 _ _ hx5 hV hG
          refine z_goto (tgt := 66) hC dX6_size_59 (by decide) ?_
          exact hJ66 x5 G3 hx5 hV _ _ _ hG (hL.sub [] rfl)
      · intro hV
        refine z_bipush hC rfl dX6_size_46 ?_
        refine z_goto (tgt := 66) hC dX6_size_48 (by decide) ?_
        exact hJ66 (-3) G2 (inR_lit rfl) hV _ _ _ hG (hL.sub [] rfl)
    · intro hV
      refine z_iconst hC dX6_size_32 ?_
      exact z_iret hC hG hr hk (inR_lit rfl) hV (Nat.le_of_ble_eq_true rfl) (Nat.le_of_ble_eq_true rfl) dX6_size_33
  refine z_if_ne (tgt := 14) hC (inR_b hx1) hV dX6_size_7 (by decide) ?_ ?_
  · intro hV
    refine z_aload_n hC zvr_a rfl (hL.at 0 rfl) dX6_size_14 ?_
    refine z_getF hC hG kFX6_231_6 rfl rfl hV dX6_size_15 ?_
    intro x6 hx6 hV
    refine z_if_ne (tgt := 25) hC hx6 hV dX6_size_18 (by decide) ?_ ?_
    · intro hV
      refine z_iconst hC dX6_size_25 ?_
      exact hJ26 hG 0 (inR_lit rfl) hV _ hL
    · intro hV
      refine z_iconst hC dX6_size_21 ?_
      refine z_goto (tgt := 26) hC dX6_size_22 (by decide) ?_
      exact hJ26 hG 2 (inR_lit rfl) hV _ hL
  · intro hV
    refine z_iconst hC dX6_size_10 ?_
    refine z_goto (tgt := 26) hC dX6_size_11 (by decide) ?_
    exact hJ26 hG 1 (inR_lit rfl) hV _ hL
abbrev rX6_missing : Room := { frames := 10, cells := 0, slots := 0, locals := 227 }
def vX6_missing (G : ZG) (Q : Int → ZG → Prop) : Prop := zgF G 5 21 fun (x1 : Int) => zjn (fun (z13_1 : Int) => vX6_refused z13_1 G fun (x2 : Int) (G1 : ZG) => zbr (x2 = 0) (vX6_build 2 G1 fun (G2 : ZG) => zl2 (fun (P30 : Int → Int → Prop) (a30_1 : Int) (a30_2 : Int) => zgF G2 5 56 fun (x3 : Int) => zbr (x3 ≤ a30_2) (zgF G2 5 55 fun (x4 : Int) => zjn (fun (z75_0 : Int) => Q z75_0 G2) fun J75 => zbr (x4 = 0) (J75 a30_1) (J75 (-3))) (zaL G2 5 58 512 a30_2 fun (x5 : Int) => zjn (fun (z54_1 : Int) => zlt1 (w32 (a30_1 + z54_1)) fun (x6 : Int) => zlt1 (w32 (a30_2 + 1)) fun (x7 : Int) => P30 x6 x7) fun J54 => zbr (x5 ≠ 2) (J54 0) (J54 1))) 0 0) (Q 0 G1)) fun J13 => zbr (x1 ≠ 0) (J13 0) (J13 1)
set_option maxHeartbeats 4000000 in
theorem mX6_missing (l : Launch) (P : ZP) (G : ZG) {Q : Int → ZG → Prop} (hV : vX6_missing G Q) : Met l yX6_missing (ws_ yX6_missing cX6_missing 3 (some .int)) rX6_missing (zPc P G [.ref (zA P 5 0 0)]) (zQi P Q) 0 0 (zAr P) := by
  refine zMet RX6 (plainFor_of_name (by decide)) rfl (zcs_c rfl zcs_0) (Nat.le_of_ble_eq_true rfl) (fun p e s m args below meth c ls hC hr hk hn hG hL => ?_)
  unfold vX6_missing at hV
  refine z_aload_n hC zvr_a rfl (hL.at 0 rfl) dX6_missing_0 ?_
  refine z_aload_n hC zvr_a rfl (hL.at 0 rfl) dX6_missing_1 ?_
  refine z_getF hC hG kFX6_231_6 rfl rfl hV dX6_missing_2 ?_
  intro x1 hx1 hV
  obtain ⟨J13, eJ13, hV⟩ := zjn_abs hV
  have hJ13 : ∀ {H : Heap} {locs : List Loc}, zS P s G H locs → ∀ (z13_1 : Int), (z13_1 = 0 ∨ z13_1 = 1) → J13 z13_1 → ∀ (ls : Array Slot), zL ls 3 [(0, .ref (zA P 5 0 0))] → W p l e rX6_missing s m args below meth c H locs 0 0 (MQ below (zQi P Q) args s 0 0 (zAr P)) (F0 m 13 ls [.int (zI z13_1), .ref (zA P 5 0 0)]) := by
    intro H locs hG z13_1 hz13_1 hV ls hL
    rw [eJ13] at hV
    refine z_call_z hG (zrunV (ci := 6) hC hG (Nat.le_of_ble_eq_true rfl) (Nat.le_of_ble_eq_true rfl) (zobj hG rfl (Nat.le_of_ble_eq_true rfl) (Nat.le_of_ble_eq_true rfl)) (mX6_refused l P G z13_1 (inR_b hz13_1) hV) kVX6_183 rfl rfl rfl ⟨(Nat.le_of_ble_eq_true rfl), (Nat.le_of_ble_eq_true rfl)⟩ ⟨(Nat.le_of_ble_eq_true rfl), (Nat.le_of_ble_eq_true rfl)⟩ rfl ⟨zcs_0, (Nat.le_of_ble_eq_true rfl)⟩ hL.1.1 dX6_missing_13) ?_
    rintro x2 G1 _ _ hx2 hV hG
    refine z_if_eq (tgt := 21) hC (inR_b hx2) hV dX6_missing_16 (by decide) ?_ ?_
    · intro hV
      refine z_aload_n hC zvr_a rfl (hL.at 0 rfl) dX6_missing_21 ?_
      refine z_iconst hC dX6_missing_22 ?_
      refine z_call_v hG (zrunV (ci := 6) hC hG (Nat.le_of_ble_eq_true rfl) (Nat.le_of_ble_eq_true rfl) (zobj hG rfl (Nat.le_of_ble_eq_true rfl) (Nat.le_of_ble_eq_true rfl)) (mX6_build l P G1 2 (inR_lit rfl) hV) kVX6_364 rfl rfl rfl ⟨(Nat.le_of_ble_eq_true rfl), (Nat.le_of_ble_eq_true rfl)⟩ ⟨(Nat.le_of_ble_eq_true rfl), (Nat.le_of_ble_eq_true rfl)⟩ rfl ⟨zcs_0, (Nat.le_of_ble_eq_true rfl)⟩ hL.1.1 dX6_missing_23) ?_
      rintro G2 _ _ hV hG
      refine z_iconst hC dX6_missing_26 ?_
      refine z_istore_n (lv' := [(1, .int (zI 0)), (0, .ref (zA P 5 0 0))]) hC rfl hL (by decide) rfl dX6_missing_27 (fun ls hL => ?_)
      refine z_iconst hC dX6_missing_28 ?_
      refine z_istore_n (lv' := [(2, .int (zI 0)), (1, .int (zI 0)), (0, .ref (zA P 5 0 0))]) hC rfl hL (by decide) rfl dX6_missing_29 (fun ls hL => ?_)
      refine zl2_use hV (fun (a30_1 : Int) (a30_2 : Int) => inR a30_1 → inR a30_2 → ∀ (H : Heap) (locs : List Loc), zS P s G2 H locs → ∀ (ls : Array Slot), zL ls 3 [(0, .ref (zA P 5 0 0)), (1, .int (zI a30_1)), (2, .int (zI a30_2))] → W p l e rX6_missing s m args below meth c H locs 0 0 (MQ below (zQi P Q) args s 0 0 (zAr P)) (F0 m 30 ls [])) ?_ (inR_lit rfl) (inR_lit rfl) _ _ hG _ (hL.sub [2, 1, 0] rfl)
      intro P30 a30_1 a30_2 hP30 hV ha30_1 ha30_2 H locs hG ls hL
      refine z_iload_n hC rfl (hL.at 2 rfl) dX6_missing_30 ?_
      refine z_aload_n hC zvr_a rfl (hL.at 0 rfl) dX6_missing_31 ?_
      refine z_getF hC hG kFX6_321_6 rfl rfl hV dX6_missing_32 ?_
      intro x3 hx3 hV
      refine z_icmp_ge (tgt := 62) hC ha30_2 hx3 hV dX6_missing_35 (by decide) ?_ ?_
      · intro hV
        refine z_aload_n hC zvr_a rfl (hL.at 0 rfl) dX6_missing_62 ?_
        refine z_getF hC hG kFX6_348_6 rfl rfl hV dX6_missing_63 ?_
        intro x4 hx4 hV
        obtain ⟨J75, eJ75, hV⟩ := zjn_abs hV
        have hJ75 : ∀ {H : Heap} {locs : List Loc}, zS P s G2 H locs → ∀ (z75_0 : Int), inR z75_0 → J75 z75_0 → ∀ (ls : Array Slot), zL ls 3 [] → W p l e rX6_missing s m args below meth c H locs 0 0 (MQ below (zQi P Q) args s 0 0 (zAr P)) (F0 m 75 ls [.int (zI z75_0)]) := by
          intro H locs hG z75_0 hz75_0 hV ls hL
          rw [eJ75] at hV
          exact z_iret hC hG hr hk hz75_0 hV (Nat.le_of_ble_eq_true rfl) (Nat.le_of_ble_eq_true rfl) dX6_missing_75
        refine z_if_eq (tgt := 74) hC hx4 hV dX6_missing_66 (by decide) ?_ ?_
        · intro hV
          refine z_iload_n hC rfl (hL.at 1 rfl) dX6_missing_74 ?_
          exact hJ75 hG a30_1 ha30_1 hV _ (hL.sub [] rfl)
        · intro hV
          refine z_bipush hC rfl dX6_missing_69 ?_
          refine z_goto (tgt := 75) hC dX6_missing_71 (by decide) ?_
          exact hJ75 hG (-3) (inR_lit rfl) hV _ (hL.sub [] rfl)
      · intro hV
        refine z_iload_n hC rfl (hL.at 1 rfl) dX6_missing_38 ?_
        refine z_aload_n hC zvr_a rfl (hL.at 0 rfl) dX6_missing_39 ?_
        refine z_getA hC hG kFX6_131_6 rfl rfl dX6_missing_40 ?_
        refine z_iload_n hC rfl (hL.at 2 rfl) dX6_missing_43 ?_
        refine z_iald hC hG rfl rfl rfl ha30_2 hV dX6_missing_44 ?_
        intro x5 hx5 hV
        refine z_iconst hC dX6_missing_45 ?_
        obtain ⟨J54, eJ54, hV⟩ := zjn_abs hV
        have hJ54 : ∀ {H : Heap} {locs : List Loc}, zS P s G2 H locs → ∀ (z54_1 : Int), (z54_1 = 0 ∨ z54_1 = 1) → J54 z54_1 → ∀ (ls : Array Slot), zL ls 3 [(0, .ref (zA P 5 0 0)), (2, .int (zI a30_2))] → W p l e rX6_missing s m args below meth c H locs 0 0 (MQ below (zQi P Q) args s 0 0 (zAr P)) (F0 m 54 ls [.int (zI z54_1), .int (zI a30_1)]) := by
          intro H locs hG z54_1 hz54_1 hV ls hL
          rw [eJ54] at hV
          refine z_iadd hC dX6_missing_54 ?_
          refine z_top hV (inR_w _) ?_
          intro x6 hx6 hV
          refine z_istore_n (lv' := [(1, .int (zI x6)), (0, .ref (zA P 5 0 0)), (2, .int (zI a30_2))]) hC rfl hL (by decide) rfl dX6_missing_55 (fun ls hL => ?_)
          refine z_iincV (fun x7 => [(2, .int (zI x7)), (1, .int (zI x6)), (0, .ref (zA P 5 0 0))]) hC hL (k := 2) rfl (by decide) (fun _ => rfl) hV dX6_missing_56 ?_
          intro x7 hx7 hV ls hL
          refine z_goto (tgt := 30) hC dX6_missing_59 (by decide) ?_
          exact hP30 x6 x7 hV hx6 hx7 _ _ hG _ (hL.sub [2, 1, 0] rfl)
        refine z_icmp_ne (tgt := 53) hC hx5 (inR_lit rfl) hV dX6_missing_46 (by decide) ?_ ?_
        · intro hV
          refine z_iconst hC dX6_missing_53 ?_
          exact hJ54 hG 0 (Or.inl rfl) hV _ (hL.sub [0, 2] rfl)
        · intro hV
          refine z_iconst hC dX6_missing_49 ?_
          refine z_goto (tgt := 54) hC dX6_missing_50 (by decide) ?_
          exact hJ54 hG 1 (Or.inr rfl) hV _ (hL.sub [0, 2] rfl)
    · intro hV
      refine z_iconst hC dX6_missing_19 ?_
      exact z_iret hC hG hr hk (inR_lit rfl) hV (Nat.le_of_ble_eq_true rfl) (Nat.le_of_ble_eq_true rfl) dX6_missing_20
  refine z_if_ne (tgt := 12) hC hx1 hV dX6_missing_5 (by decide) ?_ ?_
  · intro hV
    refine z_iconst hC dX6_missing_12 ?_
    exact hJ13 hG 0 (Or.inl rfl) hV _ hL
  · intro hV
    refine z_iconst hC dX6_missing_8 ?_
    refine z_goto (tgt := 13) hC dX6_missing_9 (by decide) ?_
    exact hJ13 hG 1 (Or.inr rfl) hV _ hL
abbrev rX6_firstMissed : Room := { frames := 1, cells := 0, slots := 0, locals := 12 }
def vX6_firstMissed (G : ZG) (Q : Int → ZG → Prop) : Prop := zaS G 5 63 512 0 0 fun (G1 : ZG) => zl2 (fun (P9 : Int → ZG → Prop) (a9_1 : Int) (K9 : ZG) => zbr (a9_1 ≤ 0) (Q (-1) K9) (zlt1 (w32 (a9_1 + (-1))) fun (x1 : Int) => zaL K9 5 63 512 x1 fun (x2 : Int) => zaL K9 5 58 512 x2 fun (x3 : Int) => zbr (x3 ≠ 2) (zaL K9 5 62 512 x2 fun (x4 : Int) => zlt1 (w32 (x4 - 1)) fun (x5 : Int) => zl3 (fun (P44 : Int → Int → ZG → Prop) (a44_1 : Int) (a44_3 : Int) (K44 : ZG) => zbr (a44_3 < 0) (P9 a44_1 K44) (zaL K44 5 61 512 x2 fun (x6 : Int) => zaS K44 5 63 512 a44_1 (w32 (x6 + a44_3)) fun (G2 : ZG) => zlt1 (w32 (a44_1 + 1)) fun (x7 : Int) => zlt1 (w32 (a44_3 + (-1))) fun (x8 : Int) => P44 x7 x8 G2)) x1 x5 K9) (Q x2 K9))) 1 G1
set_option maxHeartbeats 4000000 in
theorem mX6_firstMissed (l : Launch) (P : ZP) (G : ZG) {Q : Int → ZG → Prop} (hV : vX6_firstMissed G Q) : Met l yX6_firstMissed (ws_ yX6_firstMissed cX6_firstMissed 4 (some .int)) rX6_firstMissed (zPc P G [.ref (zA P 5 0 0)]) (zQi P Q) 0 0 (zAr P) := by
  refine zMet RX6 (plainFor_of_name (by decide)) rfl (zcs_c rfl zcs_0) (Nat.le_of_ble_eq_true rfl) (fun p e s m args below meth c ls hC hr hk hn hG hL => ?_)
  unfold vX6_firstMissed at hV
  refine z_iconst hC dX6_firstMissed_0 ?_
  refine z_istore_n (lv' := [(1, .int (zI 1)), (0, .ref (zA P 5 0 0))]) hC rfl hL (by decide) rfl dX6_firstMissed_1 (fun ls hL => ?_)
  refine z_aload_n hC zvr_a rfl (hL.at 1 rfl) dX6_firstMissed_2 ?_
  refine z_getA hC hG kFX6_146_6 rfl rfl dX6_firstMissed_3 ?_
  refine z_iconst hC dX6_firstMissed_6 ?_
  refine z_iconst hC dX6_firstMissed_7 ?_
  refine z_iast hC hG rfl (Nat.le_of_ble_eq_true rfl) (Nat.le_of_ble_eq_true rfl) rfl rfl rfl (inR_lit rfl) (inR_lit rfl) hV dX6_firstMissed_8 ?_
  intro G1 _ _ hG hV
  refine zl2_use hV (fun (a9_1 : Int) (K9 : ZG) => inR a9_1 → ∀ (H : Heap) (locs : List Loc), zS P s K9 H locs → ∀ (ls : Array Slot), zL ls 4 [(0, .ref (zA P 5 0 0)), (1, .int (zI a9_1))] → W p l e rX6_firstMissed s m args below meth c H locs 0 0 (MQ below (zQi P Q) args s 0 0 (zAr P)) (F0 m 9 ls [])) ?_ (inR_lit rfl) _ _ hG _ (hL.sub [1, 0] rfl)
  intro P9 a9_1 K9 hP9 hV ha9_1 H locs hG ls hL
  refine z_iload_n hC rfl (hL.at 1 rfl) dX6_firstMissed_9 ?_
  refine z_if_le (tgt := 74) hC ha9_1 hV dX6_firstMissed_10 (by decide) ?_ ?_
  · intro hV
    refine z_iconst hC dX6_firstMissed_74 ?_
    exact z_iret hC hG hr hk (inR_lit rfl) hV (Nat.le_of_ble_eq_true rfl) (Nat.le_of_ble_eq_true rfl) dX6_firstMissed_75
  · intro hV
    refine z_iincV (fun x1 => [(1, .int (zI x1)), (0, .ref (zA P 5 0 0))]) hC hL (k := 1) rfl (by decide) (fun _ => rfl) hV dX6_firstMissed_13 ?_
    intro x1 hx1 hV ls hL
    refine z_aload_n hC zvr_a rfl (hL.at 1 rfl) dX6_firstMissed_16 ?_
    refine z_getA hC hG kFX6_146_6 rfl rfl dX6_firstMissed_17 ?_
    refine z_iload_n hC rfl (hL.at 0 rfl) dX6_firstMissed_20 ?_
    refine z_iald hC hG rfl rfl rfl hx1 hV dX6_firstMissed_21 ?_
    intro x2 hx2 hV
    refine z_istore_n (lv' := [(2, .int (zI x2)), (1, .int (zI x1)), (0, .ref (zA P 5 0 0))]) hC rfl hL (by decide) rfl dX6_firstMissed_22 (fun ls hL => ?_)
    refine z_aload_n hC zvr_a rfl (hL.at 2 rfl) dX6_firstMissed_23 ?_
    refine z_getA hC hG kFX6_131_6 rfl rfl dX6_firstMissed_24 ?_
    refine z_iload_n hC rfl (hL.at 0 rfl) dX6_firstMissed_27 ?_
    refine z_iald hC hG rfl rfl rfl hx2 hV dX6_firstMissed_28 ?_
    intro x3 hx3 hV
    refine z_iconst hC dX6_firstMissed_29 ?_
    refine z_icmp_ne (tgt := 35) hC hx3 (inR_lit rfl) hV dX6_firstMissed_30 (by decide) ?_ ?_
    · intro hV
      refine z_aload_n hC zvr_a rfl (hL.at 2 rfl) dX6_firstMissed_35 ?_
      refine z_getA hC hG kFX6_143_6 rfl rfl dX6_firstMissed_36 ?_
      refine z_iload_n hC rfl (hL.at 0 rfl) dX6_firstMissed_39 ?_
      refine z_iald hC hG rfl rfl rfl hx2 hV dX6_firstMissed_40 ?_
      intro x4 hx4 hV
      refine z_iconst hC dX6_firstMissed_41 ?_
      refine z_isub hC dX6_firstMissed_42 ?_
      refine z_top hV (inR_w _) ?_
      intro x5 hx5 hV
      refine z_istore_n (lv' := [(3, .int (zI x5)), (2, .int (zI x2)), (1, .int (zI x1)), (0, .ref (zA P 5 0 0))]) hC rfl hL (by decide) rfl dX6_firstMissed_43 (fun ls hL => ?_)
      refine zl3_use hV (fun (a44_1 : Int) (a44_3 : Int) (K44 : ZG) => inR a44_1 → inR a44_3 → ∀ (H : Heap) (locs : List Loc), zS P s K44 H locs → ∀ (ls : Array Slot), zL ls 4 [(0, .ref (zA P 5 0 0)), (1, .int (zI a44_1)), (2, .int (zI x2)), (3, .int (zI a44_3))] → W p l e rX6_firstMissed s m args below meth c H locs 0 0 (MQ below (zQi P Q) args s 0 0 (zAr P)) (F0 m 44 ls [])) ?_ hx1 hx5 _ _ hG _ (hL.sub [3, 2, 1, 0] rfl)
      intro P44 a44_1 a44_3 K44 hP44 hV ha44_1 ha44_3 H locs hG ls hL
      refine z_iload_n hC rfl (hL.at 3 rfl) dX6_firstMissed_44 ?_
      refine z_if_lt (tgt := 71) hC ha44_3 hV dX6_firstMissed_45 (by decide) ?_ ?_
      · intro hV
        refine z_goto (tgt := 9) hC dX6_firstMissed_71 (by decide) ?_
        exact hP9 a44_1 K44 hV ha44_1 _ _ hG _ (hL.sub [0, 1] rfl)
      · intro hV
        refine z_aload_n hC zvr_a rfl (hL.at 0 rfl) dX6_firstMissed_48 ?_
        refine z_getA hC hG kFX6_146_6 rfl rfl dX6_firstMissed_49 ?_
        refine z_iload_n hC rfl (hL.at 1 rfl) dX6_firstMissed_52 ?_
        refine z_aload_n hC zvr_a rfl (hL.at 0 rfl) dX6_firstMissed_53 ?_
        refine z_getA hC hG kFX6_140_6 rfl rfl dX6_firstMissed_54 ?_
        refine z_iload_n hC rfl (hL.at 2 rfl) dX6_firstMissed_57 ?_
        refine z_iald hC hG rfl rfl rfl hx2 hV dX6_firstMissed_58 ?_
        intro x6 hx6 hV
        refine z_iload_n hC rfl (hL.at 3 rfl) dX6_firstMissed_59 ?_
        refine z_iadd hC dX6_firstMissed_60 ?_
        refine z_iast hC hG rfl (Nat.le_of_ble_eq_true rfl) (Nat.le_of_ble_eq_true rfl) rfl rfl rfl ha44_1 (inR_w _) hV dX6_firstMissed_61 ?_
        intro G2 _ _ hG hV
        refine z_iincV (fun x7 => [(1, .int (zI x7)), (0, .ref (zA P 5 0 0)), (2, .int (zI x2)), (3, .int (zI a44_3))]) hC hL (k := 1) rfl (by decide) (fun _ => rfl) hV dX6_firstMissed_62 ?_
        intro x7 hx7 hV ls hL
        refine z_iincV (fun x8 => [(3, .int (zI x8)), (1, .int (zI x7)), (0, .ref (zA P 5 0 0)), (2, .int (zI x2))]) hC hL (k := 3) rfl (by decide) (fun _ => rfl) hV dX6_firstMissed_65 ?_
        intro x8 hx8 hV ls hL
        refine z_goto (tgt := 44) hC dX6_firstMissed_68 (by decide) ?_
        exact hP44 x7 x8 G2 hV hx7 hx8 _ _ hG _ (hL.sub [2, 1, 3, 0] rfl)
    · intro hV
      refine z_iload_n hC rfl (hL.at 0 rfl) dX6_firstMissed_33 ?_
      exact z_iret hC hG hr hk hx2 hV (Nat.le_of_ble_eq_true rfl) (Nat.le_of_ble_eq_true rfl) dX6_firstMissed_34
abbrev rX6_example : Room := { frames := 10, cells := 0, slots := 0, locals := 227 }
def vX6_example (p0 : Int) (G : ZG) (Q : Int → ZG → Prop) : Prop := zgF G 5 21 fun (x1 : Int) => zjn (fun (y30_2 : Int) (H30 : ZG) => zjn (fun (z41_1 : Int) => vX6_refused z41_1 H30 fun (x2 : Int) (G1 : ZG) => zbr (x2 = 0) (zpF G1 5 40 0 fun (G2 : ZG) => zpF G2 5 41 y30_2 fun (G3 : ZG) => zjn (fun (z74_0 : Int) (H74 : ZG) => zjn (fun (z87_0 : Int) => Q z87_0 H74) fun J87 => zbr (z74_0 ≠ (-9)) (J87 z74_0) (J87 (-4))) fun J74 => zbr (1 ≤ p0) (vX6_factAt p0 G3 fun (x3 : Int) (G4 : ZG) => J74 x3 G4) (J74 (-9) G3)) (Q 0 G1)) fun J41 => zbr (y30_2 ≠ (-1)) (J41 0) (J41 1)) fun J30 => zbr (x1 ≤ 0) (J30 (-1) G) (vX6_build 2 G fun (G5 : ZG) => zgF G5 5 55 fun (x4 : Int) => zjn (fun (z29_0 : Int) (H29 : ZG) => J30 z29_0 H29) fun J29 => zbr (x4 = 0) (vX6_firstMissed G5 fun (x5 : Int) (G6 : ZG) => J29 x5 G6) (J29 (-1) G5))
set_option maxHeartbeats 4000000 in
theorem mX6_example (l : Launch) (P : ZP) (G : ZG) (p0 : Int) (hp0 : inR p0) {Q : Int → ZG → Prop} (hV : vX6_example p0 G Q) : Met l yX6_example (ws_ yX6_example cX6_example 4 (some .int)) rX6_example (zPc P G [.ref (zA P 5 0 0), .int (zI p0)]) (zQi P Q) 0 0 (zAr P) := by
  refine zMet RX6 (plainFor_of_name (by decide)) rfl (zcs_c rfl (zcs_c rfl zcs_0)) (Nat.le_of_ble_eq_true rfl) (fun p e s m args below meth c ls hC hr hk hn hG hL => ?_)
  unfold vX6_example at hV
  refine z_iconst hC dX6_example_0 ?_
  refine z_istore_n (lv' := [(2, .int (zI (-1))), (0, .ref (zA P 5 0 0)), (1, .int (zI p0))]) hC rfl hL (by decide) rfl dX6_example_1 (fun ls hL => ?_)
  refine z_aload_n hC zvr_a rfl (hL.at 1 rfl) dX6_example_2 ?_
  refine z_getF hC hG kFX6_231_6 rfl rfl hV dX6_example_3 ?_
  intro x1 hx1 hV
  obtain ⟨J30, eJ30, hV⟩ := zjn_abs hV
  have hJ30 : ∀ (y30_2 : Int) (H30 : ZG), inR y30_2 → J30 y30_2 H30 → ∀ (H : Heap) (locs : List Loc) (ls : Array Slot), zS P s H30 H locs → zL ls 4 [(0, .ref (zA P 5 0 0)), (1, .int (zI p0)), (2, .int (zI y30_2))] → W p l e rX6_example s m args below meth c H locs 0 0 (MQ below (zQi P Q) args s 0 0 (zAr P)) (F0 m 30 ls []) := by
    intro y30_2 H30 hy30_2 hV H locs ls hG hL
    rw [eJ30] at hV
    refine z_aload_n hC zvr_a rfl (hL.at 0 rfl) dX6_example_30 ?_
    refine z_iload_n hC rfl (hL.at 2 rfl) dX6_example_31 ?_
    refine z_iconst hC dX6_example_32 ?_
    obtain ⟨J41, eJ41, hV⟩ := zjn_abs hV
    have hJ41 : ∀ {H : Heap} {locs : List Loc}, zS P s H30 H locs → ∀ (z41_1 : Int), (z41_1 = 0 ∨ z41_1 = 1) → J41 z41_1 → ∀ (ls : Array Slot), zL ls 4 [(0, .ref (zA P 5 0 0)), (1, .int (zI p0)), (2, .int (zI y30_2))] → W p l e rX6_example s m args below meth c H locs 0 0 (MQ below (zQi P Q) args s 0 0 (zAr P)) (F0 m 41 ls [.int (zI z41_1), .ref (zA P 5 0 0)]) := by
      intro H locs hG z41_1 hz41_1 hV ls hL
      rw [eJ41] at hV
      refine z_call_z hG (zrunV (ci := 6) hC hG (Nat.le_of_ble_eq_true rfl) (Nat.le_of_ble_eq_true rfl) (zobj hG rfl (Nat.le_of_ble_eq_true rfl) (Nat.le_of_ble_eq_true rfl)) (mX6_refused l P H30 z41_1 (inR_b hz41_1) hV) kVX6_183 rfl rfl rfl ⟨(Nat.le_of_ble_eq_true rfl), (Nat.le_of_ble_eq_true rfl)⟩ ⟨(Nat.le_of_ble_eq_true rfl), (Nat.le_of_ble_eq_true rfl)⟩ rfl ⟨zcs_0, (Nat.le_of_ble_eq_true rfl)⟩ hL.1.1 dX6_example_41) ?_
      rintro x2 G1 _ _ hx2 hV hG
      refine z_if_eq (tgt := 49) hC (inR_b hx2) hV dX6_example_44 (by decide) ?_ ?_
      · intro hV
        refine z_aload_n hC zvr_a rfl (hL.at 0 rfl) dX6_example_49 ?_
        refine z_iconst hC dX6_example_50 ?_
        refine z_putF hC hG kFX6_261_6 rfl rfl rfl rfl nk_6_40 (inR_lit rfl) (Or.inr ⟨rfl, (Or.inl rfl)⟩) hV dX6_example_51 ?_
        intro G2 _ _ hG hV
        refine z_aload_n hC zvr_a rfl (hL.at 0 rfl) dX6_example_54 ?_
        refine z_iload_n hC rfl (hL.at 2 rfl) dX6_example_55 ?_
        refine z_putF hC hG kFX6_268_6 rfl rfl rfl rfl nk_6_41 hy30_2 (Or.inl rfl) hV dX6_example_56 ?_
        intro G3 _ _ hG hV
        refine z_iload_n hC rfl (hL.at 1 rfl) dX6_example_59 ?_
        refine z_iconst hC dX6_example_60 ?_
        obtain ⟨J74, eJ74, hV⟩ := zjn_abs hV
        have hJ74 : ∀ (z74_0 : Int) (H74 : ZG), inR z74_0 → J74 z74_0 H74 → ∀ (H : Heap) (locs : List Loc) (ls : Array Slot), zS P s H74 H locs → zL ls 4 [] → W p l e rX6_example s m args below meth c H locs 0 0 (MQ below (zQi P Q) args s 0 0 (zAr P)) (F0 m 74 ls [.int (zI z74_0)]) := by
          intro z74_0 H74 hz74_0 hV H locs ls hG hL
          rw [eJ74] at hV
          refine z_istore_n (lv' := [(3, .int (zI z74_0))]) hC rfl hL (by decide) rfl dX6_example_74 (fun ls hL => ?_)
          refine z_iload_n hC rfl (hL.at 0 rfl) dX6_example_75 ?_
          refine z_bipush hC rfl dX6_example_76 ?_
          obtain ⟨J87, eJ87, hV⟩ := zjn_abs hV
          have hJ87 : ∀ {H : Heap} {locs : List Loc}, zS P s H74 H locs → ∀ (z87_0 : Int), inR z87_0 → J87 z87_0 → ∀ (ls : Array Slot), zL ls 4 [] → W p l e rX6_example s m args below meth c H locs 0 0 (MQ below (zQi P Q) args s 0 0 (zAr P)) (F0 m 87 ls [.int (zI z87_0)]) := by
            intro H locs hG z87_0 hz87_0 hV ls hL
            rw [eJ87] at hV
            exact z_iret hC hG hr hk hz87_0 hV (Nat.le_of_ble_eq_true rfl) (Nat.le_of_ble_eq_true rfl) dX6_example_87
          refine z_icmp_ne (tgt := 86) hC hz74_0 (inR_lit rfl) hV dX6_example_78 (by decide) ?_ ?_
          · intro hV
            refine z_iload_n hC rfl (hL.at 0 rfl) dX6_example_86 ?_
            exact hJ87 hG z74_0 hz74_0 hV _ (hL.sub [] rfl)
          · intro hV
            refine z_bipush hC rfl dX6_example_81 ?_
            refine z_goto (tgt := 87) hC dX6_example_83 (by decide) ?_
            exact hJ87 hG (-4) (inR_lit rfl) hV _ (hL.sub [] rfl)
        refine z_icmp_ge (tgt := 69) hC hp0 (inR_lit rfl) hV dX6_example_61 (by decide) ?_ ?_
        · intro hV
          refine z_aload_n hC zvr_a rfl (hL.at 0 rfl) dX6_example_69 ?_
          refine z_iload_n hC rfl (hL.at 1 rfl) dX6_example_70 ?_
          refine z_call_i hG (zrunV (ci := 6) hC hG (Nat.le_of_ble_eq_true rfl) (Nat.le_of_ble_eq_true rfl) (zobj hG rfl (Nat.le_of_ble_eq_true rfl) (Nat.le_of_ble_eq_true rfl)) (mX6_factAt l P G3 p0 hp0 hV) kVX6_305 rfl rfl rfl ⟨(Nat.le_of_ble_eq_true rfl), (Nat.le_of_ble_eq_true rfl)⟩ ⟨(Nat.le_of_ble_eq_true rfl), (Nat.le_of_ble_eq_true rfl)⟩ rfl ⟨zcs_0, (Nat.le_of_ble_eq_true rfl)⟩ hL.1.1 dX6_example_71) ?_
          rintro x3 G4 _ _ hx3 hV hG
          exact hJ74 x3 G4 hx3 hV _ _ _ hG (hL.sub [] rfl)
        · intro hV
          refine z_bipush hC rfl dX6_example_64 ?_
          refine z_goto (tgt := 74) hC dX6_example_66 (by decide) ?_
          exact hJ74 (-9) G3 (inR_lit rfl) hV _ _ _ hG (hL.sub [] rfl)
      · intro hV
        refine z_iconst hC dX6_example_47 ?_
        exact z_iret hC hG hr hk (inR_lit rfl) hV (Nat.le_of_ble_eq_true rfl) (Nat.le_of_ble_eq_true rfl) dX6_example_48
    refine z_icmp_ne (tgt := 40) hC hy30_2 (inR_lit rfl) hV dX6_example_33 (by decide) ?_ ?_
    · intro hV
      refine z_iconst hC dX6_example_40 ?_
      exact hJ41 hG 0 (Or.inl rfl) hV _ hL
    · intro hV
      refine z_iconst hC dX6_example_36 ?_
      refine z_goto (tgt := 41) hC dX6_example_37 (by decide) ?_
      exact hJ41 hG 1 (Or.inr rfl) hV _ hL
  refine z_if_le (tgt := 30) hC hx1 hV dX6_example_6 (by decide) ?_ ?_
  · intro hV
    exact hJ30 (-1) G (inR_lit rfl) hV _ _ _ hG (hL.sub [1, 2, 0] rfl)
  · intro hV
    refine z_aload_n hC zvr_a rfl (hL.at 1 rfl) dX6_example_9 ?_
    refine z_iconst hC dX6_example_10 ?_
    refine z_call_v hG (zrunV (ci := 6) hC hG (Nat.le_of_ble_eq_true rfl) (Nat.le_of_ble_eq_true rfl) (zobj hG rfl (Nat.le_of_ble_eq_true rfl) (Nat.le_of_ble_eq_true rfl)) (mX6_build l P G 2 (inR_lit rfl) hV) kVX6_364 rfl rfl rfl ⟨(Nat.le_of_ble_eq_true rfl), (Nat.le_of_ble_eq_true rfl)⟩ ⟨(Nat.le_of_ble_eq_true rfl), (Nat.le_of_ble_eq_true rfl)⟩ rfl ⟨zcs_0, (Nat.le_of_ble_eq_true rfl)⟩ hL.1.1 dX6_example_11) ?_
    rintro G5 _ _ hV hG
    refine z_aload_n hC zvr_a rfl (hL.at 1 rfl) dX6_example_14 ?_
    refine z_getF hC hG kFX6_348_6 rfl rfl hV dX6_example_15 ?_
    intro x4 hx4 hV
    obtain ⟨J29, eJ29, hV⟩ := zjn_abs hV
    have hJ29 : ∀ (z29_0 : Int) (H29 : ZG), inR z29_0 → J29 z29_0 H29 → ∀ (H : Heap) (locs : List Loc) (ls : Array Slot), zS P s H29 H locs → zL ls 4 [(0, .ref (zA P 5 0 0)), (1, .int (zI p0))] → W p l e rX6_example s m args below meth c H locs 0 0 (MQ below (zQi P Q) args s 0 0 (zAr P)) (F0 m 29 ls [.int (zI z29_0)]) := by
      intro z29_0 H29 hz29_0 hV H locs ls hG hL
      rw [eJ29] at hV
      refine z_istore_n (lv' := [(2, .int (zI z29_0)), (0, .ref (zA P 5 0 0)), (1, .int (zI p0))]) hC rfl hL (by decide) rfl dX6_example_29 (fun ls hL => ?_)
      exact hJ30 z29_0 H29 hz29_0 hV _ _ _ hG (hL.sub [1, 2, 0] rfl)
    refine z_if_eq (tgt := 25) hC hx4 hV dX6_example_18 (by decide) ?_ ?_
    · intro hV
      refine z_aload_n hC zvr_a rfl (hL.at 1 rfl) dX6_example_25 ?_
      refine z_call_i hG (zrunV (ci := 6) hC hG (Nat.le_of_ble_eq_true rfl) (Nat.le_of_ble_eq_true rfl) (zobj hG rfl (Nat.le_of_ble_eq_true rfl) (Nat.le_of_ble_eq_true rfl)) (mX6_firstMissed l P G5 hV) kVX6_383 rfl rfl rfl ⟨(Nat.le_of_ble_eq_true rfl), (Nat.le_of_ble_eq_true rfl)⟩ ⟨(Nat.le_of_ble_eq_true rfl), (Nat.le_of_ble_eq_true rfl)⟩ rfl ⟨zcs_0, (Nat.le_of_ble_eq_true rfl)⟩ hL.1.1 dX6_example_26) ?_
      rintro x5 G6 _ _ hx5 hV hG
      exact hJ29 x5 G6 hx5 hV _ _ _ hG (hL.sub [1, 2] rfl)
    · intro hV
      refine z_iconst hC dX6_example_21 ?_
      refine z_goto (tgt := 29) hC dX6_example_22 (by decide) ?_
      exact hJ29 (-1) G5 (inR_lit rfl) hV _ _ _ hG (hL.sub [1, 2] rfl)
abbrev rX6_isUsed : Room := { frames := 10, cells := 0, slots := 0, locals := 227 }
def vX6_isUsed (p0 : Int) (G : ZG) (Q : Int → ZG → Prop) : Prop := vX6_isCase p0 G fun (x1 : Int) => zjn (fun (H15 : ZG) => zjn (fun (z36_1 : Int) => vX6_refused z36_1 H15 fun (x2 : Int) (G1 : ZG) => zbr (x2 = 0) (zl2 (fun (P49 : Int → Int → Prop) (a49_3 : Int) (a49_4 : Int) => zgF G1 5 56 fun (x3 : Int) => zbr (x3 ≤ a49_4) (Q a49_3 G1) (zjn (fun (z99_0 : Int) => zlt1 (w32 (a49_4 + 1)) fun (x4 : Int) => P49 z99_0 x4) fun J99 => zjn (fun (_ : Unit) => J99 1) fun J94 => zbr (a49_3 ≠ 0) (J94 ()) (zaL G1 5 58 512 a49_4 fun (x5 : Int) => zjn (fun (_ : Unit) => J99 0) fun J98 => zjn (fun (_ : Unit) => zaL G1 5 59 512 a49_4 fun (x6 : Int) => zbr (x6 ≠ p0) (J98 ()) (J94 ())) fun J83 => zbr (x5 = 0) (J83 ()) (zaL G1 5 58 512 a49_4 fun (x7 : Int) => zbr (x7 ≠ 1) (J98 ()) (J83 ()))))) 0 0) (Q 0 G1)) fun J36 => zbr (x1 ≠ 0) (zgF H15 5 55 fun (x8 : Int) => zbr (x8 = 0) (J36 0) (J36 2)) (J36 1)) fun J15 => zbr (x1 = 0) (J15 G) (vX6_build 2 G fun (G2 : ZG) => J15 G2)
set_option maxHeartbeats 4000000 in
theorem mX6_isUsed (l : Launch) (P : ZP) (G : ZG) (p0 : Int) (hp0 : inR p0) {Q : Int → ZG → Prop} (hV : vX6_isUsed p0 G Q) : Met l yX6_isUsed (ws_ yX6_isUsed cX6_isUsed 5 (some .boolean)) rX6_isUsed (zPc P G [.ref (zA P 5 0 0), .int (zI p0)]) (zQz P Q) 0 0 (zAr P) := by
  refine zMet RX6 (plainFor_of_name (by decide)) rfl (zcs_c rfl (zcs_c rfl zcs_0)) (Nat.le_of_ble_eq_true rfl) (fun p e s m args below meth c ls hC hr hk hn hG hL => ?_)
  unfold vX6_isUsed at hV
  refine z_aload_n hC zvr_a rfl (hL.at 0 rfl) dX6_isUsed_0 ?_
  refine z_iload_n hC rfl (hL.at 1 rfl) dX6_isUsed_1 ?_
  refine z_call_z hG (zrunV (ci := 6) hC hG (Nat.le_of_ble_eq_true rfl) (Nat.le_of_ble_eq_true rfl) (zobj hG rfl (Nat.le_of_ble_eq_true rfl) (Nat.le_of_ble_eq_true rfl)) (mX6_isCase l P G p0 hp0 hV) kVX6_248 rfl rfl rfl ⟨(Nat.le_of_ble_eq_true rfl), (Nat.le_of_ble_eq_true rfl)⟩ ⟨(Nat.le_of_ble_eq_true rfl), (Nat.le_of_ble_eq_true rfl)⟩ rfl ⟨zcs_0, (Nat.le_of_ble_eq_true rfl)⟩ hL.1.1 dX6_isUsed_2) ?_
  rintro x1 _ _ _ hx1 ⟨rfl, hV⟩ hG
  refine z_istore_n (lv' := [(2, .int (zI x1)), (0, .ref (zA P 5 0 0)), (1, .int (zI p0))]) hC rfl hL (by decide) rfl dX6_isUsed_5 (fun ls hL => ?_)
  refine z_iload_n hC rfl (hL.at 0 rfl) dX6_isUsed_6 ?_
  obtain ⟨J15, eJ15, hV⟩ := zjn_abs hV
  have hJ15 : ∀ (H15 : ZG), J15 H15 → ∀ (H : Heap) (locs : List Loc) (ls : Array Slot), zS P s H15 H locs → zL ls 5 [(0, .ref (zA P 5 0 0)), (1, .int (zI p0)), (2, .int (zI x1))] → W p l e rX6_isUsed s m args below meth c H locs 0 0 (MQ below (zQz P Q) args s 0 0 (zAr P)) (F0 m 15 ls []) := by
    intro H15 hV H locs ls hG hL
    rw [eJ15] at hV
    refine z_aload_n hC zvr_a rfl (hL.at 0 rfl) dX6_isUsed_15 ?_
    refine z_iload_n hC rfl (hL.at 2 rfl) dX6_isUsed_16 ?_
    obtain ⟨J36, eJ36, hV⟩ := zjn_abs hV
    have hJ36 : ∀ {H : Heap} {locs : List Loc}, zS P s H15 H locs → ∀ (z36_1 : Int), inR z36_1 → J36 z36_1 → ∀ (ls : Array Slot), zL ls 5 [(0, .ref (zA P 5 0 0)), (1, .int (zI p0))] → W p l e rX6_isUsed s m args below meth c H locs 0 0 (MQ below (zQz P Q) args s 0 0 (zAr P)) (F0 m 36 ls [.int (zI z36_1), .ref (zA P 5 0 0)]) := by
      intro H locs hG z36_1 hz36_1 hV ls hL
      rw [eJ36] at hV
      refine z_call_z hG (zrunV (ci := 6) hC hG (Nat.le_of_ble_eq_true rfl) (Nat.le_of_ble_eq_true rfl) (zobj hG rfl (Nat.le_of_ble_eq_true rfl) (Nat.le_of_ble_eq_true rfl)) (mX6_refused l P H15 z36_1 hz36_1 hV) kVX6_183 rfl rfl rfl ⟨(Nat.le_of_ble_eq_true rfl), (Nat.le_of_ble_eq_true rfl)⟩ ⟨(Nat.le_of_ble_eq_true rfl), (Nat.le_of_ble_eq_true rfl)⟩ rfl ⟨zcs_0, (Nat.le_of_ble_eq_true rfl)⟩ hL.1.1 dX6_isUsed_36) ?_
      rintro x2 G1 _ _ hx2 hV hG
      refine z_if_eq (tgt := 44) hC (inR_b hx2) hV dX6_isUsed_39 (by decide) ?_ ?_
      · intro hV
        refine z_iconst hC dX6_isUsed_44 ?_
        refine z_istore_n (lv' := [(3, .int (zI 0)), (0, .ref (zA P 5 0 0)), (1, .int (zI p0))]) hC rfl hL (by decide) rfl dX6_isUsed_45 (fun ls hL => ?_)
        refine z_iconst hC dX6_isUsed_46 ?_
        refine z_istore (lv' := [(4, .int (zI 0)), (3, .int (zI 0)), (0, .ref (zA P 5 0 0)), (1, .int (zI p0))]) hC hL (by decide) rfl dX6_isUsed_47 (fun ls hL => ?_)
        refine zl2_use hV (fun (a49_3 : Int) (a49_4 : Int) => (a49_3 = 0 ∨ a49_3 = 1) → inR a49_4 → ∀ (H : Heap) (locs : List Loc), zS P s G1 H locs → ∀ (ls : Array Slot), zL ls 5 [(0, .ref (zA P 5 0 0)), (1, .int (zI p0)), (3, .int (zI a49_3)), (4, .int (zI a49_4))] → W p l e rX6_isUsed s m args below meth c H locs 0 0 (MQ below (zQz P Q) args s 0 0 (zAr P)) (F0 m 49 ls [])) ?_ (Or.inl rfl) (inR_lit rfl) _ _ hG _ (hL.sub [2, 3, 1, 0] rfl)
        intro P49 a49_3 a49_4 hP49 hV ha49_3 ha49_4 H locs hG ls hL
        refine z_iload hC (hL.at 3 rfl) dX6_isUsed_49 ?_
        refine z_aload_n hC zvr_a rfl (hL.at 0 rfl) dX6_isUsed_51 ?_
        refine z_getF hC hG kFX6_321_6 rfl rfl hV dX6_isUsed_52 ?_
        intro x3 hx3 hV
        refine z_icmp_ge (tgt := 106) hC ha49_4 hx3 hV dX6_isUsed_55 (by decide) ?_ ?_
        · intro hV
          refine z_iload_n hC rfl (hL.at 2 rfl) dX6_isUsed_106 ?_
          exact z_zret hC hG hr hk ha49_3 hV (Nat.le_of_ble_eq_true rfl) (Nat.le_of_ble_eq_true rfl) dX6_isUsed_107
        · intro hV
          refine z_iload_n hC rfl (hL.at 2 rfl) dX6_isUsed_58 ?_
          obtain ⟨J99, eJ99, hV⟩ := zjn_abs hV
          have hJ99 : ∀ {H : Heap} {locs : List Loc}, zS P s G1 H locs → ∀ (z99_0 : Int), (z99_0 = 0 ∨ z99_0 = 1) → J99 z99_0 → ∀ (ls : Array Slot), zL ls 5 [(0, .ref (zA P 5 0 0)), (1, .int (zI p0)), (4, .int (zI a49_4))] → W p l e rX6_isUsed s m args below meth c H locs 0 0 (MQ below (zQz P Q) args s 0 0 (zAr P)) (F0 m 99 ls [.int (zI z99_0)]) := by
            intro H locs hG z99_0 hz99_0 hV ls hL
            rw [eJ99] at hV
            refine z_istore_n (lv' := [(3, .int (zI z99_0)), (0, .ref (zA P 5 0 0)), (1, .int (zI p0)), (4, .int (zI a49_4))]) hC rfl hL (by decide) rfl dX6_isUsed_99 (fun ls hL => ?_)
            refine z_iincV (fun x4 => [(4, .int (zI x4)), (3, .int (zI z99_0)), (0, .ref (zA P 5 0 0)), (1, .int (zI p0))]) hC hL (k := 3) rfl (by decide) (fun _ => rfl) hV dX6_isUsed_100 ?_
            intro x4 hx4 hV ls hL
            refine z_goto (tgt := 49) hC dX6_isUsed_103 (by decide) ?_
            exact hP49 z99_0 x4 hV hz99_0 hx4 _ _ hG _ (hL.sub [2, 3, 1, 0] rfl)
          obtain ⟨J94, eJ94, hV⟩ := zjn_abs hV
          have hJ94 : ∀ {H : Heap} {locs : List Loc}, zS P s G1 H locs → J94 () → ∀ (ls : Array Slot), zL ls 5 [(0, .ref (zA P 5 0 0)), (1, .int (zI p0)), (4, .int (zI a49_4))] → W p l e rX6_isUsed s m args below meth c H locs 0 0 (MQ below (zQz P Q) args s 0 0 (zAr P)) (F0 m 94 ls []) := by
            intro H locs hG hV ls hL
            rw [eJ94] at hV
            refine z_iconst hC dX6_isUsed_94 ?_
            refine z_goto (tgt := 99) hC dX6_isUsed_95 (by decide) ?_
            exact hJ99 hG 1 (Or.inr rfl) hV _ hL
          refine z_if_ne (tgt := 94) hC (inR_b ha49_3) hV dX6_isUsed_59 (by decide) ?_ ?_
          · intro hV
            exact hJ94 hG hV _ (hL.sub [0, 1, 3] rfl)
          · intro hV
            refine z_aload_n hC zvr_a rfl (hL.at 0 rfl) dX6_isUsed_62 ?_
            refine z_getA hC hG kFX6_131_6 rfl rfl dX6_isUsed_63 ?_
            refine z_iload hC (hL.at 3 rfl) dX6_isUsed_66 ?_
            refine z_iald hC hG rfl rfl rfl ha49_4 hV dX6_isUsed_68 ?_
            intro x5 hx5 hV
            obtain ⟨J98, eJ98, hV⟩ := zjn_abs hV
            have hJ98 : ∀ {H : Heap} {locs : List Loc}, zS P s G1 H locs → J98 () → ∀ (ls : Array Slot), zL ls 5 [(0, .ref (zA P 5 0 0)), (1, .int (zI p0)), (4, .int (zI a49_4))] → W p l e rX6_isUsed s m args below meth c H locs 0 0 (MQ below (zQz P Q) args s 0 0 (zAr P)) (F0 m 98 ls []) := by
              intro H locs hG hV ls hL
              rw [eJ98] at hV
              refine z_iconst hC dX6_isUsed_98 ?_
              exact hJ99 hG 0 (Or.inl rfl) hV _ hL
            obtain ⟨J83, eJ83, hV⟩ := zjn_abs hV
            have hJ83 : ∀ {H : Heap} {locs : List Loc}, zS P s G1 H locs → J83 () → ∀ (ls : Array Slot), zL ls 5 [(0, .ref (zA P 5 0 0)), (1, .int (zI p0)), (4, .int (zI a49_4))] → W p l e rX6_isUsed s m args below meth c H locs 0 0 (MQ below (zQz P Q) args s 0 0 (zAr P)) (F0 m 83 ls []) := by
              intro H locs hG hV ls hL
              rw [eJ83] at hV
              refine z_aload_n hC zvr_a rfl (hL.at 0 rfl) dX6_isUsed_83 ?_
              refine z_getA hC hG kFX6_134_6 rfl rfl dX6_isUsed_84 ?_
              refine z_iload hC (hL.at 2 rfl) dX6_isUsed_87 ?_
              refine z_iald hC hG rfl rfl rfl ha49_4 hV dX6_isUsed_89 ?_
              intro x6 hx6 hV
              refine z_iload_n hC rfl (hL.at 1 rfl) dX6_isUsed_90 ?_
              refine z_icmp_ne (tgt := 98) hC hx6 hp0 hV dX6_isUsed_91 (by decide) ?_ ?_
              · intro hV
                exact hJ98 hG hV _ hL
              · intro hV
                exact hJ94 hG hV _ hL
            refine z_if_eq (tgt := 83) hC hx5 hV dX6_isUsed_69 (by decide) ?_ ?_
            · intro hV
              exact hJ83 hG hV _ (hL.sub [0, 1, 3] rfl)
            · intro hV
              refine z_aload_n hC zvr_a rfl (hL.at 0 rfl) dX6_isUsed_72 ?_
              refine z_getA hC hG kFX6_131_6 rfl rfl dX6_isUsed_73 ?_
              refine z_iload hC (hL.at 3 rfl) dX6_isUsed_76 ?_
              refine z_iald hC hG rfl rfl rfl ha49_4 hV dX6_isUsed_78 ?_
              intro x7 hx7 hV
              refine z_iconst hC dX6_isUsed_79 ?_
              refine z_icmp_ne (tgt := 98) hC hx7 (inR_lit rfl) hV dX6_isUsed_80 (by decide) ?_ ?_
              · intro hV
                exact hJ98 hG hV _ (hL.sub [0, 1, 3] rfl)
              · intro hV
                exact hJ83 hG hV _ (hL.sub [0, 1, 3] rfl)
      · intro hV
        refine z_iconst hC dX6_isUsed_42 ?_
        exact z_zret hC hG hr hk (Or.inl rfl) hV (Nat.le_of_ble_eq_true rfl) (Nat.le_of_ble_eq_true rfl) dX6_isUsed_43
    refine z_if_ne (tgt := 24) hC (inR_b hx1) hV dX6_isUsed_17 (by decide) ?_ ?_
    · intro hV
      refine z_aload_n hC zvr_a rfl (hL.at 0 rfl) dX6_isUsed_24 ?_
      refine z_getF hC hG kFX6_348_6 rfl rfl hV dX6_isUsed_25 ?_
      intro x8 hx8 hV
      refine z_if_eq (tgt := 35) hC hx8 hV dX6_isUsed_28 (by decide) ?_ ?_
      · intro hV
        refine z_iconst hC dX6_isUsed_35 ?_
        exact hJ36 hG 0 (inR_lit rfl) hV _ (hL.sub [0, 1] rfl)
      · intro hV
        refine z_iconst hC dX6_isUsed_31 ?_
        refine z_goto (tgt := 36) hC dX6_isUsed_32 (by decide) ?_
        exact hJ36 hG 2 (inR_lit rfl) hV _ (hL.sub [0, 1] rfl)
    · intro hV
      refine z_iconst hC dX6_isUsed_20 ?_
      refine z_goto (tgt := 36) hC dX6_isUsed_21 (by decide) ?_
      exact hJ36 hG 1 (inR_lit rfl) hV _ (hL.sub [0, 1] rfl)
  refine z_if_eq (tgt := 15) hC (inR_b hx1) hV dX6_isUsed_7 (by decide) ?_ ?_
  · intro hV
    exact hJ15 G hV _ _ _ hG (hL.sub [1, 2, 0] rfl)
  · intro hV
    refine z_aload_n hC zvr_a rfl (hL.at 1 rfl) dX6_isUsed_10 ?_
    refine z_iconst hC dX6_isUsed_11 ?_
    refine z_call_v hG (zrunV (ci := 6) hC hG (Nat.le_of_ble_eq_true rfl) (Nat.le_of_ble_eq_true rfl) (zobj hG rfl (Nat.le_of_ble_eq_true rfl) (Nat.le_of_ble_eq_true rfl)) (mX6_build l P G 2 (inR_lit rfl) hV) kVX6_364 rfl rfl rfl ⟨(Nat.le_of_ble_eq_true rfl), (Nat.le_of_ble_eq_true rfl)⟩ ⟨(Nat.le_of_ble_eq_true rfl), (Nat.le_of_ble_eq_true rfl)⟩ rfl ⟨zcs_0, (Nat.le_of_ble_eq_true rfl)⟩ hL.1.1 dX6_isUsed_12) ?_
    rintro G2 _ _ hV hG
    exact hJ15 G2 hV _ _ _ hG (hL.sub [1, 2, 0] rfl)
