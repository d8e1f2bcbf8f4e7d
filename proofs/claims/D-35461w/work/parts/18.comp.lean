set_option maxRecDepth 100000
abbrev rJ4_max : Room := { frames := 1, cells := 0, slots := 0, locals := 12 }
def vJ4_max (p0 : Int) (p1 : Int) (Q : Int → Prop) : Prop := zjn (fun (z10_0 : Int) => Q z10_0) fun J10 => zbr (p0 < p1) (J10 p1) (J10 p0)
set_option maxHeartbeats 4000000 in
theorem mJ4_max (l : Launch) (P : ZP) (G : ZG) (p0 : Int) (hp0 : inR p0) (p1 : Int) (hp1 : inR p1) {Q : Int → Prop} (hV : vJ4_max p0 p1 Q) : Met l yJ4_max (ws_ yJ4_max cJ4_max 2 (some .int)) rJ4_max (zPc P G [.int (zI p0), .int (zI p1)]) (zQi P (fun r G2 => G = G2 ∧ Q r)) 0 0 (zAr P) := by
  refine zMet RJ4 (by decide +kernel) rfl (zcs_c rfl (zcs_c rfl zcs_0)) (Nat.le_of_ble_eq_true rfl) (fun p e s m args below meth c ls hC hr hk hn hG hL => ?_)
  unfold vJ4_max at hV
  refine z_iload_n hC rfl (hL.at 0 rfl) dJ4_max_0 ?_
  refine z_iload_n hC rfl (hL.at 1 rfl) dJ4_max_1 ?_
  obtain ⟨J10, eJ10, hV⟩ := zjn_abs hV
  have hJ10 : ∀ {H : Heap} {locs : List Loc}, zS P s G H locs → ∀ (z10_0 : Int), inR z10_0 → J10 z10_0 → ∀ (ls : Array Slot), zL ls 2 [] → W p l e rJ4_max s m args below meth c H locs 0 0 (MQ below (zQi P (fun r G2 => G = G2 ∧ Q r)) args s 0 0 (zAr P)) (F0 m 10 ls [.int (zI z10_0)]) := by
    intro H locs hG z10_0 hz10_0 hV ls hL
    rw [eJ10] at hV
    exact z_iret hC hG hr hk hz10_0 ⟨rfl, hV⟩ (Nat.le_of_ble_eq_true rfl) (Nat.le_of_ble_eq_true rfl) dJ4_max_10
  refine z_icmp_lt (tgt := 9) hC hp0 hp1 hV dJ4_max_2 (by decide) ?_ ?_
  · intro hV
    refine z_iload_n hC rfl (hL.at 1 rfl) dJ4_max_9 ?_
    exact hJ10 hG p1 hp1 hV _ (hL.sub [] rfl)
  · intro hV
    refine z_iload_n hC rfl (hL.at 0 rfl) dJ4_max_5 ?_
    refine z_goto (tgt := 10) hC dJ4_max_6 (by decide) ?_
    exact hJ10 hG p0 hp0 hV _ (hL.sub [] rfl)
abbrev rJ3_newLength : Room := { frames := 2, cells := 0, slots := 0, locals := 33 }
def vJ3_newLength (p0 : Int) (p1 : Int) (p2 : Int) (Q : Int → Prop) : Prop := vJ4_max p1 p2 fun (x1 : Int) => zlt1 (w32 (p0 + x1)) fun (x2 : Int) => zjn (fun (_ : Unit) => False) fun J21 => zbr (x2 ≤ 0) (J21 ()) (zbr (2147483639 < x2) (J21 ()) (Q x2))
set_option maxHeartbeats 4000000 in
theorem mJ3_newLength (l : Launch) (P : ZP) (G : ZG) (p0 : Int) (hp0 : inR p0) (p1 : Int) (hp1 : inR p1) (p2 : Int) (hp2 : inR p2) {Q : Int → Prop} (hV : vJ3_newLength p0 p1 p2 Q) : Met l yJ3_newLength (ws_ yJ3_newLength cJ3_newLength 4 (some .int)) rJ3_newLength (zPc P G [.int (zI p0), .int (zI p1), .int (zI p2)]) (zQi P (fun r G2 => G = G2 ∧ Q r)) 0 0 (zAr P) := by
  refine zMet RJ3 (by decide +kernel) rfl (zcs_c rfl (zcs_c rfl (zcs_c rfl zcs_0))) (Nat.le_of_ble_eq_true rfl) (fun p e s m args below meth c ls hC hr hk hn hG hL => ?_)
  unfold vJ3_newLength at hV
  refine z_iload_n hC rfl (hL.at 0 rfl) dJ3_newLength_0 ?_
  refine z_iload_n hC rfl (hL.at 1 rfl) dJ3_newLength_1 ?_
  refine z_iload_n hC rfl (hL.at 2 rfl) dJ3_newLength_2 ?_
  refine z_call_i hG (zrunS hC hG (mJ4_max l P G p1 hp1 p2 hp2 hV) kSJ3_194 rfl rfl rfl ⟨(Nat.le_of_ble_eq_true rfl), (Nat.le_of_ble_eq_true rfl)⟩ ⟨(Nat.le_of_ble_eq_true rfl), (Nat.le_of_ble_eq_true rfl)⟩ rfl ⟨(zcs_c rfl zcs_0), (Nat.le_of_ble_eq_true rfl)⟩ hL.1.1 dJ3_newLength_3) ?_
  rintro x1 _ _ _ hx1 ⟨rfl, hV⟩ hG
  refine z_iadd hC dJ3_newLength_6 ?_
  refine z_top hV (inR_w _) ?_
  intro x2 hx2 hV
  refine z_istore_n (lv' := [(3, .int (zI x2)), (0, .int (zI p0)), (1, .int (zI p1)), (2, .int (zI p2))]) hC rfl hL (by decide) rfl dJ3_newLength_7 (fun ls hL => ?_)
  refine z_iconst hC dJ3_newLength_8 ?_
  refine z_iload_n hC rfl (hL.at 0 rfl) dJ3_newLength_9 ?_
  obtain ⟨J21, eJ21, hV⟩ := zjn_abs hV
  have hJ21 : ∀ {H : Heap} {locs : List Loc}, zS P s G H locs → J21 () → ∀ (ls : Array Slot), zL ls 4 [(0, .int (zI p0)), (1, .int (zI p1))] → W p l e rJ3_newLength s m args below meth c H locs 0 0 (MQ below (zQi P (fun r G2 => G = G2 ∧ Q r)) args s 0 0 (zAr P)) (F0 m 21 ls []) := by
    intro H locs hG hV ls hL
    rw [eJ21] at hV
    refine z_iload_n hC rfl (hL.at 0 rfl) dJ3_newLength_21 ?_
    refine z_iload_n hC rfl (hL.at 1 rfl) dJ3_newLength_22 ?_
    exact hV.elim
  refine z_icmp_ge (tgt := 21) hC (inR_lit rfl) hx2 hV dJ3_newLength_10 (by decide) ?_ ?_
  · intro hV
    exact hJ21 hG hV _ (hL.sub [1, 2] rfl)
  · intro hV
    refine z_iload_n hC rfl (hL.at 0 rfl) dJ3_newLength_13 ?_
    refine z_ldc (n := 2147483639) hC q350 rfl dJ3_newLength_14 ?_
    refine z_icmp_gt (tgt := 21) hC hx2 (inR_lit rfl) hV dJ3_newLength_16 (by decide) ?_ ?_
    · intro hV
      exact hJ21 hG hV _ (hL.sub [1, 2] rfl)
    · intro hV
      refine z_iload_n hC rfl (hL.at 0 rfl) dJ3_newLength_19 ?_
      exact z_iret hC hG hr hk hx2 ⟨rfl, hV⟩ (Nat.le_of_ble_eq_true rfl) (Nat.le_of_ble_eq_true rfl) dJ3_newLength_20
abbrev rJ4_min : Room := { frames := 1, cells := 0, slots := 0, locals := 12 }
def vJ4_min (p0 : Int) (p1 : Int) (Q : Int → Prop) : Prop := zjn (fun (z10_0 : Int) => Q z10_0) fun J10 => zbr (p1 < p0) (J10 p1) (J10 p0)
set_option maxHeartbeats 4000000 in
theorem mJ4_min (l : Launch) (P : ZP) (G : ZG) (p0 : Int) (hp0 : inR p0) (p1 : Int) (hp1 : inR p1) {Q : Int → Prop} (hV : vJ4_min p0 p1 Q) : Met l yJ4_min (ws_ yJ4_min cJ4_min 2 (some .int)) rJ4_min (zPc P G [.int (zI p0), .int (zI p1)]) (zQi P (fun r G2 => G = G2 ∧ Q r)) 0 0 (zAr P) := by
  refine zMet RJ4 (by decide +kernel) rfl (zcs_c rfl (zcs_c rfl zcs_0)) (Nat.le_of_ble_eq_true rfl) (fun p e s m args below meth c ls hC hr hk hn hG hL => ?_)
  unfold vJ4_min at hV
  refine z_iload_n hC rfl (hL.at 0 rfl) dJ4_min_0 ?_
  refine z_iload_n hC rfl (hL.at 1 rfl) dJ4_min_1 ?_
  obtain ⟨J10, eJ10, hV⟩ := zjn_abs hV
  have hJ10 : ∀ {H : Heap} {locs : List Loc}, zS P s G H locs → ∀ (z10_0 : Int), inR z10_0 → J10 z10_0 → ∀ (ls : Array Slot), zL ls 2 [] → W p l e rJ4_min s m args below meth c H locs 0 0 (MQ below (zQi P (fun r G2 => G = G2 ∧ Q r)) args s 0 0 (zAr P)) (F0 m 10 ls [.int (zI z10_0)]) := by
    intro H locs hG z10_0 hz10_0 hV ls hL
    rw [eJ10] at hV
    exact z_iret hC hG hr hk hz10_0 ⟨rfl, hV⟩ (Nat.le_of_ble_eq_true rfl) (Nat.le_of_ble_eq_true rfl) dJ4_min_10
  refine z_icmp_gt (tgt := 9) hC hp0 hp1 hV dJ4_min_2 (by decide) ?_ ?_
  · intro hV
    refine z_iload_n hC rfl (hL.at 1 rfl) dJ4_min_9 ?_
    exact hJ10 hG p1 hp1 hV _ (hL.sub [] rfl)
  · intro hV
    refine z_iload_n hC rfl (hL.at 0 rfl) dJ4_min_5 ?_
    refine z_goto (tgt := 10) hC dJ4_min_6 (by decide) ?_
    exact hJ10 hG p0 hp0 hV _ (hL.sub [] rfl)
abbrev rJ5_copyOf_2 : Room := { frames := 2, cells := 1, slots := 100, locals := 68 }
def vJ5_copyOf_2 (p0 : ZR) (p1 : Int) (p2 : ZR) (G : ZG) (Q : ZR → ZG → Prop) : Prop := zjn (fun (z24_0 : ZR) (H24 : ZG) => zeN H24 p0 fun (x1 : Int) => vJ4_min x1 p1 fun (x2 : Int) => zcpR H24 p0 0 z24_0 0 x2 fun (G1 : ZG) => Q z24_0 G1) fun J24 => zok G p2 ∧ zok G (some (.inr 18)) ∧ zfam p2 (some (.inr 18)) ∧ zbr (p2 ≠ (some (.inr 18))) (False) (znR0 G 3 p1 100 fun (x3 : ZR) (G2 : ZG) => J24 x3 G2)
set_option maxHeartbeats 4000000 in
theorem mJ5_copyOf_2 (l : Launch) (P : ZP) (G : ZG) (p0 : ZR) (p1 : Int) (hp1 : inR p1) (p2 : ZR) {Q : ZR → ZG → Prop} (hV : vJ5_copyOf_2 p0 p1 p2 G Q) : Met l yJ5_copyOf_2 (ws_ yJ5_copyOf_2 cJ5_copyOf_2 4 (some (.array (.object "java/lang/Object")))) rJ5_copyOf_2 (zPc P G [zrv P p0, .int (zI p1), zrv P p2]) (zQr P Q) 1 100 (zAr P) := by
  refine zMet RJ5 (by decide +kernel) rfl (zcs_c (zrv_cat _ _) (zcs_c rfl (zcs_c (zrv_cat _ _) zcs_0))) (Nat.le_of_ble_eq_true rfl) (fun p e s m args below meth c ls hC hr hk hn hG hL => ?_)
  unfold vJ5_copyOf_2 at hV
  refine z_aload_n hC zvr_r rfl (hL.at 2 rfl) dJ5_copyOf_2_0 ?_
  refine z_ldcM hC q390 dJ5_copyOf_2_1 ?_
  obtain ⟨J24, eJ24, hV⟩ := zjn_abs hV
  have hJ24 : ∀ (z24_0 : ZR) (H24 : ZG), J24 z24_0 H24 → ∀ (H : Heap) (locs : List Loc) (ls : Array Slot), zS P s H24 H locs → zL ls 4 [(0, zrv P p0), (1, .int (zI p1))] → W p l e rJ5_copyOf_2 s m args below meth c H locs 1 100 (MQ below (zQr P Q) args s 1 100 (zAr P)) (F0 m 24 ls [zrv P z24_0]) := by
    intro z24_0 H24 hV H locs ls hG hL
    rw [eJ24] at hV
    refine z_astore_n (lv' := [(3, zrv P z24_0), (0, zrv P p0), (1, .int (zI p1))]) hC zvr_r rfl hL (by decide) rfl dJ5_copyOf_2_24 (fun ls hL => ?_)
    refine z_aload_n hC zvr_r rfl (hL.at 1 rfl) dJ5_copyOf_2_25 ?_
    refine z_iconst hC dJ5_copyOf_2_26 ?_
    refine z_aload_n hC zvr_r rfl (hL.at 0 rfl) dJ5_copyOf_2_27 ?_
    refine z_iconst hC dJ5_copyOf_2_28 ?_
    refine z_aload_n hC zvr_r rfl (hL.at 1 rfl) dJ5_copyOf_2_29 ?_
    refine z_alenD hC hG hV dJ5_copyOf_2_30 ?_
    intro x1 hx1 hV
    refine z_iload_n hC rfl (hL.at 2 rfl) dJ5_copyOf_2_31 ?_
    refine z_call_i hG (zrunS hC hG (mJ4_min l P H24 x1 hx1 p1 hp1 hV) kSJ5_304 rfl rfl rfl ⟨(Nat.le_of_ble_eq_true rfl), (Nat.le_of_ble_eq_true rfl)⟩ ⟨(Nat.le_of_ble_eq_true rfl), (Nat.le_of_ble_eq_true rfl)⟩ rfl ⟨(zcs_c rfl (zcs_c (zrv_cat _ _) (zcs_c rfl (zcs_c (zrv_cat _ _) zcs_0)))), (Nat.le_of_ble_eq_true rfl)⟩ hL.1.1 dJ5_copyOf_2_32) ?_
    rintro x2 _ _ _ hx2 ⟨rfl, hV⟩ hG
    refine z_acpR hC hG hL.1.1 kAJ5_150 (inR_lit rfl) (inR_lit rfl) hx2 hV ⟨zcs_0, (Nat.le_of_ble_eq_true rfl)⟩ ⟨(Nat.le_of_ble_eq_true rfl), (Nat.le_of_ble_eq_true rfl)⟩ dJ5_copyOf_2_35 ?_
    intro G1 _ _ hG hV
    refine z_aload_n hC zvr_r rfl (hL.at 0 rfl) dJ5_copyOf_2_38 ?_
    exact z_aret (r := z24_0) hC hG hr hk (Or.inr ⟨_, rfl⟩) hV (Nat.le_of_ble_eq_true rfl) (Nat.le_of_ble_eq_true rfl) dJ5_copyOf_2_39
  refine z_acmp_ne (x := p2) (y := (some (.inr 18))) (tgt := 13) hC hG hV dJ5_copyOf_2_3 (by decide) ?_ ?_
  · intro hV
    refine z_aload_n hC zvr_r rfl (hL.at 2 rfl) dJ5_copyOf_2_13 ?_
    exact hV.elim
  · intro hV
    refine z_iload_n hC rfl (hL.at 1 rfl) dJ5_copyOf_2_6 ?_
    refine z_anew hC hG (k := 3) (Or.inl rfl) q392 xq391 hp1 (Nat.le_of_ble_eq_true rfl) hV (Nat.le_of_ble_eq_true rfl) (Nat.le_of_ble_eq_true rfl) dJ5_copyOf_2_7 ?_
    intro x3 G2 _ hG hV
    refine z_goto (tgt := 24) hC dJ5_copyOf_2_10 (by decide) ?_
    exact hJ24 x3 G2 hV _ _ _ hG (hL.sub [0, 1] rfl)
abbrev rJ5_copyOf : Room := { frames := 3, cells := 1, slots := 100, locals := 91 }
def vJ5_copyOf (p0 : ZR) (p1 : Int) (G : ZG) (Q : ZR → ZG → Prop) : Prop := zcaO G p0 ∧ vJ5_copyOf_2 p0 p1 (some (.inr 18)) G fun (x1 : ZR) (G1 : ZG) => Q x1 G1
set_option maxHeartbeats 4000000 in
theorem mJ5_copyOf (l : Launch) (P : ZP) (G : ZG) (p0 : ZR) (p1 : Int) (hp1 : inR p1) {Q : ZR → ZG → Prop} (hV : vJ5_copyOf p0 p1 G Q) : Met l yJ5_copyOf (ws_ yJ5_copyOf cJ5_copyOf 2 (some (.array (.object "java/lang/Object")))) rJ5_copyOf (zPc P G [zrv P p0, .int (zI p1)]) (zQr P Q) 1 100 (zAr P) := by
  refine zMet RJ5 (by decide +kernel) rfl (zcs_c (zrv_cat _ _) (zcs_c rfl zcs_0)) (Nat.le_of_ble_eq_true rfl) (fun p e s m args below meth c ls hC hr hk hn hG hL => ?_)
  unfold vJ5_copyOf at hV
  refine z_aload_n hC zvr_r rfl (hL.at 0 rfl) dJ5_copyOf_0 ?_
  refine z_iload_n hC rfl (hL.at 1 rfl) dJ5_copyOf_1 ?_
  refine z_aload_n hC zvr_r rfl (hL.at 0 rfl) dJ5_copyOf_2 ?_
  refine z_getC hC hG hL.1.1 kGJ5_86 hV ⟨(zcs_c rfl (zcs_c (zrv_cat _ _) zcs_0)), (Nat.le_of_ble_eq_true rfl)⟩ ⟨(Nat.le_of_ble_eq_true rfl), (Nat.le_of_ble_eq_true rfl)⟩ dJ5_copyOf_3 (fun hV => ?_)
  refine z_call_r hG (zrunS hC hG (mJ5_copyOf_2 l P G p0 p1 hp1 (some (.inr 18)) hV) kSJ5_300 rfl rfl rfl ⟨(Nat.le_of_ble_eq_true rfl), (Nat.le_of_ble_eq_true rfl)⟩ ⟨(Nat.le_of_ble_eq_true rfl), (Nat.le_of_ble_eq_true rfl)⟩ rfl ⟨zcs_0, (Nat.le_of_ble_eq_true rfl)⟩ hL.1.1 dJ5_copyOf_6) ?_
  rintro x1 G1 _ _  hV hG
  exact z_aret (r := x1) hC hG hr hk (Or.inr ⟨_, rfl⟩) hV (Nat.le_of_ble_eq_true rfl) (Nat.le_of_ble_eq_true rfl) dJ5_copyOf_9
abbrev rJ2_grow_2 : Room := { frames := 4, cells := 1, slots := 100, locals := 112 }
def vJ2_grow_2 (o : Nat) (p0 : Int) (G : ZG) (Q : ZR → ZG → Prop) : Prop := zgU G o 1 fun (x1 : ZR) => zeN G x1 fun (x2 : Int) => zjn (fun (_ : Unit) => vJ3_newLength x2 (w32 (p0 - x2)) (bShr x2 1) fun (x3 : Int) => zgU G o 1 fun (x4 : ZR) => vJ5_copyOf x4 x3 G fun (x5 : ZR) (G1 : ZG) => zpU G1 o 1 x5 fun (G2 : ZG) => Q x5 G2) fun J20 => zbr (0 < x2) (J20 ()) (zgU G o 1 fun (x6 : ZR) => zok G x6 ∧ zok G (some (.inr 16)) ∧ zfam x6 (some (.inr 16)) ∧ zbr (x6 = (some (.inr 16))) (vJ4_max 10 p0 fun (x7 : Int) => znR0 G 3 x7 100 fun (x8 : ZR) (G3 : ZG) => zpU G3 o 1 x8 fun (G4 : ZG) => Q x8 G4) (J20 ()))
set_option maxHeartbeats 4000000 in
theorem mJ2_grow_2 (l : Launch) (P : ZP) (G : ZG) (o : Nat) (ho : tCls o = 2) (p0 : Int) (hp0 : inR p0) {Q : ZR → ZG → Prop} (hV : vJ2_grow_2 o p0 G Q) : Met l yJ2_grow_2 (ws_ yJ2_grow_2 cJ2_grow_2 4 (some (.array (.object "java/lang/Object")))) rJ2_grow_2 (zPc P G [.ref (zA P o 0 0), .int (zI p0)]) (zQr P Q) 1 100 (zAr P) := by
  refine zMet RJ2 (by decide +kernel) rfl (zcs_c rfl (zcs_c rfl zcs_0)) (Nat.le_of_ble_eq_true rfl) (fun p e s m args below meth c ls hC hr hk hn hG hL => ?_)
  unfold vJ2_grow_2 at hV
  refine z_aload_n hC zvr_a rfl (hL.at 0 rfl) dJ2_grow_2_0 ?_
  refine z_getU hC hG kFJ2_9_2 ho rfl hV dJ2_grow_2_1 ?_
  intro x1 hV
  refine z_alenD hC hG hV dJ2_grow_2_4 ?_
  intro x2 hx2 hV
  refine z_istore_n (lv' := [(2, .int (zI x2)), (0, .ref (zA P o 0 0)), (1, .int (zI p0))]) hC rfl hL (by decide) rfl dJ2_grow_2_5 (fun ls hL => ?_)
  refine z_iload_n hC rfl (hL.at 0 rfl) dJ2_grow_2_6 ?_
  obtain ⟨J20, eJ20, hV⟩ := zjn_abs hV
  have hJ20 : ∀ {H : Heap} {locs : List Loc}, zS P s G H locs → J20 () → ∀ (ls : Array Slot), zL ls 4 [(0, .ref (zA P o 0 0)), (1, .int (zI p0)), (2, .int (zI x2))] → W p l e rJ2_grow_2 s m args below meth c H locs 0 0 (MQ below (zQr P Q) args s 1 100 (zAr P)) (F0 m 20 ls []) := by
    intro H locs hG hV ls hL
    rw [eJ20] at hV
    refine z_iload_n hC rfl (hL.at 2 rfl) dJ2_grow_2_20 ?_
    refine z_iload_n hC rfl (hL.at 1 rfl) dJ2_grow_2_21 ?_
    refine z_iload_n hC rfl (hL.at 2 rfl) dJ2_grow_2_22 ?_
    refine z_isub hC dJ2_grow_2_23 ?_
    refine z_iload_n hC rfl (hL.at 2 rfl) dJ2_grow_2_24 ?_
    refine z_iconst hC dJ2_grow_2_25 ?_
    refine z_ishr hC dJ2_grow_2_26 ?_
    refine z_call_i hG (zrunS hC hG (mJ3_newLength l P G x2 hx2 (w32 (p0 - x2)) (inR_w _) (bShr x2 1) (inR_toInt _) hV) kSJ2_73 rfl rfl rfl ⟨(Nat.le_of_ble_eq_true rfl), (Nat.le_of_ble_eq_true rfl)⟩ ⟨(Nat.le_of_ble_eq_true rfl), (Nat.le_of_ble_eq_true rfl)⟩ rfl ⟨zcs_0, (Nat.le_of_ble_eq_true rfl)⟩ hL.1.1 dJ2_grow_2_27) ?_
    rintro x3 _ _ _ hx3 ⟨rfl, hV⟩ hG
    refine z_istore_n (lv' := [(3, .int (zI x3)), (0, .ref (zA P o 0 0)), (1, .int (zI p0)), (2, .int (zI x2))]) hC rfl hL (by decide) rfl dJ2_grow_2_30 (fun ls hL => ?_)
    refine z_aload_n hC zvr_a rfl (hL.at 1 rfl) dJ2_grow_2_31 ?_
    refine z_aload_n hC zvr_a rfl (hL.at 1 rfl) dJ2_grow_2_32 ?_
    refine z_getU hC hG kFJ2_9_2 ho rfl hV dJ2_grow_2_33 ?_
    intro x4 hV
    refine z_iload_n hC rfl (hL.at 0 rfl) dJ2_grow_2_36 ?_
    refine z_call_r hG (zrunS hC hG (mJ5_copyOf l P G x4 x3 hx3 hV) kSJ2_66 rfl rfl rfl ⟨(Nat.le_of_ble_eq_true rfl), (Nat.le_of_ble_eq_true rfl)⟩ ⟨(Nat.le_of_ble_eq_true rfl), (Nat.le_of_ble_eq_true rfl)⟩ rfl ⟨(zcs_c rfl zcs_0), (Nat.le_of_ble_eq_true rfl)⟩ hL.1.1 dJ2_grow_2_37) ?_
    rintro x5 G1 _ _  hV hG
    refine z_dup_x1 hC (zrv_cat _ _) rfl dJ2_grow_2_40 ?_
    refine z_putU (x := x5) hC hG kFJ2_9_2 ho rfl rfl rfl nk_2_1 (zfv_ty (v := .inr x5) zty_a).1 (zfv_ty (v := .inr x5) zty_a).2 hV dJ2_grow_2_41 ?_
    intro G2 _ _ hG hV
    exact z_aret (r := x5) hC hG hr hk (Or.inr ⟨_, rfl⟩) hV (Nat.le_of_ble_eq_true rfl) (Nat.le_of_ble_eq_true rfl) dJ2_grow_2_44
  refine z_if_gt (tgt := 20) hC hx2 hV dJ2_grow_2_7 (by decide) ?_ ?_
  · intro hV
    exact hJ20 hG hV _ (hL.sub [1, 2, 0] rfl)
  · intro hV
    refine z_aload_n hC zvr_a rfl (hL.at 1 rfl) dJ2_grow_2_10 ?_
    refine z_getU hC hG kFJ2_9_2 ho rfl hV dJ2_grow_2_11 ?_
    intro x6 hV
    refine z_getsD hC hG q157 dJ2_grow_2_14 ?_
    refine z_acmp_eq (x := x6) (y := (some (.inr 16))) (tgt := 45) hC hG hV dJ2_grow_2_17 (by decide) ?_ ?_
    · intro hV
      refine z_aload_n hC zvr_a rfl (hL.at 1 rfl) dJ2_grow_2_45 ?_
      refine z_bipush hC rfl dJ2_grow_2_46 ?_
      refine z_iload_n hC rfl (hL.at 2 rfl) dJ2_grow_2_48 ?_
      refine z_call_i hG (zrunS hC hG (mJ4_max l P G 10 (inR_lit rfl) p0 hp0 hV) kSJ2_79 rfl rfl rfl ⟨(Nat.le_of_ble_eq_true rfl), (Nat.le_of_ble_eq_true rfl)⟩ ⟨(Nat.le_of_ble_eq_true rfl), (Nat.le_of_ble_eq_true rfl)⟩ rfl ⟨(zcs_c rfl zcs_0), (Nat.le_of_ble_eq_true rfl)⟩ hL.1.1 dJ2_grow_2_49) ?_
      rintro x7 _ _ _ hx7 ⟨rfl, hV⟩ hG
      refine z_anew hC hG (k := 3) (Or.inl rfl) q400 xq391 hx7 (Nat.le_of_ble_eq_true rfl) hV (Nat.le_of_ble_eq_true rfl) (Nat.le_of_ble_eq_true rfl) dJ2_grow_2_52 ?_
      intro x8 G3 _ hG hV
      refine z_dup_x1 hC (zrv_cat _ _) rfl dJ2_grow_2_55 ?_
      refine z_putU (x := x8) hC hG kFJ2_9_2 ho rfl rfl rfl nk_2_1 (zfv_ty (v := .inr x8) zty_a).1 (zfv_ty (v := .inr x8) zty_a).2 hV dJ2_grow_2_56 ?_
      intro G4 _ _ hG hV
      exact z_aret (r := x8) hC hG hr hk (Or.inr ⟨_, rfl⟩) hV (Nat.le_of_ble_eq_true rfl) (Nat.le_of_ble_eq_true rfl) dJ2_grow_2_59
    · intro hV
      exact hJ20 hG hV _ (hL.sub [1, 2, 0] rfl)
abbrev rJ2_grow : Room := { frames := 5, cells := 1, slots := 100, locals := 135 }
def vJ2_grow (o : Nat) (G : ZG) (Q : ZR → ZG → Prop) : Prop := zgF G o 2 fun (x1 : Int) => vJ2_grow_2 o (w32 (x1 + 1)) G fun (x2 : ZR) (G1 : ZG) => Q x2 G1
set_option maxHeartbeats 4000000 in
theorem mJ2_grow (l : Launch) (P : ZP) (G : ZG) (o : Nat) (ho : tCls o = 2) {Q : ZR → ZG → Prop} (hV : vJ2_grow o G Q) : Met l yJ2_grow (ws_ yJ2_grow cJ2_grow 1 (some (.array (.object "java/lang/Object")))) rJ2_grow (zPc P G [.ref (zA P o 0 0)]) (zQr P Q) 1 100 (zAr P) := by
  refine zMet RJ2 (by decide +kernel) rfl (zcs_c rfl zcs_0) (Nat.le_of_ble_eq_true rfl) (fun p e s m args below meth c ls hC hr hk hn hG hL => ?_)
  unfold vJ2_grow at hV
  refine z_aload_n hC zvr_a rfl (hL.at 0 rfl) dJ2_grow_0 ?_
  refine z_aload_n hC zvr_a rfl (hL.at 0 rfl) dJ2_grow_1 ?_
  refine z_getF hC hG kFJ2_48_2 ho rfl hV dJ2_grow_2 ?_
  intro x1 hx1 hV
  refine z_iconst hC dJ2_grow_5 ?_
  refine z_iadd hC dJ2_grow_6 ?_
  refine z_call_r hG (zrunV (ci := 2) hC hG (Nat.le_of_ble_eq_true rfl) (Nat.le_of_ble_eq_true rfl) (zobj hG ho (Nat.le_of_ble_eq_true rfl) (Nat.le_of_ble_eq_true rfl)) (mJ2_grow_2 l P G o ho (w32 (x1 + 1)) (inR_w _) hV) kVJ2_69 rfl rfl rfl ⟨(Nat.le_of_ble_eq_true rfl), (Nat.le_of_ble_eq_true rfl)⟩ ⟨(Nat.le_of_ble_eq_true rfl), (Nat.le_of_ble_eq_true rfl)⟩ rfl ⟨zcs_0, (Nat.le_of_ble_eq_true rfl)⟩ hL.1.1 dJ2_grow_7) ?_
  rintro x2 G1 _ _  hV hG
  exact z_aret (r := x2) hC hG hr hk (Or.inr ⟨_, rfl⟩) hV (Nat.le_of_ble_eq_true rfl) (Nat.le_of_ble_eq_true rfl) dJ2_grow_10
abbrev rJ2_add_2 : Room := { frames := 6, cells := 1, slots := 100, locals := 155 }
def vJ2_add_2 (o : Nat) (p0 : ZR) (p1 : ZR) (p2 : Int) (G : ZG) (Q : ZG → Prop) : Prop := zeN G p1 fun (x1 : Int) => zjn (fun (y11_2 : ZR) (H11 : ZG) => zeU H11 y11_2 p2 p0 fun (G1 : ZG) => zpF G1 o 2 (w32 (p2 + 1)) fun (G2 : ZG) => Q G2) fun J11 => zbr (p2 ≠ x1) (J11 p1 G) (vJ2_grow o G fun (x2 : ZR) (G3 : ZG) => J11 x2 G3)
set_option maxHeartbeats 4000000 in
theorem mJ2_add_2 (l : Launch) (P : ZP) (G : ZG) (o : Nat) (ho : tCls o = 2) (p0 : ZR) (p1 : ZR) (p2 : Int) (hp2 : inR p2) {Q : ZG → Prop} (hV : vJ2_add_2 o p0 p1 p2 G Q) : Met l yJ2_add_2 (ws_ yJ2_add_2 cJ2_add_2 4 none) rJ2_add_2 (zPc P G [.ref (zA P o 0 0), zrv P p0, zrv P p1, .int (zI p2)]) (zQv P Q) 1 100 (zAr P) := by
  refine zMet RJ2 (by decide +kernel) rfl (zcs_c rfl (zcs_c (zrv_cat _ _) (zcs_c (zrv_cat _ _) (zcs_c rfl zcs_0)))) (Nat.le_of_ble_eq_true rfl) (fun p e s m args below meth c ls hC hr hk hn hG hL => ?_)
  unfold vJ2_add_2 at hV
  refine z_iload_n hC rfl (hL.at 3 rfl) dJ2_add_2_0 ?_
  refine z_aload_n hC zvr_r rfl (hL.at 2 rfl) dJ2_add_2_1 ?_
  refine z_alenD hC hG hV dJ2_add_2_2 ?_
  intro x1 hx1 hV
  obtain ⟨J11, eJ11, hV⟩ := zjn_abs hV
  have hJ11 : ∀ (y11_2 : ZR) (H11 : ZG), J11 y11_2 H11 → ∀ (H : Heap) (locs : List Loc) (ls : Array Slot), zS P s H11 H locs → zL ls 4 [(0, .ref (zA P o 0 0)), (1, zrv P p0), (2, zrv P y11_2), (3, .int (zI p2))] → W p l e rJ2_add_2 s m args below meth c H locs 1 100 (MQ below (zQv P Q) args s 1 100 (zAr P)) (F0 m 11 ls []) := by
    intro y11_2 H11 hV H locs ls hG hL
    rw [eJ11] at hV
    refine z_aload_n hC zvr_r rfl (hL.at 2 rfl) dJ2_add_2_11 ?_
    refine z_iload_n hC rfl (hL.at 3 rfl) dJ2_add_2_12 ?_
    refine z_aload_n hC zvr_r rfl (hL.at 1 rfl) dJ2_add_2_13 ?_
    refine z_eust (x := p0) hC hG hp2 hV dJ2_add_2_14 ?_
    intro G1 _ _ hG hV
    refine z_aload_n hC zvr_a rfl (hL.at 0 rfl) dJ2_add_2_15 ?_
    refine z_iload_n hC rfl (hL.at 3 rfl) dJ2_add_2_16 ?_
    refine z_iconst hC dJ2_add_2_17 ?_
    refine z_iadd hC dJ2_add_2_18 ?_
    refine z_putF hC hG kFJ2_48_2 ho rfl rfl rfl nk_2_2 (inR_w _) (Or.inl rfl) hV dJ2_add_2_19 ?_
    intro G2 _ _ hG hV
    exact z_vret hC hG hr hk hV (Nat.le_of_ble_eq_true rfl) (Nat.le_of_ble_eq_true rfl) dJ2_add_2_22
  refine z_icmp_ne (tgt := 11) hC hp2 hx1 hV dJ2_add_2_3 (by decide) ?_ ?_
  · intro hV
    refine W.widen (k := 1) (n := 100) (Nat.le_of_ble_eq_true rfl) (Nat.le_of_ble_eq_true rfl) ?_
    exact hJ11 p1 G hV _ _ _ hG hL
  · intro hV
    refine z_aload_n hC zvr_a rfl (hL.at 0 rfl) dJ2_add_2_6 ?_
    refine z_call_r hG (zrunV (ci := 2) hC hG (Nat.le_of_ble_eq_true rfl) (Nat.le_of_ble_eq_true rfl) (zobj hG ho (Nat.le_of_ble_eq_true rfl) (Nat.le_of_ble_eq_true rfl)) (mJ2_grow l P G o ho hV) kVJ2_129 rfl rfl rfl ⟨(Nat.le_of_ble_eq_true rfl), (Nat.le_of_ble_eq_true rfl)⟩ ⟨(Nat.le_of_ble_eq_true rfl), (Nat.le_of_ble_eq_true rfl)⟩ rfl ⟨zcs_0, (Nat.le_of_ble_eq_true rfl)⟩ hL.1.1 dJ2_add_2_7) ?_
    rintro x2 G3 _ _  hV hG
    refine z_astore_n (lv' := [(2, zrv P x2), (0, .ref (zA P o 0 0)), (1, zrv P p0), (3, .int (zI p2))]) hC zvr_r rfl hL (by decide) rfl dJ2_add_2_10 (fun ls hL => ?_)
    exact hJ11 x2 G3 hV _ _ _ hG (hL.sub [1, 2, 0, 3] rfl)
abbrev rJ2_add : Room := { frames := 7, cells := 1, slots := 100, locals := 178 }
def vJ2_add (o : Nat) (p0 : ZR) (G : ZG) (Q : Int → ZG → Prop) : Prop := zgF G o 0 fun (x1 : Int) => zpF G o 0 (w32 (x1 + 1)) fun (G1 : ZG) => zgU G1 o 1 fun (x2 : ZR) => zgF G1 o 2 fun (x3 : Int) => vJ2_add_2 o p0 x2 x3 G1 fun (G2 : ZG) => Q 1 G2
set_option maxHeartbeats 4000000 in
theorem mJ2_add (l : Launch) (P : ZP) (G : ZG) (o : Nat) (ho : tCls o = 2) (p0 : ZR) {Q : Int → ZG → Prop} (hV : vJ2_add o p0 G Q) : Met l yJ2_add (ws_ yJ2_add cJ2_add 2 (some .boolean)) rJ2_add (zPc P G [.ref (zA P o 0 0), zrv P p0]) (zQz P Q) 1 100 (zAr P) := by
  refine zMet RJ2 (by decide +kernel) rfl (zcs_c rfl (zcs_c (zrv_cat _ _) zcs_0)) (Nat.le_of_ble_eq_true rfl) (fun p e s m args below meth c ls hC hr hk hn hG hL => ?_)
  unfold vJ2_add at hV
  refine z_aload_n hC zvr_a rfl (hL.at 0 rfl) dJ2_add_0 ?_
  refine z_dup hC rfl dJ2_add_1 ?_
  refine z_getF hC hG kFJ2_63_2 ho rfl hV dJ2_add_2 ?_
  intro x1 hx1 hV
  refine z_iconst hC dJ2_add_5 ?_
  refine z_iadd hC dJ2_add_6 ?_
  refine z_putF hC hG kFJ2_63_2 ho rfl rfl rfl nk_2_0 (inR_w _) (Or.inl rfl) hV dJ2_add_7 ?_
  intro G1 _ _ hG hV
  refine z_aload_n hC zvr_a rfl (hL.at 0 rfl) dJ2_add_10 ?_
  refine z_aload_n hC zvr_r rfl (hL.at 1 rfl) dJ2_add_11 ?_
  refine z_aload_n hC zvr_a rfl (hL.at 0 rfl) dJ2_add_12 ?_
  refine z_getU hC hG kFJ2_9_2 ho rfl hV dJ2_add_13 ?_
  intro x2 hV
  refine z_aload_n hC zvr_a rfl (hL.at 0 rfl) dJ2_add_16 ?_
  refine z_getF hC hG kFJ2_48_2 ho rfl hV dJ2_add_17 ?_
  intro x3 hx3 hV
  refine z_call_v hG (zrunV (ci := 2) hC hG (Nat.le_of_ble_eq_true rfl) (Nat.le_of_ble_eq_true rfl) (zobj hG ho (Nat.le_of_ble_eq_true rfl) (Nat.le_of_ble_eq_true rfl)) (mJ2_add_2 l P G1 o ho p0 x2 x3 hx3 hV) kVJ2_131 rfl rfl rfl ⟨(Nat.le_of_ble_eq_true rfl), (Nat.le_of_ble_eq_true rfl)⟩ ⟨(Nat.le_of_ble_eq_true rfl), (Nat.le_of_ble_eq_true rfl)⟩ rfl ⟨zcs_0, (Nat.le_of_ble_eq_true rfl)⟩ hL.1.1 dJ2_add_20) ?_
  rintro G2 _ _ hV hG
  refine z_iconst hC dJ2_add_23 ?_
  exact z_zret hC hG hr hk (Or.inr rfl) hV (Nat.le_of_ble_eq_true rfl) (Nat.le_of_ble_eq_true rfl) dJ2_add_24
abbrev rJ14_checkIndex : Room := { frames := 1, cells := 0, slots := 0, locals := 12 }
def vJ14_checkIndex (p0 : Int) (p1 : Int) (p2 : ZR) (Q : Int → Prop) : Prop := zjn (fun (_ : Unit) => False) fun J9 => zbr (p0 < 0) (J9 ()) (zbr (p0 < p1) (Q p0) (J9 ()))
set_option maxHeartbeats 4000000 in
theorem mJ14_checkIndex (l : Launch) (P : ZP) (G : ZG) (p0 : Int) (hp0 : inR p0) (p1 : Int) (hp1 : inR p1) (p2 : ZR) {Q : Int → Prop} (hV : vJ14_checkIndex p0 p1 p2 Q) : Met l yJ14_checkIndex (ws_ yJ14_checkIndex cJ14_checkIndex 3 (some .int)) rJ14_checkIndex (zPc P G [.int (zI p0), .int (zI p1), zrv P p2]) (zQi P (fun r G2 => G = G2 ∧ Q r)) 0 0 (zAr P) := by
  refine zMet RJ14 (by decide +kernel) rfl (zcs_c rfl (zcs_c rfl (zcs_c (zrv_cat _ _) zcs_0))) (Nat.le_of_ble_eq_true rfl) (fun p e s m args below meth c ls hC hr hk hn hG hL => ?_)
  unfold vJ14_checkIndex at hV
  refine z_iload_n hC rfl (hL.at 0 rfl) dJ14_checkIndex_0 ?_
  obtain ⟨J9, eJ9, hV⟩ := zjn_abs hV
  have hJ9 : ∀ {H : Heap} {locs : List Loc}, zS P s G H locs → J9 () → ∀ (ls : Array Slot), zL ls 3 [(0, .int (zI p0)), (1, .int (zI p1)), (2, zrv P p2)] → W p l e rJ14_checkIndex s m args below meth c H locs 0 0 (MQ below (zQi P (fun r G2 => G = G2 ∧ Q r)) args s 0 0 (zAr P)) (F0 m 9 ls []) := by
    intro H locs hG hV ls hL
    rw [eJ9] at hV
    refine z_aload_n hC zvr_r rfl (hL.at 2 rfl) dJ14_checkIndex_9 ?_
    refine z_iload_n hC rfl (hL.at 0 rfl) dJ14_checkIndex_10 ?_
    refine z_iload_n hC rfl (hL.at 1 rfl) dJ14_checkIndex_11 ?_
    exact hV.elim
  refine z_if_lt (tgt := 9) hC hp0 hV dJ14_checkIndex_1 (by decide) ?_ ?_
  · intro hV
    exact hJ9 hG hV _ hL
  · intro hV
    refine z_iload_n hC rfl (hL.at 0 rfl) dJ14_checkIndex_4 ?_
    refine z_iload_n hC rfl (hL.at 1 rfl) dJ14_checkIndex_5 ?_
    refine z_icmp_lt (tgt := 16) hC hp0 hp1 hV dJ14_checkIndex_6 (by decide) ?_ ?_
    · intro hV
      refine z_iload_n hC rfl (hL.at 0 rfl) dJ14_checkIndex_16 ?_
      exact z_iret hC hG hr hk hp0 ⟨rfl, hV⟩ (Nat.le_of_ble_eq_true rfl) (Nat.le_of_ble_eq_true rfl) dJ14_checkIndex_17
    · intro hV
      exact hJ9 hG hV _ hL
abbrev rJ13_checkIndex : Room := { frames := 2, cells := 0, slots := 0, locals := 34 }
def vJ13_checkIndex (p0 : Int) (p1 : Int) (Q : Int → Prop) : Prop := vJ14_checkIndex p0 p1 none fun (x1 : Int) => Q x1
set_option maxHeartbeats 4000000 in
theorem mJ13_checkIndex (l : Launch) (P : ZP) (G : ZG) (p0 : Int) (hp0 : inR p0) (p1 : Int) (hp1 : inR p1) {Q : Int → Prop} (hV : vJ13_checkIndex p0 p1 Q) : Met l yJ13_checkIndex (ws_ yJ13_checkIndex cJ13_checkIndex 2 (some .int)) rJ13_checkIndex (zPc P G [.int (zI p0), .int (zI p1)]) (zQi P (fun r G2 => G = G2 ∧ Q r)) 0 0 (zAr P) := by
  refine zMet RJ13 (by decide +kernel) rfl (zcs_c rfl (zcs_c rfl zcs_0)) (Nat.le_of_ble_eq_true rfl) (fun p e s m args below meth c ls hC hr hk hn hG hL => ?_)
  unfold vJ13_checkIndex at hV
  refine z_iload_n hC rfl (hL.at 0 rfl) dJ13_checkIndex_0 ?_
  refine z_iload_n hC rfl (hL.at 1 rfl) dJ13_checkIndex_1 ?_
  refine z_null hC dJ13_checkIndex_2 ?_
  refine z_call_i hG (zrunS hC hG (mJ14_checkIndex l P G p0 hp0 p1 hp1 none hV) kSJ13_105 rfl rfl rfl ⟨(Nat.le_of_ble_eq_true rfl), (Nat.le_of_ble_eq_true rfl)⟩ ⟨(Nat.le_of_ble_eq_true rfl), (Nat.le_of_ble_eq_true rfl)⟩ rfl ⟨zcs_0, (Nat.le_of_ble_eq_true rfl)⟩ hL.1.1 dJ13_checkIndex_3) ?_
  rintro x1 _ _ _ hx1 ⟨rfl, hV⟩ hG
  exact z_iret hC hG hr hk hx1 ⟨rfl, hV⟩ (Nat.le_of_ble_eq_true rfl) (Nat.le_of_ble_eq_true rfl) dJ13_checkIndex_6
abbrev rJ2_elementData : Room := { frames := 1, cells := 0, slots := 0, locals := 12 }
def vJ2_elementData (o : Nat) (p0 : Int) (G : ZG) (Q : ZR → Prop) : Prop := zgU G o 1 fun (x1 : ZR) => zeR G x1 p0 fun (x2 : ZR) => Q x2
set_option maxHeartbeats 4000000 in
theorem mJ2_elementData (l : Launch) (P : ZP) (G : ZG) (o : Nat) (ho : tCls o = 2) (p0 : Int) (hp0 : inR p0) {Q : ZR → Prop} (hV : vJ2_elementData o p0 G Q) : Met l yJ2_elementData (ws_ yJ2_elementData cJ2_elementData 2 (some (.object "java/lang/Object"))) rJ2_elementData (zPc P G [.ref (zA P o 0 0), .int (zI p0)]) (zQr P (fun r G2 => G = G2 ∧ Q r)) 0 0 (zAr P) := by
  refine zMet RJ2 (by decide +kernel) rfl (zcs_c rfl (zcs_c rfl zcs_0)) (Nat.le_of_ble_eq_true rfl) (fun p e s m args below meth c ls hC hr hk hn hG hL => ?_)
  unfold vJ2_elementData at hV
  refine z_aload_n hC zvr_a rfl (hL.at 0 rfl) dJ2_elementData_0 ?_
  refine z_getU hC hG kFJ2_9_2 ho rfl hV dJ2_elementData_1 ?_
  intro x1 hV
  refine z_iload_n hC rfl (hL.at 1 rfl) dJ2_elementData_4 ?_
  refine z_erld hC hG hp0 hV dJ2_elementData_5 ?_
  intro x2 hV
  exact z_aret (r := x2) hC hG hr hk (Or.inl ⟨_, rfl⟩) ⟨rfl, hV⟩ (Nat.le_of_ble_eq_true rfl) (Nat.le_of_ble_eq_true rfl) dJ2_elementData_6
abbrev rJ2_get : Room := { frames := 3, cells := 0, slots := 0, locals := 55 }
def vJ2_get (o : Nat) (p0 : Int) (G : ZG) (Q : ZR → Prop) : Prop := zgF G o 2 fun (x1 : Int) => vJ13_checkIndex p0 x1 fun (x2 : Int) => vJ2_elementData o p0 G fun (x3 : ZR) => Q x3
set_option maxHeartbeats 4000000 in
theorem mJ2_get (l : Launch) (P : ZP) (G : ZG) (o : Nat) (ho : tCls o = 2) (p0 : Int) (hp0 : inR p0) {Q : ZR → Prop} (hV : vJ2_get o p0 G Q) : Met l yJ2_get (ws_ yJ2_get cJ2_get 2 (some (.object "java/lang/Object"))) rJ2_get (zPc P G [.ref (zA P o 0 0), .int (zI p0)]) (zQr P (fun r G2 => G = G2 ∧ Q r)) 0 0 (zAr P) := by
  refine zMet RJ2 (by decide +kernel) rfl (zcs_c rfl (zcs_c rfl zcs_0)) (Nat.le_of_ble_eq_true rfl) (fun p e s m args below meth c ls hC hr hk hn hG hL => ?_)
  unfold vJ2_get at hV
  refine z_iload_n hC rfl (hL.at 1 rfl) dJ2_get_0 ?_
  refine z_aload_n hC zvr_a rfl (hL.at 0 rfl) dJ2_get_1 ?_
  refine z_getF hC hG kFJ2_48_2 ho rfl hV dJ2_get_2 ?_
  intro x1 hx1 hV
  refine z_call_i hG (zrunS hC hG (mJ13_checkIndex l P G p0 hp0 x1 hx1 hV) kSJ2_118 rfl rfl rfl ⟨(Nat.le_of_ble_eq_true rfl), (Nat.le_of_ble_eq_true rfl)⟩ ⟨(Nat.le_of_ble_eq_true rfl), (Nat.le_of_ble_eq_true rfl)⟩ rfl ⟨zcs_0, (Nat.le_of_ble_eq_true rfl)⟩ hL.1.1 dJ2_get_5) ?_
  rintro x2 _ _ _ hx2 ⟨rfl, hV⟩ hG
  refine z_pop hC rfl dJ2_get_8 ?_
  refine z_aload_n hC zvr_a rfl (hL.at 0 rfl) dJ2_get_9 ?_
  refine z_iload_n hC rfl (hL.at 1 rfl) dJ2_get_10 ?_
  refine z_call_r hG (zrunV (ci := 2) hC hG (Nat.le_of_ble_eq_true rfl) (Nat.le_of_ble_eq_true rfl) (zobj hG ho (Nat.le_of_ble_eq_true rfl) (Nat.le_of_ble_eq_true rfl)) (mJ2_elementData l P G o ho p0 hp0 hV) kVJ2_123 rfl rfl rfl ⟨(Nat.le_of_ble_eq_true rfl), (Nat.le_of_ble_eq_true rfl)⟩ ⟨(Nat.le_of_ble_eq_true rfl), (Nat.le_of_ble_eq_true rfl)⟩ rfl ⟨zcs_0, (Nat.le_of_ble_eq_true rfl)⟩ hL.1.1 dJ2_get_11) ?_
  rintro x3 _ _ _  ⟨rfl, hV⟩ hG
  exact z_aret (r := x3) hC hG hr hk (Or.inl ⟨_, rfl⟩) ⟨rfl, hV⟩ (Nat.le_of_ble_eq_true rfl) (Nat.le_of_ble_eq_true rfl) dJ2_get_14
abbrev rJ2_size : Room := { frames := 1, cells := 0, slots := 0, locals := 12 }
def vJ2_size (o : Nat) (G : ZG) (Q : Int → Prop) : Prop := zgF G o 2 fun (x1 : Int) => Q x1
set_option maxHeartbeats 4000000 in
theorem mJ2_size (l : Launch) (P : ZP) (G : ZG) (o : Nat) (ho : tCls o = 2) {Q : Int → Prop} (hV : vJ2_size o G Q) : Met l yJ2_size (ws_ yJ2_size cJ2_size 1 (some .int)) rJ2_size (zPc P G [.ref (zA P o 0 0)]) (zQi P (fun r G2 => G = G2 ∧ Q r)) 0 0 (zAr P) := by
  refine zMet RJ2 (by decide +kernel) rfl (zcs_c rfl zcs_0) (Nat.le_of_ble_eq_true rfl) (fun p e s m args below meth c ls hC hr hk hn hG hL => ?_)
  unfold vJ2_size at hV
  refine z_aload_n hC zvr_a rfl (hL.at 0 rfl) dJ2_size_0 ?_
  refine z_getF hC hG kFJ2_48_2 ho rfl hV dJ2_size_1 ?_
  intro x1 hx1 hV
  exact z_iret hC hG hr hk hx1 ⟨rfl, hV⟩ (Nat.le_of_ble_eq_true rfl) (Nat.le_of_ble_eq_true rfl) dJ2_size_4
abbrev rJ2_clear : Room := { frames := 1, cells := 0, slots := 0, locals := 12 }
def vJ2_clear (o : Nat) (G : ZG) (Q : ZG → Prop) : Prop := zgF G o 0 fun (x1 : Int) => zpF G o 0 (w32 (x1 + 1)) fun (G1 : ZG) => zgU G1 o 1 fun (x2 : ZR) => zgF G1 o 2 fun (x3 : Int) => zpF G1 o 2 0 fun (G2 : ZG) => zl2 (fun (P27 : Int → ZG → Prop) (a27_3 : Int) (K27 : ZG) => zbr (x3 ≤ a27_3) (Q K27) (zeU K27 x2 a27_3 none fun (G3 : ZG) => zlt1 (w32 (a27_3 + 1)) fun (x4 : Int) => P27 x4 G3)) 0 G2
set_option maxHeartbeats 4000000 in
theorem mJ2_clear (l : Launch) (P : ZP) (G : ZG) (o : Nat) (ho : tCls o = 2) {Q : ZG → Prop} (hV : vJ2_clear o G Q) : Met l yJ2_clear (ws_ yJ2_clear cJ2_clear 4 none) rJ2_clear (zPc P G [.ref (zA P o 0 0)]) (zQv P Q) 0 0 (zAr P) := by
  refine zMet RJ2 (by decide +kernel) rfl (zcs_c rfl zcs_0) (Nat.le_of_ble_eq_true rfl) (fun p e s m args below meth c ls hC hr hk hn hG hL => ?_)
  unfold vJ2_clear at hV
  refine z_aload_n hC zvr_a rfl (hL.at 0 rfl) dJ2_clear_0 ?_
  refine z_dup hC rfl dJ2_clear_1 ?_
  refine z_getF hC hG kFJ2_63_2 ho rfl hV dJ2_clear_2 ?_
  intro x1 hx1 hV
  refine z_iconst hC dJ2_clear_5 ?_
  refine z_iadd hC dJ2_clear_6 ?_
  refine z_putF hC hG kFJ2_63_2 ho rfl rfl rfl nk_2_0 (inR_w _) (Or.inl rfl) hV dJ2_clear_7 ?_
  intro G1 _ _ hG hV
  refine z_aload_n hC zvr_a rfl (hL.at 0 rfl) dJ2_clear_10 ?_
  refine z_getU hC hG kFJ2_9_2 ho rfl hV dJ2_clear_11 ?_
  intro x2 hV
  refine z_astore_n (lv' := [(1, zrv P x2), (0, .ref (zA P o 0 0))]) hC zvr_r rfl hL (by decide) rfl dJ2_clear_14 (fun ls hL => ?_)
  refine z_aload_n hC zvr_a rfl (hL.at 1 rfl) dJ2_clear_15 ?_
  refine z_getF hC hG kFJ2_48_2 ho rfl hV dJ2_clear_16 ?_
  intro x3 hx3 hV
  refine z_istore_n (lv' := [(2, .int (zI x3)), (1, zrv P x2), (0, .ref (zA P o 0 0))]) hC rfl hL (by decide) rfl dJ2_clear_19 (fun ls hL => ?_)
  refine z_aload_n hC zvr_a rfl (hL.at 2 rfl) dJ2_clear_20 ?_
  refine z_iconst hC dJ2_clear_21 ?_
  refine z_dup_x1 hC rfl rfl dJ2_clear_22 ?_
  refine z_putF hC hG kFJ2_48_2 ho rfl rfl rfl nk_2_2 (inR_lit rfl) (Or.inl rfl) hV dJ2_clear_23 ?_
  intro G2 _ _ hG hV
  refine z_istore_n (lv' := [(3, .int (zI 0)), (2, .int (zI x3)), (1, zrv P x2), (0, .ref (zA P o 0 0))]) hC rfl hL (by decide) rfl dJ2_clear_26 (fun ls hL => ?_)
  refine zl2_use hV (fun (a27_3 : Int) (K27 : ZG) => inR a27_3 → ∀ (H : Heap) (locs : List Loc), zS P s K27 H locs → ∀ (ls : Array Slot), zL ls 4 [(1, zrv P x2), (2, .int (zI x3)), (3, .int (zI a27_3))] → W p l e rJ2_clear s m args below meth c H locs 0 0 (MQ below (zQv P Q) args s 0 0 (zAr P)) (F0 m 27 ls [])) ?_ (inR_lit rfl) _ _ hG _ (hL.sub [2, 1, 0] rfl)
  intro P27 a27_3 K27 hP27 hV ha27_3 H locs hG ls hL
  refine z_iload_n hC rfl (hL.at 2 rfl) dJ2_clear_27 ?_
  refine z_iload_n hC rfl (hL.at 1 rfl) dJ2_clear_28 ?_
  refine z_icmp_ge (tgt := 42) hC ha27_3 hx3 hV dJ2_clear_29 (by decide) ?_ ?_
  · intro hV
    exact z_vret hC hG hr hk hV (Nat.le_of_ble_eq_true rfl) (Nat.le_of_ble_eq_true rfl) dJ2_clear_42
  · intro hV
    refine z_aload_n hC zvr_r rfl (hL.at 0 rfl) dJ2_clear_32 ?_
    refine z_iload_n hC rfl (hL.at 2 rfl) dJ2_clear_33 ?_
    refine z_null hC dJ2_clear_34 ?_
    refine z_eust (x := none) hC hG ha27_3 hV dJ2_clear_35 ?_
    intro G3 _ _ hG hV
    refine z_iincV (fun x4 => [(3, .int (zI x4)), (1, zrv P x2), (2, .int (zI x3))]) hC hL (k := 2) rfl (by decide) (fun _ => rfl) hV dJ2_clear_36 ?_
    intro x4 hx4 hV ls hL
    refine z_goto (tgt := 27) hC dJ2_clear_39 (by decide) ?_
    exact hP27 x4 G3 hV hx4 _ _ hG _ (hL.sub [1, 2, 0] rfl)
abbrev rJ2_set : Room := { frames := 3, cells := 0, slots := 0, locals := 55 }
def vJ2_set (o : Nat) (p0 : Int) (p1 : ZR) (G : ZG) (Q : ZR → ZG → Prop) : Prop := zgF G o 2 fun (x1 : Int) => vJ13_checkIndex p0 x1 fun (x2 : Int) => vJ2_elementData o p0 G fun (x3 : ZR) => zgU G o 1 fun (x4 : ZR) => zeU G x4 p0 p1 fun (G1 : ZG) => Q x3 G1
set_option maxHeartbeats 4000000 in
theorem mJ2_set (l : Launch) (P : ZP) (G : ZG) (o : Nat) (ho : tCls o = 2) (p0 : Int) (hp0 : inR p0) (p1 : ZR) {Q : ZR → ZG → Prop} (hV : vJ2_set o p0 p1 G Q) : Met l yJ2_set (ws_ yJ2_set cJ2_set 4 (some (.object "java/lang/Object"))) rJ2_set (zPc P G [.ref (zA P o 0 0), .int (zI p0), zrv P p1]) (zQr P Q) 0 0 (zAr P) := by
  refine zMet RJ2 (by decide +kernel) rfl (zcs_c rfl (zcs_c rfl (zcs_c (zrv_cat _ _) zcs_0))) (Nat.le_of_ble_eq_true rfl) (fun p e s m args below meth c ls hC hr hk hn hG hL => ?_)
  unfold vJ2_set at hV
  refine z_iload_n hC rfl (hL.at 1 rfl) dJ2_set_0 ?_
  refine z_aload_n hC zvr_a rfl (hL.at 0 rfl) dJ2_set_1 ?_
  refine z_getF hC hG kFJ2_48_2 ho rfl hV dJ2_set_2 ?_
  intro x1 hx1 hV
  refine z_call_i hG (zrunS hC hG (mJ13_checkIndex l P G p0 hp0 x1 hx1 hV) kSJ2_118 rfl rfl rfl ⟨(Nat.le_of_ble_eq_true rfl), (Nat.le_of_ble_eq_true rfl)⟩ ⟨(Nat.le_of_ble_eq_true rfl), (Nat.le_of_ble_eq_true rfl)⟩ rfl ⟨zcs_0, (Nat.le_of_ble_eq_true rfl)⟩ hL.1.1 dJ2_set_5) ?_
  rintro x2 _ _ _ hx2 ⟨rfl, hV⟩ hG
  refine z_pop hC rfl dJ2_set_8 ?_
  refine z_aload_n hC zvr_a rfl (hL.at 0 rfl) dJ2_set_9 ?_
  refine z_iload_n hC rfl (hL.at 1 rfl) dJ2_set_10 ?_
  refine z_call_r hG (zrunV (ci := 2) hC hG (Nat.le_of_ble_eq_true rfl) (Nat.le_of_ble_eq_true rfl) (zobj hG ho (Nat.le_of_ble_eq_true rfl) (Nat.le_of_ble_eq_true rfl)) (mJ2_elementData l P G o ho p0 hp0 hV) kVJ2_123 rfl rfl rfl ⟨(Nat.le_of_ble_eq_true rfl), (Nat.le_of_ble_eq_true rfl)⟩ ⟨(Nat.le_of_ble_eq_true rfl), (Nat.le_of_ble_eq_true rfl)⟩ rfl ⟨zcs_0, (Nat.le_of_ble_eq_true rfl)⟩ hL.1.1 dJ2_set_11) ?_
  rintro x3 _ _ _  ⟨rfl, hV⟩ hG
  refine z_astore_n (lv' := [(3, zrv P x3), (0, .ref (zA P o 0 0)), (1, .int (zI p0)), (2, zrv P p1)]) hC zvr_r rfl hL (by decide) rfl dJ2_set_14 (fun ls hL => ?_)
  refine z_aload_n hC zvr_a rfl (hL.at 1 rfl) dJ2_set_15 ?_
  refine z_getU hC hG kFJ2_9_2 ho rfl hV dJ2_set_16 ?_
  intro x4 hV
  refine z_iload_n hC rfl (hL.at 2 rfl) dJ2_set_19 ?_
  refine z_aload_n hC zvr_r rfl (hL.at 3 rfl) dJ2_set_20 ?_
  refine z_eust (x := p1) hC hG hp0 hV dJ2_set_21 ?_
  intro G1 _ _ hG hV
  refine z_aload_n hC zvr_r rfl (hL.at 0 rfl) dJ2_set_22 ?_
  exact z_aret (r := x3) hC hG hr hk (Or.inl ⟨_, rfl⟩) hV (Nat.le_of_ble_eq_true rfl) (Nat.le_of_ble_eq_true rfl) dJ2_set_23
abbrev rJ2_rangeCheckForAdd : Room := { frames := 1, cells := 0, slots := 0, locals := 12 }
def vJ2_rangeCheckForAdd (o : Nat) (p0 : Int) (G : ZG) (Q : Unit → Prop) : Prop := zgF G o 2 fun (x1 : Int) => zjn (fun (_ : Unit) => False) fun J12 => zbr (x1 < p0) (J12 ()) (zbr (0 ≤ p0) (Q ()) (J12 ()))
set_option maxHeartbeats 4000000 in
theorem mJ2_rangeCheckForAdd (l : Launch) (P : ZP) (G : ZG) (o : Nat) (ho : tCls o = 2) (p0 : Int) (hp0 : inR p0) {Q : Unit → Prop} (hV : vJ2_rangeCheckForAdd o p0 G Q) : Met l yJ2_rangeCheckForAdd (ws_ yJ2_rangeCheckForAdd cJ2_rangeCheckForAdd 2 none) rJ2_rangeCheckForAdd (zPc P G [.ref (zA P o 0 0), .int (zI p0)]) (zQv P (fun G2 => G = G2 ∧ Q ())) 0 0 (zAr P) := by
  refine zMet RJ2 (by decide +kernel) rfl (zcs_c rfl (zcs_c rfl zcs_0)) (Nat.le_of_ble_eq_true rfl) (fun p e s m args below meth c ls hC hr hk hn hG hL => ?_)
  unfold vJ2_rangeCheckForAdd at hV
  refine z_iload_n hC rfl (hL.at 1 rfl) dJ2_rangeCheckForAdd_0 ?_
  refine z_aload_n hC zvr_a rfl (hL.at 0 rfl) dJ2_rangeCheckForAdd_1 ?_
  refine z_getF hC hG kFJ2_48_2 ho rfl hV dJ2_rangeCheckForAdd_2 ?_
  intro x1 hx1 hV
  obtain ⟨J12, eJ12, hV⟩ := zjn_abs hV
  have hJ12 : ∀ {H : Heap} {locs : List Loc}, zS P s G H locs → J12 () → ∀ (ls : Array Slot), zL ls 2 [(0, .ref (zA P o 0 0)), (1, .int (zI p0))] → W p l e rJ2_rangeCheckForAdd s m args below meth c H locs 0 0 (MQ below (zQv P (fun G2 => G = G2 ∧ Q ())) args s 0 0 (zAr P)) (F0 m 12 ls []) := by
    intro H locs hG hV ls hL
    rw [eJ12] at hV
    exact hV.elim
  refine z_icmp_gt (tgt := 12) hC hp0 hx1 hV dJ2_rangeCheckForAdd_5 (by decide) ?_ ?_
  · intro hV
    exact hJ12 hG hV _ hL
  · intro hV
    refine z_iload_n hC rfl (hL.at 1 rfl) dJ2_rangeCheckForAdd_8 ?_
    refine z_if_ge (tgt := 25) hC hp0 hV dJ2_rangeCheckForAdd_9 (by decide) ?_ ?_
    · intro hV
      exact z_vret hC hG hr hk ⟨rfl, hV⟩ (Nat.le_of_ble_eq_true rfl) (Nat.le_of_ble_eq_true rfl) dJ2_rangeCheckForAdd_25
    · intro hV
      exact hJ12 hG hV _ hL
abbrev rJ2_add_3 : Room := { frames := 6, cells := 1, slots := 100, locals := 155 }
def vJ2_add_3 (o : Nat) (p0 : Int) (p1 : ZR) (G : ZG) (Q : ZG → Prop) : Prop := vJ2_rangeCheckForAdd o p0 G fun (_ : Unit) => zgF G o 0 fun (x1 : Int) => zpF G o 0 (w32 (x1 + 1)) fun (G1 : ZG) => zgF G1 o 2 fun (x2 : Int) => zgU G1 o 1 fun (x3 : ZR) => zeN G1 x3 fun (x4 : Int) => zjn (fun (y38_4 : ZR) (H38 : ZG) => zcpR H38 y38_4 p0 y38_4 (w32 (p0 + 1)) (w32 (x2 - p0)) fun (G2 : ZG) => zeU G2 y38_4 p0 p1 fun (G3 : ZG) => zpF G3 o 2 (w32 (x2 + 1)) fun (G4 : ZG) => Q G4) fun J38 => zbr (x2 ≠ x4) (J38 x3 G1) (vJ2_grow o G1 fun (x5 : ZR) (G5 : ZG) => J38 x5 G5)
set_option maxHeartbeats 4000000 in
theorem mJ2_add_3 (l : Launch) (P : ZP) (G : ZG) (o : Nat) (ho : tCls o = 2) (p0 : Int) (hp0 : inR p0) (p1 : ZR) {Q : ZG → Prop} (hV : vJ2_add_3 o p0 p1 G Q) : Met l yJ2_add_3 (ws_ yJ2_add_3 cJ2_add_3 5 none) rJ2_add_3 (zPc P G [.ref (zA P o 0 0), .int (zI p0), zrv P p1]) (zQv P Q) 1 100 (zAr P) := by
  refine zMet RJ2 (by decide +kernel) rfl (zcs_c rfl (zcs_c rfl (zcs_c (zrv_cat _ _) zcs_0))) (Nat.le_of_ble_eq_true rfl) (fun p e s m args below meth c ls hC hr hk hn hG hL => ?_)
  unfold vJ2_add_3 at hV
  refine z_aload_n hC zvr_a rfl (hL.at 0 rfl) dJ2_add_3_0 ?_
  refine z_iload_n hC rfl (hL.at 1 rfl) dJ2_add_3_1 ?_
  refine z_call_v hG (zrunV (ci := 2) hC hG (Nat.le_of_ble_eq_true rfl) (Nat.le_of_ble_eq_true rfl) (zobj hG ho (Nat.le_of_ble_eq_true rfl) (Nat.le_of_ble_eq_true rfl)) (mJ2_rangeCheckForAdd l P G o ho p0 hp0 hV) kVJ2_135 rfl rfl rfl ⟨(Nat.le_of_ble_eq_true rfl), (Nat.le_of_ble_eq_true rfl)⟩ ⟨(Nat.le_of_ble_eq_true rfl), (Nat.le_of_ble_eq_true rfl)⟩ rfl ⟨zcs_0, (Nat.le_of_ble_eq_true rfl)⟩ hL.1.1 dJ2_add_3_2) ?_
  rintro _ _ _ ⟨rfl, hV⟩ hG
  refine z_aload_n hC zvr_a rfl (hL.at 0 rfl) dJ2_add_3_5 ?_
  refine z_dup hC rfl dJ2_add_3_6 ?_
  refine z_getF hC hG kFJ2_63_2 ho rfl hV dJ2_add_3_7 ?_
  intro x1 hx1 hV
  refine z_iconst hC dJ2_add_3_10 ?_
  refine z_iadd hC dJ2_add_3_11 ?_
  refine z_putF hC hG kFJ2_63_2 ho rfl rfl rfl nk_2_0 (inR_w _) (Or.inl rfl) hV dJ2_add_3_12 ?_
  intro G1 _ _ hG hV
  refine z_aload_n hC zvr_a rfl (hL.at 0 rfl) dJ2_add_3_15 ?_
  refine z_getF hC hG kFJ2_48_2 ho rfl hV dJ2_add_3_16 ?_
  intro x2 hx2 hV
  refine z_dup hC rfl dJ2_add_3_19 ?_
  refine z_istore_n (lv' := [(3, .int (zI x2)), (0, .ref (zA P o 0 0)), (1, .int (zI p0)), (2, zrv P p1)]) hC rfl hL (by decide) rfl dJ2_add_3_20 (fun ls hL => ?_)
  refine z_aload_n hC zvr_a rfl (hL.at 1 rfl) dJ2_add_3_21 ?_
  refine z_getU hC hG kFJ2_9_2 ho rfl hV dJ2_add_3_22 ?_
  intro x3 hV
  refine z_dup hC (zrv_cat _ _) dJ2_add_3_25 ?_
  refine z_astore (lv' := [(4, zrv P x3), (3, .int (zI x2)), (0, .ref (zA P o 0 0)), (1, .int (zI p0)), (2, zrv P p1)]) hC zvr_r hL (by decide) rfl dJ2_add_3_26 (fun ls hL => ?_)
  refine z_alenD hC hG hV dJ2_add_3_28 ?_
  intro x4 hx4 hV
  obtain ⟨J38, eJ38, hV⟩ := zjn_abs hV
  have hJ38 : ∀ (y38_4 : ZR) (H38 : ZG), J38 y38_4 H38 → ∀ (H : Heap) (locs : List Loc) (ls : Array Slot), zS P s H38 H locs → zL ls 5 [(0, .ref (zA P o 0 0)), (1, .int (zI p0)), (2, zrv P p1), (3, .int (zI x2)), (4, zrv P y38_4)] → W p l e rJ2_add_3 s m args below meth c H locs 1 100 (MQ below (zQv P Q) args s 1 100 (zAr P)) (F0 m 38 ls []) := by
    intro y38_4 H38 hV H locs ls hG hL
    rw [eJ38] at hV
    refine z_aload hC zvr_r (hL.at 4 rfl) dJ2_add_3_38 ?_
    refine z_iload_n hC rfl (hL.at 1 rfl) dJ2_add_3_40 ?_
    refine z_aload hC zvr_r (hL.at 4 rfl) dJ2_add_3_41 ?_
    refine z_iload_n hC rfl (hL.at 1 rfl) dJ2_add_3_43 ?_
    refine z_iconst hC dJ2_add_3_44 ?_
    refine z_iadd hC dJ2_add_3_45 ?_
    refine z_iload_n hC rfl (hL.at 3 rfl) dJ2_add_3_46 ?_
    refine z_iload_n hC rfl (hL.at 1 rfl) dJ2_add_3_47 ?_
    refine z_isub hC dJ2_add_3_48 ?_
    refine z_acpR hC hG hL.1.1 kAJ2_112 hp0 (inR_w _) (inR_w _) hV ⟨zcs_0, (Nat.le_of_ble_eq_true rfl)⟩ ⟨(Nat.le_of_ble_eq_true rfl), (Nat.le_of_ble_eq_true rfl)⟩ dJ2_add_3_49 ?_
    intro G2 _ _ hG hV
    refine z_aload hC zvr_r (hL.at 4 rfl) dJ2_add_3_52 ?_
    refine z_iload_n hC rfl (hL.at 1 rfl) dJ2_add_3_54 ?_
    refine z_aload_n hC zvr_r rfl (hL.at 2 rfl) dJ2_add_3_55 ?_
    refine z_eust (x := p1) hC hG hp0 hV dJ2_add_3_56 ?_
    intro G3 _ _ hG hV
    refine z_aload_n hC zvr_a rfl (hL.at 0 rfl) dJ2_add_3_57 ?_
    refine z_iload_n hC rfl (hL.at 3 rfl) dJ2_add_3_58 ?_
    refine z_iconst hC dJ2_add_3_59 ?_
    refine z_iadd hC dJ2_add_3_60 ?_
    refine z_putF hC hG kFJ2_48_2 ho rfl rfl rfl nk_2_2 (inR_w _) (Or.inl rfl) hV dJ2_add_3_61 ?_
    intro G4 _ _ hG hV
    exact z_vret hC hG hr hk hV (Nat.le_of_ble_eq_true rfl) (Nat.le_of_ble_eq_true rfl) dJ2_add_3_64
  refine z_icmp_ne (tgt := 38) hC hx2 hx4 hV dJ2_add_3_29 (by decide) ?_ ?_
  · intro hV
    refine W.widen (k := 1) (n := 100) (Nat.le_of_ble_eq_true rfl) (Nat.le_of_ble_eq_true rfl) ?_
    exact hJ38 x3 G1 hV _ _ _ hG (hL.sub [2, 3, 4, 1, 0] rfl)
  · intro hV
    refine z_aload_n hC zvr_a rfl (hL.at 2 rfl) dJ2_add_3_32 ?_
    refine z_call_r hG (zrunV (ci := 2) hC hG (Nat.le_of_ble_eq_true rfl) (Nat.le_of_ble_eq_true rfl) (zobj hG ho (Nat.le_of_ble_eq_true rfl) (Nat.le_of_ble_eq_true rfl)) (mJ2_grow l P G1 o ho hV) kVJ2_129 rfl rfl rfl ⟨(Nat.le_of_ble_eq_true rfl), (Nat.le_of_ble_eq_true rfl)⟩ ⟨(Nat.le_of_ble_eq_true rfl), (Nat.le_of_ble_eq_true rfl)⟩ rfl ⟨zcs_0, (Nat.le_of_ble_eq_true rfl)⟩ hL.1.1 dJ2_add_3_33) ?_
    rintro x5 G5 _ _  hV hG
    refine z_astore (lv' := [(4, zrv P x5), (3, .int (zI x2)), (0, .ref (zA P o 0 0)), (1, .int (zI p0)), (2, zrv P p1)]) hC zvr_r hL (by decide) rfl dJ2_add_3_36 (fun ls hL => ?_)
    exact hJ38 x5 G5 hV _ _ _ hG (hL.sub [2, 3, 4, 1, 0] rfl)
abbrev rJ2_fastRemove : Room := { frames := 1, cells := 0, slots := 0, locals := 68 }
def vJ2_fastRemove (o : Nat) (p0 : ZR) (p1 : Int) (G : ZG) (Q : ZG → Prop) : Prop := zgF G o 0 fun (x1 : Int) => zpF G o 0 (w32 (x1 + 1)) fun (G1 : ZG) => zgF G1 o 2 fun (x2 : Int) => zlt1 (w32 (x2 - 1)) fun (x3 : Int) => zjn (fun (H34 : ZG) => zpF H34 o 2 x3 fun (G2 : ZG) => zeU G2 p0 x3 none fun (G3 : ZG) => Q G3) fun J34 => zbr (w32 (x2 - 1) ≤ p1) (J34 G1) (zcpR G1 p0 (w32 (p1 + 1)) p0 p1 (w32 (x3 - p1)) fun (G4 : ZG) => J34 G4)
set_option maxHeartbeats 4000000 in
theorem mJ2_fastRemove (l : Launch) (P : ZP) (G : ZG) (o : Nat) (ho : tCls o = 2) (p0 : ZR) (p1 : Int) (hp1 : inR p1) {Q : ZG → Prop} (hV : vJ2_fastRemove o p0 p1 G Q) : Met l yJ2_fastRemove (ws_ yJ2_fastRemove cJ2_fastRemove 4 none) rJ2_fastRemove (zPc P G [.ref (zA P o 0 0), zrv P p0, .int (zI p1)]) (zQv P Q) 0 0 (zAr P) := by
  refine zMet RJ2 (by decide +kernel) rfl (zcs_c rfl (zcs_c (zrv_cat _ _) (zcs_c rfl zcs_0))) (Nat.le_of_ble_eq_true rfl) (fun p e s m args below meth c ls hC hr hk hn hG hL => ?_)
  unfold vJ2_fastRemove at hV
  refine z_aload_n hC zvr_a rfl (hL.at 0 rfl) dJ2_fastRemove_0 ?_
  refine z_dup hC rfl dJ2_fastRemove_1 ?_
  refine z_getF hC hG kFJ2_63_2 ho rfl hV dJ2_fastRemove_2 ?_
  intro x1 hx1 hV
  refine z_iconst hC dJ2_fastRemove_5 ?_
  refine z_iadd hC dJ2_fastRemove_6 ?_
  refine z_putF hC hG kFJ2_63_2 ho rfl rfl rfl nk_2_0 (inR_w _) (Or.inl rfl) hV dJ2_fastRemove_7 ?_
  intro G1 _ _ hG hV
  refine z_aload_n hC zvr_a rfl (hL.at 0 rfl) dJ2_fastRemove_10 ?_
  refine z_getF hC hG kFJ2_48_2 ho rfl hV dJ2_fastRemove_11 ?_
  intro x2 hx2 hV
  refine z_iconst hC dJ2_fastRemove_14 ?_
  refine z_isub hC dJ2_fastRemove_15 ?_
  refine z_dup hC rfl dJ2_fastRemove_16 ?_
  refine z_top hV (inR_w _) ?_
  intro x3 hx3 hV
  refine z_istore_n (lv' := [(3, .int (zI x3)), (0, .ref (zA P o 0 0)), (1, zrv P p0), (2, .int (zI p1))]) hC rfl hL (by decide) rfl dJ2_fastRemove_17 (fun ls hL => ?_)
  refine z_iload_n hC rfl (hL.at 3 rfl) dJ2_fastRemove_18 ?_
  obtain ⟨J34, eJ34, hV⟩ := zjn_abs hV
  have hJ34 : ∀ (H34 : ZG), J34 H34 → ∀ (H : Heap) (locs : List Loc) (ls : Array Slot), zS P s H34 H locs → zL ls 4 [(0, .ref (zA P o 0 0)), (1, zrv P p0), (3, .int (zI x3))] → W p l e rJ2_fastRemove s m args below meth c H locs 0 0 (MQ below (zQv P Q) args s 0 0 (zAr P)) (F0 m 34 ls []) := by
    intro H34 hV H locs ls hG hL
    rw [eJ34] at hV
    refine z_aload_n hC zvr_r rfl (hL.at 1 rfl) dJ2_fastRemove_34 ?_
    refine z_aload_n hC zvr_a rfl (hL.at 0 rfl) dJ2_fastRemove_35 ?_
    refine z_iload_n hC rfl (hL.at 2 rfl) dJ2_fastRemove_36 ?_
    refine z_dup_x1 hC rfl rfl dJ2_fastRemove_37 ?_
    refine z_putF hC hG kFJ2_48_2 ho rfl rfl rfl nk_2_2 hx3 (Or.inl rfl) hV dJ2_fastRemove_38 ?_
    intro G2 _ _ hG hV
    refine z_null hC dJ2_fastRemove_41 ?_
    refine z_eust (x := none) hC hG hx3 hV dJ2_fastRemove_42 ?_
    intro G3 _ _ hG hV
    exact z_vret hC hG hr hk hV (Nat.le_of_ble_eq_true rfl) (Nat.le_of_ble_eq_true rfl) dJ2_fastRemove_43
  refine z_icmp_le (tgt := 34) hC (inR_w _) hp1 hV dJ2_fastRemove_19 (by decide) ?_ ?_
  · intro hV
    exact hJ34 G1 hV _ _ _ hG (hL.sub [1, 2, 0] rfl)
  · intro hV
    refine z_aload_n hC zvr_r rfl (hL.at 2 rfl) dJ2_fastRemove_22 ?_
    refine z_iload_n hC rfl (hL.at 3 rfl) dJ2_fastRemove_23 ?_
    refine z_iconst hC dJ2_fastRemove_24 ?_
    refine z_iadd hC dJ2_fastRemove_25 ?_
    refine z_aload_n hC zvr_r rfl (hL.at 2 rfl) dJ2_fastRemove_26 ?_
    refine z_iload_n hC rfl (hL.at 3 rfl) dJ2_fastRemove_27 ?_
    refine z_iload_n hC rfl (hL.at 0 rfl) dJ2_fastRemove_28 ?_
    refine z_iload_n hC rfl (hL.at 3 rfl) dJ2_fastRemove_29 ?_
    refine z_isub hC dJ2_fastRemove_30 ?_
    refine z_acpR hC hG hL.1.1 kAJ2_112 (inR_w _) hp1 (inR_w _) hV ⟨zcs_0, (Nat.le_of_ble_eq_true rfl)⟩ ⟨(Nat.le_of_ble_eq_true rfl), (Nat.le_of_ble_eq_true rfl)⟩ dJ2_fastRemove_31 ?_
    intro G4 _ _ hG hV
    exact hJ34 G4 hV _ _ _ hG (hL.sub [1, 2, 0] rfl)
abbrev rJ2_remove : Room := { frames := 3, cells := 0, slots := 0, locals := 91 }
def vJ2_remove (o : Nat) (p0 : Int) (G : ZG) (Q : ZR → ZG → Prop) : Prop := zgF G o 2 fun (x1 : Int) => vJ13_checkIndex p0 x1 fun (x2 : Int) => zgU G o 1 fun (x3 : ZR) => zeR G x3 p0 fun (x4 : ZR) => vJ2_fastRemove o x3 p0 G fun (G1 : ZG) => Q x4 G1
set_option maxHeartbeats 4000000 in
theorem mJ2_remove (l : Launch) (P : ZP) (G : ZG) (o : Nat) (ho : tCls o = 2) (p0 : Int) (hp0 : inR p0) {Q : ZR → ZG → Prop} (hV : vJ2_remove o p0 G Q) : Met l yJ2_remove (ws_ yJ2_remove cJ2_remove 4 (some (.object "java/lang/Object"))) rJ2_remove (zPc P G [.ref (zA P o 0 0), .int (zI p0)]) (zQr P Q) 0 0 (zAr P) := by
  refine zMet RJ2 (by decide +kernel) rfl (zcs_c rfl (zcs_c rfl zcs_0)) (Nat.le_of_ble_eq_true rfl) (fun p e s m args below meth c ls hC hr hk hn hG hL => ?_)
  unfold vJ2_remove at hV
  refine z_iload_n hC rfl (hL.at 1 rfl) dJ2_remove_0 ?_
  refine z_aload_n hC zvr_a rfl (hL.at 0 rfl) dJ2_remove_1 ?_
  refine z_getF hC hG kFJ2_48_2 ho rfl hV dJ2_remove_2 ?_
  intro x1 hx1 hV
  refine z_call_i hG (zrunS hC hG (mJ13_checkIndex l P G p0 hp0 x1 hx1 hV) kSJ2_118 rfl rfl rfl ⟨(Nat.le_of_ble_eq_true rfl), (Nat.le_of_ble_eq_true rfl)⟩ ⟨(Nat.le_of_ble_eq_true rfl), (Nat.le_of_ble_eq_true rfl)⟩ rfl ⟨zcs_0, (Nat.le_of_ble_eq_true rfl)⟩ hL.1.1 dJ2_remove_5) ?_
  rintro x2 _ _ _ hx2 ⟨rfl, hV⟩ hG
  refine z_pop hC rfl dJ2_remove_8 ?_
  refine z_aload_n hC zvr_a rfl (hL.at 0 rfl) dJ2_remove_9 ?_
  refine z_getU hC hG kFJ2_9_2 ho rfl hV dJ2_remove_10 ?_
  intro x3 hV
  refine z_astore_n (lv' := [(2, zrv P x3), (0, .ref (zA P o 0 0)), (1, .int (zI p0))]) hC zvr_r rfl hL (by decide) rfl dJ2_remove_13 (fun ls hL => ?_)
  refine z_aload_n hC zvr_r rfl (hL.at 0 rfl) dJ2_remove_14 ?_
  refine z_iload_n hC rfl (hL.at 2 rfl) dJ2_remove_15 ?_
  refine z_erld hC hG hp0 hV dJ2_remove_16 ?_
  intro x4 hV
  refine z_astore_n (lv' := [(3, zrv P x4), (2, zrv P x3), (0, .ref (zA P o 0 0)), (1, .int (zI p0))]) hC zvr_r rfl hL (by decide) rfl dJ2_remove_17 (fun ls hL => ?_)
  refine z_aload_n hC zvr_a rfl (hL.at 2 rfl) dJ2_remove_18 ?_
  refine z_aload_n hC zvr_r rfl (hL.at 1 rfl) dJ2_remove_19 ?_
  refine z_iload_n hC rfl (hL.at 3 rfl) dJ2_remove_20 ?_
  refine z_call_v hG (zrunV (ci := 2) hC hG (Nat.le_of_ble_eq_true rfl) (Nat.le_of_ble_eq_true rfl) (zobj hG ho (Nat.le_of_ble_eq_true rfl) (Nat.le_of_ble_eq_true rfl)) (mJ2_fastRemove l P G o ho x3 p0 hp0 hV) kVJ2_144 rfl rfl rfl ⟨(Nat.le_of_ble_eq_true rfl), (Nat.le_of_ble_eq_true rfl)⟩ ⟨(Nat.le_of_ble_eq_true rfl), (Nat.le_of_ble_eq_true rfl)⟩ rfl ⟨zcs_0, (Nat.le_of_ble_eq_true rfl)⟩ hL.1.1 dJ2_remove_21) ?_
  rintro G1 _ _ hV hG
  refine z_aload_n hC zvr_r rfl (hL.at 0 rfl) dJ2_remove_24 ?_
  exact z_aret (r := x4) hC hG hr hk (Or.inl ⟨_, rfl⟩) hV (Nat.le_of_ble_eq_true rfl) (Nat.le_of_ble_eq_true rfl) dJ2_remove_25
abbrev rJ16_init : Room := { frames := 1, cells := 0, slots := 0, locals := 20 }
def vJ16_init (r0 : ZR) (Q : Unit → Prop) : Prop := znn r0 ∧ Q ()
set_option maxHeartbeats 4000000 in
theorem mJ16_init (l : Launch) (P : ZP) (G : ZG) (r0 : ZR) {Q : Unit → Prop} (hV : vJ16_init r0 Q) : Met l yJ16_init (ws_ yJ16_init cJ16_init 1 none) rJ16_init (zPc P G [zrv P r0]) (zQv P (fun G2 => G = G2 ∧ Q ())) 0 0 (zAr P) := by
  refine zMet RJ16 (by decide +kernel) rfl (zcs_c (zrv_cat _ _) zcs_0) (Nat.le_of_ble_eq_true rfl) (fun p e s m args below meth c ls hC hr hk hn hG hL => ?_)
  unfold vJ16_init at hV
  refine z_aload_n hC zvr_r rfl (hL.at 0 rfl) dJ16_init_0 ?_
  refine z_objD hC hV hL.1.1 kOJ16_1 ⟨zcs_0, (Nat.le_of_ble_eq_true rfl)⟩ ⟨(Nat.le_of_ble_eq_true rfl), (Nat.le_of_ble_eq_true rfl)⟩ dJ16_init_1 (fun hV => ?_)
  exact z_vret hC hG hr hk ⟨rfl, hV⟩ (Nat.le_of_ble_eq_true rfl) (Nat.le_of_ble_eq_true rfl) dJ16_init_4
abbrev rX7_init : Room := { frames := 2, cells := 0, slots := 0, locals := 40 }
def vX7_init (r0 : ZR) (p0 : Int) (p1 : Int) (p2 : ZR) (p3 : Int) (G : ZG) (Q : ZG → Prop) : Prop := znn r0 ∧ vJ16_init r0 fun (_ : Unit) => zdP G r0 7 0 (.inl p0) fun (G1 : ZG) => zdP G1 r0 7 1 (.inl p1) fun (G2 : ZG) => zdP G2 r0 7 2 (.inr p2) fun (G3 : ZG) => zdP G3 r0 7 3 (.inl p3) fun (G4 : ZG) => Q G4
set_option maxHeartbeats 4000000 in
theorem mX7_init (l : Launch) (P : ZP) (G : ZG) (r0 : ZR) (p0 : Int) (hp0 : inR p0) (p1 : Int) (hp1 : inR p1) (p2 : ZR) (p3 : Int) (hp3 : inR p3) {Q : ZG → Prop} (hV : vX7_init r0 p0 p1 p2 p3 G Q) : Met l yX7_init (ws_ yX7_init cX7_init 5 none) rX7_init (zPc P G [zrv P r0, .int (zI p0), .int (zI p1), zrv P p2, .int (zI p3)]) (zQv P Q) 0 0 (zAr P) := by
  refine zMet RX7 (plainFor_of_name (by decide)) rfl (zcs_c (zrv_cat _ _) (zcs_c rfl (zcs_c rfl (zcs_c (zrv_cat _ _) (zcs_c rfl zcs_0))))) (Nat.le_of_ble_eq_true rfl) (fun p e s m args below meth c ls hC hr hk hn hG hL => ?_)
  unfold vX7_init at hV
  refine z_aload_n hC zvr_r rfl (hL.at 0 rfl) dX7_init_0 ?_
  obtain ⟨hO1, hV⟩ := hV
  refine z_call_v hG (zrunI hC hG hO1 (mJ16_init l P G r0 hV) kIX7_1 rfl rfl rfl ⟨(Nat.le_of_ble_eq_true rfl), (Nat.le_of_ble_eq_true rfl)⟩ ⟨(Nat.le_of_ble_eq_true rfl), (Nat.le_of_ble_eq_true rfl)⟩ rfl ⟨zcs_0, (Nat.le_of_ble_eq_true rfl)⟩ hL.1.1 dX7_init_1) ?_
  rintro _ _ _ ⟨rfl, hV⟩ hG
  refine z_aload_n hC zvr_r rfl (hL.at 0 rfl) dX7_init_4 ?_
  refine z_iload_n hC rfl (hL.at 1 rfl) dX7_init_5 ?_
  refine z_dPF (v := (.inl p0)) hC hG kFX7_7_7 rfl hn rfl (znl_use nlX7_7) nk_7_0 zty_i (zvR_i hp0) hV dX7_init_6 ?_
  intro G1 _ _ hG hV
  refine z_aload_n hC zvr_r rfl (hL.at 0 rfl) dX7_init_9 ?_
  refine z_iload_n hC rfl (hL.at 2 rfl) dX7_init_10 ?_
  refine z_dPF (v := (.inl p1)) hC hG kFX7_13_7 rfl hn rfl (znl_use nlX7_13) nk_7_1 zty_i (zvR_i hp1) hV dX7_init_11 ?_
  intro G2 _ _ hG hV
  refine z_aload_n hC zvr_r rfl (hL.at 0 rfl) dX7_init_14 ?_
  refine z_aload_n hC zvr_r rfl (hL.at 3 rfl) dX7_init_15 ?_
  refine z_dPF (v := (.inr p2)) hC hG kFX7_16_7 rfl hn rfl (znl_use nlX7_16) nk_7_2 zty_a zvR_r hV dX7_init_16 ?_
  intro G3 _ _ hG hV
  refine z_aload_n hC zvr_r rfl (hL.at 0 rfl) dX7_init_19 ?_
  refine z_iload hC (hL.at 4 rfl) dX7_init_20 ?_
  refine z_dPF (v := (.inl p3)) hC hG kFX7_20_7 rfl hn rfl (znl_use nlX7_20) nk_7_3 zty_i (zvR_i hp3) hV dX7_init_22 ?_
  intro G4 _ _ hG hV
  exact z_vret hC hG hr hk hV (Nat.le_of_ble_eq_true rfl) (Nat.le_of_ble_eq_true rfl) dX7_init_25
abbrev rX7_kind : Room := { frames := 1, cells := 0, slots := 0, locals := 12 }
def vX7_kind (r0 : ZR) (G : ZG) (Q : Int → Prop) : Prop := zdI G r0 7 0 fun (x1 : Int) => Q x1
set_option maxHeartbeats 4000000 in
theorem mX7_kind (l : Launch) (P : ZP) (G : ZG) (r0 : ZR) {Q : Int → Prop} (hV : vX7_kind r0 G Q) : Met l yX7_kind (ws_ yX7_kind cX7_kind 1 (some .int)) rX7_kind (zPc P G [zrv P r0]) (zQi P (fun r G2 => G = G2 ∧ Q r)) 0 0 (zAr P) := by
  refine zMet RX7 (plainFor_of_name (by decide)) rfl (zcs_c (zrv_cat _ _) zcs_0) (Nat.le_of_ble_eq_true rfl) (fun p e s m args below meth c ls hC hr hk hn hG hL => ?_)
  unfold vX7_kind at hV
  refine z_aload_n hC zvr_r rfl (hL.at 0 rfl) dX7_kind_0 ?_
  refine z_dI hC hG kFX7_7_7 hV dX7_kind_1 ?_
  intro x1 hx1 hV
  exact z_iret hC hG hr hk hx1 ⟨rfl, hV⟩ (Nat.le_of_ble_eq_true rfl) (Nat.le_of_ble_eq_true rfl) dX7_kind_4
abbrev rX7_measure : Room := { frames := 1, cells := 0, slots := 0, locals := 12 }
def vX7_measure (r0 : ZR) (G : ZG) (Q : Int → Prop) : Prop := zdI G r0 7 3 fun (x1 : Int) => Q x1
set_option maxHeartbeats 4000000 in
theorem mX7_measure (l : Launch) (P : ZP) (G : ZG) (r0 : ZR) {Q : Int → Prop} (hV : vX7_measure r0 G Q) : Met l yX7_measure (ws_ yX7_measure cX7_measure 1 (some .int)) rX7_measure (zPc P G [zrv P r0]) (zQi P (fun r G2 => G = G2 ∧ Q r)) 0 0 (zAr P) := by
  refine zMet RX7 (plainFor_of_name (by decide)) rfl (zcs_c (zrv_cat _ _) zcs_0) (Nat.le_of_ble_eq_true rfl) (fun p e s m args below meth c ls hC hr hk hn hG hL => ?_)
  unfold vX7_measure at hV
  refine z_aload_n hC zvr_r rfl (hL.at 0 rfl) dX7_measure_0 ?_
  refine z_dI hC hG kFX7_20_7 hV dX7_measure_1 ?_
  intro x1 hx1 hV
  exact z_iret hC hG hr hk hx1 ⟨rfl, hV⟩ (Nat.le_of_ble_eq_true rfl) (Nat.le_of_ble_eq_true rfl) dX7_measure_4
abbrev rX7_parts : Room := { frames := 1, cells := 0, slots := 0, locals := 12 }
def vX7_parts (r0 : ZR) (G : ZG) (Q : ZR → Prop) : Prop := zdR G r0 7 2 fun (x1 : ZR) => Q x1
set_option maxHeartbeats 4000000 in
theorem mX7_parts (l : Launch) (P : ZP) (G : ZG) (r0 : ZR) {Q : ZR → Prop} (hV : vX7_parts r0 G Q) : Met l yX7_parts (ws_ yX7_parts cX7_parts 1 (some (.array .int))) rX7_parts (zPc P G [zrv P r0]) (zQr P (fun r G2 => G = G2 ∧ Q r)) 0 0 (zAr P) := by
  refine zMet RX7 (plainFor_of_name (by decide)) rfl (zcs_c (zrv_cat _ _) zcs_0) (Nat.le_of_ble_eq_true rfl) (fun p e s m args below meth c ls hC hr hk hn hG hL => ?_)
  unfold vX7_parts at hV
  refine z_aload_n hC zvr_r rfl (hL.at 0 rfl) dX7_parts_0 ?_
  refine z_dR hC hG kFX7_16_7 hV dX7_parts_1 ?_
  intro x1 hV
  exact z_aret (r := x1) hC hG hr hk (Or.inr ⟨_, rfl⟩) ⟨rfl, hV⟩ (Nat.le_of_ble_eq_true rfl) (Nat.le_of_ble_eq_true rfl) dX7_parts_4
abbrev rX7_first : Room := { frames := 1, cells := 0, slots := 0, locals := 12 }
def vX7_first (r0 : ZR) (G : ZG) (Q : Int → Prop) : Prop := zdI G r0 7 1 fun (x1 : Int) => Q x1
set_option maxHeartbeats 4000000 in
theorem mX7_first (l : Launch) (P : ZP) (G : ZG) (r0 : ZR) {Q : Int → Prop} (hV : vX7_first r0 G Q) : Met l yX7_first (ws_ yX7_first cX7_first 1 (some .int)) rX7_first (zPc P G [zrv P r0]) (zQi P (fun r G2 => G = G2 ∧ Q r)) 0 0 (zAr P) := by
  refine zMet RX7 (plainFor_of_name (by decide)) rfl (zcs_c (zrv_cat _ _) zcs_0) (Nat.le_of_ble_eq_true rfl) (fun p e s m args below meth c ls hC hr hk hn hG hL => ?_)
  unfold vX7_first at hV
  refine z_aload_n hC zvr_r rfl (hL.at 0 rfl) dX7_first_0 ?_
  refine z_dI hC hG kFX7_13_7 hV dX7_first_1 ?_
  intro x1 hx1 hV
  exact z_iret hC hG hr hk hx1 ⟨rfl, hV⟩ (Nat.le_of_ble_eq_true rfl) (Nat.le_of_ble_eq_true rfl) dX7_first_4
abbrev rX9_init : Room := { frames := 2, cells := 0, slots := 0, locals := 40 }
def vX9_init (r0 : ZR) (p0 : ZR) (p1 : Int) (p2 : Int) (p3 : Int) (p4 : Int) (p5 : Int) (p6 : Int) (G : ZG) (Q : ZG → Prop) : Prop := znn r0 ∧ vJ16_init r0 fun (_ : Unit) => zdP G r0 9 0 (.inr p0) fun (G1 : ZG) => zdP G1 r0 9 1 (.inl p1) fun (G2 : ZG) => zdP G2 r0 9 2 (.inl p2) fun (G3 : ZG) => zdP G3 r0 9 3 (.inl p3) fun (G4 : ZG) => zdP G4 r0 9 4 (.inl p4) fun (G5 : ZG) => zdP G5 r0 9 5 (.inl p5) fun (G6 : ZG) => zdP G6 r0 9 6 (.inl p6) fun (G7 : ZG) => Q G7
set_option maxHeartbeats 4000000 in
theorem mX9_init (l : Launch) (P : ZP) (G : ZG) (r0 : ZR) (p0 : ZR) (p1 : Int) (hp1 : inR p1) (p2 : Int) (hp2 : inR p2) (p3 : Int) (hp3 : inR p3) (p4 : Int) (hp4 : inR p4) (p5 : Int) (hp5 : p5 = 0 ∨ p5 = 1) (p6 : Int) (hp6 : p6 = 0 ∨ p6 = 1) {Q : ZG → Prop} (hV : vX9_init r0 p0 p1 p2 p3 p4 p5 p6 G Q) : Met l yX9_init (ws_ yX9_init cX9_init 8 none) rX9_init (zPc P G [zrv P r0, zrv P p0, .int (zI p1), .int (zI p2), .int (zI p3), .int (zI p4), .int (zI p5), .int (zI p6)]) (zQv P Q) 0 0 (zAr P) := by
  refine zMet RX9 (plainFor_of_name (by decide)) rfl (zcs_c (zrv_cat _ _) (zcs_c (zrv_cat _ _) (zcs_c rfl (zcs_c rfl (zcs_c rfl (zcs_c rfl (zcs_c rfl (zcs_c rfl zcs_0)))))))) (Nat.le_of_ble_eq_true rfl) (fun p e s m args below meth c ls hC hr hk hn hG hL => ?_)
  unfold vX9_init at hV
  refine z_aload_n hC zvr_r rfl (hL.at 0 rfl) dX9_init_0 ?_
  obtain ⟨hO1, hV⟩ := hV
  refine z_call_v hG (zrunI hC hG hO1 (mJ16_init l P G r0 hV) kIX9_3 rfl rfl rfl ⟨(Nat.le_of_ble_eq_true rfl), (Nat.le_of_ble_eq_true rfl)⟩ ⟨(Nat.le_of_ble_eq_true rfl), (Nat.le_of_ble_eq_true rfl)⟩ rfl ⟨zcs_0, (Nat.le_of_ble_eq_true rfl)⟩ hL.1.1 dX9_init_1) ?_
  rintro _ _ _ ⟨rfl, hV⟩ hG
  refine z_aload_n hC zvr_r rfl (hL.at 0 rfl) dX9_init_4 ?_
  refine z_aload_n hC zvr_r rfl (hL.at 1 rfl) dX9_init_5 ?_
  refine z_dPF (v := (.inr p0)) hC hG kFX9_9_9 rfl hn rfl (znl_use nlX9_9) nk_9_0 zty_o zvR_r hV dX9_init_6 ?_
  intro G1 _ _ hG hV
  refine z_aload_n hC zvr_r rfl (hL.at 0 rfl) dX9_init_9 ?_
  refine z_iload_n hC rfl (hL.at 2 rfl) dX9_init_10 ?_
  refine z_dPF (v := (.inl p1)) hC hG kFX9_15_9 rfl hn rfl (znl_use nlX9_15) nk_9_1 zty_i (zvR_i hp1) hV dX9_init_11 ?_
  intro G2 _ _ hG hV
  refine z_aload_n hC zvr_r rfl (hL.at 0 rfl) dX9_init_14 ?_
  refine z_iload_n hC rfl (hL.at 3 rfl) dX9_init_15 ?_
  refine z_dPF (v := (.inl p2)) hC hG kFX9_19_9 rfl hn rfl (znl_use nlX9_19) nk_9_2 zty_i (zvR_i hp2) hV dX9_init_16 ?_
  intro G3 _ _ hG hV
  refine z_aload_n hC zvr_r rfl (hL.at 0 rfl) dX9_init_19 ?_
  refine z_iload hC (hL.at 4 rfl) dX9_init_20 ?_
  refine z_dPF (v := (.inl p3)) hC hG kFX9_22_9 rfl hn rfl (znl_use nlX9_22) nk_9_3 zty_i (zvR_i hp3) hV dX9_init_22 ?_
  intro G4 _ _ hG hV
  refine z_aload_n hC zvr_r rfl (hL.at 0 rfl) dX9_init_25 ?_
  refine z_iload hC (hL.at 5 rfl) dX9_init_26 ?_
  refine z_dPF (v := (.inl p4)) hC hG kFX9_25_9 rfl hn rfl (znl_use nlX9_25) nk_9_4 zty_i (zvR_i hp4) hV dX9_init_28 ?_
  intro G5 _ _ hG hV
  refine z_aload_n hC zvr_r rfl (hL.at 0 rfl) dX9_init_31 ?_
  refine z_iload hC (hL.at 6 rfl) dX9_init_32 ?_
  refine z_dPF (v := (.inl p5)) hC hG kFX9_28_9 rfl hn rfl (znl_use nlX9_28) nk_9_5 (zty_z hp5) (zvR_i (inR_b hp5)) hV dX9_init_34 ?_
  intro G6 _ _ hG hV
  refine z_aload_n hC zvr_r rfl (hL.at 0 rfl) dX9_init_37 ?_
  refine z_iload hC (hL.at 7 rfl) dX9_init_38 ?_
  refine z_dPF (v := (.inl p6)) hC hG kFX9_32_9 rfl hn rfl (znl_use nlX9_32) nk_9_6 (zty_z hp6) (zvR_i (inR_b hp6)) hV dX9_init_40 ?_
  intro G7 _ _ hG hV
  exact z_vret hC hG hr hk hV (Nat.le_of_ble_eq_true rfl) (Nat.le_of_ble_eq_true rfl) dX9_init_43
abbrev rX9_names : Room := { frames := 1, cells := 0, slots := 0, locals := 12 }
def vX9_names (r0 : ZR) (G : ZG) (Q : Int → Prop) : Prop := zdI G r0 9 2 fun (x1 : Int) => Q x1
set_option maxHeartbeats 4000000 in
theorem mX9_names (l : Launch) (P : ZP) (G : ZG) (r0 : ZR) {Q : Int → Prop} (hV : vX9_names r0 G Q) : Met l yX9_names (ws_ yX9_names cX9_names 1 (some .int)) rX9_names (zPc P G [zrv P r0]) (zQi P (fun r G2 => G = G2 ∧ Q r)) 0 0 (zAr P) := by
  refine zMet RX9 (plainFor_of_name (by decide)) rfl (zcs_c (zrv_cat _ _) zcs_0) (Nat.le_of_ble_eq_true rfl) (fun p e s m args below meth c ls hC hr hk hn hG hL => ?_)
  unfold vX9_names at hV
  refine z_aload_n hC zvr_r rfl (hL.at 0 rfl) dX9_names_0 ?_
  refine z_dI hC hG kFX9_19_9 hV dX9_names_1 ?_
  intro x1 hx1 hV
  exact z_iret hC hG hr hk hx1 ⟨rfl, hV⟩ (Nat.le_of_ble_eq_true rfl) (Nat.le_of_ble_eq_true rfl) dX9_names_4
abbrev rX9_pattern : Room := { frames := 1, cells := 0, slots := 0, locals := 12 }
def vX9_pattern (r0 : ZR) (G : ZG) (Q : ZR → Prop) : Prop := zdR G r0 9 0 fun (x1 : ZR) => Q x1
set_option maxHeartbeats 4000000 in
theorem mX9_pattern (l : Launch) (P : ZP) (G : ZG) (r0 : ZR) {Q : ZR → Prop} (hV : vX9_pattern r0 G Q) : Met l yX9_pattern (ws_ yX9_pattern cX9_pattern 1 (some (.object "Patternforge$Pattern"))) rX9_pattern (zPc P G [zrv P r0]) (zQr P (fun r G2 => G = G2 ∧ Q r)) 0 0 (zAr P) := by
  refine zMet RX9 (plainFor_of_name (by decide)) rfl (zcs_c (zrv_cat _ _) zcs_0) (Nat.le_of_ble_eq_true rfl) (fun p e s m args below meth c ls hC hr hk hn hG hL => ?_)
  unfold vX9_pattern at hV
  refine z_aload_n hC zvr_r rfl (hL.at 0 rfl) dX9_pattern_0 ?_
  refine z_dR hC hG kFX9_9_9 hV dX9_pattern_1 ?_
  intro x1 hV
  exact z_aret (r := x1) hC hG hr hk (Or.inl ⟨_, rfl⟩) ⟨rfl, hV⟩ (Nat.le_of_ble_eq_true rfl) (Nat.le_of_ble_eq_true rfl) dX9_pattern_4
abbrev rX9_kind : Room := { frames := 1, cells := 0, slots := 0, locals := 12 }
def vX9_kind (r0 : ZR) (G : ZG) (Q : Int → Prop) : Prop := zdI G r0 9 1 fun (x1 : Int) => Q x1
set_option maxHeartbeats 4000000 in
theorem mX9_kind (l : Launch) (P : ZP) (G : ZG) (r0 : ZR) {Q : Int → Prop} (hV : vX9_kind r0 G Q) : Met l yX9_kind (ws_ yX9_kind cX9_kind 1 (some .int)) rX9_kind (zPc P G [zrv P r0]) (zQi P (fun r G2 => G = G2 ∧ Q r)) 0 0 (zAr P) := by
  refine zMet RX9 (plainFor_of_name (by decide)) rfl (zcs_c (zrv_cat _ _) zcs_0) (Nat.le_of_ble_eq_true rfl) (fun p e s m args below meth c ls hC hr hk hn hG hL => ?_)
  unfold vX9_kind at hV
  refine z_aload_n hC zvr_r rfl (hL.at 0 rfl) dX9_kind_0 ?_
  refine z_dI hC hG kFX9_15_9 hV dX9_kind_1 ?_
  intro x1 hx1 hV
  exact z_iret hC hG hr hk hx1 ⟨rfl, hV⟩ (Nat.le_of_ble_eq_true rfl) (Nat.le_of_ble_eq_true rfl) dX9_kind_4
abbrev rX9_depth : Room := { frames := 1, cells := 0, slots := 0, locals := 12 }
def vX9_depth (r0 : ZR) (G : ZG) (Q : Int → Prop) : Prop := zdI G r0 9 3 fun (x1 : Int) => Q x1
set_option maxHeartbeats 4000000 in
theorem mX9_depth (l : Launch) (P : ZP) (G : ZG) (r0 : ZR) {Q : Int → Prop} (hV : vX9_depth r0 G Q) : Met l yX9_depth (ws_ yX9_depth cX9_depth 1 (some .int)) rX9_depth (zPc P G [zrv P r0]) (zQi P (fun r G2 => G = G2 ∧ Q r)) 0 0 (zAr P) := by
  refine zMet RX9 (plainFor_of_name (by decide)) rfl (zcs_c (zrv_cat _ _) zcs_0) (Nat.le_of_ble_eq_true rfl) (fun p e s m args below meth c ls hC hr hk hn hG hL => ?_)
  unfold vX9_depth at hV
  refine z_aload_n hC zvr_r rfl (hL.at 0 rfl) dX9_depth_0 ?_
  refine z_dI hC hG kFX9_22_9 hV dX9_depth_1 ?_
  intro x1 hx1 hV
  exact z_iret hC hG hr hk hx1 ⟨rfl, hV⟩ (Nat.le_of_ble_eq_true rfl) (Nat.le_of_ble_eq_true rfl) dX9_depth_4
abbrev rX9_size : Room := { frames := 1, cells := 0, slots := 0, locals := 12 }
def vX9_size (r0 : ZR) (G : ZG) (Q : Int → Prop) : Prop := zdI G r0 9 4 fun (x1 : Int) => Q x1
set_option maxHeartbeats 4000000 in
theorem mX9_size (l : Launch) (P : ZP) (G : ZG) (r0 : ZR) {Q : Int → Prop} (hV : vX9_size r0 G Q) : Met l yX9_size (ws_ yX9_size cX9_size 1 (some .int)) rX9_size (zPc P G [zrv P r0]) (zQi P (fun r G2 => G = G2 ∧ Q r)) 0 0 (zAr P) := by
  refine zMet RX9 (plainFor_of_name (by decide)) rfl (zcs_c (zrv_cat _ _) zcs_0) (Nat.le_of_ble_eq_true rfl) (fun p e s m args below meth c ls hC hr hk hn hG hL => ?_)
  unfold vX9_size at hV
  refine z_aload_n hC zvr_r rfl (hL.at 0 rfl) dX9_size_0 ?_
  refine z_dI hC hG kFX9_25_9 hV dX9_size_1 ?_
  intro x1 hx1 hV
  exact z_iret hC hG hr hk hx1 ⟨rfl, hV⟩ (Nat.le_of_ble_eq_true rfl) (Nat.le_of_ble_eq_true rfl) dX9_size_4
abbrev rX9_isPure : Room := { frames := 1, cells := 0, slots := 0, locals := 12 }
def vX9_isPure (r0 : ZR) (G : ZG) (Q : Int → Prop) : Prop := zdI G r0 9 5 fun (x1 : Int) => (x1 = 0 ∨ x1 = 1) ∧ Q x1
set_option maxHeartbeats 4000000 in
theorem mX9_isPure (l : Launch) (P : ZP) (G : ZG) (r0 : ZR) {Q : Int → Prop} (hV : vX9_isPure r0 G Q) : Met l yX9_isPure (ws_ yX9_isPure cX9_isPure 1 (some .boolean)) rX9_isPure (zPc P G [zrv P r0]) (zQz P (fun r G2 => G = G2 ∧ Q r)) 0 0 (zAr P) := by
  refine zMet RX9 (plainFor_of_name (by decide)) rfl (zcs_c (zrv_cat _ _) zcs_0) (Nat.le_of_ble_eq_true rfl) (fun p e s m args below meth c ls hC hr hk hn hG hL => ?_)
  unfold vX9_isPure at hV
  refine z_aload_n hC zvr_r rfl (hL.at 0 rfl) dX9_isPure_0 ?_
  refine z_dI hC hG kFX9_28_9 hV dX9_isPure_1 ?_
  intro x1 hx1 hV
  obtain ⟨hb2, hV⟩ := hV
  exact z_zret hC hG hr hk hb2 ⟨rfl, hV⟩ (Nat.le_of_ble_eq_true rfl) (Nat.le_of_ble_eq_true rfl) dX9_isPure_4
abbrev rX9_fits : Room := { frames := 1, cells := 0, slots := 0, locals := 12 }
def vX9_fits (r0 : ZR) (p0 : Int) (G : ZG) (Q : Int → Prop) : Prop := zdI G r0 9 1 fun (x1 : Int) => zjn (fun (z21_0 : Int) => Q z21_0) fun J21 => zjn (fun (_ : Unit) => J21 1) fun J16 => zbr (x1 = (-1)) (J16 ()) (zdI G r0 9 1 fun (x2 : Int) => zbr (x2 ≠ p0) (J21 0) (J16 ()))
set_option maxHeartbeats 4000000 in
theorem mX9_fits (l : Launch) (P : ZP) (G : ZG) (r0 : ZR) (p0 : Int) (hp0 : inR p0) {Q : Int → Prop} (hV : vX9_fits r0 p0 G Q) : Met l yX9_fits (ws_ yX9_fits cX9_fits 2 (some .boolean)) rX9_fits (zPc P G [zrv P r0, .int (zI p0)]) (zQz P (fun r G2 => G = G2 ∧ Q r)) 0 0 (zAr P) := by
  refine zMet RX9 (plainFor_of_name (by decide)) rfl (zcs_c (zrv_cat _ _) (zcs_c rfl zcs_0)) (Nat.le_of_ble_eq_true rfl) (fun p e s m args below meth c ls hC hr hk hn hG hL => ?_)
  unfold vX9_fits at hV
  refine z_aload_n hC zvr_r rfl (hL.at 0 rfl) dX9_fits_0 ?_
  refine z_dI hC hG kFX9_15_9 hV dX9_fits_1 ?_
  intro x1 hx1 hV
  refine z_iconst hC dX9_fits_4 ?_
  obtain ⟨J21, eJ21, hV⟩ := zjn_abs hV
  have hJ21 : ∀ {H : Heap} {locs : List Loc}, zS P s G H locs → ∀ (z21_0 : Int), (z21_0 = 0 ∨ z21_0 = 1) → J21 z21_0 → ∀ (ls : Array Slot), zL ls 2 [] → W p l e rX9_fits s m args below meth c H locs 0 0 (MQ below (zQz P (fun r G2 => G = G2 ∧ Q r)) args s 0 0 (zAr P)) (F0 m 21 ls [.int (zI z21_0)]) := by
    intro H locs hG z21_0 hz21_0 hV ls hL
    rw [eJ21] at hV
    exact z_zret hC hG hr hk hz21_0 ⟨rfl, hV⟩ (Nat.le_of_ble_eq_true rfl) (Nat.le_of_ble_eq_true rfl) dX9_fits_21
  obtain ⟨J16, eJ16, hV⟩ := zjn_abs hV
  have hJ16 : ∀ {H : Heap} {locs : List Loc}, zS P s G H locs → J16 () → ∀ (ls : Array Slot), zL ls 2 [] → W p l e rX9_fits s m args below meth c H locs 0 0 (MQ below (zQz P (fun r G2 => G = G2 ∧ Q r)) args s 0 0 (zAr P)) (F0 m 16 ls []) := by
    intro H locs hG hV ls hL
    rw [eJ16] at hV
    refine z_iconst hC dX9_fits_16 ?_
    refine z_goto (tgt := 21) hC dX9_fits_17 (by decide) ?_
    exact hJ21 hG 1 (Or.inr rfl) hV _ hL
  refine z_icmp_eq (tgt := 16) hC hx1 (inR_lit rfl) hV dX9_fits_5 (by decide) ?_ ?_
  · intro hV
    exact hJ16 hG hV _ (hL.sub [] rfl)
  · intro hV
    refine z_aload_n hC zvr_r rfl (hL.at 0 rfl) dX9_fits_8 ?_
    refine z_dI hC hG kFX9_15_9 hV dX9_fits_9 ?_
    intro x2 hx2 hV
    refine z_iload_n hC rfl (hL.at 1 rfl) dX9_fits_12 ?_
    refine z_icmp_ne (tgt := 20) hC hx2 hp0 hV dX9_fits_13 (by decide) ?_ ?_
    · intro hV
      refine z_iconst hC dX9_fits_20 ?_
      exact hJ21 hG 0 (Or.inl rfl) hV _ (hL.sub [] rfl)
    · intro hV
      exact hJ16 hG hV _ (hL.sub [] rfl)
abbrev rX9_isForNumbers : Room := { frames := 1, cells := 0, slots := 0, locals := 12 }
def vX9_isForNumbers (r0 : ZR) (G : ZG) (Q : Int → Prop) : Prop := zdI G r0 9 6 fun (x1 : Int) => (x1 = 0 ∨ x1 = 1) ∧ Q x1
set_option maxHeartbeats 4000000 in
theorem mX9_isForNumbers (l : Launch) (P : ZP) (G : ZG) (r0 : ZR) {Q : Int → Prop} (hV : vX9_isForNumbers r0 G Q) : Met l yX9_isForNumbers (ws_ yX9_isForNumbers cX9_isForNumbers 1 (some .boolean)) rX9_isForNumbers (zPc P G [zrv P r0]) (zQz P (fun r G2 => G = G2 ∧ Q r)) 0 0 (zAr P) := by
  refine zMet RX9 (plainFor_of_name (by decide)) rfl (zcs_c (zrv_cat _ _) zcs_0) (Nat.le_of_ble_eq_true rfl) (fun p e s m args below meth c ls hC hr hk hn hG hL => ?_)
  unfold vX9_isForNumbers at hV
  refine z_aload_n hC zvr_r rfl (hL.at 0 rfl) dX9_isForNumbers_0 ?_
  refine z_dI hC hG kFX9_32_9 hV dX9_isForNumbers_1 ?_
  intro x1 hx1 hV
  obtain ⟨hb2, hV⟩ := hV
  exact z_zret hC hG hr hk hb2 ⟨rfl, hV⟩ (Nat.le_of_ble_eq_true rfl) (Nat.le_of_ble_eq_true rfl) dX9_isForNumbers_4
abbrev rX10_init : Room := { frames := 2, cells := 0, slots := 0, locals := 40 }
def vX10_init (r0 : ZR) (p0 : Int) (p1 : ZR) (G : ZG) (Q : ZG → Prop) : Prop := znn r0 ∧ vJ16_init r0 fun (_ : Unit) => zdP G r0 10 0 (.inl p0) fun (G1 : ZG) => zdP G1 r0 10 1 (.inr p1) fun (G2 : ZG) => Q G2
set_option maxHeartbeats 4000000 in
theorem mX10_init (l : Launch) (P : ZP) (G : ZG) (r0 : ZR) (p0 : Int) (hp0 : inR p0) (p1 : ZR) {Q : ZG → Prop} (hV : vX10_init r0 p0 p1 G Q) : Met l yX10_init (ws_ yX10_init cX10_init 3 none) rX10_init (zPc P G [zrv P r0, .int (zI p0), zrv P p1]) (zQv P Q) 0 0 (zAr P) := by
  refine zMet RX10 (plainFor_of_name (by decide)) rfl (zcs_c (zrv_cat _ _) (zcs_c rfl (zcs_c (zrv_cat _ _) zcs_0))) (Nat.le_of_ble_eq_true rfl) (fun p e s m args below meth c ls hC hr hk hn hG hL => ?_)
  unfold vX10_init at hV
  refine z_aload_n hC zvr_r rfl (hL.at 0 rfl) dX10_init_0 ?_
  obtain ⟨hO1, hV⟩ := hV
  refine z_call_v hG (zrunI hC hG hO1 (mJ16_init l P G r0 hV) kIX10_1 rfl rfl rfl ⟨(Nat.le_of_ble_eq_true rfl), (Nat.le_of_ble_eq_true rfl)⟩ ⟨(Nat.le_of_ble_eq_true rfl), (Nat.le_of_ble_eq_true rfl)⟩ rfl ⟨zcs_0, (Nat.le_of_ble_eq_true rfl)⟩ hL.1.1 dX10_init_1) ?_
  rintro _ _ _ ⟨rfl, hV⟩ hG
  refine z_aload_n hC zvr_r rfl (hL.at 0 rfl) dX10_init_4 ?_
  refine z_iload_n hC rfl (hL.at 1 rfl) dX10_init_5 ?_
  refine z_dPF (v := (.inl p0)) hC hG kFX10_7_10 rfl hn rfl (znl_use nlX10_7) nk_10_0 zty_i (zvR_i hp0) hV dX10_init_6 ?_
  intro G1 _ _ hG hV
  refine z_aload_n hC zvr_r rfl (hL.at 0 rfl) dX10_init_9 ?_
  refine z_aload_n hC zvr_r rfl (hL.at 2 rfl) dX10_init_10 ?_
  refine z_dPF (v := (.inr p1)) hC hG kFX10_13_10 rfl hn rfl (znl_use nlX10_13) nk_10_1 zty_o zvR_r hV dX10_init_11 ?_
  intro G2 _ _ hG hV
  exact z_vret hC hG hr hk hV (Nat.le_of_ble_eq_true rfl) (Nat.le_of_ble_eq_true rfl) dX10_init_14
abbrev rX10_name : Room := { frames := 1, cells := 0, slots := 0, locals := 12 }
def vX10_name (r0 : ZR) (G : ZG) (Q : Int → Prop) : Prop := zdI G r0 10 0 fun (x1 : Int) => Q x1
set_option maxHeartbeats 4000000 in
theorem mX10_name (l : Launch) (P : ZP) (G : ZG) (r0 : ZR) {Q : Int → Prop} (hV : vX10_name r0 G Q) : Met l yX10_name (ws_ yX10_name cX10_name 1 (some .int)) rX10_name (zPc P G [zrv P r0]) (zQi P (fun r G2 => G = G2 ∧ Q r)) 0 0 (zAr P) := by
  refine zMet RX10 (plainFor_of_name (by decide)) rfl (zcs_c (zrv_cat _ _) zcs_0) (Nat.le_of_ble_eq_true rfl) (fun p e s m args below meth c ls hC hr hk hn hG hL => ?_)
  unfold vX10_name at hV
  refine z_aload_n hC zvr_r rfl (hL.at 0 rfl) dX10_name_0 ?_
  refine z_dI hC hG kFX10_7_10 hV dX10_name_1 ?_
  intro x1 hx1 hV
  exact z_iret hC hG hr hk hx1 ⟨rfl, hV⟩ (Nat.le_of_ble_eq_true rfl) (Nat.le_of_ble_eq_true rfl) dX10_name_4
abbrev rX10_of : Room := { frames := 1, cells := 0, slots := 0, locals := 12 }
def vX10_of (r0 : ZR) (G : ZG) (Q : ZR → Prop) : Prop := zdR G r0 10 1 fun (x1 : ZR) => Q x1
set_option maxHeartbeats 4000000 in
theorem mX10_of (l : Launch) (P : ZP) (G : ZG) (r0 : ZR) {Q : ZR → Prop} (hV : vX10_of r0 G Q) : Met l yX10_of (ws_ yX10_of cX10_of 1 (some (.object "Patternforge$Pattern"))) rX10_of (zPc P G [zrv P r0]) (zQr P (fun r G2 => G = G2 ∧ Q r)) 0 0 (zAr P) := by
  refine zMet RX10 (plainFor_of_name (by decide)) rfl (zcs_c (zrv_cat _ _) zcs_0) (Nat.le_of_ble_eq_true rfl) (fun p e s m args below meth c ls hC hr hk hn hG hL => ?_)
  unfold vX10_of at hV
  refine z_aload_n hC zvr_r rfl (hL.at 0 rfl) dX10_of_0 ?_
  refine z_dR hC hG kFX10_13_10 hV dX10_of_1 ?_
  intro x1 hV
  exact z_aret (r := x1) hC hG hr hk (Or.inl ⟨_, rfl⟩) ⟨rfl, hV⟩ (Nat.le_of_ble_eq_true rfl) (Nat.le_of_ble_eq_true rfl) dX10_of_4
abbrev rX11_init : Room := { frames := 2, cells := 0, slots := 0, locals := 40 }
def vX11_init (r0 : ZR) (p0 : Int) (p1 : Int) (G : ZG) (Q : ZG → Prop) : Prop := znn r0 ∧ vJ16_init r0 fun (_ : Unit) => zdP G r0 11 0 (.inl p0) fun (G1 : ZG) => zdP G1 r0 11 1 (.inl p1) fun (G2 : ZG) => Q G2
set_option maxHeartbeats 4000000 in
theorem mX11_init (l : Launch) (P : ZP) (G : ZG) (r0 : ZR) (p0 : Int) (hp0 : inR p0) (p1 : Int) (hp1 : inR p1) {Q : ZG → Prop} (hV : vX11_init r0 p0 p1 G Q) : Met l yX11_init (ws_ yX11_init cX11_init 3 none) rX11_init (zPc P G [zrv P r0, .int (zI p0), .int (zI p1)]) (zQv P Q) 0 0 (zAr P) := by
  refine zMet RX11 (plainFor_of_name (by decide)) rfl (zcs_c (zrv_cat _ _) (zcs_c rfl (zcs_c rfl zcs_0))) (Nat.le_of_ble_eq_true rfl) (fun p e s m args below meth c ls hC hr hk hn hG hL => ?_)
  unfold vX11_init at hV
  refine z_aload_n hC zvr_r rfl (hL.at 0 rfl) dX11_init_0 ?_
  obtain ⟨hO1, hV⟩ := hV
  refine z_call_v hG (zrunI hC hG hO1 (mJ16_init l P G r0 hV) kIX11_1 rfl rfl rfl ⟨(Nat.le_of_ble_eq_true rfl), (Nat.le_of_ble_eq_true rfl)⟩ ⟨(Nat.le_of_ble_eq_true rfl), (Nat.le_of_ble_eq_true rfl)⟩ rfl ⟨zcs_0, (Nat.le_of_ble_eq_true rfl)⟩ hL.1.1 dX11_init_1) ?_
  rintro _ _ _ ⟨rfl, hV⟩ hG
  refine z_aload_n hC zvr_r rfl (hL.at 0 rfl) dX11_init_4 ?_
  refine z_iload_n hC rfl (hL.at 1 rfl) dX11_init_5 ?_
  refine z_dPF (v := (.inl p0)) hC hG kFX11_7_11 rfl hn rfl (znl_use nlX11_7) nk_11_0 zty_i (zvR_i hp0) hV dX11_init_6 ?_
  intro G1 _ _ hG hV
  refine z_aload_n hC zvr_r rfl (hL.at 0 rfl) dX11_init_9 ?_
  refine z_iload_n hC rfl (hL.at 2 rfl) dX11_init_10 ?_
  refine z_dPF (v := (.inl p1)) hC hG kFX11_13_11 rfl hn rfl (znl_use nlX11_13) nk_11_1 zty_i (zvR_i hp1) hV dX11_init_11 ?_
  intro G2 _ _ hG hV
  exact z_vret hC hG hr hk hV (Nat.le_of_ble_eq_true rfl) (Nat.le_of_ble_eq_true rfl) dX11_init_14
abbrev rX1_inRange : Room := { frames := 1, cells := 0, slots := 0, locals := 12 }
def vX1_inRange (p0 : Int) (p1 : Int) (p2 : Int) (Q : Int → Prop) : Prop := zjn (fun (z15_0 : Int) => Q z15_0) fun J15 => zjn (fun (_ : Unit) => J15 0) fun J14 => zbr (p0 < p1) (J14 ()) (zbr (p2 < p0) (J14 ()) (J15 1))
set_option maxHeartbeats 4000000 in
theorem mX1_inRange (l : Launch) (P : ZP) (G : ZG) (p0 : Int) (hp0 : inR p0) (p1 : Int) (hp1 : inR p1) (p2 : Int) (hp2 : inR p2) {Q : Int → Prop} (hV : vX1_inRange p0 p1 p2 Q) : Met l yX1_inRange (ws_ yX1_inRange cX1_inRange 3 (some .boolean)) rX1_inRange (zPc P G [.int (zI p0), .int (zI p1), .int (zI p2)]) (zQz P (fun r G2 => G = G2 ∧ Q r)) 0 0 (zAr P) := by
  refine zMet RX1 (plainFor_of_name (by decide)) rfl (zcs_c rfl (zcs_c rfl (zcs_c rfl zcs_0))) (Nat.le_of_ble_eq_true rfl) (fun p e s m args below meth c ls hC hr hk hn hG hL => ?_)
  unfold vX1_inRange at hV
  refine z_iload_n hC rfl (hL.at 0 rfl) dX1_inRange_0 ?_
  refine z_iload_n hC rfl (hL.at 1 rfl) dX1_inRange_1 ?_
  obtain ⟨J15, eJ15, hV⟩ := zjn_abs hV
  have hJ15 : ∀ {H : Heap} {locs : List Loc}, zS P s G H locs → ∀ (z15_0 : Int), (z15_0 = 0 ∨ z15_0 = 1) → J15 z15_0 → ∀ (ls : Array Slot), zL ls 3 [] → W p l e rX1_inRange s m args below meth c H locs 0 0 (MQ below (zQz P (fun r G2 => G = G2 ∧ Q r)) args s 0 0 (zAr P)) (F0 m 15 ls [.int (zI z15_0)]) := by
    intro H locs hG z15_0 hz15_0 hV ls hL
    rw [eJ15] at hV
    exact z_zret hC hG hr hk hz15_0 ⟨rfl, hV⟩ (Nat.le_of_ble_eq_true rfl) (Nat.le_of_ble_eq_true rfl) dX1_inRange_15
  obtain ⟨J14, eJ14, hV⟩ := zjn_abs hV
  have hJ14 : ∀ {H : Heap} {locs : List Loc}, zS P s G H locs → J14 () → ∀ (ls : Array Slot), zL ls 3 [] → W p l e rX1_inRange s m args below meth c H locs 0 0 (MQ below (zQz P (fun r G2 => G = G2 ∧ Q r)) args s 0 0 (zAr P)) (F0 m 14 ls []) := by
    intro H locs hG hV ls hL
    rw [eJ14] at hV
    refine z_iconst hC dX1_inRange_14 ?_
    exact hJ15 hG 0 (Or.inl rfl) hV _ hL
  refine z_icmp_lt (tgt := 14) hC hp0 hp1 hV dX1_inRange_2 (by decide) ?_ ?_
  · intro hV
    exact hJ14 hG hV _ (hL.sub [] rfl)
  · intro hV
    refine z_iload_n hC rfl (hL.at 0 rfl) dX1_inRange_5 ?_
    refine z_iload_n hC rfl (hL.at 2 rfl) dX1_inRange_6 ?_
    refine z_icmp_gt (tgt := 14) hC hp0 hp2 hV dX1_inRange_7 (by decide) ?_ ?_
    · intro hV
      exact hJ14 hG hV _ (hL.sub [] rfl)
    · intro hV
      refine z_iconst hC dX1_inRange_10 ?_
      refine z_goto (tgt := 15) hC dX1_inRange_11 (by decide) ?_
      exact hJ15 hG 1 (Or.inr rfl) hV _ (hL.sub [] rfl)
abbrev rX11_holds : Room := { frames := 2, cells := 0, slots := 0, locals := 34 }
def vX11_holds (r0 : ZR) (p0 : Int) (G : ZG) (Q : Int → Prop) : Prop := zdI G r0 11 0 fun (x1 : Int) => zdI G r0 11 1 fun (x2 : Int) => vX1_inRange p0 x1 x2 fun (x3 : Int) => Q x3
set_option maxHeartbeats 4000000 in
theorem mX11_holds (l : Launch) (P : ZP) (G : ZG) (r0 : ZR) (p0 : Int) (hp0 : inR p0) {Q : Int → Prop} (hV : vX11_holds r0 p0 G Q) : Met l yX11_holds (ws_ yX11_holds cX11_holds 2 (some .boolean)) rX11_holds (zPc P G [zrv P r0, .int (zI p0)]) (zQz P (fun r G2 => G = G2 ∧ Q r)) 0 0 (zAr P) := by
  refine zMet RX11 (plainFor_of_name (by decide)) rfl (zcs_c (zrv_cat _ _) (zcs_c rfl zcs_0)) (Nat.le_of_ble_eq_true rfl) (fun p e s m args below meth c ls hC hr hk hn hG hL => ?_)
  unfold vX11_holds at hV
  refine z_iload_n hC rfl (hL.at 1 rfl) dX11_holds_0 ?_
  refine z_aload_n hC zvr_r rfl (hL.at 0 rfl) dX11_holds_1 ?_
  refine z_dI hC hG kFX11_7_11 hV dX11_holds_2 ?_
  intro x1 hx1 hV
  refine z_aload_n hC zvr_r rfl (hL.at 0 rfl) dX11_holds_5 ?_
  refine z_dI hC hG kFX11_13_11 hV dX11_holds_6 ?_
  intro x2 hx2 hV
  refine z_call_z hG (zrunSN hC hG (mX1_inRange l P G p0 hp0 x1 hx1 x2 hx2 hV) kSX11_16 rfl rfl rfl ⟨(Nat.le_of_ble_eq_true rfl), (Nat.le_of_ble_eq_true rfl)⟩ ⟨(Nat.le_of_ble_eq_true rfl), (Nat.le_of_ble_eq_true rfl)⟩ rfl ⟨zcs_0, (Nat.le_of_ble_eq_true rfl)⟩ hL.1.1 dX11_holds_9) ?_
  rintro x3 _ _ _ hx3 ⟨rfl, hV⟩ hG
  exact z_zret hC hG hr hk hx3 ⟨rfl, hV⟩ (Nat.le_of_ble_eq_true rfl) (Nat.le_of_ble_eq_true rfl) dX11_holds_12
abbrev rX11_from : Room := { frames := 1, cells := 0, slots := 0, locals := 12 }
def vX11_from (r0 : ZR) (G : ZG) (Q : Int → Prop) : Prop := zdI G r0 11 0 fun (x1 : Int) => Q x1
set_option maxHeartbeats 4000000 in
theorem mX11_from (l : Launch) (P : ZP) (G : ZG) (r0 : ZR) {Q : Int → Prop} (hV : vX11_from r0 G Q) : Met l yX11_from (ws_ yX11_from cX11_from 1 (some .int)) rX11_from (zPc P G [zrv P r0]) (zQi P (fun r G2 => G = G2 ∧ Q r)) 0 0 (zAr P) := by
  refine zMet RX11 (plainFor_of_name (by decide)) rfl (zcs_c (zrv_cat _ _) zcs_0) (Nat.le_of_ble_eq_true rfl) (fun p e s m args below meth c ls hC hr hk hn hG hL => ?_)
  unfold vX11_from at hV
  refine z_aload_n hC zvr_r rfl (hL.at 0 rfl) dX11_from_0 ?_
  refine z_dI hC hG kFX11_7_11 hV dX11_from_1 ?_
  intro x1 hx1 hV
  exact z_iret hC hG hr hk hx1 ⟨rfl, hV⟩ (Nat.le_of_ble_eq_true rfl) (Nat.le_of_ble_eq_true rfl) dX11_from_4
abbrev rX11_to : Room := { frames := 1, cells := 0, slots := 0, locals := 12 }
def vX11_to (r0 : ZR) (G : ZG) (Q : Int → Prop) : Prop := zdI G r0 11 1 fun (x1 : Int) => Q x1
set_option maxHeartbeats 4000000 in
theorem mX11_to (l : Launch) (P : ZP) (G : ZG) (r0 : ZR) {Q : Int → Prop} (hV : vX11_to r0 G Q) : Met l yX11_to (ws_ yX11_to cX11_to 1 (some .int)) rX11_to (zPc P G [zrv P r0]) (zQi P (fun r G2 => G = G2 ∧ Q r)) 0 0 (zAr P) := by
  refine zMet RX11 (plainFor_of_name (by decide)) rfl (zcs_c (zrv_cat _ _) zcs_0) (Nat.le_of_ble_eq_true rfl) (fun p e s m args below meth c ls hC hr hk hn hG hL => ?_)
  unfold vX11_to at hV
  refine z_aload_n hC zvr_r rfl (hL.at 0 rfl) dX11_to_0 ?_
  refine z_dI hC hG kFX11_13_11 hV dX11_to_1 ?_
  intro x1 hx1 hV
  exact z_iret hC hG hr hk hx1 ⟨rfl, hV⟩ (Nat.le_of_ble_eq_true rfl) (Nat.le_of_ble_eq_true rfl) dX11_to_4
abbrev rX12_init : Room := { frames := 2, cells := 0, slots := 0, locals := 40 }
def vX12_init (r0 : ZR) (p0 : Int) (p1 : Int) (p2 : ZR) (G : ZG) (Q : ZG → Prop) : Prop := znn r0 ∧ vJ16_init r0 fun (_ : Unit) => zdP G r0 12 0 (.inl p0) fun (G1 : ZG) => zdP G1 r0 12 1 (.inl p1) fun (G2 : ZG) => zdP G2 r0 12 2 (.inr p2) fun (G3 : ZG) => Q G3
set_option maxHeartbeats 4000000 in
theorem mX12_init (l : Launch) (P : ZP) (G : ZG) (r0 : ZR) (p0 : Int) (hp0 : inR p0) (p1 : Int) (hp1 : inR p1) (p2 : ZR) {Q : ZG → Prop} (hV : vX12_init r0 p0 p1 p2 G Q) : Met l yX12_init (ws_ yX12_init cX12_init 4 none) rX12_init (zPc P G [zrv P r0, .int (zI p0), .int (zI p1), zrv P p2]) (zQv P Q) 0 0 (zAr P) := by
  refine zMet RX12 (plainFor_of_name (by decide)) rfl (zcs_c (zrv_cat _ _) (zcs_c rfl (zcs_c rfl (zcs_c (zrv_cat _ _) zcs_0)))) (Nat.le_of_ble_eq_true rfl) (fun p e s m args below meth c ls hC hr hk hn hG hL => ?_)
  unfold vX12_init at hV
  refine z_aload_n hC zvr_r rfl (hL.at 0 rfl) dX12_init_0 ?_
  obtain ⟨hO1, hV⟩ := hV
  refine z_call_v hG (zrunI hC hG hO1 (mJ16_init l P G r0 hV) kIX12_1 rfl rfl rfl ⟨(Nat.le_of_ble_eq_true rfl), (Nat.le_of_ble_eq_true rfl)⟩ ⟨(Nat.le_of_ble_eq_true rfl), (Nat.le_of_ble_eq_true rfl)⟩ rfl ⟨zcs_0, (Nat.le_of_ble_eq_true rfl)⟩ hL.1.1 dX12_init_1) ?_
  rintro _ _ _ ⟨rfl, hV⟩ hG
  refine z_aload_n hC zvr_r rfl (hL.at 0 rfl) dX12_init_4 ?_
  refine z_iload_n hC rfl (hL.at 1 rfl) dX12_init_5 ?_
  refine z_dPF (v := (.inl p0)) hC hG kFX12_7_12 rfl hn rfl (znl_use nlX12_7) nk_12_0 zty_i (zvR_i hp0) hV dX12_init_6 ?_
  intro G1 _ _ hG hV
  refine z_aload_n hC zvr_r rfl (hL.at 0 rfl) dX12_init_9 ?_
  refine z_iload_n hC rfl (hL.at 2 rfl) dX12_init_10 ?_
  refine z_dPF (v := (.inl p1)) hC hG kFX12_13_12 rfl hn rfl (znl_use nlX12_13) nk_12_1 zty_i (zvR_i hp1) hV dX12_init_11 ?_
  intro G2 _ _ hG hV
  refine z_aload_n hC zvr_r rfl (hL.at 0 rfl) dX12_init_14 ?_
  refine z_aload_n hC zvr_r rfl (hL.at 3 rfl) dX12_init_15 ?_
  refine z_dPF (v := (.inr p2)) hC hG kFX12_16_12 rfl hn rfl (znl_use nlX12_16) nk_12_2 zty_a zvR_r hV dX12_init_16 ?_
  intro G3 _ _ hG hV
  exact z_vret hC hG hr hk hV (Nat.le_of_ble_eq_true rfl) (Nat.le_of_ble_eq_true rfl) dX12_init_19
abbrev rX12_type : Room := { frames := 1, cells := 0, slots := 0, locals := 12 }
def vX12_type (r0 : ZR) (G : ZG) (Q : Int → Prop) : Prop := zdI G r0 12 0 fun (x1 : Int) => Q x1
set_option maxHeartbeats 4000000 in
theorem mX12_type (l : Launch) (P : ZP) (G : ZG) (r0 : ZR) {Q : Int → Prop} (hV : vX12_type r0 G Q) : Met l yX12_type (ws_ yX12_type cX12_type 1 (some .int)) rX12_type (zPc P G [zrv P r0]) (zQi P (fun r G2 => G = G2 ∧ Q r)) 0 0 (zAr P) := by
  refine zMet RX12 (plainFor_of_name (by decide)) rfl (zcs_c (zrv_cat _ _) zcs_0) (Nat.le_of_ble_eq_true rfl) (fun p e s m args below meth c ls hC hr hk hn hG hL => ?_)
  unfold vX12_type at hV
  refine z_aload_n hC zvr_r rfl (hL.at 0 rfl) dX12_type_0 ?_
  refine z_dI hC hG kFX12_7_12 hV dX12_type_1 ?_
  intro x1 hx1 hV
  exact z_iret hC hG hr hk hx1 ⟨rfl, hV⟩ (Nat.le_of_ble_eq_true rfl) (Nat.le_of_ble_eq_true rfl) dX12_type_4
abbrev rX12_constructor : Room := { frames := 1, cells := 0, slots := 0, locals := 12 }
def vX12_constructor (r0 : ZR) (G : ZG) (Q : Int → Prop) : Prop := zdI G r0 12 1 fun (x1 : Int) => Q x1
set_option maxHeartbeats 4000000 in
theorem mX12_constructor (l : Launch) (P : ZP) (G : ZG) (r0 : ZR) {Q : Int → Prop} (hV : vX12_constructor r0 G Q) : Met l yX12_constructor (ws_ yX12_constructor cX12_constructor 1 (some .int)) rX12_constructor (zPc P G [zrv P r0]) (zQi P (fun r G2 => G = G2 ∧ Q r)) 0 0 (zAr P) := by
  refine zMet RX12 (plainFor_of_name (by decide)) rfl (zcs_c (zrv_cat _ _) zcs_0) (Nat.le_of_ble_eq_true rfl) (fun p e s m args below meth c ls hC hr hk hn hG hL => ?_)
  unfold vX12_constructor at hV
  refine z_aload_n hC zvr_r rfl (hL.at 0 rfl) dX12_constructor_0 ?_
  refine z_dI hC hG kFX12_13_12 hV dX12_constructor_1 ?_
  intro x1 hx1 hV
  exact z_iret hC hG hr hk hx1 ⟨rfl, hV⟩ (Nat.le_of_ble_eq_true rfl) (Nat.le_of_ble_eq_true rfl) dX12_constructor_4
abbrev rX12_fields : Room := { frames := 1, cells := 0, slots := 0, locals := 12 }
def vX12_fields (r0 : ZR) (G : ZG) (Q : ZR → Prop) : Prop := zdR G r0 12 2 fun (x1 : ZR) => Q x1
set_option maxHeartbeats 4000000 in
theorem mX12_fields (l : Launch) (P : ZP) (G : ZG) (r0 : ZR) {Q : ZR → Prop} (hV : vX12_fields r0 G Q) : Met l yX12_fields (ws_ yX12_fields cX12_fields 1 (some (.array (.object "Patternforge$Pattern")))) rX12_fields (zPc P G [zrv P r0]) (zQr P (fun r G2 => G = G2 ∧ Q r)) 0 0 (zAr P) := by
  refine zMet RX12 (plainFor_of_name (by decide)) rfl (zcs_c (zrv_cat _ _) zcs_0) (Nat.le_of_ble_eq_true rfl) (fun p e s m args below meth c ls hC hr hk hn hG hL => ?_)
  unfold vX12_fields at hV
  refine z_aload_n hC zvr_r rfl (hL.at 0 rfl) dX12_fields_0 ?_
  refine z_dR hC hG kFX12_16_12 hV dX12_fields_1 ?_
  intro x1 hV
  exact z_aret (r := x1) hC hG hr hk (Or.inr ⟨_, rfl⟩) ⟨rfl, hV⟩ (Nat.le_of_ble_eq_true rfl) (Nat.le_of_ble_eq_true rfl) dX12_fields_4
abbrev rX13_init : Room := { frames := 2, cells := 0, slots := 0, locals := 40 }
def vX13_init (r0 : ZR) (p0 : ZR) (p1 : ZR) (G : ZG) (Q : ZG → Prop) : Prop := znn r0 ∧ vJ16_init r0 fun (_ : Unit) => zdP G r0 13 0 (.inr p0) fun (G1 : ZG) => zdP G1 r0 13 1 (.inr p1) fun (G2 : ZG) => Q G2
set_option maxHeartbeats 4000000 in
theorem mX13_init (l : Launch) (P : ZP) (G : ZG) (r0 : ZR) (p0 : ZR) (p1 : ZR) {Q : ZG → Prop} (hV : vX13_init r0 p0 p1 G Q) : Met l yX13_init (ws_ yX13_init cX13_init 3 none) rX13_init (zPc P G [zrv P r0, zrv P p0, zrv P p1]) (zQv P Q) 0 0 (zAr P) := by
  refine zMet RX13 (plainFor_of_name (by decide)) rfl (zcs_c (zrv_cat _ _) (zcs_c (zrv_cat _ _) (zcs_c (zrv_cat _ _) zcs_0))) (Nat.le_of_ble_eq_true rfl) (fun p e s m args below meth c ls hC hr hk hn hG hL => ?_)
  unfold vX13_init at hV
  refine z_aload_n hC zvr_r rfl (hL.at 0 rfl) dX13_init_0 ?_
  obtain ⟨hO1, hV⟩ := hV
  refine z_call_v hG (zrunI hC hG hO1 (mJ16_init l P G r0 hV) kIX13_1 rfl rfl rfl ⟨(Nat.le_of_ble_eq_true rfl), (Nat.le_of_ble_eq_true rfl)⟩ ⟨(Nat.le_of_ble_eq_true rfl), (Nat.le_of_ble_eq_true rfl)⟩ rfl ⟨zcs_0, (Nat.le_of_ble_eq_true rfl)⟩ hL.1.1 dX13_init_1) ?_
  rintro _ _ _ ⟨rfl, hV⟩ hG
  refine z_aload_n hC zvr_r rfl (hL.at 0 rfl) dX13_init_4 ?_
  refine z_aload_n hC zvr_r rfl (hL.at 1 rfl) dX13_init_5 ?_
  refine z_dPF (v := (.inr p0)) hC hG kFX13_7_13 rfl hn rfl (znl_use nlX13_7) nk_13_0 zty_o zvR_r hV dX13_init_6 ?_
  intro G1 _ _ hG hV
  refine z_aload_n hC zvr_r rfl (hL.at 0 rfl) dX13_init_9 ?_
  refine z_aload_n hC zvr_r rfl (hL.at 2 rfl) dX13_init_10 ?_
  refine z_dPF (v := (.inr p1)) hC hG kFX13_13_13 rfl hn rfl (znl_use nlX13_13) nk_13_1 zty_o zvR_r hV dX13_init_11 ?_
  intro G2 _ _ hG hV
  exact z_vret hC hG hr hk hV (Nat.le_of_ble_eq_true rfl) (Nat.le_of_ble_eq_true rfl) dX13_init_14
abbrev rX13_first : Room := { frames := 1, cells := 0, slots := 0, locals := 12 }
def vX13_first (r0 : ZR) (G : ZG) (Q : ZR → Prop) : Prop := zdR G r0 13 0 fun (x1 : ZR) => Q x1
set_option maxHeartbeats 4000000 in
theorem mX13_first (l : Launch) (P : ZP) (G : ZG) (r0 : ZR) {Q : ZR → Prop} (hV : vX13_first r0 G Q) : Met l yX13_first (ws_ yX13_first cX13_first 1 (some (.object "Patternforge$Pattern"))) rX13_first (zPc P G [zrv P r0]) (zQr P (fun r G2 => G = G2 ∧ Q r)) 0 0 (zAr P) := by
  refine zMet RX13 (plainFor_of_name (by decide)) rfl (zcs_c (zrv_cat _ _) zcs_0) (Nat.le_of_ble_eq_true rfl) (fun p e s m args below meth c ls hC hr hk hn hG hL => ?_)
  unfold vX13_first at hV
  refine z_aload_n hC zvr_r rfl (hL.at 0 rfl) dX13_first_0 ?_
  refine z_dR hC hG kFX13_7_13 hV dX13_first_1 ?_
  intro x1 hV
  exact z_aret (r := x1) hC hG hr hk (Or.inl ⟨_, rfl⟩) ⟨rfl, hV⟩ (Nat.le_of_ble_eq_true rfl) (Nat.le_of_ble_eq_true rfl) dX13_first_4
abbrev rX13_second : Room := { frames := 1, cells := 0, slots := 0, locals := 12 }
def vX13_second (r0 : ZR) (G : ZG) (Q : ZR → Prop) : Prop := zdR G r0 13 1 fun (x1 : ZR) => Q x1
set_option maxHeartbeats 4000000 in
theorem mX13_second (l : Launch) (P : ZP) (G : ZG) (r0 : ZR) {Q : ZR → Prop} (hV : vX13_second r0 G Q) : Met l yX13_second (ws_ yX13_second cX13_second 1 (some (.object "Patternforge$Pattern"))) rX13_second (zPc P G [zrv P r0]) (zQr P (fun r G2 => G = G2 ∧ Q r)) 0 0 (zAr P) := by
  refine zMet RX13 (plainFor_of_name (by decide)) rfl (zcs_c (zrv_cat _ _) zcs_0) (Nat.le_of_ble_eq_true rfl) (fun p e s m args below meth c ls hC hr hk hn hG hL => ?_)
  unfold vX13_second at hV
  refine z_aload_n hC zvr_r rfl (hL.at 0 rfl) dX13_second_0 ?_
  refine z_dR hC hG kFX13_13_13 hV dX13_second_1 ?_
  intro x1 hV
  exact z_aret (r := x1) hC hG hr hk (Or.inl ⟨_, rfl⟩) ⟨rfl, hV⟩ (Nat.le_of_ble_eq_true rfl) (Nat.le_of_ble_eq_true rfl) dX13_second_4
abbrev rX14_init : Room := { frames := 2, cells := 0, slots := 0, locals := 40 }
def vX14_init (r0 : ZR) (p0 : Int) (p1 : ZR) (G : ZG) (Q : ZG → Prop) : Prop := znn r0 ∧ vJ16_init r0 fun (_ : Unit) => zdP G r0 14 0 (.inl p0) fun (G1 : ZG) => zdP G1 r0 14 1 (.inr p1) fun (G2 : ZG) => Q G2
set_option maxHeartbeats 4000000 in
theorem mX14_init (l : Launch) (P : ZP) (G : ZG) (r0 : ZR) (p0 : Int) (hp0 : inR p0) (p1 : ZR) {Q : ZG → Prop} (hV : vX14_init r0 p0 p1 G Q) : Met l yX14_init (ws_ yX14_init cX14_init 3 none) rX14_init (zPc P G [zrv P r0, .int (zI p0), zrv P p1]) (zQv P Q) 0 0 (zAr P) := by
  refine zMet RX14 (plainFor_of_name (by decide)) rfl (zcs_c (zrv_cat _ _) (zcs_c rfl (zcs_c (zrv_cat _ _) zcs_0))) (Nat.le_of_ble_eq_true rfl) (fun p e s m args below meth c ls hC hr hk hn hG hL => ?_)
  unfold vX14_init at hV
  refine z_aload_n hC zvr_r rfl (hL.at 0 rfl) dX14_init_0 ?_
  obtain ⟨hO1, hV⟩ := hV
  refine z_call_v hG (zrunI hC hG hO1 (mJ16_init l P G r0 hV) kIX14_1 rfl rfl rfl ⟨(Nat.le_of_ble_eq_true rfl), (Nat.le_of_ble_eq_true rfl)⟩ ⟨(Nat.le_of_ble_eq_true rfl), (Nat.le_of_ble_eq_true rfl)⟩ rfl ⟨zcs_0, (Nat.le_of_ble_eq_true rfl)⟩ hL.1.1 dX14_init_1) ?_
  rintro _ _ _ ⟨rfl, hV⟩ hG
  refine z_aload_n hC zvr_r rfl (hL.at 0 rfl) dX14_init_4 ?_
  refine z_iload_n hC rfl (hL.at 1 rfl) dX14_init_5 ?_
  refine z_dPF (v := (.inl p0)) hC hG kFX14_7_14 rfl hn rfl (znl_use nlX14_7) nk_14_0 zty_i (zvR_i hp0) hV dX14_init_6 ?_
  intro G1 _ _ hG hV
  refine z_aload_n hC zvr_r rfl (hL.at 0 rfl) dX14_init_9 ?_
  refine z_aload_n hC zvr_r rfl (hL.at 2 rfl) dX14_init_10 ?_
  refine z_dPF (v := (.inr p1)) hC hG kFX14_13_14 rfl hn rfl (znl_use nlX14_13) nk_14_1 zty_o zvR_r hV dX14_init_11 ?_
  intro G2 _ _ hG hV
  exact z_vret hC hG hr hk hV (Nat.le_of_ble_eq_true rfl) (Nat.le_of_ble_eq_true rfl) dX14_init_14
abbrev rX14_view : Room := { frames := 1, cells := 0, slots := 0, locals := 12 }
def vX14_view (r0 : ZR) (G : ZG) (Q : Int → Prop) : Prop := zdI G r0 14 0 fun (x1 : Int) => Q x1
set_option maxHeartbeats 4000000 in
theorem mX14_view (l : Launch) (P : ZP) (G : ZG) (r0 : ZR) {Q : Int → Prop} (hV : vX14_view r0 G Q) : Met l yX14_view (ws_ yX14_view cX14_view 1 (some .int)) rX14_view (zPc P G [zrv P r0]) (zQi P (fun r G2 => G = G2 ∧ Q r)) 0 0 (zAr P) := by
  refine zMet RX14 (plainFor_of_name (by decide)) rfl (zcs_c (zrv_cat _ _) zcs_0) (Nat.le_of_ble_eq_true rfl) (fun p e s m args below meth c ls hC hr hk hn hG hL => ?_)
  unfold vX14_view at hV
  refine z_aload_n hC zvr_r rfl (hL.at 0 rfl) dX14_view_0 ?_
  refine z_dI hC hG kFX14_7_14 hV dX14_view_1 ?_
  intro x1 hx1 hV
  exact z_iret hC hG hr hk hx1 ⟨rfl, hV⟩ (Nat.le_of_ble_eq_true rfl) (Nat.le_of_ble_eq_true rfl) dX14_view_4
abbrev rX14_of : Room := { frames := 1, cells := 0, slots := 0, locals := 12 }
def vX14_of (r0 : ZR) (G : ZG) (Q : ZR → Prop) : Prop := zdR G r0 14 1 fun (x1 : ZR) => Q x1
set_option maxHeartbeats 4000000 in
theorem mX14_of (l : Launch) (P : ZP) (G : ZG) (r0 : ZR) {Q : ZR → Prop} (hV : vX14_of r0 G Q) : Met l yX14_of (ws_ yX14_of cX14_of 1 (some (.object "Patternforge$Pattern"))) rX14_of (zPc P G [zrv P r0]) (zQr P (fun r G2 => G = G2 ∧ Q r)) 0 0 (zAr P) := by
  refine zMet RX14 (plainFor_of_name (by decide)) rfl (zcs_c (zrv_cat _ _) zcs_0) (Nat.le_of_ble_eq_true rfl) (fun p e s m args below meth c ls hC hr hk hn hG hL => ?_)
  unfold vX14_of at hV
  refine z_aload_n hC zvr_r rfl (hL.at 0 rfl) dX14_of_0 ?_
  refine z_dR hC hG kFX14_13_14 hV dX14_of_1 ?_
  intro x1 hV
  exact z_aret (r := x1) hC hG hr hk (Or.inl ⟨_, rfl⟩) ⟨rfl, hV⟩ (Nat.le_of_ble_eq_true rfl) (Nat.le_of_ble_eq_true rfl) dX14_of_4
abbrev rX15_init : Room := { frames := 2, cells := 0, slots := 0, locals := 40 }
def vX15_init (r0 : ZR) (p0 : ZR) (p1 : Int) (G : ZG) (Q : ZG → Prop) : Prop := znn r0 ∧ vJ16_init r0 fun (_ : Unit) => zdP G r0 15 0 (.inr p0) fun (G1 : ZG) => zdP G1 r0 15 1 (.inl p1) fun (G2 : ZG) => Q G2
set_option maxHeartbeats 4000000 in
theorem mX15_init (l : Launch) (P : ZP) (G : ZG) (r0 : ZR) (p0 : ZR) (p1 : Int) (hp1 : inR p1) {Q : ZG → Prop} (hV : vX15_init r0 p0 p1 G Q) : Met l yX15_init (ws_ yX15_init cX15_init 3 none) rX15_init (zPc P G [zrv P r0, zrv P p0, .int (zI p1)]) (zQv P Q) 0 0 (zAr P) := by
  refine zMet RX15 (plainFor_of_name (by decide)) rfl (zcs_c (zrv_cat _ _) (zcs_c (zrv_cat _ _) (zcs_c rfl zcs_0))) (Nat.le_of_ble_eq_true rfl) (fun p e s m args below meth c ls hC hr hk hn hG hL => ?_)
  unfold vX15_init at hV
  refine z_aload_n hC zvr_r rfl (hL.at 0 rfl) dX15_init_0 ?_
  obtain ⟨hO1, hV⟩ := hV
  refine z_call_v hG (zrunI hC hG hO1 (mJ16_init l P G r0 hV) kIX15_3 rfl rfl rfl ⟨(Nat.le_of_ble_eq_true rfl), (Nat.le_of_ble_eq_true rfl)⟩ ⟨(Nat.le_of_ble_eq_true rfl), (Nat.le_of_ble_eq_true rfl)⟩ rfl ⟨zcs_0, (Nat.le_of_ble_eq_true rfl)⟩ hL.1.1 dX15_init_1) ?_
  rintro _ _ _ ⟨rfl, hV⟩ hG
  refine z_aload_n hC zvr_r rfl (hL.at 0 rfl) dX15_init_4 ?_
  refine z_aload_n hC zvr_r rfl (hL.at 1 rfl) dX15_init_5 ?_
  refine z_dPF (v := (.inr p0)) hC hG kFX15_9_15 rfl hn rfl (znl_use nlX15_9) nk_15_0 zty_a zvR_r hV dX15_init_6 ?_
  intro G1 _ _ hG hV
  refine z_aload_n hC zvr_r rfl (hL.at 0 rfl) dX15_init_9 ?_
  refine z_iload_n hC rfl (hL.at 2 rfl) dX15_init_10 ?_
  refine z_dPF (v := (.inl p1)) hC hG kFX15_15_15 rfl hn rfl (znl_use nlX15_15) nk_15_1 zty_i (zvR_i hp1) hV dX15_init_11 ?_
  intro G2 _ _ hG hV
  exact z_vret hC hG hr hk hV (Nat.le_of_ble_eq_true rfl) (Nat.le_of_ble_eq_true rfl) dX15_init_14
abbrev rX15_fits : Room := { frames := 1, cells := 0, slots := 0, locals := 12 }
def vX15_fits (r0 : ZR) (p0 : Int) (G : ZG) (Q : Int → Prop) : Prop := zdI G r0 15 1 fun (x1 : Int) => zjn (fun (z38_0 : Int) => Q z38_0) fun J38 => zbr (x1 ≠ 0) (zdR G r0 15 0 fun (x2 : ZR) => zeN G x2 fun (x3 : Int) => zbr (p0 < x3) (J38 0) (J38 1)) (zdR G r0 15 0 fun (x4 : ZR) => zeN G x4 fun (x5 : Int) => zbr (p0 ≠ x5) (J38 0) (J38 1))
set_option maxHeartbeats 4000000 in
theorem mX15_fits (l : Launch) (P : ZP) (G : ZG) (r0 : ZR) (p0 : Int) (hp0 : inR p0) {Q : Int → Prop} (hV : vX15_fits r0 p0 G Q) : Met l yX15_fits (ws_ yX15_fits cX15_fits 2 (some .boolean)) rX15_fits (zPc P G [zrv P r0, .int (zI p0)]) (zQz P (fun r G2 => G = G2 ∧ Q r)) 0 0 (zAr P) := by
  refine zMet RX15 (plainFor_of_name (by decide)) rfl (zcs_c (zrv_cat _ _) (zcs_c rfl zcs_0)) (Nat.le_of_ble_eq_true rfl) (fun p e s m args below meth c ls hC hr hk hn hG hL => ?_)
  unfold vX15_fits at hV
  refine z_aload_n hC zvr_r rfl (hL.at 0 rfl) dX15_fits_0 ?_
  refine z_dI hC hG kFX15_15_15 hV dX15_fits_1 ?_
  intro x1 hx1 hV
  obtain ⟨J38, eJ38, hV⟩ := zjn_abs hV
  have hJ38 : ∀ {H : Heap} {locs : List Loc}, zS P s G H locs → ∀ (z38_0 : Int), (z38_0 = 0 ∨ z38_0 = 1) → J38 z38_0 → ∀ (ls : Array Slot), zL ls 2 [] → W p l e rX15_fits s m args below meth c H locs 0 0 (MQ below (zQz P (fun r G2 => G = G2 ∧ Q r)) args s 0 0 (zAr P)) (F0 m 38 ls [.int (zI z38_0)]) := by
    intro H locs hG z38_0 hz38_0 hV ls hL
    rw [eJ38] at hV
    exact z_zret hC hG hr hk hz38_0 ⟨rfl, hV⟩ (Nat.le_of_ble_eq_true rfl) (Nat.le_of_ble_eq_true rfl) dX15_fits_38
  refine z_if_ne (tgt := 24) hC hx1 hV dX15_fits_4 (by decide) ?_ ?_
  · intro hV
    refine z_iload_n hC rfl (hL.at 1 rfl) dX15_fits_24 ?_
    refine z_aload_n hC zvr_r rfl (hL.at 0 rfl) dX15_fits_25 ?_
    refine z_dR hC hG kFX15_9_15 hV dX15_fits_26 ?_
    intro x2 hV
    refine z_alenD hC hG hV dX15_fits_29 ?_
    intro x3 hx3 hV
    refine z_icmp_lt (tgt := 37) hC hp0 hx3 hV dX15_fits_30 (by decide) ?_ ?_
    · intro hV
      refine z_iconst hC dX15_fits_37 ?_
      exact hJ38 hG 0 (Or.inl rfl) hV _ (hL.sub [] rfl)
    · intro hV
      refine z_iconst hC dX15_fits_33 ?_
      refine z_goto (tgt := 38) hC dX15_fits_34 (by decide) ?_
      exact hJ38 hG 1 (Or.inr rfl) hV _ (hL.sub [] rfl)
  · intro hV
    refine z_iload_n hC rfl (hL.at 1 rfl) dX15_fits_7 ?_
    refine z_aload_n hC zvr_r rfl (hL.at 0 rfl) dX15_fits_8 ?_
    refine z_dR hC hG kFX15_9_15 hV dX15_fits_9 ?_
    intro x4 hV
    refine z_alenD hC hG hV dX15_fits_12 ?_
    intro x5 hx5 hV
    refine z_icmp_ne (tgt := 20) hC hp0 hx5 hV dX15_fits_13 (by decide) ?_ ?_
    · intro hV
      refine z_iconst hC dX15_fits_20 ?_
      refine z_goto (tgt := 38) hC dX15_fits_21 (by decide) ?_
      exact hJ38 hG 0 (Or.inl rfl) hV _ (hL.sub [] rfl)
    · intro hV
      refine z_iconst hC dX15_fits_16 ?_
      refine z_goto (tgt := 38) hC dX15_fits_17 (by decide) ?_
      exact hJ38 hG 1 (Or.inr rfl) hV _ (hL.sub [] rfl)
abbrev rX15_items : Room := { frames := 1, cells := 0, slots := 0, locals := 12 }
def vX15_items (r0 : ZR) (G : ZG) (Q : ZR → Prop) : Prop := zdR G r0 15 0 fun (x1 : ZR) => Q x1
set_option maxHeartbeats 4000000 in
theorem mX15_items (l : Launch) (P : ZP) (G : ZG) (r0 : ZR) {Q : ZR → Prop} (hV : vX15_items r0 G Q) : Met l yX15_items (ws_ yX15_items cX15_items 1 (some (.array (.object "Patternforge$Pattern")))) rX15_items (zPc P G [zrv P r0]) (zQr P (fun r G2 => G = G2 ∧ Q r)) 0 0 (zAr P) := by
  refine zMet RX15 (plainFor_of_name (by decide)) rfl (zcs_c (zrv_cat _ _) zcs_0) (Nat.le_of_ble_eq_true rfl) (fun p e s m args below meth c ls hC hr hk hn hG hL => ?_)
  unfold vX15_items at hV
  refine z_aload_n hC zvr_r rfl (hL.at 0 rfl) dX15_items_0 ?_
  refine z_dR hC hG kFX15_9_15 hV dX15_items_1 ?_
  intro x1 hV
  exact z_aret (r := x1) hC hG hr hk (Or.inr ⟨_, rfl⟩) ⟨rfl, hV⟩ (Nat.le_of_ble_eq_true rfl) (Nat.le_of_ble_eq_true rfl) dX15_items_4
abbrev rX15_beginning : Room := { frames := 1, cells := 0, slots := 0, locals := 12 }
def vX15_beginning (r0 : ZR) (p0 : Int) (G : ZG) (Q : Int → Prop) : Prop := zdI G r0 15 1 fun (x1 : Int) => zjn (fun (z19_0 : Int) => Q z19_0) fun J19 => zbr (x1 ≠ 2) (J19 0) (zdR G r0 15 0 fun (x2 : ZR) => zeN G x2 fun (x3 : Int) => J19 (w32 (p0 - x3)))
set_option maxHeartbeats 4000000 in
theorem mX15_beginning (l : Launch) (P : ZP) (G : ZG) (r0 : ZR) (p0 : Int) (hp0 : inR p0) {Q : Int → Prop} (hV : vX15_beginning r0 p0 G Q) : Met l yX15_beginning (ws_ yX15_beginning cX15_beginning 2 (some .int)) rX15_beginning (zPc P G [zrv P r0, .int (zI p0)]) (zQi P (fun r G2 => G = G2 ∧ Q r)) 0 0 (zAr P) := by
  refine zMet RX15 (plainFor_of_name (by decide)) rfl (zcs_c (zrv_cat _ _) (zcs_c rfl zcs_0)) (Nat.le_of_ble_eq_true rfl) (fun p e s m args below meth c ls hC hr hk hn hG hL => ?_)
  unfold vX15_beginning at hV
  refine z_aload_n hC zvr_r rfl (hL.at 0 rfl) dX15_beginning_0 ?_
  refine z_dI hC hG kFX15_15_15 hV dX15_beginning_1 ?_
  intro x1 hx1 hV
  refine z_iconst hC dX15_beginning_4 ?_
  obtain ⟨J19, eJ19, hV⟩ := zjn_abs hV
  have hJ19 : ∀ {H : Heap} {locs : List Loc}, zS P s G H locs → ∀ (z19_0 : Int), inR z19_0 → J19 z19_0 → ∀ (ls : Array Slot), zL ls 2 [] → W p l e rX15_beginning s m args below meth c H locs 0 0 (MQ below (zQi P (fun r G2 => G = G2 ∧ Q r)) args s 0 0 (zAr P)) (F0 m 19 ls [.int (zI z19_0)]) := by
    intro H locs hG z19_0 hz19_0 hV ls hL
    rw [eJ19] at hV
    exact z_iret hC hG hr hk hz19_0 ⟨rfl, hV⟩ (Nat.le_of_ble_eq_true rfl) (Nat.le_of_ble_eq_true rfl) dX15_beginning_19
  refine z_icmp_ne (tgt := 18) hC hx1 (inR_lit rfl) hV dX15_beginning_5 (by decide) ?_ ?_
  · intro hV
    refine z_iconst hC dX15_beginning_18 ?_
    exact hJ19 hG 0 (inR_lit rfl) hV _ (hL.sub [] rfl)
  · intro hV
    refine z_iload_n hC rfl (hL.at 1 rfl) dX15_beginning_8 ?_
    refine z_aload_n hC zvr_r rfl (hL.at 0 rfl) dX15_beginning_9 ?_
    refine z_dR hC hG kFX15_9_15 hV dX15_beginning_10 ?_
    intro x2 hV
    refine z_alenD hC hG hV dX15_beginning_13 ?_
    intro x3 hx3 hV
    refine z_isub hC dX15_beginning_14 ?_
    refine z_goto (tgt := 19) hC dX15_beginning_15 (by decide) ?_
    exact hJ19 hG (w32 (p0 - x3)) (inR_w _) hV _ (hL.sub [] rfl)
abbrev rX15_rest : Room := { frames := 1, cells := 0, slots := 0, locals := 12 }
def vX15_rest (r0 : ZR) (G : ZG) (Q : Int → Prop) : Prop := zdI G r0 15 1 fun (x1 : Int) => Q x1
set_option maxHeartbeats 4000000 in
theorem mX15_rest (l : Launch) (P : ZP) (G : ZG) (r0 : ZR) {Q : Int → Prop} (hV : vX15_rest r0 G Q) : Met l yX15_rest (ws_ yX15_rest cX15_rest 1 (some .int)) rX15_rest (zPc P G [zrv P r0]) (zQi P (fun r G2 => G = G2 ∧ Q r)) 0 0 (zAr P) := by
  refine zMet RX15 (plainFor_of_name (by decide)) rfl (zcs_c (zrv_cat _ _) zcs_0) (Nat.le_of_ble_eq_true rfl) (fun p e s m args below meth c ls hC hr hk hn hG hL => ?_)
  unfold vX15_rest at hV
  refine z_aload_n hC zvr_r rfl (hL.at 0 rfl) dX15_rest_0 ?_
  refine z_dI hC hG kFX15_15_15 hV dX15_rest_1 ?_
  intro x1 hx1 hV
  exact z_iret hC hG hr hk hx1 ⟨rfl, hV⟩ (Nat.le_of_ble_eq_true rfl) (Nat.le_of_ble_eq_true rfl) dX15_rest_4
abbrev rX8_init : Room := { frames := 2, cells := 0, slots := 0, locals := 40 }
def vX8_init (r0 : ZR) (G : ZG) (Q : Unit → Prop) : Prop := znn r0 ∧ vJ16_init r0 fun (_ : Unit) => Q ()
set_option maxHeartbeats 4000000 in
theorem mX8_init (l : Launch) (P : ZP) (G : ZG) (r0 : ZR) {Q : Unit → Prop} (hV : vX8_init r0 G Q) : Met l yX8_init (ws_ yX8_init cX8_init 1 none) rX8_init (zPc P G [zrv P r0]) (zQv P (fun G2 => G = G2 ∧ Q ())) 0 0 (zAr P) := by
  refine zMet RX8 (plainFor_of_name (by decide)) rfl (zcs_c (zrv_cat _ _) zcs_0) (Nat.le_of_ble_eq_true rfl) (fun p e s m args below meth c ls hC hr hk hn hG hL => ?_)
  unfold vX8_init at hV
  refine z_aload_n hC zvr_r rfl (hL.at 0 rfl) dX8_init_0 ?_
  obtain ⟨hO1, hV⟩ := hV
  refine z_call_v hG (zrunI hC hG hO1 (mJ16_init l P G r0 hV) kIX8_1 rfl rfl rfl ⟨(Nat.le_of_ble_eq_true rfl), (Nat.le_of_ble_eq_true rfl)⟩ ⟨(Nat.le_of_ble_eq_true rfl), (Nat.le_of_ble_eq_true rfl)⟩ rfl ⟨zcs_0, (Nat.le_of_ble_eq_true rfl)⟩ hL.1.1 dX8_init_1) ?_
  rintro _ _ _ ⟨rfl, hV⟩ hG
  exact z_vret hC hG hr hk ⟨rfl, hV⟩ (Nat.le_of_ble_eq_true rfl) (Nat.le_of_ble_eq_true rfl) dX8_init_4
abbrev rX16_init : Room := { frames := 1, cells := 0, slots := 0, locals := 20 }
def vX16_init (r0 : ZR) (p0 : ZR) (p1 : Int) (G : ZG) (Q : ZG → Prop) : Prop := znn r0 ∧ zdP G r0 16 0 (.inr p0) fun (G1 : ZG) => zdP G1 r0 16 1 (.inl p1) fun (G2 : ZG) => Q G2
set_option maxHeartbeats 4000000 in
theorem mX16_init (l : Launch) (P : ZP) (G : ZG) (r0 : ZR) (p0 : ZR) (p1 : Int) (hp1 : inR p1) {Q : ZG → Prop} (hV : vX16_init r0 p0 p1 G Q) : Met l yX16_init (ws_ yX16_init cX16_init 3 none) rX16_init (zPc P G [zrv P r0, zrv P p0, .int (zI p1)]) (zQv P Q) 0 0 (zAr P) := by
  refine zMet RX16 (plainFor_of_name (by decide)) rfl (zcs_c (zrv_cat _ _) (zcs_c (zrv_cat _ _) (zcs_c rfl zcs_0))) (Nat.le_of_ble_eq_true rfl) (fun p e s m args below meth c ls hC hr hk hn hG hL => ?_)
  unfold vX16_init at hV
  refine z_aload_n hC zvr_r rfl (hL.at 0 rfl) dX16_init_0 ?_
  refine z_objD hC hV hL.1.1 kOX16_1 ⟨zcs_0, (Nat.le_of_ble_eq_true rfl)⟩ ⟨(Nat.le_of_ble_eq_true rfl), (Nat.le_of_ble_eq_true rfl)⟩ dX16_init_1 (fun hV => ?_)
  refine z_aload_n hC zvr_r rfl (hL.at 0 rfl) dX16_init_4 ?_
  refine z_aload_n hC zvr_r rfl (hL.at 1 rfl) dX16_init_5 ?_
  refine z_dPF (v := (.inr p0)) hC hG kFX16_7_16 rfl hn rfl (znl_use nlX16_7) nk_16_0 zty_a zvR_r hV dX16_init_6 ?_
  intro G1 _ _ hG hV
  refine z_aload_n hC zvr_r rfl (hL.at 0 rfl) dX16_init_9 ?_
  refine z_iload_n hC rfl (hL.at 2 rfl) dX16_init_10 ?_
  refine z_dPF (v := (.inl p1)) hC hG kFX16_13_16 rfl hn rfl (znl_use nlX16_13) nk_16_1 zty_i (zvR_i hp1) hV dX16_init_11 ?_
  intro G2 _ _ hG hV
  exact z_vret hC hG hr hk hV (Nat.le_of_ble_eq_true rfl) (Nat.le_of_ble_eq_true rfl) dX16_init_14
abbrev rX2_clearNamesR : Room := { frames := 1, cells := 0, slots := 0, locals := 12 }
def vX2_clearNamesR (G : ZG) (Q : ZG → Prop) : Prop := zl2 (fun (P2 : Int → ZG → Prop) (a2_1 : Int) (K2 : ZG) => zbr (6 ≤ a2_1) (Q K2) (zaS K2 1 0 6 a2_1 (-1) fun (G1 : ZG) => zlt1 (w32 (a2_1 + 1)) fun (x1 : Int) => P2 x1 G1)) 0 G
set_option maxHeartbeats 4000000 in
theorem mX2_clearNamesR (l : Launch) (P : ZP) (G : ZG) {Q : ZG → Prop} (hV : vX2_clearNamesR G Q) : Met l yX2_clearNames (ws_ yX2_clearNames cX2_clearNames 2 none) rX2_clearNamesR (zPc P G [.ref (zA P 1 0 0)]) (zQv P Q) 0 0 (zAr P) := by
  refine zMet RX2 (plainFor_of_name (by decide)) rfl (zcs_c rfl zcs_0) (Nat.le_of_ble_eq_true rfl) (fun p e s m args below meth c ls hC hr hk hn hG hL => ?_)
  unfold vX2_clearNamesR at hV
  refine z_iconst hC dX2_clearNames_0 ?_
  refine z_istore_n (lv' := [(1, .int (zI 0)), (0, .ref (zA P 1 0 0))]) hC rfl hL (by decide) rfl dX2_clearNames_1 (fun ls hL => ?_)
  refine zl2_use hV (fun (a2_1 : Int) (K2 : ZG) => inR a2_1 → ∀ (H : Heap) (locs : List Loc), zS P s K2 H locs → ∀ (ls : Array Slot), zL ls 2 [(0, .ref (zA P 1 0 0)), (1, .int (zI a2_1))] → W p l e rX2_clearNamesR s m args below meth c H locs 0 0 (MQ below (zQv P Q) args s 0 0 (zAr P)) (F0 m 2 ls [])) ?_ (inR_lit rfl) _ _ hG _ (hL.sub [1, 0] rfl)
  intro P2 a2_1 K2 hP2 hV ha2_1 H locs hG ls hL
  refine z_iload_n hC rfl (hL.at 1 rfl) dX2_clearNames_2 ?_
  refine z_bipush hC rfl dX2_clearNames_3 ?_
  refine z_icmp_ge (tgt := 21) hC ha2_1 (inR_lit rfl) hV dX2_clearNames_5 (by decide) ?_ ?_
  · intro hV
    exact z_vret hC hG hr hk hV (Nat.le_of_ble_eq_true rfl) (Nat.le_of_ble_eq_true rfl) dX2_clearNames_21
  · intro hV
    refine z_aload_n hC zvr_a rfl (hL.at 0 rfl) dX2_clearNames_8 ?_
    refine z_getA hC hG kFX2_15_3 rfl rfl dX2_clearNames_9 ?_
    refine z_iload_n hC rfl (hL.at 1 rfl) dX2_clearNames_12 ?_
    refine z_iconst hC dX2_clearNames_13 ?_
    refine z_iast hC hG rfl (Nat.le_of_ble_eq_true rfl) (Nat.le_of_ble_eq_true rfl) rfl rfl rfl ha2_1 (inR_lit rfl) hV dX2_clearNames_14 ?_
    intro G1 _ _ hG hV
    refine z_iincV (fun x1 => [(1, .int (zI x1)), (0, .ref (zA P 1 0 0))]) hC hL (k := 1) rfl (by decide) (fun _ => rfl) hV dX2_clearNames_15 ?_
    intro x1 hx1 hV ls hL
    refine z_goto (tgt := 2) hC dX2_clearNames_18 (by decide) ?_
    exact hP2 x1 G1 hV hx1 _ _ hG _ (hL.sub [1, 0] rfl)
abbrev rX3_begin : Room := { frames := 2, cells := 0, slots := 0, locals := 33 }
def vX3_begin (G : ZG) (Q : ZG → Prop) : Prop := zpF G 1 6 0 fun (G1 : ZG) => zpF G1 1 7 0 fun (G2 : ZG) => zpF G2 1 8 1 fun (G3 : ZG) => vX2_clearNamesR G3 fun (G4 : ZG) => Q G4
set_option maxHeartbeats 4000000 in
theorem mX3_begin (l : Launch) (P : ZP) (G : ZG) {Q : ZG → Prop} (hV : vX3_begin G Q) : Met l yX3_begin (ws_ yX3_begin cX3_begin 1 none) rX3_begin (zPc P G [.ref (zA P 1 0 0)]) (zQv P Q) 0 0 (zAr P) := by
  refine zMet RX3 (plainFor_of_name (by decide)) rfl (zcs_c rfl zcs_0) (Nat.le_of_ble_eq_true rfl) (fun p e s m args below meth c ls hC hr hk hn hG hL => ?_)
  unfold vX3_begin at hV
  refine z_aload_n hC zvr_a rfl (hL.at 0 rfl) dX3_begin_0 ?_
  refine z_iconst hC dX3_begin_1 ?_
  refine z_putF hC hG kFX3_75_3 rfl rfl rfl rfl nk_3_6 (inR_lit rfl) (Or.inl rfl) hV dX3_begin_2 ?_
  intro G1 _ _ hG hV
  refine z_aload_n hC zvr_a rfl (hL.at 0 rfl) dX3_begin_5 ?_
  refine z_iconst hC dX3_begin_6 ?_
  refine z_putF hC hG kFX3_58_3 rfl rfl rfl rfl nk_3_7 (inR_lit rfl) (Or.inl rfl) hV dX3_begin_7 ?_
  intro G2 _ _ hG hV
  refine z_aload_n hC zvr_a rfl (hL.at 0 rfl) dX3_begin_10 ?_
  refine z_iconst hC dX3_begin_11 ?_
  refine z_putF hC hG kFX3_62_3 rfl rfl rfl rfl nk_3_8 (inR_lit rfl) (Or.inr ⟨rfl, (Or.inr rfl)⟩) hV dX3_begin_12 ?_
  intro G3 _ _ hG hV
  refine z_aload_n hC zvr_a rfl (hL.at 0 rfl) dX3_begin_15 ?_
  refine z_call_v hG (zrunU hC hG (zrecv hC (Nat.le_of_ble_eq_true rfl) (Nat.le_of_ble_eq_true rfl) (zobj hG rfl (Nat.le_of_ble_eq_true rfl) (Nat.le_of_ble_eq_true rfl))) (mX2_clearNamesR l P G3 hV) kUX3_91_Running rfl rfl rfl ⟨(Nat.le_of_ble_eq_true rfl), (Nat.le_of_ble_eq_true rfl)⟩ ⟨(Nat.le_of_ble_eq_true rfl), (Nat.le_of_ble_eq_true rfl)⟩ rfl ⟨zcs_0, (Nat.le_of_ble_eq_true rfl)⟩ hL.1.1 dX3_begin_16) ?_
  rintro G4 _ _ hV hG
  exact z_vret hC hG hr hk hV (Nat.le_of_ble_eq_true rfl) (Nat.le_of_ble_eq_true rfl) dX3_begin_19
def bX3_thing (wX3_thing : Int → ZG → (Int → Prop) → Prop) (p0 : Int) (G : ZG) (Q : Int → Prop) : Prop := zbr (3 < p0) (zn0 5 ∧ wX3_thing (dDiv p0 5) G fun (x1 : Int) => vJ2_get 8 x1 G fun (x2 : ZR) => zca G x2 7 ∧ zisO G x2 7 ∧ vX7_parts x2 G fun (x4 : ZR) => zn0 5 ∧ zeI G x4 (w32 ((dRem p0 5) - 1)) fun (x5 : Int) => zisO G x2 7 ∧ vX7_kind x2 G fun (x7 : Int) => zjn (fun (z63_0 : Int) => Q z63_0) fun J63 => zbr (x7 ≠ 5) (J63 x5) (J63 (w32 (1000 + x5)))) (zaL G 1 2 3 (w32 (p0 - 1)) fun (x8 : Int) => Q x8)
set_option maxHeartbeats 4000000 in
theorem sX3_thing (l : Launch) (P : ZP) {rf rl : Nat} (hrf : 4 ≤ rf) (hrl : 76 ≤ rl) (wX3_thing : Int → ZG → (Int → Prop) → Prop) (ihX3_thing : ∀ (G : ZG) (p0 : Int) (hp0 : inR p0) {Q : Int → Prop}, wX3_thing p0 G Q → Met l yX3_thing (ws_ yX3_thing cX3_thing 4 (some .int)) ({ frames := rf, cells := 0, slots := 0, locals := rl } : Room) (zPc P G [.ref (zA P 1 0 0), .int (zI p0)]) (zQi P (fun r G2 => G = G2 ∧ Q r)) 0 0 (zAr P)) (G : ZG) (p0 : Int) (hp0 : inR p0) {Q : Int → Prop} (hV : bX3_thing wX3_thing p0 G Q) : Met l yX3_thing (ws_ yX3_thing cX3_thing 4 (some .int)) ({ frames := rf + 1, cells := 0, slots := 0, locals := rl + 23 } : Room) (zPc P G [.ref (zA P 1 0 0), .int (zI p0)]) (zQi P (fun r G2 => G = G2 ∧ Q r)) 0 0 (zAr P) := by
  refine zMet RX3 (plainFor_of_name (by decide)) rfl (zcs_c rfl (zcs_c rfl zcs_0)) (Nat.le_of_ble_eq_true rfl) (fun p e s m args below meth c ls hC hr hk hn hG hL => ?_)
  unfold bX3_thing at hV
  refine z_iload_n hC rfl (hL.at 1 rfl) dX3_thing_0 ?_
  refine z_iconst hC dX3_thing_1 ?_
  refine z_icmp_gt (tgt := 14) hC hp0 (inR_lit rfl) hV dX3_thing_2 (by decide) ?_ ?_
  · intro hV
    refine z_aload_n hC zvr_a rfl (hL.at 0 rfl) dX3_thing_14 ?_
    refine z_getO hC hG 0 kFX3_3_3 rfl rfl dX3_thing_15 ?_
    refine z_getO hC hG 8 kFX3_28_1 rfl rfl dX3_thing_18 ?_
    refine z_aload_n hC zvr_a rfl (hL.at 0 rfl) dX3_thing_21 ?_
    refine z_iload_n hC rfl (hL.at 1 rfl) dX3_thing_22 ?_
    refine z_iconst hC dX3_thing_23 ?_
    refine z_idiv hC (inR_lit rfl) hV dX3_thing_24 (fun hV => ?_)
    refine z_call_i hG (zrunV (ci := 3) hC hG (Nat.le_of_ble_eq_true rfl) (Nat.le_of_ble_eq_true rfl) (zobj hG rfl (Nat.le_of_ble_eq_true rfl) (Nat.le_of_ble_eq_true rfl)) (ihX3_thing G (dDiv p0 5) (inR_toInt _) hV) kVX3_32 rfl rfl rfl ⟨Nat.le_refl _, (by show 8 + (4 + 11) + rl ≤ rl + 23; omega)⟩ ⟨(Nat.le_of_ble_eq_true rfl), (Nat.le_of_ble_eq_true rfl)⟩ rfl ⟨(zcs_c rfl zcs_0), (Nat.le_of_ble_eq_true rfl)⟩ hL.1.1 dX3_thing_25) ?_
    rintro x1 _ _ _ hx1 ⟨rfl, hV⟩ hG
    refine z_call_r hG (zrunV (ci := 2) hC hG (Nat.le_of_ble_eq_true rfl) (Nat.le_of_ble_eq_true rfl) (zobj hG rfl (Nat.le_of_ble_eq_true rfl) (Nat.le_of_ble_eq_true rfl)) (mJ2_get l P G 8 rfl x1 hx1 hV) kVX3_36 rfl rfl rfl ⟨(by show 3 + 1 ≤ rf + 1; omega), (by show 8 + (2 + 11) + 55 ≤ rl + 23; omega)⟩ ⟨(Nat.le_of_ble_eq_true rfl), (Nat.le_of_ble_eq_true rfl)⟩ rfl ⟨zcs_0, (Nat.le_of_ble_eq_true rfl)⟩ hL.1.1 dX3_thing_28) ?_
    rintro x2 _ _ _  ⟨rfl, hV⟩ hG
    refine z_cast hC hG (ci := 7) (Nat.le_of_ble_eq_true rfl) (Nat.le_of_ble_eq_true rfl) q1411 hV dX3_thing_31 (fun hV => ?_)
    refine z_astore_n (lv' := [(2, zrv P x2), (0, .ref (zA P 1 0 0)), (1, .int (zI p0))]) hC zvr_r rfl hL (by decide) rfl dX3_thing_34 (fun ls hL => ?_)
    refine z_aload_n hC zvr_r rfl (hL.at 0 rfl) dX3_thing_35 ?_
    obtain ⟨hO3, hV⟩ := hV
    refine z_call_r hG (zrunVD hC hG hO3 (mX7_parts l P G x2 hV) kVX3_44 rfl rfl rfl ⟨(by show 1 + 1 ≤ rf + 1; omega), (by show 8 + (1 + 11) + 12 ≤ rl + 23; omega)⟩ ⟨(Nat.le_of_ble_eq_true rfl), (Nat.le_of_ble_eq_true rfl)⟩ rfl ⟨zcs_0, (Nat.le_of_ble_eq_true rfl)⟩ hL.1.1 dX3_thing_36) ?_
    rintro x4 _ _ _  ⟨rfl, hV⟩ hG
    refine z_iload_n hC rfl (hL.at 2 rfl) dX3_thing_39 ?_
    refine z_iconst hC dX3_thing_40 ?_
    refine z_irem hC (inR_lit rfl) hV dX3_thing_41 (fun hV => ?_)
    refine z_iconst hC dX3_thing_42 ?_
    refine z_isub hC dX3_thing_43 ?_
    refine z_eald hC hG (inR_w _) hV dX3_thing_44 ?_
    intro x5 hx5 hV
    refine z_istore_n (lv' := [(3, .int (zI x5)), (2, zrv P x2), (0, .ref (zA P 1 0 0)), (1, .int (zI p0))]) hC rfl hL (by decide) rfl dX3_thing_45 (fun ls hL => ?_)
    refine z_aload_n hC zvr_r rfl (hL.at 1 rfl) dX3_thing_46 ?_
    obtain ⟨hO6, hV⟩ := hV
    refine z_call_i hG (zrunVD hC hG hO6 (mX7_kind l P G x2 hV) kVX3_48 rfl rfl rfl ⟨(by show 1 + 1 ≤ rf + 1; omega), (by show 8 + (1 + 11) + 12 ≤ rl + 23; omega)⟩ ⟨(Nat.le_of_ble_eq_true rfl), (Nat.le_of_ble_eq_true rfl)⟩ rfl ⟨zcs_0, (Nat.le_of_ble_eq_true rfl)⟩ hL.1.1 dX3_thing_47) ?_
    rintro x7 _ _ _ hx7 ⟨rfl, hV⟩ hG
    refine z_iconst hC dX3_thing_50 ?_
    obtain ⟨J63, eJ63, hV⟩ := zjn_abs hV
    have hJ63 : ∀ {H : Heap} {locs : List Loc}, zS P s G H locs → ∀ (z63_0 : Int), inR z63_0 → J63 z63_0 → ∀ (ls : Array Slot), zL ls 4 [] → W p l e ({ frames := rf + 1, cells := 0, slots := 0, locals := rl + 23 } : Room) s m args below meth c H locs 0 0 (MQ below (zQi P (fun r G2 => G = G2 ∧ Q r)) args s 0 0 (zAr P)) (F0 m 63 ls [.int (zI z63_0)]) := by
      intro H locs hG z63_0 hz63_0 hV ls hL
      rw [eJ63] at hV
      exact z_iret hC hG hr hk hz63_0 ⟨rfl, hV⟩ (Nat.le_of_ble_eq_true rfl) (Nat.le_of_ble_eq_true rfl) dX3_thing_63
    refine z_icmp_ne (tgt := 62) hC hx7 (inR_lit rfl) hV dX3_thing_51 (by decide) ?_ ?_
    · intro hV
      refine z_iload_n hC rfl (hL.at 0 rfl) dX3_thing_62 ?_
      exact hJ63 hG x5 hx5 hV _ (hL.sub [] rfl)
    · intro hV
      refine z_sipush hC rfl dX3_thing_54 ?_
      refine z_iload_n hC rfl (hL.at 0 rfl) dX3_thing_57 ?_
      refine z_iadd hC dX3_thing_58 ?_
      refine z_goto (tgt := 63) hC dX3_thing_59 (by decide) ?_
      exact hJ63 hG (w32 (1000 + x5)) (inR_w _) hV _ (hL.sub [] rfl)
  · intro hV
    refine z_aload_n hC zvr_a rfl (hL.at 0 rfl) dX3_thing_5 ?_
    refine z_getA hC hG kFX3_15_3 rfl rfl dX3_thing_6 ?_
    refine z_iload_n hC rfl (hL.at 1 rfl) dX3_thing_9 ?_
    refine z_iconst hC dX3_thing_10 ?_
    refine z_isub hC dX3_thing_11 ?_
    refine z_iald hC hG rfl rfl rfl (inR_w _) hV dX3_thing_12 ?_
    intro x8 hx8 hV
    exact z_iret hC hG hr hk hx8 ⟨rfl, hV⟩ (Nat.le_of_ble_eq_true rfl) (Nat.le_of_ble_eq_true rfl) dX3_thing_13
abbrev rgThing (d : Nat) : Room := { frames := 4 + d, cells := 0, slots := 0, locals := 76 + 23 * d }
def vggThing : Nat → (Int → ZG → (Int → Prop) → Prop)
  | 0 => fun _ _ _ => False
  | d + 1 => bX3_thing (vggThing d)
def vX3_thing (d : Nat) (p0 : Int) (G : ZG) (Q : Int → Prop) : Prop := (vggThing d) p0 G Q
theorem vX3_thing_s (d : Nat) (p0 : Int) (G : ZG) (Q : Int → Prop) : vX3_thing (d + 1) p0 G Q = bX3_thing (vX3_thing d) p0 G Q := rfl
theorem ggThing (l : Launch) (P : ZP) : ∀ d : Nat, (∀ (G : ZG) (p0 : Int) (hp0 : inR p0) {Q : Int → Prop}, vX3_thing d p0 G Q → Met l yX3_thing (ws_ yX3_thing cX3_thing 4 (some .int)) (rgThing d) (zPc P G [.ref (zA P 1 0 0), .int (zI p0)]) (zQi P (fun r G2 => G = G2 ∧ Q r)) 0 0 (zAr P)) := by
  intro d
  induction d with
  | zero => exact fun G p0 hp0 Q h => False.elim h
  | succ d ih =>
    have e : 76 + 23 * (d + 1) = 76 + 23 * d + 23 := by omega
    exact fun G p0 hp0 Q h => (by
      simp only [rgThing, e]
      exact sX3_thing l P (rf := 4 + d) (rl := 76 + 23 * d) (by omega) (by omega) (vggThing d) (ih) _ p0 hp0 h)
theorem mX3_thing (l : Launch) (P : ZP) (d : Nat) (G : ZG) (p0 : Int) (hp0 : inR p0) {Q : Int → Prop} (hV : vX3_thing d p0 G Q) : Met l yX3_thing (ws_ yX3_thing cX3_thing 4 (some .int)) (rgThing d) (zPc P G [.ref (zA P 1 0 0), .int (zI p0)]) (zQi P (fun r G2 => G = G2 ∧ Q r)) 0 0 (zAr P) := (ggThing l P d) G p0 hp0 hV
abbrev rX3_look : Room := { frames := 13, cells := 0, slots := 0, locals := 283 }
def vX3_look (p0 : Int) (G : ZG) (Q : Int → Prop) : Prop := vX3_thing 8 p0 G fun (x1 : Int) => zjn (fun (z38_0 : Int) => Q z38_0) fun J38 => zbr (x1 < 1000) (vJ2_get 8 x1 G fun (x2 : ZR) => zca G x2 7 ∧ zisO G x2 7 ∧ vX7_first x2 G fun (x4 : Int) => J38 x4) (J38 (w32 (x1 - 1000)))
set_option maxHeartbeats 4000000 in
theorem mX3_look (l : Launch) (P : ZP) (G : ZG) (p0 : Int) (hp0 : inR p0) {Q : Int → Prop} (hV : vX3_look p0 G Q) : Met l yX3_look (ws_ yX3_look cX3_look 3 (some .int)) rX3_look (zPc P G [.ref (zA P 1 0 0), .int (zI p0)]) (zQi P (fun r G2 => G = G2 ∧ Q r)) 0 0 (zAr P) := by
  refine zMet RX3 (plainFor_of_name (by decide)) rfl (zcs_c rfl (zcs_c rfl zcs_0)) (Nat.le_of_ble_eq_true rfl) (fun p e s m args below meth c ls hC hr hk hn hG hL => ?_)
  unfold vX3_look at hV
  refine z_aload_n hC zvr_a rfl (hL.at 0 rfl) dX3_look_0 ?_
  refine z_iload_n hC rfl (hL.at 1 rfl) dX3_look_1 ?_
  refine z_call_i hG (zrunV (ci := 3) hC hG (Nat.le_of_ble_eq_true rfl) (Nat.le_of_ble_eq_true rfl) (zobj hG rfl (Nat.le_of_ble_eq_true rfl) (Nat.le_of_ble_eq_true rfl)) (mX3_thing l P 8 G p0 hp0 hV) kVX3_32 rfl rfl rfl ⟨(Nat.le_of_ble_eq_true rfl), (Nat.le_of_ble_eq_true rfl)⟩ ⟨(Nat.le_of_ble_eq_true rfl), (Nat.le_of_ble_eq_true rfl)⟩ rfl ⟨zcs_0, (Nat.le_of_ble_eq_true rfl)⟩ hL.1.1 dX3_look_2) ?_
  rintro x1 _ _ _ hx1 ⟨rfl, hV⟩ hG
  refine z_istore_n (lv' := [(2, .int (zI x1)), (0, .ref (zA P 1 0 0)), (1, .int (zI p0))]) hC rfl hL (by decide) rfl dX3_look_5 (fun ls hL => ?_)
  refine z_iload_n hC rfl (hL.at 0 rfl) dX3_look_6 ?_
  refine z_sipush hC rfl dX3_look_7 ?_
  obtain ⟨J38, eJ38, hV⟩ := zjn_abs hV
  have hJ38 : ∀ {H : Heap} {locs : List Loc}, zS P s G H locs → ∀ (z38_0 : Int), inR z38_0 → J38 z38_0 → ∀ (ls : Array Slot), zL ls 3 [] → W p l e rX3_look s m args below meth c H locs 0 0 (MQ below (zQi P (fun r G2 => G = G2 ∧ Q r)) args s 0 0 (zAr P)) (F0 m 38 ls [.int (zI z38_0)]) := by
    intro H locs hG z38_0 hz38_0 hV ls hL
    rw [eJ38] at hV
    exact z_iret hC hG hr hk hz38_0 ⟨rfl, hV⟩ (Nat.le_of_ble_eq_true rfl) (Nat.le_of_ble_eq_true rfl) dX3_look_38
  refine z_icmp_lt (tgt := 21) hC hx1 (inR_lit rfl) hV dX3_look_10 (by decide) ?_ ?_
  · intro hV
    refine z_aload_n hC zvr_a rfl (hL.at 1 rfl) dX3_look_21 ?_
    refine z_getO hC hG 0 kFX3_3_3 rfl rfl dX3_look_22 ?_
    refine z_getO hC hG 8 kFX3_28_1 rfl rfl dX3_look_25 ?_
    refine z_iload_n hC rfl (hL.at 0 rfl) dX3_look_28 ?_
    refine z_call_r hG (zrunV (ci := 2) hC hG (Nat.le_of_ble_eq_true rfl) (Nat.le_of_ble_eq_true rfl) (zobj hG rfl (Nat.le_of_ble_eq_true rfl) (Nat.le_of_ble_eq_true rfl)) (mJ2_get l P G 8 rfl x1 hx1 hV) kVX3_36 rfl rfl rfl ⟨(Nat.le_of_ble_eq_true rfl), (Nat.le_of_ble_eq_true rfl)⟩ ⟨(Nat.le_of_ble_eq_true rfl), (Nat.le_of_ble_eq_true rfl)⟩ rfl ⟨zcs_0, (Nat.le_of_ble_eq_true rfl)⟩ hL.1.1 dX3_look_29) ?_
    rintro x2 _ _ _  ⟨rfl, hV⟩ hG
    refine z_cast hC hG (ci := 7) (Nat.le_of_ble_eq_true rfl) (Nat.le_of_ble_eq_true rfl) q1411 hV dX3_look_32 (fun hV => ?_)
    obtain ⟨hO3, hV⟩ := hV
    refine z_call_i hG (zrunVD hC hG hO3 (mX7_first l P G x2 hV) kVX3_52 rfl rfl rfl ⟨(Nat.le_of_ble_eq_true rfl), (Nat.le_of_ble_eq_true rfl)⟩ ⟨(Nat.le_of_ble_eq_true rfl), (Nat.le_of_ble_eq_true rfl)⟩ rfl ⟨zcs_0, (Nat.le_of_ble_eq_true rfl)⟩ hL.1.1 dX3_look_35) ?_
    rintro x4 _ _ _ hx4 ⟨rfl, hV⟩ hG
    exact hJ38 hG x4 hx4 hV _ (hL.sub [] rfl)
  · intro hV
    refine z_iload_n hC rfl (hL.at 0 rfl) dX3_look_13 ?_
    refine z_sipush hC rfl dX3_look_14 ?_
    refine z_isub hC dX3_look_17 ?_
    refine z_goto (tgt := 38) hC dX3_look_18 (by decide) ?_
    exact hJ38 hG (w32 (x1 - 1000)) (inR_w _) hV _ (hL.sub [] rfl)
abbrev rX3_at : Room := { frames := 14, cells := 0, slots := 0, locals := 305 }
def vX3_at (p0 : Int) (p1 : Int) (G : ZG) (Q : Int → ZG → Prop) : Prop := zgF G 1 7 fun (x1 : Int) => zgF G 1 8 fun (x2 : Int) => zjn (fun (z17_2 : Int) => zpF G 1 7 (w32 (x1 + z17_2)) fun (G1 : ZG) => vX3_look p0 G1 fun (x3 : Int) => Q x3 G1) fun J17 => zbr (x2 = 0) (J17 0) (J17 1)
set_option maxHeartbeats 4000000 in
theorem mX3_at (l : Launch) (P : ZP) (G : ZG) (p0 : Int) (hp0 : inR p0) (p1 : Int) (hp1 : inR p1) {Q : Int → ZG → Prop} (hV : vX3_at p0 p1 G Q) : Met l yX3_at (ws_ yX3_at cX3_at 3 (some .int)) rX3_at (zPc P G [.ref (zA P 1 0 0), .int (zI p0), .int (zI p1)]) (zQi P Q) 0 0 (zAr P) := by
  refine zMet RX3 (plainFor_of_name (by decide)) rfl (zcs_c rfl (zcs_c rfl (zcs_c rfl zcs_0))) (Nat.le_of_ble_eq_true rfl) (fun p e s m args below meth c ls hC hr hk hn hG hL => ?_)
  unfold vX3_at at hV
  refine z_aload_n hC zvr_a rfl (hL.at 0 rfl) dX3_at_0 ?_
  refine z_dup hC rfl dX3_at_1 ?_
  refine z_getF hC hG kFX3_58_3 rfl rfl hV dX3_at_2 ?_
  intro x1 hx1 hV
  refine z_aload_n hC zvr_a rfl (hL.at 0 rfl) dX3_at_5 ?_
  refine z_getF hC hG kFX3_62_3 rfl rfl hV dX3_at_6 ?_
  intro x2 hx2 hV
  obtain ⟨J17, eJ17, hV⟩ := zjn_abs hV
  have hJ17 : ∀ {H : Heap} {locs : List Loc}, zS P s G H locs → ∀ (z17_2 : Int), (z17_2 = 0 ∨ z17_2 = 1) → J17 z17_2 → ∀ (ls : Array Slot), zL ls 3 [(0, .ref (zA P 1 0 0)), (1, .int (zI p0))] → W p l e rX3_at s m args below meth c H locs 0 0 (MQ below (zQi P Q) args s 0 0 (zAr P)) (F0 m 17 ls [.int (zI z17_2), .int (zI x1), .ref (zA P 1 0 0)]) := by
    intro H locs hG z17_2 hz17_2 hV ls hL
    rw [eJ17] at hV
    refine z_iadd hC dX3_at_17 ?_
    refine z_putF hC hG kFX3_58_3 rfl rfl rfl rfl nk_3_7 (inR_w _) (Or.inl rfl) hV dX3_at_18 ?_
    intro G1 _ _ hG hV
    refine z_aload_n hC zvr_a rfl (hL.at 0 rfl) dX3_at_21 ?_
    refine z_iload_n hC rfl (hL.at 1 rfl) dX3_at_22 ?_
    refine z_call_i hG (zrunV (ci := 3) hC hG (Nat.le_of_ble_eq_true rfl) (Nat.le_of_ble_eq_true rfl) (zobj hG rfl (Nat.le_of_ble_eq_true rfl) (Nat.le_of_ble_eq_true rfl)) (mX3_look l P G1 p0 hp0 hV) kVX3_66 rfl rfl rfl ⟨(Nat.le_of_ble_eq_true rfl), (Nat.le_of_ble_eq_true rfl)⟩ ⟨(Nat.le_of_ble_eq_true rfl), (Nat.le_of_ble_eq_true rfl)⟩ rfl ⟨zcs_0, (Nat.le_of_ble_eq_true rfl)⟩ hL.1.1 dX3_at_23) ?_
    rintro x3 _ _ _ hx3 ⟨rfl, hV⟩ hG
    exact z_iret hC hG hr hk hx3 hV (Nat.le_of_ble_eq_true rfl) (Nat.le_of_ble_eq_true rfl) dX3_at_26
  refine z_if_eq (tgt := 16) hC hx2 hV dX3_at_9 (by decide) ?_ ?_
  · intro hV
    refine z_iconst hC dX3_at_16 ?_
    exact hJ17 hG 0 (Or.inl rfl) hV _ (hL.sub [0, 1] rfl)
  · intro hV
    refine z_iconst hC dX3_at_12 ?_
    refine z_goto (tgt := 17) hC dX3_at_13 (by decide) ?_
    exact hJ17 hG 1 (Or.inr rfl) hV _ (hL.sub [0, 1] rfl)
abbrev rX3_measureAt : Room := { frames := 13, cells := 0, slots := 0, locals := 283 }
def vX3_measureAt (p0 : Int) (G : ZG) (Q : Int → Prop) : Prop := vX3_thing 8 p0 G fun (x1 : Int) => zjn (fun (z38_0 : Int) => Q z38_0) fun J38 => zbr (x1 < 1000) (vJ2_get 8 x1 G fun (x2 : ZR) => zca G x2 7 ∧ zisO G x2 7 ∧ vX7_measure x2 G fun (x4 : Int) => J38 x4) (J38 (w32 (x1 - 1000)))
set_option maxHeartbeats 4000000 in
theorem mX3_measureAt (l : Launch) (P : ZP) (G : ZG) (p0 : Int) (hp0 : inR p0) {Q : Int → Prop} (hV : vX3_measureAt p0 G Q) : Met l yX3_measureAt (ws_ yX3_measureAt cX3_measureAt 3 (some .int)) rX3_measureAt (zPc P G [.ref (zA P 1 0 0), .int (zI p0)]) (zQi P (fun r G2 => G = G2 ∧ Q r)) 0 0 (zAr P) := by
  refine zMet RX3 (plainFor_of_name (by decide)) rfl (zcs_c rfl (zcs_c rfl zcs_0)) (Nat.le_of_ble_eq_true rfl) (fun p e s m args below meth c ls hC hr hk hn hG hL => ?_)
  unfold vX3_measureAt at hV
  refine z_aload_n hC zvr_a rfl (hL.at 0 rfl) dX3_measureAt_0 ?_
  refine z_iload_n hC rfl (hL.at 1 rfl) dX3_measureAt_1 ?_
  refine z_call_i hG (zrunV (ci := 3) hC hG (Nat.le_of_ble_eq_true rfl) (Nat.le_of_ble_eq_true rfl) (zobj hG rfl (Nat.le_of_ble_eq_true rfl) (Nat.le_of_ble_eq_true rfl)) (mX3_thing l P 8 G p0 hp0 hV) kVX3_32 rfl rfl rfl ⟨(Nat.le_of_ble_eq_true rfl), (Nat.le_of_ble_eq_true rfl)⟩ ⟨(Nat.le_of_ble_eq_true rfl), (Nat.le_of_ble_eq_true rfl)⟩ rfl ⟨zcs_0, (Nat.le_of_ble_eq_true rfl)⟩ hL.1.1 dX3_measureAt_2) ?_
  rintro x1 _ _ _ hx1 ⟨rfl, hV⟩ hG
  refine z_istore_n (lv' := [(2, .int (zI x1)), (0, .ref (zA P 1 0 0)), (1, .int (zI p0))]) hC rfl hL (by decide) rfl dX3_measureAt_5 (fun ls hL => ?_)
  refine z_iload_n hC rfl (hL.at 0 rfl) dX3_measureAt_6 ?_
  refine z_sipush hC rfl dX3_measureAt_7 ?_
  obtain ⟨J38, eJ38, hV⟩ := zjn_abs hV
  have hJ38 : ∀ {H : Heap} {locs : List Loc}, zS P s G H locs → ∀ (z38_0 : Int), inR z38_0 → J38 z38_0 → ∀ (ls : Array Slot), zL ls 3 [] → W p l e rX3_measureAt s m args below meth c H locs 0 0 (MQ below (zQi P (fun r G2 => G = G2 ∧ Q r)) args s 0 0 (zAr P)) (F0 m 38 ls [.int (zI z38_0)]) := by
    intro H locs hG z38_0 hz38_0 hV ls hL
    rw [eJ38] at hV
    exact z_iret hC hG hr hk hz38_0 ⟨rfl, hV⟩ (Nat.le_of_ble_eq_true rfl) (Nat.le_of_ble_eq_true rfl) dX3_measureAt_38
  refine z_icmp_lt (tgt := 21) hC hx1 (inR_lit rfl) hV dX3_measureAt_10 (by decide) ?_ ?_
  · intro hV
    refine z_aload_n hC zvr_a rfl (hL.at 1 rfl) dX3_measureAt_21 ?_
    refine z_getO hC hG 0 kFX3_3_3 rfl rfl dX3_measureAt_22 ?_
    refine z_getO hC hG 8 kFX3_28_1 rfl rfl dX3_measureAt_25 ?_
    refine z_iload_n hC rfl (hL.at 0 rfl) dX3_measureAt_28 ?_
    refine z_call_r hG (zrunV (ci := 2) hC hG (Nat.le_of_ble_eq_true rfl) (Nat.le_of_ble_eq_true rfl) (zobj hG rfl (Nat.le_of_ble_eq_true rfl) (Nat.le_of_ble_eq_true rfl)) (mJ2_get l P G 8 rfl x1 hx1 hV) kVX3_36 rfl rfl rfl ⟨(Nat.le_of_ble_eq_true rfl), (Nat.le_of_ble_eq_true rfl)⟩ ⟨(Nat.le_of_ble_eq_true rfl), (Nat.le_of_ble_eq_true rfl)⟩ rfl ⟨zcs_0, (Nat.le_of_ble_eq_true rfl)⟩ hL.1.1 dX3_measureAt_29) ?_
    rintro x2 _ _ _  ⟨rfl, hV⟩ hG
    refine z_cast hC hG (ci := 7) (Nat.le_of_ble_eq_true rfl) (Nat.le_of_ble_eq_true rfl) q1411 hV dX3_measureAt_32 (fun hV => ?_)
    obtain ⟨hO3, hV⟩ := hV
    refine z_call_i hG (zrunVD hC hG hO3 (mX7_measure l P G x2 hV) kVX3_55 rfl rfl rfl ⟨(Nat.le_of_ble_eq_true rfl), (Nat.le_of_ble_eq_true rfl)⟩ ⟨(Nat.le_of_ble_eq_true rfl), (Nat.le_of_ble_eq_true rfl)⟩ rfl ⟨zcs_0, (Nat.le_of_ble_eq_true rfl)⟩ hL.1.1 dX3_measureAt_35) ?_
    rintro x4 _ _ _ hx4 ⟨rfl, hV⟩ hG
    exact hJ38 hG x4 hx4 hV _ (hL.sub [] rfl)
  · intro hV
    refine z_iload_n hC rfl (hL.at 0 rfl) dX3_measureAt_13 ?_
    refine z_sipush hC rfl dX3_measureAt_14 ?_
    refine z_isub hC dX3_measureAt_17 ?_
    refine z_goto (tgt := 38) hC dX3_measureAt_18 (by decide) ?_
    exact hJ38 hG (w32 (x1 - 1000)) (inR_w _) hV _ (hL.sub [] rfl)
abbrev rJ4_floorMod : Room := { frames := 1, cells := 0, slots := 0, locals := 12 }
def vJ4_floorMod (p0 : Int) (p1 : Int) (Q : Int → Prop) : Prop := zn0 p1 ∧ zlt1 (dRem p0 p1) fun (x1 : Int) => zjn (fun (_ : Unit) => Q x1) fun J18 => zbr (0 ≤ bXor p0 p1) (J18 ()) (zbr (x1 = 0) (J18 ()) (Q (w32 (x1 + p1))))
set_option maxHeartbeats 4000000 in
theorem mJ4_floorMod (l : Launch) (P : ZP) (G : ZG) (p0 : Int) (hp0 : inR p0) (p1 : Int) (hp1 : inR p1) {Q : Int → Prop} (hV : vJ4_floorMod p0 p1 Q) : Met l yJ4_floorMod (ws_ yJ4_floorMod cJ4_floorMod 3 (some .int)) rJ4_floorMod (zPc P G [.int (zI p0), .int (zI p1)]) (zQi P (fun r G2 => G = G2 ∧ Q r)) 0 0 (zAr P) := by
  refine zMet RJ4 (by decide +kernel) rfl (zcs_c rfl (zcs_c rfl zcs_0)) (Nat.le_of_ble_eq_true rfl) (fun p e s m args below meth c ls hC hr hk hn hG hL => ?_)
  unfold vJ4_floorMod at hV
  refine z_iload_n hC rfl (hL.at 0 rfl) dJ4_floorMod_0 ?_
  refine z_iload_n hC rfl (hL.at 1 rfl) dJ4_floorMod_1 ?_
  refine z_irem hC hp1 hV dJ4_floorMod_2 (fun hV => ?_)
  refine z_top hV (inR_toInt _) ?_
  intro x1 hx1 hV
  refine z_istore_n (lv' := [(2, .int (zI x1)), (0, .int (zI p0)), (1, .int (zI p1))]) hC rfl hL (by decide) rfl dJ4_floorMod_3 (fun ls hL => ?_)
  refine z_iload_n hC rfl (hL.at 1 rfl) dJ4_floorMod_4 ?_
  refine z_iload_n hC rfl (hL.at 2 rfl) dJ4_floorMod_5 ?_
  refine z_ixor hC dJ4_floorMod_6 ?_
  obtain ⟨J18, eJ18, hV⟩ := zjn_abs hV
  have hJ18 : ∀ {H : Heap} {locs : List Loc}, zS P s G H locs → J18 () → ∀ (ls : Array Slot), zL ls 3 [(2, .int (zI x1))] → W p l e rJ4_floorMod s m args below meth c H locs 0 0 (MQ below (zQi P (fun r G2 => G = G2 ∧ Q r)) args s 0 0 (zAr P)) (F0 m 18 ls []) := by
    intro H locs hG hV ls hL
    rw [eJ18] at hV
    refine z_iload_n hC rfl (hL.at 0 rfl) dJ4_floorMod_18 ?_
    exact z_iret hC hG hr hk hx1 ⟨rfl, hV⟩ (Nat.le_of_ble_eq_true rfl) (Nat.le_of_ble_eq_true rfl) dJ4_floorMod_19
  refine z_if_ge (tgt := 18) hC (inR_toInt _) hV dJ4_floorMod_7 (by decide) ?_ ?_
  · intro hV
    exact hJ18 hG hV _ (hL.sub [0] rfl)
  · intro hV
    refine z_iload_n hC rfl (hL.at 0 rfl) dJ4_floorMod_10 ?_
    refine z_if_eq (tgt := 18) hC hx1 hV dJ4_floorMod_11 (by decide) ?_ ?_
    · intro hV
      exact hJ18 hG hV _ (hL.sub [0] rfl)
    · intro hV
      refine z_iload_n hC rfl (hL.at 0 rfl) dJ4_floorMod_14 ?_
      refine z_iload_n hC rfl (hL.at 2 rfl) dJ4_floorMod_15 ?_
      refine z_iadd hC dJ4_floorMod_16 ?_
      exact z_iret hC hG hr hk (inR_w _) ⟨rfl, hV⟩ (Nat.le_of_ble_eq_true rfl) (Nat.le_of_ble_eq_true rfl) dJ4_floorMod_17
abbrev rX3_seen : Room := { frames := 14, cells := 0, slots := 0, locals := 305 }
def vX3_seen (p0 : Int) (p1 : Int) (G : ZG) (Q : Int → ZG → Prop) : Prop := zl1 (fun (P2 : Int → Prop) (a2_3 : Int) => zgF G 1 6 fun (x1 : Int) => zbr (x1 ≤ a2_3) (zuL G 0 3 3 p0 fun (x2 : ZR) => zgF G 1 6 fun (x3 : Int) => zaS G 1 3 600 x3 p0 fun (G1 : ZG) => zgF G1 1 6 fun (x4 : Int) => zaS G1 1 4 600 x4 p1 fun (G2 : ZG) => zgF G2 1 6 fun (x5 : Int) => zeI G2 x2 0 fun (x6 : Int) => vX3_measureAt p1 G2 fun (x7 : Int) => zeI G2 x2 1 fun (x8 : Int) => zgF G2 1 6 fun (x9 : Int) => zeI G2 x2 2 fun (x10 : Int) => zeI G2 x2 3 fun (x11 : Int) => vJ4_floorMod (w32 ((w32 ((w32 (x6 * x7)) + (w32 (x8 * x9)))) + x10)) x11 fun (x12 : Int) => zaS G2 1 5 600 x5 x12 fun (G3 : ZG) => zgF G3 1 6 fun (x13 : Int) => zpF G3 1 6 (w32 (x13 + 1)) fun (G4 : ZG) => zgF G4 1 6 fun (x14 : Int) => zaL G4 1 5 600 (w32 (x14 - 1)) fun (x15 : Int) => Q x15 G4) (zaL G 1 3 600 a2_3 fun (x16 : Int) => zjn (fun (_ : Unit) => zlt1 (w32 (a2_3 + 1)) fun (x17 : Int) => P2 x17) fun J37 => zbr (x16 ≠ p0) (J37 ()) (zaL G 1 4 600 a2_3 fun (x18 : Int) => zbr (x18 ≠ p1) (J37 ()) (zaL G 1 5 600 a2_3 fun (x19 : Int) => Q x19 G)))) 0
set_option maxHeartbeats 4000000 in
theorem mX3_seen (l : Launch) (P : ZP) (G : ZG) (p0 : Int) (hp0 : inR p0) (p1 : Int) (hp1 : inR p1) {Q : Int → ZG → Prop} (hV : vX3_seen p0 p1 G Q) : Met l yX3_seen (ws_ yX3_seen cX3_seen 4 (some .int)) rX3_seen (zPc P G [.ref (zA P 1 0 0), .int (zI p0), .int (zI p1)]) (zQi P Q) 0 0 (zAr P) := by
  refine zMet RX3 (plainFor_of_name (by decide)) rfl (zcs_c rfl (zcs_c rfl (zcs_c rfl zcs_0))) (Nat.le_of_ble_eq_true rfl) (fun p e s m args below meth c ls hC hr hk hn hG hL => ?_)
  unfold vX3_seen at hV
  refine z_iconst hC dX3_seen_0 ?_
  refine z_istore_n (lv' := [(3, .int (zI 0)), (0, .ref (zA P 1 0 0)), (1, .int (zI p0)), (2, .int (zI p1))]) hC rfl hL (by decide) rfl dX3_seen_1 (fun ls hL => ?_)
  refine zl1_use hV (fun (a2_3 : Int) => inR a2_3 → ∀ (H : Heap) (locs : List Loc), zS P s G H locs → ∀ (ls : Array Slot), zL ls 4 [(0, .ref (zA P 1 0 0)), (1, .int (zI p0)), (2, .int (zI p1)), (3, .int (zI a2_3))] → W p l e rX3_seen s m args below meth c H locs 0 0 (MQ below (zQi P Q) args s 0 0 (zAr P)) (F0 m 2 ls [])) ?_ (inR_lit rfl) _ _ hG _ (hL.sub [1, 2, 3, 0] rfl)
  intro P2 a2_3 hP2 hV ha2_3 H locs hG ls hL
  refine z_iload_n hC rfl (hL.at 3 rfl) dX3_seen_2 ?_
  refine z_aload_n hC zvr_a rfl (hL.at 0 rfl) dX3_seen_3 ?_
  refine z_getF hC hG kFX3_75_3 rfl rfl hV dX3_seen_4 ?_
  intro x1 hx1 hV
  refine z_icmp_ge (tgt := 43) hC ha2_3 hx1 hV dX3_seen_7 (by decide) ?_ ?_
  · intro hV
    refine z_aload_n hC zvr_a rfl (hL.at 0 rfl) dX3_seen_43 ?_
    refine z_getO hC hG 0 kFX3_3_3 rfl rfl dX3_seen_44 ?_
    refine z_getA hC hG kFX3_78_1 rfl rfl dX3_seen_47 ?_
    refine z_iload_n hC rfl (hL.at 1 rfl) dX3_seen_50 ?_
    refine z_uald hC hG rfl rfl rfl hp0 hV dX3_seen_51 ?_
    intro x2 hV
    refine z_astore_n (lv' := [(3, zrv P x2), (0, .ref (zA P 1 0 0)), (1, .int (zI p0)), (2, .int (zI p1))]) hC zvr_r rfl hL (by decide) rfl dX3_seen_52 (fun ls hL => ?_)
    refine z_aload_n hC zvr_a rfl (hL.at 1 rfl) dX3_seen_53 ?_
    refine z_getA hC hG kFX3_19_3 rfl rfl dX3_seen_54 ?_
    refine z_aload_n hC zvr_a rfl (hL.at 1 rfl) dX3_seen_57 ?_
    refine z_getF hC hG kFX3_75_3 rfl rfl hV dX3_seen_58 ?_
    intro x3 hx3 hV
    refine z_iload_n hC rfl (hL.at 2 rfl) dX3_seen_61 ?_
    refine z_iast hC hG rfl (Nat.le_of_ble_eq_true rfl) (Nat.le_of_ble_eq_true rfl) rfl rfl rfl hx3 hp0 hV dX3_seen_62 ?_
    intro G1 _ _ hG hV
    refine z_aload_n hC zvr_a rfl (hL.at 1 rfl) dX3_seen_63 ?_
    refine z_getA hC hG kFX3_22_3 rfl rfl dX3_seen_64 ?_
    refine z_aload_n hC zvr_a rfl (hL.at 1 rfl) dX3_seen_67 ?_
    refine z_getF hC hG kFX3_75_3 rfl rfl hV dX3_seen_68 ?_
    intro x4 hx4 hV
    refine z_iload_n hC rfl (hL.at 3 rfl) dX3_seen_71 ?_
    refine z_iast hC hG rfl (Nat.le_of_ble_eq_true rfl) (Nat.le_of_ble_eq_true rfl) rfl rfl rfl hx4 hp1 hV dX3_seen_72 ?_
    intro G2 _ _ hG hV
    refine z_aload_n hC zvr_a rfl (hL.at 1 rfl) dX3_seen_73 ?_
    refine z_getA hC hG kFX3_25_3 rfl rfl dX3_seen_74 ?_
    refine z_aload_n hC zvr_a rfl (hL.at 1 rfl) dX3_seen_77 ?_
    refine z_getF hC hG kFX3_75_3 rfl rfl hV dX3_seen_78 ?_
    intro x5 hx5 hV
    refine z_aload_n hC zvr_r rfl (hL.at 0 rfl) dX3_seen_81 ?_
    refine z_iconst hC dX3_seen_82 ?_
    refine z_eald hC hG (inR_lit rfl) hV dX3_seen_83 ?_
    intro x6 hx6 hV
    refine z_aload_n hC zvr_a rfl (hL.at 1 rfl) dX3_seen_84 ?_
    refine z_iload_n hC rfl (hL.at 3 rfl) dX3_seen_85 ?_
    refine z_call_i hG (zrunV (ci := 3) hC hG (Nat.le_of_ble_eq_true rfl) (Nat.le_of_ble_eq_true rfl) (zobj hG rfl (Nat.le_of_ble_eq_true rfl) (Nat.le_of_ble_eq_true rfl)) (mX3_measureAt l P G2 p1 hp1 hV) kVX3_82 rfl rfl rfl ⟨(Nat.le_of_ble_eq_true rfl), (Nat.le_of_ble_eq_true rfl)⟩ ⟨(Nat.le_of_ble_eq_true rfl), (Nat.le_of_ble_eq_true rfl)⟩ rfl ⟨(zcs_c rfl (zcs_c rfl (zcs_c rfl zcs_0))), (Nat.le_of_ble_eq_true rfl)⟩ hL.1.1 dX3_seen_86) ?_
    rintro x7 _ _ _ hx7 ⟨rfl, hV⟩ hG
    refine z_imul hC dX3_seen_89 ?_
    refine z_aload_n hC zvr_r rfl (hL.at 0 rfl) dX3_seen_90 ?_
    refine z_iconst hC dX3_seen_91 ?_
    refine z_eald hC hG (inR_lit rfl) hV dX3_seen_92 ?_
    intro x8 hx8 hV
    refine z_aload_n hC zvr_a rfl (hL.at 1 rfl) dX3_seen_93 ?_
    refine z_getF hC hG kFX3_75_3 rfl rfl hV dX3_seen_94 ?_
    intro x9 hx9 hV
    refine z_imul hC dX3_seen_97 ?_
    refine z_iadd hC dX3_seen_98 ?_
    refine z_aload_n hC zvr_r rfl (hL.at 0 rfl) dX3_seen_99 ?_
    refine z_iconst hC dX3_seen_100 ?_
    refine z_eald hC hG (inR_lit rfl) hV dX3_seen_101 ?_
    intro x10 hx10 hV
    refine z_iadd hC dX3_seen_102 ?_
    refine z_aload_n hC zvr_r rfl (hL.at 0 rfl) dX3_seen_103 ?_
    refine z_iconst hC dX3_seen_104 ?_
    refine z_eald hC hG (inR_lit rfl) hV dX3_seen_105 ?_
    intro x11 hx11 hV
    refine z_call_i hG (zrunS hC hG (mJ4_floorMod l P G2 (w32 ((w32 ((w32 (x6 * x7)) + (w32 (x8 * x9)))) + x10)) (inR_w _) x11 hx11 hV) kSX3_85 rfl rfl rfl ⟨(Nat.le_of_ble_eq_true rfl), (Nat.le_of_ble_eq_true rfl)⟩ ⟨(Nat.le_of_ble_eq_true rfl), (Nat.le_of_ble_eq_true rfl)⟩ rfl ⟨(zcs_c rfl (zcs_c rfl zcs_0)), (Nat.le_of_ble_eq_true rfl)⟩ hL.1.1 dX3_seen_106) ?_
    rintro x12 _ _ _ hx12 ⟨rfl, hV⟩ hG
    refine z_iast hC hG rfl (Nat.le_of_ble_eq_true rfl) (Nat.le_of_ble_eq_true rfl) rfl rfl rfl hx5 hx12 hV dX3_seen_109 ?_
    intro G3 _ _ hG hV
    refine z_aload_n hC zvr_a rfl (hL.at 1 rfl) dX3_seen_110 ?_
    refine z_dup hC rfl dX3_seen_111 ?_
    refine z_getF hC hG kFX3_75_3 rfl rfl hV dX3_seen_112 ?_
    intro x13 hx13 hV
    refine z_iconst hC dX3_seen_115 ?_
    refine z_iadd hC dX3_seen_116 ?_
    refine z_putF hC hG kFX3_75_3 rfl rfl rfl rfl nk_3_6 (inR_w _) (Or.inl rfl) hV dX3_seen_117 ?_
    intro G4 _ _ hG hV
    refine z_aload_n hC zvr_a rfl (hL.at 1 rfl) dX3_seen_120 ?_
    refine z_getA hC hG kFX3_25_3 rfl rfl dX3_seen_121 ?_
    refine z_aload_n hC zvr_a rfl (hL.at 1 rfl) dX3_seen_124 ?_
    refine z_getF hC hG kFX3_75_3 rfl rfl hV dX3_seen_125 ?_
    intro x14 hx14 hV
    refine z_iconst hC dX3_seen_128 ?_
    refine z_isub hC dX3_seen_129 ?_
    refine z_iald hC hG rfl rfl rfl (inR_w _) hV dX3_seen_130 ?_
    intro x15 hx15 hV
    exact z_iret hC hG hr hk hx15 hV (Nat.le_of_ble_eq_true rfl) (Nat.le_of_ble_eq_true rfl) dX3_seen_131
  · intro hV
    refine z_aload_n hC zvr_a rfl (hL.at 0 rfl) dX3_seen_10 ?_
    refine z_getA hC hG kFX3_19_3 rfl rfl dX3_seen_11 ?_
    refine z_iload_n hC rfl (hL.at 3 rfl) dX3_seen_14 ?_
    refine z_iald hC hG rfl rfl rfl ha2_3 hV dX3_seen_15 ?_
    intro x16 hx16 hV
    refine z_iload_n hC rfl (hL.at 1 rfl) dX3_seen_16 ?_
    obtain ⟨J37, eJ37, hV⟩ := zjn_abs hV
    have hJ37 : ∀ {H : Heap} {locs : List Loc}, zS P s G H locs → J37 () → ∀ (ls : Array Slot), zL ls 4 [(0, .ref (zA P 1 0 0)), (1, .int (zI p0)), (2, .int (zI p1)), (3, .int (zI a2_3))] → W p l e rX3_seen s m args below meth c H locs 0 0 (MQ below (zQi P Q) args s 0 0 (zAr P)) (F0 m 37 ls []) := by
      intro H locs hG hV ls hL
      rw [eJ37] at hV
      refine z_iincV (fun x17 => [(3, .int (zI x17)), (0, .ref (zA P 1 0 0)), (1, .int (zI p0)), (2, .int (zI p1))]) hC hL (k := 3) rfl (by decide) (fun _ => rfl) hV dX3_seen_37 ?_
      intro x17 hx17 hV ls hL
      refine z_goto (tgt := 2) hC dX3_seen_40 (by decide) ?_
      exact hP2 x17 hV hx17 _ _ hG _ (hL.sub [1, 2, 3, 0] rfl)
    refine z_icmp_ne (tgt := 37) hC hx16 hp0 hV dX3_seen_17 (by decide) ?_ ?_
    · intro hV
      exact hJ37 hG hV _ hL
    · intro hV
      refine z_aload_n hC zvr_a rfl (hL.at 0 rfl) dX3_seen_20 ?_
      refine z_getA hC hG kFX3_22_3 rfl rfl dX3_seen_21 ?_
      refine z_iload_n hC rfl (hL.at 3 rfl) dX3_seen_24 ?_
      refine z_iald hC hG rfl rfl rfl ha2_3 hV dX3_seen_25 ?_
      intro x18 hx18 hV
      refine z_iload_n hC rfl (hL.at 2 rfl) dX3_seen_26 ?_
      refine z_icmp_ne (tgt := 37) hC hx18 hp1 hV dX3_seen_27 (by decide) ?_ ?_
      · intro hV
        exact hJ37 hG hV _ hL
      · intro hV
        refine z_aload_n hC zvr_a rfl (hL.at 0 rfl) dX3_seen_30 ?_
        refine z_getA hC hG kFX3_25_3 rfl rfl dX3_seen_31 ?_
        refine z_iload_n hC rfl (hL.at 3 rfl) dX3_seen_34 ?_
        refine z_iald hC hG rfl rfl rfl ha2_3 hV dX3_seen_35 ?_
        intro x19 hx19 hV
        exact z_iret hC hG hr hk hx19 hV (Nat.le_of_ble_eq_true rfl) (Nat.le_of_ble_eq_true rfl) dX3_seen_36
abbrev rX3_holdsRange : Room := { frames := 3, cells := 0, slots := 0, locals := 55 }
def vX3_holdsRange (p0 : ZR) (p1 : Int) (G : ZG) (Q : Int → ZG → Prop) : Prop := zgF G 1 7 fun (x1 : Int) => zgF G 1 8 fun (x2 : Int) => zjn (fun (z17_2 : Int) => zpF G 1 7 (w32 (x1 + z17_2)) fun (G1 : ZG) => zisO G1 p0 11 ∧ vX11_holds p0 p1 G1 fun (x4 : Int) => Q x4 G1) fun J17 => zbr (x2 = 0) (J17 0) (J17 1)
set_option maxHeartbeats 4000000 in
theorem mX3_holdsRange (l : Launch) (P : ZP) (G : ZG) (p0 : ZR) (p1 : Int) (hp1 : inR p1) {Q : Int → ZG → Prop} (hV : vX3_holdsRange p0 p1 G Q) : Met l yX3_holdsRange (ws_ yX3_holdsRange cX3_holdsRange 3 (some .boolean)) rX3_holdsRange (zPc P G [.ref (zA P 1 0 0), zrv P p0, .int (zI p1)]) (zQz P Q) 0 0 (zAr P) := by
  refine zMet RX3 (plainFor_of_name (by decide)) rfl (zcs_c rfl (zcs_c (zrv_cat _ _) (zcs_c rfl zcs_0))) (Nat.le_of_ble_eq_true rfl) (fun p e s m args below meth c ls hC hr hk hn hG hL => ?_)
  unfold vX3_holdsRange at hV
  refine z_aload_n hC zvr_a rfl (hL.at 0 rfl) dX3_holdsRange_0 ?_
  refine z_dup hC rfl dX3_holdsRange_1 ?_
  refine z_getF hC hG kFX3_58_3 rfl rfl hV dX3_holdsRange_2 ?_
  intro x1 hx1 hV
  refine z_aload_n hC zvr_a rfl (hL.at 0 rfl) dX3_holdsRange_5 ?_
  refine z_getF hC hG kFX3_62_3 rfl rfl hV dX3_holdsRange_6 ?_
  intro x2 hx2 hV
  obtain ⟨J17, eJ17, hV⟩ := zjn_abs hV
  have hJ17 : ∀ {H : Heap} {locs : List Loc}, zS P s G H locs → ∀ (z17_2 : Int), (z17_2 = 0 ∨ z17_2 = 1) → J17 z17_2 → ∀ (ls : Array Slot), zL ls 3 [(1, zrv P p0), (2, .int (zI p1))] → W p l e rX3_holdsRange s m args below meth c H locs 0 0 (MQ below (zQz P Q) args s 0 0 (zAr P)) (F0 m 17 ls [.int (zI z17_2), .int (zI x1), .ref (zA P 1 0 0)]) := by
    intro H locs hG z17_2 hz17_2 hV ls hL
    rw [eJ17] at hV
    refine z_iadd hC dX3_holdsRange_17 ?_
    refine z_putF hC hG kFX3_58_3 rfl rfl rfl rfl nk_3_7 (inR_w _) (Or.inl rfl) hV dX3_holdsRange_18 ?_
    intro G1 _ _ hG hV
    refine z_aload_n hC zvr_r rfl (hL.at 0 rfl) dX3_holdsRange_21 ?_
    refine z_iload_n hC rfl (hL.at 1 rfl) dX3_holdsRange_22 ?_
    obtain ⟨hO3, hV⟩ := hV
    refine z_call_z hG (zrunVD hC hG hO3 (mX11_holds l P G1 p0 p1 hp1 hV) kVX3_69 rfl rfl rfl ⟨(Nat.le_of_ble_eq_true rfl), (Nat.le_of_ble_eq_true rfl)⟩ ⟨(Nat.le_of_ble_eq_true rfl), (Nat.le_of_ble_eq_true rfl)⟩ rfl ⟨zcs_0, (Nat.le_of_ble_eq_true rfl)⟩ hL.1.1 dX3_holdsRange_23) ?_
    rintro x4 _ _ _ hx4 ⟨rfl, hV⟩ hG
    exact z_zret hC hG hr hk hx4 hV (Nat.le_of_ble_eq_true rfl) (Nat.le_of_ble_eq_true rfl) dX3_holdsRange_26
  refine z_if_eq (tgt := 16) hC hx2 hV dX3_holdsRange_9 (by decide) ?_ ?_
  · intro hV
    refine z_iconst hC dX3_holdsRange_16 ?_
    exact hJ17 hG 0 (Or.inl rfl) hV _ (hL.sub [1, 2] rfl)
  · intro hV
    refine z_iconst hC dX3_holdsRange_12 ?_
    refine z_goto (tgt := 17) hC dX3_holdsRange_13 (by decide) ?_
    exact hJ17 hG 1 (Or.inr rfl) hV _ (hL.sub [1, 2] rfl)
abbrev rX3_numberAt : Room := { frames := 13, cells := 0, slots := 0, locals := 283 }
def vX3_numberAt (p0 : Int) (G : ZG) (Q : Int → Prop) : Prop := vX3_thing 8 p0 G fun (x1 : Int) => zjn (fun (z38_0 : Int) => Q z38_0) fun J38 => zbr (x1 < 1000) (vJ2_get 8 x1 G fun (x2 : ZR) => zca G x2 7 ∧ zisO G x2 7 ∧ vX7_first x2 G fun (x4 : Int) => J38 x4) (J38 (w32 (x1 - 1000)))
set_option maxHeartbeats 4000000 in
theorem mX3_numberAt (l : Launch) (P : ZP) (G : ZG) (p0 : Int) (hp0 : inR p0) {Q : Int → Prop} (hV : vX3_numberAt p0 G Q) : Met l yX3_numberAt (ws_ yX3_numberAt cX3_numberAt 3 (some .int)) rX3_numberAt (zPc P G [.ref (zA P 1 0 0), .int (zI p0)]) (zQi P (fun r G2 => G = G2 ∧ Q r)) 0 0 (zAr P) := by
  refine zMet RX3 (plainFor_of_name (by decide)) rfl (zcs_c rfl (zcs_c rfl zcs_0)) (Nat.le_of_ble_eq_true rfl) (fun p e s m args below meth c ls hC hr hk hn hG hL => ?_)
  unfold vX3_numberAt at hV
  refine z_aload_n hC zvr_a rfl (hL.at 0 rfl) dX3_numberAt_0 ?_
  refine z_iload_n hC rfl (hL.at 1 rfl) dX3_numberAt_1 ?_
  refine z_call_i hG (zrunV (ci := 3) hC hG (Nat.le_of_ble_eq_true rfl) (Nat.le_of_ble_eq_true rfl) (zobj hG rfl (Nat.le_of_ble_eq_true rfl) (Nat.le_of_ble_eq_true rfl)) (mX3_thing l P 8 G p0 hp0 hV) kVX3_32 rfl rfl rfl ⟨(Nat.le_of_ble_eq_true rfl), (Nat.le_of_ble_eq_true rfl)⟩ ⟨(Nat.le_of_ble_eq_true rfl), (Nat.le_of_ble_eq_true rfl)⟩ rfl ⟨zcs_0, (Nat.le_of_ble_eq_true rfl)⟩ hL.1.1 dX3_numberAt_2) ?_
  rintro x1 _ _ _ hx1 ⟨rfl, hV⟩ hG
  refine z_istore_n (lv' := [(2, .int (zI x1)), (0, .ref (zA P 1 0 0)), (1, .int (zI p0))]) hC rfl hL (by decide) rfl dX3_numberAt_5 (fun ls hL => ?_)
  refine z_iload_n hC rfl (hL.at 0 rfl) dX3_numberAt_6 ?_
  refine z_sipush hC rfl dX3_numberAt_7 ?_
  obtain ⟨J38, eJ38, hV⟩ := zjn_abs hV
  have hJ38 : ∀ {H : Heap} {locs : List Loc}, zS P s G H locs → ∀ (z38_0 : Int), inR z38_0 → J38 z38_0 → ∀ (ls : Array Slot), zL ls 3 [] → W p l e rX3_numberAt s m args below meth c H locs 0 0 (MQ below (zQi P (fun r G2 => G = G2 ∧ Q r)) args s 0 0 (zAr P)) (F0 m 38 ls [.int (zI z38_0)]) := by
    intro H locs hG z38_0 hz38_0 hV ls hL
    rw [eJ38] at hV
    exact z_iret hC hG hr hk hz38_0 ⟨rfl, hV⟩ (Nat.le_of_ble_eq_true rfl) (Nat.le_of_ble_eq_true rfl) dX3_numberAt_38
  refine z_icmp_lt (tgt := 21) hC hx1 (inR_lit rfl) hV dX3_numberAt_10 (by decide) ?_ ?_
  · intro hV
    refine z_aload_n hC zvr_a rfl (hL.at 1 rfl) dX3_numberAt_21 ?_
    refine z_getO hC hG 0 kFX3_3_3 rfl rfl dX3_numberAt_22 ?_
    refine z_getO hC hG 8 kFX3_28_1 rfl rfl dX3_numberAt_25 ?_
    refine z_iload_n hC rfl (hL.at 0 rfl) dX3_numberAt_28 ?_
    refine z_call_r hG (zrunV (ci := 2) hC hG (Nat.le_of_ble_eq_true rfl) (Nat.le_of_ble_eq_true rfl) (zobj hG rfl (Nat.le_of_ble_eq_true rfl) (Nat.le_of_ble_eq_true rfl)) (mJ2_get l P G 8 rfl x1 hx1 hV) kVX3_36 rfl rfl rfl ⟨(Nat.le_of_ble_eq_true rfl), (Nat.le_of_ble_eq_true rfl)⟩ ⟨(Nat.le_of_ble_eq_true rfl), (Nat.le_of_ble_eq_true rfl)⟩ rfl ⟨zcs_0, (Nat.le_of_ble_eq_true rfl)⟩ hL.1.1 dX3_numberAt_29) ?_
    rintro x2 _ _ _  ⟨rfl, hV⟩ hG
    refine z_cast hC hG (ci := 7) (Nat.le_of_ble_eq_true rfl) (Nat.le_of_ble_eq_true rfl) q1411 hV dX3_numberAt_32 (fun hV => ?_)
    obtain ⟨hO3, hV⟩ := hV
    refine z_call_i hG (zrunVD hC hG hO3 (mX7_first l P G x2 hV) kVX3_52 rfl rfl rfl ⟨(Nat.le_of_ble_eq_true rfl), (Nat.le_of_ble_eq_true rfl)⟩ ⟨(Nat.le_of_ble_eq_true rfl), (Nat.le_of_ble_eq_true rfl)⟩ rfl ⟨zcs_0, (Nat.le_of_ble_eq_true rfl)⟩ hL.1.1 dX3_numberAt_35) ?_
    rintro x4 _ _ _ hx4 ⟨rfl, hV⟩ hG
    exact hJ38 hG x4 hx4 hV _ (hL.sub [] rfl)
  · intro hV
    refine z_iload_n hC rfl (hL.at 0 rfl) dX3_numberAt_13 ?_
    refine z_sipush hC rfl dX3_numberAt_14 ?_
    refine z_isub hC dX3_numberAt_17 ?_
    refine z_goto (tgt := 38) hC dX3_numberAt_18 (by decide) ?_
    exact hJ38 hG (w32 (x1 - 1000)) (inR_w _) hV _ (hL.sub [] rfl)
abbrev rX3_guards : Room := { frames := 14, cells := 0, slots := 0, locals := 305 }
def vX3_guards (p0 : ZR) (G : ZG) (Q : Int → Prop) : Prop := zdR G p0 16 2 fun (x1 : ZR) => zjn (fun (z35_0 : Int) => Q z35_0) fun J35 => zbr (x1 ≠ none) (zdR G p0 16 2 fun (x2 : ZR) => zdI G p0 16 3 fun (x3 : Int) => zaL G 1 0 6 x3 fun (x4 : Int) => vX3_numberAt x4 G fun (x5 : Int) => zdI G p0 16 4 fun (x6 : Int) => zgo x2 x5 x6 fun (x7 : Int) => J35 x7) (J35 0)
set_option maxHeartbeats 4000000 in
theorem mX3_guards (l : Launch) (P : ZP) (G : ZG) (p0 : ZR) {Q : Int → Prop} (hV : vX3_guards p0 G Q) : Met l yX3_guards (ws_ yX3_guards cX3_guards 2 (some .int)) rX3_guards (zPc P G [.ref (zA P 1 0 0), zrv P p0]) (zQi P (fun r G2 => G = G2 ∧ Q r)) 0 0 (zAr P) := by
  refine zMet RX3 (plainFor_of_name (by decide)) rfl (zcs_c rfl (zcs_c (zrv_cat _ _) zcs_0)) (Nat.le_of_ble_eq_true rfl) (fun p e s m args below meth c ls hC hr hk hn hG hL => ?_)
  unfold vX3_guards at hV
  refine z_aload_n hC zvr_r rfl (hL.at 1 rfl) dX3_guards_0 ?_
  refine z_dR hC hG kFX3_95_16 hV dX3_guards_1 ?_
  intro x1 hV
  obtain ⟨J35, eJ35, hV⟩ := zjn_abs hV
  have hJ35 : ∀ {H : Heap} {locs : List Loc}, zS P s G H locs → ∀ (z35_0 : Int), inR z35_0 → J35 z35_0 → ∀ (ls : Array Slot), zL ls 2 [] → W p l e rX3_guards s m args below meth c H locs 0 0 (MQ below (zQi P (fun r G2 => G = G2 ∧ Q r)) args s 0 0 (zAr P)) (F0 m 35 ls [.int (zI z35_0)]) := by
    intro H locs hG z35_0 hz35_0 hV ls hL
    rw [eJ35] at hV
    exact z_iret hC hG hr hk hz35_0 ⟨rfl, hV⟩ (Nat.le_of_ble_eq_true rfl) (Nat.le_of_ble_eq_true rfl) dX3_guards_35
  refine z_ifnonnull (tgt := 11) hC hV dX3_guards_4 (by decide) ?_ ?_
  · intro hV
    refine z_aload_n hC zvr_r rfl (hL.at 1 rfl) dX3_guards_11 ?_
    refine z_dR hC hG kFX3_95_16 hV dX3_guards_12 ?_
    intro x2 hV
    refine z_aload_n hC zvr_a rfl (hL.at 0 rfl) dX3_guards_15 ?_
    refine z_aload_n hC zvr_a rfl (hL.at 0 rfl) dX3_guards_16 ?_
    refine z_getA hC hG kFX3_103_3 rfl rfl dX3_guards_17 ?_
    refine z_aload_n hC zvr_r rfl (hL.at 1 rfl) dX3_guards_20 ?_
    refine z_dI hC hG kFX3_106_16 hV dX3_guards_21 ?_
    intro x3 hx3 hV
    refine z_iald hC hG rfl rfl rfl hx3 hV dX3_guards_24 ?_
    intro x4 hx4 hV
    refine z_call_i hG (zrunV (ci := 3) hC hG (Nat.le_of_ble_eq_true rfl) (Nat.le_of_ble_eq_true rfl) (zobj hG rfl (Nat.le_of_ble_eq_true rfl) (Nat.le_of_ble_eq_true rfl)) (mX3_numberAt l P G x4 hx4 hV) kVX3_109 rfl rfl rfl ⟨(Nat.le_of_ble_eq_true rfl), (Nat.le_of_ble_eq_true rfl)⟩ ⟨(Nat.le_of_ble_eq_true rfl), (Nat.le_of_ble_eq_true rfl)⟩ rfl ⟨(zcs_c (zrv_cat _ _) zcs_0), (Nat.le_of_ble_eq_true rfl)⟩ hL.1.1 dX3_guards_25) ?_
    rintro x5 _ _ _ hx5 ⟨rfl, hV⟩ hG
    refine z_aload_n hC zvr_r rfl (hL.at 1 rfl) dX3_guards_28 ?_
    refine z_dI hC hG kFX3_112_16 hV dX3_guards_29 ?_
    intro x6 hx6 hV
    refine z_goes hC hG (l := l) hV hx5 hx6 q1642 ⟨(Nat.le_of_ble_eq_true rfl), (Nat.le_of_ble_eq_true rfl)⟩ ⟨(Nat.le_of_ble_eq_true rfl), (Nat.le_of_ble_eq_true rfl)⟩ ⟨zcs_0, (Nat.le_of_ble_eq_true rfl)⟩ hL.1.1 dX3_guards_32 ?_
    intro x7 _ _ hx7 hV hG
    exact hJ35 hG x7 hx7 hV _ (hL.sub [] rfl)
  · intro hV
    refine z_iconst hC dX3_guards_7 ?_
    refine z_goto (tgt := 35) hC dX3_guards_8 (by decide) ?_
    exact hJ35 hG 0 (inR_lit rfl) hV _ (hL.sub [] rfl)
abbrev rX1_told : Room := { frames := 4, cells := 0, slots := 0, locals := 76 }
def vX1_told (p0 : Int) (G : ZG) (Q : ZR → Prop) : Prop := vJ2_get 9 p0 G fun (x1 : ZR) => zca G x1 9 ∧ Q x1
set_option maxHeartbeats 4000000 in
theorem mX1_told (l : Launch) (P : ZP) (G : ZG) (p0 : Int) (hp0 : inR p0) {Q : ZR → Prop} (hV : vX1_told p0 G Q) : Met l yX1_told (ws_ yX1_told cX1_told 2 (some (.object "Patternforge$Told"))) rX1_told (zPc P G [.ref (zA P 0 0 0), .int (zI p0)]) (zQr P (fun r G2 => G = G2 ∧ Q r)) 0 0 (zAr P) := by
  refine zMet RX1 (plainFor_of_name (by decide)) rfl (zcs_c rfl (zcs_c rfl zcs_0)) (Nat.le_of_ble_eq_true rfl) (fun p e s m args below meth c ls hC hr hk hn hG hL => ?_)
  unfold vX1_told at hV
  refine z_aload_n hC zvr_a rfl (hL.at 0 rfl) dX1_told_0 ?_
  refine z_getO hC hG 9 kFX1_32_1 rfl rfl dX1_told_1 ?_
  refine z_iload_n hC rfl (hL.at 1 rfl) dX1_told_4 ?_
  refine z_call_r hG (zrunV (ci := 2) hC hG (Nat.le_of_ble_eq_true rfl) (Nat.le_of_ble_eq_true rfl) (zobj hG rfl (Nat.le_of_ble_eq_true rfl) (Nat.le_of_ble_eq_true rfl)) (mJ2_get l P G 9 rfl p0 hp0 hV) kVX1_95 rfl rfl rfl ⟨(Nat.le_of_ble_eq_true rfl), (Nat.le_of_ble_eq_true rfl)⟩ ⟨(Nat.le_of_ble_eq_true rfl), (Nat.le_of_ble_eq_true rfl)⟩ rfl ⟨zcs_0, (Nat.le_of_ble_eq_true rfl)⟩ hL.1.1 dX1_told_5) ?_
  rintro x1 _ _ _  ⟨rfl, hV⟩ hG
  refine z_cast hC hG (ci := 9) (Nat.le_of_ble_eq_true rfl) (Nat.le_of_ble_eq_true rfl) q729 hV dX1_told_8 (fun hV => ?_)
  exact z_aret (r := x1) hC hG hr hk (Or.inl ⟨_, rfl⟩) ⟨rfl, hV⟩ (Nat.le_of_ble_eq_true rfl) (Nat.le_of_ble_eq_true rfl) dX1_told_11
def bX2_holdsR (wX2_holdsR : ZR → Int → ZG → (Int → ZG → Prop) → Prop) (p0 : ZR) (p1 : Int) (G : ZG) (Q : Int → ZG → Prop) : Prop := ziO G p0 13 fun (x1 : Int) => zbr (x1 = 0) (ziO G p0 11 fun (x2 : Int) => zjn (fun (z68_0 : Int) (H68 : ZG) => Q z68_0 H68) fun J68 => zjn (fun (H63 : ZG) => J68 1 H63) fun J63 => zbr (x2 = 0) (J63 G) (zca G p0 11 ∧ vX3_holdsRange p0 p1 G fun (x3 : Int) (G1 : ZG) => zbr (x3 = 0) (J68 0 G1) (J63 G1))) (zca G p0 13 ∧ zisO G p0 13 ∧ vX13_first p0 G fun (x5 : ZR) => wX2_holdsR x5 p1 G fun (x6 : Int) (G2 : ZG) => zjn (fun (z41_0 : Int) (H41 : ZG) => Q z41_0 H41) fun J41 => zjn (fun (H36 : ZG) => J41 1 H36) fun J36 => zbr (x6 ≠ 0) (J36 G2) (zisO G2 p0 13 ∧ vX13_second p0 G2 fun (x8 : ZR) => wX2_holdsR x8 p1 G2 fun (x9 : Int) (G3 : ZG) => zbr (x9 = 0) (J41 0 G3) (J36 G3)))
set_option maxHeartbeats 4000000 in
theorem sX2_holdsR (l : Launch) (P : ZP) {rf rl : Nat} (hrf : 4 ≤ rf) (hrl : 77 ≤ rl) (wX2_holdsR : ZR → Int → ZG → (Int → ZG → Prop) → Prop) (ihX2_holdsR : ∀ (G : ZG) (p0 : ZR) (p1 : Int) (hp1 : inR p1) {Q : Int → ZG → Prop}, wX2_holdsR p0 p1 G Q → Met l yX2_holds (ws_ yX2_holds cX2_holds 4 (some .boolean)) ({ frames := rf, cells := 0, slots := 0, locals := rl } : Room) (zPc P G [.ref (zA P 1 0 0), zrv P p0, .int (zI p1)]) (zQz P Q) 0 0 (zAr P)) (G : ZG) (p0 : ZR) (p1 : Int) (hp1 : inR p1) {Q : Int → ZG → Prop} (hV : bX2_holdsR wX2_holdsR p0 p1 G Q) : Met l yX2_holds (ws_ yX2_holds cX2_holds 4 (some .boolean)) ({ frames := rf + 1, cells := 0, slots := 0, locals := rl + 23 } : Room) (zPc P G [.ref (zA P 1 0 0), zrv P p0, .int (zI p1)]) (zQz P Q) 0 0 (zAr P) := by
  refine zMet RX2 (plainFor_of_name (by decide)) rfl (zcs_c rfl (zcs_c (zrv_cat _ _) (zcs_c rfl zcs_0))) (Nat.le_of_ble_eq_true rfl) (fun p e s m args below meth c ls hC hr hk hn hG hL => ?_)
  unfold bX2_holdsR at hV
  refine z_aload_n hC zvr_r rfl (hL.at 1 rfl) dX2_holds_0 ?_
  refine z_inst hC hG (ci := 13) (by decide) q1448 hV dX2_holds_1 ?_
  intro x1 hx1 hV
  refine z_if_eq (tgt := 42) hC (inR_b hx1) hV dX2_holds_4 (by decide) ?_ ?_
  · intro hV
    refine z_aload_n hC zvr_r rfl (hL.at 1 rfl) dX2_holds_42 ?_
    refine z_inst hC hG (ci := 11) (by decide) q1395 hV dX2_holds_43 ?_
    intro x2 hx2 hV
    obtain ⟨J68, eJ68, hV⟩ := zjn_abs hV
    have hJ68 : ∀ (z68_0 : Int) (H68 : ZG), (z68_0 = 0 ∨ z68_0 = 1) → J68 z68_0 H68 → ∀ (H : Heap) (locs : List Loc) (ls : Array Slot), zS P s H68 H locs → zL ls 4 [] → W p l e ({ frames := rf + 1, cells := 0, slots := 0, locals := rl + 23 } : Room) s m args below meth c H locs 0 0 (MQ below (zQz P Q) args s 0 0 (zAr P)) (F0 m 68 ls [.int (zI z68_0)]) := by
      intro z68_0 H68 hz68_0 hV H locs ls hG hL
      rw [eJ68] at hV
      exact z_zret hC hG hr hk hz68_0 hV (Nat.le_of_ble_eq_true rfl) (Nat.le_of_ble_eq_true rfl) dX2_holds_68
    obtain ⟨J63, eJ63, hV⟩ := zjn_abs hV
    have hJ63 : ∀ (H63 : ZG), J63 H63 → ∀ (H : Heap) (locs : List Loc) (ls : Array Slot), zS P s H63 H locs → zL ls 4 [] → W p l e ({ frames := rf + 1, cells := 0, slots := 0, locals := rl + 23 } : Room) s m args below meth c H locs 0 0 (MQ below (zQz P Q) args s 0 0 (zAr P)) (F0 m 63 ls []) := by
      intro H63 hV H locs ls hG hL
      rw [eJ63] at hV
      refine z_iconst hC dX2_holds_63 ?_
      refine z_goto (tgt := 68) hC dX2_holds_64 (by decide) ?_
      exact hJ68 1 H63 (Or.inr rfl) hV _ _ _ hG hL
    refine z_if_eq (tgt := 63) hC (inR_b hx2) hV dX2_holds_46 (by decide) ?_ ?_
    · intro hV
      exact hJ63 G hV _ _ _ hG (hL.sub [] rfl)
    · intro hV
      refine z_aload_n hC zvr_r rfl (hL.at 1 rfl) dX2_holds_49 ?_
      refine z_cast hC hG (ci := 11) (Nat.le_of_ble_eq_true rfl) (Nat.le_of_ble_eq_true rfl) q1395 hV dX2_holds_50 (fun hV => ?_)
      refine z_astore_n (lv' := [(3, zrv P p0), (0, .ref (zA P 1 0 0)), (1, zrv P p0), (2, .int (zI p1))]) hC zvr_r rfl hL (by decide) rfl dX2_holds_53 (fun ls hL => ?_)
      refine z_aload_n hC zvr_a rfl (hL.at 1 rfl) dX2_holds_54 ?_
      refine z_aload_n hC zvr_r rfl (hL.at 0 rfl) dX2_holds_55 ?_
      refine z_iload_n hC rfl (hL.at 3 rfl) dX2_holds_56 ?_
      refine z_call_z hG (zrunU hC hG (zrecv hC (Nat.le_of_ble_eq_true rfl) (Nat.le_of_ble_eq_true rfl) (zobj hG rfl (Nat.le_of_ble_eq_true rfl) (Nat.le_of_ble_eq_true rfl))) (mX3_holdsRange l P G p0 p1 hp1 hV) kUX2_112_Running rfl rfl rfl ⟨(by show 3 + 1 ≤ rf + 1; omega), (by show 8 + (3 + 11) + 55 ≤ rl + 23; omega)⟩ ⟨(Nat.le_of_ble_eq_true rfl), (Nat.le_of_ble_eq_true rfl)⟩ rfl ⟨zcs_0, (Nat.le_of_ble_eq_true rfl)⟩ hL.1.1 dX2_holds_57) ?_
      rintro x3 G1 _ _ hx3 hV hG
      refine z_if_eq (tgt := 67) hC (inR_b hx3) hV dX2_holds_60 (by decide) ?_ ?_
      · intro hV
        refine z_iconst hC dX2_holds_67 ?_
        exact hJ68 0 G1 (Or.inl rfl) hV _ _ _ hG (hL.sub [] rfl)
      · intro hV
        exact hJ63 G1 hV _ _ _ hG (hL.sub [] rfl)
  · intro hV
    refine z_aload_n hC zvr_r rfl (hL.at 1 rfl) dX2_holds_7 ?_
    refine z_cast hC hG (ci := 13) (Nat.le_of_ble_eq_true rfl) (Nat.le_of_ble_eq_true rfl) q1448 hV dX2_holds_8 (fun hV => ?_)
    refine z_astore_n (lv' := [(3, zrv P p0), (0, .ref (zA P 1 0 0)), (1, zrv P p0), (2, .int (zI p1))]) hC zvr_r rfl hL (by decide) rfl dX2_holds_11 (fun ls hL => ?_)
    refine z_aload_n hC zvr_a rfl (hL.at 1 rfl) dX2_holds_12 ?_
    refine z_aload_n hC zvr_r rfl (hL.at 0 rfl) dX2_holds_13 ?_
    obtain ⟨hO4, hV⟩ := hV
    refine z_call_r hG (zrunVD hC hG hO4 (mX13_first l P G p0 hV) kVX2_79 rfl rfl rfl ⟨(by show 1 + 1 ≤ rf + 1; omega), (by show 8 + (1 + 11) + 12 ≤ rl + 23; omega)⟩ ⟨(Nat.le_of_ble_eq_true rfl), (Nat.le_of_ble_eq_true rfl)⟩ rfl ⟨(zcs_c rfl zcs_0), (Nat.le_of_ble_eq_true rfl)⟩ hL.1.1 dX2_holds_14) ?_
    rintro x5 _ _ _  ⟨rfl, hV⟩ hG
    refine z_iload_n hC rfl (hL.at 3 rfl) dX2_holds_17 ?_
    refine z_call_z hG (zrunP (ci := 3) hC hG (Nat.le_of_ble_eq_true rfl) (Nat.le_of_ble_eq_true rfl) (zobj hG rfl (Nat.le_of_ble_eq_true rfl) (Nat.le_of_ble_eq_true rfl)) (ihX2_holdsR G x5 p1 hp1 hV) kPX2_94_Running rfl rfl rfl ⟨Nat.le_refl _, (by show 8 + (4 + 11) + rl ≤ rl + 23; omega)⟩ ⟨(Nat.le_of_ble_eq_true rfl), (Nat.le_of_ble_eq_true rfl)⟩ rfl ⟨zcs_0, (Nat.le_of_ble_eq_true rfl)⟩ hL.1.1 dX2_holds_18) ?_
    rintro x6 G2 _ _ hx6 hV hG
    obtain ⟨J41, eJ41, hV⟩ := zjn_abs hV
    have hJ41 : ∀ (z41_0 : Int) (H41 : ZG), (z41_0 = 0 ∨ z41_0 = 1) → J41 z41_0 H41 → ∀ (H : Heap) (locs : List Loc) (ls : Array Slot), zS P s H41 H locs → zL ls 4 [] → W p l e ({ frames := rf + 1, cells := 0, slots := 0, locals := rl + 23 } : Room) s m args below meth c H locs 0 0 (MQ below (zQz P Q) args s 0 0 (zAr P)) (F0 m 41 ls [.int (zI z41_0)]) := by
      intro z41_0 H41 hz41_0 hV H locs ls hG hL
      rw [eJ41] at hV
      exact z_zret hC hG hr hk hz41_0 hV (Nat.le_of_ble_eq_true rfl) (Nat.le_of_ble_eq_true rfl) dX2_holds_41
    obtain ⟨J36, eJ36, hV⟩ := zjn_abs hV
    have hJ36 : ∀ (H36 : ZG), J36 H36 → ∀ (H : Heap) (locs : List Loc) (ls : Array Slot), zS P s H36 H locs → zL ls 4 [] → W p l e ({ frames := rf + 1, cells := 0, slots := 0, locals := rl + 23 } : Room) s m args below meth c H locs 0 0 (MQ below (zQz P Q) args s 0 0 (zAr P)) (F0 m 36 ls []) := by
      intro H36 hV H locs ls hG hL
      rw [eJ36] at hV
      refine z_iconst hC dX2_holds_36 ?_
      refine z_goto (tgt := 41) hC dX2_holds_37 (by decide) ?_
      exact hJ41 1 H36 (Or.inr rfl) hV _ _ _ hG hL
    refine z_if_ne (tgt := 36) hC (inR_b hx6) hV dX2_holds_21 (by decide) ?_ ?_
    · intro hV
      exact hJ36 G2 hV _ _ _ hG (hL.sub [] rfl)
    · intro hV
      refine z_aload_n hC zvr_a rfl (hL.at 1 rfl) dX2_holds_24 ?_
      refine z_aload_n hC zvr_r rfl (hL.at 0 rfl) dX2_holds_25 ?_
      obtain ⟨hO7, hV⟩ := hV
      refine z_call_r hG (zrunVD hC hG hO7 (mX13_second l P G2 p0 hV) kVX2_82 rfl rfl rfl ⟨(by show 1 + 1 ≤ rf + 1; omega), (by show 8 + (1 + 11) + 12 ≤ rl + 23; omega)⟩ ⟨(Nat.le_of_ble_eq_true rfl), (Nat.le_of_ble_eq_true rfl)⟩ rfl ⟨(zcs_c rfl zcs_0), (Nat.le_of_ble_eq_true rfl)⟩ hL.1.1 dX2_holds_26) ?_
      rintro x8 _ _ _  ⟨rfl, hV⟩ hG
      refine z_iload_n hC rfl (hL.at 3 rfl) dX2_holds_29 ?_
      refine z_call_z hG (zrunP (ci := 3) hC hG (Nat.le_of_ble_eq_true rfl) (Nat.le_of_ble_eq_true rfl) (zobj hG rfl (Nat.le_of_ble_eq_true rfl) (Nat.le_of_ble_eq_true rfl)) (ihX2_holdsR G2 x8 p1 hp1 hV) kPX2_94_Running rfl rfl rfl ⟨Nat.le_refl _, (by show 8 + (4 + 11) + rl ≤ rl + 23; omega)⟩ ⟨(Nat.le_of_ble_eq_true rfl), (Nat.le_of_ble_eq_true rfl)⟩ rfl ⟨zcs_0, (Nat.le_of_ble_eq_true rfl)⟩ hL.1.1 dX2_holds_30) ?_
      rintro x9 G3 _ _ hx9 hV hG
      refine z_if_eq (tgt := 40) hC (inR_b hx9) hV dX2_holds_33 (by decide) ?_ ?_
      · intro hV
        refine z_iconst hC dX2_holds_40 ?_
        exact hJ41 0 G3 (Or.inl rfl) hV _ _ _ hG (hL.sub [] rfl)
      · intro hV
        exact hJ36 G3 hV _ _ _ hG (hL.sub [] rfl)
abbrev rgHoldsR (d : Nat) : Room := { frames := 4 + d, cells := 0, slots := 0, locals := 77 + 23 * d }
def vggHoldsR : Nat → (ZR → Int → ZG → (Int → ZG → Prop) → Prop)
  | 0 => fun _ _ _ _ => False
  | d + 1 => bX2_holdsR (vggHoldsR d)
def vX2_holdsR (d : Nat) (p0 : ZR) (p1 : Int) (G : ZG) (Q : Int → ZG → Prop) : Prop := (vggHoldsR d) p0 p1 G Q
theorem vX2_holdsR_s (d : Nat) (p0 : ZR) (p1 : Int) (G : ZG) (Q : Int → ZG → Prop) : vX2_holdsR (d + 1) p0 p1 G Q = bX2_holdsR (vX2_holdsR d) p0 p1 G Q := rfl
theorem ggHoldsR (l : Launch) (P : ZP) : ∀ d : Nat, (∀ (G : ZG) (p0 : ZR) (p1 : Int) (hp1 : inR p1) {Q : Int → ZG → Prop}, vX2_holdsR d p0 p1 G Q → Met l yX2_holds (ws_ yX2_holds cX2_holds 4 (some .boolean)) (rgHoldsR d) (zPc P G [.ref (zA P 1 0 0), zrv P p0, .int (zI p1)]) (zQz P Q) 0 0 (zAr P)) := by
  intro d
  induction d with
  | zero => exact fun G p0 p1 hp1 Q h => False.elim h
  | succ d ih =>
    have e : 77 + 23 * (d + 1) = 77 + 23 * d + 23 := by omega
    exact fun G p0 p1 hp1 Q h => (by
      simp only [rgHoldsR, e]
      exact sX2_holdsR l P (rf := 4 + d) (rl := 77 + 23 * d) (by omega) (by omega) (vggHoldsR d) (ih) _ p0 p1 hp1 h)
theorem mX2_holdsR (l : Launch) (P : ZP) (d : Nat) (G : ZG) (p0 : ZR) (p1 : Int) (hp1 : inR p1) {Q : Int → ZG → Prop} (hV : vX2_holdsR d p0 p1 G Q) : Met l yX2_holds (ws_ yX2_holds cX2_holds 4 (some .boolean)) (rgHoldsR d) (zPc P G [.ref (zA P 1 0 0), zrv P p0, .int (zI p1)]) (zQz P Q) 0 0 (zAr P) := (ggHoldsR l P d) G p0 p1 hp1 hV
abbrev rX1_field : Room := { frames := 1, cells := 0, slots := 0, locals := 12 }
def vX1_field (p0 : Int) (p1 : Int) (Q : Int → Prop) : Prop := Q (w32 ((w32 ((w32 (5 * p0)) + p1)) + 1))
set_option maxHeartbeats 4000000 in
theorem mX1_field (l : Launch) (P : ZP) (G : ZG) (p0 : Int) (hp0 : inR p0) (p1 : Int) (hp1 : inR p1) {Q : Int → Prop} (hV : vX1_field p0 p1 Q) : Met l yX1_field (ws_ yX1_field cX1_field 2 (some .int)) rX1_field (zPc P G [.int (zI p0), .int (zI p1)]) (zQi P (fun r G2 => G = G2 ∧ Q r)) 0 0 (zAr P) := by
  refine zMet RX1 (plainFor_of_name (by decide)) rfl (zcs_c rfl (zcs_c rfl zcs_0)) (Nat.le_of_ble_eq_true rfl) (fun p e s m args below meth c ls hC hr hk hn hG hL => ?_)
  unfold vX1_field at hV
  refine z_iconst hC dX1_field_0 ?_
  refine z_iload_n hC rfl (hL.at 0 rfl) dX1_field_1 ?_
  refine z_imul hC dX1_field_2 ?_
  refine z_iload_n hC rfl (hL.at 1 rfl) dX1_field_3 ?_
  refine z_iadd hC dX1_field_4 ?_
  refine z_iconst hC dX1_field_5 ?_
  refine z_iadd hC dX1_field_6 ?_
  exact z_iret hC hG hr hk (inR_w _) ⟨rfl, hV⟩ (Nat.le_of_ble_eq_true rfl) (Nat.le_of_ble_eq_true rfl) dX1_field_7
def bX2_matches_2R (wX2_matches_2R : ZR → Int → ZG → (Int → ZG → Prop) → Prop) (wX2_allR : ZR → Int → Int → ZG → (Int → ZG → Prop) → Prop) (p0 : ZR) (p1 : Int) (G : ZG) (Q : Int → ZG → Prop) : Prop := ziO G p0 10 fun (x1 : Int) => zbr (x1 = 0) (ziO G p0 11 fun (x2 : Int) => zbr (x2 = 0) (ziO G p0 12 fun (x3 : Int) => zbr (x3 = 0) (ziO G p0 13 fun (x4 : Int) => zbr (x4 = 0) (ziO G p0 14 fun (x5 : Int) => zbr (x5 = 0) (ziO G p0 15 fun (x6 : Int) => zbr (x6 = 0) (Q 1 G) (zca G p0 15 ∧ vX3_at p1 5 G fun (x7 : Int) (G1 : ZG) => zjn (fun (z309_0 : Int) (H309 : ZG) => Q z309_0 H309) fun J309 => zbr (x7 ≠ (-1)) (zisO G1 p0 15 ∧ vX15_fits p0 x7 G1 fun (x9 : Int) => zbr (x9 = 0) (J309 0 G1) (zisO G1 p0 15 ∧ vX15_items p0 G1 fun (x11 : ZR) => zisO G1 p0 15 ∧ vX15_beginning p0 x7 G1 fun (x13 : Int) => wX2_allR x11 p1 x13 G1 fun (x14 : Int) (G2 : ZG) => J309 x14 G2)) (J309 2 G1))) (zca G p0 14 ∧ zisO G p0 14 ∧ vX14_view p0 G fun (x16 : Int) => vX3_seen x16 p1 G fun (x17 : Int) (G3 : ZG) => zjn (fun (z250_0 : Int) (H250 : ZG) => Q z250_0 H250) fun J250 => zbr (x17 ≠ (-1)) (zisO G3 p0 14 ∧ vX14_of p0 G3 fun (x19 : ZR) => vX2_holdsR 45 x19 x17 G3 fun (x20 : Int) (G4 : ZG) => zbr (x20 = 0) (J250 0 G4) (J250 1 G4)) (J250 2 G3))) (zca G p0 13 ∧ zisO G p0 13 ∧ vX13_first p0 G fun (x22 : ZR) => wX2_matches_2R x22 p1 G fun (x23 : Int) (G5 : ZG) => zjn (fun (z198_0 : Int) (H198 : ZG) => Q z198_0 H198) fun J198 => zbr (x23 ≠ 0) (J198 x23 G5) (zisO G5 p0 13 ∧ vX13_second p0 G5 fun (x25 : ZR) => wX2_matches_2R x25 p1 G5 fun (x26 : Int) (G6 : ZG) => J198 x26 G6))) (zca G p0 12 ∧ zisO G p0 12 ∧ vX12_type p0 G fun (x28 : Int) => vX3_at p1 x28 G fun (x29 : Int) (G7 : ZG) => zjn (fun (z155_0 : Int) (H155 : ZG) => Q z155_0 H155) fun J155 => zbr (x29 ≠ (-1)) (zisO G7 p0 12 ∧ vX12_constructor p0 G7 fun (x31 : Int) => zbr (x29 ≠ x31) (J155 0 G7) (zisO G7 p0 12 ∧ vX12_fields p0 G7 fun (x33 : ZR) => wX2_allR x33 p1 0 G7 fun (x34 : Int) (G8 : ZG) => J155 x34 G8)) (J155 2 G7))) (zca G p0 11 ∧ vX3_at p1 4 G fun (x35 : Int) (G9 : ZG) => zjn (fun (z98_0 : Int) => Q z98_0 G9) fun J98 => zbr (x35 ≠ (-1)) (zisO G9 p0 11 ∧ vX11_holds p0 x35 G9 fun (x37 : Int) => zbr (x37 = 0) (J98 0) (J98 1)) (J98 2))) (zca G p0 10 ∧ zisO G p0 10 ∧ vX10_of p0 G fun (x39 : ZR) => wX2_matches_2R x39 p1 G fun (x40 : Int) (G10 : ZG) => zisO G10 p0 10 ∧ vX10_name p0 G10 fun (x42 : Int) => zjn (fun (z50_2 : Int) => zaS G10 1 0 6 x42 z50_2 fun (G11 : ZG) => Q x40 G11) fun J50 => zbr (x40 ≠ 1) (zisO G10 p0 10 ∧ vX10_name p0 G10 fun (x44 : Int) => zaL G10 1 0 6 x44 fun (x45 : Int) => J50 x45) (J50 p1))
set_option maxHeartbeats 4000000 in
theorem sX2_matches_2R (l : Launch) (P : ZP) {rf rl : Nat} (hrf : 50 ≤ rf) (hrl : 1135 ≤ rl) (wX2_matches_2R : ZR → Int → ZG → (Int → ZG → Prop) → Prop) (wX2_allR : ZR → Int → Int → ZG → (Int → ZG → Prop) → Prop) (ihX2_matches_2R : ∀ (G : ZG) (p0 : ZR) (p1 : Int) (hp1 : inR p1) {Q : Int → ZG → Prop}, wX2_matches_2R p0 p1 G Q → Met l yX2_matches_2 (ws_ yX2_matches_2 cX2_matches_2 5 (some .int)) ({ frames := rf, cells := 0, slots := 0, locals := rl } : Room) (zPc P G [.ref (zA P 1 0 0), zrv P p0, .int (zI p1)]) (zQi P Q) 0 0 (zAr P)) (ihX2_allR : ∀ (G : ZG) (p0 : ZR) (p1 : Int) (hp1 : inR p1) (p2 : Int) (hp2 : inR p2) {Q : Int → ZG → Prop}, wX2_allR p0 p1 p2 G Q → Met l yX2_all (ws_ yX2_all cX2_all 6 (some .int)) ({ frames := rf, cells := 0, slots := 0, locals := rl } : Room) (zPc P G [.ref (zA P 1 0 0), zrv P p0, .int (zI p1), .int (zI p2)]) (zQi P Q) 0 0 (zAr P)) (G : ZG) (p0 : ZR) (p1 : Int) (hp1 : inR p1) {Q : Int → ZG → Prop} (hV : bX2_matches_2R wX2_matches_2R wX2_allR p0 p1 G Q) : Met l yX2_matches_2 (ws_ yX2_matches_2 cX2_matches_2 5 (some .int)) ({ frames := rf + 1, cells := 0, slots := 0, locals := rl + 25 } : Room) (zPc P G [.ref (zA P 1 0 0), zrv P p0, .int (zI p1)]) (zQi P Q) 0 0 (zAr P) := by
  refine zMet RX2 (plainFor_of_name (by decide)) rfl (zcs_c rfl (zcs_c (zrv_cat _ _) (zcs_c rfl zcs_0))) (Nat.le_of_ble_eq_true rfl) (fun p e s m args below meth c ls hC hr hk hn hG hL => ?_)
  unfold bX2_matches_2R at hV
  refine z_aload_n hC zvr_r rfl (hL.at 1 rfl) dX2_matches_2_0 ?_
  refine z_inst hC hG (ci := 10) (by decide) q1392 hV dX2_matches_2_1 ?_
  intro x1 hx1 hV
  refine z_if_eq (tgt := 54) hC (inR_b hx1) hV dX2_matches_2_4 (by decide) ?_ ?_
  · intro hV
    refine z_aload_n hC zvr_r rfl (hL.at 1 rfl) dX2_matches_2_54 ?_
    refine z_inst hC hG (ci := 11) (by decide) q1395 hV dX2_matches_2_55 ?_
    intro x2 hx2 hV
    refine z_if_eq (tgt := 99) hC (inR_b hx2) hV dX2_matches_2_58 (by decide) ?_ ?_
    · intro hV
      refine z_aload_n hC zvr_r rfl (hL.at 1 rfl) dX2_matches_2_99 ?_
      refine z_inst hC hG (ci := 12) (by decide) q1437 hV dX2_matches_2_100 ?_
      intro x3 hx3 hV
      refine z_if_eq (tgt := 156) hC (inR_b hx3) hV dX2_matches_2_103 (by decide) ?_ ?_
      · intro hV
        refine z_aload_n hC zvr_r rfl (hL.at 1 rfl) dX2_matches_2_156 ?_
        refine z_inst hC hG (ci := 13) (by decide) q1448 hV dX2_matches_2_157 ?_
        intro x4 hx4 hV
        refine z_if_eq (tgt := 199) hC (inR_b hx4) hV dX2_matches_2_160 (by decide) ?_ ?_
        · intro hV
          refine z_aload_n hC zvr_r rfl (hL.at 1 rfl) dX2_matches_2_199 ?_
          refine z_inst hC hG (ci := 14) (by decide) q1451 hV dX2_matches_2_200 ?_
          intro x5 hx5 hV
          refine z_if_eq (tgt := 251) hC (inR_b hx5) hV dX2_matches_2_203 (by decide) ?_ ?_
          · intro hV
            refine z_aload_n hC zvr_r rfl (hL.at 1 rfl) dX2_matches_2_251 ?_
            refine z_inst hC hG (ci := 15) (by decide) q1490 hV dX2_matches_2_252 ?_
            intro x6 hx6 hV
            refine z_if_eq (tgt := 310) hC (inR_b hx6) hV dX2_matches_2_255 (by decide) ?_ ?_
            · intro hV
              refine z_iconst hC dX2_matches_2_310 ?_
              exact z_iret hC hG hr hk (inR_lit rfl) hV (Nat.le_of_ble_eq_true rfl) (Nat.le_of_ble_eq_true rfl) dX2_matches_2_311
            · intro hV
              refine z_aload_n hC zvr_r rfl (hL.at 1 rfl) dX2_matches_2_258 ?_
              refine z_cast hC hG (ci := 15) (Nat.le_of_ble_eq_true rfl) (Nat.le_of_ble_eq_true rfl) q1490 hV dX2_matches_2_259 (fun hV => ?_)
              refine z_astore_n (lv' := [(3, zrv P p0), (0, .ref (zA P 1 0 0)), (1, zrv P p0), (2, .int (zI p1))]) hC zvr_r rfl hL (by decide) rfl dX2_matches_2_262 (fun ls hL => ?_)
              refine z_aload_n hC zvr_a rfl (hL.at 1 rfl) dX2_matches_2_263 ?_
              refine z_iload_n hC rfl (hL.at 3 rfl) dX2_matches_2_264 ?_
              refine z_iconst hC dX2_matches_2_265 ?_
              refine z_call_i hG (zrunU hC hG (zrecv hC (Nat.le_of_ble_eq_true rfl) (Nat.le_of_ble_eq_true rfl) (zobj hG rfl (Nat.le_of_ble_eq_true rfl) (Nat.le_of_ble_eq_true rfl))) (mX3_at l P G p1 hp1 5 (inR_lit rfl) hV) kUX2_53_Running rfl rfl rfl ⟨(by show 14 + 1 ≤ rf + 1; omega), (by show 8 + (3 + 11) + 305 ≤ rl + 25; omega)⟩ ⟨(Nat.le_of_ble_eq_true rfl), (Nat.le_of_ble_eq_true rfl)⟩ rfl ⟨zcs_0, (Nat.le_of_ble_eq_true rfl)⟩ hL.1.1 dX2_matches_2_266) ?_
              rintro x7 G1 _ _ hx7 hV hG
              refine z_istore (lv' := [(4, .int (zI x7)), (3, zrv P p0), (0, .ref (zA P 1 0 0)), (1, zrv P p0), (2, .int (zI p1))]) hC hL (by decide) rfl dX2_matches_2_269 (fun ls hL => ?_)
              refine z_iload hC (hL.at 0 rfl) dX2_matches_2_271 ?_
              refine z_iconst hC dX2_matches_2_273 ?_
              obtain ⟨J309, eJ309, hV⟩ := zjn_abs hV
              have hJ309 : ∀ (z309_0 : Int) (H309 : ZG), inR z309_0 → J309 z309_0 H309 → ∀ (H : Heap) (locs : List Loc) (ls : Array Slot), zS P s H309 H locs → zL ls 5 [] → W p l e ({ frames := rf + 1, cells := 0, slots := 0, locals := rl + 25 } : Room) s m args below meth c H locs 0 0 (MQ below (zQi P Q) args s 0 0 (zAr P)) (F0 m 309 ls [.int (zI z309_0)]) := by
                intro z309_0 H309 hz309_0 hV H locs ls hG hL
                rw [eJ309] at hV
                exact z_iret hC hG hr hk hz309_0 hV (Nat.le_of_ble_eq_true rfl) (Nat.le_of_ble_eq_true rfl) dX2_matches_2_309
              refine z_icmp_ne (tgt := 281) hC hx7 (inR_lit rfl) hV dX2_matches_2_274 (by decide) ?_ ?_
              · intro hV
                refine z_aload_n hC zvr_r rfl (hL.at 1 rfl) dX2_matches_2_281 ?_
                refine z_iload hC (hL.at 0 rfl) dX2_matches_2_282 ?_
                obtain ⟨hO8, hV⟩ := hV
                refine z_call_z hG (zrunVD hC hG hO8 (mX15_fits l P G1 p0 x7 hx7 hV) kVX2_99 rfl rfl rfl ⟨(by show 1 + 1 ≤ rf + 1; omega), (by show 8 + (2 + 11) + 12 ≤ rl + 25; omega)⟩ ⟨(Nat.le_of_ble_eq_true rfl), (Nat.le_of_ble_eq_true rfl)⟩ rfl ⟨zcs_0, (Nat.le_of_ble_eq_true rfl)⟩ hL.1.1 dX2_matches_2_284) ?_
                rintro x9 _ _ _ hx9 ⟨rfl, hV⟩ hG
                refine z_if_eq (tgt := 308) hC (inR_b hx9) hV dX2_matches_2_287 (by decide) ?_ ?_
                · intro hV
                  refine z_iconst hC dX2_matches_2_308 ?_
                  exact hJ309 0 G1 (inR_lit rfl) hV _ _ _ hG (hL.sub [] rfl)
                · intro hV
                  refine z_aload_n hC zvr_a rfl (hL.at 2 rfl) dX2_matches_2_290 ?_
                  refine z_aload_n hC zvr_r rfl (hL.at 1 rfl) dX2_matches_2_291 ?_
                  obtain ⟨hO10, hV⟩ := hV
                  refine z_call_r hG (zrunVD hC hG hO10 (mX15_items l P G1 p0 hV) kVX2_102 rfl rfl rfl ⟨(by show 1 + 1 ≤ rf + 1; omega), (by show 8 + (1 + 11) + 12 ≤ rl + 25; omega)⟩ ⟨(Nat.le_of_ble_eq_true rfl), (Nat.le_of_ble_eq_true rfl)⟩ rfl ⟨(zcs_c rfl zcs_0), (Nat.le_of_ble_eq_true rfl)⟩ hL.1.1 dX2_matches_2_292) ?_
                  rintro x11 _ _ _  ⟨rfl, hV⟩ hG
                  refine z_iload_n hC rfl (hL.at 4 rfl) dX2_matches_2_295 ?_
                  refine z_aload_n hC zvr_r rfl (hL.at 1 rfl) dX2_matches_2_296 ?_
                  refine z_iload hC (hL.at 0 rfl) dX2_matches_2_297 ?_
                  obtain ⟨hO12, hV⟩ := hV
                  refine z_call_i hG (zrunVD hC hG hO12 (mX15_beginning l P G1 p0 x7 hx7 hV) kVX2_105 rfl rfl rfl ⟨(by show 1 + 1 ≤ rf + 1; omega), (by show 8 + (2 + 11) + 12 ≤ rl + 25; omega)⟩ ⟨(Nat.le_of_ble_eq_true rfl), (Nat.le_of_ble_eq_true rfl)⟩ rfl ⟨(zcs_c rfl (zcs_c (zrv_cat _ _) (zcs_c rfl zcs_0))), (Nat.le_of_ble_eq_true rfl)⟩ hL.1.1 dX2_matches_2_299) ?_
                  rintro x13 _ _ _ hx13 ⟨rfl, hV⟩ hG
                  refine z_call_i hG (zrunP (ci := 3) hC hG (Nat.le_of_ble_eq_true rfl) (Nat.le_of_ble_eq_true rfl) (zobj hG rfl (Nat.le_of_ble_eq_true rfl) (Nat.le_of_ble_eq_true rfl)) (ihX2_allR G1 x11 p1 hp1 x13 hx13 hV) kPX2_73_Running rfl rfl rfl ⟨Nat.le_refl _, (by show 8 + (6 + 11) + rl ≤ rl + 25; omega)⟩ ⟨(Nat.le_of_ble_eq_true rfl), (Nat.le_of_ble_eq_true rfl)⟩ rfl ⟨zcs_0, (Nat.le_of_ble_eq_true rfl)⟩ hL.1.1 dX2_matches_2_302) ?_
                  rintro x14 G2 _ _ hx14 hV hG
                  refine z_goto (tgt := 309) hC dX2_matches_2_305 (by decide) ?_
                  exact hJ309 x14 G2 hx14 hV _ _ _ hG (hL.sub [] rfl)
              · intro hV
                refine z_iconst hC dX2_matches_2_277 ?_
                refine z_goto (tgt := 309) hC dX2_matches_2_278 (by decide) ?_
                exact hJ309 2 G1 (inR_lit rfl) hV _ _ _ hG (hL.sub [] rfl)
          · intro hV
            refine z_aload_n hC zvr_r rfl (hL.at 1 rfl) dX2_matches_2_206 ?_
            refine z_cast hC hG (ci := 14) (Nat.le_of_ble_eq_true rfl) (Nat.le_of_ble_eq_true rfl) q1451 hV dX2_matches_2_207 (fun hV => ?_)
            refine z_astore_n (lv' := [(3, zrv P p0), (0, .ref (zA P 1 0 0)), (1, zrv P p0), (2, .int (zI p1))]) hC zvr_r rfl hL (by decide) rfl dX2_matches_2_210 (fun ls hL => ?_)
            refine z_aload_n hC zvr_a rfl (hL.at 1 rfl) dX2_matches_2_211 ?_
            refine z_aload_n hC zvr_r rfl (hL.at 0 rfl) dX2_matches_2_212 ?_
            obtain ⟨hO15, hV⟩ := hV
            refine z_call_i hG (zrunVD hC hG hO15 (mX14_view l P G p0 hV) kVX2_87 rfl rfl rfl ⟨(by show 1 + 1 ≤ rf + 1; omega), (by show 8 + (1 + 11) + 12 ≤ rl + 25; omega)⟩ ⟨(Nat.le_of_ble_eq_true rfl), (Nat.le_of_ble_eq_true rfl)⟩ rfl ⟨(zcs_c rfl zcs_0), (Nat.le_of_ble_eq_true rfl)⟩ hL.1.1 dX2_matches_2_213) ?_
            rintro x16 _ _ _ hx16 ⟨rfl, hV⟩ hG
            refine z_iload_n hC rfl (hL.at 3 rfl) dX2_matches_2_216 ?_
            refine z_call_i hG (zrunU hC hG (zrecv hC (Nat.le_of_ble_eq_true rfl) (Nat.le_of_ble_eq_true rfl) (zobj hG rfl (Nat.le_of_ble_eq_true rfl) (Nat.le_of_ble_eq_true rfl))) (mX3_seen l P G x16 hx16 p1 hp1 hV) kUX2_90_Running rfl rfl rfl ⟨(by show 14 + 1 ≤ rf + 1; omega), (by show 8 + (4 + 11) + 305 ≤ rl + 25; omega)⟩ ⟨(Nat.le_of_ble_eq_true rfl), (Nat.le_of_ble_eq_true rfl)⟩ rfl ⟨zcs_0, (Nat.le_of_ble_eq_true rfl)⟩ hL.1.1 dX2_matches_2_217) ?_
            rintro x17 G3 _ _ hx17 hV hG
            refine z_istore (lv' := [(4, .int (zI x17)), (3, zrv P p0), (0, .ref (zA P 1 0 0)), (1, zrv P p0), (2, .int (zI p1))]) hC hL (by decide) rfl dX2_matches_2_220 (fun ls hL => ?_)
            refine z_iload hC (hL.at 0 rfl) dX2_matches_2_222 ?_
            refine z_iconst hC dX2_matches_2_224 ?_
            obtain ⟨J250, eJ250, hV⟩ := zjn_abs hV
            have hJ250 : ∀ (z250_0 : Int) (H250 : ZG), inR z250_0 → J250 z250_0 H250 → ∀ (H : Heap) (locs : List Loc) (ls : Array Slot), zS P s H250 H locs → zL ls 5 [] → W p l e ({ frames := rf + 1, cells := 0, slots := 0, locals := rl + 25 } : Room) s m args below meth c H locs 0 0 (MQ below (zQi P Q) args s 0 0 (zAr P)) (F0 m 250 ls [.int (zI z250_0)]) := by
              intro z250_0 H250 hz250_0 hV H locs ls hG hL
              rw [eJ250] at hV
              exact z_iret hC hG hr hk hz250_0 hV (Nat.le_of_ble_eq_true rfl) (Nat.le_of_ble_eq_true rfl) dX2_matches_2_250
            refine z_icmp_ne (tgt := 232) hC hx17 (inR_lit rfl) hV dX2_matches_2_225 (by decide) ?_ ?_
            · intro hV
              refine z_aload_n hC zvr_a rfl (hL.at 2 rfl) dX2_matches_2_232 ?_
              refine z_aload_n hC zvr_r rfl (hL.at 1 rfl) dX2_matches_2_233 ?_
              obtain ⟨hO18, hV⟩ := hV
              refine z_call_r hG (zrunVD hC hG hO18 (mX14_of l P G3 p0 hV) kVX2_93 rfl rfl rfl ⟨(by show 1 + 1 ≤ rf + 1; omega), (by show 8 + (1 + 11) + 12 ≤ rl + 25; omega)⟩ ⟨(Nat.le_of_ble_eq_true rfl), (Nat.le_of_ble_eq_true rfl)⟩ rfl ⟨(zcs_c rfl zcs_0), (Nat.le_of_ble_eq_true rfl)⟩ hL.1.1 dX2_matches_2_234) ?_
              rintro x19 _ _ _  ⟨rfl, hV⟩ hG
              refine z_iload hC (hL.at 0 rfl) dX2_matches_2_237 ?_
              refine z_call_z hG (zrunP (ci := 3) hC hG (Nat.le_of_ble_eq_true rfl) (Nat.le_of_ble_eq_true rfl) (zobj hG rfl (Nat.le_of_ble_eq_true rfl) (Nat.le_of_ble_eq_true rfl)) (mX2_holdsR l P 45 G3 x19 x17 hx17 hV) kPX2_94_Running rfl rfl rfl ⟨(by show 49 + 1 ≤ rf + 1; omega), (by show 8 + (4 + 11) + 1112 ≤ rl + 25; omega)⟩ ⟨(Nat.le_of_ble_eq_true rfl), (Nat.le_of_ble_eq_true rfl)⟩ rfl ⟨zcs_0, (Nat.le_of_ble_eq_true rfl)⟩ hL.1.1 dX2_matches_2_239) ?_
              rintro x20 G4 _ _ hx20 hV hG
              refine z_if_eq (tgt := 249) hC (inR_b hx20) hV dX2_matches_2_242 (by decide) ?_ ?_
              · intro hV
                refine z_iconst hC dX2_matches_2_249 ?_
                exact hJ250 0 G4 (inR_lit rfl) hV _ _ _ hG (hL.sub [] rfl)
              · intro hV
                refine z_iconst hC dX2_matches_2_245 ?_
                refine z_goto (tgt := 250) hC dX2_matches_2_246 (by decide) ?_
                exact hJ250 1 G4 (inR_lit rfl) hV _ _ _ hG (hL.sub [] rfl)
            · intro hV
              refine z_iconst hC dX2_matches_2_228 ?_
              refine z_goto (tgt := 250) hC dX2_matches_2_229 (by decide) ?_
              exact hJ250 2 G3 (inR_lit rfl) hV _ _ _ hG (hL.sub [] rfl)
        · intro hV
          refine z_aload_n hC zvr_r rfl (hL.at 1 rfl) dX2_matches_2_163 ?_
          refine z_cast hC hG (ci := 13) (Nat.le_of_ble_eq_true rfl) (Nat.le_of_ble_eq_true rfl) q1448 hV dX2_matches_2_164 (fun hV => ?_)
          refine z_astore_n (lv' := [(3, zrv P p0), (0, .ref (zA P 1 0 0)), (1, zrv P p0), (2, .int (zI p1))]) hC zvr_r rfl hL (by decide) rfl dX2_matches_2_167 (fun ls hL => ?_)
          refine z_aload_n hC zvr_a rfl (hL.at 1 rfl) dX2_matches_2_168 ?_
          refine z_aload_n hC zvr_r rfl (hL.at 0 rfl) dX2_matches_2_169 ?_
          obtain ⟨hO21, hV⟩ := hV
          refine z_call_r hG (zrunVD hC hG hO21 (mX13_first l P G p0 hV) kVX2_79 rfl rfl rfl ⟨(by show 1 + 1 ≤ rf + 1; omega), (by show 8 + (1 + 11) + 12 ≤ rl + 25; omega)⟩ ⟨(Nat.le_of_ble_eq_true rfl), (Nat.le_of_ble_eq_true rfl)⟩ rfl ⟨(zcs_c rfl zcs_0), (Nat.le_of_ble_eq_true rfl)⟩ hL.1.1 dX2_matches_2_170) ?_
          rintro x22 _ _ _  ⟨rfl, hV⟩ hG
          refine z_iload_n hC rfl (hL.at 3 rfl) dX2_matches_2_173 ?_
          refine z_call_i hG (zrunP (ci := 3) hC hG (Nat.le_of_ble_eq_true rfl) (Nat.le_of_ble_eq_true rfl) (zobj hG rfl (Nat.le_of_ble_eq_true rfl) (Nat.le_of_ble_eq_true rfl)) (ihX2_matches_2R G x22 p1 hp1 hV) kPX2_38_Running rfl rfl rfl ⟨Nat.le_refl _, (by show 8 + (5 + 11) + rl ≤ rl + 25; omega)⟩ ⟨(Nat.le_of_ble_eq_true rfl), (Nat.le_of_ble_eq_true rfl)⟩ rfl ⟨zcs_0, (Nat.le_of_ble_eq_true rfl)⟩ hL.1.1 dX2_matches_2_174) ?_
          rintro x23 G5 _ _ hx23 hV hG
          refine z_istore (lv' := [(4, .int (zI x23)), (3, zrv P p0), (0, .ref (zA P 1 0 0)), (1, zrv P p0), (2, .int (zI p1))]) hC hL (by decide) rfl dX2_matches_2_177 (fun ls hL => ?_)
          refine z_iload hC (hL.at 0 rfl) dX2_matches_2_179 ?_
          obtain ⟨J198, eJ198, hV⟩ := zjn_abs hV
          have hJ198 : ∀ (z198_0 : Int) (H198 : ZG), inR z198_0 → J198 z198_0 H198 → ∀ (H : Heap) (locs : List Loc) (ls : Array Slot), zS P s H198 H locs → zL ls 5 [] → W p l e ({ frames := rf + 1, cells := 0, slots := 0, locals := rl + 25 } : Room) s m args below meth c H locs 0 0 (MQ below (zQi P Q) args s 0 0 (zAr P)) (F0 m 198 ls [.int (zI z198_0)]) := by
            intro z198_0 H198 hz198_0 hV H locs ls hG hL
            rw [eJ198] at hV
            exact z_iret hC hG hr hk hz198_0 hV (Nat.le_of_ble_eq_true rfl) (Nat.le_of_ble_eq_true rfl) dX2_matches_2_198
          refine z_if_ne (tgt := 196) hC hx23 hV dX2_matches_2_181 (by decide) ?_ ?_
          · intro hV
            refine z_iload hC (hL.at 0 rfl) dX2_matches_2_196 ?_
            exact hJ198 x23 G5 hx23 hV _ _ _ hG (hL.sub [] rfl)
          · intro hV
            refine z_aload_n hC zvr_a rfl (hL.at 2 rfl) dX2_matches_2_184 ?_
            refine z_aload_n hC zvr_r rfl (hL.at 1 rfl) dX2_matches_2_185 ?_
            obtain ⟨hO24, hV⟩ := hV
            refine z_call_r hG (zrunVD hC hG hO24 (mX13_second l P G5 p0 hV) kVX2_82 rfl rfl rfl ⟨(by show 1 + 1 ≤ rf + 1; omega), (by show 8 + (1 + 11) + 12 ≤ rl + 25; omega)⟩ ⟨(Nat.le_of_ble_eq_true rfl), (Nat.le_of_ble_eq_true rfl)⟩ rfl ⟨(zcs_c rfl zcs_0), (Nat.le_of_ble_eq_true rfl)⟩ hL.1.1 dX2_matches_2_186) ?_
            rintro x25 _ _ _  ⟨rfl, hV⟩ hG
            refine z_iload_n hC rfl (hL.at 4 rfl) dX2_matches_2_189 ?_
            refine z_call_i hG (zrunP (ci := 3) hC hG (Nat.le_of_ble_eq_true rfl) (Nat.le_of_ble_eq_true rfl) (zobj hG rfl (Nat.le_of_ble_eq_true rfl) (Nat.le_of_ble_eq_true rfl)) (ihX2_matches_2R G5 x25 p1 hp1 hV) kPX2_38_Running rfl rfl rfl ⟨Nat.le_refl _, (by show 8 + (5 + 11) + rl ≤ rl + 25; omega)⟩ ⟨(Nat.le_of_ble_eq_true rfl), (Nat.le_of_ble_eq_true rfl)⟩ rfl ⟨zcs_0, (Nat.le_of_ble_eq_true rfl)⟩ hL.1.1 dX2_matches_2_190) ?_
            rintro x26 G6 _ _ hx26 hV hG
            refine z_goto (tgt := 198) hC dX2_matches_2_193 (by decide) ?_
            exact hJ198 x26 G6 hx26 hV _ _ _ hG (hL.sub [] rfl)
      · intro hV
        refine z_aload_n hC zvr_r rfl (hL.at 1 rfl) dX2_matches_2_106 ?_
        refine z_cast hC hG (ci := 12) (Nat.le_of_ble_eq_true rfl) (Nat.le_of_ble_eq_true rfl) q1437 hV dX2_matches_2_107 (fun hV => ?_)
        refine z_astore_n (lv' := [(3, zrv P p0), (0, .ref (zA P 1 0 0)), (1, zrv P p0), (2, .int (zI p1))]) hC zvr_r rfl hL (by decide) rfl dX2_matches_2_110 (fun ls hL => ?_)
        refine z_aload_n hC zvr_a rfl (hL.at 1 rfl) dX2_matches_2_111 ?_
        refine z_iload_n hC rfl (hL.at 3 rfl) dX2_matches_2_112 ?_
        refine z_aload_n hC zvr_r rfl (hL.at 0 rfl) dX2_matches_2_113 ?_
        obtain ⟨hO27, hV⟩ := hV
        refine z_call_i hG (zrunVD hC hG hO27 (mX12_type l P G p0 hV) kVX2_63 rfl rfl rfl ⟨(by show 1 + 1 ≤ rf + 1; omega), (by show 8 + (1 + 11) + 12 ≤ rl + 25; omega)⟩ ⟨(Nat.le_of_ble_eq_true rfl), (Nat.le_of_ble_eq_true rfl)⟩ rfl ⟨(zcs_c rfl (zcs_c rfl zcs_0)), (Nat.le_of_ble_eq_true rfl)⟩ hL.1.1 dX2_matches_2_114) ?_
        rintro x28 _ _ _ hx28 ⟨rfl, hV⟩ hG
        refine z_call_i hG (zrunU hC hG (zrecv hC (Nat.le_of_ble_eq_true rfl) (Nat.le_of_ble_eq_true rfl) (zobj hG rfl (Nat.le_of_ble_eq_true rfl) (Nat.le_of_ble_eq_true rfl))) (mX3_at l P G p1 hp1 x28 hx28 hV) kUX2_53_Running rfl rfl rfl ⟨(by show 14 + 1 ≤ rf + 1; omega), (by show 8 + (3 + 11) + 305 ≤ rl + 25; omega)⟩ ⟨(Nat.le_of_ble_eq_true rfl), (Nat.le_of_ble_eq_true rfl)⟩ rfl ⟨zcs_0, (Nat.le_of_ble_eq_true rfl)⟩ hL.1.1 dX2_matches_2_117) ?_
        rintro x29 G7 _ _ hx29 hV hG
        refine z_istore (lv' := [(4, .int (zI x29)), (3, zrv P p0), (0, .ref (zA P 1 0 0)), (1, zrv P p0), (2, .int (zI p1))]) hC hL (by decide) rfl dX2_matches_2_120 (fun ls hL => ?_)
        refine z_iload hC (hL.at 0 rfl) dX2_matches_2_122 ?_
        refine z_iconst hC dX2_matches_2_124 ?_
        obtain ⟨J155, eJ155, hV⟩ := zjn_abs hV
        have hJ155 : ∀ (z155_0 : Int) (H155 : ZG), inR z155_0 → J155 z155_0 H155 → ∀ (H : Heap) (locs : List Loc) (ls : Array Slot), zS P s H155 H locs → zL ls 5 [] → W p l e ({ frames := rf + 1, cells := 0, slots := 0, locals := rl + 25 } : Room) s m args below meth c H locs 0 0 (MQ below (zQi P Q) args s 0 0 (zAr P)) (F0 m 155 ls [.int (zI z155_0)]) := by
          intro z155_0 H155 hz155_0 hV H locs ls hG hL
          rw [eJ155] at hV
          exact z_iret hC hG hr hk hz155_0 hV (Nat.le_of_ble_eq_true rfl) (Nat.le_of_ble_eq_true rfl) dX2_matches_2_155
        refine z_icmp_ne (tgt := 132) hC hx29 (inR_lit rfl) hV dX2_matches_2_125 (by decide) ?_ ?_
        · intro hV
          refine z_iload hC (hL.at 0 rfl) dX2_matches_2_132 ?_
          refine z_aload_n hC zvr_r rfl (hL.at 1 rfl) dX2_matches_2_134 ?_
          obtain ⟨hO30, hV⟩ := hV
          refine z_call_i hG (zrunVD hC hG hO30 (mX12_constructor l P G7 p0 hV) kVX2_66 rfl rfl rfl ⟨(by show 1 + 1 ≤ rf + 1; omega), (by show 8 + (1 + 11) + 12 ≤ rl + 25; omega)⟩ ⟨(Nat.le_of_ble_eq_true rfl), (Nat.le_of_ble_eq_true rfl)⟩ rfl ⟨(zcs_c rfl zcs_0), (Nat.le_of_ble_eq_true rfl)⟩ hL.1.1 dX2_matches_2_135) ?_
          rintro x31 _ _ _ hx31 ⟨rfl, hV⟩ hG
          refine z_icmp_ne (tgt := 154) hC hx29 hx31 hV dX2_matches_2_138 (by decide) ?_ ?_
          · intro hV
            refine z_iconst hC dX2_matches_2_154 ?_
            exact hJ155 0 G7 (inR_lit rfl) hV _ _ _ hG (hL.sub [] rfl)
          · intro hV
            refine z_aload_n hC zvr_a rfl (hL.at 2 rfl) dX2_matches_2_141 ?_
            refine z_aload_n hC zvr_r rfl (hL.at 1 rfl) dX2_matches_2_142 ?_
            obtain ⟨hO32, hV⟩ := hV
            refine z_call_r hG (zrunVD hC hG hO32 (mX12_fields l P G7 p0 hV) kVX2_69 rfl rfl rfl ⟨(by show 1 + 1 ≤ rf + 1; omega), (by show 8 + (1 + 11) + 12 ≤ rl + 25; omega)⟩ ⟨(Nat.le_of_ble_eq_true rfl), (Nat.le_of_ble_eq_true rfl)⟩ rfl ⟨(zcs_c rfl zcs_0), (Nat.le_of_ble_eq_true rfl)⟩ hL.1.1 dX2_matches_2_143) ?_
            rintro x33 _ _ _  ⟨rfl, hV⟩ hG
            refine z_iload_n hC rfl (hL.at 4 rfl) dX2_matches_2_146 ?_
            refine z_iconst hC dX2_matches_2_147 ?_
            refine z_call_i hG (zrunP (ci := 3) hC hG (Nat.le_of_ble_eq_true rfl) (Nat.le_of_ble_eq_true rfl) (zobj hG rfl (Nat.le_of_ble_eq_true rfl) (Nat.le_of_ble_eq_true rfl)) (ihX2_allR G7 x33 p1 hp1 0 (inR_lit rfl) hV) kPX2_73_Running rfl rfl rfl ⟨Nat.le_refl _, (by show 8 + (6 + 11) + rl ≤ rl + 25; omega)⟩ ⟨(Nat.le_of_ble_eq_true rfl), (Nat.le_of_ble_eq_true rfl)⟩ rfl ⟨zcs_0, (Nat.le_of_ble_eq_true rfl)⟩ hL.1.1 dX2_matches_2_148) ?_
            rintro x34 G8 _ _ hx34 hV hG
            refine z_goto (tgt := 155) hC dX2_matches_2_151 (by decide) ?_
            exact hJ155 x34 G8 hx34 hV _ _ _ hG (hL.sub [] rfl)
        · intro hV
          refine z_iconst hC dX2_matches_2_128 ?_
          refine z_goto (tgt := 155) hC dX2_matches_2_129 (by decide) ?_
          exact hJ155 2 G7 (inR_lit rfl) hV _ _ _ hG (hL.sub [] rfl)
    · intro hV
      refine z_aload_n hC zvr_r rfl (hL.at 1 rfl) dX2_matches_2_61 ?_
      refine z_cast hC hG (ci := 11) (Nat.le_of_ble_eq_true rfl) (Nat.le_of_ble_eq_true rfl) q1395 hV dX2_matches_2_62 (fun hV => ?_)
      refine z_astore_n (lv' := [(3, zrv P p0), (0, .ref (zA P 1 0 0)), (1, zrv P p0), (2, .int (zI p1))]) hC zvr_r rfl hL (by decide) rfl dX2_matches_2_65 (fun ls hL => ?_)
      refine z_aload_n hC zvr_a rfl (hL.at 1 rfl) dX2_matches_2_66 ?_
      refine z_iload_n hC rfl (hL.at 3 rfl) dX2_matches_2_67 ?_
      refine z_iconst hC dX2_matches_2_68 ?_
      refine z_call_i hG (zrunU hC hG (zrecv hC (Nat.le_of_ble_eq_true rfl) (Nat.le_of_ble_eq_true rfl) (zobj hG rfl (Nat.le_of_ble_eq_true rfl) (Nat.le_of_ble_eq_true rfl))) (mX3_at l P G p1 hp1 4 (inR_lit rfl) hV) kUX2_53_Running rfl rfl rfl ⟨(by show 14 + 1 ≤ rf + 1; omega), (by show 8 + (3 + 11) + 305 ≤ rl + 25; omega)⟩ ⟨(Nat.le_of_ble_eq_true rfl), (Nat.le_of_ble_eq_true rfl)⟩ rfl ⟨zcs_0, (Nat.le_of_ble_eq_true rfl)⟩ hL.1.1 dX2_matches_2_69) ?_
      rintro x35 G9 _ _ hx35 hV hG
      refine z_istore (lv' := [(4, .int (zI x35)), (3, zrv P p0), (0, .ref (zA P 1 0 0)), (1, zrv P p0), (2, .int (zI p1))]) hC hL (by decide) rfl dX2_matches_2_72 (fun ls hL => ?_)
      refine z_iload hC (hL.at 0 rfl) dX2_matches_2_74 ?_
      refine z_iconst hC dX2_matches_2_76 ?_
      obtain ⟨J98, eJ98, hV⟩ := zjn_abs hV
      have hJ98 : ∀ {H : Heap} {locs : List Loc}, zS P s G9 H locs → ∀ (z98_0 : Int), inR z98_0 → J98 z98_0 → ∀ (ls : Array Slot), zL ls 5 [] → W p l e ({ frames := rf + 1, cells := 0, slots := 0, locals := rl + 25 } : Room) s m args below meth c H locs 0 0 (MQ below (zQi P Q) args s 0 0 (zAr P)) (F0 m 98 ls [.int (zI z98_0)]) := by
        intro H locs hG z98_0 hz98_0 hV ls hL
        rw [eJ98] at hV
        exact z_iret hC hG hr hk hz98_0 hV (Nat.le_of_ble_eq_true rfl) (Nat.le_of_ble_eq_true rfl) dX2_matches_2_98
      refine z_icmp_ne (tgt := 84) hC hx35 (inR_lit rfl) hV dX2_matches_2_77 (by decide) ?_ ?_
      · intro hV
        refine z_aload_n hC zvr_r rfl (hL.at 1 rfl) dX2_matches_2_84 ?_
        refine z_iload hC (hL.at 0 rfl) dX2_matches_2_85 ?_
        obtain ⟨hO36, hV⟩ := hV
        refine z_call_z hG (zrunVD hC hG hO36 (mX11_holds l P G9 p0 x35 hx35 hV) kVX2_57 rfl rfl rfl ⟨(by show 2 + 1 ≤ rf + 1; omega), (by show 8 + (2 + 11) + 34 ≤ rl + 25; omega)⟩ ⟨(Nat.le_of_ble_eq_true rfl), (Nat.le_of_ble_eq_true rfl)⟩ rfl ⟨zcs_0, (Nat.le_of_ble_eq_true rfl)⟩ hL.1.1 dX2_matches_2_87) ?_
        rintro x37 _ _ _ hx37 ⟨rfl, hV⟩ hG
        refine z_if_eq (tgt := 97) hC (inR_b hx37) hV dX2_matches_2_90 (by decide) ?_ ?_
        · intro hV
          refine z_iconst hC dX2_matches_2_97 ?_
          exact hJ98 hG 0 (inR_lit rfl) hV _ (hL.sub [] rfl)
        · intro hV
          refine z_iconst hC dX2_matches_2_93 ?_
          refine z_goto (tgt := 98) hC dX2_matches_2_94 (by decide) ?_
          exact hJ98 hG 1 (inR_lit rfl) hV _ (hL.sub [] rfl)
      · intro hV
        refine z_iconst hC dX2_matches_2_80 ?_
        refine z_goto (tgt := 98) hC dX2_matches_2_81 (by decide) ?_
        exact hJ98 hG 2 (inR_lit rfl) hV _ (hL.sub [] rfl)
  · intro hV
    refine z_aload_n hC zvr_r rfl (hL.at 1 rfl) dX2_matches_2_7 ?_
    refine z_cast hC hG (ci := 10) (Nat.le_of_ble_eq_true rfl) (Nat.le_of_ble_eq_true rfl) q1392 hV dX2_matches_2_8 (fun hV => ?_)
    refine z_astore_n (lv' := [(3, zrv P p0), (0, .ref (zA P 1 0 0)), (1, zrv P p0), (2, .int (zI p1))]) hC zvr_r rfl hL (by decide) rfl dX2_matches_2_11 (fun ls hL => ?_)
    refine z_aload_n hC zvr_a rfl (hL.at 1 rfl) dX2_matches_2_12 ?_
    refine z_aload_n hC zvr_r rfl (hL.at 0 rfl) dX2_matches_2_13 ?_
    obtain ⟨hO38, hV⟩ := hV
    refine z_call_r hG (zrunVD hC hG hO38 (mX10_of l P G p0 hV) kVX2_44 rfl rfl rfl ⟨(by show 1 + 1 ≤ rf + 1; omega), (by show 8 + (1 + 11) + 12 ≤ rl + 25; omega)⟩ ⟨(Nat.le_of_ble_eq_true rfl), (Nat.le_of_ble_eq_true rfl)⟩ rfl ⟨(zcs_c rfl zcs_0), (Nat.le_of_ble_eq_true rfl)⟩ hL.1.1 dX2_matches_2_14) ?_
    rintro x39 _ _ _  ⟨rfl, hV⟩ hG
    refine z_iload_n hC rfl (hL.at 3 rfl) dX2_matches_2_17 ?_
    refine z_call_i hG (zrunP (ci := 3) hC hG (Nat.le_of_ble_eq_true rfl) (Nat.le_of_ble_eq_true rfl) (zobj hG rfl (Nat.le_of_ble_eq_true rfl) (Nat.le_of_ble_eq_true rfl)) (ihX2_matches_2R G x39 p1 hp1 hV) kPX2_38_Running rfl rfl rfl ⟨Nat.le_refl _, (by show 8 + (5 + 11) + rl ≤ rl + 25; omega)⟩ ⟨(Nat.le_of_ble_eq_true rfl), (Nat.le_of_ble_eq_true rfl)⟩ rfl ⟨zcs_0, (Nat.le_of_ble_eq_true rfl)⟩ hL.1.1 dX2_matches_2_18) ?_
    rintro x40 G10 _ _ hx40 hV hG
    refine z_istore (lv' := [(4, .int (zI x40)), (3, zrv P p0), (0, .ref (zA P 1 0 0)), (1, zrv P p0), (2, .int (zI p1))]) hC hL (by decide) rfl dX2_matches_2_21 (fun ls hL => ?_)
    refine z_aload_n hC zvr_a rfl (hL.at 2 rfl) dX2_matches_2_23 ?_
    refine z_getA hC hG kFX2_15_3 rfl rfl dX2_matches_2_24 ?_
    refine z_aload_n hC zvr_r rfl (hL.at 1 rfl) dX2_matches_2_27 ?_
    obtain ⟨hO41, hV⟩ := hV
    refine z_call_i hG (zrunVD hC hG hO41 (mX10_name l P G10 p0 hV) kVX2_47 rfl rfl rfl ⟨(by show 1 + 1 ≤ rf + 1; omega), (by show 8 + (1 + 11) + 12 ≤ rl + 25; omega)⟩ ⟨(Nat.le_of_ble_eq_true rfl), (Nat.le_of_ble_eq_true rfl)⟩ rfl ⟨(zcs_c rfl zcs_0), (Nat.le_of_ble_eq_true rfl)⟩ hL.1.1 dX2_matches_2_28) ?_
    rintro x42 _ _ _ hx42 ⟨rfl, hV⟩ hG
    refine z_iload hC (hL.at 0 rfl) dX2_matches_2_31 ?_
    refine z_iconst hC dX2_matches_2_33 ?_
    obtain ⟨J50, eJ50, hV⟩ := zjn_abs hV
    have hJ50 : ∀ {H : Heap} {locs : List Loc}, zS P s G10 H locs → ∀ (z50_2 : Int), inR z50_2 → J50 z50_2 → ∀ (ls : Array Slot), zL ls 5 [(4, .int (zI x40))] → W p l e ({ frames := rf + 1, cells := 0, slots := 0, locals := rl + 25 } : Room) s m args below meth c H locs 0 0 (MQ below (zQi P Q) args s 0 0 (zAr P)) (F0 m 50 ls [.int (zI z50_2), .int (zI x42), .ref (zA P 1 1 0)]) := by
      intro H locs hG z50_2 hz50_2 hV ls hL
      rw [eJ50] at hV
      refine z_iast hC hG rfl (Nat.le_of_ble_eq_true rfl) (Nat.le_of_ble_eq_true rfl) rfl rfl rfl hx42 hz50_2 hV dX2_matches_2_50 ?_
      intro G11 _ _ hG hV
      refine z_iload hC (hL.at 0 rfl) dX2_matches_2_51 ?_
      exact z_iret hC hG hr hk hx40 hV (Nat.le_of_ble_eq_true rfl) (Nat.le_of_ble_eq_true rfl) dX2_matches_2_53
    refine z_icmp_ne (tgt := 41) hC hx40 (inR_lit rfl) hV dX2_matches_2_34 (by decide) ?_ ?_
    · intro hV
      refine z_aload_n hC zvr_a rfl (hL.at 2 rfl) dX2_matches_2_41 ?_
      refine z_getA hC hG kFX2_15_3 rfl rfl dX2_matches_2_42 ?_
      refine z_aload_n hC zvr_r rfl (hL.at 1 rfl) dX2_matches_2_45 ?_
      obtain ⟨hO43, hV⟩ := hV
      refine z_call_i hG (zrunVD hC hG hO43 (mX10_name l P G10 p0 hV) kVX2_47 rfl rfl rfl ⟨(by show 1 + 1 ≤ rf + 1; omega), (by show 8 + (1 + 11) + 12 ≤ rl + 25; omega)⟩ ⟨(Nat.le_of_ble_eq_true rfl), (Nat.le_of_ble_eq_true rfl)⟩ rfl ⟨(zcs_c rfl (zcs_c rfl (zcs_c rfl zcs_0))), (Nat.le_of_ble_eq_true rfl)⟩ hL.1.1 dX2_matches_2_46) ?_
      rintro x44 _ _ _ hx44 ⟨rfl, hV⟩ hG
      refine z_iald hC hG rfl rfl rfl hx44 hV dX2_matches_2_49 ?_
      intro x45 hx45 hV
      exact hJ50 hG x45 hx45 hV _ (hL.sub [0] rfl)
    · intro hV
      refine z_iload_n hC rfl (hL.at 4 rfl) dX2_matches_2_37 ?_
      refine z_goto (tgt := 50) hC dX2_matches_2_38 (by decide) ?_
      exact hJ50 hG p1 hp1 hV _ (hL.sub [0] rfl)
def bX2_allR (wX2_matches_2R : ZR → Int → ZG → (Int → ZG → Prop) → Prop) (wX2_allR : ZR → Int → Int → ZG → (Int → ZG → Prop) → Prop) (p0 : ZR) (p1 : Int) (p2 : Int) (G : ZG) (Q : Int → ZG → Prop) : Prop := zl3 (fun (P6 : Int → Int → ZG → Prop) (a6_4 : Int) (a6_5 : Int) (K6 : ZG) => zeN K6 p0 fun (x1 : Int) => zjn (fun (_ : Unit) => Q a6_4 K6) fun J43 => zbr (x1 ≤ a6_5) (J43 ()) (zbr (a6_4 ≠ 1) (J43 ()) (zeR K6 p0 a6_5 fun (x2 : ZR) => vX1_field p1 (w32 (p2 + a6_5)) fun (x3 : Int) => wX2_matches_2R x2 x3 K6 fun (x4 : Int) (G1 : ZG) => zlt1 (w32 (a6_5 + 1)) fun (x5 : Int) => P6 x4 x5 G1))) 1 0 G
set_option maxHeartbeats 4000000 in
theorem sX2_allR (l : Launch) (P : ZP) {rf rl : Nat} (hrf : 50 ≤ rf) (hrl : 1135 ≤ rl) (wX2_matches_2R : ZR → Int → ZG → (Int → ZG → Prop) → Prop) (wX2_allR : ZR → Int → Int → ZG → (Int → ZG → Prop) → Prop) (ihX2_matches_2R : ∀ (G : ZG) (p0 : ZR) (p1 : Int) (hp1 : inR p1) {Q : Int → ZG → Prop}, wX2_matches_2R p0 p1 G Q → Met l yX2_matches_2 (ws_ yX2_matches_2 cX2_matches_2 5 (some .int)) ({ frames := rf, cells := 0, slots := 0, locals := rl } : Room) (zPc P G [.ref (zA P 1 0 0), zrv P p0, .int (zI p1)]) (zQi P Q) 0 0 (zAr P)) (ihX2_allR : ∀ (G : ZG) (p0 : ZR) (p1 : Int) (hp1 : inR p1) (p2 : Int) (hp2 : inR p2) {Q : Int → ZG → Prop}, wX2_allR p0 p1 p2 G Q → Met l yX2_all (ws_ yX2_all cX2_all 6 (some .int)) ({ frames := rf, cells := 0, slots := 0, locals := rl } : Room) (zPc P G [.ref (zA P 1 0 0), zrv P p0, .int (zI p1), .int (zI p2)]) (zQi P Q) 0 0 (zAr P)) (G : ZG) (p0 : ZR) (p1 : Int) (hp1 : inR p1) (p2 : Int) (hp2 : inR p2) {Q : Int → ZG → Prop} (hV : bX2_allR wX2_matches_2R wX2_allR p0 p1 p2 G Q) : Met l yX2_all (ws_ yX2_all cX2_all 6 (some .int)) ({ frames := rf + 1, cells := 0, slots := 0, locals := rl + 25 } : Room) (zPc P G [.ref (zA P 1 0 0), zrv P p0, .int (zI p1), .int (zI p2)]) (zQi P Q) 0 0 (zAr P) := by
  refine zMet RX2 (plainFor_of_name (by decide)) rfl (zcs_c rfl (zcs_c (zrv_cat _ _) (zcs_c rfl (zcs_c rfl zcs_0)))) (Nat.le_of_ble_eq_true rfl) (fun p e s m args below meth c ls hC hr hk hn hG hL => ?_)
  unfold bX2_allR at hV
  refine z_iconst hC dX2_all_0 ?_
  refine z_istore (lv' := [(4, .int (zI 1)), (0, .ref (zA P 1 0 0)), (1, zrv P p0), (2, .int (zI p1)), (3, .int (zI p2))]) hC hL (by decide) rfl dX2_all_1 (fun ls hL => ?_)
  refine z_iconst hC dX2_all_3 ?_
  refine z_istore (lv' := [(5, .int (zI 0)), (4, .int (zI 1)), (0, .ref (zA P 1 0 0)), (1, zrv P p0), (2, .int (zI p1)), (3, .int (zI p2))]) hC hL (by decide) rfl dX2_all_4 (fun ls hL => ?_)
  refine zl3_use hV (fun (a6_4 : Int) (a6_5 : Int) (K6 : ZG) => inR a6_4 → inR a6_5 → ∀ (H : Heap) (locs : List Loc), zS P s K6 H locs → ∀ (ls : Array Slot), zL ls 6 [(0, .ref (zA P 1 0 0)), (1, zrv P p0), (2, .int (zI p1)), (3, .int (zI p2)), (4, .int (zI a6_4)), (5, .int (zI a6_5))] → W p l e ({ frames := rf + 1, cells := 0, slots := 0, locals := rl + 25 } : Room) s m args below meth c H locs 0 0 (MQ below (zQi P Q) args s 0 0 (zAr P)) (F0 m 6 ls [])) ?_ (inR_lit rfl) (inR_lit rfl) _ _ hG _ (hL.sub [2, 3, 4, 5, 1, 0] rfl)
  intro P6 a6_4 a6_5 K6 hP6 hV ha6_4 ha6_5 H locs hG ls hL
  refine z_iload hC (hL.at 5 rfl) dX2_all_6 ?_
  refine z_aload_n hC zvr_r rfl (hL.at 1 rfl) dX2_all_8 ?_
  refine z_alenD hC hG hV dX2_all_9 ?_
  intro x1 hx1 hV
  obtain ⟨J43, eJ43, hV⟩ := zjn_abs hV
  have hJ43 : ∀ {H : Heap} {locs : List Loc}, zS P s K6 H locs → J43 () → ∀ (ls : Array Slot), zL ls 6 [(4, .int (zI a6_4))] → W p l e ({ frames := rf + 1, cells := 0, slots := 0, locals := rl + 25 } : Room) s m args below meth c H locs 0 0 (MQ below (zQi P Q) args s 0 0 (zAr P)) (F0 m 43 ls []) := by
    intro H locs hG hV ls hL
    rw [eJ43] at hV
    refine z_iload hC (hL.at 0 rfl) dX2_all_43 ?_
    exact z_iret hC hG hr hk ha6_4 hV (Nat.le_of_ble_eq_true rfl) (Nat.le_of_ble_eq_true rfl) dX2_all_45
  refine z_icmp_ge (tgt := 43) hC ha6_5 hx1 hV dX2_all_10 (by decide) ?_ ?_
  · intro hV
    exact hJ43 hG hV _ (hL.sub [4] rfl)
  · intro hV
    refine z_iload hC (hL.at 4 rfl) dX2_all_13 ?_
    refine z_iconst hC dX2_all_15 ?_
    refine z_icmp_ne (tgt := 43) hC ha6_4 (inR_lit rfl) hV dX2_all_16 (by decide) ?_ ?_
    · intro hV
      exact hJ43 hG hV _ (hL.sub [4] rfl)
    · intro hV
      refine z_aload_n hC zvr_a rfl (hL.at 0 rfl) dX2_all_19 ?_
      refine z_aload_n hC zvr_r rfl (hL.at 1 rfl) dX2_all_20 ?_
      refine z_iload hC (hL.at 5 rfl) dX2_all_21 ?_
      refine z_erld hC hG ha6_5 hV dX2_all_23 ?_
      intro x2 hV
      refine z_iload_n hC rfl (hL.at 2 rfl) dX2_all_24 ?_
      refine z_iload_n hC rfl (hL.at 3 rfl) dX2_all_25 ?_
      refine z_iload hC (hL.at 5 rfl) dX2_all_26 ?_
      refine z_iadd hC dX2_all_28 ?_
      refine z_call_i hG (zrunSN hC hG (mX1_field l P K6 p1 hp1 (w32 (p2 + a6_5)) (inR_w _) hV) kSX2_109 rfl rfl rfl ⟨(by show 1 + 1 ≤ rf + 1; omega), (by show 8 + (2 + 11) + 12 ≤ rl + 25; omega)⟩ ⟨(Nat.le_of_ble_eq_true rfl), (Nat.le_of_ble_eq_true rfl)⟩ rfl ⟨(zcs_c (zrv_cat _ _) (zcs_c rfl zcs_0)), (Nat.le_of_ble_eq_true rfl)⟩ hL.1.1 dX2_all_29) ?_
      rintro x3 _ _ _ hx3 ⟨rfl, hV⟩ hG
      refine z_call_i hG (zrunP (ci := 3) hC hG (Nat.le_of_ble_eq_true rfl) (Nat.le_of_ble_eq_true rfl) (zobj hG rfl (Nat.le_of_ble_eq_true rfl) (Nat.le_of_ble_eq_true rfl)) (ihX2_matches_2R K6 x2 x3 hx3 hV) kPX2_38_Running rfl rfl rfl ⟨Nat.le_refl _, (by show 8 + (5 + 11) + rl ≤ rl + 25; omega)⟩ ⟨(Nat.le_of_ble_eq_true rfl), (Nat.le_of_ble_eq_true rfl)⟩ rfl ⟨zcs_0, (Nat.le_of_ble_eq_true rfl)⟩ hL.1.1 dX2_all_32) ?_
      rintro x4 G1 _ _ hx4 hV hG
      refine z_istore (lv' := [(4, .int (zI x4)), (0, .ref (zA P 1 0 0)), (1, zrv P p0), (2, .int (zI p1)), (3, .int (zI p2)), (5, .int (zI a6_5))]) hC hL (by decide) rfl dX2_all_35 (fun ls hL => ?_)
      refine z_iincV (fun x5 => [(5, .int (zI x5)), (4, .int (zI x4)), (0, .ref (zA P 1 0 0)), (1, zrv P p0), (2, .int (zI p1)), (3, .int (zI p2))]) hC hL (k := 5) rfl (by decide) (fun _ => rfl) hV dX2_all_37 ?_
      intro x5 hx5 hV ls hL
      refine z_goto (tgt := 6) hC dX2_all_40 (by decide) ?_
      exact hP6 x4 x5 G1 hV hx4 hx5 _ _ hG _ (hL.sub [2, 3, 4, 5, 1, 0] rfl)
abbrev rgMatchR (d : Nat) : Room := { frames := 50 + d, cells := 0, slots := 0, locals := 1135 + 25 * d }
def vggMatchR : Nat → (ZR → Int → ZG → (Int → ZG → Prop) → Prop) × (ZR → Int → Int → ZG → (Int → ZG → Prop) → Prop)
  | 0 => (fun _ _ _ _ => False, fun _ _ _ _ _ => False)
  | d + 1 => (bX2_matches_2R ((vggMatchR d).1) ((vggMatchR d).2), bX2_allR ((vggMatchR d).1) ((vggMatchR d).2))
def vX2_matches_2R (d : Nat) (p0 : ZR) (p1 : Int) (G : ZG) (Q : Int → ZG → Prop) : Prop := (vggMatchR d).1 p0 p1 G Q
def vX2_allR (d : Nat) (p0 : ZR) (p1 : Int) (p2 : Int) (G : ZG) (Q : Int → ZG → Prop) : Prop := (vggMatchR d).2 p0 p1 p2 G Q
theorem vX2_matches_2R_s (d : Nat) (p0 : ZR) (p1 : Int) (G : ZG) (Q : Int → ZG → Prop) : vX2_matches_2R (d + 1) p0 p1 G Q = bX2_matches_2R (vX2_matches_2R d) (vX2_allR d) p0 p1 G Q := rfl
theorem vX2_allR_s (d : Nat) (p0 : ZR) (p1 : Int) (p2 : Int) (G : ZG) (Q : Int → ZG → Prop) : vX2_allR (d + 1) p0 p1 p2 G Q = bX2_allR (vX2_matches_2R d) (vX2_allR d) p0 p1 p2 G Q := rfl
theorem ggMatchR (l : Launch) (P : ZP) : ∀ d : Nat, (∀ (G : ZG) (p0 : ZR) (p1 : Int) (hp1 : inR p1) {Q : Int → ZG → Prop}, vX2_matches_2R d p0 p1 G Q → Met l yX2_matches_2 (ws_ yX2_matches_2 cX2_matches_2 5 (some .int)) (rgMatchR d) (zPc P G [.ref (zA P 1 0 0), zrv P p0, .int (zI p1)]) (zQi P Q) 0 0 (zAr P)) ∧ (∀ (G : ZG) (p0 : ZR) (p1 : Int) (hp1 : inR p1) (p2 : Int) (hp2 : inR p2) {Q : Int → ZG → Prop}, vX2_allR d p0 p1 p2 G Q → Met l yX2_all (ws_ yX2_all cX2_all 6 (some .int)) (rgMatchR d) (zPc P G [.ref (zA P 1 0 0), zrv P p0, .int (zI p1), .int (zI p2)]) (zQi P Q) 0 0 (zAr P)) := by
  intro d
  induction d with
  | zero => exact ⟨fun G p0 p1 hp1 Q h => False.elim h, fun G p0 p1 hp1 p2 hp2 Q h => False.elim h⟩
  | succ d ih =>
    have e : 1135 + 25 * (d + 1) = 1135 + 25 * d + 25 := by omega
    exact ⟨fun G p0 p1 hp1 Q h => (by
      simp only [rgMatchR, e]
      exact sX2_matches_2R l P (rf := 50 + d) (rl := 1135 + 25 * d) (by omega) (by omega) ((vggMatchR d).1) ((vggMatchR d).2) (ih.1) (ih.2) _ p0 p1 hp1 h), fun G p0 p1 hp1 p2 hp2 Q h => (by
      simp only [rgMatchR, e]
      exact sX2_allR l P (rf := 50 + d) (rl := 1135 + 25 * d) (by omega) (by omega) ((vggMatchR d).1) ((vggMatchR d).2) (ih.1) (ih.2) _ p0 p1 hp1 p2 hp2 h)⟩
theorem mX2_matches_2R (l : Launch) (P : ZP) (d : Nat) (G : ZG) (p0 : ZR) (p1 : Int) (hp1 : inR p1) {Q : Int → ZG → Prop} (hV : vX2_matches_2R d p0 p1 G Q) : Met l yX2_matches_2 (ws_ yX2_matches_2 cX2_matches_2 5 (some .int)) (rgMatchR d) (zPc P G [.ref (zA P 1 0 0), zrv P p0, .int (zI p1)]) (zQi P Q) 0 0 (zAr P) := (ggMatchR l P d).1 G p0 p1 hp1 hV
theorem mX2_allR (l : Launch) (P : ZP) (d : Nat) (G : ZG) (p0 : ZR) (p1 : Int) (hp1 : inR p1) (p2 : Int) (hp2 : inR p2) {Q : Int → ZG → Prop} (hV : vX2_allR d p0 p1 p2 G Q) : Met l yX2_all (ws_ yX2_all cX2_all 6 (some .int)) (rgMatchR d) (zPc P G [.ref (zA P 1 0 0), zrv P p0, .int (zI p1), .int (zI p2)]) (zQi P Q) 0 0 (zAr P) := (ggMatchR l P d).2 G p0 p1 hp1 p2 hp2 hV
abbrev rX2_matchesR : Room := { frames := 141, cells := 0, slots := 0, locals := 3409 }
def vX2_matchesR (p0 : ZR) (G : ZG) (Q : Int → ZG → Prop) : Prop := zl3 (fun (P4 : Int → Int → ZG → Prop) (a4_2 : Int) (a4_3 : Int) (K4 : ZG) => zgF K4 0 5 fun (x1 : Int) => zjn (fun (_ : Unit) => Q a4_2 K4) fun J50 => zbr (x1 ≤ a4_3) (J50 ()) (zbr (a4_2 ≠ 1) (J50 ()) (zdR K4 p0 16 0 fun (x2 : ZR) => zeI K4 x2 a4_3 fun (x3 : Int) => vX1_told x3 K4 fun (x4 : ZR) => zisO K4 x4 9 ∧ vX9_pattern x4 K4 fun (x6 : ZR) => vX2_matches_2R 90 x6 (w32 (a4_3 + 1)) K4 fun (x7 : Int) (G1 : ZG) => zlt1 (w32 (a4_3 + 1)) fun (x8 : Int) => P4 x7 x8 G1))) 1 0 G
set_option maxHeartbeats 4000000 in
theorem mX2_matchesR (l : Launch) (P : ZP) (G : ZG) (p0 : ZR) {Q : Int → ZG → Prop} (hV : vX2_matchesR p0 G Q) : Met l yX2_matches (ws_ yX2_matches cX2_matches 4 (some .int)) rX2_matchesR (zPc P G [.ref (zA P 1 0 0), zrv P p0]) (zQi P Q) 0 0 (zAr P) := by
  refine zMet RX2 (plainFor_of_name (by decide)) rfl (zcs_c rfl (zcs_c (zrv_cat _ _) zcs_0)) (Nat.le_of_ble_eq_true rfl) (fun p e s m args below meth c ls hC hr hk hn hG hL => ?_)
  unfold vX2_matchesR at hV
  refine z_iconst hC dX2_matches_0 ?_
  refine z_istore_n (lv' := [(2, .int (zI 1)), (0, .ref (zA P 1 0 0)), (1, zrv P p0)]) hC rfl hL (by decide) rfl dX2_matches_1 (fun ls hL => ?_)
  refine z_iconst hC dX2_matches_2 ?_
  refine z_istore_n (lv' := [(3, .int (zI 0)), (2, .int (zI 1)), (0, .ref (zA P 1 0 0)), (1, zrv P p0)]) hC rfl hL (by decide) rfl dX2_matches_3 (fun ls hL => ?_)
  refine zl3_use hV (fun (a4_2 : Int) (a4_3 : Int) (K4 : ZG) => inR a4_2 → inR a4_3 → ∀ (H : Heap) (locs : List Loc), zS P s K4 H locs → ∀ (ls : Array Slot), zL ls 4 [(0, .ref (zA P 1 0 0)), (1, zrv P p0), (2, .int (zI a4_2)), (3, .int (zI a4_3))] → W p l e rX2_matchesR s m args below meth c H locs 0 0 (MQ below (zQi P Q) args s 0 0 (zAr P)) (F0 m 4 ls [])) ?_ (inR_lit rfl) (inR_lit rfl) _ _ hG _ (hL.sub [2, 3, 1, 0] rfl)
  intro P4 a4_2 a4_3 K4 hP4 hV ha4_2 ha4_3 H locs hG ls hL
  refine z_iload_n hC rfl (hL.at 3 rfl) dX2_matches_4 ?_
  refine z_aload_n hC zvr_a rfl (hL.at 0 rfl) dX2_matches_5 ?_
  refine z_getO hC hG 0 kFX2_3_3 rfl rfl dX2_matches_6 ?_
  refine z_getF hC hG kFX2_19_1 rfl rfl hV dX2_matches_9 ?_
  intro x1 hx1 hV
  obtain ⟨J50, eJ50, hV⟩ := zjn_abs hV
  have hJ50 : ∀ {H : Heap} {locs : List Loc}, zS P s K4 H locs → J50 () → ∀ (ls : Array Slot), zL ls 4 [(2, .int (zI a4_2))] → W p l e rX2_matchesR s m args below meth c H locs 0 0 (MQ below (zQi P Q) args s 0 0 (zAr P)) (F0 m 50 ls []) := by
    intro H locs hG hV ls hL
    rw [eJ50] at hV
    refine z_iload_n hC rfl (hL.at 0 rfl) dX2_matches_50 ?_
    exact z_iret hC hG hr hk ha4_2 hV (Nat.le_of_ble_eq_true rfl) (Nat.le_of_ble_eq_true rfl) dX2_matches_51
  refine z_icmp_ge (tgt := 50) hC ha4_3 hx1 hV dX2_matches_12 (by decide) ?_ ?_
  · intro hV
    exact hJ50 hG hV _ (hL.sub [2] rfl)
  · intro hV
    refine z_iload_n hC rfl (hL.at 2 rfl) dX2_matches_15 ?_
    refine z_iconst hC dX2_matches_16 ?_
    refine z_icmp_ne (tgt := 50) hC ha4_2 (inR_lit rfl) hV dX2_matches_17 (by decide) ?_ ?_
    · intro hV
      exact hJ50 hG hV _ (hL.sub [2] rfl)
    · intro hV
      refine z_aload_n hC zvr_a rfl (hL.at 0 rfl) dX2_matches_20 ?_
      refine z_aload_n hC zvr_a rfl (hL.at 0 rfl) dX2_matches_21 ?_
      refine z_getO hC hG 0 kFX2_3_3 rfl rfl dX2_matches_22 ?_
      refine z_aload_n hC zvr_r rfl (hL.at 1 rfl) dX2_matches_25 ?_
      refine z_dR hC hG kFX2_23_16 hV dX2_matches_26 ?_
      intro x2 hV
      refine z_iload_n hC rfl (hL.at 3 rfl) dX2_matches_29 ?_
      refine z_eald hC hG ha4_3 hV dX2_matches_30 ?_
      intro x3 hx3 hV
      refine z_call_r hG (zrunVN (ci := 1) hC hG (Nat.le_of_ble_eq_true rfl) (Nat.le_of_ble_eq_true rfl) (zobj hG rfl (Nat.le_of_ble_eq_true rfl) (Nat.le_of_ble_eq_true rfl)) (mX1_told l P K4 x3 hx3 hV) kVX2_28 rfl rfl rfl ⟨(Nat.le_of_ble_eq_true rfl), (Nat.le_of_ble_eq_true rfl)⟩ ⟨(Nat.le_of_ble_eq_true rfl), (Nat.le_of_ble_eq_true rfl)⟩ rfl ⟨(zcs_c rfl zcs_0), (Nat.le_of_ble_eq_true rfl)⟩ hL.1.1 dX2_matches_31) ?_
      rintro x4 _ _ _  ⟨rfl, hV⟩ hG
      obtain ⟨hO5, hV⟩ := hV
      refine z_call_r hG (zrunVD hC hG hO5 (mX9_pattern l P K4 x4 hV) kVX2_32 rfl rfl rfl ⟨(Nat.le_of_ble_eq_true rfl), (Nat.le_of_ble_eq_true rfl)⟩ ⟨(Nat.le_of_ble_eq_true rfl), (Nat.le_of_ble_eq_true rfl)⟩ rfl ⟨(zcs_c rfl zcs_0), (Nat.le_of_ble_eq_true rfl)⟩ hL.1.1 dX2_matches_34) ?_
      rintro x6 _ _ _  ⟨rfl, hV⟩ hG
      refine z_iload_n hC rfl (hL.at 3 rfl) dX2_matches_37 ?_
      refine z_iconst hC dX2_matches_38 ?_
      refine z_iadd hC dX2_matches_39 ?_
      refine z_call_i hG (zrunP (ci := 3) hC hG (Nat.le_of_ble_eq_true rfl) (Nat.le_of_ble_eq_true rfl) (zobj hG rfl (Nat.le_of_ble_eq_true rfl) (Nat.le_of_ble_eq_true rfl)) (mX2_matches_2R l P 90 K4 x6 (w32 (a4_3 + 1)) (inR_w _) hV) kPX2_38_Running rfl rfl rfl ⟨(Nat.le_of_ble_eq_true rfl), (Nat.le_of_ble_eq_true rfl)⟩ ⟨(Nat.le_of_ble_eq_true rfl), (Nat.le_of_ble_eq_true rfl)⟩ rfl ⟨zcs_0, (Nat.le_of_ble_eq_true rfl)⟩ hL.1.1 dX2_matches_40) ?_
      rintro x7 G1 _ _ hx7 hV hG
      refine z_istore_n (lv' := [(2, .int (zI x7)), (0, .ref (zA P 1 0 0)), (1, zrv P p0), (3, .int (zI a4_3))]) hC rfl hL (by decide) rfl dX2_matches_43 (fun ls hL => ?_)
      refine z_iincV (fun x8 => [(3, .int (zI x8)), (2, .int (zI x7)), (0, .ref (zA P 1 0 0)), (1, zrv P p0)]) hC hL (k := 3) rfl (by decide) (fun _ => rfl) hV dX2_matches_44 ?_
      intro x8 hx8 hV ls hL
      refine z_goto (tgt := 4) hC dX2_matches_47 (by decide) ?_
      exact hP4 x7 x8 G1 hV hx7 hx8 _ _ hG _ (hL.sub [2, 3, 1, 0] rfl)
abbrev rX3_binds : Room := { frames := 142, cells := 0, slots := 0, locals := 3432 }
def vX3_binds (p0 : ZR) (G : ZG) (Q : ZG → Prop) : Prop := zpF G 1 8 0 fun (G1 : ZG) => vX2_clearNamesR G1 fun (G2 : ZG) => vX2_matchesR p0 G2 fun (x1 : Int) (G3 : ZG) => zpF G3 1 8 1 fun (G4 : ZG) => Q G4
set_option maxHeartbeats 4000000 in
theorem mX3_binds (l : Launch) (P : ZP) (G : ZG) (p0 : ZR) {Q : ZG → Prop} (hV : vX3_binds p0 G Q) : Met l yX3_binds (ws_ yX3_binds cX3_binds 3 none) rX3_binds (zPc P G [.ref (zA P 1 0 0), zrv P p0]) (zQv P Q) 0 0 (zAr P) := by
  refine zMet RX3 (plainFor_of_name (by decide)) rfl (zcs_c rfl (zcs_c (zrv_cat _ _) zcs_0)) (Nat.le_of_ble_eq_true rfl) (fun p e s m args below meth c ls hC hr hk hn hG hL => ?_)
  unfold vX3_binds at hV
  refine z_aload_n hC zvr_a rfl (hL.at 0 rfl) dX3_binds_0 ?_
  refine z_iconst hC dX3_binds_1 ?_
  refine z_putF hC hG kFX3_62_3 rfl rfl rfl rfl nk_3_8 (inR_lit rfl) (Or.inr ⟨rfl, (Or.inl rfl)⟩) hV dX3_binds_2 ?_
  intro G1 _ _ hG hV
  refine z_aload_n hC zvr_a rfl (hL.at 0 rfl) dX3_binds_5 ?_
  refine z_call_v hG (zrunU hC hG (zrecv hC (Nat.le_of_ble_eq_true rfl) (Nat.le_of_ble_eq_true rfl) (zobj hG rfl (Nat.le_of_ble_eq_true rfl) (Nat.le_of_ble_eq_true rfl))) (mX2_clearNamesR l P G1 hV) kUX3_91_Running rfl rfl rfl ⟨(Nat.le_of_ble_eq_true rfl), (Nat.le_of_ble_eq_true rfl)⟩ ⟨(Nat.le_of_ble_eq_true rfl), (Nat.le_of_ble_eq_true rfl)⟩ rfl ⟨zcs_0, (Nat.le_of_ble_eq_true rfl)⟩ hL.1.1 dX3_binds_6) ?_
  rintro G2 _ _ hV hG
  refine z_aload_n hC zvr_a rfl (hL.at 0 rfl) dX3_binds_9 ?_
  refine z_aload_n hC zvr_r rfl (hL.at 1 rfl) dX3_binds_10 ?_
  refine z_call_i hG (zrunU hC hG (zrecv hC (Nat.le_of_ble_eq_true rfl) (Nat.le_of_ble_eq_true rfl) (zobj hG rfl (Nat.le_of_ble_eq_true rfl) (Nat.le_of_ble_eq_true rfl))) (mX2_matchesR l P G2 p0 hV) kUX3_118_Running rfl rfl rfl ⟨(Nat.le_of_ble_eq_true rfl), (Nat.le_of_ble_eq_true rfl)⟩ ⟨(Nat.le_of_ble_eq_true rfl), (Nat.le_of_ble_eq_true rfl)⟩ rfl ⟨zcs_0, (Nat.le_of_ble_eq_true rfl)⟩ hL.1.1 dX3_binds_11) ?_
  rintro x1 G3 _ _ hx1 hV hG
  refine z_istore_n (lv' := [(2, .int (zI x1)), (0, .ref (zA P 1 0 0)), (1, zrv P p0)]) hC rfl hL (by decide) rfl dX3_binds_14 (fun ls hL => ?_)
  refine z_aload_n hC zvr_a rfl (hL.at 1 rfl) dX3_binds_15 ?_
  refine z_iconst hC dX3_binds_16 ?_
  refine z_putF hC hG kFX3_62_3 rfl rfl rfl rfl nk_3_8 (inR_lit rfl) (Or.inr ⟨rfl, (Or.inr rfl)⟩) hV dX3_binds_17 ?_
  intro G4 _ _ hG hV
  exact z_vret hC hG hr hk hV (Nat.le_of_ble_eq_true rfl) (Nat.le_of_ble_eq_true rfl) dX3_binds_20
abbrev rX2_clearNamesT : Room := { frames := 1, cells := 0, slots := 0, locals := 12 }
def vX2_clearNamesT (o : Nat) (G : ZG) (Q : ZG → Prop) : Prop := zl2 (fun (P2 : Int → ZG → Prop) (a2_1 : Int) (K2 : ZG) => zbr (6 ≤ a2_1) (Q K2) (zaS K2 o 0 6 a2_1 (-1) fun (G1 : ZG) => zlt1 (w32 (a2_1 + 1)) fun (x1 : Int) => P2 x1 G1)) 0 G
set_option maxHeartbeats 4000000 in
theorem mX2_clearNamesT (l : Launch) (P : ZP) (G : ZG) (o : Nat) (ho : tCls o = 4) {Q : ZG → Prop} (hV : vX2_clearNamesT o G Q) : Met l yX2_clearNames (ws_ yX2_clearNames cX2_clearNames 2 none) rX2_clearNamesT (zPc P G [.ref (zA P o 0 0)]) (zQv P Q) 0 0 (zAr P) := by
  refine zMet RX2 (plainFor_of_name (by decide)) rfl (zcs_c rfl zcs_0) (Nat.le_of_ble_eq_true rfl) (fun p e s m args below meth c ls hC hr hk hn hG hL => ?_)
  unfold vX2_clearNamesT at hV
  refine z_iconst hC dX2_clearNames_0 ?_
  refine z_istore_n (lv' := [(1, .int (zI 0)), (0, .ref (zA P o 0 0))]) hC rfl hL (by decide) rfl dX2_clearNames_1 (fun ls hL => ?_)
  refine zl2_use hV (fun (a2_1 : Int) (K2 : ZG) => inR a2_1 → ∀ (H : Heap) (locs : List Loc), zS P s K2 H locs → ∀ (ls : Array Slot), zL ls 2 [(0, .ref (zA P o 0 0)), (1, .int (zI a2_1))] → W p l e rX2_clearNamesT s m args below meth c H locs 0 0 (MQ below (zQv P Q) args s 0 0 (zAr P)) (F0 m 2 ls [])) ?_ (inR_lit rfl) _ _ hG _ (hL.sub [1, 0] rfl)
  intro P2 a2_1 K2 hP2 hV ha2_1 H locs hG ls hL
  refine z_iload_n hC rfl (hL.at 1 rfl) dX2_clearNames_2 ?_
  refine z_bipush hC rfl dX2_clearNames_3 ?_
  refine z_icmp_ge (tgt := 21) hC ha2_1 (inR_lit rfl) hV dX2_clearNames_5 (by decide) ?_ ?_
  · intro hV
    exact z_vret hC hG hr hk hV (Nat.le_of_ble_eq_true rfl) (Nat.le_of_ble_eq_true rfl) dX2_clearNames_21
  · intro hV
    refine z_aload_n hC zvr_a rfl (hL.at 0 rfl) dX2_clearNames_8 ?_
    refine z_getA hC hG kFX2_15_4 ho rfl dX2_clearNames_9 ?_
    refine z_iload_n hC rfl (hL.at 1 rfl) dX2_clearNames_12 ?_
    refine z_iconst hC dX2_clearNames_13 ?_
    refine z_iast hC hG ho (Nat.le_of_ble_eq_true rfl) (Nat.le_of_ble_eq_true rfl) rfl rfl rfl ha2_1 (inR_lit rfl) hV dX2_clearNames_14 ?_
    intro G1 _ _ hG hV
    refine z_iincV (fun x1 => [(1, .int (zI x1)), (0, .ref (zA P o 0 0))]) hC hL (k := 1) rfl (by decide) (fun _ => rfl) hV dX2_clearNames_15 ?_
    intro x1 hx1 hV ls hL
    refine z_goto (tgt := 2) hC dX2_clearNames_18 (by decide) ?_
    exact hP2 x1 G1 hV hx1 _ _ hG _ (hL.sub [1, 0] rfl)
abbrev rX4_knownAt : Room := { frames := 1, cells := 0, slots := 0, locals := 12 }
def vX4_knownAt (o : Nat) (p0 : Int) (p1 : Int) (G : ZG) (Q : Int → Prop) : Prop := zl1 (fun (P2 : Int → Prop) (a2_3 : Int) => zgF G o 15 fun (x1 : Int) => zbr (x1 ≤ a2_3) (Q (-1)) (zaL G o 12 600 a2_3 fun (x2 : Int) => zjn (fun (_ : Unit) => zlt1 (w32 (a2_3 + 1)) fun (x3 : Int) => P2 x3) fun J37 => zbr (x2 ≠ p1) (J37 ()) (zaL G o 13 600 a2_3 fun (x4 : Int) => zbr (x4 ≠ p0) (J37 ()) (zaL G o 14 600 a2_3 fun (x5 : Int) => Q x5)))) 0
set_option maxHeartbeats 4000000 in
theorem mX4_knownAt (l : Launch) (P : ZP) (G : ZG) (o : Nat) (ho : tCls o = 4) (p0 : Int) (hp0 : inR p0) (p1 : Int) (hp1 : inR p1) {Q : Int → Prop} (hV : vX4_knownAt o p0 p1 G Q) : Met l yX4_knownAt (ws_ yX4_knownAt cX4_knownAt 4 (some .int)) rX4_knownAt (zPc P G [.ref (zA P o 0 0), .int (zI p0), .int (zI p1)]) (zQi P (fun r G2 => G = G2 ∧ Q r)) 0 0 (zAr P) := by
  refine zMet RX4 (plainFor_of_name (by decide)) rfl (zcs_c rfl (zcs_c rfl (zcs_c rfl zcs_0))) (Nat.le_of_ble_eq_true rfl) (fun p e s m args below meth c ls hC hr hk hn hG hL => ?_)
  unfold vX4_knownAt at hV
  refine z_iconst hC dX4_knownAt_0 ?_
  refine z_istore_n (lv' := [(3, .int (zI 0)), (0, .ref (zA P o 0 0)), (1, .int (zI p0)), (2, .int (zI p1))]) hC rfl hL (by decide) rfl dX4_knownAt_1 (fun ls hL => ?_)
  refine zl1_use hV (fun (a2_3 : Int) => inR a2_3 → ∀ (H : Heap) (locs : List Loc), zS P s G H locs → ∀ (ls : Array Slot), zL ls 4 [(0, .ref (zA P o 0 0)), (1, .int (zI p0)), (2, .int (zI p1)), (3, .int (zI a2_3))] → W p l e rX4_knownAt s m args below meth c H locs 0 0 (MQ below (zQi P (fun r G2 => G = G2 ∧ Q r)) args s 0 0 (zAr P)) (F0 m 2 ls [])) ?_ (inR_lit rfl) _ _ hG _ (hL.sub [1, 2, 3, 0] rfl)
  intro P2 a2_3 hP2 hV ha2_3 H locs hG ls hL
  refine z_iload_n hC rfl (hL.at 3 rfl) dX4_knownAt_2 ?_
  refine z_aload_n hC zvr_a rfl (hL.at 0 rfl) dX4_knownAt_3 ?_
  refine z_getF hC hG kFX4_58_4 ho rfl hV dX4_knownAt_4 ?_
  intro x1 hx1 hV
  refine z_icmp_ge (tgt := 43) hC ha2_3 hx1 hV dX4_knownAt_7 (by decide) ?_ ?_
  · intro hV
    refine z_iconst hC dX4_knownAt_43 ?_
    exact z_iret hC hG hr hk (inR_lit rfl) ⟨rfl, hV⟩ (Nat.le_of_ble_eq_true rfl) (Nat.le_of_ble_eq_true rfl) dX4_knownAt_44
  · intro hV
    refine z_aload_n hC zvr_a rfl (hL.at 0 rfl) dX4_knownAt_10 ?_
    refine z_getA hC hG kFX4_36_4 ho rfl dX4_knownAt_11 ?_
    refine z_iload_n hC rfl (hL.at 3 rfl) dX4_knownAt_14 ?_
    refine z_iald hC hG ho rfl rfl ha2_3 hV dX4_knownAt_15 ?_
    intro x2 hx2 hV
    refine z_iload_n hC rfl (hL.at 2 rfl) dX4_knownAt_16 ?_
    obtain ⟨J37, eJ37, hV⟩ := zjn_abs hV
    have hJ37 : ∀ {H : Heap} {locs : List Loc}, zS P s G H locs → J37 () → ∀ (ls : Array Slot), zL ls 4 [(0, .ref (zA P o 0 0)), (1, .int (zI p0)), (2, .int (zI p1)), (3, .int (zI a2_3))] → W p l e rX4_knownAt s m args below meth c H locs 0 0 (MQ below (zQi P (fun r G2 => G = G2 ∧ Q r)) args s 0 0 (zAr P)) (F0 m 37 ls []) := by
      intro H locs hG hV ls hL
      rw [eJ37] at hV
      refine z_iincV (fun x3 => [(3, .int (zI x3)), (0, .ref (zA P o 0 0)), (1, .int (zI p0)), (2, .int (zI p1))]) hC hL (k := 3) rfl (by decide) (fun _ => rfl) hV dX4_knownAt_37 ?_
      intro x3 hx3 hV ls hL
      refine z_goto (tgt := 2) hC dX4_knownAt_40 (by decide) ?_
      exact hP2 x3 hV hx3 _ _ hG _ (hL.sub [1, 2, 3, 0] rfl)
    refine z_icmp_ne (tgt := 37) hC hx2 hp1 hV dX4_knownAt_17 (by decide) ?_ ?_
    · intro hV
      exact hJ37 hG hV _ hL
    · intro hV
      refine z_aload_n hC zvr_a rfl (hL.at 0 rfl) dX4_knownAt_20 ?_
      refine z_getA hC hG kFX4_39_4 ho rfl dX4_knownAt_21 ?_
      refine z_iload_n hC rfl (hL.at 3 rfl) dX4_knownAt_24 ?_
      refine z_iald hC hG ho rfl rfl ha2_3 hV dX4_knownAt_25 ?_
      intro x4 hx4 hV
      refine z_iload_n hC rfl (hL.at 1 rfl) dX4_knownAt_26 ?_
      refine z_icmp_ne (tgt := 37) hC hx4 hp0 hV dX4_knownAt_27 (by decide) ?_ ?_
      · intro hV
        exact hJ37 hG hV _ hL
      · intro hV
        refine z_aload_n hC zvr_a rfl (hL.at 0 rfl) dX4_knownAt_30 ?_
        refine z_getA hC hG kFX4_42_4 ho rfl dX4_knownAt_31 ?_
        refine z_iload_n hC rfl (hL.at 3 rfl) dX4_knownAt_34 ?_
        refine z_iald hC hG ho rfl rfl ha2_3 hV dX4_knownAt_35 ?_
        intro x5 hx5 hV
        exact z_iret hC hG hr hk hx5 ⟨rfl, hV⟩ (Nat.le_of_ble_eq_true rfl) (Nat.le_of_ble_eq_true rfl) dX4_knownAt_36
abbrev rX4_ask : Room := { frames := 1, cells := 0, slots := 0, locals := 12 }
def vX4_ask (o : Nat) (p0 : Int) (p1 : Int) (p2 : Int) (p3 : Int) (G : ZG) (Q : Int → ZG → Prop) : Prop := zjn (fun (H21 : ZG) => Q p0 H21) fun J21 => zbr (p0 ≠ (-1)) (J21 G) (zpF G o 17 p1 fun (G1 : ZG) => zpF G1 o 18 p2 fun (G2 : ZG) => zpF G2 o 19 p3 fun (G3 : ZG) => J21 G3)
set_option maxHeartbeats 4000000 in
theorem mX4_ask (l : Launch) (P : ZP) (G : ZG) (o : Nat) (ho : tCls o = 4) (p0 : Int) (hp0 : inR p0) (p1 : Int) (hp1 : inR p1) (p2 : Int) (hp2 : inR p2) (p3 : Int) (hp3 : p3 = 0 ∨ p3 = 1) {Q : Int → ZG → Prop} (hV : vX4_ask o p0 p1 p2 p3 G Q) : Met l yX4_ask (ws_ yX4_ask cX4_ask 5 (some .int)) rX4_ask (zPc P G [.ref (zA P o 0 0), .int (zI p0), .int (zI p1), .int (zI p2), .int (zI p3)]) (zQi P Q) 0 0 (zAr P) := by
  refine zMet RX4 (plainFor_of_name (by decide)) rfl (zcs_c rfl (zcs_c rfl (zcs_c rfl (zcs_c rfl (zcs_c rfl zcs_0))))) (Nat.le_of_ble_eq_true rfl) (fun p e s m args below meth c ls hC hr hk hn hG hL => ?_)
  unfold vX4_ask at hV
  refine z_iload_n hC rfl (hL.at 1 rfl) dX4_ask_0 ?_
  refine z_iconst hC dX4_ask_1 ?_
  obtain ⟨J21, eJ21, hV⟩ := zjn_abs hV
  have hJ21 : ∀ (H21 : ZG), J21 H21 → ∀ (H : Heap) (locs : List Loc) (ls : Array Slot), zS P s H21 H locs → zL ls 5 [(1, .int (zI p0))] → W p l e rX4_ask s m args below meth c H locs 0 0 (MQ below (zQi P Q) args s 0 0 (zAr P)) (F0 m 21 ls []) := by
    intro H21 hV H locs ls hG hL
    rw [eJ21] at hV
    refine z_iload_n hC rfl (hL.at 0 rfl) dX4_ask_21 ?_
    exact z_iret hC hG hr hk hp0 hV (Nat.le_of_ble_eq_true rfl) (Nat.le_of_ble_eq_true rfl) dX4_ask_22
  refine z_icmp_ne (tgt := 21) hC hp0 (inR_lit rfl) hV dX4_ask_2 (by decide) ?_ ?_
  · intro hV
    exact hJ21 G hV _ _ _ hG (hL.sub [1] rfl)
  · intro hV
    refine z_aload_n hC zvr_a rfl (hL.at 0 rfl) dX4_ask_5 ?_
    refine z_iload_n hC rfl (hL.at 2 rfl) dX4_ask_6 ?_
    refine z_putF hC hG kFX4_62_4 ho rfl rfl rfl nk_4_17 hp1 (Or.inl rfl) hV dX4_ask_7 ?_
    intro G1 _ _ hG hV
    refine z_aload_n hC zvr_a rfl (hL.at 0 rfl) dX4_ask_10 ?_
    refine z_iload_n hC rfl (hL.at 3 rfl) dX4_ask_11 ?_
    refine z_putF hC hG kFX4_65_4 ho rfl rfl rfl nk_4_18 hp2 (Or.inl rfl) hV dX4_ask_12 ?_
    intro G2 _ _ hG hV
    refine z_aload_n hC zvr_a rfl (hL.at 0 rfl) dX4_ask_15 ?_
    refine z_iload hC (hL.at 4 rfl) dX4_ask_16 ?_
    refine z_putF hC hG kFX4_68_4 ho rfl rfl rfl nk_4_19 (inR_b hp3) (Or.inr ⟨rfl, hp3⟩) hV dX4_ask_18 ?_
    intro G3 _ _ hG hV
    exact hJ21 G3 hV _ _ _ hG (hL.sub [1] rfl)
abbrev rX4_at : Room := { frames := 2, cells := 0, slots := 0, locals := 36 }
def vX4_at (o : Nat) (p0 : Int) (p1 : Int) (G : ZG) (Q : Int → ZG → Prop) : Prop := vX4_knownAt o (-1) p0 G fun (x1 : Int) => vX4_ask o x1 p0 p1 0 G fun (x2 : Int) (G1 : ZG) => Q x2 G1
set_option maxHeartbeats 4000000 in
theorem mX4_at (l : Launch) (P : ZP) (G : ZG) (o : Nat) (ho : tCls o = 4) (p0 : Int) (hp0 : inR p0) (p1 : Int) (hp1 : inR p1) {Q : Int → ZG → Prop} (hV : vX4_at o p0 p1 G Q) : Met l yX4_at (ws_ yX4_at cX4_at 3 (some .int)) rX4_at (zPc P G [.ref (zA P o 0 0), .int (zI p0), .int (zI p1)]) (zQi P Q) 0 0 (zAr P) := by
  refine zMet RX4 (plainFor_of_name (by decide)) rfl (zcs_c rfl (zcs_c rfl (zcs_c rfl zcs_0))) (Nat.le_of_ble_eq_true rfl) (fun p e s m args below meth c ls hC hr hk hn hG hL => ?_)
  unfold vX4_at at hV
  refine z_aload_n hC zvr_a rfl (hL.at 0 rfl) dX4_at_0 ?_
  refine z_aload_n hC zvr_a rfl (hL.at 0 rfl) dX4_at_1 ?_
  refine z_iconst hC dX4_at_2 ?_
  refine z_iload_n hC rfl (hL.at 1 rfl) dX4_at_3 ?_
  refine z_call_i hG (zrunV (ci := 4) hC hG (Nat.le_of_ble_eq_true rfl) (Nat.le_of_ble_eq_true rfl) (zobj hG ho (Nat.le_of_ble_eq_true rfl) (Nat.le_of_ble_eq_true rfl)) (mX4_knownAt l P G o ho (-1) (inR_lit rfl) p0 hp0 hV) kVX4_71 rfl rfl rfl ⟨(Nat.le_of_ble_eq_true rfl), (Nat.le_of_ble_eq_true rfl)⟩ ⟨(Nat.le_of_ble_eq_true rfl), (Nat.le_of_ble_eq_true rfl)⟩ rfl ⟨(zcs_c rfl zcs_0), (Nat.le_of_ble_eq_true rfl)⟩ hL.1.1 dX4_at_4) ?_
  rintro x1 _ _ _ hx1 ⟨rfl, hV⟩ hG
  refine z_iload_n hC rfl (hL.at 1 rfl) dX4_at_7 ?_
  refine z_iload_n hC rfl (hL.at 2 rfl) dX4_at_8 ?_
  refine z_iconst hC dX4_at_9 ?_
  refine z_call_i hG (zrunV (ci := 4) hC hG (Nat.le_of_ble_eq_true rfl) (Nat.le_of_ble_eq_true rfl) (zobj hG ho (Nat.le_of_ble_eq_true rfl) (Nat.le_of_ble_eq_true rfl)) (mX4_ask l P G o ho x1 hx1 p0 hp0 p1 hp1 0 (Or.inl rfl) hV) kVX4_75 rfl rfl rfl ⟨(Nat.le_of_ble_eq_true rfl), (Nat.le_of_ble_eq_true rfl)⟩ ⟨(Nat.le_of_ble_eq_true rfl), (Nat.le_of_ble_eq_true rfl)⟩ rfl ⟨zcs_0, (Nat.le_of_ble_eq_true rfl)⟩ hL.1.1 dX4_at_10) ?_
  rintro x2 G1 _ _ hx2 hV hG
  exact z_iret hC hG hr hk hx2 hV (Nat.le_of_ble_eq_true rfl) (Nat.le_of_ble_eq_true rfl) dX4_at_13
abbrev rX4_seen : Room := { frames := 2, cells := 0, slots := 0, locals := 36 }
def vX4_seen (o : Nat) (p0 : Int) (p1 : Int) (G : ZG) (Q : Int → ZG → Prop) : Prop := vX4_knownAt o p0 p1 G fun (x1 : Int) => vX4_ask o x1 p1 p0 1 G fun (x2 : Int) (G1 : ZG) => Q x2 G1
set_option maxHeartbeats 4000000 in
theorem mX4_seen (l : Launch) (P : ZP) (G : ZG) (o : Nat) (ho : tCls o = 4) (p0 : Int) (hp0 : inR p0) (p1 : Int) (hp1 : inR p1) {Q : Int → ZG → Prop} (hV : vX4_seen o p0 p1 G Q) : Met l yX4_seen (ws_ yX4_seen cX4_seen 3 (some .int)) rX4_seen (zPc P G [.ref (zA P o 0 0), .int (zI p0), .int (zI p1)]) (zQi P Q) 0 0 (zAr P) := by
  refine zMet RX4 (plainFor_of_name (by decide)) rfl (zcs_c rfl (zcs_c rfl (zcs_c rfl zcs_0))) (Nat.le_of_ble_eq_true rfl) (fun p e s m args below meth c ls hC hr hk hn hG hL => ?_)
  unfold vX4_seen at hV
  refine z_aload_n hC zvr_a rfl (hL.at 0 rfl) dX4_seen_0 ?_
  refine z_aload_n hC zvr_a rfl (hL.at 0 rfl) dX4_seen_1 ?_
  refine z_iload_n hC rfl (hL.at 1 rfl) dX4_seen_2 ?_
  refine z_iload_n hC rfl (hL.at 2 rfl) dX4_seen_3 ?_
  refine z_call_i hG (zrunV (ci := 4) hC hG (Nat.le_of_ble_eq_true rfl) (Nat.le_of_ble_eq_true rfl) (zobj hG ho (Nat.le_of_ble_eq_true rfl) (Nat.le_of_ble_eq_true rfl)) (mX4_knownAt l P G o ho p0 hp0 p1 hp1 hV) kVX4_71 rfl rfl rfl ⟨(Nat.le_of_ble_eq_true rfl), (Nat.le_of_ble_eq_true rfl)⟩ ⟨(Nat.le_of_ble_eq_true rfl), (Nat.le_of_ble_eq_true rfl)⟩ rfl ⟨(zcs_c rfl zcs_0), (Nat.le_of_ble_eq_true rfl)⟩ hL.1.1 dX4_seen_4) ?_
  rintro x1 _ _ _ hx1 ⟨rfl, hV⟩ hG
  refine z_iload_n hC rfl (hL.at 2 rfl) dX4_seen_7 ?_
  refine z_iload_n hC rfl (hL.at 1 rfl) dX4_seen_8 ?_
  refine z_iconst hC dX4_seen_9 ?_
  refine z_call_i hG (zrunV (ci := 4) hC hG (Nat.le_of_ble_eq_true rfl) (Nat.le_of_ble_eq_true rfl) (zobj hG ho (Nat.le_of_ble_eq_true rfl) (Nat.le_of_ble_eq_true rfl)) (mX4_ask l P G o ho x1 hx1 p1 hp1 p0 hp0 1 (Or.inr rfl) hV) kVX4_75 rfl rfl rfl ⟨(Nat.le_of_ble_eq_true rfl), (Nat.le_of_ble_eq_true rfl)⟩ ⟨(Nat.le_of_ble_eq_true rfl), (Nat.le_of_ble_eq_true rfl)⟩ rfl ⟨zcs_0, (Nat.le_of_ble_eq_true rfl)⟩ hL.1.1 dX4_seen_10) ?_
  rintro x2 G1 _ _ hx2 hV hG
  exact z_iret hC hG hr hk hx2 hV (Nat.le_of_ble_eq_true rfl) (Nat.le_of_ble_eq_true rfl) dX4_seen_13
abbrev rX2_holdsRangeT : Room := { frames := 3, cells := 0, slots := 0, locals := 55 }
def vX2_holdsRangeT (o : Nat) (p0 : ZR) (p1 : Int) (G : ZG) (Q : Int → Prop) : Prop := zisO G p0 11 ∧ vX11_holds p0 p1 G fun (x2 : Int) => Q x2
set_option maxHeartbeats 4000000 in
theorem mX2_holdsRangeT (l : Launch) (P : ZP) (G : ZG) (o : Nat) (ho : tCls o = 4) (p0 : ZR) (p1 : Int) (hp1 : inR p1) {Q : Int → Prop} (hV : vX2_holdsRangeT o p0 p1 G Q) : Met l yX2_holdsRange (ws_ yX2_holdsRange cX2_holdsRange 3 (some .boolean)) rX2_holdsRangeT (zPc P G [.ref (zA P o 0 0), zrv P p0, .int (zI p1)]) (zQz P (fun r G2 => G = G2 ∧ Q r)) 0 0 (zAr P) := by
  refine zMet RX2 (plainFor_of_name (by decide)) rfl (zcs_c rfl (zcs_c (zrv_cat _ _) (zcs_c rfl zcs_0))) (Nat.le_of_ble_eq_true rfl) (fun p e s m args below meth c ls hC hr hk hn hG hL => ?_)
  unfold vX2_holdsRangeT at hV
  refine z_aload_n hC zvr_r rfl (hL.at 1 rfl) dX2_holdsRange_0 ?_
  refine z_iload_n hC rfl (hL.at 2 rfl) dX2_holdsRange_1 ?_
  obtain ⟨hO1, hV⟩ := hV
  refine z_call_z hG (zrunVD hC hG hO1 (mX11_holds l P G p0 p1 hp1 hV) kVX2_57 rfl rfl rfl ⟨(Nat.le_of_ble_eq_true rfl), (Nat.le_of_ble_eq_true rfl)⟩ ⟨(Nat.le_of_ble_eq_true rfl), (Nat.le_of_ble_eq_true rfl)⟩ rfl ⟨zcs_0, (Nat.le_of_ble_eq_true rfl)⟩ hL.1.1 dX2_holdsRange_2) ?_
  rintro x2 _ _ _ hx2 ⟨rfl, hV⟩ hG
  exact z_zret hC hG hr hk hx2 ⟨rfl, hV⟩ (Nat.le_of_ble_eq_true rfl) (Nat.le_of_ble_eq_true rfl) dX2_holdsRange_5
def bX2_holdsT (wX2_holdsT : Nat → ZR → Int → ZG → (Int → Prop) → Prop) (o : Nat) (p0 : ZR) (p1 : Int) (G : ZG) (Q : Int → Prop) : Prop := ziO G p0 13 fun (x1 : Int) => zbr (x1 = 0) (ziO G p0 11 fun (x2 : Int) => zjn (fun (z68_0 : Int) => Q z68_0) fun J68 => zjn (fun (_ : Unit) => J68 1) fun J63 => zbr (x2 = 0) (J63 ()) (zca G p0 11 ∧ vX2_holdsRangeT o p0 p1 G fun (x3 : Int) => zbr (x3 = 0) (J68 0) (J63 ()))) (zca G p0 13 ∧ zisO G p0 13 ∧ vX13_first p0 G fun (x5 : ZR) => wX2_holdsT o x5 p1 G fun (x6 : Int) => zjn (fun (z41_0 : Int) => Q z41_0) fun J41 => zjn (fun (_ : Unit) => J41 1) fun J36 => zbr (x6 ≠ 0) (J36 ()) (zisO G p0 13 ∧ vX13_second p0 G fun (x8 : ZR) => wX2_holdsT o x8 p1 G fun (x9 : Int) => zbr (x9 = 0) (J41 0) (J36 ())))
set_option maxHeartbeats 4000000 in
theorem sX2_holdsT (l : Launch) (P : ZP) {rf rl : Nat} (hrf : 4 ≤ rf) (hrl : 77 ≤ rl) (wX2_holdsT : Nat → ZR → Int → ZG → (Int → Prop) → Prop) (ihX2_holdsT : ∀ (G : ZG) (o : Nat) (ho : tCls o = 4) (p0 : ZR) (p1 : Int) (hp1 : inR p1) {Q : Int → Prop}, wX2_holdsT o p0 p1 G Q → Met l yX2_holds (ws_ yX2_holds cX2_holds 4 (some .boolean)) ({ frames := rf, cells := 0, slots := 0, locals := rl } : Room) (zPc P G [.ref (zA P o 0 0), zrv P p0, .int (zI p1)]) (zQz P (fun r G2 => G = G2 ∧ Q r)) 0 0 (zAr P)) (G : ZG) (o : Nat) (ho : tCls o = 4) (p0 : ZR) (p1 : Int) (hp1 : inR p1) {Q : Int → Prop} (hV : bX2_holdsT wX2_holdsT o p0 p1 G Q) : Met l yX2_holds (ws_ yX2_holds cX2_holds 4 (some .boolean)) ({ frames := rf + 1, cells := 0, slots := 0, locals := rl + 23 } : Room) (zPc P G [.ref (zA P o 0 0), zrv P p0, .int (zI p1)]) (zQz P (fun r G2 => G = G2 ∧ Q r)) 0 0 (zAr P) := by
  refine zMet RX2 (plainFor_of_name (by decide)) rfl (zcs_c rfl (zcs_c (zrv_cat _ _) (zcs_c rfl zcs_0))) (Nat.le_of_ble_eq_true rfl) (fun p e s m args below meth c ls hC hr hk hn hG hL => ?_)
  unfold bX2_holdsT at hV
  refine z_aload_n hC zvr_r rfl (hL.at 1 rfl) dX2_holds_0 ?_
  refine z_inst hC hG (ci := 13) (by decide) q1448 hV dX2_holds_1 ?_
  intro x1 hx1 hV
  refine z_if_eq (tgt := 42) hC (inR_b hx1) hV dX2_holds_4 (by decide) ?_ ?_
  · intro hV
    refine z_aload_n hC zvr_r rfl (hL.at 1 rfl) dX2_holds_42 ?_
    refine z_inst hC hG (ci := 11) (by decide) q1395 hV dX2_holds_43 ?_
    intro x2 hx2 hV
    obtain ⟨J68, eJ68, hV⟩ := zjn_abs hV
    have hJ68 : ∀ {H : Heap} {locs : List Loc}, zS P s G H locs → ∀ (z68_0 : Int), (z68_0 = 0 ∨ z68_0 = 1) → J68 z68_0 → ∀ (ls : Array Slot), zL ls 4 [] → W p l e ({ frames := rf + 1, cells := 0, slots := 0, locals := rl + 23 } : Room) s m args below meth c H locs 0 0 (MQ below (zQz P (fun r G2 => G = G2 ∧ Q r)) args s 0 0 (zAr P)) (F0 m 68 ls [.int (zI z68_0)]) := by
      intro H locs hG z68_0 hz68_0 hV ls hL
      rw [eJ68] at hV
      exact z_zret hC hG hr hk hz68_0 ⟨rfl, hV⟩ (Nat.le_of_ble_eq_true rfl) (Nat.le_of_ble_eq_true rfl) dX2_holds_68
    obtain ⟨J63, eJ63, hV⟩ := zjn_abs hV
    have hJ63 : ∀ {H : Heap} {locs : List Loc}, zS P s G H locs → J63 () → ∀ (ls : Array Slot), zL ls 4 [] → W p l e ({ frames := rf + 1, cells := 0, slots := 0, locals := rl + 23 } : Room) s m args below meth c H locs 0 0 (MQ below (zQz P (fun r G2 => G = G2 ∧ Q r)) args s 0 0 (zAr P)) (F0 m 63 ls []) := by
      intro H locs hG hV ls hL
      rw [eJ63] at hV
      refine z_iconst hC dX2_holds_63 ?_
      refine z_goto (tgt := 68) hC dX2_holds_64 (by decide) ?_
      exact hJ68 hG 1 (Or.inr rfl) hV _ hL
    refine z_if_eq (tgt := 63) hC (inR_b hx2) hV dX2_holds_46 (by decide) ?_ ?_
    · intro hV
      exact hJ63 hG hV _ (hL.sub [] rfl)
    · intro hV
      refine z_aload_n hC zvr_r rfl (hL.at 1 rfl) dX2_holds_49 ?_
      refine z_cast hC hG (ci := 11) (Nat.le_of_ble_eq_true rfl) (Nat.le_of_ble_eq_true rfl) q1395 hV dX2_holds_50 (fun hV => ?_)
      refine z_astore_n (lv' := [(3, zrv P p0), (0, .ref (zA P o 0 0)), (1, zrv P p0), (2, .int (zI p1))]) hC zvr_r rfl hL (by decide) rfl dX2_holds_53 (fun ls hL => ?_)
      refine z_aload_n hC zvr_a rfl (hL.at 1 rfl) dX2_holds_54 ?_
      refine z_aload_n hC zvr_r rfl (hL.at 0 rfl) dX2_holds_55 ?_
      refine z_iload_n hC rfl (hL.at 3 rfl) dX2_holds_56 ?_
      refine z_call_z hG (zrunU hC hG (zrecv hC (Nat.le_of_ble_eq_true rfl) (Nat.le_of_ble_eq_true rfl) (zobj hG ho (Nat.le_of_ble_eq_true rfl) (Nat.le_of_ble_eq_true rfl))) (mX2_holdsRangeT l P G o ho p0 p1 hp1 hV) kUX2_112_Tree rfl rfl rfl ⟨(by show 3 + 1 ≤ rf + 1; omega), (by show 8 + (3 + 11) + 55 ≤ rl + 23; omega)⟩ ⟨(Nat.le_of_ble_eq_true rfl), (Nat.le_of_ble_eq_true rfl)⟩ rfl ⟨zcs_0, (Nat.le_of_ble_eq_true rfl)⟩ hL.1.1 dX2_holds_57) ?_
      rintro x3 _ _ _ hx3 ⟨rfl, hV⟩ hG
      refine z_if_eq (tgt := 67) hC (inR_b hx3) hV dX2_holds_60 (by decide) ?_ ?_
      · intro hV
        refine z_iconst hC dX2_holds_67 ?_
        exact hJ68 hG 0 (Or.inl rfl) hV _ (hL.sub [] rfl)
      · intro hV
        exact hJ63 hG hV _ (hL.sub [] rfl)
  · intro hV
    refine z_aload_n hC zvr_r rfl (hL.at 1 rfl) dX2_holds_7 ?_
    refine z_cast hC hG (ci := 13) (Nat.le_of_ble_eq_true rfl) (Nat.le_of_ble_eq_true rfl) q1448 hV dX2_holds_8 (fun hV => ?_)
    refine z_astore_n (lv' := [(3, zrv P p0), (0, .ref (zA P o 0 0)), (1, zrv P p0), (2, .int (zI p1))]) hC zvr_r rfl hL (by decide) rfl dX2_holds_11 (fun ls hL => ?_)
    refine z_aload_n hC zvr_a rfl (hL.at 1 rfl) dX2_holds_12 ?_
    refine z_aload_n hC zvr_r rfl (hL.at 0 rfl) dX2_holds_13 ?_
    obtain ⟨hO4, hV⟩ := hV
    refine z_call_r hG (zrunVD hC hG hO4 (mX13_first l P G p0 hV) kVX2_79 rfl rfl rfl ⟨(by show 1 + 1 ≤ rf + 1; omega), (by show 8 + (1 + 11) + 12 ≤ rl + 23; omega)⟩ ⟨(Nat.le_of_ble_eq_true rfl), (Nat.le_of_ble_eq_true rfl)⟩ rfl ⟨(zcs_c rfl zcs_0), (Nat.le_of_ble_eq_true rfl)⟩ hL.1.1 dX2_holds_14) ?_
    rintro x5 _ _ _  ⟨rfl, hV⟩ hG
    refine z_iload_n hC rfl (hL.at 3 rfl) dX2_holds_17 ?_
    refine z_call_z hG (zrunP (ci := 4) hC hG (Nat.le_of_ble_eq_true rfl) (Nat.le_of_ble_eq_true rfl) (zobj hG ho (Nat.le_of_ble_eq_true rfl) (Nat.le_of_ble_eq_true rfl)) (ihX2_holdsT G o ho x5 p1 hp1 hV) kPX2_94_Tree rfl rfl rfl ⟨Nat.le_refl _, (by show 8 + (4 + 11) + rl ≤ rl + 23; omega)⟩ ⟨(Nat.le_of_ble_eq_true rfl), (Nat.le_of_ble_eq_true rfl)⟩ rfl ⟨zcs_0, (Nat.le_of_ble_eq_true rfl)⟩ hL.1.1 dX2_holds_18) ?_
    rintro x6 _ _ _ hx6 ⟨rfl, hV⟩ hG
    obtain ⟨J41, eJ41, hV⟩ := zjn_abs hV
    have hJ41 : ∀ {H : Heap} {locs : List Loc}, zS P s G H locs → ∀ (z41_0 : Int), (z41_0 = 0 ∨ z41_0 = 1) → J41 z41_0 → ∀ (ls : Array Slot), zL ls 4 [] → W p l e ({ frames := rf + 1, cells := 0, slots := 0, locals := rl + 23 } : Room) s m args below meth c H locs 0 0 (MQ below (zQz P (fun r G2 => G = G2 ∧ Q r)) args s 0 0 (zAr P)) (F0 m 41 ls [.int (zI z41_0)]) := by
      intro H locs hG z41_0 hz41_0 hV ls hL
      rw [eJ41] at hV
      exact z_zret hC hG hr hk hz41_0 ⟨rfl, hV⟩ (Nat.le_of_ble_eq_true rfl) (Nat.le_of_ble_eq_true rfl) dX2_holds_41
    obtain ⟨J36, eJ36, hV⟩ := zjn_abs hV
    have hJ36 : ∀ {H : Heap} {locs : List Loc}, zS P s G H locs → J36 () → ∀ (ls : Array Slot), zL ls 4 [] → W p l e ({ frames := rf + 1, cells := 0, slots := 0, locals := rl + 23 } : Room) s m args below meth c H locs 0 0 (MQ below (zQz P (fun r G2 => G = G2 ∧ Q r)) args s 0 0 (zAr P)) (F0 m 36 ls []) := by
      intro H locs hG hV ls hL
      rw [eJ36] at hV
      refine z_iconst hC dX2_holds_36 ?_
      refine z_goto (tgt := 41) hC dX2_holds_37 (by decide) ?_
      exact hJ41 hG 1 (Or.inr rfl) hV _ hL
    refine z_if_ne (tgt := 36) hC (inR_b hx6) hV dX2_holds_21 (by decide) ?_ ?_
    · intro hV
      exact hJ36 hG hV _ (hL.sub [] rfl)
    · intro hV
      refine z_aload_n hC zvr_a rfl (hL.at 1 rfl) dX2_holds_24 ?_
      refine z_aload_n hC zvr_r rfl (hL.at 0 rfl) dX2_holds_25 ?_
      obtain ⟨hO7, hV⟩ := hV
      refine z_call_r hG (zrunVD hC hG hO7 (mX13_second l P G p0 hV) kVX2_82 rfl rfl rfl ⟨(by show 1 + 1 ≤ rf + 1; omega), (by show 8 + (1 + 11) + 12 ≤ rl + 23; omega)⟩ ⟨(Nat.le_of_ble_eq_true rfl), (Nat.le_of_ble_eq_true rfl)⟩ rfl ⟨(zcs_c rfl zcs_0), (Nat.le_of_ble_eq_true rfl)⟩ hL.1.1 dX2_holds_26) ?_
      rintro x8 _ _ _  ⟨rfl, hV⟩ hG
      refine z_iload_n hC rfl (hL.at 3 rfl) dX2_holds_29 ?_
      refine z_call_z hG (zrunP (ci := 4) hC hG (Nat.le_of_ble_eq_true rfl) (Nat.le_of_ble_eq_true rfl) (zobj hG ho (Nat.le_of_ble_eq_true rfl) (Nat.le_of_ble_eq_true rfl)) (ihX2_holdsT G o ho x8 p1 hp1 hV) kPX2_94_Tree rfl rfl rfl ⟨Nat.le_refl _, (by show 8 + (4 + 11) + rl ≤ rl + 23; omega)⟩ ⟨(Nat.le_of_ble_eq_true rfl), (Nat.le_of_ble_eq_true rfl)⟩ rfl ⟨zcs_0, (Nat.le_of_ble_eq_true rfl)⟩ hL.1.1 dX2_holds_30) ?_
      rintro x9 _ _ _ hx9 ⟨rfl, hV⟩ hG
      refine z_if_eq (tgt := 40) hC (inR_b hx9) hV dX2_holds_33 (by decide) ?_ ?_
      · intro hV
        refine z_iconst hC dX2_holds_40 ?_
        exact hJ41 hG 0 (Or.inl rfl) hV _ (hL.sub [] rfl)
      · intro hV
        exact hJ36 hG hV _ (hL.sub [] rfl)
abbrev rgHoldsT (d : Nat) : Room := { frames := 4 + d, cells := 0, slots := 0, locals := 77 + 23 * d }
def vggHoldsT : Nat → (Nat → ZR → Int → ZG → (Int → Prop) → Prop)
  | 0 => fun _ _ _ _ _ => False
  | d + 1 => bX2_holdsT (vggHoldsT d)
def vX2_holdsT (d : Nat) (o : Nat) (p0 : ZR) (p1 : Int) (G : ZG) (Q : Int → Prop) : Prop := (vggHoldsT d) o p0 p1 G Q
theorem vX2_holdsT_s (d : Nat) (o : Nat) (p0 : ZR) (p1 : Int) (G : ZG) (Q : Int → Prop) : vX2_holdsT (d + 1) o p0 p1 G Q = bX2_holdsT (vX2_holdsT d) o p0 p1 G Q := rfl
theorem ggHoldsT (l : Launch) (P : ZP) : ∀ d : Nat, (∀ (G : ZG) (o : Nat) (ho : tCls o = 4) (p0 : ZR) (p1 : Int) (hp1 : inR p1) {Q : Int → Prop}, vX2_holdsT d o p0 p1 G Q → Met l yX2_holds (ws_ yX2_holds cX2_holds 4 (some .boolean)) (rgHoldsT d) (zPc P G [.ref (zA P o 0 0), zrv P p0, .int (zI p1)]) (zQz P (fun r G2 => G = G2 ∧ Q r)) 0 0 (zAr P)) := by
  intro d
  induction d with
  | zero => exact fun G o ho p0 p1 hp1 Q h => False.elim h
  | succ d ih =>
    have e : 77 + 23 * (d + 1) = 77 + 23 * d + 23 := by omega
    exact fun G o ho p0 p1 hp1 Q h => (by
      simp only [rgHoldsT, e]
      exact sX2_holdsT l P (rf := 4 + d) (rl := 77 + 23 * d) (by omega) (by omega) (vggHoldsT d) (ih) _ o ho p0 p1 hp1 h)
theorem mX2_holdsT (l : Launch) (P : ZP) (d : Nat) (G : ZG) (o : Nat) (ho : tCls o = 4) (p0 : ZR) (p1 : Int) (hp1 : inR p1) {Q : Int → Prop} (hV : vX2_holdsT d o p0 p1 G Q) : Met l yX2_holds (ws_ yX2_holds cX2_holds 4 (some .boolean)) (rgHoldsT d) (zPc P G [.ref (zA P o 0 0), zrv P p0, .int (zI p1)]) (zQz P (fun r G2 => G = G2 ∧ Q r)) 0 0 (zAr P) := (ggHoldsT l P d) G o ho p0 p1 hp1 hV
def bX2_matches_2T (wX2_matches_2T : Nat → ZR → Int → ZG → (Int → ZG → Prop) → Prop) (wX2_allT : Nat → ZR → Int → Int → ZG → (Int → ZG → Prop) → Prop) (o : Nat) (p0 : ZR) (p1 : Int) (G : ZG) (Q : Int → ZG → Prop) : Prop := ziO G p0 10 fun (x1 : Int) => zbr (x1 = 0) (ziO G p0 11 fun (x2 : Int) => zbr (x2 = 0) (ziO G p0 12 fun (x3 : Int) => zbr (x3 = 0) (ziO G p0 13 fun (x4 : Int) => zbr (x4 = 0) (ziO G p0 14 fun (x5 : Int) => zbr (x5 = 0) (ziO G p0 15 fun (x6 : Int) => zbr (x6 = 0) (Q 1 G) (zca G p0 15 ∧ vX4_at o p1 5 G fun (x7 : Int) (G1 : ZG) => zjn (fun (z309_0 : Int) (H309 : ZG) => Q z309_0 H309) fun J309 => zbr (x7 ≠ (-1)) (zisO G1 p0 15 ∧ vX15_fits p0 x7 G1 fun (x9 : Int) => zbr (x9 = 0) (J309 0 G1) (zisO G1 p0 15 ∧ vX15_items p0 G1 fun (x11 : ZR) => zisO G1 p0 15 ∧ vX15_beginning p0 x7 G1 fun (x13 : Int) => wX2_allT o x11 p1 x13 G1 fun (x14 : Int) (G2 : ZG) => J309 x14 G2)) (J309 2 G1))) (zca G p0 14 ∧ zisO G p0 14 ∧ vX14_view p0 G fun (x16 : Int) => vX4_seen o x16 p1 G fun (x17 : Int) (G3 : ZG) => zjn (fun (z250_0 : Int) => Q z250_0 G3) fun J250 => zbr (x17 ≠ (-1)) (zisO G3 p0 14 ∧ vX14_of p0 G3 fun (x19 : ZR) => vX2_holdsT 45 o x19 x17 G3 fun (x20 : Int) => zbr (x20 = 0) (J250 0) (J250 1)) (J250 2))) (zca G p0 13 ∧ zisO G p0 13 ∧ vX13_first p0 G fun (x22 : ZR) => wX2_matches_2T o x22 p1 G fun (x23 : Int) (G4 : ZG) => zjn (fun (z198_0 : Int) (H198 : ZG) => Q z198_0 H198) fun J198 => zbr (x23 ≠ 0) (J198 x23 G4) (zisO G4 p0 13 ∧ vX13_second p0 G4 fun (x25 : ZR) => wX2_matches_2T o x25 p1 G4 fun (x26 : Int) (G5 : ZG) => J198 x26 G5))) (zca G p0 12 ∧ zisO G p0 12 ∧ vX12_type p0 G fun (x28 : Int) => vX4_at o p1 x28 G fun (x29 : Int) (G6 : ZG) => zjn (fun (z155_0 : Int) (H155 : ZG) => Q z155_0 H155) fun J155 => zbr (x29 ≠ (-1)) (zisO G6 p0 12 ∧ vX12_constructor p0 G6 fun (x31 : Int) => zbr (x29 ≠ x31) (J155 0 G6) (zisO G6 p0 12 ∧ vX12_fields p0 G6 fun (x33 : ZR) => wX2_allT o x33 p1 0 G6 fun (x34 : Int) (G7 : ZG) => J155 x34 G7)) (J155 2 G6))) (zca G p0 11 ∧ vX4_at o p1 4 G fun (x35 : Int) (G8 : ZG) => zjn (fun (z98_0 : Int) => Q z98_0 G8) fun J98 => zbr (x35 ≠ (-1)) (zisO G8 p0 11 ∧ vX11_holds p0 x35 G8 fun (x37 : Int) => zbr (x37 = 0) (J98 0) (J98 1)) (J98 2))) (zca G p0 10 ∧ zisO G p0 10 ∧ vX10_of p0 G fun (x39 : ZR) => wX2_matches_2T o x39 p1 G fun (x40 : Int) (G9 : ZG) => zisO G9 p0 10 ∧ vX10_name p0 G9 fun (x42 : Int) => zjn (fun (z50_2 : Int) => zaS G9 o 0 6 x42 z50_2 fun (G10 : ZG) => Q x40 G10) fun J50 => zbr (x40 ≠ 1) (zisO G9 p0 10 ∧ vX10_name p0 G9 fun (x44 : Int) => zaL G9 o 0 6 x44 fun (x45 : Int) => J50 x45) (J50 p1))
set_option maxHeartbeats 4000000 in
theorem sX2_matches_2T (l : Launch) (P : ZP) {rf rl : Nat} (hrf : 50 ≤ rf) (hrl : 1135 ≤ rl) (wX2_matches_2T : Nat → ZR → Int → ZG → (Int → ZG → Prop) → Prop) (wX2_allT : Nat → ZR → Int → Int → ZG → (Int → ZG → Prop) → Prop) (ihX2_matches_2T : ∀ (G : ZG) (o : Nat) (ho : tCls o = 4) (p0 : ZR) (p1 : Int) (hp1 : inR p1) {Q : Int → ZG → Prop}, wX2_matches_2T o p0 p1 G Q → Met l yX2_matches_2 (ws_ yX2_matches_2 cX2_matches_2 5 (some .int)) ({ frames := rf, cells := 0, slots := 0, locals := rl } : Room) (zPc P G [.ref (zA P o 0 0), zrv P p0, .int (zI p1)]) (zQi P Q) 0 0 (zAr P)) (ihX2_allT : ∀ (G : ZG) (o : Nat) (ho : tCls o = 4) (p0 : ZR) (p1 : Int) (hp1 : inR p1) (p2 : Int) (hp2 : inR p2) {Q : Int → ZG → Prop}, wX2_allT o p0 p1 p2 G Q → Met l yX2_all (ws_ yX2_all cX2_all 6 (some .int)) ({ frames := rf, cells := 0, slots := 0, locals := rl } : Room) (zPc P G [.ref (zA P o 0 0), zrv P p0, .int (zI p1), .int (zI p2)]) (zQi P Q) 0 0 (zAr P)) (G : ZG) (o : Nat) (ho : tCls o = 4) (p0 : ZR) (p1 : Int) (hp1 : inR p1) {Q : Int → ZG → Prop} (hV : bX2_matches_2T wX2_matches_2T wX2_allT o p0 p1 G Q) : Met l yX2_matches_2 (ws_ yX2_matches_2 cX2_matches_2 5 (some .int)) ({ frames := rf + 1, cells := 0, slots := 0, locals := rl + 25 } : Room) (zPc P G [.ref (zA P o 0 0), zrv P p0, .int (zI p1)]) (zQi P Q) 0 0 (zAr P) := by
  refine zMet RX2 (plainFor_of_name (by decide)) rfl (zcs_c rfl (zcs_c (zrv_cat _ _) (zcs_c rfl zcs_0))) (Nat.le_of_ble_eq_true rfl) (fun p e s m args below meth c ls hC hr hk hn hG hL => ?_)
  unfold bX2_matches_2T at hV
  refine z_aload_n hC zvr_r rfl (hL.at 1 rfl) dX2_matches_2_0 ?_
  refine z_inst hC hG (ci := 10) (by decide) q1392 hV dX2_matches_2_1 ?_
  intro x1 hx1 hV
  refine z_if_eq (tgt := 54) hC (inR_b hx1) hV dX2_matches_2_4 (by decide) ?_ ?_
  · intro hV
    refine z_aload_n hC zvr_r rfl (hL.at 1 rfl) dX2_matches_2_54 ?_
    refine z_inst hC hG (ci := 11) (by decide) q1395 hV dX2_matches_2_55 ?_
    intro x2 hx2 hV
    refine z_if_eq (tgt := 99) hC (inR_b hx2) hV dX2_matches_2_58 (by decide) ?_ ?_
    · intro hV
      refine z_aload_n hC zvr_r rfl (hL.at 1 rfl) dX2_matches_2_99 ?_
      refine z_inst hC hG (ci := 12) (by decide) q1437 hV dX2_matches_2_100 ?_
      intro x3 hx3 hV
      refine z_if_eq (tgt := 156) hC (inR_b hx3) hV dX2_matches_2_103 (by decide) ?_ ?_
      · intro hV
        refine z_aload_n hC zvr_r rfl (hL.at 1 rfl) dX2_matches_2_156 ?_
        refine z_inst hC hG (ci := 13) (by decide) q1448 hV dX2_matches_2_157 ?_
        intro x4 hx4 hV
        refine z_if_eq (tgt := 199) hC (inR_b hx4) hV dX2_matches_2_160 (by decide) ?_ ?_
        · intro hV
          refine z_aload_n hC zvr_r rfl (hL.at 1 rfl) dX2_matches_2_199 ?_
          refine z_inst hC hG (ci := 14) (by decide) q1451 hV dX2_matches_2_200 ?_
          intro x5 hx5 hV
          refine z_if_eq (tgt := 251) hC (inR_b hx5) hV dX2_matches_2_203 (by decide) ?_ ?_
          · intro hV
            refine z_aload_n hC zvr_r rfl (hL.at 1 rfl) dX2_matches_2_251 ?_
            refine z_inst hC hG (ci := 15) (by decide) q1490 hV dX2_matches_2_252 ?_
            intro x6 hx6 hV
            refine z_if_eq (tgt := 310) hC (inR_b hx6) hV dX2_matches_2_255 (by decide) ?_ ?_
            · intro hV
              refine z_iconst hC dX2_matches_2_310 ?_
              exact z_iret hC hG hr hk (inR_lit rfl) hV (Nat.le_of_ble_eq_true rfl) (Nat.le_of_ble_eq_true rfl) dX2_matches_2_311
            · intro hV
              refine z_aload_n hC zvr_r rfl (hL.at 1 rfl) dX2_matches_2_258 ?_
              refine z_cast hC hG (ci := 15) (Nat.le_of_ble_eq_true rfl) (Nat.le_of_ble_eq_true rfl) q1490 hV dX2_matches_2_259 (fun hV => ?_)
              refine z_astore_n (lv' := [(3, zrv P p0), (0, .ref (zA P o 0 0)), (1, zrv P p0), (2, .int (zI p1))]) hC zvr_r rfl hL (by decide) rfl dX2_matches_2_262 (fun ls hL => ?_)
              refine z_aload_n hC zvr_a rfl (hL.at 1 rfl) dX2_matches_2_263 ?_
              refine z_iload_n hC rfl (hL.at 3 rfl) dX2_matches_2_264 ?_
              refine z_iconst hC dX2_matches_2_265 ?_
              refine z_call_i hG (zrunU hC hG (zrecv hC (Nat.le_of_ble_eq_true rfl) (Nat.le_of_ble_eq_true rfl) (zobj hG ho (Nat.le_of_ble_eq_true rfl) (Nat.le_of_ble_eq_true rfl))) (mX4_at l P G o ho p1 hp1 5 (inR_lit rfl) hV) kUX2_53_Tree rfl rfl rfl ⟨(by show 2 + 1 ≤ rf + 1; omega), (by show 8 + (3 + 11) + 36 ≤ rl + 25; omega)⟩ ⟨(Nat.le_of_ble_eq_true rfl), (Nat.le_of_ble_eq_true rfl)⟩ rfl ⟨zcs_0, (Nat.le_of_ble_eq_true rfl)⟩ hL.1.1 dX2_matches_2_266) ?_
              rintro x7 G1 _ _ hx7 hV hG
              refine z_istore (lv' := [(4, .int (zI x7)), (3, zrv P p0), (0, .ref (zA P o 0 0)), (1, zrv P p0), (2, .int (zI p1))]) hC hL (by decide) rfl dX2_matches_2_269 (fun ls hL => ?_)
              refine z_iload hC (hL.at 0 rfl) dX2_matches_2_271 ?_
              refine z_iconst hC dX2_matches_2_273 ?_
              obtain ⟨J309, eJ309, hV⟩ := zjn_abs hV
              have hJ309 : ∀ (z309_0 : Int) (H309 : ZG), inR z309_0 → J309 z309_0 H309 → ∀ (H : Heap) (locs : List Loc) (ls : Array Slot), zS P s H309 H locs → zL ls 5 [] → W p l e ({ frames := rf + 1, cells := 0, slots := 0, locals := rl + 25 } : Room) s m args below meth c H locs 0 0 (MQ below (zQi P Q) args s 0 0 (zAr P)) (F0 m 309 ls [.int (zI z309_0)]) := by
                intro z309_0 H309 hz309_0 hV H locs ls hG hL
                rw [eJ309] at hV
                exact z_iret hC hG hr hk hz309_0 hV (Nat.le_of_ble_eq_true rfl) (Nat.le_of_ble_eq_true rfl) dX2_matches_2_309
              refine z_icmp_ne (tgt := 281) hC hx7 (inR_lit rfl) hV dX2_matches_2_274 (by decide) ?_ ?_
              · intro hV
                refine z_aload_n hC zvr_r rfl (hL.at 1 rfl) dX2_matches_2_281 ?_
                refine z_iload hC (hL.at 0 rfl) dX2_matches_2_282 ?_
                obtain ⟨hO8, hV⟩ := hV
                refine z_call_z hG (zrunVD hC hG hO8 (mX15_fits l P G1 p0 x7 hx7 hV) kVX2_99 rfl rfl rfl ⟨(by show 1 + 1 ≤ rf + 1; omega), (by show 8 + (2 + 11) + 12 ≤ rl + 25; omega)⟩ ⟨(Nat.le_of_ble_eq_true rfl), (Nat.le_of_ble_eq_true rfl)⟩ rfl ⟨zcs_0, (Nat.le_of_ble_eq_true rfl)⟩ hL.1.1 dX2_matches_2_284) ?_
                rintro x9 _ _ _ hx9 ⟨rfl, hV⟩ hG
                refine z_if_eq (tgt := 308) hC (inR_b hx9) hV dX2_matches_2_287 (by decide) ?_ ?_
                · intro hV
                  refine z_iconst hC dX2_matches_2_308 ?_
                  exact hJ309 0 G1 (inR_lit rfl) hV _ _ _ hG (hL.sub [] rfl)
                · intro hV
                  refine z_aload_n hC zvr_a rfl (hL.at 2 rfl) dX2_matches_2_290 ?_
                  refine z_aload_n hC zvr_r rfl (hL.at 1 rfl) dX2_matches_2_291 ?_
                  obtain ⟨hO10, hV⟩ := hV
                  refine z_call_r hG (zrunVD hC hG hO10 (mX15_items l P G1 p0 hV) kVX2_102 rfl rfl rfl ⟨(by show 1 + 1 ≤ rf + 1; omega), (by show 8 + (1 + 11) + 12 ≤ rl + 25; omega)⟩ ⟨(Nat.le_of_ble_eq_true rfl), (Nat.le_of_ble_eq_true rfl)⟩ rfl ⟨(zcs_c rfl zcs_0), (Nat.le_of_ble_eq_true rfl)⟩ hL.1.1 dX2_matches_2_292) ?_
                  rintro x11 _ _ _  ⟨rfl, hV⟩ hG
                  refine z_iload_n hC rfl (hL.at 4 rfl) dX2_matches_2_295 ?_
                  refine z_aload_n hC zvr_r rfl (hL.at 1 rfl) dX2_matches_2_296 ?_
                  refine z_iload hC (hL.at 0 rfl) dX2_matches_2_297 ?_
                  obtain ⟨hO12, hV⟩ := hV
                  refine z_call_i hG (zrunVD hC hG hO12 (mX15_beginning l P G1 p0 x7 hx7 hV) kVX2_105 rfl rfl rfl ⟨(by show 1 + 1 ≤ rf + 1; omega), (by show 8 + (2 + 11) + 12 ≤ rl + 25; omega)⟩ ⟨(Nat.le_of_ble_eq_true rfl), (Nat.le_of_ble_eq_true rfl)⟩ rfl ⟨(zcs_c rfl (zcs_c (zrv_cat _ _) (zcs_c rfl zcs_0))), (Nat.le_of_ble_eq_true rfl)⟩ hL.1.1 dX2_matches_2_299) ?_
                  rintro x13 _ _ _ hx13 ⟨rfl, hV⟩ hG
                  refine z_call_i hG (zrunP (ci := 4) hC hG (Nat.le_of_ble_eq_true rfl) (Nat.le_of_ble_eq_true rfl) (zobj hG ho (Nat.le_of_ble_eq_true rfl) (Nat.le_of_ble_eq_true rfl)) (ihX2_allT G1 o ho x11 p1 hp1 x13 hx13 hV) kPX2_73_Tree rfl rfl rfl ⟨Nat.le_refl _, (by show 8 + (6 + 11) + rl ≤ rl + 25; omega)⟩ ⟨(Nat.le_of_ble_eq_true rfl), (Nat.le_of_ble_eq_true rfl)⟩ rfl ⟨zcs_0, (Nat.le_of_ble_eq_true rfl)⟩ hL.1.1 dX2_matches_2_302) ?_
                  rintro x14 G2 _ _ hx14 hV hG
                  refine z_goto (tgt := 309) hC dX2_matches_2_305 (by decide) ?_
                  exact hJ309 x14 G2 hx14 hV _ _ _ hG (hL.sub [] rfl)
              · intro hV
                refine z_iconst hC dX2_matches_2_277 ?_
                refine z_goto (tgt := 309) hC dX2_matches_2_278 (by decide) ?_
                exact hJ309 2 G1 (inR_lit rfl) hV _ _ _ hG (hL.sub [] rfl)
          · intro hV
            refine z_aload_n hC zvr_r rfl (hL.at 1 rfl) dX2_matches_2_206 ?_
            refine z_cast hC hG (ci := 14) (Nat.le_of_ble_eq_true rfl) (Nat.le_of_ble_eq_true rfl) q1451 hV dX2_matches_2_207 (fun hV => ?_)
            refine z_astore_n (lv' := [(3, zrv P p0), (0, .ref (zA P o 0 0)), (1, zrv P p0), (2, .int (zI p1))]) hC zvr_r rfl hL (by decide) rfl dX2_matches_2_210 (fun ls hL => ?_)
            refine z_aload_n hC zvr_a rfl (hL.at 1 rfl) dX2_matches_2_211 ?_
            refine z_aload_n hC zvr_r rfl (hL.at 0 rfl) dX2_matches_2_212 ?_
            obtain ⟨hO15, hV⟩ := hV
            refine z_call_i hG (zrunVD hC hG hO15 (mX14_view l P G p0 hV) kVX2_87 rfl rfl rfl ⟨(by show 1 + 1 ≤ rf + 1; omega), (by show 8 + (1 + 11) + 12 ≤ rl + 25; omega)⟩ ⟨(Nat.le_of_ble_eq_true rfl), (Nat.le_of_ble_eq_true rfl)⟩ rfl ⟨(zcs_c rfl zcs_0), (Nat.le_of_ble_eq_true rfl)⟩ hL.1.1 dX2_matches_2_213) ?_
            rintro x16 _ _ _ hx16 ⟨rfl, hV⟩ hG
            refine z_iload_n hC rfl (hL.at 3 rfl) dX2_matches_2_216 ?_
            refine z_call_i hG (zrunU hC hG (zrecv hC (Nat.le_of_ble_eq_true rfl) (Nat.le_of_ble_eq_true rfl) (zobj hG ho (Nat.le_of_ble_eq_true rfl) (Nat.le_of_ble_eq_true rfl))) (mX4_seen l P G o ho x16 hx16 p1 hp1 hV) kUX2_90_Tree rfl rfl rfl ⟨(by show 2 + 1 ≤ rf + 1; omega), (by show 8 + (3 + 11) + 36 ≤ rl + 25; omega)⟩ ⟨(Nat.le_of_ble_eq_true rfl), (Nat.le_of_ble_eq_true rfl)⟩ rfl ⟨zcs_0, (Nat.le_of_ble_eq_true rfl)⟩ hL.1.1 dX2_matches_2_217) ?_
            rintro x17 G3 _ _ hx17 hV hG
            refine z_istore (lv' := [(4, .int (zI x17)), (3, zrv P p0), (0, .ref (zA P o 0 0)), (1, zrv P p0), (2, .int (zI p1))]) hC hL (by decide) rfl dX2_matches_2_220 (fun ls hL => ?_)
            refine z_iload hC (hL.at 0 rfl) dX2_matches_2_222 ?_
            refine z_iconst hC dX2_matches_2_224 ?_
            obtain ⟨J250, eJ250, hV⟩ := zjn_abs hV
            have hJ250 : ∀ {H : Heap} {locs : List Loc}, zS P s G3 H locs → ∀ (z250_0 : Int), inR z250_0 → J250 z250_0 → ∀ (ls : Array Slot), zL ls 5 [] → W p l e ({ frames := rf + 1, cells := 0, slots := 0, locals := rl + 25 } : Room) s m args below meth c H locs 0 0 (MQ below (zQi P Q) args s 0 0 (zAr P)) (F0 m 250 ls [.int (zI z250_0)]) := by
              intro H locs hG z250_0 hz250_0 hV ls hL
              rw [eJ250] at hV
              exact z_iret hC hG hr hk hz250_0 hV (Nat.le_of_ble_eq_true rfl) (Nat.le_of_ble_eq_true rfl) dX2_matches_2_250
            refine z_icmp_ne (tgt := 232) hC hx17 (inR_lit rfl) hV dX2_matches_2_225 (by decide) ?_ ?_
            · intro hV
              refine z_aload_n hC zvr_a rfl (hL.at 2 rfl) dX2_matches_2_232 ?_
              refine z_aload_n hC zvr_r rfl (hL.at 1 rfl) dX2_matches_2_233 ?_
              obtain ⟨hO18, hV⟩ := hV
              refine z_call_r hG (zrunVD hC hG hO18 (mX14_of l P G3 p0 hV) kVX2_93 rfl rfl rfl ⟨(by show 1 + 1 ≤ rf + 1; omega), (by show 8 + (1 + 11) + 12 ≤ rl + 25; omega)⟩ ⟨(Nat.le_of_ble_eq_true rfl), (Nat.le_of_ble_eq_true rfl)⟩ rfl ⟨(zcs_c rfl zcs_0), (Nat.le_of_ble_eq_true rfl)⟩ hL.1.1 dX2_matches_2_234) ?_
              rintro x19 _ _ _  ⟨rfl, hV⟩ hG
              refine z_iload hC (hL.at 0 rfl) dX2_matches_2_237 ?_
              refine z_call_z hG (zrunP (ci := 4) hC hG (Nat.le_of_ble_eq_true rfl) (Nat.le_of_ble_eq_true rfl) (zobj hG ho (Nat.le_of_ble_eq_true rfl) (Nat.le_of_ble_eq_true rfl)) (mX2_holdsT l P 45 G3 o ho x19 x17 hx17 hV) kPX2_94_Tree rfl rfl rfl ⟨(by show 49 + 1 ≤ rf + 1; omega), (by show 8 + (4 + 11) + 1112 ≤ rl + 25; omega)⟩ ⟨(Nat.le_of_ble_eq_true rfl), (Nat.le_of_ble_eq_true rfl)⟩ rfl ⟨zcs_0, (Nat.le_of_ble_eq_true rfl)⟩ hL.1.1 dX2_matches_2_239) ?_
              rintro x20 _ _ _ hx20 ⟨rfl, hV⟩ hG
              refine z_if_eq (tgt := 249) hC (inR_b hx20) hV dX2_matches_2_242 (by decide) ?_ ?_
              · intro hV
                refine z_iconst hC dX2_matches_2_249 ?_
                exact hJ250 hG 0 (inR_lit rfl) hV _ (hL.sub [] rfl)
              · intro hV
                refine z_iconst hC dX2_matches_2_245 ?_
                refine z_goto (tgt := 250) hC dX2_matches_2_246 (by decide) ?_
                exact hJ250 hG 1 (inR_lit rfl) hV _ (hL.sub [] rfl)
            · intro hV
              refine z_iconst hC dX2_matches_2_228 ?_
              refine z_goto (tgt := 250) hC dX2_matches_2_229 (by decide) ?_
              exact hJ250 hG 2 (inR_lit rfl) hV _ (hL.sub [] rfl)
        · intro hV
          refine z_aload_n hC zvr_r rfl (hL.at 1 rfl) dX2_matches_2_163 ?_
          refine z_cast hC hG (ci := 13) (Nat.le_of_ble_eq_true rfl) (Nat.le_of_ble_eq_true rfl) q1448 hV dX2_matches_2_164 (fun hV => ?_)
          refine z_astore_n (lv' := [(3, zrv P p0), (0, .ref (zA P o 0 0)), (1, zrv P p0), (2, .int (zI p1))]) hC zvr_r rfl hL (by decide) rfl dX2_matches_2_167 (fun ls hL => ?_)
          refine z_aload_n hC zvr_a rfl (hL.at 1 rfl) dX2_matches_2_168 ?_
          refine z_aload_n hC zvr_r rfl (hL.at 0 rfl) dX2_matches_2_169 ?_
          obtain ⟨hO21, hV⟩ := hV
          refine z_call_r hG (zrunVD hC hG hO21 (mX13_first l P G p0 hV) kVX2_79 rfl rfl rfl ⟨(by show 1 + 1 ≤ rf + 1; omega), (by show 8 + (1 + 11) + 12 ≤ rl + 25; omega)⟩ ⟨(Nat.le_of_ble_eq_true rfl), (Nat.le_of_ble_eq_true rfl)⟩ rfl ⟨(zcs_c rfl zcs_0), (Nat.le_of_ble_eq_true rfl)⟩ hL.1.1 dX2_matches_2_170) ?_
          rintro x22 _ _ _  ⟨rfl, hV⟩ hG
          refine z_iload_n hC rfl (hL.at 3 rfl) dX2_matches_2_173 ?_
          refine z_call_i hG (zrunP (ci := 4) hC hG (Nat.le_of_ble_eq_true rfl) (Nat.le_of_ble_eq_true rfl) (zobj hG ho (Nat.le_of_ble_eq_true rfl) (Nat.le_of_ble_eq_true rfl)) (ihX2_matches_2T G o ho x22 p1 hp1 hV) kPX2_38_Tree rfl rfl rfl ⟨Nat.le_refl _, (by show 8 + (5 + 11) + rl ≤ rl + 25; omega)⟩ ⟨(Nat.le_of_ble_eq_true rfl), (Nat.le_of_ble_eq_true rfl)⟩ rfl ⟨zcs_0, (Nat.le_of_ble_eq_true rfl)⟩ hL.1.1 dX2_matches_2_174) ?_
          rintro x23 G4 _ _ hx23 hV hG
          refine z_istore (lv' := [(4, .int (zI x23)), (3, zrv P p0), (0, .ref (zA P o 0 0)), (1, zrv P p0), (2, .int (zI p1))]) hC hL (by decide) rfl dX2_matches_2_177 (fun ls hL => ?_)
          refine z_iload hC (hL.at 0 rfl) dX2_matches_2_179 ?_
          obtain ⟨J198, eJ198, hV⟩ := zjn_abs hV
          have hJ198 : ∀ (z198_0 : Int) (H198 : ZG), inR z198_0 → J198 z198_0 H198 → ∀ (H : Heap) (locs : List Loc) (ls : Array Slot), zS P s H198 H locs → zL ls 5 [] → W p l e ({ frames := rf + 1, cells := 0, slots := 0, locals := rl + 25 } : Room) s m args below meth c H locs 0 0 (MQ below (zQi P Q) args s 0 0 (zAr P)) (F0 m 198 ls [.int (zI z198_0)]) := by
            intro z198_0 H198 hz198_0 hV H locs ls hG hL
            rw [eJ198] at hV
            exact z_iret hC hG hr hk hz198_0 hV (Nat.le_of_ble_eq_true rfl) (Nat.le_of_ble_eq_true rfl) dX2_matches_2_198
          refine z_if_ne (tgt := 196) hC hx23 hV dX2_matches_2_181 (by decide) ?_ ?_
          · intro hV
            refine z_iload hC (hL.at 0 rfl) dX2_matches_2_196 ?_
            exact hJ198 x23 G4 hx23 hV _ _ _ hG (hL.sub [] rfl)
          · intro hV
            refine z_aload_n hC zvr_a rfl (hL.at 2 rfl) dX2_matches_2_184 ?_
            refine z_aload_n hC zvr_r rfl (hL.at 1 rfl) dX2_matches_2_185 ?_
            obtain ⟨hO24, hV⟩ := hV
            refine z_call_r hG (zrunVD hC hG hO24 (mX13_second l P G4 p0 hV) kVX2_82 rfl rfl rfl ⟨(by show 1 + 1 ≤ rf + 1; omega), (by show 8 + (1 + 11) + 12 ≤ rl + 25; omega)⟩ ⟨(Nat.le_of_ble_eq_true rfl), (Nat.le_of_ble_eq_true rfl)⟩ rfl ⟨(zcs_c rfl zcs_0), (Nat.le_of_ble_eq_true rfl)⟩ hL.1.1 dX2_matches_2_186) ?_
            rintro x25 _ _ _  ⟨rfl, hV⟩ hG
            refine z_iload_n hC rfl (hL.at 4 rfl) dX2_matches_2_189 ?_
            refine z_call_i hG (zrunP (ci := 4) hC hG (Nat.le_of_ble_eq_true rfl) (Nat.le_of_ble_eq_true rfl) (zobj hG ho (Nat.le_of_ble_eq_true rfl) (Nat.le_of_ble_eq_true rfl)) (ihX2_matches_2T G4 o ho x25 p1 hp1 hV) kPX2_38_Tree rfl rfl rfl ⟨Nat.le_refl _, (by show 8 + (5 + 11) + rl ≤ rl + 25; omega)⟩ ⟨(Nat.le_of_ble_eq_true rfl), (Nat.le_of_ble_eq_true rfl)⟩ rfl ⟨zcs_0, (Nat.le_of_ble_eq_true rfl)⟩ hL.1.1 dX2_matches_2_190) ?_
            rintro x26 G5 _ _ hx26 hV hG
            refine z_goto (tgt := 198) hC dX2_matches_2_193 (by decide) ?_
            exact hJ198 x26 G5 hx26 hV _ _ _ hG (hL.sub [] rfl)
      · intro hV
        refine z_aload_n hC zvr_r rfl (hL.at 1 rfl) dX2_matches_2_106 ?_
        refine z_cast hC hG (ci := 12) (Nat.le_of_ble_eq_true rfl) (Nat.le_of_ble_eq_true rfl) q1437 hV dX2_matches_2_107 (fun hV => ?_)
        refine z_astore_n (lv' := [(3, zrv P p0), (0, .ref (zA P o 0 0)), (1, zrv P p0), (2, .int (zI p1))]) hC zvr_r rfl hL (by decide) rfl dX2_matches_2_110 (fun ls hL => ?_)
        refine z_aload_n hC zvr_a rfl (hL.at 1 rfl) dX2_matches_2_111 ?_
        refine z_iload_n hC rfl (hL.at 3 rfl) dX2_matches_2_112 ?_
        refine z_aload_n hC zvr_r rfl (hL.at 0 rfl) dX2_matches_2_113 ?_
        obtain ⟨hO27, hV⟩ := hV
        refine z_call_i hG (zrunVD hC hG hO27 (mX12_type l P G p0 hV) kVX2_63 rfl rfl rfl ⟨(by show 1 + 1 ≤ rf + 1; omega), (by show 8 + (1 + 11) + 12 ≤ rl + 25; omega)⟩ ⟨(Nat.le_of_ble_eq_true rfl), (Nat.le_of_ble_eq_true rfl)⟩ rfl ⟨(zcs_c rfl (zcs_c rfl zcs_0)), (Nat.le_of_ble_eq_true rfl)⟩ hL.1.1 dX2_matches_2_114) ?_
        rintro x28 _ _ _ hx28 ⟨rfl, hV⟩ hG
        refine z_call_i hG (zrunU hC hG (zrecv hC (Nat.le_of_ble_eq_true rfl) (Nat.le_of_ble_eq_true rfl) (zobj hG ho (Nat.le_of_ble_eq_true rfl) (Nat.le_of_ble_eq_true rfl))) (mX4_at l P G o ho p1 hp1 x28 hx28 hV) kUX2_53_Tree rfl rfl rfl ⟨(by show 2 + 1 ≤ rf + 1; omega), (by show 8 + (3 + 11) + 36 ≤ rl + 25; omega)⟩ ⟨(Nat.le_of_ble_eq_true rfl), (Nat.le_of_ble_eq_true rfl)⟩ rfl ⟨zcs_0, (Nat.le_of_ble_eq_true rfl)⟩ hL.1.1 dX2_matches_2_117) ?_
        rintro x29 G6 _ _ hx29 hV hG
        refine z_istore (lv' := [(4, .int (zI x29)), (3, zrv P p0), (0, .ref (zA P o 0 0)), (1, zrv P p0), (2, .int (zI p1))]) hC hL (by decide) rfl dX2_matches_2_120 (fun ls hL => ?_)
        refine z_iload hC (hL.at 0 rfl) dX2_matches_2_122 ?_
        refine z_iconst hC dX2_matches_2_124 ?_
        obtain ⟨J155, eJ155, hV⟩ := zjn_abs hV
        have hJ155 : ∀ (z155_0 : Int) (H155 : ZG), inR z155_0 → J155 z155_0 H155 → ∀ (H : Heap) (locs : List Loc) (ls : Array Slot), zS P s H155 H locs → zL ls 5 [] → W p l e ({ frames := rf + 1, cells := 0, slots := 0, locals := rl + 25 } : Room) s m args below meth c H locs 0 0 (MQ below (zQi P Q) args s 0 0 (zAr P)) (F0 m 155 ls [.int (zI z155_0)]) := by
          intro z155_0 H155 hz155_0 hV H locs ls hG hL
          rw [eJ155] at hV
          exact z_iret hC hG hr hk hz155_0 hV (Nat.le_of_ble_eq_true rfl) (Nat.le_of_ble_eq_true rfl) dX2_matches_2_155
        refine z_icmp_ne (tgt := 132) hC hx29 (inR_lit rfl) hV dX2_matches_2_125 (by decide) ?_ ?_
        · intro hV
          refine z_iload hC (hL.at 0 rfl) dX2_matches_2_132 ?_
          refine z_aload_n hC zvr_r rfl (hL.at 1 rfl) dX2_matches_2_134 ?_
          obtain ⟨hO30, hV⟩ := hV
          refine z_call_i hG (zrunVD hC hG hO30 (mX12_constructor l P G6 p0 hV) kVX2_66 rfl rfl rfl ⟨(by show 1 + 1 ≤ rf + 1; omega), (by show 8 + (1 + 11) + 12 ≤ rl + 25; omega)⟩ ⟨(Nat.le_of_ble_eq_true rfl), (Nat.le_of_ble_eq_true rfl)⟩ rfl ⟨(zcs_c rfl zcs_0), (Nat.le_of_ble_eq_true rfl)⟩ hL.1.1 dX2_matches_2_135) ?_
          rintro x31 _ _ _ hx31 ⟨rfl, hV⟩ hG
          refine z_icmp_ne (tgt := 154) hC hx29 hx31 hV dX2_matches_2_138 (by decide) ?_ ?_
          · intro hV
            refine z_iconst hC dX2_matches_2_154 ?_
            exact hJ155 0 G6 (inR_lit rfl) hV _ _ _ hG (hL.sub [] rfl)
          · intro hV
            refine z_aload_n hC zvr_a rfl (hL.at 2 rfl) dX2_matches_2_141 ?_
            refine z_aload_n hC zvr_r rfl (hL.at 1 rfl) dX2_matches_2_142 ?_
            obtain ⟨hO32, hV⟩ := hV
            refine z_call_r hG (zrunVD hC hG hO32 (mX12_fields l P G6 p0 hV) kVX2_69 rfl rfl rfl ⟨(by show 1 + 1 ≤ rf + 1; omega), (by show 8 + (1 + 11) + 12 ≤ rl + 25; omega)⟩ ⟨(Nat.le_of_ble_eq_true rfl), (Nat.le_of_ble_eq_true rfl)⟩ rfl ⟨(zcs_c rfl zcs_0), (Nat.le_of_ble_eq_true rfl)⟩ hL.1.1 dX2_matches_2_143) ?_
            rintro x33 _ _ _  ⟨rfl, hV⟩ hG
            refine z_iload_n hC rfl (hL.at 4 rfl) dX2_matches_2_146 ?_
            refine z_iconst hC dX2_matches_2_147 ?_
            refine z_call_i hG (zrunP (ci := 4) hC hG (Nat.le_of_ble_eq_true rfl) (Nat.le_of_ble_eq_true rfl) (zobj hG ho (Nat.le_of_ble_eq_true rfl) (Nat.le_of_ble_eq_true rfl)) (ihX2_allT G6 o ho x33 p1 hp1 0 (inR_lit rfl) hV) kPX2_73_Tree rfl rfl rfl ⟨Nat.le_refl _, (by show 8 + (6 + 11) + rl ≤ rl + 25; omega)⟩ ⟨(Nat.le_of_ble_eq_true rfl), (Nat.le_of_ble_eq_true rfl)⟩ rfl ⟨zcs_0, (Nat.le_of_ble_eq_true rfl)⟩ hL.1.1 dX2_matches_2_148) ?_
            rintro x34 G7 _ _ hx34 hV hG
            refine z_goto (tgt := 155) hC dX2_matches_2_151 (by decide) ?_
            exact hJ155 x34 G7 hx34 hV _ _ _ hG (hL.sub [] rfl)
        · intro hV
          refine z_iconst hC dX2_matches_2_128 ?_
          refine z_goto (tgt := 155) hC dX2_matches_2_129 (by decide) ?_
          exact hJ155 2 G6 (inR_lit rfl) hV _ _ _ hG (hL.sub [] rfl)
    · intro hV
      refine z_aload_n hC zvr_r rfl (hL.at 1 rfl) dX2_matches_2_61 ?_
      refine z_cast hC hG (ci := 11) (Nat.le_of_ble_eq_true rfl) (Nat.le_of_ble_eq_true rfl) q1395 hV dX2_matches_2_62 (fun hV => ?_)
      refine z_astore_n (lv' := [(3, zrv P p0), (0, .ref (zA P o 0 0)), (1, zrv P p0), (2, .int (zI p1))]) hC zvr_r rfl hL (by decide) rfl dX2_matches_2_65 (fun ls hL => ?_)
      refine z_aload_n hC zvr_a rfl (hL.at 1 rfl) dX2_matches_2_66 ?_
      refine z_iload_n hC rfl (hL.at 3 rfl) dX2_matches_2_67 ?_
      refine z_iconst hC dX2_matches_2_68 ?_
      refine z_call_i hG (zrunU hC hG (zrecv hC (Nat.le_of_ble_eq_true rfl) (Nat.le_of_ble_eq_true rfl) (zobj hG ho (Nat.le_of_ble_eq_true rfl) (Nat.le_of_ble_eq_true rfl))) (mX4_at l P G o ho p1 hp1 4 (inR_lit rfl) hV) kUX2_53_Tree rfl rfl rfl ⟨(by show 2 + 1 ≤ rf + 1; omega), (by show 8 + (3 + 11) + 36 ≤ rl + 25; omega)⟩ ⟨(Nat.le_of_ble_eq_true rfl), (Nat.le_of_ble_eq_true rfl)⟩ rfl ⟨zcs_0, (Nat.le_of_ble_eq_true rfl)⟩ hL.1.1 dX2_matches_2_69) ?_
      rintro x35 G8 _ _ hx35 hV hG
      refine z_istore (lv' := [(4, .int (zI x35)), (3, zrv P p0), (0, .ref (zA P o 0 0)), (1, zrv P p0), (2, .int (zI p1))]) hC hL (by decide) rfl dX2_matches_2_72 (fun ls hL => ?_)
      refine z_iload hC (hL.at 0 rfl) dX2_matches_2_74 ?_
      refine z_iconst hC dX2_matches_2_76 ?_
      obtain ⟨J98, eJ98, hV⟩ := zjn_abs hV
      have hJ98 : ∀ {H : Heap} {locs : List Loc}, zS P s G8 H locs → ∀ (z98_0 : Int), inR z98_0 → J98 z98_0 → ∀ (ls : Array Slot), zL ls 5 [] → W p l e ({ frames := rf + 1, cells := 0, slots := 0, locals := rl + 25 } : Room) s m args below meth c H locs 0 0 (MQ below (zQi P Q) args s 0 0 (zAr P)) (F0 m 98 ls [.int (zI z98_0)]) := by
        intro H locs hG z98_0 hz98_0 hV ls hL
        rw [eJ98] at hV
        exact z_iret hC hG hr hk hz98_0 hV (Nat.le_of_ble_eq_true rfl) (Nat.le_of_ble_eq_true rfl) dX2_matches_2_98
      refine z_icmp_ne (tgt := 84) hC hx35 (inR_lit rfl) hV dX2_matches_2_77 (by decide) ?_ ?_
      · intro hV
        refine z_aload_n hC zvr_r rfl (hL.at 1 rfl) dX2_matches_2_84 ?_
        refine z_iload hC (hL.at 0 rfl) dX2_matches_2_85 ?_
        obtain ⟨hO36, hV⟩ := hV
        refine z_call_z hG (zrunVD hC hG hO36 (mX11_holds l P G8 p0 x35 hx35 hV) kVX2_57 rfl rfl rfl ⟨(by show 2 + 1 ≤ rf + 1; omega), (by show 8 + (2 + 11) + 34 ≤ rl + 25; omega)⟩ ⟨(Nat.le_of_ble_eq_true rfl), (Nat.le_of_ble_eq_true rfl)⟩ rfl ⟨zcs_0, (Nat.le_of_ble_eq_true rfl)⟩ hL.1.1 dX2_matches_2_87) ?_
        rintro x37 _ _ _ hx37 ⟨rfl, hV⟩ hG
        refine z_if_eq (tgt := 97) hC (inR_b hx37) hV dX2_matches_2_90 (by decide) ?_ ?_
        · intro hV
          refine z_iconst hC dX2_matches_2_97 ?_
          exact hJ98 hG 0 (inR_lit rfl) hV _ (hL.sub [] rfl)
        · intro hV
          refine z_iconst hC dX2_matches_2_93 ?_
          refine z_goto (tgt := 98) hC dX2_matches_2_94 (by decide) ?_
          exact hJ98 hG 1 (inR_lit rfl) hV _ (hL.sub [] rfl)
      · intro hV
        refine z_iconst hC dX2_matches_2_80 ?_
        refine z_goto (tgt := 98) hC dX2_matches_2_81 (by decide) ?_
        exact hJ98 hG 2 (inR_lit rfl) hV _ (hL.sub [] rfl)
  · intro hV
    refine z_aload_n hC zvr_r rfl (hL.at 1 rfl) dX2_matches_2_7 ?_
    refine z_cast hC hG (ci := 10) (Nat.le_of_ble_eq_true rfl) (Nat.le_of_ble_eq_true rfl) q1392 hV dX2_matches_2_8 (fun hV => ?_)
    refine z_astore_n (lv' := [(3, zrv P p0), (0, .ref (zA P o 0 0)), (1, zrv P p0), (2, .int (zI p1))]) hC zvr_r rfl hL (by decide) rfl dX2_matches_2_11 (fun ls hL => ?_)
    refine z_aload_n hC zvr_a rfl (hL.at 1 rfl) dX2_matches_2_12 ?_
    refine z_aload_n hC zvr_r rfl (hL.at 0 rfl) dX2_matches_2_13 ?_
    obtain ⟨hO38, hV⟩ := hV
    refine z_call_r hG (zrunVD hC hG hO38 (mX10_of l P G p0 hV) kVX2_44 rfl rfl rfl ⟨(by show 1 + 1 ≤ rf + 1; omega), (by show 8 + (1 + 11) + 12 ≤ rl + 25; omega)⟩ ⟨(Nat.le_of_ble_eq_true rfl), (Nat.le_of_ble_eq_true rfl)⟩ rfl ⟨(zcs_c rfl zcs_0), (Nat.le_of_ble_eq_true rfl)⟩ hL.1.1 dX2_matches_2_14) ?_
    rintro x39 _ _ _  ⟨rfl, hV⟩ hG
    refine z_iload_n hC rfl (hL.at 3 rfl) dX2_matches_2_17 ?_
    refine z_call_i hG (zrunP (ci := 4) hC hG (Nat.le_of_ble_eq_true rfl) (Nat.le_of_ble_eq_true rfl) (zobj hG ho (Nat.le_of_ble_eq_true rfl) (Nat.le_of_ble_eq_true rfl)) (ihX2_matches_2T G o ho x39 p1 hp1 hV) kPX2_38_Tree rfl rfl rfl ⟨Nat.le_refl _, (by show 8 + (5 + 11) + rl ≤ rl + 25; omega)⟩ ⟨(Nat.le_of_ble_eq_true rfl), (Nat.le_of_ble_eq_true rfl)⟩ rfl ⟨zcs_0, (Nat.le_of_ble_eq_true rfl)⟩ hL.1.1 dX2_matches_2_18) ?_
    rintro x40 G9 _ _ hx40 hV hG
    refine z_istore (lv' := [(4, .int (zI x40)), (3, zrv P p0), (0, .ref (zA P o 0 0)), (1, zrv P p0), (2, .int (zI p1))]) hC hL (by decide) rfl dX2_matches_2_21 (fun ls hL => ?_)
    refine z_aload_n hC zvr_a rfl (hL.at 2 rfl) dX2_matches_2_23 ?_
    refine z_getA hC hG kFX2_15_4 ho rfl dX2_matches_2_24 ?_
    refine z_aload_n hC zvr_r rfl (hL.at 1 rfl) dX2_matches_2_27 ?_
    obtain ⟨hO41, hV⟩ := hV
    refine z_call_i hG (zrunVD hC hG hO41 (mX10_name l P G9 p0 hV) kVX2_47 rfl rfl rfl ⟨(by show 1 + 1 ≤ rf + 1; omega), (by show 8 + (1 + 11) + 12 ≤ rl + 25; omega)⟩ ⟨(Nat.le_of_ble_eq_true rfl), (Nat.le_of_ble_eq_true rfl)⟩ rfl ⟨(zcs_c rfl zcs_0), (Nat.le_of_ble_eq_true rfl)⟩ hL.1.1 dX2_matches_2_28) ?_
    rintro x42 _ _ _ hx42 ⟨rfl, hV⟩ hG
    refine z_iload hC (hL.at 0 rfl) dX2_matches_2_31 ?_
    refine z_iconst hC dX2_matches_2_33 ?_
    obtain ⟨J50, eJ50, hV⟩ := zjn_abs hV
    have hJ50 : ∀ {H : Heap} {locs : List Loc}, zS P s G9 H locs → ∀ (z50_2 : Int), inR z50_2 → J50 z50_2 → ∀ (ls : Array Slot), zL ls 5 [(4, .int (zI x40))] → W p l e ({ frames := rf + 1, cells := 0, slots := 0, locals := rl + 25 } : Room) s m args below meth c H locs 0 0 (MQ below (zQi P Q) args s 0 0 (zAr P)) (F0 m 50 ls [.int (zI z50_2), .int (zI x42), .ref (zA P o 1 0)]) := by
      intro H locs hG z50_2 hz50_2 hV ls hL
      rw [eJ50] at hV
      refine z_iast hC hG ho (Nat.le_of_ble_eq_true rfl) (Nat.le_of_ble_eq_true rfl) rfl rfl rfl hx42 hz50_2 hV dX2_matches_2_50 ?_
      intro G10 _ _ hG hV
      refine z_iload hC (hL.at 0 rfl) dX2_matches_2_51 ?_
      exact z_iret hC hG hr hk hx40 hV (Nat.le_of_ble_eq_true rfl) (Nat.le_of_ble_eq_true rfl) dX2_matches_2_53
    refine z_icmp_ne (tgt := 41) hC hx40 (inR_lit rfl) hV dX2_matches_2_34 (by decide) ?_ ?_
    · intro hV
      refine z_aload_n hC zvr_a rfl (hL.at 2 rfl) dX2_matches_2_41 ?_
      refine z_getA hC hG kFX2_15_4 ho rfl dX2_matches_2_42 ?_
      refine z_aload_n hC zvr_r rfl (hL.at 1 rfl) dX2_matches_2_45 ?_
      obtain ⟨hO43, hV⟩ := hV
      refine z_call_i hG (zrunVD hC hG hO43 (mX10_name l P G9 p0 hV) kVX2_47 rfl rfl rfl ⟨(by show 1 + 1 ≤ rf + 1; omega), (by show 8 + (1 + 11) + 12 ≤ rl + 25; omega)⟩ ⟨(Nat.le_of_ble_eq_true rfl), (Nat.le_of_ble_eq_true rfl)⟩ rfl ⟨(zcs_c rfl (zcs_c rfl (zcs_c rfl zcs_0))), (Nat.le_of_ble_eq_true rfl)⟩ hL.1.1 dX2_matches_2_46) ?_
      rintro x44 _ _ _ hx44 ⟨rfl, hV⟩ hG
      refine z_iald hC hG ho rfl rfl hx44 hV dX2_matches_2_49 ?_
      intro x45 hx45 hV
      exact hJ50 hG x45 hx45 hV _ (hL.sub [0] rfl)
    · intro hV
      refine z_iload_n hC rfl (hL.at 4 rfl) dX2_matches_2_37 ?_
      refine z_goto (tgt := 50) hC dX2_matches_2_38 (by decide) ?_
      exact hJ50 hG p1 hp1 hV _ (hL.sub [0] rfl)
def bX2_allT (wX2_matches_2T : Nat → ZR → Int → ZG → (Int → ZG → Prop) → Prop) (wX2_allT : Nat → ZR → Int → Int → ZG → (Int → ZG → Prop) → Prop) (o : Nat) (p0 : ZR) (p1 : Int) (p2 : Int) (G : ZG) (Q : Int → ZG → Prop) : Prop := zl3 (fun (P6 : Int → Int → ZG → Prop) (a6_4 : Int) (a6_5 : Int) (K6 : ZG) => zeN K6 p0 fun (x1 : Int) => zjn (fun (_ : Unit) => Q a6_4 K6) fun J43 => zbr (x1 ≤ a6_5) (J43 ()) (zbr (a6_4 ≠ 1) (J43 ()) (zeR K6 p0 a6_5 fun (x2 : ZR) => vX1_field p1 (w32 (p2 + a6_5)) fun (x3 : Int) => wX2_matches_2T o x2 x3 K6 fun (x4 : Int) (G1 : ZG) => zlt1 (w32 (a6_5 + 1)) fun (x5 : Int) => P6 x4 x5 G1))) 1 0 G
set_option maxHeartbeats 4000000 in
theorem sX2_allT (l : Launch) (P : ZP) {rf rl : Nat} (hrf : 50 ≤ rf) (hrl : 1135 ≤ rl) (wX2_matches_2T : Nat → ZR → Int → ZG → (Int → ZG → Prop) → Prop) (wX2_allT : Nat → ZR → Int → Int → ZG → (Int → ZG → Prop) → Prop) (ihX2_matches_2T : ∀ (G : ZG) (o : Nat) (ho : tCls o = 4) (p0 : ZR) (p1 : Int) (hp1 : inR p1) {Q : Int → ZG → Prop}, wX2_matches_2T o p0 p1 G Q → Met l yX2_matches_2 (ws_ yX2_matches_2 cX2_matches_2 5 (some .int)) ({ frames := rf, cells := 0, slots := 0, locals := rl } : Room) (zPc P G [.ref (zA P o 0 0), zrv P p0, .int (zI p1)]) (zQi P Q) 0 0 (zAr P)) (ihX2_allT : ∀ (G : ZG) (o : Nat) (ho : tCls o = 4) (p0 : ZR) (p1 : Int) (hp1 : inR p1) (p2 : Int) (hp2 : inR p2) {Q : Int → ZG → Prop}, wX2_allT o p0 p1 p2 G Q → Met l yX2_all (ws_ yX2_all cX2_all 6 (some .int)) ({ frames := rf, cells := 0, slots := 0, locals := rl } : Room) (zPc P G [.ref (zA P o 0 0), zrv P p0, .int (zI p1), .int (zI p2)]) (zQi P Q) 0 0 (zAr P)) (G : ZG) (o : Nat) (ho : tCls o = 4) (p0 : ZR) (p1 : Int) (hp1 : inR p1) (p2 : Int) (hp2 : inR p2) {Q : Int → ZG → Prop} (hV : bX2_allT wX2_matches_2T wX2_allT o p0 p1 p2 G Q) : Met l yX2_all (ws_ yX2_all cX2_all 6 (some .int)) ({ frames := rf + 1, cells := 0, slots := 0, locals := rl + 25 } : Room) (zPc P G [.ref (zA P o 0 0), zrv P p0, .int (zI p1), .int (zI p2)]) (zQi P Q) 0 0 (zAr P) := by
  refine zMet RX2 (plainFor_of_name (by decide)) rfl (zcs_c rfl (zcs_c (zrv_cat _ _) (zcs_c rfl (zcs_c rfl zcs_0)))) (Nat.le_of_ble_eq_true rfl) (fun p e s m args below meth c ls hC hr hk hn hG hL => ?_)
  unfold bX2_allT at hV
  refine z_iconst hC dX2_all_0 ?_
  refine z_istore (lv' := [(4, .int (zI 1)), (0, .ref (zA P o 0 0)), (1, zrv P p0), (2, .int (zI p1)), (3, .int (zI p2))]) hC hL (by decide) rfl dX2_all_1 (fun ls hL => ?_)
  refine z_iconst hC dX2_all_3 ?_
  refine z_istore (lv' := [(5, .int (zI 0)), (4, .int (zI 1)), (0, .ref (zA P o 0 0)), (1, zrv P p0), (2, .int (zI p1)), (3, .int (zI p2))]) hC hL (by decide) rfl dX2_all_4 (fun ls hL => ?_)
  refine zl3_use hV (fun (a6_4 : Int) (a6_5 : Int) (K6 : ZG) => inR a6_4 → inR a6_5 → ∀ (H : Heap) (locs : List Loc), zS P s K6 H locs → ∀ (ls : Array Slot), zL ls 6 [(0, .ref (zA P o 0 0)), (1, zrv P p0), (2, .int (zI p1)), (3, .int (zI p2)), (4, .int (zI a6_4)), (5, .int (zI a6_5))] → W p l e ({ frames := rf + 1, cells := 0, slots := 0, locals := rl + 25 } : Room) s m args below meth c H locs 0 0 (MQ below (zQi P Q) args s 0 0 (zAr P)) (F0 m 6 ls [])) ?_ (inR_lit rfl) (inR_lit rfl) _ _ hG _ (hL.sub [2, 3, 4, 5, 1, 0] rfl)
  intro P6 a6_4 a6_5 K6 hP6 hV ha6_4 ha6_5 H locs hG ls hL
  refine z_iload hC (hL.at 5 rfl) dX2_all_6 ?_
  refine z_aload_n hC zvr_r rfl (hL.at 1 rfl) dX2_all_8 ?_
  refine z_alenD hC hG hV dX2_all_9 ?_
  intro x1 hx1 hV
  obtain ⟨J43, eJ43, hV⟩ := zjn_abs hV
  have hJ43 : ∀ {H : Heap} {locs : List Loc}, zS P s K6 H locs → J43 () → ∀ (ls : Array Slot), zL ls 6 [(4, .int (zI a6_4))] → W p l e ({ frames := rf + 1, cells := 0, slots := 0, locals := rl + 25 } : Room) s m args below meth c H locs 0 0 (MQ below (zQi P Q) args s 0 0 (zAr P)) (F0 m 43 ls []) := by
    intro H locs hG hV ls hL
    rw [eJ43] at hV
    refine z_iload hC (hL.at 0 rfl) dX2_all_43 ?_
    exact z_iret hC hG hr hk ha6_4 hV (Nat.le_of_ble_eq_true rfl) (Nat.le_of_ble_eq_true rfl) dX2_all_45
  refine z_icmp_ge (tgt := 43) hC ha6_5 hx1 hV dX2_all_10 (by decide) ?_ ?_
  · intro hV
    exact hJ43 hG hV _ (hL.sub [4] rfl)
  · intro hV
    refine z_iload hC (hL.at 4 rfl) dX2_all_13 ?_
    refine z_iconst hC dX2_all_15 ?_
    refine z_icmp_ne (tgt := 43) hC ha6_4 (inR_lit rfl) hV dX2_all_16 (by decide) ?_ ?_
    · intro hV
      exact hJ43 hG hV _ (hL.sub [4] rfl)
    · intro hV
      refine z_aload_n hC zvr_a rfl (hL.at 0 rfl) dX2_all_19 ?_
      refine z_aload_n hC zvr_r rfl (hL.at 1 rfl) dX2_all_20 ?_
      refine z_iload hC (hL.at 5 rfl) dX2_all_21 ?_
      refine z_erld hC hG ha6_5 hV dX2_all_23 ?_
      intro x2 hV
      refine z_iload_n hC rfl (hL.at 2 rfl) dX2_all_24 ?_
      refine z_iload_n hC rfl (hL.at 3 rfl) dX2_all_25 ?_
      refine z_iload hC (hL.at 5 rfl) dX2_all_26 ?_
      refine z_iadd hC dX2_all_28 ?_
      refine z_call_i hG (zrunSN hC hG (mX1_field l P K6 p1 hp1 (w32 (p2 + a6_5)) (inR_w _) hV) kSX2_109 rfl rfl rfl ⟨(by show 1 + 1 ≤ rf + 1; omega), (by show 8 + (2 + 11) + 12 ≤ rl + 25; omega)⟩ ⟨(Nat.le_of_ble_eq_true rfl), (Nat.le_of_ble_eq_true rfl)⟩ rfl ⟨(zcs_c (zrv_cat _ _) (zcs_c rfl zcs_0)), (Nat.le_of_ble_eq_true rfl)⟩ hL.1.1 dX2_all_29) ?_
      rintro x3 _ _ _ hx3 ⟨rfl, hV⟩ hG
      refine z_call_i hG (zrunP (ci := 4) hC hG (Nat.le_of_ble_eq_true rfl) (Nat.le_of_ble_eq_true rfl) (zobj hG ho (Nat.le_of_ble_eq_true rfl) (Nat.le_of_ble_eq_true rfl)) (ihX2_matches_2T K6 o ho x2 x3 hx3 hV) kPX2_38_Tree rfl rfl rfl ⟨Nat.le_refl _, (by show 8 + (5 + 11) + rl ≤ rl + 25; omega)⟩ ⟨(Nat.le_of_ble_eq_true rfl), (Nat.le_of_ble_eq_true rfl)⟩ rfl ⟨zcs_0, (Nat.le_of_ble_eq_true rfl)⟩ hL.1.1 dX2_all_32) ?_
      rintro x4 G1 _ _ hx4 hV hG
      refine z_istore (lv' := [(4, .int (zI x4)), (0, .ref (zA P o 0 0)), (1, zrv P p0), (2, .int (zI p1)), (3, .int (zI p2)), (5, .int (zI a6_5))]) hC hL (by decide) rfl dX2_all_35 (fun ls hL => ?_)
      refine z_iincV (fun x5 => [(5, .int (zI x5)), (4, .int (zI x4)), (0, .ref (zA P o 0 0)), (1, zrv P p0), (2, .int (zI p1)), (3, .int (zI p2))]) hC hL (k := 5) rfl (by decide) (fun _ => rfl) hV dX2_all_37 ?_
      intro x5 hx5 hV ls hL
      refine z_goto (tgt := 6) hC dX2_all_40 (by decide) ?_
      exact hP6 x4 x5 G1 hV hx4 hx5 _ _ hG _ (hL.sub [2, 3, 4, 5, 1, 0] rfl)
abbrev rgMatchT (d : Nat) : Room := { frames := 50 + d, cells := 0, slots := 0, locals := 1135 + 25 * d }
def vggMatchT : Nat → (Nat → ZR → Int → ZG → (Int → ZG → Prop) → Prop) × (Nat → ZR → Int → Int → ZG → (Int → ZG → Prop) → Prop)
  | 0 => (fun _ _ _ _ _ => False, fun _ _ _ _ _ _ => False)
  | d + 1 => (bX2_matches_2T ((vggMatchT d).1) ((vggMatchT d).2), bX2_allT ((vggMatchT d).1) ((vggMatchT d).2))
def vX2_matches_2T (d : Nat) (o : Nat) (p0 : ZR) (p1 : Int) (G : ZG) (Q : Int → ZG → Prop) : Prop := (vggMatchT d).1 o p0 p1 G Q
def vX2_allT (d : Nat) (o : Nat) (p0 : ZR) (p1 : Int) (p2 : Int) (G : ZG) (Q : Int → ZG → Prop) : Prop := (vggMatchT d).2 o p0 p1 p2 G Q
theorem vX2_matches_2T_s (d : Nat) (o : Nat) (p0 : ZR) (p1 : Int) (G : ZG) (Q : Int → ZG → Prop) : vX2_matches_2T (d + 1) o p0 p1 G Q = bX2_matches_2T (vX2_matches_2T d) (vX2_allT d) o p0 p1 G Q := rfl
theorem vX2_allT_s (d : Nat) (o : Nat) (p0 : ZR) (p1 : Int) (p2 : Int) (G : ZG) (Q : Int → ZG → Prop) : vX2_allT (d + 1) o p0 p1 p2 G Q = bX2_allT (vX2_matches_2T d) (vX2_allT d) o p0 p1 p2 G Q := rfl
theorem ggMatchT (l : Launch) (P : ZP) : ∀ d : Nat, (∀ (G : ZG) (o : Nat) (ho : tCls o = 4) (p0 : ZR) (p1 : Int) (hp1 : inR p1) {Q : Int → ZG → Prop}, vX2_matches_2T d o p0 p1 G Q → Met l yX2_matches_2 (ws_ yX2_matches_2 cX2_matches_2 5 (some .int)) (rgMatchT d) (zPc P G [.ref (zA P o 0 0), zrv P p0, .int (zI p1)]) (zQi P Q) 0 0 (zAr P)) ∧ (∀ (G : ZG) (o : Nat) (ho : tCls o = 4) (p0 : ZR) (p1 : Int) (hp1 : inR p1) (p2 : Int) (hp2 : inR p2) {Q : Int → ZG → Prop}, vX2_allT d o p0 p1 p2 G Q → Met l yX2_all (ws_ yX2_all cX2_all 6 (some .int)) (rgMatchT d) (zPc P G [.ref (zA P o 0 0), zrv P p0, .int (zI p1), .int (zI p2)]) (zQi P Q) 0 0 (zAr P)) := by
  intro d
  induction d with
  | zero => exact ⟨fun G o ho p0 p1 hp1 Q h => False.elim h, fun G o ho p0 p1 hp1 p2 hp2 Q h => False.elim h⟩
  | succ d ih =>
    have e : 1135 + 25 * (d + 1) = 1135 + 25 * d + 25 := by omega
    exact ⟨fun G o ho p0 p1 hp1 Q h => (by
      simp only [rgMatchT, e]
      exact sX2_matches_2T l P (rf := 50 + d) (rl := 1135 + 25 * d) (by omega) (by omega) ((vggMatchT d).1) ((vggMatchT d).2) (ih.1) (ih.2) _ o ho p0 p1 hp1 h), fun G o ho p0 p1 hp1 p2 hp2 Q h => (by
      simp only [rgMatchT, e]
      exact sX2_allT l P (rf := 50 + d) (rl := 1135 + 25 * d) (by omega) (by omega) ((vggMatchT d).1) ((vggMatchT d).2) (ih.1) (ih.2) _ o ho p0 p1 hp1 p2 hp2 h)⟩
theorem mX2_matches_2T (l : Launch) (P : ZP) (d : Nat) (G : ZG) (o : Nat) (ho : tCls o = 4) (p0 : ZR) (p1 : Int) (hp1 : inR p1) {Q : Int → ZG → Prop} (hV : vX2_matches_2T d o p0 p1 G Q) : Met l yX2_matches_2 (ws_ yX2_matches_2 cX2_matches_2 5 (some .int)) (rgMatchT d) (zPc P G [.ref (zA P o 0 0), zrv P p0, .int (zI p1)]) (zQi P Q) 0 0 (zAr P) := (ggMatchT l P d).1 G o ho p0 p1 hp1 hV
theorem mX2_allT (l : Launch) (P : ZP) (d : Nat) (G : ZG) (o : Nat) (ho : tCls o = 4) (p0 : ZR) (p1 : Int) (hp1 : inR p1) (p2 : Int) (hp2 : inR p2) {Q : Int → ZG → Prop} (hV : vX2_allT d o p0 p1 p2 G Q) : Met l yX2_all (ws_ yX2_all cX2_all 6 (some .int)) (rgMatchT d) (zPc P G [.ref (zA P o 0 0), zrv P p0, .int (zI p1), .int (zI p2)]) (zQi P Q) 0 0 (zAr P) := (ggMatchT l P d).2 G o ho p0 p1 hp1 p2 hp2 hV
abbrev rX2_matchesT : Room := { frames := 141, cells := 0, slots := 0, locals := 3409 }
def vX2_matchesT (o : Nat) (p0 : ZR) (G : ZG) (Q : Int → ZG → Prop) : Prop := zl3 (fun (P4 : Int → Int → ZG → Prop) (a4_2 : Int) (a4_3 : Int) (K4 : ZG) => zgF K4 0 5 fun (x1 : Int) => zjn (fun (_ : Unit) => Q a4_2 K4) fun J50 => zbr (x1 ≤ a4_3) (J50 ()) (zbr (a4_2 ≠ 1) (J50 ()) (zdR K4 p0 16 0 fun (x2 : ZR) => zeI K4 x2 a4_3 fun (x3 : Int) => vX1_told x3 K4 fun (x4 : ZR) => zisO K4 x4 9 ∧ vX9_pattern x4 K4 fun (x6 : ZR) => vX2_matches_2T 90 o x6 (w32 (a4_3 + 1)) K4 fun (x7 : Int) (G1 : ZG) => zlt1 (w32 (a4_3 + 1)) fun (x8 : Int) => P4 x7 x8 G1))) 1 0 G
set_option maxHeartbeats 4000000 in
theorem mX2_matchesT (l : Launch) (P : ZP) (G : ZG) (o : Nat) (ho : tCls o = 4) (p0 : ZR) {Q : Int → ZG → Prop} (hV : vX2_matchesT o p0 G Q) : Met l yX2_matches (ws_ yX2_matches cX2_matches 4 (some .int)) rX2_matchesT (zPc P G [.ref (zA P o 0 0), zrv P p0]) (zQi P Q) 0 0 (zAr P) := by
  refine zMet RX2 (plainFor_of_name (by decide)) rfl (zcs_c rfl (zcs_c (zrv_cat _ _) zcs_0)) (Nat.le_of_ble_eq_true rfl) (fun p e s m args below meth c ls hC hr hk hn hG hL => ?_)
  unfold vX2_matchesT at hV
  refine z_iconst hC dX2_matches_0 ?_
  refine z_istore_n (lv' := [(2, .int (zI 1)), (0, .ref (zA P o 0 0)), (1, zrv P p0)]) hC rfl hL (by decide) rfl dX2_matches_1 (fun ls hL => ?_)
  refine z_iconst hC dX2_matches_2 ?_
  refine z_istore_n (lv' := [(3, .int (zI 0)), (2, .int (zI 1)), (0, .ref (zA P o 0 0)), (1, zrv P p0)]) hC rfl hL (by decide) rfl dX2_matches_3 (fun ls hL => ?_)
  refine zl3_use hV (fun (a4_2 : Int) (a4_3 : Int) (K4 : ZG) => inR a4_2 → inR a4_3 → ∀ (H : Heap) (locs : List Loc), zS P s K4 H locs → ∀ (ls : Array Slot), zL ls 4 [(0, .ref (zA P o 0 0)), (1, zrv P p0), (2, .int (zI a4_2)), (3, .int (zI a4_3))] → W p l e rX2_matchesT s m args below meth c H locs 0 0 (MQ below (zQi P Q) args s 0 0 (zAr P)) (F0 m 4 ls [])) ?_ (inR_lit rfl) (inR_lit rfl) _ _ hG _ (hL.sub [2, 3, 1, 0] rfl)
  intro P4 a4_2 a4_3 K4 hP4 hV ha4_2 ha4_3 H locs hG ls hL
  refine z_iload_n hC rfl (hL.at 3 rfl) dX2_matches_4 ?_
  refine z_aload_n hC zvr_a rfl (hL.at 0 rfl) dX2_matches_5 ?_
  refine z_getO hC hG 0 kFX2_3_4 ho rfl dX2_matches_6 ?_
  refine z_getF hC hG kFX2_19_1 rfl rfl hV dX2_matches_9 ?_
  intro x1 hx1 hV
  obtain ⟨J50, eJ50, hV⟩ := zjn_abs hV
  have hJ50 : ∀ {H : Heap} {locs : List Loc}, zS P s K4 H locs → J50 () → ∀ (ls : Array Slot), zL ls 4 [(2, .int (zI a4_2))] → W p l e rX2_matchesT s m args below meth c H locs 0 0 (MQ below (zQi P Q) args s 0 0 (zAr P)) (F0 m 50 ls []) := by
    intro H locs hG hV ls hL
    rw [eJ50] at hV
    refine z_iload_n hC rfl (hL.at 0 rfl) dX2_matches_50 ?_
    exact z_iret hC hG hr hk ha4_2 hV (Nat.le_of_ble_eq_true rfl) (Nat.le_of_ble_eq_true rfl) dX2_matches_51
  refine z_icmp_ge (tgt := 50) hC ha4_3 hx1 hV dX2_matches_12 (by decide) ?_ ?_
  · intro hV
    exact hJ50 hG hV _ (hL.sub [2] rfl)
  · intro hV
    refine z_iload_n hC rfl (hL.at 2 rfl) dX2_matches_15 ?_
    refine z_iconst hC dX2_matches_16 ?_
    refine z_icmp_ne (tgt := 50) hC ha4_2 (inR_lit rfl) hV dX2_matches_17 (by decide) ?_ ?_
    · intro hV
      exact hJ50 hG hV _ (hL.sub [2] rfl)
    · intro hV
      refine z_aload_n hC zvr_a rfl (hL.at 0 rfl) dX2_matches_20 ?_
      refine z_aload_n hC zvr_a rfl (hL.at 0 rfl) dX2_matches_21 ?_
      refine z_getO hC hG 0 kFX2_3_4 ho rfl dX2_matches_22 ?_
      refine z_aload_n hC zvr_r rfl (hL.at 1 rfl) dX2_matches_25 ?_
      refine z_dR hC hG kFX2_23_16 hV dX2_matches_26 ?_
      intro x2 hV
      refine z_iload_n hC rfl (hL.at 3 rfl) dX2_matches_29 ?_
      refine z_eald hC hG ha4_3 hV dX2_matches_30 ?_
      intro x3 hx3 hV
      refine z_call_r hG (zrunVN (ci := 1) hC hG (Nat.le_of_ble_eq_true rfl) (Nat.le_of_ble_eq_true rfl) (zobj hG rfl (Nat.le_of_ble_eq_true rfl) (Nat.le_of_ble_eq_true rfl)) (mX1_told l P K4 x3 hx3 hV) kVX2_28 rfl rfl rfl ⟨(Nat.le_of_ble_eq_true rfl), (Nat.le_of_ble_eq_true rfl)⟩ ⟨(Nat.le_of_ble_eq_true rfl), (Nat.le_of_ble_eq_true rfl)⟩ rfl ⟨(zcs_c rfl zcs_0), (Nat.le_of_ble_eq_true rfl)⟩ hL.1.1 dX2_matches_31) ?_
      rintro x4 _ _ _  ⟨rfl, hV⟩ hG
      obtain ⟨hO5, hV⟩ := hV
      refine z_call_r hG (zrunVD hC hG hO5 (mX9_pattern l P K4 x4 hV) kVX2_32 rfl rfl rfl ⟨(Nat.le_of_ble_eq_true rfl), (Nat.le_of_ble_eq_true rfl)⟩ ⟨(Nat.le_of_ble_eq_true rfl), (Nat.le_of_ble_eq_true rfl)⟩ rfl ⟨(zcs_c rfl zcs_0), (Nat.le_of_ble_eq_true rfl)⟩ hL.1.1 dX2_matches_34) ?_
      rintro x6 _ _ _  ⟨rfl, hV⟩ hG
      refine z_iload_n hC rfl (hL.at 3 rfl) dX2_matches_37 ?_
      refine z_iconst hC dX2_matches_38 ?_
      refine z_iadd hC dX2_matches_39 ?_
      refine z_call_i hG (zrunP (ci := 4) hC hG (Nat.le_of_ble_eq_true rfl) (Nat.le_of_ble_eq_true rfl) (zobj hG ho (Nat.le_of_ble_eq_true rfl) (Nat.le_of_ble_eq_true rfl)) (mX2_matches_2T l P 90 K4 o ho x6 (w32 (a4_3 + 1)) (inR_w _) hV) kPX2_38_Tree rfl rfl rfl ⟨(Nat.le_of_ble_eq_true rfl), (Nat.le_of_ble_eq_true rfl)⟩ ⟨(Nat.le_of_ble_eq_true rfl), (Nat.le_of_ble_eq_true rfl)⟩ rfl ⟨zcs_0, (Nat.le_of_ble_eq_true rfl)⟩ hL.1.1 dX2_matches_40) ?_
      rintro x7 G1 _ _ hx7 hV hG
      refine z_istore_n (lv' := [(2, .int (zI x7)), (0, .ref (zA P o 0 0)), (1, zrv P p0), (3, .int (zI a4_3))]) hC rfl hL (by decide) rfl dX2_matches_43 (fun ls hL => ?_)
      refine z_iincV (fun x8 => [(3, .int (zI x8)), (2, .int (zI x7)), (0, .ref (zA P o 0 0)), (1, zrv P p0)]) hC hL (k := 3) rfl (by decide) (fun _ => rfl) hV dX2_matches_44 ?_
      intro x8 hx8 hV ls hL
      refine z_goto (tgt := 4) hC dX2_matches_47 (by decide) ?_
      exact hP4 x7 x8 G1 hV hx7 hx8 _ _ hG _ (hL.sub [2, 3, 1, 0] rfl)
abbrev rX2_holdsRangeR : Room := { frames := 3, cells := 0, slots := 0, locals := 55 }
def vX2_holdsRangeR (p0 : ZR) (p1 : Int) (G : ZG) (Q : Int → Prop) : Prop := zisO G p0 11 ∧ vX11_holds p0 p1 G fun (x2 : Int) => Q x2
set_option maxHeartbeats 4000000 in
theorem mX2_holdsRangeR (l : Launch) (P : ZP) (G : ZG) (p0 : ZR) (p1 : Int) (hp1 : inR p1) {Q : Int → Prop} (hV : vX2_holdsRangeR p0 p1 G Q) : Met l yX2_holdsRange (ws_ yX2_holdsRange cX2_holdsRange 3 (some .boolean)) rX2_holdsRangeR (zPc P G [.ref (zA P 1 0 0), zrv P p0, .int (zI p1)]) (zQz P (fun r G2 => G = G2 ∧ Q r)) 0 0 (zAr P) := by
  refine zMet RX2 (plainFor_of_name (by decide)) rfl (zcs_c rfl (zcs_c (zrv_cat _ _) (zcs_c rfl zcs_0))) (Nat.le_of_ble_eq_true rfl) (fun p e s m args below meth c ls hC hr hk hn hG hL => ?_)
  unfold vX2_holdsRangeR at hV
  refine z_aload_n hC zvr_r rfl (hL.at 1 rfl) dX2_holdsRange_0 ?_
  refine z_iload_n hC rfl (hL.at 2 rfl) dX2_holdsRange_1 ?_
  obtain ⟨hO1, hV⟩ := hV
  refine z_call_z hG (zrunVD hC hG hO1 (mX11_holds l P G p0 p1 hp1 hV) kVX2_57 rfl rfl rfl ⟨(Nat.le_of_ble_eq_true rfl), (Nat.le_of_ble_eq_true rfl)⟩ ⟨(Nat.le_of_ble_eq_true rfl), (Nat.le_of_ble_eq_true rfl)⟩ rfl ⟨zcs_0, (Nat.le_of_ble_eq_true rfl)⟩ hL.1.1 dX2_holdsRange_2) ?_
  rintro x2 _ _ _ hx2 ⟨rfl, hV⟩ hG
  exact z_zret hC hG hr hk hx2 ⟨rfl, hV⟩ (Nat.le_of_ble_eq_true rfl) (Nat.le_of_ble_eq_true rfl) dX2_holdsRange_5
abbrev rX1_has : Room := { frames := 1, cells := 0, slots := 0, locals := 12 }
def vX1_has (p0 : Int) (p1 : Int) (Q : Int → Prop) : Prop := zjn (fun (z14_0 : Int) => Q z14_0) fun J14 => zbr (bAnd (bShr p0 p1) 1 ≠ 1) (J14 0) (J14 1)
set_option maxHeartbeats 4000000 in
theorem mX1_has (l : Launch) (P : ZP) (G : ZG) (p0 : Int) (hp0 : inR p0) (p1 : Int) (hp1 : inR p1) {Q : Int → Prop} (hV : vX1_has p0 p1 Q) : Met l yX1_has (ws_ yX1_has cX1_has 2 (some .boolean)) rX1_has (zPc P G [.int (zI p0), .int (zI p1)]) (zQz P (fun r G2 => G = G2 ∧ Q r)) 0 0 (zAr P) := by
  refine zMet RX1 (plainFor_of_name (by decide)) rfl (zcs_c rfl (zcs_c rfl zcs_0)) (Nat.le_of_ble_eq_true rfl) (fun p e s m args below meth c ls hC hr hk hn hG hL => ?_)
  unfold vX1_has at hV
  refine z_iload_n hC rfl (hL.at 0 rfl) dX1_has_0 ?_
  refine z_iload_n hC rfl (hL.at 1 rfl) dX1_has_1 ?_
  refine z_ishr hC dX1_has_2 ?_
  refine z_iconst hC dX1_has_3 ?_
  refine z_iand hC dX1_has_4 ?_
  refine z_iconst hC dX1_has_5 ?_
  obtain ⟨J14, eJ14, hV⟩ := zjn_abs hV
  have hJ14 : ∀ {H : Heap} {locs : List Loc}, zS P s G H locs → ∀ (z14_0 : Int), (z14_0 = 0 ∨ z14_0 = 1) → J14 z14_0 → ∀ (ls : Array Slot), zL ls 2 [] → W p l e rX1_has s m args below meth c H locs 0 0 (MQ below (zQz P (fun r G2 => G = G2 ∧ Q r)) args s 0 0 (zAr P)) (F0 m 14 ls [.int (zI z14_0)]) := by
    intro H locs hG z14_0 hz14_0 hV ls hL
    rw [eJ14] at hV
    exact z_zret hC hG hr hk hz14_0 ⟨rfl, hV⟩ (Nat.le_of_ble_eq_true rfl) (Nat.le_of_ble_eq_true rfl) dX1_has_14
  refine z_icmp_ne (tgt := 13) hC (inR_toInt _) (inR_lit rfl) hV dX1_has_6 (by decide) ?_ ?_
  · intro hV
    refine z_iconst hC dX1_has_13 ?_
    exact hJ14 hG 0 (Or.inl rfl) hV _ (hL.sub [] rfl)
  · intro hV
    refine z_iconst hC dX1_has_9 ?_
    refine z_goto (tgt := 14) hC dX1_has_10 (by decide) ?_
    exact hJ14 hG 1 (Or.inr rfl) hV _ (hL.sub [] rfl)
abbrev rX4_node : Room := { frames := 1, cells := 0, slots := 0, locals := 12 }
def vX4_node (o : Nat) (p0 : Int) (p1 : Int) (p2 : Int) (G : ZG) (Q : Int → ZG → Prop) : Prop := zgF G o 9 fun (x1 : Int) => zbr (x1 ≠ 500) (zgF G o 9 fun (x2 : Int) => zaS G o 3 500 x2 p0 fun (G1 : ZG) => zgF G1 o 9 fun (x3 : Int) => zaS G1 o 4 500 x3 p1 fun (G2 : ZG) => zgF G2 o 9 fun (x4 : Int) => zaS G2 o 5 500 x4 p2 fun (G3 : ZG) => zgF G3 o 9 fun (x5 : Int) => zaS G3 o 7 500 x5 0 fun (G4 : ZG) => zgF G4 o 9 fun (x6 : Int) => zpF G4 o 9 (w32 (x6 + 1)) fun (G5 : ZG) => zgF G5 o 9 fun (x7 : Int) => Q (w32 (x7 - 1)) G5) (zpF G o 10 1 fun (G6 : ZG) => Q 0 G6)
set_option maxHeartbeats 4000000 in
theorem mX4_node (l : Launch) (P : ZP) (G : ZG) (o : Nat) (ho : tCls o = 4) (p0 : Int) (hp0 : inR p0) (p1 : Int) (hp1 : inR p1) (p2 : Int) (hp2 : inR p2) {Q : Int → ZG → Prop} (hV : vX4_node o p0 p1 p2 G Q) : Met l yX4_node (ws_ yX4_node cX4_node 4 (some .int)) rX4_node (zPc P G [.ref (zA P o 0 0), .int (zI p0), .int (zI p1), .int (zI p2)]) (zQi P Q) 0 0 (zAr P) := by
  refine zMet RX4 (plainFor_of_name (by decide)) rfl (zcs_c rfl (zcs_c rfl (zcs_c rfl (zcs_c rfl zcs_0)))) (Nat.le_of_ble_eq_true rfl) (fun p e s m args below meth c ls hC hr hk hn hG hL => ?_)
  unfold vX4_node at hV
  refine z_aload_n hC zvr_a rfl (hL.at 0 rfl) dX4_node_0 ?_
  refine z_getF hC hG kFX4_82_4 ho rfl hV dX4_node_1 ?_
  intro x1 hx1 hV
  refine z_sipush hC rfl dX4_node_4 ?_
  refine z_icmp_ne (tgt := 17) hC hx1 (inR_lit rfl) hV dX4_node_7 (by decide) ?_ ?_
  · intro hV
    refine z_aload_n hC zvr_a rfl (hL.at 0 rfl) dX4_node_17 ?_
    refine z_getA hC hG kFX4_15_4 ho rfl dX4_node_18 ?_
    refine z_aload_n hC zvr_a rfl (hL.at 0 rfl) dX4_node_21 ?_
    refine z_getF hC hG kFX4_82_4 ho rfl hV dX4_node_22 ?_
    intro x2 hx2 hV
    refine z_iload_n hC rfl (hL.at 1 rfl) dX4_node_25 ?_
    refine z_iast hC hG ho (Nat.le_of_ble_eq_true rfl) (Nat.le_of_ble_eq_true rfl) rfl rfl rfl hx2 hp0 hV dX4_node_26 ?_
    intro G1 _ _ hG hV
    refine z_aload_n hC zvr_a rfl (hL.at 0 rfl) dX4_node_27 ?_
    refine z_getA hC hG kFX4_19_4 ho rfl dX4_node_28 ?_
    refine z_aload_n hC zvr_a rfl (hL.at 0 rfl) dX4_node_31 ?_
    refine z_getF hC hG kFX4_82_4 ho rfl hV dX4_node_32 ?_
    intro x3 hx3 hV
    refine z_iload_n hC rfl (hL.at 2 rfl) dX4_node_35 ?_
    refine z_iast hC hG ho (Nat.le_of_ble_eq_true rfl) (Nat.le_of_ble_eq_true rfl) rfl rfl rfl hx3 hp1 hV dX4_node_36 ?_
    intro G2 _ _ hG hV
    refine z_aload_n hC zvr_a rfl (hL.at 0 rfl) dX4_node_37 ?_
    refine z_getA hC hG kFX4_22_4 ho rfl dX4_node_38 ?_
    refine z_aload_n hC zvr_a rfl (hL.at 0 rfl) dX4_node_41 ?_
    refine z_getF hC hG kFX4_82_4 ho rfl hV dX4_node_42 ?_
    intro x4 hx4 hV
    refine z_iload_n hC rfl (hL.at 3 rfl) dX4_node_45 ?_
    refine z_iast hC hG ho (Nat.le_of_ble_eq_true rfl) (Nat.le_of_ble_eq_true rfl) rfl rfl rfl hx4 hp2 hV dX4_node_46 ?_
    intro G3 _ _ hG hV
    refine z_aload_n hC zvr_a rfl (hL.at 0 rfl) dX4_node_47 ?_
    refine z_getA hC hG kFX4_30_4 ho rfl dX4_node_48 ?_
    refine z_aload_n hC zvr_a rfl (hL.at 0 rfl) dX4_node_51 ?_
    refine z_getF hC hG kFX4_82_4 ho rfl hV dX4_node_52 ?_
    intro x5 hx5 hV
    refine z_iconst hC dX4_node_55 ?_
    refine z_iast hC hG ho (Nat.le_of_ble_eq_true rfl) (Nat.le_of_ble_eq_true rfl) rfl rfl rfl hx5 (inR_lit rfl) hV dX4_node_56 ?_
    intro G4 _ _ hG hV
    refine z_aload_n hC zvr_a rfl (hL.at 0 rfl) dX4_node_57 ?_
    refine z_dup hC rfl dX4_node_58 ?_
    refine z_getF hC hG kFX4_82_4 ho rfl hV dX4_node_59 ?_
    intro x6 hx6 hV
    refine z_iconst hC dX4_node_62 ?_
    refine z_iadd hC dX4_node_63 ?_
    refine z_putF hC hG kFX4_82_4 ho rfl rfl rfl nk_4_9 (inR_w _) (Or.inl rfl) hV dX4_node_64 ?_
    intro G5 _ _ hG hV
    refine z_aload_n hC zvr_a rfl (hL.at 0 rfl) dX4_node_67 ?_
    refine z_getF hC hG kFX4_82_4 ho rfl hV dX4_node_68 ?_
    intro x7 hx7 hV
    refine z_iconst hC dX4_node_71 ?_
    refine z_isub hC dX4_node_72 ?_
    exact z_iret hC hG hr hk (inR_w _) hV (Nat.le_of_ble_eq_true rfl) (Nat.le_of_ble_eq_true rfl) dX4_node_73
  · intro hV
    refine z_aload_n hC zvr_a rfl (hL.at 0 rfl) dX4_node_10 ?_
    refine z_iconst hC dX4_node_11 ?_
    refine z_putF hC hG kFX4_85_4 ho rfl rfl rfl nk_4_10 (inR_lit rfl) (Or.inr ⟨rfl, (Or.inr rfl)⟩) hV dX4_node_12 ?_
    intro G6 _ _ hG hV
    refine z_iconst hC dX4_node_15 ?_
    exact z_iret hC hG hr hk (inR_lit rfl) hV (Nat.le_of_ble_eq_true rfl) (Nat.le_of_ble_eq_true rfl) dX4_node_16
abbrev rX4_needs : Room := { frames := 1, cells := 0, slots := 0, locals := 12 }
def vX4_needs (o : Nat) (p0 : Int) (p1 : Int) (p2 : Int) (G : ZG) (Q : ZG → Prop) : Prop := zl1 (fun (P3 : Int → Prop) (a3_4 : Int) => zgF G o 23 fun (x1 : Int) => zjn (fun (_ : Unit) => zgF G o 23 fun (x2 : Int) => zjn (fun (H72 : ZG) => zaL H72 o 22 600 a3_4 fun (x3 : Int) => zaS H72 o 22 600 a3_4 (bOr x3 (bShl 1 p2)) fun (G1 : ZG) => Q G1) fun J72 => zbr (a3_4 ≠ x2) (J72 G) (zaS G o 20 600 a3_4 p0 fun (G2 : ZG) => zaS G2 o 21 600 a3_4 p1 fun (G3 : ZG) => zaS G3 o 22 600 a3_4 0 fun (G4 : ZG) => zgF G4 o 23 fun (x4 : Int) => zpF G4 o 23 (w32 (x4 + 1)) fun (G5 : ZG) => J72 G5)) fun J29 => zbr (x1 ≤ a3_4) (J29 ()) (zaL G o 20 600 a3_4 fun (x5 : Int) => zbr (x5 = p0) (J29 ()) (zlt1 (w32 (a3_4 + 1)) fun (x6 : Int) => P3 x6))) 0
set_option maxHeartbeats 4000000 in
theorem mX4_needs (l : Launch) (P : ZP) (G : ZG) (o : Nat) (ho : tCls o = 4) (p0 : Int) (hp0 : inR p0) (p1 : Int) (hp1 : inR p1) (p2 : Int) (hp2 : inR p2) {Q : ZG → Prop} (hV : vX4_needs o p0 p1 p2 G Q) : Met l yX4_needs (ws_ yX4_needs cX4_needs 5 none) rX4_needs (zPc P G [.ref (zA P o 0 0), .int (zI p0), .int (zI p1), .int (zI p2)]) (zQv P Q) 0 0 (zAr P) := by
  refine zMet RX4 (plainFor_of_name (by decide)) rfl (zcs_c rfl (zcs_c rfl (zcs_c rfl (zcs_c rfl zcs_0)))) (Nat.le_of_ble_eq_true rfl) (fun p e s m args below meth c ls hC hr hk hn hG hL => ?_)
  unfold vX4_needs at hV
  refine z_iconst hC dX4_needs_0 ?_
  refine z_istore (lv' := [(4, .int (zI 0)), (0, .ref (zA P o 0 0)), (1, .int (zI p0)), (2, .int (zI p1)), (3, .int (zI p2))]) hC hL (by decide) rfl dX4_needs_1 (fun ls hL => ?_)
  refine zl1_use hV (fun (a3_4 : Int) => inR a3_4 → ∀ (H : Heap) (locs : List Loc), zS P s G H locs → ∀ (ls : Array Slot), zL ls 5 [(0, .ref (zA P o 0 0)), (1, .int (zI p0)), (2, .int (zI p1)), (3, .int (zI p2)), (4, .int (zI a3_4))] → W p l e rX4_needs s m args below meth c H locs 0 0 (MQ below (zQv P Q) args s 0 0 (zAr P)) (F0 m 3 ls [])) ?_ (inR_lit rfl) _ _ hG _ (hL.sub [1, 2, 3, 4, 0] rfl)
  intro P3 a3_4 hP3 hV ha3_4 H locs hG ls hL
  refine z_iload hC (hL.at 4 rfl) dX4_needs_3 ?_
  refine z_aload_n hC zvr_a rfl (hL.at 0 rfl) dX4_needs_5 ?_
  refine z_getF hC hG kFX4_153_4 ho rfl hV dX4_needs_6 ?_
  intro x1 hx1 hV
  obtain ⟨J29, eJ29, hV⟩ := zjn_abs hV
  have hJ29 : ∀ {H : Heap} {locs : List Loc}, zS P s G H locs → J29 () → ∀ (ls : Array Slot), zL ls 5 [(0, .ref (zA P o 0 0)), (1, .int (zI p0)), (2, .int (zI p1)), (3, .int (zI p2)), (4, .int (zI a3_4))] → W p l e rX4_needs s m args below meth c H locs 0 0 (MQ below (zQv P Q) args s 0 0 (zAr P)) (F0 m 29 ls []) := by
    intro H locs hG hV ls hL
    rw [eJ29] at hV
    refine z_iload hC (hL.at 4 rfl) dX4_needs_29 ?_
    refine z_aload_n hC zvr_a rfl (hL.at 0 rfl) dX4_needs_31 ?_
    refine z_getF hC hG kFX4_153_4 ho rfl hV dX4_needs_32 ?_
    intro x2 hx2 hV
    obtain ⟨J72, eJ72, hV⟩ := zjn_abs hV
    have hJ72 : ∀ (H72 : ZG), J72 H72 → ∀ (H : Heap) (locs : List Loc) (ls : Array Slot), zS P s H72 H locs → zL ls 5 [(0, .ref (zA P o 0 0)), (3, .int (zI p2)), (4, .int (zI a3_4))] → W p l e rX4_needs s m args below meth c H locs 0 0 (MQ below (zQv P Q) args s 0 0 (zAr P)) (F0 m 72 ls []) := by
      intro H72 hV H locs ls hG hL
      rw [eJ72] at hV
      refine z_aload_n hC zvr_a rfl (hL.at 0 rfl) dX4_needs_72 ?_
      refine z_getA hC hG kFX4_51_4 ho rfl dX4_needs_73 ?_
      refine z_iload hC (hL.at 2 rfl) dX4_needs_76 ?_
      refine z_dup2 hC rfl rfl dX4_needs_78 ?_
      refine z_iald hC hG ho rfl rfl ha3_4 hV dX4_needs_79 ?_
      intro x3 hx3 hV
      refine z_iconst hC dX4_needs_80 ?_
      refine z_iload_n hC rfl (hL.at 1 rfl) dX4_needs_81 ?_
      refine z_ishl hC dX4_needs_82 ?_
      refine z_ior hC dX4_needs_83 ?_
      refine z_iast hC hG ho (Nat.le_of_ble_eq_true rfl) (Nat.le_of_ble_eq_true rfl) rfl rfl rfl ha3_4 (inR_toInt _) hV dX4_needs_84 ?_
      intro G1 _ _ hG hV
      exact z_vret hC hG hr hk hV (Nat.le_of_ble_eq_true rfl) (Nat.le_of_ble_eq_true rfl) dX4_needs_85
    refine z_icmp_ne (tgt := 72) hC ha3_4 hx2 hV dX4_needs_35 (by decide) ?_ ?_
    · intro hV
      exact hJ72 G hV _ _ _ hG (hL.sub [0, 3, 4] rfl)
    · intro hV
      refine z_aload_n hC zvr_a rfl (hL.at 0 rfl) dX4_needs_38 ?_
      refine z_getA hC hG kFX4_45_4 ho rfl dX4_needs_39 ?_
      refine z_iload hC (hL.at 4 rfl) dX4_needs_42 ?_
      refine z_iload_n hC rfl (hL.at 1 rfl) dX4_needs_44 ?_
      refine z_iast hC hG ho (Nat.le_of_ble_eq_true rfl) (Nat.le_of_ble_eq_true rfl) rfl rfl rfl ha3_4 hp0 hV dX4_needs_45 ?_
      intro G2 _ _ hG hV
      refine z_aload_n hC zvr_a rfl (hL.at 0 rfl) dX4_needs_46 ?_
      refine z_getA hC hG kFX4_48_4 ho rfl dX4_needs_47 ?_
      refine z_iload hC (hL.at 4 rfl) dX4_needs_50 ?_
      refine z_iload_n hC rfl (hL.at 2 rfl) dX4_needs_52 ?_
      refine z_iast hC hG ho (Nat.le_of_ble_eq_true rfl) (Nat.le_of_ble_eq_true rfl) rfl rfl rfl ha3_4 hp1 hV dX4_needs_53 ?_
      intro G3 _ _ hG hV
      refine z_aload_n hC zvr_a rfl (hL.at 0 rfl) dX4_needs_54 ?_
      refine z_getA hC hG kFX4_51_4 ho rfl dX4_needs_55 ?_
      refine z_iload hC (hL.at 4 rfl) dX4_needs_58 ?_
      refine z_iconst hC dX4_needs_60 ?_
      refine z_iast hC hG ho (Nat.le_of_ble_eq_true rfl) (Nat.le_of_ble_eq_true rfl) rfl rfl rfl ha3_4 (inR_lit rfl) hV dX4_needs_61 ?_
      intro G4 _ _ hG hV
      refine z_aload_n hC zvr_a rfl (hL.at 0 rfl) dX4_needs_62 ?_
      refine z_dup hC rfl dX4_needs_63 ?_
      refine z_getF hC hG kFX4_153_4 ho rfl hV dX4_needs_64 ?_
      intro x4 hx4 hV
      refine z_iconst hC dX4_needs_67 ?_
      refine z_iadd hC dX4_needs_68 ?_
      refine z_putF hC hG kFX4_153_4 ho rfl rfl rfl nk_4_23 (inR_w _) (Or.inl rfl) hV dX4_needs_69 ?_
      intro G5 _ _ hG hV
      exact hJ72 G5 hV _ _ _ hG (hL.sub [0, 3, 4] rfl)
  refine z_icmp_ge (tgt := 29) hC ha3_4 hx1 hV dX4_needs_9 (by decide) ?_ ?_
  · intro hV
    exact hJ29 hG hV _ hL
  · intro hV
    refine z_aload_n hC zvr_a rfl (hL.at 0 rfl) dX4_needs_12 ?_
    refine z_getA hC hG kFX4_45_4 ho rfl dX4_needs_13 ?_
    refine z_iload hC (hL.at 4 rfl) dX4_needs_16 ?_
    refine z_iald hC hG ho rfl rfl ha3_4 hV dX4_needs_18 ?_
    intro x5 hx5 hV
    refine z_iload_n hC rfl (hL.at 1 rfl) dX4_needs_19 ?_
    refine z_icmp_eq (tgt := 29) hC hx5 hp0 hV dX4_needs_20 (by decide) ?_ ?_
    · intro hV
      exact hJ29 hG hV _ hL
    · intro hV
      refine z_iincV (fun x6 => [(4, .int (zI x6)), (0, .ref (zA P o 0 0)), (1, .int (zI p0)), (2, .int (zI p1)), (3, .int (zI p2))]) hC hL (k := 4) rfl (by decide) (fun _ => rfl) hV dX4_needs_23 ?_
      intro x6 hx6 hV ls hL
      refine z_goto (tgt := 3) hC dX4_needs_26 (by decide) ?_
      exact hP3 x6 hV hx6 _ _ hG _ (hL.sub [1, 2, 3, 4, 0] rfl)
def bX4_need (wX4_need : Nat → ZR → Int → Int → ZG → (ZG → Prop) → Prop) (wX4_needAll : Nat → ZR → Int → Int → Int → ZG → (ZG → Prop) → Prop) (o : Nat) (p0 : ZR) (p1 : Int) (p2 : Int) (G : ZG) (Q : ZG → Prop) : Prop := vX4_knownAt o (-1) p1 G fun (x1 : Int) => ziO G p0 10 fun (x2 : Int) => zjn (fun (H231 : ZG) => Q H231) fun J231 => zbr (x2 = 0) (ziO G p0 13 fun (x3 : Int) => zbr (x3 = 0) (ziO G p0 11 fun (x4 : Int) => zjn (fun (_ : Unit) => ziO G p0 12 fun (x5 : Int) => zjn (fun (_ : Unit) => ziO G p0 15 fun (x6 : Int) => zjn (fun (_ : Unit) => ziO G p0 12 fun (x7 : Int) => zjn (fun (_ : Unit) => ziO G p0 15 fun (x8 : Int) => zbr (x8 = 0) (J231 G) (zca G p0 15 ∧ zisO G p0 15 ∧ vX15_fits p0 x1 G fun (x10 : Int) => zbr (x10 = 0) (J231 G) (zisO G p0 15 ∧ vX15_items p0 G fun (x12 : ZR) => zisO G p0 15 ∧ vX15_beginning p0 x1 G fun (x14 : Int) => wX4_needAll o x12 p1 x14 p2 G fun (G1 : ZG) => J231 G1))) fun J190 => zbr (x7 = 0) (J190 ()) (zca G p0 12 ∧ zisO G p0 12 ∧ vX12_constructor p0 G fun (x16 : Int) => zbr (x1 ≠ x16) (J190 ()) (zisO G p0 12 ∧ vX12_fields p0 G fun (x18 : ZR) => wX4_needAll o x18 p1 0 p2 G fun (G2 : ZG) => J231 G2))) fun J152 => zbr (x6 = 0) (J152 ()) (zbr (x1 ≠ (-1)) (J152 ()) (vX4_needs o p1 5 p2 G fun (G3 : ZG) => J231 G3))) fun J129 => zbr (x5 = 0) (J129 ()) (zca G p0 12 ∧ zbr (x1 ≠ (-1)) (J129 ()) (zisO G p0 12 ∧ vX12_type p0 G fun (x20 : Int) => vX4_needs o p1 x20 p2 G fun (G4 : ZG) => J231 G4))) fun J96 => zbr (x4 = 0) (J96 ()) (zbr (x1 ≠ (-1)) (J96 ()) (vX4_needs o p1 4 p2 G fun (G5 : ZG) => J231 G5))) (zca G p0 13 ∧ zisO G p0 13 ∧ vX13_first p0 G fun (x22 : ZR) => wX4_need o x22 p1 p2 G fun (G6 : ZG) => zisO G6 p0 13 ∧ vX13_second p0 G6 fun (x24 : ZR) => wX4_need o x24 p1 p2 G6 fun (G7 : ZG) => J231 G7)) (zca G p0 10 ∧ zisO G p0 10 ∧ vX10_of p0 G fun (x26 : ZR) => wX4_need o x26 p1 p2 G fun (G8 : ZG) => J231 G8)
set_option maxHeartbeats 4000000 in
theorem sX4_need (l : Launch) (P : ZP) {rf rl : Nat} (hrf : 2 ≤ rf) (hrl : 36 ≤ rl) (wX4_need : Nat → ZR → Int → Int → ZG → (ZG → Prop) → Prop) (wX4_needAll : Nat → ZR → Int → Int → Int → ZG → (ZG → Prop) → Prop) (ihX4_need : ∀ (G : ZG) (o : Nat) (ho : tCls o = 4) (p0 : ZR) (p1 : Int) (hp1 : inR p1) (p2 : Int) (hp2 : inR p2) {Q : ZG → Prop}, wX4_need o p0 p1 p2 G Q → Met l yX4_need (ws_ yX4_need cX4_need 10 none) ({ frames := rf, cells := 0, slots := 0, locals := rl } : Room) (zPc P G [.ref (zA P o 0 0), zrv P p0, .int (zI p1), .int (zI p2)]) (zQv P Q) 0 0 (zAr P)) (ihX4_needAll : ∀ (G : ZG) (o : Nat) (ho : tCls o = 4) (p0 : ZR) (p1 : Int) (hp1 : inR p1) (p2 : Int) (hp2 : inR p2) (p3 : Int) (hp3 : inR p3) {Q : ZG → Prop}, wX4_needAll o p0 p1 p2 p3 G Q → Met l yX4_needAll (ws_ yX4_needAll cX4_needAll 6 none) ({ frames := rf, cells := 0, slots := 0, locals := rl } : Room) (zPc P G [.ref (zA P o 0 0), zrv P p0, .int (zI p1), .int (zI p2), .int (zI p3)]) (zQv P Q) 0 0 (zAr P)) (G : ZG) (o : Nat) (ho : tCls o = 4) (p0 : ZR) (p1 : Int) (hp1 : inR p1) (p2 : Int) (hp2 : inR p2) {Q : ZG → Prop} (hV : bX4_need wX4_need wX4_needAll o p0 p1 p2 G Q) : Met l yX4_need (ws_ yX4_need cX4_need 10 none) ({ frames := rf + 1, cells := 0, slots := 0, locals := rl + 29 } : Room) (zPc P G [.ref (zA P o 0 0), zrv P p0, .int (zI p1), .int (zI p2)]) (zQv P Q) 0 0 (zAr P) := by
  refine zMet RX4 (plainFor_of_name (by decide)) rfl (zcs_c rfl (zcs_c (zrv_cat _ _) (zcs_c rfl (zcs_c rfl zcs_0)))) (Nat.le_of_ble_eq_true rfl) (fun p e s m args below meth c ls hC hr hk hn hG hL => ?_)
  unfold bX4_need at hV
  refine z_aload_n hC zvr_a rfl (hL.at 0 rfl) dX4_need_0 ?_
  refine z_iconst hC dX4_need_1 ?_
  refine z_iload_n hC rfl (hL.at 2 rfl) dX4_need_2 ?_
  refine z_call_i hG (zrunV (ci := 4) hC hG (Nat.le_of_ble_eq_true rfl) (Nat.le_of_ble_eq_true rfl) (zobj hG ho (Nat.le_of_ble_eq_true rfl) (Nat.le_of_ble_eq_true rfl)) (mX4_knownAt l P G o ho (-1) (inR_lit rfl) p1 hp1 hV) kVX4_71 rfl rfl rfl ⟨(by show 1 + 1 ≤ rf + 1; omega), (by show 8 + (4 + 11) + 12 ≤ rl + 29; omega)⟩ ⟨(Nat.le_of_ble_eq_true rfl), (Nat.le_of_ble_eq_true rfl)⟩ rfl ⟨zcs_0, (Nat.le_of_ble_eq_true rfl)⟩ hL.1.1 dX4_need_3) ?_
  rintro x1 _ _ _ hx1 ⟨rfl, hV⟩ hG
  refine z_istore (lv' := [(4, .int (zI x1)), (0, .ref (zA P o 0 0)), (1, zrv P p0), (2, .int (zI p1)), (3, .int (zI p2))]) hC hL (by decide) rfl dX4_need_6 (fun ls hL => ?_)
  refine z_aload_n hC zvr_r rfl (hL.at 2 rfl) dX4_need_8 ?_
  refine z_inst hC hG (ci := 10) (by decide) q1531 hV dX4_need_9 ?_
  intro x2 hx2 hV
  obtain ⟨J231, eJ231, hV⟩ := zjn_abs hV
  have hJ231 : ∀ (H231 : ZG), J231 H231 → ∀ (H : Heap) (locs : List Loc) (ls : Array Slot), zS P s H231 H locs → zL ls 10 [] → W p l e ({ frames := rf + 1, cells := 0, slots := 0, locals := rl + 29 } : Room) s m args below meth c H locs 0 0 (MQ below (zQv P Q) args s 0 0 (zAr P)) (F0 m 231 ls []) := by
    intro H231 hV H locs ls hG hL
    rw [eJ231] at hV
    exact z_vret hC hG hr hk hV (Nat.le_of_ble_eq_true rfl) (Nat.le_of_ble_eq_true rfl) dX4_need_231
  refine z_if_eq (tgt := 35) hC (inR_b hx2) hV dX4_need_12 (by decide) ?_ ?_
  · intro hV
    refine z_aload_n hC zvr_r rfl (hL.at 2 rfl) dX4_need_35 ?_
    refine z_inst hC hG (ci := 13) (by decide) q1533 hV dX4_need_36 ?_
    intro x3 hx3 hV
    refine z_if_eq (tgt := 73) hC (inR_b hx3) hV dX4_need_39 (by decide) ?_ ?_
    · intro hV
      refine z_aload_n hC zvr_r rfl (hL.at 2 rfl) dX4_need_73 ?_
      refine z_inst hC hG (ci := 11) (by decide) q1536 hV dX4_need_74 ?_
      intro x4 hx4 hV
      obtain ⟨J96, eJ96, hV⟩ := zjn_abs hV
      have hJ96 : ∀ {H : Heap} {locs : List Loc}, zS P s G H locs → J96 () → ∀ (ls : Array Slot), zL ls 10 [(0, .ref (zA P o 0 0)), (1, zrv P p0), (2, .int (zI p1)), (3, .int (zI p2)), (4, .int (zI x1))] → W p l e ({ frames := rf + 1, cells := 0, slots := 0, locals := rl + 29 } : Room) s m args below meth c H locs 0 0 (MQ below (zQv P Q) args s 0 0 (zAr P)) (F0 m 96 ls []) := by
        intro H locs hG hV ls hL
        rw [eJ96] at hV
        refine z_aload_n hC zvr_r rfl (hL.at 1 rfl) dX4_need_96 ?_
        refine z_inst hC hG (ci := 12) (by decide) q1541 hV dX4_need_97 ?_
        intro x5 hx5 hV
        obtain ⟨J129, eJ129, hV⟩ := zjn_abs hV
        have hJ129 : ∀ {H : Heap} {locs : List Loc}, zS P s G H locs → J129 () → ∀ (ls : Array Slot), zL ls 10 [(0, .ref (zA P o 0 0)), (1, zrv P p0), (2, .int (zI p1)), (3, .int (zI p2)), (4, .int (zI x1))] → W p l e ({ frames := rf + 1, cells := 0, slots := 0, locals := rl + 29 } : Room) s m args below meth c H locs 0 0 (MQ below (zQv P Q) args s 0 0 (zAr P)) (F0 m 129 ls []) := by
          intro H locs hG hV ls hL
          rw [eJ129] at hV
          refine z_aload_n hC zvr_r rfl (hL.at 1 rfl) dX4_need_129 ?_
          refine z_inst hC hG (ci := 15) (by decide) q1543 hV dX4_need_130 ?_
          intro x6 hx6 hV
          obtain ⟨J152, eJ152, hV⟩ := zjn_abs hV
          have hJ152 : ∀ {H : Heap} {locs : List Loc}, zS P s G H locs → J152 () → ∀ (ls : Array Slot), zL ls 10 [(0, .ref (zA P o 0 0)), (1, zrv P p0), (2, .int (zI p1)), (3, .int (zI p2)), (4, .int (zI x1))] → W p l e ({ frames := rf + 1, cells := 0, slots := 0, locals := rl + 29 } : Room) s m args below meth c H locs 0 0 (MQ below (zQv P Q) args s 0 0 (zAr P)) (F0 m 152 ls []) := by
            intro H locs hG hV ls hL
            rw [eJ152] at hV
            refine z_aload_n hC zvr_r rfl (hL.at 1 rfl) dX4_need_152 ?_
            refine z_inst hC hG (ci := 12) (by decide) q1541 hV dX4_need_153 ?_
            intro x7 hx7 hV
            obtain ⟨J190, eJ190, hV⟩ := zjn_abs hV
            have hJ190 : ∀ {H : Heap} {locs : List Loc}, zS P s G H locs → J190 () → ∀ (ls : Array Slot), zL ls 10 [(0, .ref (zA P o 0 0)), (1, zrv P p0), (2, .int (zI p1)), (3, .int (zI p2)), (4, .int (zI x1))] → W p l e ({ frames := rf + 1, cells := 0, slots := 0, locals := rl + 29 } : Room) s m args below meth c H locs 0 0 (MQ below (zQv P Q) args s 0 0 (zAr P)) (F0 m 190 ls []) := by
              intro H locs hG hV ls hL
              rw [eJ190] at hV
              refine z_aload_n hC zvr_r rfl (hL.at 1 rfl) dX4_need_190 ?_
              refine z_inst hC hG (ci := 15) (by decide) q1543 hV dX4_need_191 ?_
              intro x8 hx8 hV
              refine z_if_eq (tgt := 231) hC (inR_b hx8) hV dX4_need_194 (by decide) ?_ ?_
              · intro hV
                exact hJ231 G hV _ _ _ hG (hL.sub [] rfl)
              · intro hV
                refine z_aload_n hC zvr_r rfl (hL.at 1 rfl) dX4_need_197 ?_
                refine z_cast hC hG (ci := 15) (Nat.le_of_ble_eq_true rfl) (Nat.le_of_ble_eq_true rfl) q1543 hV dX4_need_198 (fun hV => ?_)
                refine z_astore (lv' := [(9, zrv P p0), (0, .ref (zA P o 0 0)), (1, zrv P p0), (2, .int (zI p1)), (3, .int (zI p2)), (4, .int (zI x1))]) hC zvr_r hL (by decide) rfl dX4_need_201 (fun ls hL => ?_)
                refine z_aload hC zvr_r (hL.at 0 rfl) dX4_need_203 ?_
                refine z_iload hC (hL.at 5 rfl) dX4_need_205 ?_
                obtain ⟨hO9, hV⟩ := hV
                refine z_call_z hG (zrunVD hC hG hO9 (mX15_fits l P G p0 x1 hx1 hV) kVX4_216 rfl rfl rfl ⟨(by show 1 + 1 ≤ rf + 1; omega), (by show 8 + (2 + 11) + 12 ≤ rl + 29; omega)⟩ ⟨(Nat.le_of_ble_eq_true rfl), (Nat.le_of_ble_eq_true rfl)⟩ rfl ⟨zcs_0, (Nat.le_of_ble_eq_true rfl)⟩ hL.1.1 dX4_need_207) ?_
                rintro x10 _ _ _ hx10 ⟨rfl, hV⟩ hG
                refine z_if_eq (tgt := 231) hC (inR_b hx10) hV dX4_need_210 (by decide) ?_ ?_
                · intro hV
                  exact hJ231 G hV _ _ _ hG (hL.sub [] rfl)
                · intro hV
                  refine z_aload_n hC zvr_a rfl (hL.at 1 rfl) dX4_need_213 ?_
                  refine z_aload hC zvr_r (hL.at 0 rfl) dX4_need_214 ?_
                  obtain ⟨hO11, hV⟩ := hV
                  refine z_call_r hG (zrunVD hC hG hO11 (mX15_items l P G p0 hV) kVX4_220 rfl rfl rfl ⟨(by show 1 + 1 ≤ rf + 1; omega), (by show 8 + (1 + 11) + 12 ≤ rl + 29; omega)⟩ ⟨(Nat.le_of_ble_eq_true rfl), (Nat.le_of_ble_eq_true rfl)⟩ rfl ⟨(zcs_c rfl zcs_0), (Nat.le_of_ble_eq_true rfl)⟩ hL.1.1 dX4_need_216) ?_
                  rintro x12 _ _ _  ⟨rfl, hV⟩ hG
                  refine z_iload_n hC rfl (hL.at 3 rfl) dX4_need_219 ?_
                  refine z_aload hC zvr_r (hL.at 0 rfl) dX4_need_220 ?_
                  refine z_iload hC (hL.at 5 rfl) dX4_need_222 ?_
                  obtain ⟨hO13, hV⟩ := hV
                  refine z_call_i hG (zrunVD hC hG hO13 (mX15_beginning l P G p0 x1 hx1 hV) kVX4_223 rfl rfl rfl ⟨(by show 1 + 1 ≤ rf + 1; omega), (by show 8 + (2 + 11) + 12 ≤ rl + 29; omega)⟩ ⟨(Nat.le_of_ble_eq_true rfl), (Nat.le_of_ble_eq_true rfl)⟩ rfl ⟨(zcs_c rfl (zcs_c (zrv_cat _ _) (zcs_c rfl zcs_0))), (Nat.le_of_ble_eq_true rfl)⟩ hL.1.1 dX4_need_224) ?_
                  rintro x14 _ _ _ hx14 ⟨rfl, hV⟩ hG
                  refine z_iload_n hC rfl (hL.at 4 rfl) dX4_need_227 ?_
                  refine z_call_v hG (zrunV (ci := 4) hC hG (Nat.le_of_ble_eq_true rfl) (Nat.le_of_ble_eq_true rfl) (zobj hG ho (Nat.le_of_ble_eq_true rfl) (Nat.le_of_ble_eq_true rfl)) (ihX4_needAll G o ho x12 p1 hp1 x14 hx14 p2 hp2 hV) kVX4_212 rfl rfl rfl ⟨Nat.le_refl _, (by show 8 + (6 + 11) + rl ≤ rl + 29; omega)⟩ ⟨(Nat.le_of_ble_eq_true rfl), (Nat.le_of_ble_eq_true rfl)⟩ rfl ⟨zcs_0, (Nat.le_of_ble_eq_true rfl)⟩ hL.1.1 dX4_need_228) ?_
                  rintro G1 _ _ hV hG
                  exact hJ231 G1 hV _ _ _ hG (hL.sub [] rfl)
            refine z_if_eq (tgt := 190) hC (inR_b hx7) hV dX4_need_156 (by decide) ?_ ?_
            · intro hV
              exact hJ190 hG hV _ hL
            · intro hV
              refine z_aload_n hC zvr_r rfl (hL.at 1 rfl) dX4_need_159 ?_
              refine z_cast hC hG (ci := 12) (Nat.le_of_ble_eq_true rfl) (Nat.le_of_ble_eq_true rfl) q1541 hV dX4_need_160 (fun hV => ?_)
              refine z_astore (lv' := [(8, zrv P p0), (0, .ref (zA P o 0 0)), (1, zrv P p0), (2, .int (zI p1)), (3, .int (zI p2)), (4, .int (zI x1))]) hC zvr_r hL (by decide) rfl dX4_need_163 (fun ls hL => ?_)
              refine z_iload hC (hL.at 5 rfl) dX4_need_165 ?_
              refine z_aload hC zvr_r (hL.at 0 rfl) dX4_need_167 ?_
              obtain ⟨hO15, hV⟩ := hV
              refine z_call_i hG (zrunVD hC hG hO15 (mX12_constructor l P G p0 hV) kVX4_205 rfl rfl rfl ⟨(by show 1 + 1 ≤ rf + 1; omega), (by show 8 + (1 + 11) + 12 ≤ rl + 29; omega)⟩ ⟨(Nat.le_of_ble_eq_true rfl), (Nat.le_of_ble_eq_true rfl)⟩ rfl ⟨(zcs_c rfl zcs_0), (Nat.le_of_ble_eq_true rfl)⟩ hL.1.1 dX4_need_169) ?_
              rintro x16 _ _ _ hx16 ⟨rfl, hV⟩ hG
              refine z_icmp_ne (tgt := 190) hC hx1 hx16 hV dX4_need_172 (by decide) ?_ ?_
              · intro hV
                exact hJ190 hG hV _ (hL.sub [1, 2, 3, 4, 5] rfl)
              · intro hV
                refine z_aload_n hC zvr_a rfl (hL.at 1 rfl) dX4_need_175 ?_
                refine z_aload hC zvr_r (hL.at 0 rfl) dX4_need_176 ?_
                obtain ⟨hO17, hV⟩ := hV
                refine z_call_r hG (zrunVD hC hG hO17 (mX12_fields l P G p0 hV) kVX4_208 rfl rfl rfl ⟨(by show 1 + 1 ≤ rf + 1; omega), (by show 8 + (1 + 11) + 12 ≤ rl + 29; omega)⟩ ⟨(Nat.le_of_ble_eq_true rfl), (Nat.le_of_ble_eq_true rfl)⟩ rfl ⟨(zcs_c rfl zcs_0), (Nat.le_of_ble_eq_true rfl)⟩ hL.1.1 dX4_need_178) ?_
                rintro x18 _ _ _  ⟨rfl, hV⟩ hG
                refine z_iload_n hC rfl (hL.at 3 rfl) dX4_need_181 ?_
                refine z_iconst hC dX4_need_182 ?_
                refine z_iload_n hC rfl (hL.at 4 rfl) dX4_need_183 ?_
                refine z_call_v hG (zrunV (ci := 4) hC hG (Nat.le_of_ble_eq_true rfl) (Nat.le_of_ble_eq_true rfl) (zobj hG ho (Nat.le_of_ble_eq_true rfl) (Nat.le_of_ble_eq_true rfl)) (ihX4_needAll G o ho x18 p1 hp1 0 (inR_lit rfl) p2 hp2 hV) kVX4_212 rfl rfl rfl ⟨Nat.le_refl _, (by show 8 + (6 + 11) + rl ≤ rl + 29; omega)⟩ ⟨(Nat.le_of_ble_eq_true rfl), (Nat.le_of_ble_eq_true rfl)⟩ rfl ⟨zcs_0, (Nat.le_of_ble_eq_true rfl)⟩ hL.1.1 dX4_need_184) ?_
                rintro G2 _ _ hV hG
                refine z_goto (tgt := 231) hC dX4_need_187 (by decide) ?_
                exact hJ231 G2 hV _ _ _ hG (hL.sub [] rfl)
          refine z_if_eq (tgt := 152) hC (inR_b hx6) hV dX4_need_133 (by decide) ?_ ?_
          · intro hV
            exact hJ152 hG hV _ hL
          · intro hV
            refine z_iload hC (hL.at 4 rfl) dX4_need_136 ?_
            refine z_iconst hC dX4_need_138 ?_
            refine z_icmp_ne (tgt := 152) hC hx1 (inR_lit rfl) hV dX4_need_139 (by decide) ?_ ?_
            · intro hV
              exact hJ152 hG hV _ hL
            · intro hV
              refine z_aload_n hC zvr_a rfl (hL.at 0 rfl) dX4_need_142 ?_
              refine z_iload_n hC rfl (hL.at 2 rfl) dX4_need_143 ?_
              refine z_iconst hC dX4_need_144 ?_
              refine z_iload_n hC rfl (hL.at 3 rfl) dX4_need_145 ?_
              refine z_call_v hG (zrunV (ci := 4) hC hG (Nat.le_of_ble_eq_true rfl) (Nat.le_of_ble_eq_true rfl) (zobj hG ho (Nat.le_of_ble_eq_true rfl) (Nat.le_of_ble_eq_true rfl)) (mX4_needs l P G o ho p1 hp1 5 (inR_lit rfl) p2 hp2 hV) kVX4_195 rfl rfl rfl ⟨(by show 1 + 1 ≤ rf + 1; omega), (by show 8 + (5 + 11) + 12 ≤ rl + 29; omega)⟩ ⟨(Nat.le_of_ble_eq_true rfl), (Nat.le_of_ble_eq_true rfl)⟩ rfl ⟨zcs_0, (Nat.le_of_ble_eq_true rfl)⟩ hL.1.1 dX4_need_146) ?_
              rintro G3 _ _ hV hG
              refine z_goto (tgt := 231) hC dX4_need_149 (by decide) ?_
              exact hJ231 G3 hV _ _ _ hG (hL.sub [] rfl)
        refine z_if_eq (tgt := 129) hC (inR_b hx5) hV dX4_need_100 (by decide) ?_ ?_
        · intro hV
          exact hJ129 hG hV _ hL
        · intro hV
          refine z_aload_n hC zvr_r rfl (hL.at 1 rfl) dX4_need_103 ?_
          refine z_cast hC hG (ci := 12) (Nat.le_of_ble_eq_true rfl) (Nat.le_of_ble_eq_true rfl) q1541 hV dX4_need_104 (fun hV => ?_)
          refine z_astore (lv' := [(7, zrv P p0), (0, .ref (zA P o 0 0)), (1, zrv P p0), (2, .int (zI p1)), (3, .int (zI p2)), (4, .int (zI x1))]) hC zvr_r hL (by decide) rfl dX4_need_107 (fun ls hL => ?_)
          refine z_iload hC (hL.at 5 rfl) dX4_need_109 ?_
          refine z_iconst hC dX4_need_111 ?_
          refine z_icmp_ne (tgt := 129) hC hx1 (inR_lit rfl) hV dX4_need_112 (by decide) ?_ ?_
          · intro hV
            exact hJ129 hG hV _ (hL.sub [1, 2, 3, 4, 5] rfl)
          · intro hV
            refine z_aload_n hC zvr_a rfl (hL.at 1 rfl) dX4_need_115 ?_
            refine z_iload_n hC rfl (hL.at 3 rfl) dX4_need_116 ?_
            refine z_aload hC zvr_r (hL.at 0 rfl) dX4_need_117 ?_
            obtain ⟨hO19, hV⟩ := hV
            refine z_call_i hG (zrunVD hC hG hO19 (mX12_type l P G p0 hV) kVX4_200 rfl rfl rfl ⟨(by show 1 + 1 ≤ rf + 1; omega), (by show 8 + (1 + 11) + 12 ≤ rl + 29; omega)⟩ ⟨(Nat.le_of_ble_eq_true rfl), (Nat.le_of_ble_eq_true rfl)⟩ rfl ⟨(zcs_c rfl (zcs_c rfl zcs_0)), (Nat.le_of_ble_eq_true rfl)⟩ hL.1.1 dX4_need_119) ?_
            rintro x20 _ _ _ hx20 ⟨rfl, hV⟩ hG
            refine z_iload_n hC rfl (hL.at 4 rfl) dX4_need_122 ?_
            refine z_call_v hG (zrunV (ci := 4) hC hG (Nat.le_of_ble_eq_true rfl) (Nat.le_of_ble_eq_true rfl) (zobj hG ho (Nat.le_of_ble_eq_true rfl) (Nat.le_of_ble_eq_true rfl)) (mX4_needs l P G o ho p1 hp1 x20 hx20 p2 hp2 hV) kVX4_195 rfl rfl rfl ⟨(by show 1 + 1 ≤ rf + 1; omega), (by show 8 + (5 + 11) + 12 ≤ rl + 29; omega)⟩ ⟨(Nat.le_of_ble_eq_true rfl), (Nat.le_of_ble_eq_true rfl)⟩ rfl ⟨zcs_0, (Nat.le_of_ble_eq_true rfl)⟩ hL.1.1 dX4_need_123) ?_
            rintro G4 _ _ hV hG
            refine z_goto (tgt := 231) hC dX4_need_126 (by decide) ?_
            exact hJ231 G4 hV _ _ _ hG (hL.sub [] rfl)
      refine z_if_eq (tgt := 96) hC (inR_b hx4) hV dX4_need_77 (by decide) ?_ ?_
      · intro hV
        exact hJ96 hG hV _ (hL.sub [1, 2, 3, 4, 0] rfl)
      · intro hV
        refine z_iload hC (hL.at 0 rfl) dX4_need_80 ?_
        refine z_iconst hC dX4_need_82 ?_
        refine z_icmp_ne (tgt := 96) hC hx1 (inR_lit rfl) hV dX4_need_83 (by decide) ?_ ?_
        · intro hV
          exact hJ96 hG hV _ (hL.sub [1, 2, 3, 4, 0] rfl)
        · intro hV
          refine z_aload_n hC zvr_a rfl (hL.at 1 rfl) dX4_need_86 ?_
          refine z_iload_n hC rfl (hL.at 3 rfl) dX4_need_87 ?_
          refine z_iconst hC dX4_need_88 ?_
          refine z_iload_n hC rfl (hL.at 4 rfl) dX4_need_89 ?_
          refine z_call_v hG (zrunV (ci := 4) hC hG (Nat.le_of_ble_eq_true rfl) (Nat.le_of_ble_eq_true rfl) (zobj hG ho (Nat.le_of_ble_eq_true rfl) (Nat.le_of_ble_eq_true rfl)) (mX4_needs l P G o ho p1 hp1 4 (inR_lit rfl) p2 hp2 hV) kVX4_195 rfl rfl rfl ⟨(by show 1 + 1 ≤ rf + 1; omega), (by show 8 + (5 + 11) + 12 ≤ rl + 29; omega)⟩ ⟨(Nat.le_of_ble_eq_true rfl), (Nat.le_of_ble_eq_true rfl)⟩ rfl ⟨zcs_0, (Nat.le_of_ble_eq_true rfl)⟩ hL.1.1 dX4_need_90) ?_
          rintro G5 _ _ hV hG
          refine z_goto (tgt := 231) hC dX4_need_93 (by decide) ?_
          exact hJ231 G5 hV _ _ _ hG (hL.sub [] rfl)
    · intro hV
      refine z_aload_n hC zvr_r rfl (hL.at 2 rfl) dX4_need_42 ?_
      refine z_cast hC hG (ci := 13) (Nat.le_of_ble_eq_true rfl) (Nat.le_of_ble_eq_true rfl) q1533 hV dX4_need_43 (fun hV => ?_)
      refine z_astore (lv' := [(6, zrv P p0), (4, .int (zI x1)), (0, .ref (zA P o 0 0)), (1, zrv P p0), (2, .int (zI p1)), (3, .int (zI p2))]) hC zvr_r hL (by decide) rfl dX4_need_46 (fun ls hL => ?_)
      refine z_aload_n hC zvr_a rfl (hL.at 2 rfl) dX4_need_48 ?_
      refine z_aload hC zvr_r (hL.at 0 rfl) dX4_need_49 ?_
      obtain ⟨hO21, hV⟩ := hV
      refine z_call_r hG (zrunVD hC hG hO21 (mX13_first l P G p0 hV) kVX4_187 rfl rfl rfl ⟨(by show 1 + 1 ≤ rf + 1; omega), (by show 8 + (1 + 11) + 12 ≤ rl + 29; omega)⟩ ⟨(Nat.le_of_ble_eq_true rfl), (Nat.le_of_ble_eq_true rfl)⟩ rfl ⟨(zcs_c rfl zcs_0), (Nat.le_of_ble_eq_true rfl)⟩ hL.1.1 dX4_need_51) ?_
      rintro x22 _ _ _  ⟨rfl, hV⟩ hG
      refine z_iload_n hC rfl (hL.at 4 rfl) dX4_need_54 ?_
      refine z_iload_n hC rfl (hL.at 5 rfl) dX4_need_55 ?_
      refine z_call_v hG (zrunV (ci := 4) hC hG (Nat.le_of_ble_eq_true rfl) (Nat.le_of_ble_eq_true rfl) (zobj hG ho (Nat.le_of_ble_eq_true rfl) (Nat.le_of_ble_eq_true rfl)) (ihX4_need G o ho x22 p1 hp1 p2 hp2 hV) kVX4_172 rfl rfl rfl ⟨Nat.le_refl _, (by show 8 + (10 + 11) + rl ≤ rl + 29; omega)⟩ ⟨(Nat.le_of_ble_eq_true rfl), (Nat.le_of_ble_eq_true rfl)⟩ rfl ⟨zcs_0, (Nat.le_of_ble_eq_true rfl)⟩ hL.1.1 dX4_need_56) ?_
      rintro G6 _ _ hV hG
      refine z_aload_n hC zvr_a rfl (hL.at 2 rfl) dX4_need_59 ?_
      refine z_aload hC zvr_r (hL.at 0 rfl) dX4_need_60 ?_
      obtain ⟨hO23, hV⟩ := hV
      refine z_call_r hG (zrunVD hC hG hO23 (mX13_second l P G6 p0 hV) kVX4_190 rfl rfl rfl ⟨(by show 1 + 1 ≤ rf + 1; omega), (by show 8 + (1 + 11) + 12 ≤ rl + 29; omega)⟩ ⟨(Nat.le_of_ble_eq_true rfl), (Nat.le_of_ble_eq_true rfl)⟩ rfl ⟨(zcs_c rfl zcs_0), (Nat.le_of_ble_eq_true rfl)⟩ hL.1.1 dX4_need_62) ?_
      rintro x24 _ _ _  ⟨rfl, hV⟩ hG
      refine z_iload_n hC rfl (hL.at 4 rfl) dX4_need_65 ?_
      refine z_iload_n hC rfl (hL.at 5 rfl) dX4_need_66 ?_
      refine z_call_v hG (zrunV (ci := 4) hC hG (Nat.le_of_ble_eq_true rfl) (Nat.le_of_ble_eq_true rfl) (zobj hG ho (Nat.le_of_ble_eq_true rfl) (Nat.le_of_ble_eq_true rfl)) (ihX4_need G6 o ho x24 p1 hp1 p2 hp2 hV) kVX4_172 rfl rfl rfl ⟨Nat.le_refl _, (by show 8 + (10 + 11) + rl ≤ rl + 29; omega)⟩ ⟨(Nat.le_of_ble_eq_true rfl), (Nat.le_of_ble_eq_true rfl)⟩ rfl ⟨zcs_0, (Nat.le_of_ble_eq_true rfl)⟩ hL.1.1 dX4_need_67) ?_
      rintro G7 _ _ hV hG
      refine z_goto (tgt := 231) hC dX4_need_70 (by decide) ?_
      exact hJ231 G7 hV _ _ _ hG (hL.sub [] rfl)
  · intro hV
    refine z_aload_n hC zvr_r rfl (hL.at 2 rfl) dX4_need_15 ?_
    refine z_cast hC hG (ci := 10) (Nat.le_of_ble_eq_true rfl) (Nat.le_of_ble_eq_true rfl) q1531 hV dX4_need_16 (fun hV => ?_)
    refine z_astore (lv' := [(5, zrv P p0), (4, .int (zI x1)), (0, .ref (zA P o 0 0)), (1, zrv P p0), (2, .int (zI p1)), (3, .int (zI p2))]) hC zvr_r hL (by decide) rfl dX4_need_19 (fun ls hL => ?_)
    refine z_aload_n hC zvr_a rfl (hL.at 2 rfl) dX4_need_21 ?_
    refine z_aload hC zvr_r (hL.at 0 rfl) dX4_need_22 ?_
    obtain ⟨hO25, hV⟩ := hV
    refine z_call_r hG (zrunVD hC hG hO25 (mX10_of l P G p0 hV) kVX4_183 rfl rfl rfl ⟨(by show 1 + 1 ≤ rf + 1; omega), (by show 8 + (1 + 11) + 12 ≤ rl + 29; omega)⟩ ⟨(Nat.le_of_ble_eq_true rfl), (Nat.le_of_ble_eq_true rfl)⟩ rfl ⟨(zcs_c rfl zcs_0), (Nat.le_of_ble_eq_true rfl)⟩ hL.1.1 dX4_need_24) ?_
    rintro x26 _ _ _  ⟨rfl, hV⟩ hG
    refine z_iload_n hC rfl (hL.at 4 rfl) dX4_need_27 ?_
    refine z_iload_n hC rfl (hL.at 5 rfl) dX4_need_28 ?_
    refine z_call_v hG (zrunV (ci := 4) hC hG (Nat.le_of_ble_eq_true rfl) (Nat.le_of_ble_eq_true rfl) (zobj hG ho (Nat.le_of_ble_eq_true rfl) (Nat.le_of_ble_eq_true rfl)) (ihX4_need G o ho x26 p1 hp1 p2 hp2 hV) kVX4_172 rfl rfl rfl ⟨Nat.le_refl _, (by show 8 + (10 + 11) + rl ≤ rl + 29; omega)⟩ ⟨(Nat.le_of_ble_eq_true rfl), (Nat.le_of_ble_eq_true rfl)⟩ rfl ⟨zcs_0, (Nat.le_of_ble_eq_true rfl)⟩ hL.1.1 dX4_need_29) ?_
    rintro G8 _ _ hV hG
    refine z_goto (tgt := 231) hC dX4_need_32 (by decide) ?_
    exact hJ231 G8 hV _ _ _ hG (hL.sub [] rfl)
def bX4_needAll (wX4_need : Nat → ZR → Int → Int → ZG → (ZG → Prop) → Prop) (wX4_needAll : Nat → ZR → Int → Int → Int → ZG → (ZG → Prop) → Prop) (o : Nat) (p0 : ZR) (p1 : Int) (p2 : Int) (p3 : Int) (G : ZG) (Q : ZG → Prop) : Prop := zl2 (fun (P3 : Int → ZG → Prop) (a3_5 : Int) (K3 : ZG) => zeN K3 p0 fun (x1 : Int) => zbr (x1 ≤ a3_5) (Q K3) (zeR K3 p0 a3_5 fun (x2 : ZR) => vX1_field p1 (w32 (p2 + a3_5)) fun (x3 : Int) => wX4_need o x2 x3 p3 K3 fun (G1 : ZG) => zlt1 (w32 (a3_5 + 1)) fun (x4 : Int) => P3 x4 G1)) 0 G
set_option maxHeartbeats 4000000 in
theorem sX4_needAll (l : Launch) (P : ZP) {rf rl : Nat} (hrf : 2 ≤ rf) (hrl : 36 ≤ rl) (wX4_need : Nat → ZR → Int → Int → ZG → (ZG → Prop) → Prop) (wX4_needAll : Nat → ZR → Int → Int → Int → ZG → (ZG → Prop) → Prop) (ihX4_need : ∀ (G : ZG) (o : Nat) (ho : tCls o = 4) (p0 : ZR) (p1 : Int) (hp1 : inR p1) (p2 : Int) (hp2 : inR p2) {Q : ZG → Prop}, wX4_need o p0 p1 p2 G Q → Met l yX4_need (ws_ yX4_need cX4_need 10 none) ({ frames := rf, cells := 0, slots := 0, locals := rl } : Room) (zPc P G [.ref (zA P o 0 0), zrv P p0, .int (zI p1), .int (zI p2)]) (zQv P Q) 0 0 (zAr P)) (ihX4_needAll : ∀ (G : ZG) (o : Nat) (ho : tCls o = 4) (p0 : ZR) (p1 : Int) (hp1 : inR p1) (p2 : Int) (hp2 : inR p2) (p3 : Int) (hp3 : inR p3) {Q : ZG → Prop}, wX4_needAll o p0 p1 p2 p3 G Q → Met l yX4_needAll (ws_ yX4_needAll cX4_needAll 6 none) ({ frames := rf, cells := 0, slots := 0, locals := rl } : Room) (zPc P G [.ref (zA P o 0 0), zrv P p0, .int (zI p1), .int (zI p2), .int (zI p3)]) (zQv P Q) 0 0 (zAr P)) (G : ZG) (o : Nat) (ho : tCls o = 4) (p0 : ZR) (p1 : Int) (hp1 : inR p1) (p2 : Int) (hp2 : inR p2) (p3 : Int) (hp3 : inR p3) {Q : ZG → Prop} (hV : bX4_needAll wX4_need wX4_needAll o p0 p1 p2 p3 G Q) : Met l yX4_needAll (ws_ yX4_needAll cX4_needAll 6 none) ({ frames := rf + 1, cells := 0, slots := 0, locals := rl + 29 } : Room) (zPc P G [.ref (zA P o 0 0), zrv P p0, .int (zI p1), .int (zI p2), .int (zI p3)]) (zQv P Q) 0 0 (zAr P) := by
  refine zMet RX4 (plainFor_of_name (by decide)) rfl (zcs_c rfl (zcs_c (zrv_cat _ _) (zcs_c rfl (zcs_c rfl (zcs_c rfl zcs_0))))) (Nat.le_of_ble_eq_true rfl) (fun p e s m args below meth c ls hC hr hk hn hG hL => ?_)
  unfold bX4_needAll at hV
  refine z_iconst hC dX4_needAll_0 ?_
  refine z_istore (lv' := [(5, .int (zI 0)), (0, .ref (zA P o 0 0)), (1, zrv P p0), (2, .int (zI p1)), (3, .int (zI p2)), (4, .int (zI p3))]) hC hL (by decide) rfl dX4_needAll_1 (fun ls hL => ?_)
  refine zl2_use hV (fun (a3_5 : Int) (K3 : ZG) => inR a3_5 → ∀ (H : Heap) (locs : List Loc), zS P s K3 H locs → ∀ (ls : Array Slot), zL ls 6 [(0, .ref (zA P o 0 0)), (1, zrv P p0), (2, .int (zI p1)), (3, .int (zI p2)), (4, .int (zI p3)), (5, .int (zI a3_5))] → W p l e ({ frames := rf + 1, cells := 0, slots := 0, locals := rl + 29 } : Room) s m args below meth c H locs 0 0 (MQ below (zQv P Q) args s 0 0 (zAr P)) (F0 m 3 ls [])) ?_ (inR_lit rfl) _ _ hG _ (hL.sub [1, 2, 3, 4, 5, 0] rfl)
  intro P3 a3_5 K3 hP3 hV ha3_5 H locs hG ls hL
  refine z_iload hC (hL.at 5 rfl) dX4_needAll_3 ?_
  refine z_aload_n hC zvr_r rfl (hL.at 1 rfl) dX4_needAll_5 ?_
  refine z_alenD hC hG hV dX4_needAll_6 ?_
  intro x1 hx1 hV
  refine z_icmp_ge (tgt := 34) hC ha3_5 hx1 hV dX4_needAll_7 (by decide) ?_ ?_
  · intro hV
    exact z_vret hC hG hr hk hV (Nat.le_of_ble_eq_true rfl) (Nat.le_of_ble_eq_true rfl) dX4_needAll_34
  · intro hV
    refine z_aload_n hC zvr_a rfl (hL.at 0 rfl) dX4_needAll_10 ?_
    refine z_aload_n hC zvr_r rfl (hL.at 1 rfl) dX4_needAll_11 ?_
    refine z_iload hC (hL.at 5 rfl) dX4_needAll_12 ?_
    refine z_erld hC hG ha3_5 hV dX4_needAll_14 ?_
    intro x2 hV
    refine z_iload_n hC rfl (hL.at 2 rfl) dX4_needAll_15 ?_
    refine z_iload_n hC rfl (hL.at 3 rfl) dX4_needAll_16 ?_
    refine z_iload hC (hL.at 5 rfl) dX4_needAll_17 ?_
    refine z_iadd hC dX4_needAll_19 ?_
    refine z_call_i hG (zrunSN hC hG (mX1_field l P K3 p1 hp1 (w32 (p2 + a3_5)) (inR_w _) hV) kSX4_226 rfl rfl rfl ⟨(by show 1 + 1 ≤ rf + 1; omega), (by show 8 + (2 + 11) + 12 ≤ rl + 29; omega)⟩ ⟨(Nat.le_of_ble_eq_true rfl), (Nat.le_of_ble_eq_true rfl)⟩ rfl ⟨(zcs_c (zrv_cat _ _) (zcs_c rfl zcs_0)), (Nat.le_of_ble_eq_true rfl)⟩ hL.1.1 dX4_needAll_20) ?_
    rintro x3 _ _ _ hx3 ⟨rfl, hV⟩ hG
    refine z_iload hC (hL.at 4 rfl) dX4_needAll_23 ?_
    refine z_call_v hG (zrunV (ci := 4) hC hG (Nat.le_of_ble_eq_true rfl) (Nat.le_of_ble_eq_true rfl) (zobj hG ho (Nat.le_of_ble_eq_true rfl) (Nat.le_of_ble_eq_true rfl)) (ihX4_need K3 o ho x2 x3 hx3 p3 hp3 hV) kVX4_172 rfl rfl rfl ⟨Nat.le_refl _, (by show 8 + (10 + 11) + rl ≤ rl + 29; omega)⟩ ⟨(Nat.le_of_ble_eq_true rfl), (Nat.le_of_ble_eq_true rfl)⟩ rfl ⟨zcs_0, (Nat.le_of_ble_eq_true rfl)⟩ hL.1.1 dX4_needAll_25) ?_
    rintro G1 _ _ hV hG
    refine z_iincV (fun x4 => [(5, .int (zI x4)), (0, .ref (zA P o 0 0)), (1, zrv P p0), (2, .int (zI p1)), (3, .int (zI p2)), (4, .int (zI p3))]) hC hL (k := 5) rfl (by decide) (fun _ => rfl) hV dX4_needAll_28 ?_
    intro x4 hx4 hV ls hL
    refine z_goto (tgt := 3) hC dX4_needAll_31 (by decide) ?_
    exact hP3 x4 G1 hV hx4 _ _ hG _ (hL.sub [1, 2, 3, 4, 5, 0] rfl)
abbrev rgNeed (d : Nat) : Room := { frames := 2 + d, cells := 0, slots := 0, locals := 36 + 29 * d }
def vggNeed : Nat → (Nat → ZR → Int → Int → ZG → (ZG → Prop) → Prop) × (Nat → ZR → Int → Int → Int → ZG → (ZG → Prop) → Prop)
  | 0 => (fun _ _ _ _ _ _ => False, fun _ _ _ _ _ _ _ => False)
  | d + 1 => (bX4_need ((vggNeed d).1) ((vggNeed d).2), bX4_needAll ((vggNeed d).1) ((vggNeed d).2))
def vX4_need (d : Nat) (o : Nat) (p0 : ZR) (p1 : Int) (p2 : Int) (G : ZG) (Q : ZG → Prop) : Prop := (vggNeed d).1 o p0 p1 p2 G Q
def vX4_needAll (d : Nat) (o : Nat) (p0 : ZR) (p1 : Int) (p2 : Int) (p3 : Int) (G : ZG) (Q : ZG → Prop) : Prop := (vggNeed d).2 o p0 p1 p2 p3 G Q
theorem vX4_need_s (d : Nat) (o : Nat) (p0 : ZR) (p1 : Int) (p2 : Int) (G : ZG) (Q : ZG → Prop) : vX4_need (d + 1) o p0 p1 p2 G Q = bX4_need (vX4_need d) (vX4_needAll d) o p0 p1 p2 G Q := rfl
theorem vX4_needAll_s (d : Nat) (o : Nat) (p0 : ZR) (p1 : Int) (p2 : Int) (p3 : Int) (G : ZG) (Q : ZG → Prop) : vX4_needAll (d + 1) o p0 p1 p2 p3 G Q = bX4_needAll (vX4_need d) (vX4_needAll d) o p0 p1 p2 p3 G Q := rfl
theorem ggNeed (l : Launch) (P : ZP) : ∀ d : Nat, (∀ (G : ZG) (o : Nat) (ho : tCls o = 4) (p0 : ZR) (p1 : Int) (hp1 : inR p1) (p2 : Int) (hp2 : inR p2) {Q : ZG → Prop}, vX4_need d o p0 p1 p2 G Q → Met l yX4_need (ws_ yX4_need cX4_need 10 none) (rgNeed d) (zPc P G [.ref (zA P o 0 0), zrv P p0, .int (zI p1), .int (zI p2)]) (zQv P Q) 0 0 (zAr P)) ∧ (∀ (G : ZG) (o : Nat) (ho : tCls o = 4) (p0 : ZR) (p1 : Int) (hp1 : inR p1) (p2 : Int) (hp2 : inR p2) (p3 : Int) (hp3 : inR p3) {Q : ZG → Prop}, vX4_needAll d o p0 p1 p2 p3 G Q → Met l yX4_needAll (ws_ yX4_needAll cX4_needAll 6 none) (rgNeed d) (zPc P G [.ref (zA P o 0 0), zrv P p0, .int (zI p1), .int (zI p2), .int (zI p3)]) (zQv P Q) 0 0 (zAr P)) := by
  intro d
  induction d with
  | zero => exact ⟨fun G o ho p0 p1 hp1 p2 hp2 Q h => False.elim h, fun G o ho p0 p1 hp1 p2 hp2 p3 hp3 Q h => False.elim h⟩
  | succ d ih =>
    have e : 36 + 29 * (d + 1) = 36 + 29 * d + 29 := by omega
    exact ⟨fun G o ho p0 p1 hp1 p2 hp2 Q h => (by
      simp only [rgNeed, e]
      exact sX4_need l P (rf := 2 + d) (rl := 36 + 29 * d) (by omega) (by omega) ((vggNeed d).1) ((vggNeed d).2) (ih.1) (ih.2) _ o ho p0 p1 hp1 p2 hp2 h), fun G o ho p0 p1 hp1 p2 hp2 p3 hp3 Q h => (by
      simp only [rgNeed, e]
      exact sX4_needAll l P (rf := 2 + d) (rl := 36 + 29 * d) (by omega) (by omega) ((vggNeed d).1) ((vggNeed d).2) (ih.1) (ih.2) _ o ho p0 p1 hp1 p2 hp2 p3 hp3 h)⟩
theorem mX4_need (l : Launch) (P : ZP) (d : Nat) (G : ZG) (o : Nat) (ho : tCls o = 4) (p0 : ZR) (p1 : Int) (hp1 : inR p1) (p2 : Int) (hp2 : inR p2) {Q : ZG → Prop} (hV : vX4_need d o p0 p1 p2 G Q) : Met l yX4_need (ws_ yX4_need cX4_need 10 none) (rgNeed d) (zPc P G [.ref (zA P o 0 0), zrv P p0, .int (zI p1), .int (zI p2)]) (zQv P Q) 0 0 (zAr P) := (ggNeed l P d).1 G o ho p0 p1 hp1 p2 hp2 hV
theorem mX4_needAll (l : Launch) (P : ZP) (d : Nat) (G : ZG) (o : Nat) (ho : tCls o = 4) (p0 : ZR) (p1 : Int) (hp1 : inR p1) (p2 : Int) (hp2 : inR p2) (p3 : Int) (hp3 : inR p3) {Q : ZG → Prop} (hV : vX4_needAll d o p0 p1 p2 p3 G Q) : Met l yX4_needAll (ws_ yX4_needAll cX4_needAll 6 none) (rgNeed d) (zPc P G [.ref (zA P o 0 0), zrv P p0, .int (zI p1), .int (zI p2), .int (zI p3)]) (zQv P Q) 0 0 (zAr P) := (ggNeed l P d).2 G o ho p0 p1 hp1 p2 hp2 p3 hp3 hV
abbrev rJ22_bitCount : Room := { frames := 1, cells := 0, slots := 0, locals := 12 }
def vJ22_bitCount (p0 : Int) (Q : Int → Prop) : Prop := zlt1 (w32 (p0 - (bAnd (bUshr p0 1) 1431655765))) fun (x1 : Int) => zlt1 (w32 ((bAnd x1 858993459) + (bAnd (bUshr x1 2) 858993459))) fun (x2 : Int) => zlt1 (bAnd (w32 (x2 + (bUshr x2 4))) 252645135) fun (x3 : Int) => zlt1 (w32 (x3 + (bUshr x3 8))) fun (x4 : Int) => zlt1 (w32 (x4 + (bUshr x4 16))) fun (x5 : Int) => Q (bAnd x5 63)
set_option maxHeartbeats 4000000 in
theorem mJ22_bitCount (l : Launch) (P : ZP) (G : ZG) (p0 : Int) (hp0 : inR p0) {Q : Int → Prop} (hV : vJ22_bitCount p0 Q) : Met l yJ22_bitCount (ws_ yJ22_bitCount cJ22_bitCount 1 (some .int)) rJ22_bitCount (zPc P G [.int (zI p0)]) (zQi P (fun r G2 => G = G2 ∧ Q r)) 0 0 (zAr P) := by
  refine zMet RJ22 (by decide +kernel) rfl (zcs_c rfl zcs_0) (Nat.le_of_ble_eq_true rfl) (fun p e s m args below meth c ls hC hr hk hn hG hL => ?_)
  unfold vJ22_bitCount at hV
  refine z_iload_n hC rfl (hL.at 0 rfl) dJ22_bitCount_0 ?_
  refine z_iload_n hC rfl (hL.at 0 rfl) dJ22_bitCount_1 ?_
  refine z_iconst hC dJ22_bitCount_2 ?_
  refine z_iushr hC dJ22_bitCount_3 ?_
  refine z_ldcw (n := 1431655765) hC q1557 rfl dJ22_bitCount_4 ?_
  refine z_iand hC dJ22_bitCount_7 ?_
  refine z_isub hC dJ22_bitCount_8 ?_
  refine z_top hV (inR_w _) ?_
  intro x1 hx1 hV
  refine z_istore_n (lv' := [(0, .int (zI x1))]) hC rfl hL (by decide) rfl dJ22_bitCount_9 (fun ls hL => ?_)
  refine z_iload_n hC rfl (hL.at 0 rfl) dJ22_bitCount_10 ?_
  refine z_ldcw (n := 858993459) hC q1558 rfl dJ22_bitCount_11 ?_
  refine z_iand hC dJ22_bitCount_14 ?_
  refine z_iload_n hC rfl (hL.at 0 rfl) dJ22_bitCount_15 ?_
  refine z_iconst hC dJ22_bitCount_16 ?_
  refine z_iushr hC dJ22_bitCount_17 ?_
  refine z_ldcw (n := 858993459) hC q1558 rfl dJ22_bitCount_18 ?_
  refine z_iand hC dJ22_bitCount_21 ?_
  refine z_iadd hC dJ22_bitCount_22 ?_
  refine z_top hV (inR_w _) ?_
  intro x2 hx2 hV
  refine z_istore_n (lv' := [(0, .int (zI x2))]) hC rfl hL (by decide) rfl dJ22_bitCount_23 (fun ls hL => ?_)
  refine z_iload_n hC rfl (hL.at 0 rfl) dJ22_bitCount_24 ?_
  refine z_iload_n hC rfl (hL.at 0 rfl) dJ22_bitCount_25 ?_
  refine z_iconst hC dJ22_bitCount_26 ?_
  refine z_iushr hC dJ22_bitCount_27 ?_
  refine z_iadd hC dJ22_bitCount_28 ?_
  refine z_ldcw (n := 252645135) hC q1559 rfl dJ22_bitCount_29 ?_
  refine z_iand hC dJ22_bitCount_32 ?_
  refine z_top hV (inR_toInt _) ?_
  intro x3 hx3 hV
  refine z_istore_n (lv' := [(0, .int (zI x3))]) hC rfl hL (by decide) rfl dJ22_bitCount_33 (fun ls hL => ?_)
  refine z_iload_n hC rfl (hL.at 0 rfl) dJ22_bitCount_34 ?_
  refine z_iload_n hC rfl (hL.at 0 rfl) dJ22_bitCount_35 ?_
  refine z_bipush hC rfl dJ22_bitCount_36 ?_
  refine z_iushr hC dJ22_bitCount_38 ?_
  refine z_iadd hC dJ22_bitCount_39 ?_
  refine z_top hV (inR_w _) ?_
  intro x4 hx4 hV
  refine z_istore_n (lv' := [(0, .int (zI x4))]) hC rfl hL (by decide) rfl dJ22_bitCount_40 (fun ls hL => ?_)
  refine z_iload_n hC rfl (hL.at 0 rfl) dJ22_bitCount_41 ?_
  refine z_iload_n hC rfl (hL.at 0 rfl) dJ22_bitCount_42 ?_
  refine z_bipush hC rfl dJ22_bitCount_43 ?_
  refine z_iushr hC dJ22_bitCount_45 ?_
  refine z_iadd hC dJ22_bitCount_46 ?_
  refine z_top hV (inR_w _) ?_
  intro x5 hx5 hV
  refine z_istore_n (lv' := [(0, .int (zI x5))]) hC rfl hL (by decide) rfl dJ22_bitCount_47 (fun ls hL => ?_)
  refine z_iload_n hC rfl (hL.at 0 rfl) dJ22_bitCount_48 ?_
  refine z_bipush hC rfl dJ22_bitCount_49 ?_
  refine z_iand hC dJ22_bitCount_51 ?_
  exact z_iret hC hG hr hk (inR_toInt _) ⟨rfl, hV⟩ (Nat.le_of_ble_eq_true rfl) (Nat.le_of_ble_eq_true rfl) dJ22_bitCount_52
abbrev rX4_mostNeeded : Room := { frames := 142, cells := 0, slots := 0, locals := 3432 }
def vX4_mostNeeded (o : Nat) (G : ZG) (Q : ZG → Prop) : Prop := zpF G o 23 0 fun (G1 : ZG) => zl2 (fun (P7 : Int → ZG → Prop) (a7_1 : Int) (K7 : ZG) => vJ2_size 10 K7 fun (x1 : Int) => zbr (x1 ≤ a7_1) (zl2 (fun (P119 : Int → Int → Prop) (a119_1 : Int) (a119_2 : Int) => zgF K7 o 23 fun (x2 : Int) => zbr (x2 ≤ a119_2) (zaL K7 o 20 600 a119_1 fun (x3 : Int) => zpF K7 o 17 x3 fun (G2 : ZG) => zaL G2 o 21 600 a119_1 fun (x4 : Int) => zpF G2 o 18 x4 fun (G3 : ZG) => zpF G3 o 19 0 fun (G4 : ZG) => Q G4) (zaL K7 o 22 600 a119_2 fun (x5 : Int) => vJ22_bitCount x5 fun (x6 : Int) => zaL K7 o 22 600 a119_1 fun (x7 : Int) => vJ22_bitCount x7 fun (x8 : Int) => zlt1 (w32 (x6 - x8)) fun (x9 : Int) => zjn (fun (z175_0 : Int) => zlt1 (w32 (a119_2 + 1)) fun (x10 : Int) => P119 z175_0 x10) fun J175 => zjn (fun (_ : Unit) => J175 a119_2) fun J170 => zbr (0 < x9) (J170 ()) (zjn (fun (_ : Unit) => J175 a119_1) fun J174 => zbr (x9 ≠ 0) (J174 ()) (zaL K7 o 20 600 a119_2 fun (x11 : Int) => zaL K7 o 20 600 a119_1 fun (x12 : Int) => zbr (x12 ≤ x11) (J174 ()) (J170 ()))))) 0 1) (zgF K7 o 16 fun (x13 : Int) => vX1_has x13 a7_1 fun (x14 : Int) => zjn (fun (H109 : ZG) => zlt1 (w32 (a7_1 + 1)) fun (x15 : Int) => P7 x15 H109) fun J109 => zbr (x14 ≠ 0) (J109 K7) (vJ2_get 10 a7_1 K7 fun (x16 : ZR) => zca K7 x16 16 ∧ vX2_matchesT o x16 K7 fun (x17 : Int) (G5 : ZG) => zbr (x17 = 0) (J109 G5) (zl2 (fun (P55 : Int → ZG → Prop) (a55_2 : Int) (K55 : ZG) => zgF K55 0 5 fun (x18 : Int) => zbr (x18 ≤ a55_2) (J109 K55) (vJ2_get 10 a7_1 K55 fun (x19 : ZR) => zca K55 x19 16 ∧ zdR K55 x19 16 0 fun (x20 : ZR) => zeI K55 x20 a55_2 fun (x21 : Int) => vX1_told x21 K55 fun (x22 : ZR) => zisO K55 x22 9 ∧ vX9_pattern x22 K55 fun (x24 : ZR) => vX4_need 90 o x24 (w32 (a55_2 + 1)) a7_1 K55 fun (G6 : ZG) => zlt1 (w32 (a55_2 + 1)) fun (x25 : Int) => P55 x25 G6)) 0 G5)))) 0 G1
set_option maxHeartbeats 4000000 in
theorem mX4_mostNeeded (l : Launch) (P : ZP) (G : ZG) (o : Nat) (ho : tCls o = 4) {Q : ZG → Prop} (hV : vX4_mostNeeded o G Q) : Met l yX4_mostNeeded (ws_ yX4_mostNeeded cX4_mostNeeded 4 none) rX4_mostNeeded (zPc P G [.ref (zA P o 0 0)]) (zQv P Q) 0 0 (zAr P) := by
  refine zMet RX4 (plainFor_of_name (by decide)) rfl (zcs_c rfl zcs_0) (Nat.le_of_ble_eq_true rfl) (fun p e s m args below meth c ls hC hr hk hn hG hL => ?_)
  unfold vX4_mostNeeded at hV
  refine z_aload_n hC zvr_a rfl (hL.at 0 rfl) dX4_mostNeeded_0 ?_
  refine z_iconst hC dX4_mostNeeded_1 ?_
  refine z_putF hC hG kFX4_153_4 ho rfl rfl rfl nk_4_23 (inR_lit rfl) (Or.inl rfl) hV dX4_mostNeeded_2 ?_
  intro G1 _ _ hG hV
  refine z_iconst hC dX4_mostNeeded_5 ?_
  refine z_istore_n (lv' := [(1, .int (zI 0)), (0, .ref (zA P o 0 0))]) hC rfl hL (by decide) rfl dX4_mostNeeded_6 (fun ls hL => ?_)
  refine zl2_use hV (fun (a7_1 : Int) (K7 : ZG) => inR a7_1 → ∀ (H : Heap) (locs : List Loc), zS P s K7 H locs → ∀ (ls : Array Slot), zL ls 4 [(0, .ref (zA P o 0 0)), (1, .int (zI a7_1))] → W p l e rX4_mostNeeded s m args below meth c H locs 0 0 (MQ below (zQv P Q) args s 0 0 (zAr P)) (F0 m 7 ls [])) ?_ (inR_lit rfl) _ _ hG _ (hL.sub [1, 0] rfl)
  intro P7 a7_1 K7 hP7 hV ha7_1 H locs hG ls hL
  refine z_iload_n hC rfl (hL.at 1 rfl) dX4_mostNeeded_7 ?_
  refine z_aload_n hC zvr_a rfl (hL.at 0 rfl) dX4_mostNeeded_8 ?_
  refine z_getO hC hG 0 kFX4_3_4 ho rfl dX4_mostNeeded_9 ?_
  refine z_getO hC hG 10 kFX4_95_1 rfl rfl dX4_mostNeeded_12 ?_
  refine z_call_i hG (zrunV (ci := 2) hC hG (Nat.le_of_ble_eq_true rfl) (Nat.le_of_ble_eq_true rfl) (zobj hG rfl (Nat.le_of_ble_eq_true rfl) (Nat.le_of_ble_eq_true rfl)) (mJ2_size l P K7 10 rfl hV) kVX4_99 rfl rfl rfl ⟨(Nat.le_of_ble_eq_true rfl), (Nat.le_of_ble_eq_true rfl)⟩ ⟨(Nat.le_of_ble_eq_true rfl), (Nat.le_of_ble_eq_true rfl)⟩ rfl ⟨(zcs_c rfl zcs_0), (Nat.le_of_ble_eq_true rfl)⟩ hL.1.1 dX4_mostNeeded_15) ?_
  rintro x1 _ _ _ hx1 ⟨rfl, hV⟩ hG
  refine z_icmp_ge (tgt := 115) hC ha7_1 hx1 hV dX4_mostNeeded_18 (by decide) ?_ ?_
  · intro hV
    refine z_iconst hC dX4_mostNeeded_115 ?_
    refine z_istore_n (lv' := [(1, .int (zI 0)), (0, .ref (zA P o 0 0))]) hC rfl hL (by decide) rfl dX4_mostNeeded_116 (fun ls hL => ?_)
    refine z_iconst hC dX4_mostNeeded_117 ?_
    refine z_istore_n (lv' := [(2, .int (zI 1)), (1, .int (zI 0)), (0, .ref (zA P o 0 0))]) hC rfl hL (by decide) rfl dX4_mostNeeded_118 (fun ls hL => ?_)
    refine zl2_use hV (fun (a119_1 : Int) (a119_2 : Int) => inR a119_1 → inR a119_2 → ∀ (H : Heap) (locs : List Loc), zS P s K7 H locs → ∀ (ls : Array Slot), zL ls 4 [(0, .ref (zA P o 0 0)), (1, .int (zI a119_1)), (2, .int (zI a119_2))] → W p l e rX4_mostNeeded s m args below meth c H locs 0 0 (MQ below (zQv P Q) args s 0 0 (zAr P)) (F0 m 119 ls [])) ?_ (inR_lit rfl) (inR_lit rfl) _ _ hG _ (hL.sub [2, 1, 0] rfl)
    intro P119 a119_1 a119_2 hP119 hV ha119_1 ha119_2 H locs hG ls hL
    refine z_iload_n hC rfl (hL.at 2 rfl) dX4_mostNeeded_119 ?_
    refine z_aload_n hC zvr_a rfl (hL.at 0 rfl) dX4_mostNeeded_120 ?_
    refine z_getF hC hG kFX4_153_4 ho rfl hV dX4_mostNeeded_121 ?_
    intro x2 hx2 hV
    refine z_icmp_ge (tgt := 182) hC ha119_2 hx2 hV dX4_mostNeeded_124 (by decide) ?_ ?_
    · intro hV
      refine z_aload_n hC zvr_a rfl (hL.at 0 rfl) dX4_mostNeeded_182 ?_
      refine z_aload_n hC zvr_a rfl (hL.at 0 rfl) dX4_mostNeeded_183 ?_
      refine z_getA hC hG kFX4_45_4 ho rfl dX4_mostNeeded_184 ?_
      refine z_iload_n hC rfl (hL.at 1 rfl) dX4_mostNeeded_187 ?_
      refine z_iald hC hG ho rfl rfl ha119_1 hV dX4_mostNeeded_188 ?_
      intro x3 hx3 hV
      refine z_putF hC hG kFX4_62_4 ho rfl rfl rfl nk_4_17 hx3 (Or.inl rfl) hV dX4_mostNeeded_189 ?_
      intro G2 _ _ hG hV
      refine z_aload_n hC zvr_a rfl (hL.at 0 rfl) dX4_mostNeeded_192 ?_
      refine z_aload_n hC zvr_a rfl (hL.at 0 rfl) dX4_mostNeeded_193 ?_
      refine z_getA hC hG kFX4_48_4 ho rfl dX4_mostNeeded_194 ?_
      refine z_iload_n hC rfl (hL.at 1 rfl) dX4_mostNeeded_197 ?_
      refine z_iald hC hG ho rfl rfl ha119_1 hV dX4_mostNeeded_198 ?_
      intro x4 hx4 hV
      refine z_putF hC hG kFX4_65_4 ho rfl rfl rfl nk_4_18 hx4 (Or.inl rfl) hV dX4_mostNeeded_199 ?_
      intro G3 _ _ hG hV
      refine z_aload_n hC zvr_a rfl (hL.at 0 rfl) dX4_mostNeeded_202 ?_
      refine z_iconst hC dX4_mostNeeded_203 ?_
      refine z_putF hC hG kFX4_68_4 ho rfl rfl rfl nk_4_19 (inR_lit rfl) (Or.inr ⟨rfl, (Or.inl rfl)⟩) hV dX4_mostNeeded_204 ?_
      intro G4 _ _ hG hV
      exact z_vret hC hG hr hk hV (Nat.le_of_ble_eq_true rfl) (Nat.le_of_ble_eq_true rfl) dX4_mostNeeded_207
    · intro hV
      refine z_aload_n hC zvr_a rfl (hL.at 0 rfl) dX4_mostNeeded_127 ?_
      refine z_getA hC hG kFX4_51_4 ho rfl dX4_mostNeeded_128 ?_
      refine z_iload_n hC rfl (hL.at 2 rfl) dX4_mostNeeded_131 ?_
      refine z_iald hC hG ho rfl rfl ha119_2 hV dX4_mostNeeded_132 ?_
      intro x5 hx5 hV
      refine z_call_i hG (zrunS hC hG (mJ22_bitCount l P K7 x5 hx5 hV) kSX4_176 rfl rfl rfl ⟨(Nat.le_of_ble_eq_true rfl), (Nat.le_of_ble_eq_true rfl)⟩ ⟨(Nat.le_of_ble_eq_true rfl), (Nat.le_of_ble_eq_true rfl)⟩ rfl ⟨zcs_0, (Nat.le_of_ble_eq_true rfl)⟩ hL.1.1 dX4_mostNeeded_133) ?_
      rintro x6 _ _ _ hx6 ⟨rfl, hV⟩ hG
      refine z_aload_n hC zvr_a rfl (hL.at 0 rfl) dX4_mostNeeded_136 ?_
      refine z_getA hC hG kFX4_51_4 ho rfl dX4_mostNeeded_137 ?_
      refine z_iload_n hC rfl (hL.at 1 rfl) dX4_mostNeeded_140 ?_
      refine z_iald hC hG ho rfl rfl ha119_1 hV dX4_mostNeeded_141 ?_
      intro x7 hx7 hV
      refine z_call_i hG (zrunS hC hG (mJ22_bitCount l P K7 x7 hx7 hV) kSX4_176 rfl rfl rfl ⟨(Nat.le_of_ble_eq_true rfl), (Nat.le_of_ble_eq_true rfl)⟩ ⟨(Nat.le_of_ble_eq_true rfl), (Nat.le_of_ble_eq_true rfl)⟩ rfl ⟨(zcs_c rfl zcs_0), (Nat.le_of_ble_eq_true rfl)⟩ hL.1.1 dX4_mostNeeded_142) ?_
      rintro x8 _ _ _ hx8 ⟨rfl, hV⟩ hG
      refine z_isub hC dX4_mostNeeded_145 ?_
      refine z_top hV (inR_w _) ?_
      intro x9 hx9 hV
      refine z_istore_n (lv' := [(3, .int (zI x9)), (0, .ref (zA P o 0 0)), (1, .int (zI a119_1)), (2, .int (zI a119_2))]) hC rfl hL (by decide) rfl dX4_mostNeeded_146 (fun ls hL => ?_)
      refine z_iload_n hC rfl (hL.at 0 rfl) dX4_mostNeeded_147 ?_
      obtain ⟨J175, eJ175, hV⟩ := zjn_abs hV
      have hJ175 : ∀ {H : Heap} {locs : List Loc}, zS P s K7 H locs → ∀ (z175_0 : Int), inR z175_0 → J175 z175_0 → ∀ (ls : Array Slot), zL ls 4 [(0, .ref (zA P o 0 0)), (2, .int (zI a119_2))] → W p l e rX4_mostNeeded s m args below meth c H locs 0 0 (MQ below (zQv P Q) args s 0 0 (zAr P)) (F0 m 175 ls [.int (zI z175_0)]) := by
        intro H locs hG z175_0 hz175_0 hV ls hL
        rw [eJ175] at hV
        refine z_istore_n (lv' := [(1, .int (zI z175_0)), (0, .ref (zA P o 0 0)), (2, .int (zI a119_2))]) hC rfl hL (by decide) rfl dX4_mostNeeded_175 (fun ls hL => ?_)
        refine z_iincV (fun x10 => [(2, .int (zI x10)), (1, .int (zI z175_0)), (0, .ref (zA P o 0 0))]) hC hL (k := 2) rfl (by decide) (fun _ => rfl) hV dX4_mostNeeded_176 ?_
        intro x10 hx10 hV ls hL
        refine z_goto (tgt := 119) hC dX4_mostNeeded_179 (by decide) ?_
        exact hP119 z175_0 x10 hV hz175_0 hx10 _ _ hG _ (hL.sub [2, 1, 0] rfl)
      obtain ⟨J170, eJ170, hV⟩ := zjn_abs hV
      have hJ170 : ∀ {H : Heap} {locs : List Loc}, zS P s K7 H locs → J170 () → ∀ (ls : Array Slot), zL ls 4 [(0, .ref (zA P o 0 0)), (2, .int (zI a119_2))] → W p l e rX4_mostNeeded s m args below meth c H locs 0 0 (MQ below (zQv P Q) args s 0 0 (zAr P)) (F0 m 170 ls []) := by
        intro H locs hG hV ls hL
        rw [eJ170] at hV
        refine z_iload_n hC rfl (hL.at 1 rfl) dX4_mostNeeded_170 ?_
        refine z_goto (tgt := 175) hC dX4_mostNeeded_171 (by decide) ?_
        exact hJ175 hG a119_2 ha119_2 hV _ hL
      refine z_if_gt (tgt := 170) hC hx9 hV dX4_mostNeeded_148 (by decide) ?_ ?_
      · intro hV
        exact hJ170 hG hV _ (hL.sub [1, 3] rfl)
      · intro hV
        refine z_iload_n hC rfl (hL.at 0 rfl) dX4_mostNeeded_151 ?_
        obtain ⟨J174, eJ174, hV⟩ := zjn_abs hV
        have hJ174 : ∀ {H : Heap} {locs : List Loc}, zS P s K7 H locs → J174 () → ∀ (ls : Array Slot), zL ls 4 [(0, .ref (zA P o 0 0)), (1, .int (zI a119_1)), (2, .int (zI a119_2))] → W p l e rX4_mostNeeded s m args below meth c H locs 0 0 (MQ below (zQv P Q) args s 0 0 (zAr P)) (F0 m 174 ls []) := by
          intro H locs hG hV ls hL
          rw [eJ174] at hV
          refine z_iload_n hC rfl (hL.at 1 rfl) dX4_mostNeeded_174 ?_
          exact hJ175 hG a119_1 ha119_1 hV _ (hL.sub [0, 2] rfl)
        refine z_if_ne (tgt := 174) hC hx9 hV dX4_mostNeeded_152 (by decide) ?_ ?_
        · intro hV
          exact hJ174 hG hV _ (hL.sub [1, 2, 3] rfl)
        · intro hV
          refine z_aload_n hC zvr_a rfl (hL.at 1 rfl) dX4_mostNeeded_155 ?_
          refine z_getA hC hG kFX4_45_4 ho rfl dX4_mostNeeded_156 ?_
          refine z_iload_n hC rfl (hL.at 3 rfl) dX4_mostNeeded_159 ?_
          refine z_iald hC hG ho rfl rfl ha119_2 hV dX4_mostNeeded_160 ?_
          intro x11 hx11 hV
          refine z_aload_n hC zvr_a rfl (hL.at 1 rfl) dX4_mostNeeded_161 ?_
          refine z_getA hC hG kFX4_45_4 ho rfl dX4_mostNeeded_162 ?_
          refine z_iload_n hC rfl (hL.at 2 rfl) dX4_mostNeeded_165 ?_
          refine z_iald hC hG ho rfl rfl ha119_1 hV dX4_mostNeeded_166 ?_
          intro x12 hx12 hV
          refine z_icmp_ge (tgt := 174) hC hx11 hx12 hV dX4_mostNeeded_167 (by decide) ?_ ?_
          · intro hV
            exact hJ174 hG hV _ (hL.sub [1, 2, 3] rfl)
          · intro hV
            exact hJ170 hG hV _ (hL.sub [1, 3] rfl)
  · intro hV
    refine z_aload_n hC zvr_a rfl (hL.at 0 rfl) dX4_mostNeeded_21 ?_
    refine z_getF hC hG kFX4_88_4 ho rfl hV dX4_mostNeeded_22 ?_
    intro x13 hx13 hV
    refine z_iload_n hC rfl (hL.at 1 rfl) dX4_mostNeeded_25 ?_
    refine z_call_z hG (zrunSN hC hG (mX1_has l P K7 x13 hx13 a7_1 ha7_1 hV) kSX4_104 rfl rfl rfl ⟨(Nat.le_of_ble_eq_true rfl), (Nat.le_of_ble_eq_true rfl)⟩ ⟨(Nat.le_of_ble_eq_true rfl), (Nat.le_of_ble_eq_true rfl)⟩ rfl ⟨zcs_0, (Nat.le_of_ble_eq_true rfl)⟩ hL.1.1 dX4_mostNeeded_26) ?_
    rintro x14 _ _ _ hx14 ⟨rfl, hV⟩ hG
    obtain ⟨J109, eJ109, hV⟩ := zjn_abs hV
    have hJ109 : ∀ (H109 : ZG), J109 H109 → ∀ (H : Heap) (locs : List Loc) (ls : Array Slot), zS P s H109 H locs → zL ls 4 [(0, .ref (zA P o 0 0)), (1, .int (zI a7_1))] → W p l e rX4_mostNeeded s m args below meth c H locs 0 0 (MQ below (zQv P Q) args s 0 0 (zAr P)) (F0 m 109 ls []) := by
      intro H109 hV H locs ls hG hL
      rw [eJ109] at hV
      refine z_iincV (fun x15 => [(1, .int (zI x15)), (0, .ref (zA P o 0 0))]) hC hL (k := 1) rfl (by decide) (fun _ => rfl) hV dX4_mostNeeded_109 ?_
      intro x15 hx15 hV ls hL
      refine z_goto (tgt := 7) hC dX4_mostNeeded_112 (by decide) ?_
      exact hP7 x15 H109 hV hx15 _ _ hG _ (hL.sub [1, 0] rfl)
    refine z_if_ne (tgt := 109) hC (inR_b hx14) hV dX4_mostNeeded_29 (by decide) ?_ ?_
    · intro hV
      exact hJ109 K7 hV _ _ _ hG hL
    · intro hV
      refine z_aload_n hC zvr_a rfl (hL.at 0 rfl) dX4_mostNeeded_32 ?_
      refine z_aload_n hC zvr_a rfl (hL.at 0 rfl) dX4_mostNeeded_33 ?_
      refine z_getO hC hG 0 kFX4_3_4 ho rfl dX4_mostNeeded_34 ?_
      refine z_getO hC hG 10 kFX4_95_1 rfl rfl dX4_mostNeeded_37 ?_
      refine z_iload_n hC rfl (hL.at 1 rfl) dX4_mostNeeded_40 ?_
      refine z_call_r hG (zrunV (ci := 2) hC hG (Nat.le_of_ble_eq_true rfl) (Nat.le_of_ble_eq_true rfl) (zobj hG rfl (Nat.le_of_ble_eq_true rfl) (Nat.le_of_ble_eq_true rfl)) (mJ2_get l P K7 10 rfl a7_1 ha7_1 hV) kVX4_108 rfl rfl rfl ⟨(Nat.le_of_ble_eq_true rfl), (Nat.le_of_ble_eq_true rfl)⟩ ⟨(Nat.le_of_ble_eq_true rfl), (Nat.le_of_ble_eq_true rfl)⟩ rfl ⟨(zcs_c rfl zcs_0), (Nat.le_of_ble_eq_true rfl)⟩ hL.1.1 dX4_mostNeeded_41) ?_
      rintro x16 _ _ _  ⟨rfl, hV⟩ hG
      refine z_cast hC hG (ci := 16) (Nat.le_of_ble_eq_true rfl) (Nat.le_of_ble_eq_true rfl) q1379 hV dX4_mostNeeded_44 (fun hV => ?_)
      refine z_call_i hG (zrunU hC hG (zrecv hC (Nat.le_of_ble_eq_true rfl) (Nat.le_of_ble_eq_true rfl) (zobj hG ho (Nat.le_of_ble_eq_true rfl) (Nat.le_of_ble_eq_true rfl))) (mX2_matchesT l P K7 o ho x16 hV) kUX4_114_Tree rfl rfl rfl ⟨(Nat.le_of_ble_eq_true rfl), (Nat.le_of_ble_eq_true rfl)⟩ ⟨(Nat.le_of_ble_eq_true rfl), (Nat.le_of_ble_eq_true rfl)⟩ rfl ⟨zcs_0, (Nat.le_of_ble_eq_true rfl)⟩ hL.1.1 dX4_mostNeeded_47) ?_
      rintro x17 G5 _ _ hx17 hV hG
      refine z_if_eq (tgt := 109) hC hx17 hV dX4_mostNeeded_50 (by decide) ?_ ?_
      · intro hV
        exact hJ109 G5 hV _ _ _ hG hL
      · intro hV
        refine z_iconst hC dX4_mostNeeded_53 ?_
        refine z_istore_n (lv' := [(2, .int (zI 0)), (0, .ref (zA P o 0 0)), (1, .int (zI a7_1))]) hC rfl hL (by decide) rfl dX4_mostNeeded_54 (fun ls hL => ?_)
        refine zl2_use hV (fun (a55_2 : Int) (K55 : ZG) => inR a55_2 → ∀ (H : Heap) (locs : List Loc), zS P s K55 H locs → ∀ (ls : Array Slot), zL ls 4 [(0, .ref (zA P o 0 0)), (1, .int (zI a7_1)), (2, .int (zI a55_2))] → W p l e rX4_mostNeeded s m args below meth c H locs 0 0 (MQ below (zQv P Q) args s 0 0 (zAr P)) (F0 m 55 ls [])) ?_ (inR_lit rfl) _ _ hG _ (hL.sub [1, 2, 0] rfl)
        intro P55 a55_2 K55 hP55 hV ha55_2 H locs hG ls hL
        refine z_iload_n hC rfl (hL.at 2 rfl) dX4_mostNeeded_55 ?_
        refine z_aload_n hC zvr_a rfl (hL.at 0 rfl) dX4_mostNeeded_56 ?_
        refine z_getO hC hG 0 kFX4_3_4 ho rfl dX4_mostNeeded_57 ?_
        refine z_getF hC hG kFX4_156_1 rfl rfl hV dX4_mostNeeded_60 ?_
        intro x18 hx18 hV
        refine z_icmp_ge (tgt := 109) hC ha55_2 hx18 hV dX4_mostNeeded_63 (by decide) ?_ ?_
        · intro hV
          exact hJ109 K55 hV _ _ _ hG (hL.sub [0, 1] rfl)
        · intro hV
          refine z_aload_n hC zvr_a rfl (hL.at 0 rfl) dX4_mostNeeded_66 ?_
          refine z_aload_n hC zvr_a rfl (hL.at 0 rfl) dX4_mostNeeded_67 ?_
          refine z_getO hC hG 0 kFX4_3_4 ho rfl dX4_mostNeeded_68 ?_
          refine z_aload_n hC zvr_a rfl (hL.at 0 rfl) dX4_mostNeeded_71 ?_
          refine z_getO hC hG 0 kFX4_3_4 ho rfl dX4_mostNeeded_72 ?_
          refine z_getO hC hG 10 kFX4_95_1 rfl rfl dX4_mostNeeded_75 ?_
          refine z_iload_n hC rfl (hL.at 1 rfl) dX4_mostNeeded_78 ?_
          refine z_call_r hG (zrunV (ci := 2) hC hG (Nat.le_of_ble_eq_true rfl) (Nat.le_of_ble_eq_true rfl) (zobj hG rfl (Nat.le_of_ble_eq_true rfl) (Nat.le_of_ble_eq_true rfl)) (mJ2_get l P K55 10 rfl a7_1 ha7_1 hV) kVX4_108 rfl rfl rfl ⟨(Nat.le_of_ble_eq_true rfl), (Nat.le_of_ble_eq_true rfl)⟩ ⟨(Nat.le_of_ble_eq_true rfl), (Nat.le_of_ble_eq_true rfl)⟩ rfl ⟨(zcs_c rfl (zcs_c rfl zcs_0)), (Nat.le_of_ble_eq_true rfl)⟩ hL.1.1 dX4_mostNeeded_79) ?_
          rintro x19 _ _ _  ⟨rfl, hV⟩ hG
          refine z_cast hC hG (ci := 16) (Nat.le_of_ble_eq_true rfl) (Nat.le_of_ble_eq_true rfl) q1379 hV dX4_mostNeeded_82 (fun hV => ?_)
          refine z_dR hC hG kFX4_159_16 hV dX4_mostNeeded_85 ?_
          intro x20 hV
          refine z_iload_n hC rfl (hL.at 2 rfl) dX4_mostNeeded_88 ?_
          refine z_eald hC hG ha55_2 hV dX4_mostNeeded_89 ?_
          intro x21 hx21 hV
          refine z_call_r hG (zrunVN (ci := 1) hC hG (Nat.le_of_ble_eq_true rfl) (Nat.le_of_ble_eq_true rfl) (zobj hG rfl (Nat.le_of_ble_eq_true rfl) (Nat.le_of_ble_eq_true rfl)) (mX1_told l P K55 x21 hx21 hV) kVX4_162 rfl rfl rfl ⟨(Nat.le_of_ble_eq_true rfl), (Nat.le_of_ble_eq_true rfl)⟩ ⟨(Nat.le_of_ble_eq_true rfl), (Nat.le_of_ble_eq_true rfl)⟩ rfl ⟨(zcs_c rfl zcs_0), (Nat.le_of_ble_eq_true rfl)⟩ hL.1.1 dX4_mostNeeded_90) ?_
          rintro x22 _ _ _  ⟨rfl, hV⟩ hG
          obtain ⟨hO23, hV⟩ := hV
          refine z_call_r hG (zrunVD hC hG hO23 (mX9_pattern l P K55 x22 hV) kVX4_166 rfl rfl rfl ⟨(Nat.le_of_ble_eq_true rfl), (Nat.le_of_ble_eq_true rfl)⟩ ⟨(Nat.le_of_ble_eq_true rfl), (Nat.le_of_ble_eq_true rfl)⟩ rfl ⟨(zcs_c rfl zcs_0), (Nat.le_of_ble_eq_true rfl)⟩ hL.1.1 dX4_mostNeeded_93) ?_
          rintro x24 _ _ _  ⟨rfl, hV⟩ hG
          refine z_iload_n hC rfl (hL.at 2 rfl) dX4_mostNeeded_96 ?_
          refine z_iconst hC dX4_mostNeeded_97 ?_
          refine z_iadd hC dX4_mostNeeded_98 ?_
          refine z_iload_n hC rfl (hL.at 1 rfl) dX4_mostNeeded_99 ?_
          refine z_call_v hG (zrunV (ci := 4) hC hG (Nat.le_of_ble_eq_true rfl) (Nat.le_of_ble_eq_true rfl) (zobj hG ho (Nat.le_of_ble_eq_true rfl) (Nat.le_of_ble_eq_true rfl)) (mX4_need l P 90 K55 o ho x24 (w32 (a55_2 + 1)) (inR_w _) a7_1 ha7_1 hV) kVX4_172 rfl rfl rfl ⟨(Nat.le_of_ble_eq_true rfl), (Nat.le_of_ble_eq_true rfl)⟩ ⟨(Nat.le_of_ble_eq_true rfl), (Nat.le_of_ble_eq_true rfl)⟩ rfl ⟨zcs_0, (Nat.le_of_ble_eq_true rfl)⟩ hL.1.1 dX4_mostNeeded_100) ?_
          rintro G6 _ _ hV hG
          refine z_iincV (fun x25 => [(2, .int (zI x25)), (0, .ref (zA P o 0 0)), (1, .int (zI a7_1))]) hC hL (k := 2) rfl (by decide) (fun _ => rfl) hV dX4_mostNeeded_103 ?_
          intro x25 hx25 hV ls hL
          refine z_goto (tgt := 55) hC dX4_mostNeeded_106 (by decide) ?_
          exact hP55 x25 G6 hV hx25 _ _ hG _ (hL.sub [1, 2, 0] rfl)
abbrev rX4_manyOf : Room := { frames := 4, cells := 0, slots := 0, locals := 76 }
def vX4_manyOf (o : Nat) (p0 : Int) (G : ZG) (Q : Int → Prop) : Prop := zjn (fun (z36_0 : Int) => Q z36_0) fun J36 => zbr (p0 ≠ 4) (zbr (p0 ≠ 5) (vJ2_get 7 p0 G fun (x1 : ZR) => zcaL x1 2 fun (o2 : Nat) => vJ2_size o2 G fun (x3 : Int) => J36 x3) (J36 4)) (J36 10)
set_option maxHeartbeats 4000000 in
theorem mX4_manyOf (l : Launch) (P : ZP) (G : ZG) (o : Nat) (ho : tCls o = 4) (p0 : Int) (hp0 : inR p0) {Q : Int → Prop} (hV : vX4_manyOf o p0 G Q) : Met l yX4_manyOf (ws_ yX4_manyOf cX4_manyOf 2 (some .int)) rX4_manyOf (zPc P G [.ref (zA P o 0 0), .int (zI p0)]) (zQi P (fun r G2 => G = G2 ∧ Q r)) 0 0 (zAr P) := by
  refine zMet RX4 (plainFor_of_name (by decide)) rfl (zcs_c rfl (zcs_c rfl zcs_0)) (Nat.le_of_ble_eq_true rfl) (fun p e s m args below meth c ls hC hr hk hn hG hL => ?_)
  unfold vX4_manyOf at hV
  refine z_iload_n hC rfl (hL.at 1 rfl) dX4_manyOf_0 ?_
  refine z_iconst hC dX4_manyOf_1 ?_
  obtain ⟨J36, eJ36, hV⟩ := zjn_abs hV
  have hJ36 : ∀ {H : Heap} {locs : List Loc}, zS P s G H locs → ∀ (z36_0 : Int), inR z36_0 → J36 z36_0 → ∀ (ls : Array Slot), zL ls 2 [] → W p l e rX4_manyOf s m args below meth c H locs 0 0 (MQ below (zQi P (fun r G2 => G = G2 ∧ Q r)) args s 0 0 (zAr P)) (F0 m 36 ls [.int (zI z36_0)]) := by
    intro H locs hG z36_0 hz36_0 hV ls hL
    rw [eJ36] at hV
    exact z_iret hC hG hr hk hz36_0 ⟨rfl, hV⟩ (Nat.le_of_ble_eq_true rfl) (Nat.le_of_ble_eq_true rfl) dX4_manyOf_36
  refine z_icmp_ne (tgt := 10) hC hp0 (inR_lit rfl) hV dX4_manyOf_2 (by decide) ?_ ?_
  · intro hV
    refine z_iload_n hC rfl (hL.at 1 rfl) dX4_manyOf_10 ?_
    refine z_iconst hC dX4_manyOf_11 ?_
    refine z_icmp_ne (tgt := 19) hC hp0 (inR_lit rfl) hV dX4_manyOf_12 (by decide) ?_ ?_
    · intro hV
      refine z_aload_n hC zvr_a rfl (hL.at 0 rfl) dX4_manyOf_19 ?_
      refine z_getO hC hG 0 kFX4_3_4 ho rfl dX4_manyOf_20 ?_
      refine z_getO hC hG 7 kFX4_143_1 rfl rfl dX4_manyOf_23 ?_
      refine z_iload_n hC rfl (hL.at 1 rfl) dX4_manyOf_26 ?_
      refine z_call_r hG (zrunV (ci := 2) hC hG (Nat.le_of_ble_eq_true rfl) (Nat.le_of_ble_eq_true rfl) (zobj hG rfl (Nat.le_of_ble_eq_true rfl) (Nat.le_of_ble_eq_true rfl)) (mJ2_get l P G 7 rfl p0 hp0 hV) kVX4_108 rfl rfl rfl ⟨(Nat.le_of_ble_eq_true rfl), (Nat.le_of_ble_eq_true rfl)⟩ ⟨(Nat.le_of_ble_eq_true rfl), (Nat.le_of_ble_eq_true rfl)⟩ rfl ⟨zcs_0, (Nat.le_of_ble_eq_true rfl)⟩ hL.1.1 dX4_manyOf_27) ?_
      rintro x1 _ _ _  ⟨rfl, hV⟩ hG
      refine z_castL hC hG (ci := 2) (Nat.le_of_ble_eq_true rfl) (Nat.le_of_ble_eq_true rfl) q1564 hV dX4_manyOf_30 ?_
      intro o2 ho2 hV
      refine z_call_i hG (zrunV (ci := 2) hC hG (Nat.le_of_ble_eq_true rfl) (Nat.le_of_ble_eq_true rfl) (zobj hG ho2 (Nat.le_of_ble_eq_true rfl) (Nat.le_of_ble_eq_true rfl)) (mJ2_size l P G o2 ho2 hV) kVX4_99 rfl rfl rfl ⟨(Nat.le_of_ble_eq_true rfl), (Nat.le_of_ble_eq_true rfl)⟩ ⟨(Nat.le_of_ble_eq_true rfl), (Nat.le_of_ble_eq_true rfl)⟩ rfl ⟨zcs_0, (Nat.le_of_ble_eq_true rfl)⟩ hL.1.1 dX4_manyOf_33) ?_
      rintro x3 _ _ _ hx3 ⟨rfl, hV⟩ hG
      exact hJ36 hG x3 hx3 hV _ (hL.sub [] rfl)
    · intro hV
      refine z_iconst hC dX4_manyOf_15 ?_
      refine z_goto (tgt := 36) hC dX4_manyOf_16 (by decide) ?_
      exact hJ36 hG 4 (inR_lit rfl) hV _ (hL.sub [] rfl)
  · intro hV
    refine z_bipush hC rfl dX4_manyOf_5 ?_
    refine z_goto (tgt := 36) hC dX4_manyOf_7 (by decide) ?_
    exact hJ36 hG 10 (inR_lit rfl) hV _ (hL.sub [] rfl)
def bX4_build (wX4_build : Nat → ZG → (Int → ZG → Prop) → Prop) (wX4_guard : Nat → Int → ZG → (Int → ZG → Prop) → Prop) (wX4_choose : Nat → ZG → (Int → ZG → Prop) → Prop) (wX4_branch : Nat → Int → Int → ZG → (Int → ZG → Prop) → Prop) (o : Nat) (G : ZG) (Q : Int → ZG → Prop) : Prop := zl2 (fun (P2 : Int → ZG → Prop) (a2_1 : Int) (K2 : ZG) => vJ2_size 10 K2 fun (x1 : Int) => zbr (x1 ≤ a2_1) (vX4_node o 5 0 0 K2 fun (x2 : Int) (G1 : ZG) => Q x2 G1) (zgF K2 o 16 fun (x3 : Int) => vX1_has x3 a2_1 fun (x4 : Int) => zjn (fun (z49_0 : Int) (H49 : ZG) => zbr (z49_0 ≠ 1) (zbr (z49_0 ≠ 2) (zlt1 (w32 (a2_1 + 1)) fun (x5 : Int) => P2 x5 H49) (zgF H49 o 19 fun (x6 : Int) => zjn (fun (z129_0 : Int) (H129 : ZG) => Q z129_0 H129) fun J129 => zbr (x6 = 0) (wX4_choose o H49 fun (x7 : Int) (G2 : ZG) => J129 x7 G2) (zgF H49 o 18 fun (x8 : Int) => zuL H49 0 3 3 x8 fun (x9 : ZR) => zeI H49 x9 3 fun (x10 : Int) => wX4_branch o 1 x10 H49 fun (x11 : Int) (G3 : ZG) => J129 x11 G3))) (vJ2_get 10 a2_1 H49 fun (x12 : ZR) => zca H49 x12 16 ∧ zdR H49 x12 16 2 fun (x13 : ZR) => zjn (fun (z90_0 : Int) (H90 : ZG) => Q z90_0 H90) fun J90 => zbr (x13 ≠ none) (wX4_guard o a2_1 H49 fun (x14 : Int) (G4 : ZG) => J90 x14 G4) (vX4_node o 3 0 a2_1 H49 fun (x15 : Int) (G5 : ZG) => J90 x15 G5))) fun J49 => zbr (x4 = 0) (vJ2_get 10 a2_1 K2 fun (x16 : ZR) => zca K2 x16 16 ∧ vX2_matchesT o x16 K2 fun (x17 : Int) (G6 : ZG) => J49 x17 G6) (J49 0 K2))) 0 G
set_option maxHeartbeats 4000000 in
theorem sX4_build (l : Launch) (P : ZP) {rf rl : Nat} (hrf : 143 ≤ rf) (hrl : 3455 ≤ rl) (wX4_build : Nat → ZG → (Int → ZG → Prop) → Prop) (wX4_guard : Nat → Int → ZG → (Int → ZG → Prop) → Prop) (wX4_choose : Nat → ZG → (Int → ZG → Prop) → Prop) (wX4_branch : Nat → Int → Int → ZG → (Int → ZG → Prop) → Prop) (ihX4_build : ∀ (G : ZG) (o : Nat) (ho : tCls o = 4) {Q : Int → ZG → Prop}, wX4_build o G Q → Met l yX4_build (ws_ yX4_build cX4_build 3 (some .int)) ({ frames := rf, cells := 0, slots := 0, locals := rl } : Room) (zPc P G [.ref (zA P o 0 0)]) (zQi P Q) 0 0 (zAr P)) (ihX4_guard : ∀ (G : ZG) (o : Nat) (ho : tCls o = 4) (p0 : Int) (hp0 : inR p0) {Q : Int → ZG → Prop}, wX4_guard o p0 G Q → Met l yX4_guard (ws_ yX4_guard cX4_guard 4 (some .int)) ({ frames := rf, cells := 0, slots := 0, locals := rl } : Room) (zPc P G [.ref (zA P o 0 0), .int (zI p0)]) (zQi P Q) 0 0 (zAr P)) (ihX4_choose : ∀ (G : ZG) (o : Nat) (ho : tCls o = 4) {Q : Int → ZG → Prop}, wX4_choose o G Q → Met l yX4_choose (ws_ yX4_choose cX4_choose 1 (some .int)) ({ frames := rf, cells := 0, slots := 0, locals := rl } : Room) (zPc P G [.ref (zA P o 0 0)]) (zQi P Q) 0 0 (zAr P)) (ihX4_branch : ∀ (G : ZG) (o : Nat) (ho : tCls o = 4) (p0 : Int) (hp0 : inR p0) (p1 : Int) (hp1 : inR p1) {Q : Int → ZG → Prop}, wX4_branch o p0 p1 G Q → Met l yX4_branch (ws_ yX4_branch cX4_branch 8 (some .int)) ({ frames := rf, cells := 0, slots := 0, locals := rl } : Room) (zPc P G [.ref (zA P o 0 0), .int (zI p0), .int (zI p1)]) (zQi P Q) 0 0 (zAr P)) (G : ZG) (o : Nat) (ho : tCls o = 4) {Q : Int → ZG → Prop} (hV : bX4_build wX4_build wX4_guard wX4_choose wX4_branch o G Q) : Met l yX4_build (ws_ yX4_build cX4_build 3 (some .int)) ({ frames := rf + 1, cells := 0, slots := 0, locals := rl + 27 } : Room) (zPc P G [.ref (zA P o 0 0)]) (zQi P Q) 0 0 (zAr P) := by
  refine zMet RX4 (plainFor_of_name (by decide)) rfl (zcs_c rfl zcs_0) (Nat.le_of_ble_eq_true rfl) (fun p e s m args below meth c ls hC hr hk hn hG hL => ?_)
  unfold bX4_build at hV
  refine z_iconst hC dX4_build_0 ?_
  refine z_istore_n (lv' := [(1, .int (zI 0)), (0, .ref (zA P o 0 0))]) hC rfl hL (by decide) rfl dX4_build_1 (fun ls hL => ?_)
  refine zl2_use hV (fun (a2_1 : Int) (K2 : ZG) => inR a2_1 → ∀ (H : Heap) (locs : List Loc), zS P s K2 H locs → ∀ (ls : Array Slot), zL ls 3 [(0, .ref (zA P o 0 0)), (1, .int (zI a2_1))] → W p l e ({ frames := rf + 1, cells := 0, slots := 0, locals := rl + 27 } : Room) s m args below meth c H locs 0 0 (MQ below (zQi P Q) args s 0 0 (zAr P)) (F0 m 2 ls [])) ?_ (inR_lit rfl) _ _ hG _ (hL.sub [1, 0] rfl)
  intro P2 a2_1 K2 hP2 hV ha2_1 H locs hG ls hL
  refine z_iload_n hC rfl (hL.at 1 rfl) dX4_build_2 ?_
  refine z_aload_n hC zvr_a rfl (hL.at 0 rfl) dX4_build_3 ?_
  refine z_getO hC hG 0 kFX4_3_4 ho rfl dX4_build_4 ?_
  refine z_getO hC hG 10 kFX4_95_1 rfl rfl dX4_build_7 ?_
  refine z_call_i hG (zrunV (ci := 2) hC hG (Nat.le_of_ble_eq_true rfl) (Nat.le_of_ble_eq_true rfl) (zobj hG rfl (Nat.le_of_ble_eq_true rfl) (Nat.le_of_ble_eq_true rfl)) (mJ2_size l P K2 10 rfl hV) kVX4_99 rfl rfl rfl ⟨(by show 1 + 1 ≤ rf + 1; omega), (by show 8 + (1 + 11) + 12 ≤ rl + 27; omega)⟩ ⟨(Nat.le_of_ble_eq_true rfl), (Nat.le_of_ble_eq_true rfl)⟩ rfl ⟨(zcs_c rfl zcs_0), (Nat.le_of_ble_eq_true rfl)⟩ hL.1.1 dX4_build_10) ?_
  rintro x1 _ _ _ hx1 ⟨rfl, hV⟩ hG
  refine z_icmp_ge (tgt := 136) hC ha2_1 hx1 hV dX4_build_13 (by decide) ?_ ?_
  · intro hV
    refine z_aload_n hC zvr_a rfl (hL.at 0 rfl) dX4_build_136 ?_
    refine z_iconst hC dX4_build_137 ?_
    refine z_iconst hC dX4_build_138 ?_
    refine z_iconst hC dX4_build_139 ?_
    refine z_call_i hG (zrunV (ci := 4) hC hG (Nat.le_of_ble_eq_true rfl) (Nat.le_of_ble_eq_true rfl) (zobj hG ho (Nat.le_of_ble_eq_true rfl) (Nat.le_of_ble_eq_true rfl)) (mX4_node l P K2 o ho 5 (inR_lit rfl) 0 (inR_lit rfl) 0 (inR_lit rfl) hV) kVX4_122 rfl rfl rfl ⟨(by show 1 + 1 ≤ rf + 1; omega), (by show 8 + (4 + 11) + 12 ≤ rl + 27; omega)⟩ ⟨(Nat.le_of_ble_eq_true rfl), (Nat.le_of_ble_eq_true rfl)⟩ rfl ⟨zcs_0, (Nat.le_of_ble_eq_true rfl)⟩ hL.1.1 dX4_build_140) ?_
    rintro x2 G1 _ _ hx2 hV hG
    exact z_iret hC hG hr hk hx2 hV (Nat.le_of_ble_eq_true rfl) (Nat.le_of_ble_eq_true rfl) dX4_build_143
  · intro hV
    refine z_aload_n hC zvr_a rfl (hL.at 0 rfl) dX4_build_16 ?_
    refine z_getF hC hG kFX4_88_4 ho rfl hV dX4_build_17 ?_
    intro x3 hx3 hV
    refine z_iload_n hC rfl (hL.at 1 rfl) dX4_build_20 ?_
    refine z_call_z hG (zrunSN hC hG (mX1_has l P K2 x3 hx3 a2_1 ha2_1 hV) kSX4_104 rfl rfl rfl ⟨(by show 1 + 1 ≤ rf + 1; omega), (by show 8 + (2 + 11) + 12 ≤ rl + 27; omega)⟩ ⟨(Nat.le_of_ble_eq_true rfl), (Nat.le_of_ble_eq_true rfl)⟩ rfl ⟨zcs_0, (Nat.le_of_ble_eq_true rfl)⟩ hL.1.1 dX4_build_21) ?_
    rintro x4 _ _ _ hx4 ⟨rfl, hV⟩ hG
    obtain ⟨J49, eJ49, hV⟩ := zjn_abs hV
    have hJ49 : ∀ (z49_0 : Int) (H49 : ZG), inR z49_0 → J49 z49_0 H49 → ∀ (H : Heap) (locs : List Loc) (ls : Array Slot), zS P s H49 H locs → zL ls 3 [(0, .ref (zA P o 0 0)), (1, .int (zI a2_1))] → W p l e ({ frames := rf + 1, cells := 0, slots := 0, locals := rl + 27 } : Room) s m args below meth c H locs 0 0 (MQ below (zQi P Q) args s 0 0 (zAr P)) (F0 m 49 ls [.int (zI z49_0)]) := by
      intro z49_0 H49 hz49_0 hV H locs ls hG hL
      rw [eJ49] at hV
      refine z_istore_n (lv' := [(2, .int (zI z49_0)), (0, .ref (zA P o 0 0)), (1, .int (zI a2_1))]) hC rfl hL (by decide) rfl dX4_build_49 (fun ls hL => ?_)
      refine z_iload_n hC rfl (hL.at 0 rfl) dX4_build_50 ?_
      refine z_iconst hC dX4_build_51 ?_
      refine z_icmp_ne (tgt := 91) hC hz49_0 (inR_lit rfl) hV dX4_build_52 (by decide) ?_ ?_
      · intro hV
        refine z_iload_n hC rfl (hL.at 0 rfl) dX4_build_91 ?_
        refine z_iconst hC dX4_build_92 ?_
        refine z_icmp_ne (tgt := 130) hC hz49_0 (inR_lit rfl) hV dX4_build_93 (by decide) ?_ ?_
        · intro hV
          refine z_iincV (fun x5 => [(1, .int (zI x5)), (2, .int (zI z49_0)), (0, .ref (zA P o 0 0))]) hC hL (k := 2) rfl (by decide) (fun _ => rfl) hV dX4_build_130 ?_
          intro x5 hx5 hV ls hL
          refine z_goto (tgt := 2) hC dX4_build_133 (by decide) ?_
          exact hP2 x5 H49 hV hx5 _ _ hG _ (hL.sub [2, 0] rfl)
        · intro hV
          refine z_aload_n hC zvr_a rfl (hL.at 1 rfl) dX4_build_96 ?_
          refine z_getF hC hG kFX4_68_4 ho rfl hV dX4_build_97 ?_
          intro x6 hx6 hV
          obtain ⟨J129, eJ129, hV⟩ := zjn_abs hV
          have hJ129 : ∀ (z129_0 : Int) (H129 : ZG), inR z129_0 → J129 z129_0 H129 → ∀ (H : Heap) (locs : List Loc) (ls : Array Slot), zS P s H129 H locs → zL ls 3 [] → W p l e ({ frames := rf + 1, cells := 0, slots := 0, locals := rl + 27 } : Room) s m args below meth c H locs 0 0 (MQ below (zQi P Q) args s 0 0 (zAr P)) (F0 m 129 ls [.int (zI z129_0)]) := by
            intro z129_0 H129 hz129_0 hV H locs ls hG hL
            rw [eJ129] at hV
            exact z_iret hC hG hr hk hz129_0 hV (Nat.le_of_ble_eq_true rfl) (Nat.le_of_ble_eq_true rfl) dX4_build_129
          refine z_if_eq (tgt := 125) hC hx6 hV dX4_build_100 (by decide) ?_ ?_
          · intro hV
            refine z_aload_n hC zvr_a rfl (hL.at 1 rfl) dX4_build_125 ?_
            refine z_call_i hG (zrunV (ci := 4) hC hG (Nat.le_of_ble_eq_true rfl) (Nat.le_of_ble_eq_true rfl) (zobj hG ho (Nat.le_of_ble_eq_true rfl) (Nat.le_of_ble_eq_true rfl)) (ihX4_choose H49 o ho hV) kVX4_135 rfl rfl rfl ⟨Nat.le_refl _, (by show 8 + (1 + 11) + rl ≤ rl + 27; omega)⟩ ⟨(Nat.le_of_ble_eq_true rfl), (Nat.le_of_ble_eq_true rfl)⟩ rfl ⟨zcs_0, (Nat.le_of_ble_eq_true rfl)⟩ hL.1.1 dX4_build_126) ?_
            rintro x7 G2 _ _ hx7 hV hG
            exact hJ129 x7 G2 hx7 hV _ _ _ hG (hL.sub [] rfl)
          · intro hV
            refine z_aload_n hC zvr_a rfl (hL.at 1 rfl) dX4_build_103 ?_
            refine z_iconst hC dX4_build_104 ?_
            refine z_aload_n hC zvr_a rfl (hL.at 1 rfl) dX4_build_105 ?_
            refine z_getO hC hG 0 kFX4_3_4 ho rfl dX4_build_106 ?_
            refine z_getA hC hG kFX4_129_1 rfl rfl dX4_build_109 ?_
            refine z_aload_n hC zvr_a rfl (hL.at 1 rfl) dX4_build_112 ?_
            refine z_getF hC hG kFX4_65_4 ho rfl hV dX4_build_113 ?_
            intro x8 hx8 hV
            refine z_uald hC hG rfl rfl rfl hx8 hV dX4_build_116 ?_
            intro x9 hV
            refine z_iconst hC dX4_build_117 ?_
            refine z_eald hC hG (inR_lit rfl) hV dX4_build_118 ?_
            intro x10 hx10 hV
            refine z_call_i hG (zrunV (ci := 4) hC hG (Nat.le_of_ble_eq_true rfl) (Nat.le_of_ble_eq_true rfl) (zobj hG ho (Nat.le_of_ble_eq_true rfl) (Nat.le_of_ble_eq_true rfl)) (ihX4_branch H49 o ho 1 (inR_lit rfl) x10 hx10 hV) kVX4_132 rfl rfl rfl ⟨Nat.le_refl _, (by show 8 + (8 + 11) + rl ≤ rl + 27; omega)⟩ ⟨(Nat.le_of_ble_eq_true rfl), (Nat.le_of_ble_eq_true rfl)⟩ rfl ⟨zcs_0, (Nat.le_of_ble_eq_true rfl)⟩ hL.1.1 dX4_build_119) ?_
            rintro x11 G3 _ _ hx11 hV hG
            refine z_goto (tgt := 129) hC dX4_build_122 (by decide) ?_
            exact hJ129 x11 G3 hx11 hV _ _ _ hG (hL.sub [] rfl)
      · intro hV
        refine z_aload_n hC zvr_a rfl (hL.at 1 rfl) dX4_build_55 ?_
        refine z_getO hC hG 0 kFX4_3_4 ho rfl dX4_build_56 ?_
        refine z_getO hC hG 10 kFX4_95_1 rfl rfl dX4_build_59 ?_
        refine z_iload_n hC rfl (hL.at 2 rfl) dX4_build_62 ?_
        refine z_call_r hG (zrunV (ci := 2) hC hG (Nat.le_of_ble_eq_true rfl) (Nat.le_of_ble_eq_true rfl) (zobj hG rfl (Nat.le_of_ble_eq_true rfl) (Nat.le_of_ble_eq_true rfl)) (mJ2_get l P H49 10 rfl a2_1 ha2_1 hV) kVX4_108 rfl rfl rfl ⟨(by show 3 + 1 ≤ rf + 1; omega), (by show 8 + (2 + 11) + 55 ≤ rl + 27; omega)⟩ ⟨(Nat.le_of_ble_eq_true rfl), (Nat.le_of_ble_eq_true rfl)⟩ rfl ⟨zcs_0, (Nat.le_of_ble_eq_true rfl)⟩ hL.1.1 dX4_build_63) ?_
        rintro x12 _ _ _  ⟨rfl, hV⟩ hG
        refine z_cast hC hG (ci := 16) (Nat.le_of_ble_eq_true rfl) (Nat.le_of_ble_eq_true rfl) q1379 hV dX4_build_66 (fun hV => ?_)
        refine z_dR hC hG kFX4_118_16 hV dX4_build_69 ?_
        intro x13 hV
        obtain ⟨J90, eJ90, hV⟩ := zjn_abs hV
        have hJ90 : ∀ (z90_0 : Int) (H90 : ZG), inR z90_0 → J90 z90_0 H90 → ∀ (H : Heap) (locs : List Loc) (ls : Array Slot), zS P s H90 H locs → zL ls 3 [] → W p l e ({ frames := rf + 1, cells := 0, slots := 0, locals := rl + 27 } : Room) s m args below meth c H locs 0 0 (MQ below (zQi P Q) args s 0 0 (zAr P)) (F0 m 90 ls [.int (zI z90_0)]) := by
          intro z90_0 H90 hz90_0 hV H locs ls hG hL
          rw [eJ90] at hV
          exact z_iret hC hG hr hk hz90_0 hV (Nat.le_of_ble_eq_true rfl) (Nat.le_of_ble_eq_true rfl) dX4_build_90
        refine z_ifnonnull (tgt := 85) hC hV dX4_build_72 (by decide) ?_ ?_
        · intro hV
          refine z_aload_n hC zvr_a rfl (hL.at 1 rfl) dX4_build_85 ?_
          refine z_iload_n hC rfl (hL.at 2 rfl) dX4_build_86 ?_
          refine z_call_i hG (zrunV (ci := 4) hC hG (Nat.le_of_ble_eq_true rfl) (Nat.le_of_ble_eq_true rfl) (zobj hG ho (Nat.le_of_ble_eq_true rfl) (Nat.le_of_ble_eq_true rfl)) (ihX4_guard H49 o ho a2_1 ha2_1 hV) kVX4_126 rfl rfl rfl ⟨Nat.le_refl _, (by show 8 + (4 + 11) + rl ≤ rl + 27; omega)⟩ ⟨(Nat.le_of_ble_eq_true rfl), (Nat.le_of_ble_eq_true rfl)⟩ rfl ⟨zcs_0, (Nat.le_of_ble_eq_true rfl)⟩ hL.1.1 dX4_build_87) ?_
          rintro x14 G4 _ _ hx14 hV hG
          exact hJ90 x14 G4 hx14 hV _ _ _ hG (hL.sub [] rfl)
        · intro hV
          refine z_aload_n hC zvr_a rfl (hL.at 1 rfl) dX4_build_75 ?_
          refine z_iconst hC dX4_build_76 ?_
          refine z_iconst hC dX4_build_77 ?_
          refine z_iload_n hC rfl (hL.at 2 rfl) dX4_build_78 ?_
          refine z_call_i hG (zrunV (ci := 4) hC hG (Nat.le_of_ble_eq_true rfl) (Nat.le_of_ble_eq_true rfl) (zobj hG ho (Nat.le_of_ble_eq_true rfl) (Nat.le_of_ble_eq_true rfl)) (mX4_node l P H49 o ho 3 (inR_lit rfl) 0 (inR_lit rfl) a2_1 ha2_1 hV) kVX4_122 rfl rfl rfl ⟨(by show 1 + 1 ≤ rf + 1; omega), (by show 8 + (4 + 11) + 12 ≤ rl + 27; omega)⟩ ⟨(Nat.le_of_ble_eq_true rfl), (Nat.le_of_ble_eq_true rfl)⟩ rfl ⟨zcs_0, (Nat.le_of_ble_eq_true rfl)⟩ hL.1.1 dX4_build_79) ?_
          rintro x15 G5 _ _ hx15 hV hG
          refine z_goto (tgt := 90) hC dX4_build_82 (by decide) ?_
          exact hJ90 x15 G5 hx15 hV _ _ _ hG (hL.sub [] rfl)
    refine z_if_eq (tgt := 31) hC (inR_b hx4) hV dX4_build_24 (by decide) ?_ ?_
    · intro hV
      refine z_aload_n hC zvr_a rfl (hL.at 0 rfl) dX4_build_31 ?_
      refine z_aload_n hC zvr_a rfl (hL.at 0 rfl) dX4_build_32 ?_
      refine z_getO hC hG 0 kFX4_3_4 ho rfl dX4_build_33 ?_
      refine z_getO hC hG 10 kFX4_95_1 rfl rfl dX4_build_36 ?_
      refine z_iload_n hC rfl (hL.at 1 rfl) dX4_build_39 ?_
      refine z_call_r hG (zrunV (ci := 2) hC hG (Nat.le_of_ble_eq_true rfl) (Nat.le_of_ble_eq_true rfl) (zobj hG rfl (Nat.le_of_ble_eq_true rfl) (Nat.le_of_ble_eq_true rfl)) (mJ2_get l P K2 10 rfl a2_1 ha2_1 hV) kVX4_108 rfl rfl rfl ⟨(by show 3 + 1 ≤ rf + 1; omega), (by show 8 + (2 + 11) + 55 ≤ rl + 27; omega)⟩ ⟨(Nat.le_of_ble_eq_true rfl), (Nat.le_of_ble_eq_true rfl)⟩ rfl ⟨(zcs_c rfl zcs_0), (Nat.le_of_ble_eq_true rfl)⟩ hL.1.1 dX4_build_40) ?_
      rintro x16 _ _ _  ⟨rfl, hV⟩ hG
      refine z_cast hC hG (ci := 16) (Nat.le_of_ble_eq_true rfl) (Nat.le_of_ble_eq_true rfl) q1379 hV dX4_build_43 (fun hV => ?_)
      refine z_call_i hG (zrunU hC hG (zrecv hC (Nat.le_of_ble_eq_true rfl) (Nat.le_of_ble_eq_true rfl) (zobj hG ho (Nat.le_of_ble_eq_true rfl) (Nat.le_of_ble_eq_true rfl))) (mX2_matchesT l P K2 o ho x16 hV) kUX4_114_Tree rfl rfl rfl ⟨(by show 141 + 1 ≤ rf + 1; omega), (by show 8 + (4 + 11) + 3409 ≤ rl + 27; omega)⟩ ⟨(Nat.le_of_ble_eq_true rfl), (Nat.le_of_ble_eq_true rfl)⟩ rfl ⟨zcs_0, (Nat.le_of_ble_eq_true rfl)⟩ hL.1.1 dX4_build_46) ?_
      rintro x17 G6 _ _ hx17 hV hG
      exact hJ49 x17 G6 hx17 hV _ _ _ hG hL
    · intro hV
      refine z_iconst hC dX4_build_27 ?_
      refine z_goto (tgt := 49) hC dX4_build_28 (by decide) ?_
      exact hJ49 0 K2 (inR_lit rfl) hV _ _ _ hG hL
def bX4_guard (wX4_build : Nat → ZG → (Int → ZG → Prop) → Prop) (wX4_guard : Nat → Int → ZG → (Int → ZG → Prop) → Prop) (wX4_choose : Nat → ZG → (Int → ZG → Prop) → Prop) (wX4_branch : Nat → Int → Int → ZG → (Int → ZG → Prop) → Prop) (o : Nat) (p0 : Int) (G : ZG) (Q : Int → ZG → Prop) : Prop := vX4_node o 2 0 p0 G fun (x1 : Int) (G1 : ZG) => zgF G1 o 10 fun (x2 : Int) => zjn (fun (H118 : ZG) => Q x1 H118) fun J118 => zbr (x2 ≠ 0) (J118 G1) (zaS G1 o 7 500 x1 2 fun (G2 : ZG) => zin 500 x1 ∧ vX4_node o 3 0 p0 G2 fun (x4 : Int) (G3 : ZG) => zxS G3 o 6 x1 0 x4 fun (G4 : ZG) => vJ2_get 10 p0 G4 fun (x5 : ZR) => zca G4 x5 16 ∧ zdR G4 x5 16 2 fun (x6 : ZR) => zok G4 x6 ∧ zok G4 (some (.inr 23)) ∧ zfam x6 (some (.inr 23)) ∧ zbr (x6 ≠ (some (.inr 23))) (zgF G4 o 16 fun (x7 : Int) => zpF G4 o 16 (bOr x7 (bShl 1 p0)) fun (G5 : ZG) => wX4_build o G5 fun (x8 : Int) (G6 : ZG) => zin 500 x1 ∧ zxS G6 o 6 x1 1 x8 fun (G7 : ZG) => zgF G7 o 16 fun (x10 : Int) => zpF G7 o 16 (bAnd x10 (bXor (bShl 1 p0) (-1))) fun (G8 : ZG) => J118 G8) (zin 500 x1 ∧ vX4_node o 4 0 p0 G4 fun (x12 : Int) (G9 : ZG) => zxS G9 o 6 x1 1 x12 fun (G10 : ZG) => J118 G10))
set_option maxHeartbeats 4000000 in
theorem sX4_guard (l : Launch) (P : ZP) {rf rl : Nat} (hrf : 143 ≤ rf) (hrl : 3455 ≤ rl) (wX4_build : Nat → ZG → (Int → ZG → Prop) → Prop) (wX4_guard : Nat → Int → ZG → (Int → ZG → Prop) → Prop) (wX4_choose : Nat → ZG → (Int → ZG → Prop) → Prop) (wX4_branch : Nat → Int → Int → ZG → (Int → ZG → Prop) → Prop) (ihX4_build : ∀ (G : ZG) (o : Nat) (ho : tCls o = 4) {Q : Int → ZG → Prop}, wX4_build o G Q → Met l yX4_build (ws_ yX4_build cX4_build 3 (some .int)) ({ frames := rf, cells := 0, slots := 0, locals := rl } : Room) (zPc P G [.ref (zA P o 0 0)]) (zQi P Q) 0 0 (zAr P)) (ihX4_guard : ∀ (G : ZG) (o : Nat) (ho : tCls o = 4) (p0 : Int) (hp0 : inR p0) {Q : Int → ZG → Prop}, wX4_guard o p0 G Q → Met l yX4_guard (ws_ yX4_guard cX4_guard 4 (some .int)) ({ frames := rf, cells := 0, slots := 0, locals := rl } : Room) (zPc P G [.ref (zA P o 0 0), .int (zI p0)]) (zQi P Q) 0 0 (zAr P)) (ihX4_choose : ∀ (G : ZG) (o : Nat) (ho : tCls o = 4) {Q : Int → ZG → Prop}, wX4_choose o G Q → Met l yX4_choose (ws_ yX4_choose cX4_choose 1 (some .int)) ({ frames := rf, cells := 0, slots := 0, locals := rl } : Room) (zPc P G [.ref (zA P o 0 0)]) (zQi P Q) 0 0 (zAr P)) (ihX4_branch : ∀ (G : ZG) (o : Nat) (ho : tCls o = 4) (p0 : Int) (hp0 : inR p0) (p1 : Int) (hp1 : inR p1) {Q : Int → ZG → Prop}, wX4_branch o p0 p1 G Q → Met l yX4_branch (ws_ yX4_branch cX4_branch 8 (some .int)) ({ frames := rf, cells := 0, slots := 0, locals := rl } : Room) (zPc P G [.ref (zA P o 0 0), .int (zI p0), .int (zI p1)]) (zQi P Q) 0 0 (zAr P)) (G : ZG) (o : Nat) (ho : tCls o = 4) (p0 : Int) (hp0 : inR p0) {Q : Int → ZG → Prop} (hV : bX4_guard wX4_build wX4_guard wX4_choose wX4_branch o p0 G Q) : Met l yX4_guard (ws_ yX4_guard cX4_guard 4 (some .int)) ({ frames := rf + 1, cells := 0, slots := 0, locals := rl + 27 } : Room) (zPc P G [.ref (zA P o 0 0), .int (zI p0)]) (zQi P Q) 0 0 (zAr P) := by
  refine zMet RX4 (plainFor_of_name (by decide)) rfl (zcs_c rfl (zcs_c rfl zcs_0)) (Nat.le_of_ble_eq_true rfl) (fun p e s m args below meth c ls hC hr hk hn hG hL => ?_)
  unfold bX4_guard at hV
  refine z_aload_n hC zvr_a rfl (hL.at 0 rfl) dX4_guard_0 ?_
  refine z_iconst hC dX4_guard_1 ?_
  refine z_iconst hC dX4_guard_2 ?_
  refine z_iload_n hC rfl (hL.at 1 rfl) dX4_guard_3 ?_
  refine z_call_i hG (zrunV (ci := 4) hC hG (Nat.le_of_ble_eq_true rfl) (Nat.le_of_ble_eq_true rfl) (zobj hG ho (Nat.le_of_ble_eq_true rfl) (Nat.le_of_ble_eq_true rfl)) (mX4_node l P G o ho 2 (inR_lit rfl) 0 (inR_lit rfl) p0 hp0 hV) kVX4_122 rfl rfl rfl ⟨(by show 1 + 1 ≤ rf + 1; omega), (by show 8 + (4 + 11) + 12 ≤ rl + 27; omega)⟩ ⟨(Nat.le_of_ble_eq_true rfl), (Nat.le_of_ble_eq_true rfl)⟩ rfl ⟨zcs_0, (Nat.le_of_ble_eq_true rfl)⟩ hL.1.1 dX4_guard_4) ?_
  rintro x1 G1 _ _ hx1 hV hG
  refine z_istore_n (lv' := [(2, .int (zI x1)), (0, .ref (zA P o 0 0)), (1, .int (zI p0))]) hC rfl hL (by decide) rfl dX4_guard_7 (fun ls hL => ?_)
  refine z_aload_n hC zvr_a rfl (hL.at 1 rfl) dX4_guard_8 ?_
  refine z_getF hC hG kFX4_85_4 ho rfl hV dX4_guard_9 ?_
  intro x2 hx2 hV
  obtain ⟨J118, eJ118, hV⟩ := zjn_abs hV
  have hJ118 : ∀ (H118 : ZG), J118 H118 → ∀ (H : Heap) (locs : List Loc) (ls : Array Slot), zS P s H118 H locs → zL ls 4 [(2, .int (zI x1))] → W p l e ({ frames := rf + 1, cells := 0, slots := 0, locals := rl + 27 } : Room) s m args below meth c H locs 0 0 (MQ below (zQi P Q) args s 0 0 (zAr P)) (F0 m 118 ls []) := by
    intro H118 hV H locs ls hG hL
    rw [eJ118] at hV
    refine z_iload_n hC rfl (hL.at 0 rfl) dX4_guard_118 ?_
    exact z_iret hC hG hr hk hx1 hV (Nat.le_of_ble_eq_true rfl) (Nat.le_of_ble_eq_true rfl) dX4_guard_119
  refine z_if_ne (tgt := 118) hC hx2 hV dX4_guard_12 (by decide) ?_ ?_
  · intro hV
    exact hJ118 G1 hV _ _ _ hG (hL.sub [0] rfl)
  · intro hV
    refine z_aload_n hC zvr_a rfl (hL.at 1 rfl) dX4_guard_15 ?_
    refine z_getA hC hG kFX4_30_4 ho rfl dX4_guard_16 ?_
    refine z_iload_n hC rfl (hL.at 0 rfl) dX4_guard_19 ?_
    refine z_iconst hC dX4_guard_20 ?_
    refine z_iast hC hG ho (Nat.le_of_ble_eq_true rfl) (Nat.le_of_ble_eq_true rfl) rfl rfl rfl hx1 (inR_lit rfl) hV dX4_guard_21 ?_
    intro G2 _ _ hG hV
    refine z_aload_n hC zvr_a rfl (hL.at 1 rfl) dX4_guard_22 ?_
    refine z_getA hC hG kFX4_27_4 ho rfl dX4_guard_23 ?_
    refine z_iload_n hC rfl (hL.at 0 rfl) dX4_guard_26 ?_
    refine z_row hC hG ho rfl rfl hx1 hV dX4_guard_27 ?_
    intro hr3 hV
    refine z_iconst hC dX4_guard_28 ?_
    refine z_aload_n hC zvr_a rfl (hL.at 1 rfl) dX4_guard_29 ?_
    refine z_iconst hC dX4_guard_30 ?_
    refine z_iconst hC dX4_guard_31 ?_
    refine z_iload_n hC rfl (hL.at 2 rfl) dX4_guard_32 ?_
    refine z_call_i hG (zrunV (ci := 4) hC hG (Nat.le_of_ble_eq_true rfl) (Nat.le_of_ble_eq_true rfl) (zobj hG ho (Nat.le_of_ble_eq_true rfl) (Nat.le_of_ble_eq_true rfl)) (mX4_node l P G2 o ho 3 (inR_lit rfl) 0 (inR_lit rfl) p0 hp0 hV) kVX4_122 rfl rfl rfl ⟨(by show 1 + 1 ≤ rf + 1; omega), (by show 8 + (4 + 11) + 12 ≤ rl + 27; omega)⟩ ⟨(Nat.le_of_ble_eq_true rfl), (Nat.le_of_ble_eq_true rfl)⟩ rfl ⟨(zcs_c rfl (zcs_c rfl zcs_0)), (Nat.le_of_ble_eq_true rfl)⟩ hL.1.1 dX4_guard_33) ?_
    rintro x4 G3 _ _ hx4 hV hG
    refine z_xast hC hG ho (Nat.le_of_ble_eq_true rfl) (Nat.le_of_ble_eq_true rfl) rfl rfl hr3 (inR_lit rfl) hx4 hV dX4_guard_36 ?_
    intro G4 _ _ hG hV
    refine z_aload_n hC zvr_a rfl (hL.at 1 rfl) dX4_guard_37 ?_
    refine z_getO hC hG 0 kFX4_3_4 ho rfl dX4_guard_38 ?_
    refine z_getO hC hG 10 kFX4_95_1 rfl rfl dX4_guard_41 ?_
    refine z_iload_n hC rfl (hL.at 2 rfl) dX4_guard_44 ?_
    refine z_call_r hG (zrunV (ci := 2) hC hG (Nat.le_of_ble_eq_true rfl) (Nat.le_of_ble_eq_true rfl) (zobj hG rfl (Nat.le_of_ble_eq_true rfl) (Nat.le_of_ble_eq_true rfl)) (mJ2_get l P G4 10 rfl p0 hp0 hV) kVX4_108 rfl rfl rfl ⟨(by show 3 + 1 ≤ rf + 1; omega), (by show 8 + (2 + 11) + 55 ≤ rl + 27; omega)⟩ ⟨(Nat.le_of_ble_eq_true rfl), (Nat.le_of_ble_eq_true rfl)⟩ rfl ⟨zcs_0, (Nat.le_of_ble_eq_true rfl)⟩ hL.1.1 dX4_guard_45) ?_
    rintro x5 _ _ _  ⟨rfl, hV⟩ hG
    refine z_cast hC hG (ci := 16) (Nat.le_of_ble_eq_true rfl) (Nat.le_of_ble_eq_true rfl) q1379 hV dX4_guard_48 (fun hV => ?_)
    refine z_dR hC hG kFX4_118_16 hV dX4_guard_51 ?_
    intro x6 hV
    refine z_getsT hC hG (i := 3) (Nat.le_of_ble_eq_true rfl) rfl q1511 dX4_guard_54 ?_
    refine z_acmp_ne (x := x6) (y := (some (.inr 23))) (tgt := 78) hC hG hV dX4_guard_57 (by decide) ?_ ?_
    · intro hV
      refine z_aload_n hC zvr_a rfl (hL.at 1 rfl) dX4_guard_78 ?_
      refine z_dup hC rfl dX4_guard_79 ?_
      refine z_getF hC hG kFX4_88_4 ho rfl hV dX4_guard_80 ?_
      intro x7 hx7 hV
      refine z_iconst hC dX4_guard_83 ?_
      refine z_iload_n hC rfl (hL.at 2 rfl) dX4_guard_84 ?_
      refine z_ishl hC dX4_guard_85 ?_
      refine z_ior hC dX4_guard_86 ?_
      refine z_putF hC hG kFX4_88_4 ho rfl rfl rfl nk_4_16 (inR_toInt _) (Or.inl rfl) hV dX4_guard_87 ?_
      intro G5 _ _ hG hV
      refine z_aload_n hC zvr_a rfl (hL.at 1 rfl) dX4_guard_90 ?_
      refine z_call_i hG (zrunV (ci := 4) hC hG (Nat.le_of_ble_eq_true rfl) (Nat.le_of_ble_eq_true rfl) (zobj hG ho (Nat.le_of_ble_eq_true rfl) (Nat.le_of_ble_eq_true rfl)) (ihX4_build G5 o ho hV) kVX4_91 rfl rfl rfl ⟨Nat.le_refl _, (by show 8 + (3 + 11) + rl ≤ rl + 27; omega)⟩ ⟨(Nat.le_of_ble_eq_true rfl), (Nat.le_of_ble_eq_true rfl)⟩ rfl ⟨zcs_0, (Nat.le_of_ble_eq_true rfl)⟩ hL.1.1 dX4_guard_91) ?_
      rintro x8 G6 _ _ hx8 hV hG
      refine z_istore_n (lv' := [(3, .int (zI x8)), (2, .int (zI x1)), (0, .ref (zA P o 0 0)), (1, .int (zI p0))]) hC rfl hL (by decide) rfl dX4_guard_94 (fun ls hL => ?_)
      refine z_aload_n hC zvr_a rfl (hL.at 2 rfl) dX4_guard_95 ?_
      refine z_getA hC hG kFX4_27_4 ho rfl dX4_guard_96 ?_
      refine z_iload_n hC rfl (hL.at 1 rfl) dX4_guard_99 ?_
      refine z_row hC hG ho rfl rfl hx1 hV dX4_guard_100 ?_
      intro hr9 hV
      refine z_iconst hC dX4_guard_101 ?_
      refine z_iload_n hC rfl (hL.at 0 rfl) dX4_guard_102 ?_
      refine z_xast hC hG ho (Nat.le_of_ble_eq_true rfl) (Nat.le_of_ble_eq_true rfl) rfl rfl hr9 (inR_lit rfl) hx8 hV dX4_guard_103 ?_
      intro G7 _ _ hG hV
      refine z_aload_n hC zvr_a rfl (hL.at 2 rfl) dX4_guard_104 ?_
      refine z_dup hC rfl dX4_guard_105 ?_
      refine z_getF hC hG kFX4_88_4 ho rfl hV dX4_guard_106 ?_
      intro x10 hx10 hV
      refine z_iconst hC dX4_guard_109 ?_
      refine z_iload_n hC rfl (hL.at 3 rfl) dX4_guard_110 ?_
      refine z_ishl hC dX4_guard_111 ?_
      refine z_iconst hC dX4_guard_112 ?_
      refine z_ixor hC dX4_guard_113 ?_
      refine z_iand hC dX4_guard_114 ?_
      refine z_putF hC hG kFX4_88_4 ho rfl rfl rfl nk_4_16 (inR_toInt _) (Or.inl rfl) hV dX4_guard_115 ?_
      intro G8 _ _ hG hV
      exact hJ118 G8 hV _ _ _ hG (hL.sub [1] rfl)
    · intro hV
      refine z_aload_n hC zvr_a rfl (hL.at 1 rfl) dX4_guard_60 ?_
      refine z_getA hC hG kFX4_27_4 ho rfl dX4_guard_61 ?_
      refine z_iload_n hC rfl (hL.at 0 rfl) dX4_guard_64 ?_
      refine z_row hC hG ho rfl rfl hx1 hV dX4_guard_65 ?_
      intro hr11 hV
      refine z_iconst hC dX4_guard_66 ?_
      refine z_aload_n hC zvr_a rfl (hL.at 1 rfl) dX4_guard_67 ?_
      refine z_iconst hC dX4_guard_68 ?_
      refine z_iconst hC dX4_guard_69 ?_
      refine z_iload_n hC rfl (hL.at 2 rfl) dX4_guard_70 ?_
      refine z_call_i hG (zrunV (ci := 4) hC hG (Nat.le_of_ble_eq_true rfl) (Nat.le_of_ble_eq_true rfl) (zobj hG ho (Nat.le_of_ble_eq_true rfl) (Nat.le_of_ble_eq_true rfl)) (mX4_node l P G4 o ho 4 (inR_lit rfl) 0 (inR_lit rfl) p0 hp0 hV) kVX4_122 rfl rfl rfl ⟨(by show 1 + 1 ≤ rf + 1; omega), (by show 8 + (4 + 11) + 12 ≤ rl + 27; omega)⟩ ⟨(Nat.le_of_ble_eq_true rfl), (Nat.le_of_ble_eq_true rfl)⟩ rfl ⟨(zcs_c rfl (zcs_c rfl zcs_0)), (Nat.le_of_ble_eq_true rfl)⟩ hL.1.1 dX4_guard_71) ?_
      rintro x12 G9 _ _ hx12 hV hG
      refine z_xast hC hG ho (Nat.le_of_ble_eq_true rfl) (Nat.le_of_ble_eq_true rfl) rfl rfl hr11 (inR_lit rfl) hx12 hV dX4_guard_74 ?_
      intro G10 _ _ hG hV
      refine z_goto (tgt := 118) hC dX4_guard_75 (by decide) ?_
      exact hJ118 G10 hV _ _ _ hG (hL.sub [0] rfl)
def bX4_choose (wX4_build : Nat → ZG → (Int → ZG → Prop) → Prop) (wX4_guard : Nat → Int → ZG → (Int → ZG → Prop) → Prop) (wX4_choose : Nat → ZG → (Int → ZG → Prop) → Prop) (wX4_branch : Nat → Int → Int → ZG → (Int → ZG → Prop) → Prop) (o : Nat) (G : ZG) (Q : Int → ZG → Prop) : Prop := zgF G o 2 fun (x1 : Int) => zjn (fun (H11 : ZG) => zgF H11 o 18 fun (x2 : Int) => vX4_manyOf o x2 H11 fun (x3 : Int) => wX4_branch o 0 x3 H11 fun (x4 : Int) (G1 : ZG) => Q x4 G1) fun J11 => zbr (x1 = 0) (J11 G) (vX4_mostNeeded o G fun (G2 : ZG) => J11 G2)
set_option maxHeartbeats 4000000 in
theorem sX4_choose (l : Launch) (P : ZP) {rf rl : Nat} (hrf : 143 ≤ rf) (hrl : 3455 ≤ rl) (wX4_build : Nat → ZG → (Int → ZG → Prop) → Prop) (wX4_guard : Nat → Int → ZG → (Int → ZG → Prop) → Prop) (wX4_choose : Nat → ZG → (Int → ZG → Prop) → Prop) (wX4_branch : Nat → Int → Int → ZG → (Int → ZG → Prop) → Prop) (ihX4_build : ∀ (G : ZG) (o : Nat) (ho : tCls o = 4) {Q : Int → ZG → Prop}, wX4_build o G Q → Met l yX4_build (ws_ yX4_build cX4_build 3 (some .int)) ({ frames := rf, cells := 0, slots := 0, locals := rl } : Room) (zPc P G [.ref (zA P o 0 0)]) (zQi P Q) 0 0 (zAr P)) (ihX4_guard : ∀ (G : ZG) (o : Nat) (ho : tCls o = 4) (p0 : Int) (hp0 : inR p0) {Q : Int → ZG → Prop}, wX4_guard o p0 G Q → Met l yX4_guard (ws_ yX4_guard cX4_guard 4 (some .int)) ({ frames := rf, cells := 0, slots := 0, locals := rl } : Room) (zPc P G [.ref (zA P o 0 0), .int (zI p0)]) (zQi P Q) 0 0 (zAr P)) (ihX4_choose : ∀ (G : ZG) (o : Nat) (ho : tCls o = 4) {Q : Int → ZG → Prop}, wX4_choose o G Q → Met l yX4_choose (ws_ yX4_choose cX4_choose 1 (some .int)) ({ frames := rf, cells := 0, slots := 0, locals := rl } : Room) (zPc P G [.ref (zA P o 0 0)]) (zQi P Q) 0 0 (zAr P)) (ihX4_branch : ∀ (G : ZG) (o : Nat) (ho : tCls o = 4) (p0 : Int) (hp0 : inR p0) (p1 : Int) (hp1 : inR p1) {Q : Int → ZG → Prop}, wX4_branch o p0 p1 G Q → Met l yX4_branch (ws_ yX4_branch cX4_branch 8 (some .int)) ({ frames := rf, cells := 0, slots := 0, locals := rl } : Room) (zPc P G [.ref (zA P o 0 0), .int (zI p0), .int (zI p1)]) (zQi P Q) 0 0 (zAr P)) (G : ZG) (o : Nat) (ho : tCls o = 4) {Q : Int → ZG → Prop} (hV : bX4_choose wX4_build wX4_guard wX4_choose wX4_branch o G Q) : Met l yX4_choose (ws_ yX4_choose cX4_choose 1 (some .int)) ({ frames := rf + 1, cells := 0, slots := 0, locals := rl + 27 } : Room) (zPc P G [.ref (zA P o 0 0)]) (zQi P Q) 0 0 (zAr P) := by
  refine zMet RX4 (plainFor_of_name (by decide)) rfl (zcs_c rfl zcs_0) (Nat.le_of_ble_eq_true rfl) (fun p e s m args below meth c ls hC hr hk hn hG hL => ?_)
  unfold bX4_choose at hV
  refine z_aload_n hC zvr_a rfl (hL.at 0 rfl) dX4_choose_0 ?_
  refine z_getF hC hG kFX4_54_4 ho rfl hV dX4_choose_1 ?_
  intro x1 hx1 hV
  obtain ⟨J11, eJ11, hV⟩ := zjn_abs hV
  have hJ11 : ∀ (H11 : ZG), J11 H11 → ∀ (H : Heap) (locs : List Loc) (ls : Array Slot), zS P s H11 H locs → zL ls 1 [(0, .ref (zA P o 0 0))] → W p l e ({ frames := rf + 1, cells := 0, slots := 0, locals := rl + 27 } : Room) s m args below meth c H locs 0 0 (MQ below (zQi P Q) args s 0 0 (zAr P)) (F0 m 11 ls []) := by
    intro H11 hV H locs ls hG hL
    rw [eJ11] at hV
    refine z_aload_n hC zvr_a rfl (hL.at 0 rfl) dX4_choose_11 ?_
    refine z_iconst hC dX4_choose_12 ?_
    refine z_aload_n hC zvr_a rfl (hL.at 0 rfl) dX4_choose_13 ?_
    refine z_aload_n hC zvr_a rfl (hL.at 0 rfl) dX4_choose_14 ?_
    refine z_getF hC hG kFX4_65_4 ho rfl hV dX4_choose_15 ?_
    intro x2 hx2 hV
    refine z_call_i hG (zrunV (ci := 4) hC hG (Nat.le_of_ble_eq_true rfl) (Nat.le_of_ble_eq_true rfl) (zobj hG ho (Nat.le_of_ble_eq_true rfl) (Nat.le_of_ble_eq_true rfl)) (mX4_manyOf l P H11 o ho x2 hx2 hV) kVX4_150 rfl rfl rfl ⟨(by show 4 + 1 ≤ rf + 1; omega), (by show 8 + (2 + 11) + 76 ≤ rl + 27; omega)⟩ ⟨(Nat.le_of_ble_eq_true rfl), (Nat.le_of_ble_eq_true rfl)⟩ rfl ⟨(zcs_c rfl (zcs_c rfl zcs_0)), (Nat.le_of_ble_eq_true rfl)⟩ hL.1.1 dX4_choose_18) ?_
    rintro x3 _ _ _ hx3 ⟨rfl, hV⟩ hG
    refine z_call_i hG (zrunV (ci := 4) hC hG (Nat.le_of_ble_eq_true rfl) (Nat.le_of_ble_eq_true rfl) (zobj hG ho (Nat.le_of_ble_eq_true rfl) (Nat.le_of_ble_eq_true rfl)) (ihX4_branch H11 o ho 0 (inR_lit rfl) x3 hx3 hV) kVX4_132 rfl rfl rfl ⟨Nat.le_refl _, (by show 8 + (8 + 11) + rl ≤ rl + 27; omega)⟩ ⟨(Nat.le_of_ble_eq_true rfl), (Nat.le_of_ble_eq_true rfl)⟩ rfl ⟨zcs_0, (Nat.le_of_ble_eq_true rfl)⟩ hL.1.1 dX4_choose_21) ?_
    rintro x4 G1 _ _ hx4 hV hG
    exact z_iret hC hG hr hk hx4 hV (Nat.le_of_ble_eq_true rfl) (Nat.le_of_ble_eq_true rfl) dX4_choose_24
  refine z_if_eq (tgt := 11) hC hx1 hV dX4_choose_4 (by decide) ?_ ?_
  · intro hV
    exact hJ11 G hV _ _ _ hG hL
  · intro hV
    refine z_aload_n hC zvr_a rfl (hL.at 0 rfl) dX4_choose_7 ?_
    refine z_call_v hG (zrunV (ci := 4) hC hG (Nat.le_of_ble_eq_true rfl) (Nat.le_of_ble_eq_true rfl) (zobj hG ho (Nat.le_of_ble_eq_true rfl) (Nat.le_of_ble_eq_true rfl)) (mX4_mostNeeded l P G o ho hV) kVX4_146 rfl rfl rfl ⟨(by show 142 + 1 ≤ rf + 1; omega), (by show 8 + (4 + 11) + 3432 ≤ rl + 27; omega)⟩ ⟨(Nat.le_of_ble_eq_true rfl), (Nat.le_of_ble_eq_true rfl)⟩ rfl ⟨zcs_0, (Nat.le_of_ble_eq_true rfl)⟩ hL.1.1 dX4_choose_8) ?_
    rintro G2 _ _ hV hG
    exact hJ11 G2 hV _ _ _ hG hL
def bX4_branch (wX4_build : Nat → ZG → (Int → ZG → Prop) → Prop) (wX4_guard : Nat → Int → ZG → (Int → ZG → Prop) → Prop) (wX4_choose : Nat → ZG → (Int → ZG → Prop) → Prop) (wX4_branch : Nat → Int → Int → ZG → (Int → ZG → Prop) → Prop) (o : Nat) (p0 : Int) (p1 : Int) (G : ZG) (Q : Int → ZG → Prop) : Prop := zgF G o 17 fun (x1 : Int) => zgF G o 18 fun (x2 : Int) => vX4_node o p0 x1 x2 G fun (x3 : Int) (G1 : ZG) => zl2 (fun (P24 : Int → ZG → Prop) (a24_6 : Int) (K24 : ZG) => zjn (fun (_ : Unit) => Q x3 K24) fun J133 => zbr (p1 ≤ a24_6) (J133 ()) (zgF K24 o 10 fun (x4 : Int) => zbr (x4 ≠ 0) (J133 ()) (zgF K24 o 15 fun (x5 : Int) => zaS K24 o 12 600 x5 x1 fun (G2 : ZG) => zgF G2 o 15 fun (x6 : Int) => zjn (fun (z66_2 : Int) => zaS G2 o 13 600 x6 z66_2 fun (G3 : ZG) => zgF G3 o 15 fun (x7 : Int) => zaS G3 o 14 600 x7 a24_6 fun (G4 : ZG) => zgF G4 o 15 fun (x8 : Int) => zpF G4 o 15 (w32 (x8 + 1)) fun (G5 : ZG) => wX4_build o G5 fun (x9 : Int) (G6 : ZG) => zgF G6 o 15 fun (x10 : Int) => zpF G6 o 15 (w32 (x10 - 1)) fun (G7 : ZG) => zin 500 x3 ∧ zxS G7 o 6 x3 a24_6 x9 fun (G8 : ZG) => zaL G8 o 7 500 x3 fun (x12 : Int) => zaS G8 o 7 500 x3 (w32 (x12 + 1)) fun (G9 : ZG) => zlt1 (w32 (a24_6 + 1)) fun (x13 : Int) => P24 x13 G9) fun J66 => zbr (p0 ≠ 1) (J66 (-1)) (J66 x2)))) 0 G1
set_option maxHeartbeats 4000000 in
theorem sX4_branch (l : Launch) (P : ZP) {rf rl : Nat} (hrf : 143 ≤ rf) (hrl : 3455 ≤ rl) (wX4_build : Nat → ZG → (Int → ZG → Prop) → Prop) (wX4_guard : Nat → Int → ZG → (Int → ZG → Prop) → Prop) (wX4_choose : Nat → ZG → (Int → ZG → Prop) → Prop) (wX4_branch : Nat → Int → Int → ZG → (Int → ZG → Prop) → Prop) (ihX4_build : ∀ (G : ZG) (o : Nat) (ho : tCls o = 4) {Q : Int → ZG → Prop}, wX4_build o G Q → Met l yX4_build (ws_ yX4_build cX4_build 3 (some .int)) ({ frames := rf, cells := 0, slots := 0, locals := rl } : Room) (zPc P G [.ref (zA P o 0 0)]) (zQi P Q) 0 0 (zAr P)) (ihX4_guard : ∀ (G : ZG) (o : Nat) (ho : tCls o = 4) (p0 : Int) (hp0 : inR p0) {Q : Int → ZG → Prop}, wX4_guard o p0 G Q → Met l yX4_guard (ws_ yX4_guard cX4_guard 4 (some .int)) ({ frames := rf, cells := 0, slots := 0, locals := rl } : Room) (zPc P G [.ref (zA P o 0 0), .int (zI p0)]) (zQi P Q) 0 0 (zAr P)) (ihX4_choose : ∀ (G : ZG) (o : Nat) (ho : tCls o = 4) {Q : Int → ZG → Prop}, wX4_choose o G Q → Met l yX4_choose (ws_ yX4_choose cX4_choose 1 (some .int)) ({ frames := rf, cells := 0, slots := 0, locals := rl } : Room) (zPc P G [.ref (zA P o 0 0)]) (zQi P Q) 0 0 (zAr P)) (ihX4_branch : ∀ (G : ZG) (o : Nat) (ho : tCls o = 4) (p0 : Int) (hp0 : inR p0) (p1 : Int) (hp1 : inR p1) {Q : Int → ZG → Prop}, wX4_branch o p0 p1 G Q → Met l yX4_branch (ws_ yX4_branch cX4_branch 8 (some .int)) ({ frames := rf, cells := 0, slots := 0, locals := rl } : Room) (zPc P G [.ref (zA P o 0 0), .int (zI p0), .int (zI p1)]) (zQi P Q) 0 0 (zAr P)) (G : ZG) (o : Nat) (ho : tCls o = 4) (p0 : Int) (hp0 : inR p0) (p1 : Int) (hp1 : inR p1) {Q : Int → ZG → Prop} (hV : bX4_branch wX4_build wX4_guard wX4_choose wX4_branch o p0 p1 G Q) : Met l yX4_branch (ws_ yX4_branch cX4_branch 8 (some .int)) ({ frames := rf + 1, cells := 0, slots := 0, locals := rl + 27 } : Room) (zPc P G [.ref (zA P o 0 0), .int (zI p0), .int (zI p1)]) (zQi P Q) 0 0 (zAr P) := by
  refine zMet RX4 (plainFor_of_name (by decide)) rfl (zcs_c rfl (zcs_c rfl (zcs_c rfl zcs_0))) (Nat.le_of_ble_eq_true rfl) (fun p e s m args below meth c ls hC hr hk hn hG hL => ?_)
  unfold bX4_branch at hV
  refine z_aload_n hC zvr_a rfl (hL.at 0 rfl) dX4_branch_0 ?_
  refine z_getF hC hG kFX4_62_4 ho rfl hV dX4_branch_1 ?_
  intro x1 hx1 hV
  refine z_istore_n (lv' := [(3, .int (zI x1)), (0, .ref (zA P o 0 0)), (1, .int (zI p0)), (2, .int (zI p1))]) hC rfl hL (by decide) rfl dX4_branch_4 (fun ls hL => ?_)
  refine z_aload_n hC zvr_a rfl (hL.at 1 rfl) dX4_branch_5 ?_
  refine z_getF hC hG kFX4_65_4 ho rfl hV dX4_branch_6 ?_
  intro x2 hx2 hV
  refine z_istore (lv' := [(4, .int (zI x2)), (3, .int (zI x1)), (0, .ref (zA P o 0 0)), (1, .int (zI p0)), (2, .int (zI p1))]) hC hL (by decide) rfl dX4_branch_9 (fun ls hL => ?_)
  refine z_aload_n hC zvr_a rfl (hL.at 2 rfl) dX4_branch_11 ?_
  refine z_iload_n hC rfl (hL.at 3 rfl) dX4_branch_12 ?_
  refine z_iload_n hC rfl (hL.at 1 rfl) dX4_branch_13 ?_
  refine z_iload hC (hL.at 0 rfl) dX4_branch_14 ?_
  refine z_call_i hG (zrunV (ci := 4) hC hG (Nat.le_of_ble_eq_true rfl) (Nat.le_of_ble_eq_true rfl) (zobj hG ho (Nat.le_of_ble_eq_true rfl) (Nat.le_of_ble_eq_true rfl)) (mX4_node l P G o ho p0 hp0 x1 hx1 x2 hx2 hV) kVX4_122 rfl rfl rfl ⟨(by show 1 + 1 ≤ rf + 1; omega), (by show 8 + (4 + 11) + 12 ≤ rl + 27; omega)⟩ ⟨(Nat.le_of_ble_eq_true rfl), (Nat.le_of_ble_eq_true rfl)⟩ rfl ⟨zcs_0, (Nat.le_of_ble_eq_true rfl)⟩ hL.1.1 dX4_branch_16) ?_
  rintro x3 G1 _ _ hx3 hV hG
  refine z_istore (lv' := [(5, .int (zI x3)), (4, .int (zI x2)), (3, .int (zI x1)), (0, .ref (zA P o 0 0)), (1, .int (zI p0)), (2, .int (zI p1))]) hC hL (by decide) rfl dX4_branch_19 (fun ls hL => ?_)
  refine z_iconst hC dX4_branch_21 ?_
  refine z_istore (lv' := [(6, .int (zI 0)), (5, .int (zI x3)), (4, .int (zI x2)), (3, .int (zI x1)), (0, .ref (zA P o 0 0)), (1, .int (zI p0)), (2, .int (zI p1))]) hC hL (by decide) rfl dX4_branch_22 (fun ls hL => ?_)
  refine zl2_use hV (fun (a24_6 : Int) (K24 : ZG) => inR a24_6 → ∀ (H : Heap) (locs : List Loc), zS P s K24 H locs → ∀ (ls : Array Slot), zL ls 8 [(0, .ref (zA P o 0 0)), (1, .int (zI p0)), (2, .int (zI p1)), (3, .int (zI x1)), (4, .int (zI x2)), (5, .int (zI x3)), (6, .int (zI a24_6))] → W p l e ({ frames := rf + 1, cells := 0, slots := 0, locals := rl + 27 } : Room) s m args below meth c H locs 0 0 (MQ below (zQi P Q) args s 0 0 (zAr P)) (F0 m 24 ls [])) ?_ (inR_lit rfl) _ _ hG _ (hL.sub [4, 5, 6, 3, 2, 1, 0] rfl)
  intro P24 a24_6 K24 hP24 hV ha24_6 H locs hG ls hL
  refine z_iload hC (hL.at 6 rfl) dX4_branch_24 ?_
  refine z_iload_n hC rfl (hL.at 2 rfl) dX4_branch_26 ?_
  obtain ⟨J133, eJ133, hV⟩ := zjn_abs hV
  have hJ133 : ∀ {H : Heap} {locs : List Loc}, zS P s K24 H locs → J133 () → ∀ (ls : Array Slot), zL ls 8 [(5, .int (zI x3))] → W p l e ({ frames := rf + 1, cells := 0, slots := 0, locals := rl + 27 } : Room) s m args below meth c H locs 0 0 (MQ below (zQi P Q) args s 0 0 (zAr P)) (F0 m 133 ls []) := by
    intro H locs hG hV ls hL
    rw [eJ133] at hV
    refine z_iload hC (hL.at 0 rfl) dX4_branch_133 ?_
    exact z_iret hC hG hr hk hx3 hV (Nat.le_of_ble_eq_true rfl) (Nat.le_of_ble_eq_true rfl) dX4_branch_135
  refine z_icmp_ge (tgt := 133) hC ha24_6 hp1 hV dX4_branch_27 (by decide) ?_ ?_
  · intro hV
    exact hJ133 hG hV _ (hL.sub [5] rfl)
  · intro hV
    refine z_aload_n hC zvr_a rfl (hL.at 0 rfl) dX4_branch_30 ?_
    refine z_getF hC hG kFX4_85_4 ho rfl hV dX4_branch_31 ?_
    intro x4 hx4 hV
    refine z_if_ne (tgt := 133) hC hx4 hV dX4_branch_34 (by decide) ?_ ?_
    · intro hV
      exact hJ133 hG hV _ (hL.sub [5] rfl)
    · intro hV
      refine z_aload_n hC zvr_a rfl (hL.at 0 rfl) dX4_branch_37 ?_
      refine z_getA hC hG kFX4_36_4 ho rfl dX4_branch_38 ?_
      refine z_aload_n hC zvr_a rfl (hL.at 0 rfl) dX4_branch_41 ?_
      refine z_getF hC hG kFX4_58_4 ho rfl hV dX4_branch_42 ?_
      intro x5 hx5 hV
      refine z_iload_n hC rfl (hL.at 3 rfl) dX4_branch_45 ?_
      refine z_iast hC hG ho (Nat.le_of_ble_eq_true rfl) (Nat.le_of_ble_eq_true rfl) rfl rfl rfl hx5 hx1 hV dX4_branch_46 ?_
      intro G2 _ _ hG hV
      refine z_aload_n hC zvr_a rfl (hL.at 0 rfl) dX4_branch_47 ?_
      refine z_getA hC hG kFX4_39_4 ho rfl dX4_branch_48 ?_
      refine z_aload_n hC zvr_a rfl (hL.at 0 rfl) dX4_branch_51 ?_
      refine z_getF hC hG kFX4_58_4 ho rfl hV dX4_branch_52 ?_
      intro x6 hx6 hV
      refine z_iload_n hC rfl (hL.at 1 rfl) dX4_branch_55 ?_
      refine z_iconst hC dX4_branch_56 ?_
      obtain ⟨J66, eJ66, hV⟩ := zjn_abs hV
      have hJ66 : ∀ {H : Heap} {locs : List Loc}, zS P s G2 H locs → ∀ (z66_2 : Int), inR z66_2 → J66 z66_2 → ∀ (ls : Array Slot), zL ls 8 [(0, .ref (zA P o 0 0)), (1, .int (zI p0)), (2, .int (zI p1)), (3, .int (zI x1)), (4, .int (zI x2)), (5, .int (zI x3)), (6, .int (zI a24_6))] → W p l e ({ frames := rf + 1, cells := 0, slots := 0, locals := rl + 27 } : Room) s m args below meth c H locs 0 0 (MQ below (zQi P Q) args s 0 0 (zAr P)) (F0 m 66 ls [.int (zI z66_2), .int (zI x6), .ref (zA P o 14 0)]) := by
        intro H locs hG z66_2 hz66_2 hV ls hL
        rw [eJ66] at hV
        refine z_iast hC hG ho (Nat.le_of_ble_eq_true rfl) (Nat.le_of_ble_eq_true rfl) rfl rfl rfl hx6 hz66_2 hV dX4_branch_66 ?_
        intro G3 _ _ hG hV
        refine z_aload_n hC zvr_a rfl (hL.at 0 rfl) dX4_branch_67 ?_
        refine z_getA hC hG kFX4_42_4 ho rfl dX4_branch_68 ?_
        refine z_aload_n hC zvr_a rfl (hL.at 0 rfl) dX4_branch_71 ?_
        refine z_getF hC hG kFX4_58_4 ho rfl hV dX4_branch_72 ?_
        intro x7 hx7 hV
        refine z_iload hC (hL.at 6 rfl) dX4_branch_75 ?_
        refine z_iast hC hG ho (Nat.le_of_ble_eq_true rfl) (Nat.le_of_ble_eq_true rfl) rfl rfl rfl hx7 ha24_6 hV dX4_branch_77 ?_
        intro G4 _ _ hG hV
        refine z_aload_n hC zvr_a rfl (hL.at 0 rfl) dX4_branch_78 ?_
        refine z_dup hC rfl dX4_branch_79 ?_
        refine z_getF hC hG kFX4_58_4 ho rfl hV dX4_branch_80 ?_
        intro x8 hx8 hV
        refine z_iconst hC dX4_branch_83 ?_
        refine z_iadd hC dX4_branch_84 ?_
        refine z_putF hC hG kFX4_58_4 ho rfl rfl rfl nk_4_15 (inR_w _) (Or.inl rfl) hV dX4_branch_85 ?_
        intro G5 _ _ hG hV
        refine z_aload_n hC zvr_a rfl (hL.at 0 rfl) dX4_branch_88 ?_
        refine z_call_i hG (zrunV (ci := 4) hC hG (Nat.le_of_ble_eq_true rfl) (Nat.le_of_ble_eq_true rfl) (zobj hG ho (Nat.le_of_ble_eq_true rfl) (Nat.le_of_ble_eq_true rfl)) (ihX4_build G5 o ho hV) kVX4_91 rfl rfl rfl ⟨Nat.le_refl _, (by show 8 + (3 + 11) + rl ≤ rl + 27; omega)⟩ ⟨(Nat.le_of_ble_eq_true rfl), (Nat.le_of_ble_eq_true rfl)⟩ rfl ⟨zcs_0, (Nat.le_of_ble_eq_true rfl)⟩ hL.1.1 dX4_branch_89) ?_
        rintro x9 G6 _ _ hx9 hV hG
        refine z_istore (lv' := [(7, .int (zI x9)), (0, .ref (zA P o 0 0)), (1, .int (zI p0)), (2, .int (zI p1)), (3, .int (zI x1)), (4, .int (zI x2)), (5, .int (zI x3)), (6, .int (zI a24_6))]) hC hL (by decide) rfl dX4_branch_92 (fun ls hL => ?_)
        refine z_aload_n hC zvr_a rfl (hL.at 1 rfl) dX4_branch_94 ?_
        refine z_dup hC rfl dX4_branch_95 ?_
        refine z_getF hC hG kFX4_58_4 ho rfl hV dX4_branch_96 ?_
        intro x10 hx10 hV
        refine z_iconst hC dX4_branch_99 ?_
        refine z_isub hC dX4_branch_100 ?_
        refine z_putF hC hG kFX4_58_4 ho rfl rfl rfl nk_4_15 (inR_w _) (Or.inl rfl) hV dX4_branch_101 ?_
        intro G7 _ _ hG hV
        refine z_aload_n hC zvr_a rfl (hL.at 1 rfl) dX4_branch_104 ?_
        refine z_getA hC hG kFX4_27_4 ho rfl dX4_branch_105 ?_
        refine z_iload hC (hL.at 6 rfl) dX4_branch_108 ?_
        refine z_row hC hG ho rfl rfl hx3 hV dX4_branch_110 ?_
        intro hr11 hV
        refine z_iload hC (hL.at 7 rfl) dX4_branch_111 ?_
        refine z_iload hC (hL.at 0 rfl) dX4_branch_113 ?_
        refine z_xast hC hG ho (Nat.le_of_ble_eq_true rfl) (Nat.le_of_ble_eq_true rfl) rfl rfl hr11 ha24_6 hx9 hV dX4_branch_115 ?_
        intro G8 _ _ hG hV
        refine z_aload_n hC zvr_a rfl (hL.at 1 rfl) dX4_branch_116 ?_
        refine z_getA hC hG kFX4_30_4 ho rfl dX4_branch_117 ?_
        refine z_iload hC (hL.at 6 rfl) dX4_branch_120 ?_
        refine z_dup2 hC rfl rfl dX4_branch_122 ?_
        refine z_iald hC hG ho rfl rfl hx3 hV dX4_branch_123 ?_
        intro x12 hx12 hV
        refine z_iconst hC dX4_branch_124 ?_
        refine z_iadd hC dX4_branch_125 ?_
        refine z_iast hC hG ho (Nat.le_of_ble_eq_true rfl) (Nat.le_of_ble_eq_true rfl) rfl rfl rfl hx3 (inR_w _) hV dX4_branch_126 ?_
        intro G9 _ _ hG hV
        refine z_iincV (fun x13 => [(6, .int (zI x13)), (7, .int (zI x9)), (0, .ref (zA P o 0 0)), (1, .int (zI p0)), (2, .int (zI p1)), (3, .int (zI x1)), (4, .int (zI x2)), (5, .int (zI x3))]) hC hL (k := 7) rfl (by decide) (fun _ => rfl) hV dX4_branch_127 ?_
        intro x13 hx13 hV ls hL
        refine z_goto (tgt := 24) hC dX4_branch_130 (by decide) ?_
        exact hP24 x13 G9 hV hx13 _ _ hG _ (hL.sub [2, 3, 4, 5, 6, 7, 0] rfl)
      refine z_icmp_ne (tgt := 65) hC hp0 (inR_lit rfl) hV dX4_branch_57 (by decide) ?_ ?_
      · intro hV
        refine z_iconst hC dX4_branch_65 ?_
        exact hJ66 hG (-1) (inR_lit rfl) hV _ hL
      · intro hV
        refine z_iload hC (hL.at 4 rfl) dX4_branch_60 ?_
        refine z_goto (tgt := 66) hC dX4_branch_62 (by decide) ?_
        exact hJ66 hG x2 hx2 hV _ hL
abbrev rgBuild (d : Nat) : Room := { frames := 143 + d, cells := 0, slots := 0, locals := 3455 + 27 * d }
def vggBuild : Nat → (Nat → ZG → (Int → ZG → Prop) → Prop) × (Nat → Int → ZG → (Int → ZG → Prop) → Prop) × (Nat → ZG → (Int → ZG → Prop) → Prop) × (Nat → Int → Int → ZG → (Int → ZG → Prop) → Prop)
  | 0 => (fun _ _ _ => False, fun _ _ _ _ => False, fun _ _ _ => False, fun _ _ _ _ _ => False)
  | d + 1 => (bX4_build ((vggBuild d).1) ((vggBuild d).2.1) ((vggBuild d).2.2.1) ((vggBuild d).2.2.2), bX4_guard ((vggBuild d).1) ((vggBuild d).2.1) ((vggBuild d).2.2.1) ((vggBuild d).2.2.2), bX4_choose ((vggBuild d).1) ((vggBuild d).2.1) ((vggBuild d).2.2.1) ((vggBuild d).2.2.2), bX4_branch ((vggBuild d).1) ((vggBuild d).2.1) ((vggBuild d).2.2.1) ((vggBuild d).2.2.2))
def vX4_build (d : Nat) (o : Nat) (G : ZG) (Q : Int → ZG → Prop) : Prop := (vggBuild d).1 o G Q
def vX4_guard (d : Nat) (o : Nat) (p0 : Int) (G : ZG) (Q : Int → ZG → Prop) : Prop := (vggBuild d).2.1 o p0 G Q
def vX4_choose (d : Nat) (o : Nat) (G : ZG) (Q : Int → ZG → Prop) : Prop := (vggBuild d).2.2.1 o G Q
def vX4_branch (d : Nat) (o : Nat) (p0 : Int) (p1 : Int) (G : ZG) (Q : Int → ZG → Prop) : Prop := (vggBuild d).2.2.2 o p0 p1 G Q
theorem vX4_build_s (d : Nat) (o : Nat) (G : ZG) (Q : Int → ZG → Prop) : vX4_build (d + 1) o G Q = bX4_build (vX4_build d) (vX4_guard d) (vX4_choose d) (vX4_branch d) o G Q := rfl
theorem vX4_guard_s (d : Nat) (o : Nat) (p0 : Int) (G : ZG) (Q : Int → ZG → Prop) : vX4_guard (d + 1) o p0 G Q = bX4_guard (vX4_build d) (vX4_guard d) (vX4_choose d) (vX4_branch d) o p0 G Q := rfl
theorem vX4_choose_s (d : Nat) (o : Nat) (G : ZG) (Q : Int → ZG → Prop) : vX4_choose (d + 1) o G Q = bX4_choose (vX4_build d) (vX4_guard d) (vX4_choose d) (vX4_branch d) o G Q := rfl
theorem vX4_branch_s (d : Nat) (o : Nat) (p0 : Int) (p1 : Int) (G : ZG) (Q : Int → ZG → Prop) : vX4_branch (d + 1) o p0 p1 G Q = bX4_branch (vX4_build d) (vX4_guard d) (vX4_choose d) (vX4_branch d) o p0 p1 G Q := rfl
theorem ggBuild (l : Launch) (P : ZP) : ∀ d : Nat, (∀ (G : ZG) (o : Nat) (ho : tCls o = 4) {Q : Int → ZG → Prop}, vX4_build d o G Q → Met l yX4_build (ws_ yX4_build cX4_build 3 (some .int)) (rgBuild d) (zPc P G [.ref (zA P o 0 0)]) (zQi P Q) 0 0 (zAr P)) ∧ (∀ (G : ZG) (o : Nat) (ho : tCls o = 4) (p0 : Int) (hp0 : inR p0) {Q : Int → ZG → Prop}, vX4_guard d o p0 G Q → Met l yX4_guard (ws_ yX4_guard cX4_guard 4 (some .int)) (rgBuild d) (zPc P G [.ref (zA P o 0 0), .int (zI p0)]) (zQi P Q) 0 0 (zAr P)) ∧ (∀ (G : ZG) (o : Nat) (ho : tCls o = 4) {Q : Int → ZG → Prop}, vX4_choose d o G Q → Met l yX4_choose (ws_ yX4_choose cX4_choose 1 (some .int)) (rgBuild d) (zPc P G [.ref (zA P o 0 0)]) (zQi P Q) 0 0 (zAr P)) ∧ (∀ (G : ZG) (o : Nat) (ho : tCls o = 4) (p0 : Int) (hp0 : inR p0) (p1 : Int) (hp1 : inR p1) {Q : Int → ZG → Prop}, vX4_branch d o p0 p1 G Q → Met l yX4_branch (ws_ yX4_branch cX4_branch 8 (some .int)) (rgBuild d) (zPc P G [.ref (zA P o 0 0), .int (zI p0), .int (zI p1)]) (zQi P Q) 0 0 (zAr P)) := by
  intro d
  induction d with
  | zero => exact ⟨fun G o ho Q h => False.elim h, fun G o ho p0 hp0 Q h => False.elim h, fun G o ho Q h => False.elim h, fun G o ho p0 hp0 p1 hp1 Q h => False.elim h⟩
  | succ d ih =>
    have e : 3455 + 27 * (d + 1) = 3455 + 27 * d + 27 := by omega
    exact ⟨fun G o ho Q h => (by
      simp only [rgBuild, e]
      exact sX4_build l P (rf := 143 + d) (rl := 3455 + 27 * d) (by omega) (by omega) ((vggBuild d).1) ((vggBuild d).2.1) ((vggBuild d).2.2.1) ((vggBuild d).2.2.2) (ih.1) (ih.2.1) (ih.2.2.1) (ih.2.2.2) _ o ho h), fun G o ho p0 hp0 Q h => (by
      simp only [rgBuild, e]
      exact sX4_guard l P (rf := 143 + d) (rl := 3455 + 27 * d) (by omega) (by omega) ((vggBuild d).1) ((vggBuild d).2.1) ((vggBuild d).2.2.1) ((vggBuild d).2.2.2) (ih.1) (ih.2.1) (ih.2.2.1) (ih.2.2.2) _ o ho p0 hp0 h), fun G o ho Q h => (by
      simp only [rgBuild, e]
      exact sX4_choose l P (rf := 143 + d) (rl := 3455 + 27 * d) (by omega) (by omega) ((vggBuild d).1) ((vggBuild d).2.1) ((vggBuild d).2.2.1) ((vggBuild d).2.2.2) (ih.1) (ih.2.1) (ih.2.2.1) (ih.2.2.2) _ o ho h), fun G o ho p0 hp0 p1 hp1 Q h => (by
      simp only [rgBuild, e]
      exact sX4_branch l P (rf := 143 + d) (rl := 3455 + 27 * d) (by omega) (by omega) ((vggBuild d).1) ((vggBuild d).2.1) ((vggBuild d).2.2.1) ((vggBuild d).2.2.2) (ih.1) (ih.2.1) (ih.2.2.1) (ih.2.2.2) _ o ho p0 hp0 p1 hp1 h)⟩
theorem mX4_build (l : Launch) (P : ZP) (d : Nat) (G : ZG) (o : Nat) (ho : tCls o = 4) {Q : Int → ZG → Prop} (hV : vX4_build d o G Q) : Met l yX4_build (ws_ yX4_build cX4_build 3 (some .int)) (rgBuild d) (zPc P G [.ref (zA P o 0 0)]) (zQi P Q) 0 0 (zAr P) := (ggBuild l P d).1 G o ho hV
theorem mX4_guard (l : Launch) (P : ZP) (d : Nat) (G : ZG) (o : Nat) (ho : tCls o = 4) (p0 : Int) (hp0 : inR p0) {Q : Int → ZG → Prop} (hV : vX4_guard d o p0 G Q) : Met l yX4_guard (ws_ yX4_guard cX4_guard 4 (some .int)) (rgBuild d) (zPc P G [.ref (zA P o 0 0), .int (zI p0)]) (zQi P Q) 0 0 (zAr P) := (ggBuild l P d).2.1 G o ho p0 hp0 hV
theorem mX4_choose (l : Launch) (P : ZP) (d : Nat) (G : ZG) (o : Nat) (ho : tCls o = 4) {Q : Int → ZG → Prop} (hV : vX4_choose d o G Q) : Met l yX4_choose (ws_ yX4_choose cX4_choose 1 (some .int)) (rgBuild d) (zPc P G [.ref (zA P o 0 0)]) (zQi P Q) 0 0 (zAr P) := (ggBuild l P d).2.2.1 G o ho hV
theorem mX4_branch (l : Launch) (P : ZP) (d : Nat) (G : ZG) (o : Nat) (ho : tCls o = 4) (p0 : Int) (hp0 : inR p0) (p1 : Int) (hp1 : inR p1) {Q : Int → ZG → Prop} (hV : vX4_branch d o p0 p1 G Q) : Met l yX4_branch (ws_ yX4_branch cX4_branch 8 (some .int)) (rgBuild d) (zPc P G [.ref (zA P o 0 0), .int (zI p0), .int (zI p1)]) (zQi P Q) 0 0 (zAr P) := (ggBuild l P d).2.2.2 G o ho p0 hp0 p1 hp1 hV
abbrev rX4_refresh : Room := { frames := 1744, cells := 0, slots := 0, locals := 46677 }
def vX4_refresh (o : Nat) (G : ZG) (Q : ZG → Prop) : Prop := zgF G o 11 fun (x1 : Int) => zjn (fun (H37 : ZG) => Q H37) fun J37 => zbr (x1 ≠ 0) (J37 G) (zpF G o 11 1 fun (G1 : ZG) => zpF G1 o 9 0 fun (G2 : ZG) => zpF G2 o 10 0 fun (G3 : ZG) => zpF G3 o 15 0 fun (G4 : ZG) => zpF G4 o 16 0 fun (G5 : ZG) => vX4_build 1600 o G5 fun (x2 : Int) (G6 : ZG) => J37 G6)
set_option maxHeartbeats 4000000 in
theorem mX4_refresh (l : Launch) (P : ZP) (G : ZG) (o : Nat) (ho : tCls o = 4) {Q : ZG → Prop} (hV : vX4_refresh o G Q) : Met l yX4_refresh (ws_ yX4_refresh cX4_refresh 2 none) rX4_refresh (zPc P G [.ref (zA P o 0 0)]) (zQv P Q) 0 0 (zAr P) := by
  refine zMet RX4 (plainFor_of_name (by decide)) rfl (zcs_c rfl zcs_0) (Nat.le_of_ble_eq_true rfl) (fun p e s m args below meth c ls hC hr hk hn hG hL => ?_)
  unfold vX4_refresh at hV
  refine z_aload_n hC zvr_a rfl (hL.at 0 rfl) dX4_refresh_0 ?_
  refine z_getF hC hG kFX4_79_4 ho rfl hV dX4_refresh_1 ?_
  intro x1 hx1 hV
  obtain ⟨J37, eJ37, hV⟩ := zjn_abs hV
  have hJ37 : ∀ (H37 : ZG), J37 H37 → ∀ (H : Heap) (locs : List Loc) (ls : Array Slot), zS P s H37 H locs → zL ls 2 [] → W p l e rX4_refresh s m args below meth c H locs 0 0 (MQ below (zQv P Q) args s 0 0 (zAr P)) (F0 m 37 ls []) := by
    intro H37 hV H locs ls hG hL
    rw [eJ37] at hV
    exact z_vret hC hG hr hk hV (Nat.le_of_ble_eq_true rfl) (Nat.le_of_ble_eq_true rfl) dX4_refresh_37
  refine z_if_ne (tgt := 37) hC hx1 hV dX4_refresh_4 (by decide) ?_ ?_
  · intro hV
    exact hJ37 G hV _ _ _ hG (hL.sub [] rfl)
  · intro hV
    refine z_aload_n hC zvr_a rfl (hL.at 0 rfl) dX4_refresh_7 ?_
    refine z_iconst hC dX4_refresh_8 ?_
    refine z_putF hC hG kFX4_79_4 ho rfl rfl rfl nk_4_11 (inR_lit rfl) (Or.inr ⟨rfl, (Or.inr rfl)⟩) hV dX4_refresh_9 ?_
    intro G1 _ _ hG hV
    refine z_aload_n hC zvr_a rfl (hL.at 0 rfl) dX4_refresh_12 ?_
    refine z_iconst hC dX4_refresh_13 ?_
    refine z_putF hC hG kFX4_82_4 ho rfl rfl rfl nk_4_9 (inR_lit rfl) (Or.inl rfl) hV dX4_refresh_14 ?_
    intro G2 _ _ hG hV
    refine z_aload_n hC zvr_a rfl (hL.at 0 rfl) dX4_refresh_17 ?_
    refine z_iconst hC dX4_refresh_18 ?_
    refine z_putF hC hG kFX4_85_4 ho rfl rfl rfl nk_4_10 (inR_lit rfl) (Or.inr ⟨rfl, (Or.inl rfl)⟩) hV dX4_refresh_19 ?_
    intro G3 _ _ hG hV
    refine z_aload_n hC zvr_a rfl (hL.at 0 rfl) dX4_refresh_22 ?_
    refine z_iconst hC dX4_refresh_23 ?_
    refine z_putF hC hG kFX4_58_4 ho rfl rfl rfl nk_4_15 (inR_lit rfl) (Or.inl rfl) hV dX4_refresh_24 ?_
    intro G4 _ _ hG hV
    refine z_aload_n hC zvr_a rfl (hL.at 0 rfl) dX4_refresh_27 ?_
    refine z_iconst hC dX4_refresh_28 ?_
    refine z_putF hC hG kFX4_88_4 ho rfl rfl rfl nk_4_16 (inR_lit rfl) (Or.inl rfl) hV dX4_refresh_29 ?_
    intro G5 _ _ hG hV
    refine z_aload_n hC zvr_a rfl (hL.at 0 rfl) dX4_refresh_32 ?_
    refine z_call_i hG (zrunV (ci := 4) hC hG (Nat.le_of_ble_eq_true rfl) (Nat.le_of_ble_eq_true rfl) (zobj hG ho (Nat.le_of_ble_eq_true rfl) (Nat.le_of_ble_eq_true rfl)) (mX4_build l P 1600 G5 o ho hV) kVX4_91 rfl rfl rfl ⟨(Nat.le_of_ble_eq_true rfl), (Nat.le_of_ble_eq_true rfl)⟩ ⟨(Nat.le_of_ble_eq_true rfl), (Nat.le_of_ble_eq_true rfl)⟩ rfl ⟨zcs_0, (Nat.le_of_ble_eq_true rfl)⟩ hL.1.1 dX4_refresh_33) ?_
    rintro x2 G6 _ _ hx2 hV hG
    refine z_istore_n (lv' := [(1, .int (zI x2)), (0, .ref (zA P o 0 0))]) hC rfl hL (by decide) rfl dX4_refresh_36 (fun ls hL => ?_)
    exact hJ37 G6 hV _ _ _ hG (hL.sub [] rfl)
abbrev rX4_descend : Room := { frames := 143, cells := 0, slots := 0, locals := 3454 }
def vX4_descend (o : Nat) (G : ZG) (Q : Int → ZG → Prop) : Prop := zl2 (fun (P2 : Int → ZG → Prop) (a2_1 : Int) (K2 : ZG) => zaL K2 o 3 500 a2_1 fun (x1 : Int) => zbr (2 < x1) (Q a2_1 K2) (zaL K2 o 3 500 a2_1 fun (x2 : Int) => zbr (x2 ≠ 2) (zgF K2 1 7 fun (x3 : Int) => zpF K2 1 7 (w32 (x3 + 1)) fun (G1 : ZG) => zin 500 a2_1 ∧ zaL G1 o 3 500 a2_1 fun (x5 : Int) => zjn (fun (z156_1 : Int) (H156 : ZG) => zxL H156 o 6 a2_1 z156_1 fun (x6 : Int) => P2 x6 H156) fun J156 => zbr (x5 ≠ 1) (zaL G1 o 4 500 a2_1 fun (x7 : Int) => vX3_look x7 G1 fun (x8 : Int) => J156 x8 G1) (zaL G1 o 5 500 a2_1 fun (x9 : Int) => zaL G1 o 4 500 a2_1 fun (x10 : Int) => vX3_seen x9 x10 G1 fun (x11 : Int) (G2 : ZG) => J156 x11 G2)) (zaL K2 o 5 500 a2_1 fun (x12 : Int) => vJ2_get 10 x12 K2 fun (x13 : ZR) => zca K2 x13 16 ∧ vX3_binds x13 K2 fun (G3 : ZG) => zin 500 a2_1 ∧ vX3_guards x13 G3 fun (x15 : Int) => zjn (fun (z78_1 : Int) => zxL G3 o 6 a2_1 z78_1 fun (x16 : Int) => P2 x16 G3) fun J78 => zbr (x15 ≠ 0) (J78 1) (J78 0)))) 0 G
set_option maxHeartbeats 4000000 in
theorem mX4_descend (l : Launch) (P : ZP) (G : ZG) (o : Nat) (ho : tCls o = 4) {Q : Int → ZG → Prop} (hV : vX4_descend o G Q) : Met l yX4_descend (ws_ yX4_descend cX4_descend 3 (some .int)) rX4_descend (zPc P G [.ref (zA P o 0 0)]) (zQi P Q) 0 0 (zAr P) := by
  refine zMet RX4 (plainFor_of_name (by decide)) rfl (zcs_c rfl zcs_0) (Nat.le_of_ble_eq_true rfl) (fun p e s m args below meth c ls hC hr hk hn hG hL => ?_)
  unfold vX4_descend at hV
  refine z_iconst hC dX4_descend_0 ?_
  refine z_istore_n (lv' := [(1, .int (zI 0)), (0, .ref (zA P o 0 0))]) hC rfl hL (by decide) rfl dX4_descend_1 (fun ls hL => ?_)
  refine zl2_use hV (fun (a2_1 : Int) (K2 : ZG) => inR a2_1 → ∀ (H : Heap) (locs : List Loc), zS P s K2 H locs → ∀ (ls : Array Slot), zL ls 3 [(0, .ref (zA P o 0 0)), (1, .int (zI a2_1))] → W p l e rX4_descend s m args below meth c H locs 0 0 (MQ below (zQi P Q) args s 0 0 (zAr P)) (F0 m 2 ls [])) ?_ (inR_lit rfl) _ _ hG _ (hL.sub [1, 0] rfl)
  intro P2 a2_1 K2 hP2 hV ha2_1 H locs hG ls hL
  refine z_aload_n hC zvr_a rfl (hL.at 0 rfl) dX4_descend_2 ?_
  refine z_getA hC hG kFX4_15_4 ho rfl dX4_descend_3 ?_
  refine z_iload_n hC rfl (hL.at 1 rfl) dX4_descend_6 ?_
  refine z_iald hC hG ho rfl rfl ha2_1 hV dX4_descend_7 ?_
  intro x1 hx1 hV
  refine z_iconst hC dX4_descend_8 ?_
  refine z_icmp_gt (tgt := 161) hC hx1 (inR_lit rfl) hV dX4_descend_9 (by decide) ?_ ?_
  · intro hV
    refine z_iload_n hC rfl (hL.at 1 rfl) dX4_descend_161 ?_
    exact z_iret hC hG hr hk ha2_1 hV (Nat.le_of_ble_eq_true rfl) (Nat.le_of_ble_eq_true rfl) dX4_descend_162
  · intro hV
    refine z_aload_n hC zvr_a rfl (hL.at 0 rfl) dX4_descend_12 ?_
    refine z_getA hC hG kFX4_15_4 ho rfl dX4_descend_13 ?_
    refine z_iload_n hC rfl (hL.at 1 rfl) dX4_descend_16 ?_
    refine z_iald hC hG ho rfl rfl ha2_1 hV dX4_descend_17 ?_
    intro x2 hx2 hV
    refine z_iconst hC dX4_descend_18 ?_
    refine z_icmp_ne (tgt := 83) hC hx2 (inR_lit rfl) hV dX4_descend_19 (by decide) ?_ ?_
    · intro hV
      refine z_aload_n hC zvr_a rfl (hL.at 0 rfl) dX4_descend_83 ?_
      refine z_getO hC hG 0 kFX4_3_4 ho rfl dX4_descend_84 ?_
      refine z_getO hC hG 1 kFX4_238_1 rfl rfl dX4_descend_87 ?_
      refine z_dup hC rfl dX4_descend_90 ?_
      refine z_getF hC hG kFX4_251_3 rfl rfl hV dX4_descend_91 ?_
      intro x3 hx3 hV
      refine z_iconst hC dX4_descend_94 ?_
      refine z_iadd hC dX4_descend_95 ?_
      refine z_putF hC hG kFX4_251_3 rfl rfl rfl rfl nk_3_7 (inR_w _) (Or.inl rfl) hV dX4_descend_96 ?_
      intro G1 _ _ hG hV
      refine z_aload_n hC zvr_a rfl (hL.at 0 rfl) dX4_descend_99 ?_
      refine z_getA hC hG kFX4_27_4 ho rfl dX4_descend_100 ?_
      refine z_iload_n hC rfl (hL.at 1 rfl) dX4_descend_103 ?_
      refine z_row hC hG ho rfl rfl ha2_1 hV dX4_descend_104 ?_
      intro hr4 hV
      refine z_aload_n hC zvr_a rfl (hL.at 0 rfl) dX4_descend_105 ?_
      refine z_getA hC hG kFX4_15_4 ho rfl dX4_descend_106 ?_
      refine z_iload_n hC rfl (hL.at 1 rfl) dX4_descend_109 ?_
      refine z_iald hC hG ho rfl rfl ha2_1 hV dX4_descend_110 ?_
      intro x5 hx5 hV
      refine z_iconst hC dX4_descend_111 ?_
      obtain ⟨J156, eJ156, hV⟩ := zjn_abs hV
      have hJ156 : ∀ (z156_1 : Int) (H156 : ZG), inR z156_1 → J156 z156_1 H156 → ∀ (H : Heap) (locs : List Loc) (ls : Array Slot), zS P s H156 H locs → zL ls 3 [(0, .ref (zA P o 0 0))] → W p l e rX4_descend s m args below meth c H locs 0 0 (MQ below (zQi P Q) args s 0 0 (zAr P)) (F0 m 156 ls [.int (zI z156_1), .ref (zA P o 7 (Int.toNat a2_1 + 1))]) := by
        intro z156_1 H156 hz156_1 hV H locs ls hG hL
        rw [eJ156] at hV
        refine z_xald hC hG ho rfl hr4 hz156_1 hV dX4_descend_156 ?_
        intro x6 hx6 hV
        refine z_istore_n (lv' := [(1, .int (zI x6)), (0, .ref (zA P o 0 0))]) hC rfl hL (by decide) rfl dX4_descend_157 (fun ls hL => ?_)
        refine z_goto (tgt := 2) hC dX4_descend_158 (by decide) ?_
        exact hP2 x6 H156 hV hx6 _ _ hG _ (hL.sub [1, 0] rfl)
      refine z_icmp_ne (tgt := 140) hC hx5 (inR_lit rfl) hV dX4_descend_112 (by decide) ?_ ?_
      · intro hV
        refine z_aload_n hC zvr_a rfl (hL.at 0 rfl) dX4_descend_140 ?_
        refine z_getO hC hG 0 kFX4_3_4 ho rfl dX4_descend_141 ?_
        refine z_getO hC hG 1 kFX4_238_1 rfl rfl dX4_descend_144 ?_
        refine z_aload_n hC zvr_a rfl (hL.at 0 rfl) dX4_descend_147 ?_
        refine z_getA hC hG kFX4_19_4 ho rfl dX4_descend_148 ?_
        refine z_iload_n hC rfl (hL.at 1 rfl) dX4_descend_151 ?_
        refine z_iald hC hG ho rfl rfl ha2_1 hV dX4_descend_152 ?_
        intro x7 hx7 hV
        refine z_call_i hG (zrunV (ci := 3) hC hG (Nat.le_of_ble_eq_true rfl) (Nat.le_of_ble_eq_true rfl) (zobj hG rfl (Nat.le_of_ble_eq_true rfl) (Nat.le_of_ble_eq_true rfl)) (mX3_look l P G1 x7 hx7 hV) kVX4_257 rfl rfl rfl ⟨(Nat.le_of_ble_eq_true rfl), (Nat.le_of_ble_eq_true rfl)⟩ ⟨(Nat.le_of_ble_eq_true rfl), (Nat.le_of_ble_eq_true rfl)⟩ rfl ⟨(zcs_c rfl zcs_0), (Nat.le_of_ble_eq_true rfl)⟩ hL.1.1 dX4_descend_153) ?_
        rintro x8 _ _ _ hx8 ⟨rfl, hV⟩ hG
        exact hJ156 x8 G1 hx8 hV _ _ _ hG (hL.sub [0] rfl)
      · intro hV
        refine z_aload_n hC zvr_a rfl (hL.at 0 rfl) dX4_descend_115 ?_
        refine z_getO hC hG 0 kFX4_3_4 ho rfl dX4_descend_116 ?_
        refine z_getO hC hG 1 kFX4_238_1 rfl rfl dX4_descend_119 ?_
        refine z_aload_n hC zvr_a rfl (hL.at 0 rfl) dX4_descend_122 ?_
        refine z_getA hC hG kFX4_22_4 ho rfl dX4_descend_123 ?_
        refine z_iload_n hC rfl (hL.at 1 rfl) dX4_descend_126 ?_
        refine z_iald hC hG ho rfl rfl ha2_1 hV dX4_descend_127 ?_
        intro x9 hx9 hV
        refine z_aload_n hC zvr_a rfl (hL.at 0 rfl) dX4_descend_128 ?_
        refine z_getA hC hG kFX4_19_4 ho rfl dX4_descend_129 ?_
        refine z_iload_n hC rfl (hL.at 1 rfl) dX4_descend_132 ?_
        refine z_iald hC hG ho rfl rfl ha2_1 hV dX4_descend_133 ?_
        intro x10 hx10 hV
        refine z_call_i hG (zrunV (ci := 3) hC hG (Nat.le_of_ble_eq_true rfl) (Nat.le_of_ble_eq_true rfl) (zobj hG rfl (Nat.le_of_ble_eq_true rfl) (Nat.le_of_ble_eq_true rfl)) (mX3_seen l P G1 x9 hx9 x10 hx10 hV) kVX4_254 rfl rfl rfl ⟨(Nat.le_of_ble_eq_true rfl), (Nat.le_of_ble_eq_true rfl)⟩ ⟨(Nat.le_of_ble_eq_true rfl), (Nat.le_of_ble_eq_true rfl)⟩ rfl ⟨(zcs_c rfl zcs_0), (Nat.le_of_ble_eq_true rfl)⟩ hL.1.1 dX4_descend_134) ?_
        rintro x11 G2 _ _ hx11 hV hG
        refine z_goto (tgt := 156) hC dX4_descend_137 (by decide) ?_
        exact hJ156 x11 G2 hx11 hV _ _ _ hG (hL.sub [0] rfl)
    · intro hV
      refine z_aload_n hC zvr_a rfl (hL.at 0 rfl) dX4_descend_22 ?_
      refine z_getO hC hG 0 kFX4_3_4 ho rfl dX4_descend_23 ?_
      refine z_getO hC hG 10 kFX4_95_1 rfl rfl dX4_descend_26 ?_
      refine z_aload_n hC zvr_a rfl (hL.at 0 rfl) dX4_descend_29 ?_
      refine z_getA hC hG kFX4_22_4 ho rfl dX4_descend_30 ?_
      refine z_iload_n hC rfl (hL.at 1 rfl) dX4_descend_33 ?_
      refine z_iald hC hG ho rfl rfl ha2_1 hV dX4_descend_34 ?_
      intro x12 hx12 hV
      refine z_call_r hG (zrunV (ci := 2) hC hG (Nat.le_of_ble_eq_true rfl) (Nat.le_of_ble_eq_true rfl) (zobj hG rfl (Nat.le_of_ble_eq_true rfl) (Nat.le_of_ble_eq_true rfl)) (mJ2_get l P K2 10 rfl x12 hx12 hV) kVX4_108 rfl rfl rfl ⟨(Nat.le_of_ble_eq_true rfl), (Nat.le_of_ble_eq_true rfl)⟩ ⟨(Nat.le_of_ble_eq_true rfl), (Nat.le_of_ble_eq_true rfl)⟩ rfl ⟨zcs_0, (Nat.le_of_ble_eq_true rfl)⟩ hL.1.1 dX4_descend_35) ?_
      rintro x13 _ _ _  ⟨rfl, hV⟩ hG
      refine z_cast hC hG (ci := 16) (Nat.le_of_ble_eq_true rfl) (Nat.le_of_ble_eq_true rfl) q1379 hV dX4_descend_38 (fun hV => ?_)
      refine z_astore_n (lv' := [(2, zrv P x13), (0, .ref (zA P o 0 0)), (1, .int (zI a2_1))]) hC zvr_r rfl hL (by decide) rfl dX4_descend_41 (fun ls hL => ?_)
      refine z_aload_n hC zvr_a rfl (hL.at 1 rfl) dX4_descend_42 ?_
      refine z_getO hC hG 0 kFX4_3_4 ho rfl dX4_descend_43 ?_
      refine z_getO hC hG 1 kFX4_238_1 rfl rfl dX4_descend_46 ?_
      refine z_aload_n hC zvr_r rfl (hL.at 0 rfl) dX4_descend_49 ?_
      refine z_call_v hG (zrunV (ci := 3) hC hG (Nat.le_of_ble_eq_true rfl) (Nat.le_of_ble_eq_true rfl) (zobj hG rfl (Nat.le_of_ble_eq_true rfl) (Nat.le_of_ble_eq_true rfl)) (mX3_binds l P K2 x13 hV) kVX4_242 rfl rfl rfl ⟨(Nat.le_of_ble_eq_true rfl), (Nat.le_of_ble_eq_true rfl)⟩ ⟨(Nat.le_of_ble_eq_true rfl), (Nat.le_of_ble_eq_true rfl)⟩ rfl ⟨zcs_0, (Nat.le_of_ble_eq_true rfl)⟩ hL.1.1 dX4_descend_50) ?_
      rintro G3 _ _ hV hG
      refine z_aload_n hC zvr_a rfl (hL.at 1 rfl) dX4_descend_53 ?_
      refine z_getA hC hG kFX4_27_4 ho rfl dX4_descend_54 ?_
      refine z_iload_n hC rfl (hL.at 2 rfl) dX4_descend_57 ?_
      refine z_row hC hG ho rfl rfl ha2_1 hV dX4_descend_58 ?_
      intro hr14 hV
      refine z_aload_n hC zvr_a rfl (hL.at 1 rfl) dX4_descend_59 ?_
      refine z_getO hC hG 0 kFX4_3_4 ho rfl dX4_descend_60 ?_
      refine z_getO hC hG 1 kFX4_238_1 rfl rfl dX4_descend_63 ?_
      refine z_aload_n hC zvr_r rfl (hL.at 0 rfl) dX4_descend_66 ?_
      refine z_call_i hG (zrunV (ci := 3) hC hG (Nat.le_of_ble_eq_true rfl) (Nat.le_of_ble_eq_true rfl) (zobj hG rfl (Nat.le_of_ble_eq_true rfl) (Nat.le_of_ble_eq_true rfl)) (mX3_guards l P G3 x13 hV) kVX4_248 rfl rfl rfl ⟨(Nat.le_of_ble_eq_true rfl), (Nat.le_of_ble_eq_true rfl)⟩ ⟨(Nat.le_of_ble_eq_true rfl), (Nat.le_of_ble_eq_true rfl)⟩ rfl ⟨(zcs_c rfl zcs_0), (Nat.le_of_ble_eq_true rfl)⟩ hL.1.1 dX4_descend_67) ?_
      rintro x15 _ _ _ hx15 ⟨rfl, hV⟩ hG
      obtain ⟨J78, eJ78, hV⟩ := zjn_abs hV
      have hJ78 : ∀ {H : Heap} {locs : List Loc}, zS P s G3 H locs → ∀ (z78_1 : Int), (z78_1 = 0 ∨ z78_1 = 1) → J78 z78_1 → ∀ (ls : Array Slot), zL ls 3 [(0, .ref (zA P o 0 0))] → W p l e rX4_descend s m args below meth c H locs 0 0 (MQ below (zQi P Q) args s 0 0 (zAr P)) (F0 m 78 ls [.int (zI z78_1), .ref (zA P o 7 (Int.toNat a2_1 + 1))]) := by
        intro H locs hG z78_1 hz78_1 hV ls hL
        rw [eJ78] at hV
        refine z_xald hC hG ho rfl hr14 (inR_b hz78_1) hV dX4_descend_78 ?_
        intro x16 hx16 hV
        refine z_istore_n (lv' := [(1, .int (zI x16)), (0, .ref (zA P o 0 0))]) hC rfl hL (by decide) rfl dX4_descend_79 (fun ls hL => ?_)
        refine z_goto (tgt := 2) hC dX4_descend_80 (by decide) ?_
        exact hP2 x16 G3 hV hx16 _ _ hG _ (hL.sub [1, 0] rfl)
      refine z_if_ne (tgt := 77) hC hx15 hV dX4_descend_70 (by decide) ?_ ?_
      · intro hV
        refine z_iconst hC dX4_descend_77 ?_
        exact hJ78 hG 1 (Or.inr rfl) hV _ (hL.sub [1] rfl)
      · intro hV
        refine z_iconst hC dX4_descend_73 ?_
        refine z_goto (tgt := 78) hC dX4_descend_74 (by decide) ?_
        exact hJ78 hG 0 (Or.inl rfl) hV _ (hL.sub [1] rfl)
abbrev rX4_isNeedless : Room := { frames := 1, cells := 0, slots := 0, locals := 12 }
def vX4_isNeedless (o : Nat) (p0 : Int) (G : ZG) (Q : Int → Prop) : Prop := zaL G o 3 500 p0 fun (x1 : Int) => zjn (fun (z23_0 : Int) => zl2 (fun (P26 : Int → Int → Prop) (a26_2 : Int) (a26_3 : Int) => zaL G o 7 500 p0 fun (x2 : Int) => zjn (fun (_ : Unit) => Q a26_2) fun J81 => zbr (x2 ≤ a26_3) (J81 ()) (zbr (a26_2 = 0) (J81 ()) (zin 500 p0 ∧ zxL G o 6 p0 a26_3 fun (x4 : Int) => zaL G o 8 500 x4 fun (x5 : Int) => zin 500 p0 ∧ zxL G o 6 p0 0 fun (x7 : Int) => zaL G o 8 500 x7 fun (x8 : Int) => zjn (fun (z74_0 : Int) => zlt1 (w32 (a26_3 + 1)) fun (x9 : Int) => P26 z74_0 x9) fun J74 => zbr (x5 ≠ x8) (J74 0) (J74 1)))) z23_0 1) fun J23 => zjn (fun (_ : Unit) => J23 0) fun J22 => zbr (x1 ≠ 0) (J22 ()) (zaL G o 7 500 p0 fun (x10 : Int) => zbr (x10 ≤ 0) (J22 ()) (J23 1))
set_option maxHeartbeats 4000000 in
theorem mX4_isNeedless (l : Launch) (P : ZP) (G : ZG) (o : Nat) (ho : tCls o = 4) (p0 : Int) (hp0 : inR p0) {Q : Int → Prop} (hV : vX4_isNeedless o p0 G Q) : Met l yX4_isNeedless (ws_ yX4_isNeedless cX4_isNeedless 4 (some .boolean)) rX4_isNeedless (zPc P G [.ref (zA P o 0 0), .int (zI p0)]) (zQz P (fun r G2 => G = G2 ∧ Q r)) 0 0 (zAr P) := by
  refine zMet RX4 (plainFor_of_name (by decide)) rfl (zcs_c rfl (zcs_c rfl zcs_0)) (Nat.le_of_ble_eq_true rfl) (fun p e s m args below meth c ls hC hr hk hn hG hL => ?_)
  unfold vX4_isNeedless at hV
  refine z_aload_n hC zvr_a rfl (hL.at 0 rfl) dX4_isNeedless_0 ?_
  refine z_getA hC hG kFX4_15_4 ho rfl dX4_isNeedless_1 ?_
  refine z_iload_n hC rfl (hL.at 1 rfl) dX4_isNeedless_4 ?_
  refine z_iald hC hG ho rfl rfl hp0 hV dX4_isNeedless_5 ?_
  intro x1 hx1 hV
  obtain ⟨J23, eJ23, hV⟩ := zjn_abs hV
  have hJ23 : ∀ {H : Heap} {locs : List Loc}, zS P s G H locs → ∀ (z23_0 : Int), (z23_0 = 0 ∨ z23_0 = 1) → J23 z23_0 → ∀ (ls : Array Slot), zL ls 4 [(0, .ref (zA P o 0 0)), (1, .int (zI p0))] → W p l e rX4_isNeedless s m args below meth c H locs 0 0 (MQ below (zQz P (fun r G2 => G = G2 ∧ Q r)) args s 0 0 (zAr P)) (F0 m 23 ls [.int (zI z23_0)]) := by
    intro H locs hG z23_0 hz23_0 hV ls hL
    rw [eJ23] at hV
    refine z_istore_n (lv' := [(2, .int (zI z23_0)), (0, .ref (zA P o 0 0)), (1, .int (zI p0))]) hC rfl hL (by decide) rfl dX4_isNeedless_23 (fun ls hL => ?_)
    refine z_iconst hC dX4_isNeedless_24 ?_
    refine z_istore_n (lv' := [(3, .int (zI 1)), (2, .int (zI z23_0)), (0, .ref (zA P o 0 0)), (1, .int (zI p0))]) hC rfl hL (by decide) rfl dX4_isNeedless_25 (fun ls hL => ?_)
    refine zl2_use hV (fun (a26_2 : Int) (a26_3 : Int) => (a26_2 = 0 ∨ a26_2 = 1) → inR a26_3 → ∀ (H : Heap) (locs : List Loc), zS P s G H locs → ∀ (ls : Array Slot), zL ls 4 [(0, .ref (zA P o 0 0)), (1, .int (zI p0)), (2, .int (zI a26_2)), (3, .int (zI a26_3))] → W p l e rX4_isNeedless s m args below meth c H locs 0 0 (MQ below (zQz P (fun r G2 => G = G2 ∧ Q r)) args s 0 0 (zAr P)) (F0 m 26 ls [])) ?_ hz23_0 (inR_lit rfl) _ _ hG _ (hL.sub [2, 3, 1, 0] rfl)
    intro P26 a26_2 a26_3 hP26 hV ha26_2 ha26_3 H locs hG ls hL
    refine z_iload_n hC rfl (hL.at 3 rfl) dX4_isNeedless_26 ?_
    refine z_aload_n hC zvr_a rfl (hL.at 0 rfl) dX4_isNeedless_27 ?_
    refine z_getA hC hG kFX4_30_4 ho rfl dX4_isNeedless_28 ?_
    refine z_iload_n hC rfl (hL.at 1 rfl) dX4_isNeedless_31 ?_
    refine z_iald hC hG ho rfl rfl hp0 hV dX4_isNeedless_32 ?_
    intro x2 hx2 hV
    obtain ⟨J81, eJ81, hV⟩ := zjn_abs hV
    have hJ81 : ∀ {H : Heap} {locs : List Loc}, zS P s G H locs → J81 () → ∀ (ls : Array Slot), zL ls 4 [(2, .int (zI a26_2))] → W p l e rX4_isNeedless s m args below meth c H locs 0 0 (MQ below (zQz P (fun r G2 => G = G2 ∧ Q r)) args s 0 0 (zAr P)) (F0 m 81 ls []) := by
      intro H locs hG hV ls hL
      rw [eJ81] at hV
      refine z_iload_n hC rfl (hL.at 0 rfl) dX4_isNeedless_81 ?_
      exact z_zret hC hG hr hk ha26_2 ⟨rfl, hV⟩ (Nat.le_of_ble_eq_true rfl) (Nat.le_of_ble_eq_true rfl) dX4_isNeedless_82
    refine z_icmp_ge (tgt := 81) hC ha26_3 hx2 hV dX4_isNeedless_33 (by decide) ?_ ?_
    · intro hV
      exact hJ81 hG hV _ (hL.sub [2] rfl)
    · intro hV
      refine z_iload_n hC rfl (hL.at 2 rfl) dX4_isNeedless_36 ?_
      refine z_if_eq (tgt := 81) hC (inR_b ha26_2) hV dX4_isNeedless_37 (by decide) ?_ ?_
      · intro hV
        exact hJ81 hG hV _ (hL.sub [2] rfl)
      · intro hV
        refine z_aload_n hC zvr_a rfl (hL.at 0 rfl) dX4_isNeedless_40 ?_
        refine z_getA hC hG kFX4_33_4 ho rfl dX4_isNeedless_41 ?_
        refine z_aload_n hC zvr_a rfl (hL.at 0 rfl) dX4_isNeedless_44 ?_
        refine z_getA hC hG kFX4_27_4 ho rfl dX4_isNeedless_45 ?_
        refine z_iload_n hC rfl (hL.at 1 rfl) dX4_isNeedless_48 ?_
        refine z_row hC hG ho rfl rfl hp0 hV dX4_isNeedless_49 ?_
        intro hr3 hV
        refine z_iload_n hC rfl (hL.at 3 rfl) dX4_isNeedless_50 ?_
        refine z_xald hC hG ho rfl hr3 ha26_3 hV dX4_isNeedless_51 ?_
        intro x4 hx4 hV
        refine z_iald hC hG ho rfl rfl hx4 hV dX4_isNeedless_52 ?_
        intro x5 hx5 hV
        refine z_aload_n hC zvr_a rfl (hL.at 0 rfl) dX4_isNeedless_53 ?_
        refine z_getA hC hG kFX4_33_4 ho rfl dX4_isNeedless_54 ?_
        refine z_aload_n hC zvr_a rfl (hL.at 0 rfl) dX4_isNeedless_57 ?_
        refine z_getA hC hG kFX4_27_4 ho rfl dX4_isNeedless_58 ?_
        refine z_iload_n hC rfl (hL.at 1 rfl) dX4_isNeedless_61 ?_
        refine z_row hC hG ho rfl rfl hp0 hV dX4_isNeedless_62 ?_
        intro hr6 hV
        refine z_iconst hC dX4_isNeedless_63 ?_
        refine z_xald hC hG ho rfl hr6 (inR_lit rfl) hV dX4_isNeedless_64 ?_
        intro x7 hx7 hV
        refine z_iald hC hG ho rfl rfl hx7 hV dX4_isNeedless_65 ?_
        intro x8 hx8 hV
        obtain ⟨J74, eJ74, hV⟩ := zjn_abs hV
        have hJ74 : ∀ {H : Heap} {locs : List Loc}, zS P s G H locs → ∀ (z74_0 : Int), (z74_0 = 0 ∨ z74_0 = 1) → J74 z74_0 → ∀ (ls : Array Slot), zL ls 4 [(0, .ref (zA P o 0 0)), (1, .int (zI p0)), (3, .int (zI a26_3))] → W p l e rX4_isNeedless s m args below meth c H locs 0 0 (MQ below (zQz P (fun r G2 => G = G2 ∧ Q r)) args s 0 0 (zAr P)) (F0 m 74 ls [.int (zI z74_0)]) := by
          intro H locs hG z74_0 hz74_0 hV ls hL
          rw [eJ74] at hV
          refine z_istore_n (lv' := [(2, .int (zI z74_0)), (0, .ref (zA P o 0 0)), (1, .int (zI p0)), (3, .int (zI a26_3))]) hC rfl hL (by decide) rfl dX4_isNeedless_74 (fun ls hL => ?_)
          refine z_iincV (fun x9 => [(3, .int (zI x9)), (2, .int (zI z74_0)), (0, .ref (zA P o 0 0)), (1, .int (zI p0))]) hC hL (k := 3) rfl (by decide) (fun _ => rfl) hV dX4_isNeedless_75 ?_
          intro x9 hx9 hV ls hL
          refine z_goto (tgt := 26) hC dX4_isNeedless_78 (by decide) ?_
          exact hP26 z74_0 x9 hV hz74_0 hx9 _ _ hG _ (hL.sub [2, 3, 1, 0] rfl)
        refine z_icmp_ne (tgt := 73) hC hx5 hx8 hV dX4_isNeedless_66 (by decide) ?_ ?_
        · intro hV
          refine z_iconst hC dX4_isNeedless_73 ?_
          exact hJ74 hG 0 (Or.inl rfl) hV _ (hL.sub [0, 1, 3] rfl)
        · intro hV
          refine z_iconst hC dX4_isNeedless_69 ?_
          refine z_goto (tgt := 74) hC dX4_isNeedless_70 (by decide) ?_
          exact hJ74 hG 1 (Or.inr rfl) hV _ (hL.sub [0, 1, 3] rfl)
  obtain ⟨J22, eJ22, hV⟩ := zjn_abs hV
  have hJ22 : ∀ {H : Heap} {locs : List Loc}, zS P s G H locs → J22 () → ∀ (ls : Array Slot), zL ls 4 [(0, .ref (zA P o 0 0)), (1, .int (zI p0))] → W p l e rX4_isNeedless s m args below meth c H locs 0 0 (MQ below (zQz P (fun r G2 => G = G2 ∧ Q r)) args s 0 0 (zAr P)) (F0 m 22 ls []) := by
    intro H locs hG hV ls hL
    rw [eJ22] at hV
    refine z_iconst hC dX4_isNeedless_22 ?_
    exact hJ23 hG 0 (Or.inl rfl) hV _ hL
  refine z_if_ne (tgt := 22) hC hx1 hV dX4_isNeedless_6 (by decide) ?_ ?_
  · intro hV
    exact hJ22 hG hV _ hL
  · intro hV
    refine z_aload_n hC zvr_a rfl (hL.at 0 rfl) dX4_isNeedless_9 ?_
    refine z_getA hC hG kFX4_30_4 ho rfl dX4_isNeedless_10 ?_
    refine z_iload_n hC rfl (hL.at 1 rfl) dX4_isNeedless_13 ?_
    refine z_iald hC hG ho rfl rfl hp0 hV dX4_isNeedless_14 ?_
    intro x10 hx10 hV
    refine z_if_le (tgt := 22) hC hx10 hV dX4_isNeedless_15 (by decide) ?_ ?_
    · intro hV
      exact hJ22 hG hV _ hL
    · intro hV
      refine z_iconst hC dX4_isNeedless_18 ?_
      refine z_goto (tgt := 23) hC dX4_isNeedless_19 (by decide) ?_
      exact hJ23 hG 1 (Or.inr rfl) hV _ hL
abbrev rX4_areAlike : Room := { frames := 1, cells := 0, slots := 0, locals := 12 }
def vX4_areAlike (o : Nat) (p0 : Int) (p1 : Int) (G : ZG) (Q : Int → Prop) : Prop := zaL G o 3 500 p0 fun (x1 : Int) => zaL G o 3 500 p1 fun (x2 : Int) => zjn (fun (z65_0 : Int) => zl2 (fun (P69 : Int → Int → Prop) (a69_3 : Int) (a69_4 : Int) => zaL G o 7 500 p0 fun (x3 : Int) => zjn (fun (_ : Unit) => Q a69_3) fun J127 => zbr (x3 ≤ a69_4) (J127 ()) (zbr (a69_3 = 0) (J127 ()) (zin 500 p0 ∧ zxL G o 6 p0 a69_4 fun (x5 : Int) => zaL G o 8 500 x5 fun (x6 : Int) => zin 500 p1 ∧ zxL G o 6 p1 a69_4 fun (x8 : Int) => zaL G o 8 500 x8 fun (x9 : Int) => zjn (fun (z120_0 : Int) => zlt1 (w32 (a69_4 + 1)) fun (x10 : Int) => P69 z120_0 x10) fun J120 => zbr (x6 ≠ x9) (J120 0) (J120 1)))) z65_0 0) fun J65 => zjn (fun (_ : Unit) => J65 0) fun J64 => zbr (x1 ≠ x2) (J64 ()) (zaL G o 4 500 p0 fun (x11 : Int) => zaL G o 4 500 p1 fun (x12 : Int) => zbr (x11 ≠ x12) (J64 ()) (zaL G o 5 500 p0 fun (x13 : Int) => zaL G o 5 500 p1 fun (x14 : Int) => zbr (x13 ≠ x14) (J64 ()) (zaL G o 7 500 p0 fun (x15 : Int) => zaL G o 7 500 p1 fun (x16 : Int) => zbr (x15 ≠ x16) (J64 ()) (J65 1))))
set_option maxHeartbeats 4000000 in
theorem mX4_areAlike (l : Launch) (P : ZP) (G : ZG) (o : Nat) (ho : tCls o = 4) (p0 : Int) (hp0 : inR p0) (p1 : Int) (hp1 : inR p1) {Q : Int → Prop} (hV : vX4_areAlike o p0 p1 G Q) : Met l yX4_areAlike (ws_ yX4_areAlike cX4_areAlike 5 (some .boolean)) rX4_areAlike (zPc P G [.ref (zA P o 0 0), .int (zI p0), .int (zI p1)]) (zQz P (fun r G2 => G = G2 ∧ Q r)) 0 0 (zAr P) := by
  refine zMet RX4 (plainFor_of_name (by decide)) rfl (zcs_c rfl (zcs_c rfl (zcs_c rfl zcs_0))) (Nat.le_of_ble_eq_true rfl) (fun p e s m args below meth c ls hC hr hk hn hG hL => ?_)
  unfold vX4_areAlike at hV
  refine z_aload_n hC zvr_a rfl (hL.at 0 rfl) dX4_areAlike_0 ?_
  refine z_getA hC hG kFX4_15_4 ho rfl dX4_areAlike_1 ?_
  refine z_iload_n hC rfl (hL.at 1 rfl) dX4_areAlike_4 ?_
  refine z_iald hC hG ho rfl rfl hp0 hV dX4_areAlike_5 ?_
  intro x1 hx1 hV
  refine z_aload_n hC zvr_a rfl (hL.at 0 rfl) dX4_areAlike_6 ?_
  refine z_getA hC hG kFX4_15_4 ho rfl dX4_areAlike_7 ?_
  refine z_iload_n hC rfl (hL.at 2 rfl) dX4_areAlike_10 ?_
  refine z_iald hC hG ho rfl rfl hp1 hV dX4_areAlike_11 ?_
  intro x2 hx2 hV
  obtain ⟨J65, eJ65, hV⟩ := zjn_abs hV
  have hJ65 : ∀ {H : Heap} {locs : List Loc}, zS P s G H locs → ∀ (z65_0 : Int), (z65_0 = 0 ∨ z65_0 = 1) → J65 z65_0 → ∀ (ls : Array Slot), zL ls 5 [(0, .ref (zA P o 0 0)), (1, .int (zI p0)), (2, .int (zI p1))] → W p l e rX4_areAlike s m args below meth c H locs 0 0 (MQ below (zQz P (fun r G2 => G = G2 ∧ Q r)) args s 0 0 (zAr P)) (F0 m 65 ls [.int (zI z65_0)]) := by
    intro H locs hG z65_0 hz65_0 hV ls hL
    rw [eJ65] at hV
    refine z_istore_n (lv' := [(3, .int (zI z65_0)), (0, .ref (zA P o 0 0)), (1, .int (zI p0)), (2, .int (zI p1))]) hC rfl hL (by decide) rfl dX4_areAlike_65 (fun ls hL => ?_)
    refine z_iconst hC dX4_areAlike_66 ?_
    refine z_istore (lv' := [(4, .int (zI 0)), (3, .int (zI z65_0)), (0, .ref (zA P o 0 0)), (1, .int (zI p0)), (2, .int (zI p1))]) hC hL (by decide) rfl dX4_areAlike_67 (fun ls hL => ?_)
    refine zl2_use hV (fun (a69_3 : Int) (a69_4 : Int) => (a69_3 = 0 ∨ a69_3 = 1) → inR a69_4 → ∀ (H : Heap) (locs : List Loc), zS P s G H locs → ∀ (ls : Array Slot), zL ls 5 [(0, .ref (zA P o 0 0)), (1, .int (zI p0)), (2, .int (zI p1)), (3, .int (zI a69_3)), (4, .int (zI a69_4))] → W p l e rX4_areAlike s m args below meth c H locs 0 0 (MQ below (zQz P (fun r G2 => G = G2 ∧ Q r)) args s 0 0 (zAr P)) (F0 m 69 ls [])) ?_ hz65_0 (inR_lit rfl) _ _ hG _ (hL.sub [2, 3, 4, 1, 0] rfl)
    intro P69 a69_3 a69_4 hP69 hV ha69_3 ha69_4 H locs hG ls hL
    refine z_iload hC (hL.at 4 rfl) dX4_areAlike_69 ?_
    refine z_aload_n hC zvr_a rfl (hL.at 0 rfl) dX4_areAlike_71 ?_
    refine z_getA hC hG kFX4_30_4 ho rfl dX4_areAlike_72 ?_
    refine z_iload_n hC rfl (hL.at 1 rfl) dX4_areAlike_75 ?_
    refine z_iald hC hG ho rfl rfl hp0 hV dX4_areAlike_76 ?_
    intro x3 hx3 hV
    obtain ⟨J127, eJ127, hV⟩ := zjn_abs hV
    have hJ127 : ∀ {H : Heap} {locs : List Loc}, zS P s G H locs → J127 () → ∀ (ls : Array Slot), zL ls 5 [(3, .int (zI a69_3))] → W p l e rX4_areAlike s m args below meth c H locs 0 0 (MQ below (zQz P (fun r G2 => G = G2 ∧ Q r)) args s 0 0 (zAr P)) (F0 m 127 ls []) := by
      intro H locs hG hV ls hL
      rw [eJ127] at hV
      refine z_iload_n hC rfl (hL.at 0 rfl) dX4_areAlike_127 ?_
      exact z_zret hC hG hr hk ha69_3 ⟨rfl, hV⟩ (Nat.le_of_ble_eq_true rfl) (Nat.le_of_ble_eq_true rfl) dX4_areAlike_128
    refine z_icmp_ge (tgt := 127) hC ha69_4 hx3 hV dX4_areAlike_77 (by decide) ?_ ?_
    · intro hV
      exact hJ127 hG hV _ (hL.sub [3] rfl)
    · intro hV
      refine z_iload_n hC rfl (hL.at 3 rfl) dX4_areAlike_80 ?_
      refine z_if_eq (tgt := 127) hC (inR_b ha69_3) hV dX4_areAlike_81 (by decide) ?_ ?_
      · intro hV
        exact hJ127 hG hV _ (hL.sub [3] rfl)
      · intro hV
        refine z_aload_n hC zvr_a rfl (hL.at 0 rfl) dX4_areAlike_84 ?_
        refine z_getA hC hG kFX4_33_4 ho rfl dX4_areAlike_85 ?_
        refine z_aload_n hC zvr_a rfl (hL.at 0 rfl) dX4_areAlike_88 ?_
        refine z_getA hC hG kFX4_27_4 ho rfl dX4_areAlike_89 ?_
        refine z_iload_n hC rfl (hL.at 1 rfl) dX4_areAlike_92 ?_
        refine z_row hC hG ho rfl rfl hp0 hV dX4_areAlike_93 ?_
        intro hr4 hV
        refine z_iload hC (hL.at 4 rfl) dX4_areAlike_94 ?_
        refine z_xald hC hG ho rfl hr4 ha69_4 hV dX4_areAlike_96 ?_
        intro x5 hx5 hV
        refine z_iald hC hG ho rfl rfl hx5 hV dX4_areAlike_97 ?_
        intro x6 hx6 hV
        refine z_aload_n hC zvr_a rfl (hL.at 0 rfl) dX4_areAlike_98 ?_
        refine z_getA hC hG kFX4_33_4 ho rfl dX4_areAlike_99 ?_
        refine z_aload_n hC zvr_a rfl (hL.at 0 rfl) dX4_areAlike_102 ?_
        refine z_getA hC hG kFX4_27_4 ho rfl dX4_areAlike_103 ?_
        refine z_iload_n hC rfl (hL.at 2 rfl) dX4_areAlike_106 ?_
        refine z_row hC hG ho rfl rfl hp1 hV dX4_areAlike_107 ?_
        intro hr7 hV
        refine z_iload hC (hL.at 4 rfl) dX4_areAlike_108 ?_
        refine z_xald hC hG ho rfl hr7 ha69_4 hV dX4_areAlike_110 ?_
        intro x8 hx8 hV
        refine z_iald hC hG ho rfl rfl hx8 hV dX4_areAlike_111 ?_
        intro x9 hx9 hV
        obtain ⟨J120, eJ120, hV⟩ := zjn_abs hV
        have hJ120 : ∀ {H : Heap} {locs : List Loc}, zS P s G H locs → ∀ (z120_0 : Int), (z120_0 = 0 ∨ z120_0 = 1) → J120 z120_0 → ∀ (ls : Array Slot), zL ls 5 [(0, .ref (zA P o 0 0)), (1, .int (zI p0)), (2, .int (zI p1)), (4, .int (zI a69_4))] → W p l e rX4_areAlike s m args below meth c H locs 0 0 (MQ below (zQz P (fun r G2 => G = G2 ∧ Q r)) args s 0 0 (zAr P)) (F0 m 120 ls [.int (zI z120_0)]) := by
          intro H locs hG z120_0 hz120_0 hV ls hL
          rw [eJ120] at hV
          refine z_istore_n (lv' := [(3, .int (zI z120_0)), (0, .ref (zA P o 0 0)), (1, .int (zI p0)), (2, .int (zI p1)), (4, .int (zI a69_4))]) hC rfl hL (by decide) rfl dX4_areAlike_120 (fun ls hL => ?_)
          refine z_iincV (fun x10 => [(4, .int (zI x10)), (3, .int (zI z120_0)), (0, .ref (zA P o 0 0)), (1, .int (zI p0)), (2, .int (zI p1))]) hC hL (k := 4) rfl (by decide) (fun _ => rfl) hV dX4_areAlike_121 ?_
          intro x10 hx10 hV ls hL
          refine z_goto (tgt := 69) hC dX4_areAlike_124 (by decide) ?_
          exact hP69 z120_0 x10 hV hz120_0 hx10 _ _ hG _ (hL.sub [2, 3, 4, 1, 0] rfl)
        refine z_icmp_ne (tgt := 119) hC hx6 hx9 hV dX4_areAlike_112 (by decide) ?_ ?_
        · intro hV
          refine z_iconst hC dX4_areAlike_119 ?_
          exact hJ120 hG 0 (Or.inl rfl) hV _ (hL.sub [0, 1, 2, 4] rfl)
        · intro hV
          refine z_iconst hC dX4_areAlike_115 ?_
          refine z_goto (tgt := 120) hC dX4_areAlike_116 (by decide) ?_
          exact hJ120 hG 1 (Or.inr rfl) hV _ (hL.sub [0, 1, 2, 4] rfl)
  obtain ⟨J64, eJ64, hV⟩ := zjn_abs hV
  have hJ64 : ∀ {H : Heap} {locs : List Loc}, zS P s G H locs → J64 () → ∀ (ls : Array Slot), zL ls 5 [(0, .ref (zA P o 0 0)), (1, .int (zI p0)), (2, .int (zI p1))] → W p l e rX4_areAlike s m args below meth c H locs 0 0 (MQ below (zQz P (fun r G2 => G = G2 ∧ Q r)) args s 0 0 (zAr P)) (F0 m 64 ls []) := by
    intro H locs hG hV ls hL
    rw [eJ64] at hV
    refine z_iconst hC dX4_areAlike_64 ?_
    exact hJ65 hG 0 (Or.inl rfl) hV _ hL
  refine z_icmp_ne (tgt := 64) hC hx1 hx2 hV dX4_areAlike_12 (by decide) ?_ ?_
  · intro hV
    exact hJ64 hG hV _ hL
  · intro hV
    refine z_aload_n hC zvr_a rfl (hL.at 0 rfl) dX4_areAlike_15 ?_
    refine z_getA hC hG kFX4_19_4 ho rfl dX4_areAlike_16 ?_
    refine z_iload_n hC rfl (hL.at 1 rfl) dX4_areAlike_19 ?_
    refine z_iald hC hG ho rfl rfl hp0 hV dX4_areAlike_20 ?_
    intro x11 hx11 hV
    refine z_aload_n hC zvr_a rfl (hL.at 0 rfl) dX4_areAlike_21 ?_
    refine z_getA hC hG kFX4_19_4 ho rfl dX4_areAlike_22 ?_
    refine z_iload_n hC rfl (hL.at 2 rfl) dX4_areAlike_25 ?_
    refine z_iald hC hG ho rfl rfl hp1 hV dX4_areAlike_26 ?_
    intro x12 hx12 hV
    refine z_icmp_ne (tgt := 64) hC hx11 hx12 hV dX4_areAlike_27 (by decide) ?_ ?_
    · intro hV
      exact hJ64 hG hV _ hL
    · intro hV
      refine z_aload_n hC zvr_a rfl (hL.at 0 rfl) dX4_areAlike_30 ?_
      refine z_getA hC hG kFX4_22_4 ho rfl dX4_areAlike_31 ?_
      refine z_iload_n hC rfl (hL.at 1 rfl) dX4_areAlike_34 ?_
      refine z_iald hC hG ho rfl rfl hp0 hV dX4_areAlike_35 ?_
      intro x13 hx13 hV
      refine z_aload_n hC zvr_a rfl (hL.at 0 rfl) dX4_areAlike_36 ?_
      refine z_getA hC hG kFX4_22_4 ho rfl dX4_areAlike_37 ?_
      refine z_iload_n hC rfl (hL.at 2 rfl) dX4_areAlike_40 ?_
      refine z_iald hC hG ho rfl rfl hp1 hV dX4_areAlike_41 ?_
      intro x14 hx14 hV
      refine z_icmp_ne (tgt := 64) hC hx13 hx14 hV dX4_areAlike_42 (by decide) ?_ ?_
      · intro hV
        exact hJ64 hG hV _ hL
      · intro hV
        refine z_aload_n hC zvr_a rfl (hL.at 0 rfl) dX4_areAlike_45 ?_
        refine z_getA hC hG kFX4_30_4 ho rfl dX4_areAlike_46 ?_
        refine z_iload_n hC rfl (hL.at 1 rfl) dX4_areAlike_49 ?_
        refine z_iald hC hG ho rfl rfl hp0 hV dX4_areAlike_50 ?_
        intro x15 hx15 hV
        refine z_aload_n hC zvr_a rfl (hL.at 0 rfl) dX4_areAlike_51 ?_
        refine z_getA hC hG kFX4_30_4 ho rfl dX4_areAlike_52 ?_
        refine z_iload_n hC rfl (hL.at 2 rfl) dX4_areAlike_55 ?_
        refine z_iald hC hG ho rfl rfl hp1 hV dX4_areAlike_56 ?_
        intro x16 hx16 hV
        refine z_icmp_ne (tgt := 64) hC hx15 hx16 hV dX4_areAlike_57 (by decide) ?_ ?_
        · intro hV
          exact hJ64 hG hV _ hL
        · intro hV
          refine z_iconst hC dX4_areAlike_60 ?_
          refine z_goto (tgt := 65) hC dX4_areAlike_61 (by decide) ?_
          exact hJ65 hG 1 (Or.inr rfl) hV _ hL
abbrev rX4_shared : Room := { frames := 2, cells := 0, slots := 0, locals := 36 }
def vX4_shared (o : Nat) (G : ZG) (Q : Int → ZG → Prop) : Prop := zgF G o 9 fun (x1 : Int) => zlt1 (w32 (x1 - 1)) fun (x2 : Int) => zl3 (fun (P9 : Int → Int → ZG → Prop) (a9_1 : Int) (a9_2 : Int) (K9 : ZG) => zbr (a9_2 < 0) (Q a9_1 K9) (zaS K9 o 8 500 a9_2 a9_2 fun (G1 : ZG) => vX4_isNeedless o a9_2 G1 fun (x3 : Int) => zjn (fun (y126_1 : Int) (H126 : ZG) => zlt1 (w32 (a9_2 + (-1))) fun (x4 : Int) => P9 y126_1 x4 H126) fun J126 => zbr (x3 = 0) (zgF G1 o 9 fun (x5 : Int) => zlt1 (w32 (x5 - 1)) fun (x6 : Int) => zl2 (fun (P57 : Int → ZG → Prop) (a57_3 : Int) (K57 : ZG) => zjn (fun (_ : Unit) => zaL K57 o 8 500 a9_2 fun (x7 : Int) => zjn (fun (z124_1 : Int) => zlt1 (w32 (a9_1 + z124_1)) fun (x8 : Int) => J126 x8 K57) fun J124 => zbr (x7 ≠ a9_2) (J124 0) (J124 1)) fun J108 => zbr (a57_3 ≤ a9_2) (J108 ()) (zaL K57 o 8 500 a9_2 fun (x9 : Int) => zbr (x9 ≠ a9_2) (J108 ()) (zaL K57 o 8 500 a57_3 fun (x10 : Int) => zjn (fun (z101_2 : Int) => zaS K57 o 8 500 a9_2 z101_2 fun (G2 : ZG) => zlt1 (w32 (a57_3 + (-1))) fun (x11 : Int) => P57 x11 G2) fun J101 => zjn (fun (_ : Unit) => J101 a9_2) fun J100 => zbr (x10 ≠ a57_3) (J100 ()) (vX4_areAlike o a9_2 a57_3 K57 fun (x12 : Int) => zbr (x12 = 0) (J100 ()) (J101 a57_3))))) x6 G1) (zin 500 a9_2 ∧ zxL G1 o 6 a9_2 0 fun (x14 : Int) => zaL G1 o 8 500 x14 fun (x15 : Int) => zaS G1 o 8 500 a9_2 x15 fun (G3 : ZG) => J126 a9_1 G3))) 0 x2 G
set_option maxHeartbeats 4000000 in
theorem mX4_shared (l : Launch) (P : ZP) (G : ZG) (o : Nat) (ho : tCls o = 4) {Q : Int → ZG → Prop} (hV : vX4_shared o G Q) : Met l yX4_shared (ws_ yX4_shared cX4_shared 4 (some .int)) rX4_shared (zPc P G [.ref (zA P o 0 0)]) (zQi P Q) 0 0 (zAr P) := by
  refine zMet RX4 (plainFor_of_name (by decide)) rfl (zcs_c rfl zcs_0) (Nat.le_of_ble_eq_true rfl) (fun p e s m args below meth c ls hC hr hk hn hG hL => ?_)
  unfold vX4_shared at hV
  refine z_iconst hC dX4_shared_0 ?_
  refine z_istore_n (lv' := [(1, .int (zI 0)), (0, .ref (zA P o 0 0))]) hC rfl hL (by decide) rfl dX4_shared_1 (fun ls hL => ?_)
  refine z_aload_n hC zvr_a rfl (hL.at 1 rfl) dX4_shared_2 ?_
  refine z_getF hC hG kFX4_82_4 ho rfl hV dX4_shared_3 ?_
  intro x1 hx1 hV
  refine z_iconst hC dX4_shared_6 ?_
  refine z_isub hC dX4_shared_7 ?_
  refine z_top hV (inR_w _) ?_
  intro x2 hx2 hV
  refine z_istore_n (lv' := [(2, .int (zI x2)), (1, .int (zI 0)), (0, .ref (zA P o 0 0))]) hC rfl hL (by decide) rfl dX4_shared_8 (fun ls hL => ?_)
  refine zl3_use hV (fun (a9_1 : Int) (a9_2 : Int) (K9 : ZG) => inR a9_1 → inR a9_2 → ∀ (H : Heap) (locs : List Loc), zS P s K9 H locs → ∀ (ls : Array Slot), zL ls 4 [(0, .ref (zA P o 0 0)), (1, .int (zI a9_1)), (2, .int (zI a9_2))] → W p l e rX4_shared s m args below meth c H locs 0 0 (MQ below (zQi P Q) args s 0 0 (zAr P)) (F0 m 9 ls [])) ?_ (inR_lit rfl) hx2 _ _ hG _ (hL.sub [2, 1, 0] rfl)
  intro P9 a9_1 a9_2 K9 hP9 hV ha9_1 ha9_2 H locs hG ls hL
  refine z_iload_n hC rfl (hL.at 2 rfl) dX4_shared_9 ?_
  refine z_if_lt (tgt := 132) hC ha9_2 hV dX4_shared_10 (by decide) ?_ ?_
  · intro hV
    refine z_iload_n hC rfl (hL.at 1 rfl) dX4_shared_132 ?_
    exact z_iret hC hG hr hk ha9_1 hV (Nat.le_of_ble_eq_true rfl) (Nat.le_of_ble_eq_true rfl) dX4_shared_133
  · intro hV
    refine z_aload_n hC zvr_a rfl (hL.at 0 rfl) dX4_shared_13 ?_
    refine z_getA hC hG kFX4_33_4 ho rfl dX4_shared_14 ?_
    refine z_iload_n hC rfl (hL.at 2 rfl) dX4_shared_17 ?_
    refine z_iload_n hC rfl (hL.at 2 rfl) dX4_shared_18 ?_
    refine z_iast hC hG ho (Nat.le_of_ble_eq_true rfl) (Nat.le_of_ble_eq_true rfl) rfl rfl rfl ha9_2 ha9_2 hV dX4_shared_19 ?_
    intro G1 _ _ hG hV
    refine z_aload_n hC zvr_a rfl (hL.at 0 rfl) dX4_shared_20 ?_
    refine z_iload_n hC rfl (hL.at 2 rfl) dX4_shared_21 ?_
    refine z_call_z hG (zrunV (ci := 4) hC hG (Nat.le_of_ble_eq_true rfl) (Nat.le_of_ble_eq_true rfl) (zobj hG ho (Nat.le_of_ble_eq_true rfl) (Nat.le_of_ble_eq_true rfl)) (mX4_isNeedless l P G1 o ho a9_2 ha9_2 hV) kVX4_229 rfl rfl rfl ⟨(Nat.le_of_ble_eq_true rfl), (Nat.le_of_ble_eq_true rfl)⟩ ⟨(Nat.le_of_ble_eq_true rfl), (Nat.le_of_ble_eq_true rfl)⟩ rfl ⟨zcs_0, (Nat.le_of_ble_eq_true rfl)⟩ hL.1.1 dX4_shared_22) ?_
    rintro x3 _ _ _ hx3 ⟨rfl, hV⟩ hG
    obtain ⟨J126, eJ126, hV⟩ := zjn_abs hV
    have hJ126 : ∀ (y126_1 : Int) (H126 : ZG), inR y126_1 → J126 y126_1 H126 → ∀ (H : Heap) (locs : List Loc) (ls : Array Slot), zS P s H126 H locs → zL ls 4 [(0, .ref (zA P o 0 0)), (1, .int (zI y126_1)), (2, .int (zI a9_2))] → W p l e rX4_shared s m args below meth c H locs 0 0 (MQ below (zQi P Q) args s 0 0 (zAr P)) (F0 m 126 ls []) := by
      intro y126_1 H126 hy126_1 hV H locs ls hG hL
      rw [eJ126] at hV
      refine z_iincV (fun x4 => [(2, .int (zI x4)), (0, .ref (zA P o 0 0)), (1, .int (zI y126_1))]) hC hL (k := 2) rfl (by decide) (fun _ => rfl) hV dX4_shared_126 ?_
      intro x4 hx4 hV ls hL
      refine z_goto (tgt := 9) hC dX4_shared_129 (by decide) ?_
      exact hP9 y126_1 x4 H126 hV hy126_1 hx4 _ _ hG _ (hL.sub [1, 2, 0] rfl)
    refine z_if_eq (tgt := 50) hC (inR_b hx3) hV dX4_shared_25 (by decide) ?_ ?_
    · intro hV
      refine z_aload_n hC zvr_a rfl (hL.at 0 rfl) dX4_shared_50 ?_
      refine z_getF hC hG kFX4_82_4 ho rfl hV dX4_shared_51 ?_
      intro x5 hx5 hV
      refine z_iconst hC dX4_shared_54 ?_
      refine z_isub hC dX4_shared_55 ?_
      refine z_top hV (inR_w _) ?_
      intro x6 hx6 hV
      refine z_istore_n (lv' := [(3, .int (zI x6)), (0, .ref (zA P o 0 0)), (1, .int (zI a9_1)), (2, .int (zI a9_2))]) hC rfl hL (by decide) rfl dX4_shared_56 (fun ls hL => ?_)
      refine zl2_use hV (fun (a57_3 : Int) (K57 : ZG) => inR a57_3 → ∀ (H : Heap) (locs : List Loc), zS P s K57 H locs → ∀ (ls : Array Slot), zL ls 4 [(0, .ref (zA P o 0 0)), (1, .int (zI a9_1)), (2, .int (zI a9_2)), (3, .int (zI a57_3))] → W p l e rX4_shared s m args below meth c H locs 0 0 (MQ below (zQi P Q) args s 0 0 (zAr P)) (F0 m 57 ls [])) ?_ hx6 _ _ hG _ (hL.sub [1, 2, 3, 0] rfl)
      intro P57 a57_3 K57 hP57 hV ha57_3 H locs hG ls hL
      refine z_iload_n hC rfl (hL.at 3 rfl) dX4_shared_57 ?_
      refine z_iload_n hC rfl (hL.at 2 rfl) dX4_shared_58 ?_
      obtain ⟨J108, eJ108, hV⟩ := zjn_abs hV
      have hJ108 : ∀ {H : Heap} {locs : List Loc}, zS P s K57 H locs → J108 () → ∀ (ls : Array Slot), zL ls 4 [(0, .ref (zA P o 0 0)), (1, .int (zI a9_1)), (2, .int (zI a9_2))] → W p l e rX4_shared s m args below meth c H locs 0 0 (MQ below (zQi P Q) args s 0 0 (zAr P)) (F0 m 108 ls []) := by
        intro H locs hG hV ls hL
        rw [eJ108] at hV
        refine z_iload_n hC rfl (hL.at 1 rfl) dX4_shared_108 ?_
        refine z_aload_n hC zvr_a rfl (hL.at 0 rfl) dX4_shared_109 ?_
        refine z_getA hC hG kFX4_33_4 ho rfl dX4_shared_110 ?_
        refine z_iload_n hC rfl (hL.at 2 rfl) dX4_shared_113 ?_
        refine z_iald hC hG ho rfl rfl ha9_2 hV dX4_shared_114 ?_
        intro x7 hx7 hV
        refine z_iload_n hC rfl (hL.at 2 rfl) dX4_shared_115 ?_
        obtain ⟨J124, eJ124, hV⟩ := zjn_abs hV
        have hJ124 : ∀ {H : Heap} {locs : List Loc}, zS P s K57 H locs → ∀ (z124_1 : Int), (z124_1 = 0 ∨ z124_1 = 1) → J124 z124_1 → ∀ (ls : Array Slot), zL ls 4 [(0, .ref (zA P o 0 0)), (2, .int (zI a9_2))] → W p l e rX4_shared s m args below meth c H locs 0 0 (MQ below (zQi P Q) args s 0 0 (zAr P)) (F0 m 124 ls [.int (zI z124_1), .int (zI a9_1)]) := by
          intro H locs hG z124_1 hz124_1 hV ls hL
          rw [eJ124] at hV
          refine z_iadd hC dX4_shared_124 ?_
          refine z_top hV (inR_w _) ?_
          intro x8 hx8 hV
          refine z_istore_n (lv' := [(1, .int (zI x8)), (0, .ref (zA P o 0 0)), (2, .int (zI a9_2))]) hC rfl hL (by decide) rfl dX4_shared_125 (fun ls hL => ?_)
          exact hJ126 x8 K57 hx8 hV _ _ _ hG (hL.sub [1, 0, 2] rfl)
        refine z_icmp_ne (tgt := 123) hC hx7 ha9_2 hV dX4_shared_116 (by decide) ?_ ?_
        · intro hV
          refine z_iconst hC dX4_shared_123 ?_
          exact hJ124 hG 0 (Or.inl rfl) hV _ (hL.sub [0, 2] rfl)
        · intro hV
          refine z_iconst hC dX4_shared_119 ?_
          refine z_goto (tgt := 124) hC dX4_shared_120 (by decide) ?_
          exact hJ124 hG 1 (Or.inr rfl) hV _ (hL.sub [0, 2] rfl)
      refine z_icmp_le (tgt := 108) hC ha57_3 ha9_2 hV dX4_shared_59 (by decide) ?_ ?_
      · intro hV
        exact hJ108 hG hV _ (hL.sub [0, 1, 2] rfl)
      · intro hV
        refine z_aload_n hC zvr_a rfl (hL.at 0 rfl) dX4_shared_62 ?_
        refine z_getA hC hG kFX4_33_4 ho rfl dX4_shared_63 ?_
        refine z_iload_n hC rfl (hL.at 2 rfl) dX4_shared_66 ?_
        refine z_iald hC hG ho rfl rfl ha9_2 hV dX4_shared_67 ?_
        intro x9 hx9 hV
        refine z_iload_n hC rfl (hL.at 2 rfl) dX4_shared_68 ?_
        refine z_icmp_ne (tgt := 108) hC hx9 ha9_2 hV dX4_shared_69 (by decide) ?_ ?_
        · intro hV
          exact hJ108 hG hV _ (hL.sub [0, 1, 2] rfl)
        · intro hV
          refine z_aload_n hC zvr_a rfl (hL.at 0 rfl) dX4_shared_72 ?_
          refine z_getA hC hG kFX4_33_4 ho rfl dX4_shared_73 ?_
          refine z_iload_n hC rfl (hL.at 2 rfl) dX4_shared_76 ?_
          refine z_aload_n hC zvr_a rfl (hL.at 0 rfl) dX4_shared_77 ?_
          refine z_getA hC hG kFX4_33_4 ho rfl dX4_shared_78 ?_
          refine z_iload_n hC rfl (hL.at 3 rfl) dX4_shared_81 ?_
          refine z_iald hC hG ho rfl rfl ha57_3 hV dX4_shared_82 ?_
          intro x10 hx10 hV
          refine z_iload_n hC rfl (hL.at 3 rfl) dX4_shared_83 ?_
          obtain ⟨J101, eJ101, hV⟩ := zjn_abs hV
          have hJ101 : ∀ {H : Heap} {locs : List Loc}, zS P s K57 H locs → ∀ (z101_2 : Int), inR z101_2 → J101 z101_2 → ∀ (ls : Array Slot), zL ls 4 [(0, .ref (zA P o 0 0)), (1, .int (zI a9_1)), (2, .int (zI a9_2)), (3, .int (zI a57_3))] → W p l e rX4_shared s m args below meth c H locs 0 0 (MQ below (zQi P Q) args s 0 0 (zAr P)) (F0 m 101 ls [.int (zI z101_2), .int (zI a9_2), .ref (zA P o 9 0)]) := by
            intro H locs hG z101_2 hz101_2 hV ls hL
            rw [eJ101] at hV
            refine z_iast hC hG ho (Nat.le_of_ble_eq_true rfl) (Nat.le_of_ble_eq_true rfl) rfl rfl rfl ha9_2 hz101_2 hV dX4_shared_101 ?_
            intro G2 _ _ hG hV
            refine z_iincV (fun x11 => [(3, .int (zI x11)), (0, .ref (zA P o 0 0)), (1, .int (zI a9_1)), (2, .int (zI a9_2))]) hC hL (k := 3) rfl (by decide) (fun _ => rfl) hV dX4_shared_102 ?_
            intro x11 hx11 hV ls hL
            refine z_goto (tgt := 57) hC dX4_shared_105 (by decide) ?_
            exact hP57 x11 G2 hV hx11 _ _ hG _ (hL.sub [1, 2, 3, 0] rfl)
          obtain ⟨J100, eJ100, hV⟩ := zjn_abs hV
          have hJ100 : ∀ {H : Heap} {locs : List Loc}, zS P s K57 H locs → J100 () → ∀ (ls : Array Slot), zL ls 4 [(0, .ref (zA P o 0 0)), (1, .int (zI a9_1)), (2, .int (zI a9_2)), (3, .int (zI a57_3))] → W p l e rX4_shared s m args below meth c H locs 0 0 (MQ below (zQi P Q) args s 0 0 (zAr P)) (F0 m 100 ls [.int (zI a9_2), .ref (zA P o 9 0)]) := by
            intro H locs hG hV ls hL
            rw [eJ100] at hV
            refine z_iload_n hC rfl (hL.at 2 rfl) dX4_shared_100 ?_
            exact hJ101 hG a9_2 ha9_2 hV _ hL
          refine z_icmp_ne (tgt := 100) hC hx10 ha57_3 hV dX4_shared_84 (by decide) ?_ ?_
          · intro hV
            exact hJ100 hG hV _ hL
          · intro hV
            refine z_aload_n hC zvr_a rfl (hL.at 0 rfl) dX4_shared_87 ?_
            refine z_iload_n hC rfl (hL.at 2 rfl) dX4_shared_88 ?_
            refine z_iload_n hC rfl (hL.at 3 rfl) dX4_shared_89 ?_
            refine z_call_z hG (zrunV (ci := 4) hC hG (Nat.le_of_ble_eq_true rfl) (Nat.le_of_ble_eq_true rfl) (zobj hG ho (Nat.le_of_ble_eq_true rfl) (Nat.le_of_ble_eq_true rfl)) (mX4_areAlike l P K57 o ho a9_2 ha9_2 a57_3 ha57_3 hV) kVX4_232 rfl rfl rfl ⟨(Nat.le_of_ble_eq_true rfl), (Nat.le_of_ble_eq_true rfl)⟩ ⟨(Nat.le_of_ble_eq_true rfl), (Nat.le_of_ble_eq_true rfl)⟩ rfl ⟨(zcs_c rfl (zcs_c rfl zcs_0)), (Nat.le_of_ble_eq_true rfl)⟩ hL.1.1 dX4_shared_90) ?_
            rintro x12 _ _ _ hx12 ⟨rfl, hV⟩ hG
            refine z_if_eq (tgt := 100) hC (inR_b hx12) hV dX4_shared_93 (by decide) ?_ ?_
            · intro hV
              exact hJ100 hG hV _ hL
            · intro hV
              refine z_iload_n hC rfl (hL.at 3 rfl) dX4_shared_96 ?_
              refine z_goto (tgt := 101) hC dX4_shared_97 (by decide) ?_
              exact hJ101 hG a57_3 ha57_3 hV _ hL
    · intro hV
      refine z_aload_n hC zvr_a rfl (hL.at 0 rfl) dX4_shared_28 ?_
      refine z_getA hC hG kFX4_33_4 ho rfl dX4_shared_29 ?_
      refine z_iload_n hC rfl (hL.at 2 rfl) dX4_shared_32 ?_
      refine z_aload_n hC zvr_a rfl (hL.at 0 rfl) dX4_shared_33 ?_
      refine z_getA hC hG kFX4_33_4 ho rfl dX4_shared_34 ?_
      refine z_aload_n hC zvr_a rfl (hL.at 0 rfl) dX4_shared_37 ?_
      refine z_getA hC hG kFX4_27_4 ho rfl dX4_shared_38 ?_
      refine z_iload_n hC rfl (hL.at 2 rfl) dX4_shared_41 ?_
      refine z_row hC hG ho rfl rfl ha9_2 hV dX4_shared_42 ?_
      intro hr13 hV
      refine z_iconst hC dX4_shared_43 ?_
      refine z_xald hC hG ho rfl hr13 (inR_lit rfl) hV dX4_shared_44 ?_
      intro x14 hx14 hV
      refine z_iald hC hG ho rfl rfl hx14 hV dX4_shared_45 ?_
      intro x15 hx15 hV
      refine z_iast hC hG ho (Nat.le_of_ble_eq_true rfl) (Nat.le_of_ble_eq_true rfl) rfl rfl rfl ha9_2 hx15 hV dX4_shared_46 ?_
      intro G3 _ _ hG hV
      refine z_goto (tgt := 126) hC dX4_shared_47 (by decide) ?_
      exact hJ126 a9_1 G3 ha9_1 hV _ _ _ hG hL
abbrev rX4_manyOfKind : Room := { frames := 1, cells := 0, slots := 0, locals := 12 }
def vX4_manyOfKind (o : Nat) (p0 : Int) (G : ZG) (Q : Int → Prop) : Prop := zl2 (fun (P4 : Int → Int → Prop) (a4_2 : Int) (a4_3 : Int) => zgF G o 9 fun (x1 : Int) => zbr (x1 ≤ a4_3) (Q a4_2) (zaL G o 3 500 a4_3 fun (x2 : Int) => zjn (fun (z28_1 : Int) => zlt1 (w32 (a4_2 + z28_1)) fun (x3 : Int) => zlt1 (w32 (a4_3 + 1)) fun (x4 : Int) => P4 x3 x4) fun J28 => zbr (x2 ≠ p0) (J28 0) (J28 1))) 0 0
set_option maxHeartbeats 4000000 in
theorem mX4_manyOfKind (l : Launch) (P : ZP) (G : ZG) (o : Nat) (ho : tCls o = 4) (p0 : Int) (hp0 : inR p0) {Q : Int → Prop} (hV : vX4_manyOfKind o p0 G Q) : Met l yX4_manyOfKind (ws_ yX4_manyOfKind cX4_manyOfKind 4 (some .int)) rX4_manyOfKind (zPc P G [.ref (zA P o 0 0), .int (zI p0)]) (zQi P (fun r G2 => G = G2 ∧ Q r)) 0 0 (zAr P) := by
  refine zMet RX4 (plainFor_of_name (by decide)) rfl (zcs_c rfl (zcs_c rfl zcs_0)) (Nat.le_of_ble_eq_true rfl) (fun p e s m args below meth c ls hC hr hk hn hG hL => ?_)
  unfold vX4_manyOfKind at hV
  refine z_iconst hC dX4_manyOfKind_0 ?_
  refine z_istore_n (lv' := [(2, .int (zI 0)), (0, .ref (zA P o 0 0)), (1, .int (zI p0))]) hC rfl hL (by decide) rfl dX4_manyOfKind_1 (fun ls hL => ?_)
  refine z_iconst hC dX4_manyOfKind_2 ?_
  refine z_istore_n (lv' := [(3, .int (zI 0)), (2, .int (zI 0)), (0, .ref (zA P o 0 0)), (1, .int (zI p0))]) hC rfl hL (by decide) rfl dX4_manyOfKind_3 (fun ls hL => ?_)
  refine zl2_use hV (fun (a4_2 : Int) (a4_3 : Int) => inR a4_2 → inR a4_3 → ∀ (H : Heap) (locs : List Loc), zS P s G H locs → ∀ (ls : Array Slot), zL ls 4 [(0, .ref (zA P o 0 0)), (1, .int (zI p0)), (2, .int (zI a4_2)), (3, .int (zI a4_3))] → W p l e rX4_manyOfKind s m args below meth c H locs 0 0 (MQ below (zQi P (fun r G2 => G = G2 ∧ Q r)) args s 0 0 (zAr P)) (F0 m 4 ls [])) ?_ (inR_lit rfl) (inR_lit rfl) _ _ hG _ (hL.sub [2, 3, 1, 0] rfl)
  intro P4 a4_2 a4_3 hP4 hV ha4_2 ha4_3 H locs hG ls hL
  refine z_iload_n hC rfl (hL.at 3 rfl) dX4_manyOfKind_4 ?_
  refine z_aload_n hC zvr_a rfl (hL.at 0 rfl) dX4_manyOfKind_5 ?_
  refine z_getF hC hG kFX4_82_4 ho rfl hV dX4_manyOfKind_6 ?_
  intro x1 hx1 hV
  refine z_icmp_ge (tgt := 36) hC ha4_3 hx1 hV dX4_manyOfKind_9 (by decide) ?_ ?_
  · intro hV
    refine z_iload_n hC rfl (hL.at 2 rfl) dX4_manyOfKind_36 ?_
    exact z_iret hC hG hr hk ha4_2 ⟨rfl, hV⟩ (Nat.le_of_ble_eq_true rfl) (Nat.le_of_ble_eq_true rfl) dX4_manyOfKind_37
  · intro hV
    refine z_iload_n hC rfl (hL.at 2 rfl) dX4_manyOfKind_12 ?_
    refine z_aload_n hC zvr_a rfl (hL.at 0 rfl) dX4_manyOfKind_13 ?_
    refine z_getA hC hG kFX4_15_4 ho rfl dX4_manyOfKind_14 ?_
    refine z_iload_n hC rfl (hL.at 3 rfl) dX4_manyOfKind_17 ?_
    refine z_iald hC hG ho rfl rfl ha4_3 hV dX4_manyOfKind_18 ?_
    intro x2 hx2 hV
    refine z_iload_n hC rfl (hL.at 1 rfl) dX4_manyOfKind_19 ?_
    obtain ⟨J28, eJ28, hV⟩ := zjn_abs hV
    have hJ28 : ∀ {H : Heap} {locs : List Loc}, zS P s G H locs → ∀ (z28_1 : Int), (z28_1 = 0 ∨ z28_1 = 1) → J28 z28_1 → ∀ (ls : Array Slot), zL ls 4 [(0, .ref (zA P o 0 0)), (1, .int (zI p0)), (3, .int (zI a4_3))] → W p l e rX4_manyOfKind s m args below meth c H locs 0 0 (MQ below (zQi P (fun r G2 => G = G2 ∧ Q r)) args s 0 0 (zAr P)) (F0 m 28 ls [.int (zI z28_1), .int (zI a4_2)]) := by
      intro H locs hG z28_1 hz28_1 hV ls hL
      rw [eJ28] at hV
      refine z_iadd hC dX4_manyOfKind_28 ?_
      refine z_top hV (inR_w _) ?_
      intro x3 hx3 hV
      refine z_istore_n (lv' := [(2, .int (zI x3)), (0, .ref (zA P o 0 0)), (1, .int (zI p0)), (3, .int (zI a4_3))]) hC rfl hL (by decide) rfl dX4_manyOfKind_29 (fun ls hL => ?_)
      refine z_iincV (fun x4 => [(3, .int (zI x4)), (2, .int (zI x3)), (0, .ref (zA P o 0 0)), (1, .int (zI p0))]) hC hL (k := 3) rfl (by decide) (fun _ => rfl) hV dX4_manyOfKind_30 ?_
      intro x4 hx4 hV ls hL
      refine z_goto (tgt := 4) hC dX4_manyOfKind_33 (by decide) ?_
      exact hP4 x3 x4 hV hx3 hx4 _ _ hG _ (hL.sub [2, 3, 1, 0] rfl)
    refine z_icmp_ne (tgt := 27) hC hx2 hp0 hV dX4_manyOfKind_20 (by decide) ?_ ?_
    · intro hV
      refine z_iconst hC dX4_manyOfKind_27 ?_
      exact hJ28 hG 0 (Or.inl rfl) hV _ (hL.sub [0, 1, 3] rfl)
    · intro hV
      refine z_iconst hC dX4_manyOfKind_23 ?_
      refine z_goto (tgt := 28) hC dX4_manyOfKind_24 (by decide) ?_
      exact hJ28 hG 1 (Or.inr rfl) hV _ (hL.sub [0, 1, 3] rfl)
abbrev rX4_wayTo : Room := { frames := 1, cells := 0, slots := 0, locals := 12 }
def vX4_wayTo (o : Nat) (p0 : Int) (p1 : Int) (G : ZG) (Q : Int → Prop) : Prop := zl1 (fun (P2 : Int → Prop) (a2_3 : Int) => zaL G o 7 500 p0 fun (x1 : Int) => zbr (x1 ≤ a2_3) (Q (-1)) (zin 500 p0 ∧ zxL G o 6 p0 a2_3 fun (x3 : Int) => zbr (x3 ≠ p1) (zlt1 (w32 (a2_3 + 1)) fun (x4 : Int) => P2 x4) (Q a2_3))) 0
set_option maxHeartbeats 4000000 in
theorem mX4_wayTo (l : Launch) (P : ZP) (G : ZG) (o : Nat) (ho : tCls o = 4) (p0 : Int) (hp0 : inR p0) (p1 : Int) (hp1 : inR p1) {Q : Int → Prop} (hV : vX4_wayTo o p0 p1 G Q) : Met l yX4_wayTo (ws_ yX4_wayTo cX4_wayTo 4 (some .int)) rX4_wayTo (zPc P G [.ref (zA P o 0 0), .int (zI p0), .int (zI p1)]) (zQi P (fun r G2 => G = G2 ∧ Q r)) 0 0 (zAr P) := by
  refine zMet RX4 (plainFor_of_name (by decide)) rfl (zcs_c rfl (zcs_c rfl (zcs_c rfl zcs_0))) (Nat.le_of_ble_eq_true rfl) (fun p e s m args below meth c ls hC hr hk hn hG hL => ?_)
  unfold vX4_wayTo at hV
  refine z_iconst hC dX4_wayTo_0 ?_
  refine z_istore_n (lv' := [(3, .int (zI 0)), (0, .ref (zA P o 0 0)), (1, .int (zI p0)), (2, .int (zI p1))]) hC rfl hL (by decide) rfl dX4_wayTo_1 (fun ls hL => ?_)
  refine zl1_use hV (fun (a2_3 : Int) => inR a2_3 → ∀ (H : Heap) (locs : List Loc), zS P s G H locs → ∀ (ls : Array Slot), zL ls 4 [(0, .ref (zA P o 0 0)), (1, .int (zI p0)), (2, .int (zI p1)), (3, .int (zI a2_3))] → W p l e rX4_wayTo s m args below meth c H locs 0 0 (MQ below (zQi P (fun r G2 => G = G2 ∧ Q r)) args s 0 0 (zAr P)) (F0 m 2 ls [])) ?_ (inR_lit rfl) _ _ hG _ (hL.sub [1, 2, 3, 0] rfl)
  intro P2 a2_3 hP2 hV ha2_3 H locs hG ls hL
  refine z_iload_n hC rfl (hL.at 3 rfl) dX4_wayTo_2 ?_
  refine z_aload_n hC zvr_a rfl (hL.at 0 rfl) dX4_wayTo_3 ?_
  refine z_getA hC hG kFX4_30_4 ho rfl dX4_wayTo_4 ?_
  refine z_iload_n hC rfl (hL.at 1 rfl) dX4_wayTo_7 ?_
  refine z_iald hC hG ho rfl rfl hp0 hV dX4_wayTo_8 ?_
  intro x1 hx1 hV
  refine z_icmp_ge (tgt := 32) hC ha2_3 hx1 hV dX4_wayTo_9 (by decide) ?_ ?_
  · intro hV
    refine z_iconst hC dX4_wayTo_32 ?_
    exact z_iret hC hG hr hk (inR_lit rfl) ⟨rfl, hV⟩ (Nat.le_of_ble_eq_true rfl) (Nat.le_of_ble_eq_true rfl) dX4_wayTo_33
  · intro hV
    refine z_aload_n hC zvr_a rfl (hL.at 0 rfl) dX4_wayTo_12 ?_
    refine z_getA hC hG kFX4_27_4 ho rfl dX4_wayTo_13 ?_
    refine z_iload_n hC rfl (hL.at 1 rfl) dX4_wayTo_16 ?_
    refine z_row hC hG ho rfl rfl hp0 hV dX4_wayTo_17 ?_
    intro hr2 hV
    refine z_iload_n hC rfl (hL.at 3 rfl) dX4_wayTo_18 ?_
    refine z_xald hC hG ho rfl hr2 ha2_3 hV dX4_wayTo_19 ?_
    intro x3 hx3 hV
    refine z_iload_n hC rfl (hL.at 2 rfl) dX4_wayTo_20 ?_
    refine z_icmp_ne (tgt := 26) hC hx3 hp1 hV dX4_wayTo_21 (by decide) ?_ ?_
    · intro hV
      refine z_iincV (fun x4 => [(3, .int (zI x4)), (0, .ref (zA P o 0 0)), (1, .int (zI p0)), (2, .int (zI p1))]) hC hL (k := 3) rfl (by decide) (fun _ => rfl) hV dX4_wayTo_26 ?_
      intro x4 hx4 hV ls hL
      refine z_goto (tgt := 2) hC dX4_wayTo_29 (by decide) ?_
      exact hP2 x4 hV hx4 _ _ hG _ (hL.sub [1, 2, 3, 0] rfl)
    · intro hV
      refine z_iload_n hC rfl (hL.at 3 rfl) dX4_wayTo_24 ?_
      exact z_iret hC hG hr hk ha2_3 ⟨rfl, hV⟩ (Nat.le_of_ble_eq_true rfl) (Nat.le_of_ble_eq_true rfl) dX4_wayTo_25
abbrev rX4_example : Room := { frames := 2, cells := 0, slots := 0, locals := 35 }
def vX4_example (o : Nat) (p0 : Int) (G : ZG) (Q : Int → Prop) : Prop := zl1 (fun (P2 : Int → Prop) (a2_2 : Int) => zaL G o 3 500 a2_2 fun (x1 : Int) => zbr (x1 = 5) (zl2 (fun (P24 : Int → Int → Prop) (a24_3 : Int) (a24_4 : Int) => zbr (a24_4 ≤ 0) (Q a24_3) (zlt1 (w32 (a24_4 - 1)) fun (x2 : Int) => vX4_wayTo o x2 a24_4 G fun (x3 : Int) => zl2 (fun (P45 : Int → Int → Prop) (a45_5 : Int) (a45_6 : Int) => zbr (a45_6 ≠ (-1)) (zaL G o 3 500 a45_5 fun (x4 : Int) => zjn (fun (z94_0 : Int) => P24 z94_0 a45_5) fun J94 => zjn (fun (_ : Unit) => J94 a24_3) fun J93 => zbr (x4 ≠ 0) (J93 ()) (zaL G o 4 500 a45_5 fun (x5 : Int) => zbr (x5 ≠ p0) (J93 ()) (J94 a45_6))) (zlt1 (w32 (a45_5 + (-1))) fun (x6 : Int) => vX4_wayTo o x6 a24_4 G fun (x7 : Int) => P45 x6 x7)) x2 x3)) (-4) a2_2) (zlt1 (w32 (a2_2 + 1)) fun (x8 : Int) => P2 x8)) 0
set_option maxHeartbeats 4000000 in
theorem mX4_example (l : Launch) (P : ZP) (G : ZG) (o : Nat) (ho : tCls o = 4) (p0 : Int) (hp0 : inR p0) {Q : Int → Prop} (hV : vX4_example o p0 G Q) : Met l yX4_example (ws_ yX4_example cX4_example 7 (some .int)) rX4_example (zPc P G [.ref (zA P o 0 0), .int (zI p0)]) (zQi P (fun r G2 => G = G2 ∧ Q r)) 0 0 (zAr P) := by
  refine zMet RX4 (plainFor_of_name (by decide)) rfl (zcs_c rfl (zcs_c rfl zcs_0)) (Nat.le_of_ble_eq_true rfl) (fun p e s m args below meth c ls hC hr hk hn hG hL => ?_)
  unfold vX4_example at hV
  refine z_iconst hC dX4_example_0 ?_
  refine z_istore_n (lv' := [(2, .int (zI 0)), (0, .ref (zA P o 0 0)), (1, .int (zI p0))]) hC rfl hL (by decide) rfl dX4_example_1 (fun ls hL => ?_)
  refine zl1_use hV (fun (a2_2 : Int) => inR a2_2 → ∀ (H : Heap) (locs : List Loc), zS P s G H locs → ∀ (ls : Array Slot), zL ls 7 [(0, .ref (zA P o 0 0)), (1, .int (zI p0)), (2, .int (zI a2_2))] → W p l e rX4_example s m args below meth c H locs 0 0 (MQ below (zQi P (fun r G2 => G = G2 ∧ Q r)) args s 0 0 (zAr P)) (F0 m 2 ls [])) ?_ (inR_lit rfl) _ _ hG _ (hL.sub [1, 2, 0] rfl)
  intro P2 a2_2 hP2 hV ha2_2 H locs hG ls hL
  refine z_aload_n hC zvr_a rfl (hL.at 0 rfl) dX4_example_2 ?_
  refine z_getA hC hG kFX4_15_4 ho rfl dX4_example_3 ?_
  refine z_iload_n hC rfl (hL.at 2 rfl) dX4_example_6 ?_
  refine z_iald hC hG ho rfl rfl ha2_2 hV dX4_example_7 ?_
  intro x1 hx1 hV
  refine z_iconst hC dX4_example_8 ?_
  refine z_icmp_eq (tgt := 18) hC hx1 (inR_lit rfl) hV dX4_example_9 (by decide) ?_ ?_
  · intro hV
    refine z_bipush hC rfl dX4_example_18 ?_
    refine z_istore_n (lv' := [(3, .int (zI (-4))), (0, .ref (zA P o 0 0)), (1, .int (zI p0)), (2, .int (zI a2_2))]) hC rfl hL (by decide) rfl dX4_example_20 (fun ls hL => ?_)
    refine z_iload_n hC rfl (hL.at 3 rfl) dX4_example_21 ?_
    refine z_istore (lv' := [(4, .int (zI a2_2)), (3, .int (zI (-4))), (0, .ref (zA P o 0 0)), (1, .int (zI p0)), (2, .int (zI a2_2))]) hC hL (by decide) rfl dX4_example_22 (fun ls hL => ?_)
    refine zl2_use hV (fun (a24_3 : Int) (a24_4 : Int) => inR a24_3 → inR a24_4 → ∀ (H : Heap) (locs : List Loc), zS P s G H locs → ∀ (ls : Array Slot), zL ls 7 [(0, .ref (zA P o 0 0)), (1, .int (zI p0)), (3, .int (zI a24_3)), (4, .int (zI a24_4))] → W p l e rX4_example s m args below meth c H locs 0 0 (MQ below (zQi P (fun r G2 => G = G2 ∧ Q r)) args s 0 0 (zAr P)) (F0 m 24 ls [])) ?_ (inR_lit rfl) ha2_2 _ _ hG _ (hL.sub [2, 3, 1, 0] rfl)
    intro P24 a24_3 a24_4 hP24 hV ha24_3 ha24_4 H locs hG ls hL
    refine z_iload hC (hL.at 3 rfl) dX4_example_24 ?_
    refine z_if_le (tgt := 102) hC ha24_4 hV dX4_example_26 (by decide) ?_ ?_
    · intro hV
      refine z_iload_n hC rfl (hL.at 2 rfl) dX4_example_102 ?_
      exact z_iret hC hG hr hk ha24_3 ⟨rfl, hV⟩ (Nat.le_of_ble_eq_true rfl) (Nat.le_of_ble_eq_true rfl) dX4_example_103
    · intro hV
      refine z_iload hC (hL.at 3 rfl) dX4_example_29 ?_
      refine z_iconst hC dX4_example_31 ?_
      refine z_isub hC dX4_example_32 ?_
      refine z_top hV (inR_w _) ?_
      intro x2 hx2 hV
      refine z_istore (lv' := [(5, .int (zI x2)), (0, .ref (zA P o 0 0)), (1, .int (zI p0)), (3, .int (zI a24_3)), (4, .int (zI a24_4))]) hC hL (by decide) rfl dX4_example_33 (fun ls hL => ?_)
      refine z_aload_n hC zvr_a rfl (hL.at 1 rfl) dX4_example_35 ?_
      refine z_iload hC (hL.at 0 rfl) dX4_example_36 ?_
      refine z_iload hC (hL.at 4 rfl) dX4_example_38 ?_
      refine z_call_i hG (zrunV (ci := 4) hC hG (Nat.le_of_ble_eq_true rfl) (Nat.le_of_ble_eq_true rfl) (zobj hG ho (Nat.le_of_ble_eq_true rfl) (Nat.le_of_ble_eq_true rfl)) (mX4_wayTo l P G o ho x2 hx2 a24_4 ha24_4 hV) kVX4_235 rfl rfl rfl ⟨(Nat.le_of_ble_eq_true rfl), (Nat.le_of_ble_eq_true rfl)⟩ ⟨(Nat.le_of_ble_eq_true rfl), (Nat.le_of_ble_eq_true rfl)⟩ rfl ⟨zcs_0, (Nat.le_of_ble_eq_true rfl)⟩ hL.1.1 dX4_example_40) ?_
      rintro x3 _ _ _ hx3 ⟨rfl, hV⟩ hG
      refine z_istore (lv' := [(6, .int (zI x3)), (5, .int (zI x2)), (0, .ref (zA P o 0 0)), (1, .int (zI p0)), (3, .int (zI a24_3)), (4, .int (zI a24_4))]) hC hL (by decide) rfl dX4_example_43 (fun ls hL => ?_)
      refine zl2_use hV (fun (a45_5 : Int) (a45_6 : Int) => inR a45_5 → inR a45_6 → ∀ (H : Heap) (locs : List Loc), zS P s G H locs → ∀ (ls : Array Slot), zL ls 7 [(0, .ref (zA P o 0 0)), (1, .int (zI p0)), (3, .int (zI a24_3)), (4, .int (zI a24_4)), (5, .int (zI a45_5)), (6, .int (zI a45_6))] → W p l e rX4_example s m args below meth c H locs 0 0 (MQ below (zQi P (fun r G2 => G = G2 ∧ Q r)) args s 0 0 (zAr P)) (F0 m 45 ls [])) ?_ hx2 hx3 _ _ hG _ (hL.sub [2, 3, 4, 5, 1, 0] rfl)
      intro P45 a45_5 a45_6 hP45 hV ha45_5 ha45_6 H locs hG ls hL
      refine z_iload hC (hL.at 5 rfl) dX4_example_45 ?_
      refine z_iconst hC dX4_example_47 ?_
      refine z_icmp_ne (tgt := 67) hC ha45_6 (inR_lit rfl) hV dX4_example_48 (by decide) ?_ ?_
      · intro hV
        refine z_aload_n hC zvr_a rfl (hL.at 0 rfl) dX4_example_67 ?_
        refine z_getA hC hG kFX4_15_4 ho rfl dX4_example_68 ?_
        refine z_iload hC (hL.at 4 rfl) dX4_example_71 ?_
        refine z_iald hC hG ho rfl rfl ha45_5 hV dX4_example_73 ?_
        intro x4 hx4 hV
        obtain ⟨J94, eJ94, hV⟩ := zjn_abs hV
        have hJ94 : ∀ {H : Heap} {locs : List Loc}, zS P s G H locs → ∀ (z94_0 : Int), inR z94_0 → J94 z94_0 → ∀ (ls : Array Slot), zL ls 7 [(0, .ref (zA P o 0 0)), (1, .int (zI p0)), (5, .int (zI a45_5))] → W p l e rX4_example s m args below meth c H locs 0 0 (MQ below (zQi P (fun r G2 => G = G2 ∧ Q r)) args s 0 0 (zAr P)) (F0 m 94 ls [.int (zI z94_0)]) := by
          intro H locs hG z94_0 hz94_0 hV ls hL
          rw [eJ94] at hV
          refine z_istore_n (lv' := [(3, .int (zI z94_0)), (0, .ref (zA P o 0 0)), (1, .int (zI p0)), (5, .int (zI a45_5))]) hC rfl hL (by decide) rfl dX4_example_94 (fun ls hL => ?_)
          refine z_iload hC (hL.at 3 rfl) dX4_example_95 ?_
          refine z_istore (lv' := [(4, .int (zI a45_5)), (3, .int (zI z94_0)), (0, .ref (zA P o 0 0)), (1, .int (zI p0)), (5, .int (zI a45_5))]) hC hL (by decide) rfl dX4_example_97 (fun ls hL => ?_)
          refine z_goto (tgt := 24) hC dX4_example_99 (by decide) ?_
          exact hP24 z94_0 a45_5 hV hz94_0 ha45_5 _ _ hG _ (hL.sub [2, 3, 1, 0] rfl)
        obtain ⟨J93, eJ93, hV⟩ := zjn_abs hV
        have hJ93 : ∀ {H : Heap} {locs : List Loc}, zS P s G H locs → J93 () → ∀ (ls : Array Slot), zL ls 7 [(0, .ref (zA P o 0 0)), (1, .int (zI p0)), (3, .int (zI a24_3)), (5, .int (zI a45_5))] → W p l e rX4_example s m args below meth c H locs 0 0 (MQ below (zQi P (fun r G2 => G = G2 ∧ Q r)) args s 0 0 (zAr P)) (F0 m 93 ls []) := by
          intro H locs hG hV ls hL
          rw [eJ93] at hV
          refine z_iload_n hC rfl (hL.at 2 rfl) dX4_example_93 ?_
          exact hJ94 hG a24_3 ha24_3 hV _ (hL.sub [0, 1, 3] rfl)
        refine z_if_ne (tgt := 93) hC hx4 hV dX4_example_74 (by decide) ?_ ?_
        · intro hV
          exact hJ93 hG hV _ (hL.sub [0, 1, 2, 4] rfl)
        · intro hV
          refine z_aload_n hC zvr_a rfl (hL.at 0 rfl) dX4_example_77 ?_
          refine z_getA hC hG kFX4_19_4 ho rfl dX4_example_78 ?_
          refine z_iload hC (hL.at 4 rfl) dX4_example_81 ?_
          refine z_iald hC hG ho rfl rfl ha45_5 hV dX4_example_83 ?_
          intro x5 hx5 hV
          refine z_iload_n hC rfl (hL.at 1 rfl) dX4_example_84 ?_
          refine z_icmp_ne (tgt := 93) hC hx5 hp0 hV dX4_example_85 (by decide) ?_ ?_
          · intro hV
            exact hJ93 hG hV _ (hL.sub [0, 1, 2, 4] rfl)
          · intro hV
            refine z_iload hC (hL.at 5 rfl) dX4_example_88 ?_
            refine z_goto (tgt := 94) hC dX4_example_90 (by decide) ?_
            exact hJ94 hG a45_6 ha45_6 hV _ (hL.sub [0, 1, 4] rfl)
      · intro hV
        refine z_iincV (fun x6 => [(5, .int (zI x6)), (0, .ref (zA P o 0 0)), (1, .int (zI p0)), (3, .int (zI a24_3)), (4, .int (zI a24_4)), (6, .int (zI a45_6))]) hC hL (k := 4) rfl (by decide) (fun _ => rfl) hV dX4_example_51 ?_
        intro x6 hx6 hV ls hL
        refine z_aload_n hC zvr_a rfl (hL.at 1 rfl) dX4_example_54 ?_
        refine z_iload hC (hL.at 0 rfl) dX4_example_55 ?_
        refine z_iload hC (hL.at 4 rfl) dX4_example_57 ?_
        refine z_call_i hG (zrunV (ci := 4) hC hG (Nat.le_of_ble_eq_true rfl) (Nat.le_of_ble_eq_true rfl) (zobj hG ho (Nat.le_of_ble_eq_true rfl) (Nat.le_of_ble_eq_true rfl)) (mX4_wayTo l P G o ho x6 hx6 a24_4 ha24_4 hV) kVX4_235 rfl rfl rfl ⟨(Nat.le_of_ble_eq_true rfl), (Nat.le_of_ble_eq_true rfl)⟩ ⟨(Nat.le_of_ble_eq_true rfl), (Nat.le_of_ble_eq_true rfl)⟩ rfl ⟨zcs_0, (Nat.le_of_ble_eq_true rfl)⟩ hL.1.1 dX4_example_59) ?_
        rintro x7 _ _ _ hx7 ⟨rfl, hV⟩ hG
        refine z_istore (lv' := [(6, .int (zI x7)), (5, .int (zI x6)), (0, .ref (zA P o 0 0)), (1, .int (zI p0)), (3, .int (zI a24_3)), (4, .int (zI a24_4))]) hC hL (by decide) rfl dX4_example_62 (fun ls hL => ?_)
        refine z_goto (tgt := 45) hC dX4_example_64 (by decide) ?_
        exact hP45 x6 x7 hV hx6 hx7 _ _ hG _ (hL.sub [2, 3, 4, 5, 1, 0] rfl)
  · intro hV
    refine z_iincV (fun x8 => [(2, .int (zI x8)), (0, .ref (zA P o 0 0)), (1, .int (zI p0))]) hC hL (k := 2) rfl (by decide) (fun _ => rfl) hV dX4_example_12 ?_
    intro x8 hx8 hV ls hL
    refine z_goto (tgt := 2) hC dX4_example_15 (by decide) ?_
    exact hP2 x8 hV hx8 _ _ hG _ (hL.sub [1, 2, 0] rfl)
abbrev rX5_put (mc ms : Nat) : Room := { frames := 1, cells := mc, slots := ms, locals := 68 }
def vX5_put (p0 : Int) (p1 : Int) (p2 : Int) (p3 : Int) (mc ms : Nat) (G : ZG) (Q : Int → ZG → Prop) : Prop := zgF G 4 1 fun (x1 : Int) => zgU G 4 0 fun (x2 : ZR) => zeN G x2 fun (x3 : Int) => zjn (fun (H46 : ZG) (kc ks : Nat) => zgU H46 4 0 fun (x4 : ZR) => zgF H46 4 1 fun (x5 : Int) => zeS H46 x4 x5 p0 fun (G1 : ZG) => zgU G1 4 0 fun (x6 : ZR) => zgF G1 4 1 fun (x7 : Int) => zeS G1 x6 (w32 (x7 + 1)) p1 fun (G2 : ZG) => zgU G2 4 0 fun (x8 : ZR) => zgF G2 4 1 fun (x9 : Int) => zeS G2 x8 (w32 (x9 + 2)) p2 fun (G3 : ZG) => zgU G3 4 0 fun (x10 : ZR) => zgF G3 4 1 fun (x11 : Int) => zeS G3 x10 (w32 (x11 + 3)) p3 fun (G4 : ZG) => zgU G4 4 0 fun (x12 : ZR) => zgF G4 4 1 fun (x13 : Int) => zeS G4 x12 (w32 (x13 + 4)) (-1) fun (G5 : ZG) => zgF G5 4 1 fun (x14 : Int) => zpF G5 4 1 (w32 (x14 + 5)) fun (G6 : ZG) => zgF G6 4 1 fun (x15 : Int) => Q (w32 (x15 - 5)) G6) fun J46 => zbr (w32 (x1 + 5) ≤ x3) (J46 G 0 0) (zgU G 4 0 fun (x16 : ZR) => zeN G x16 fun (x17 : Int) => (0 + 1 ≤ mc ∧ 0 + (w32 (2 * x17)).toNat ≤ ms) ∧ (w32 (2 * x17)).toNat ≤ 32000 ∧ znI0 G 0 (w32 (2 * x17)) (w32 (2 * x17)).toNat fun (x18 : ZR) (G7 : ZG) => zgU G7 4 0 fun (x19 : ZR) => zgF G7 4 1 fun (x20 : Int) => zcpI G7 x19 0 x18 0 x20 fun (G8 : ZG) => zpU G8 4 0 x18 fun (G9 : ZG) => J46 G9 (0 + 1) (0 + (w32 (2 * x17)).toNat))
set_option maxHeartbeats 4000000 in
theorem mX5_put (l : Launch) (P : ZP) (G : ZG) (mc ms : Nat) (p0 : Int) (hp0 : inR p0) (p1 : Int) (hp1 : inR p1) (p2 : Int) (hp2 : inR p2) (p3 : Int) (hp3 : inR p3) {Q : Int → ZG → Prop} (hV : vX5_put p0 p1 p2 p3 mc ms G Q) : Met l yX5_put (ws_ yX5_put cX5_put 6 (some .int)) (rX5_put mc ms) (zPc P G [.ref (zA P 4 0 0), .int (zI p0), .int (zI p1), .int (zI p2), .int (zI p3)]) (zQi P Q) mc ms (zAr P) := by
  refine zMet RX5 (plainFor_of_name (by decide)) rfl (zcs_c rfl (zcs_c rfl (zcs_c rfl (zcs_c rfl (zcs_c rfl zcs_0))))) (Nat.le_of_ble_eq_true rfl) (fun p e s m args below meth c ls hC hr hk hn hG hL => ?_)
  unfold vX5_put at hV
  have hB : 0 ≤ mc ∧ 0 ≤ ms := ⟨Nat.zero_le _, Nat.zero_le _⟩
  refine z_aload_n hC zvr_a rfl (hL.at 0 rfl) dX5_put_0 ?_
  refine z_getF hC hG kFX5_19_5 rfl rfl hV dX5_put_1 ?_
  intro x1 hx1 hV
  refine z_iconst hC dX5_put_4 ?_
  refine z_iadd hC dX5_put_5 ?_
  refine z_aload_n hC zvr_a rfl (hL.at 0 rfl) dX5_put_6 ?_
  refine z_getU hC hG kFX5_15_5 rfl rfl hV dX5_put_7 ?_
  intro x2 hV
  refine z_alenD hC hG hV dX5_put_10 ?_
  intro x3 hx3 hV
  obtain ⟨J46, eJ46, hV⟩ := zjn_abs hV
  have hJ46 : ∀ (H46 : ZG) (kc ks : Nat), (kc ≤ mc ∧ ks ≤ ms) → J46 H46 kc ks → ∀ (H : Heap) (locs : List Loc) (ls : Array Slot), zS P s H46 H locs → zL ls 6 [(0, .ref (zA P 4 0 0)), (1, .int (zI p0)), (2, .int (zI p1)), (3, .int (zI p2)), (4, .int (zI p3))] → W p l e (rX5_put mc ms) s m args below meth c H locs kc ks (MQ below (zQi P Q) args s mc ms (zAr P)) (F0 m 46 ls []) := by
    intro H46 kc ks hB hV H locs ls hG hL
    rw [eJ46] at hV
    refine z_aload_n hC zvr_a rfl (hL.at 0 rfl) dX5_put_46 ?_
    refine z_getU hC hG kFX5_15_5 rfl rfl hV dX5_put_47 ?_
    intro x4 hV
    refine z_aload_n hC zvr_a rfl (hL.at 0 rfl) dX5_put_50 ?_
    refine z_getF hC hG kFX5_19_5 rfl rfl hV dX5_put_51 ?_
    intro x5 hx5 hV
    refine z_iload_n hC rfl (hL.at 1 rfl) dX5_put_54 ?_
    refine z_east hC hG hx5 hp0 hV dX5_put_55 ?_
    intro G1 _ _ hG hV
    refine z_aload_n hC zvr_a rfl (hL.at 0 rfl) dX5_put_56 ?_
    refine z_getU hC hG kFX5_15_5 rfl rfl hV dX5_put_57 ?_
    intro x6 hV
    refine z_aload_n hC zvr_a rfl (hL.at 0 rfl) dX5_put_60 ?_
    refine z_getF hC hG kFX5_19_5 rfl rfl hV dX5_put_61 ?_
    intro x7 hx7 hV
    refine z_iconst hC dX5_put_64 ?_
    refine z_iadd hC dX5_put_65 ?_
    refine z_iload_n hC rfl (hL.at 2 rfl) dX5_put_66 ?_
    refine z_east hC hG (inR_w _) hp1 hV dX5_put_67 ?_
    intro G2 _ _ hG hV
    refine z_aload_n hC zvr_a rfl (hL.at 0 rfl) dX5_put_68 ?_
    refine z_getU hC hG kFX5_15_5 rfl rfl hV dX5_put_69 ?_
    intro x8 hV
    refine z_aload_n hC zvr_a rfl (hL.at 0 rfl) dX5_put_72 ?_
    refine z_getF hC hG kFX5_19_5 rfl rfl hV dX5_put_73 ?_
    intro x9 hx9 hV
    refine z_iconst hC dX5_put_76 ?_
    refine z_iadd hC dX5_put_77 ?_
    refine z_iload_n hC rfl (hL.at 3 rfl) dX5_put_78 ?_
    refine z_east hC hG (inR_w _) hp2 hV dX5_put_79 ?_
    intro G3 _ _ hG hV
    refine z_aload_n hC zvr_a rfl (hL.at 0 rfl) dX5_put_80 ?_
    refine z_getU hC hG kFX5_15_5 rfl rfl hV dX5_put_81 ?_
    intro x10 hV
    refine z_aload_n hC zvr_a rfl (hL.at 0 rfl) dX5_put_84 ?_
    refine z_getF hC hG kFX5_19_5 rfl rfl hV dX5_put_85 ?_
    intro x11 hx11 hV
    refine z_iconst hC dX5_put_88 ?_
    refine z_iadd hC dX5_put_89 ?_
    refine z_iload hC (hL.at 4 rfl) dX5_put_90 ?_
    refine z_east hC hG (inR_w _) hp3 hV dX5_put_92 ?_
    intro G4 _ _ hG hV
    refine z_aload_n hC zvr_a rfl (hL.at 0 rfl) dX5_put_93 ?_
    refine z_getU hC hG kFX5_15_5 rfl rfl hV dX5_put_94 ?_
    intro x12 hV
    refine z_aload_n hC zvr_a rfl (hL.at 0 rfl) dX5_put_97 ?_
    refine z_getF hC hG kFX5_19_5 rfl rfl hV dX5_put_98 ?_
    intro x13 hx13 hV
    refine z_iconst hC dX5_put_101 ?_
    refine z_iadd hC dX5_put_102 ?_
    refine z_iconst hC dX5_put_103 ?_
    refine z_east hC hG (inR_w _) (inR_lit rfl) hV dX5_put_104 ?_
    intro G5 _ _ hG hV
    refine z_aload_n hC zvr_a rfl (hL.at 0 rfl) dX5_put_105 ?_
    refine z_dup hC rfl dX5_put_106 ?_
    refine z_getF hC hG kFX5_19_5 rfl rfl hV dX5_put_107 ?_
    intro x14 hx14 hV
    refine z_iconst hC dX5_put_110 ?_
    refine z_iadd hC dX5_put_111 ?_
    refine z_putF hC hG kFX5_19_5 rfl rfl rfl rfl nk_5_1 (inR_w _) (Or.inl rfl) hV dX5_put_112 ?_
    intro G6 _ _ hG hV
    refine z_aload_n hC zvr_a rfl (hL.at 0 rfl) dX5_put_115 ?_
    refine z_getF hC hG kFX5_19_5 rfl rfl hV dX5_put_116 ?_
    intro x15 hx15 hV
    refine z_iconst hC dX5_put_119 ?_
    refine z_isub hC dX5_put_120 ?_
    exact z_iret hC hG hr hk (inR_w _) hV hB.1 hB.2 dX5_put_121
  refine z_icmp_le (tgt := 46) hC (inR_w _) hx3 hV dX5_put_11 (by decide) ?_ ?_
  · intro hV
    exact hJ46 G 0 0 hB hV _ _ _ hG hL
  · intro hV
    refine z_iconst hC dX5_put_14 ?_
    refine z_aload_n hC zvr_a rfl (hL.at 0 rfl) dX5_put_15 ?_
    refine z_getU hC hG kFX5_15_5 rfl rfl hV dX5_put_16 ?_
    intro x16 hV
    refine z_alenD hC hG hV dX5_put_19 ?_
    intro x17 hx17 hV
    refine z_imul hC dX5_put_20 ?_
    obtain ⟨hB, hV⟩ := hV
    obtain ⟨hE, hV⟩ := hV
    refine z_newI (t := 0) hC hG rfl (Nat.le_of_ble_eq_true rfl) q223 (inR_w _) (Nat.le_trans hE (Nat.le_of_ble_eq_true rfl)) hV hB.1 hB.2 dX5_put_21 ?_
    intro x18 G7 _ hG hV
    refine z_astore (lv' := [(5, zrv P x18), (0, .ref (zA P 4 0 0)), (1, .int (zI p0)), (2, .int (zI p1)), (3, .int (zI p2)), (4, .int (zI p3))]) hC zvr_r hL (by decide) rfl dX5_put_23 (fun ls hL => ?_)
    refine z_aload_n hC zvr_a rfl (hL.at 1 rfl) dX5_put_25 ?_
    refine z_getU hC hG kFX5_15_5 rfl rfl hV dX5_put_26 ?_
    intro x19 hV
    refine z_iconst hC dX5_put_29 ?_
    refine z_aload hC zvr_r (hL.at 0 rfl) dX5_put_30 ?_
    refine z_iconst hC dX5_put_32 ?_
    refine z_aload_n hC zvr_a rfl (hL.at 1 rfl) dX5_put_33 ?_
    refine z_getF hC hG kFX5_19_5 rfl rfl hV dX5_put_34 ?_
    intro x20 hx20 hV
    refine z_acpI hC hG hL.1.1 kAX5_23 (inR_lit rfl) (inR_lit rfl) hx20 hV ⟨zcs_0, (Nat.le_of_ble_eq_true rfl)⟩ ⟨(Nat.le_of_ble_eq_true rfl), (Nat.le_of_ble_eq_true rfl)⟩ dX5_put_37 ?_
    intro G8 _ _ hG hV
    refine z_aload_n hC zvr_a rfl (hL.at 1 rfl) dX5_put_40 ?_
    refine z_aload hC zvr_r (hL.at 0 rfl) dX5_put_41 ?_
    refine z_putU (x := x18) hC hG kFX5_15_5 rfl rfl rfl rfl nk_5_0 (zfv_ty (v := .inr x18) zty_a).1 (zfv_ty (v := .inr x18) zty_a).2 hV dX5_put_43 ?_
    intro G9 _ _ hG hV
    exact hJ46 G9 (0 + 1) (0 + (w32 (2 * x17)).toNat) hB hV _ _ _ hG (hL.sub [1, 2, 3, 4, 5] rfl)
abbrev rX5_lead : Room := { frames := 1, cells := 0, slots := 0, locals := 12 }
def vX5_lead (p0 : Int) (p1 : Int) (G : ZG) (Q : ZG → Prop) : Prop := zl2 (fun (P2 : Int → ZG → Prop) (a2_3 : Int) (K2 : ZG) => zgF K2 4 1 fun (x1 : Int) => zbr (x1 ≤ a2_3) (Q K2) (zgU K2 4 0 fun (x2 : ZR) => zgU K2 4 0 fun (x3 : ZR) => zeI K2 x3 (w32 (a2_3 + 4)) fun (x4 : Int) => zjn (fun (z51_2 : Int) => zeS K2 x2 (w32 (a2_3 + 4)) z51_2 fun (G1 : ZG) => zlt1 (w32 (a2_3 + 5)) fun (x5 : Int) => P2 x5 G1) fun J51 => zjn (fun (_ : Unit) => zgU K2 4 0 fun (x6 : ZR) => zeI K2 x6 (w32 (a2_3 + 4)) fun (x7 : Int) => J51 x7) fun J43 => zbr (x4 ≠ (-1)) (J43 ()) (zgU K2 4 0 fun (x8 : ZR) => zeI K2 x8 a2_3 fun (x9 : Int) => zbr (x9 = 5) (J43 ()) (J51 p1)))) p0 G
set_option maxHeartbeats 4000000 in
theorem mX5_lead (l : Launch) (P : ZP) (G : ZG) (p0 : Int) (hp0 : inR p0) (p1 : Int) (hp1 : inR p1) {Q : ZG → Prop} (hV : vX5_lead p0 p1 G Q) : Met l yX5_lead (ws_ yX5_lead cX5_lead 4 none) rX5_lead (zPc P G [.ref (zA P 4 0 0), .int (zI p0), .int (zI p1)]) (zQv P Q) 0 0 (zAr P) := by
  refine zMet RX5 (plainFor_of_name (by decide)) rfl (zcs_c rfl (zcs_c rfl (zcs_c rfl zcs_0))) (Nat.le_of_ble_eq_true rfl) (fun p e s m args below meth c ls hC hr hk hn hG hL => ?_)
  unfold vX5_lead at hV
  refine z_iload_n hC rfl (hL.at 1 rfl) dX5_lead_0 ?_
  refine z_istore_n (lv' := [(3, .int (zI p0)), (0, .ref (zA P 4 0 0)), (1, .int (zI p0)), (2, .int (zI p1))]) hC rfl hL (by decide) rfl dX5_lead_1 (fun ls hL => ?_)
  refine zl2_use hV (fun (a2_3 : Int) (K2 : ZG) => inR a2_3 → ∀ (H : Heap) (locs : List Loc), zS P s K2 H locs → ∀ (ls : Array Slot), zL ls 4 [(0, .ref (zA P 4 0 0)), (2, .int (zI p1)), (3, .int (zI a2_3))] → W p l e rX5_lead s m args below meth c H locs 0 0 (MQ below (zQv P Q) args s 0 0 (zAr P)) (F0 m 2 ls [])) ?_ hp0 _ _ hG _ (hL.sub [1, 3, 0] rfl)
  intro P2 a2_3 K2 hP2 hV ha2_3 H locs hG ls hL
  refine z_iload_n hC rfl (hL.at 2 rfl) dX5_lead_2 ?_
  refine z_aload_n hC zvr_a rfl (hL.at 0 rfl) dX5_lead_3 ?_
  refine z_getF hC hG kFX5_19_5 rfl rfl hV dX5_lead_4 ?_
  intro x1 hx1 hV
  refine z_icmp_ge (tgt := 58) hC ha2_3 hx1 hV dX5_lead_7 (by decide) ?_ ?_
  · intro hV
    exact z_vret hC hG hr hk hV (Nat.le_of_ble_eq_true rfl) (Nat.le_of_ble_eq_true rfl) dX5_lead_58
  · intro hV
    refine z_aload_n hC zvr_a rfl (hL.at 0 rfl) dX5_lead_10 ?_
    refine z_getU hC hG kFX5_15_5 rfl rfl hV dX5_lead_11 ?_
    intro x2 hV
    refine z_iload_n hC rfl (hL.at 2 rfl) dX5_lead_14 ?_
    refine z_iconst hC dX5_lead_15 ?_
    refine z_iadd hC dX5_lead_16 ?_
    refine z_aload_n hC zvr_a rfl (hL.at 0 rfl) dX5_lead_17 ?_
    refine z_getU hC hG kFX5_15_5 rfl rfl hV dX5_lead_18 ?_
    intro x3 hV
    refine z_iload_n hC rfl (hL.at 2 rfl) dX5_lead_21 ?_
    refine z_iconst hC dX5_lead_22 ?_
    refine z_iadd hC dX5_lead_23 ?_
    refine z_eald hC hG (inR_w _) hV dX5_lead_24 ?_
    intro x4 hx4 hV
    refine z_iconst hC dX5_lead_25 ?_
    obtain ⟨J51, eJ51, hV⟩ := zjn_abs hV
    have hJ51 : ∀ {H : Heap} {locs : List Loc}, zS P s K2 H locs → ∀ (z51_2 : Int), inR z51_2 → J51 z51_2 → ∀ (ls : Array Slot), zL ls 4 [(0, .ref (zA P 4 0 0)), (2, .int (zI p1)), (3, .int (zI a2_3))] → W p l e rX5_lead s m args below meth c H locs 0 0 (MQ below (zQv P Q) args s 0 0 (zAr P)) (F0 m 51 ls [.int (zI z51_2), .int (zI (w32 (a2_3 + 4))), zrv P x2]) := by
      intro H locs hG z51_2 hz51_2 hV ls hL
      rw [eJ51] at hV
      refine z_east hC hG (inR_w _) hz51_2 hV dX5_lead_51 ?_
      intro G1 _ _ hG hV
      refine z_iincV (fun x5 => [(3, .int (zI x5)), (0, .ref (zA P 4 0 0)), (2, .int (zI p1))]) hC hL (k := 2) rfl (by decide) (fun _ => rfl) hV dX5_lead_52 ?_
      intro x5 hx5 hV ls hL
      refine z_goto (tgt := 2) hC dX5_lead_55 (by decide) ?_
      exact hP2 x5 G1 hV hx5 _ _ hG _ (hL.sub [1, 2, 0] rfl)
    obtain ⟨J43, eJ43, hV⟩ := zjn_abs hV
    have hJ43 : ∀ {H : Heap} {locs : List Loc}, zS P s K2 H locs → J43 () → ∀ (ls : Array Slot), zL ls 4 [(0, .ref (zA P 4 0 0)), (2, .int (zI p1)), (3, .int (zI a2_3))] → W p l e rX5_lead s m args below meth c H locs 0 0 (MQ below (zQv P Q) args s 0 0 (zAr P)) (F0 m 43 ls [.int (zI (w32 (a2_3 + 4))), zrv P x2]) := by
      intro H locs hG hV ls hL
      rw [eJ43] at hV
      refine z_aload_n hC zvr_a rfl (hL.at 0 rfl) dX5_lead_43 ?_
      refine z_getU hC hG kFX5_15_5 rfl rfl hV dX5_lead_44 ?_
      intro x6 hV
      refine z_iload_n hC rfl (hL.at 2 rfl) dX5_lead_47 ?_
      refine z_iconst hC dX5_lead_48 ?_
      refine z_iadd hC dX5_lead_49 ?_
      refine z_eald hC hG (inR_w _) hV dX5_lead_50 ?_
      intro x7 hx7 hV
      exact hJ51 hG x7 hx7 hV _ hL
    refine z_icmp_ne (tgt := 43) hC hx4 (inR_lit rfl) hV dX5_lead_26 (by decide) ?_ ?_
    · intro hV
      exact hJ43 hG hV _ hL
    · intro hV
      refine z_aload_n hC zvr_a rfl (hL.at 0 rfl) dX5_lead_29 ?_
      refine z_getU hC hG kFX5_15_5 rfl rfl hV dX5_lead_30 ?_
      intro x8 hV
      refine z_iload_n hC rfl (hL.at 2 rfl) dX5_lead_33 ?_
      refine z_eald hC hG ha2_3 hV dX5_lead_34 ?_
      intro x9 hx9 hV
      refine z_iconst hC dX5_lead_35 ?_
      refine z_icmp_eq (tgt := 43) hC hx9 (inR_lit rfl) hV dX5_lead_36 (by decide) ?_ ?_
      · intro hV
        exact hJ43 hG hV _ hL
      · intro hV
        refine z_iload_n hC rfl (hL.at 1 rfl) dX5_lead_39 ?_
        refine z_goto (tgt := 51) hC dX5_lead_40 (by decide) ?_
        exact hJ51 hG p1 hp1 hV _ hL
def bX5_writeGiven (wX5_writeGiven : ZR → Nat → Nat → ZG → (ZG → Prop) → Prop) (p0 : ZR) (mc ms : Nat) (G : ZG) (Q : ZG → Prop) : Prop := ziO G p0 11 fun (x1 : Int) => zjn (fun (H97 : ZG) (kc ks : Nat) => Q H97) fun J97 => zbr (x1 = 0) (ziO G p0 13 fun (x2 : Int) => zbr (x2 = 0) (J97 G 0 0) (zca G p0 13 ∧ zgF G 4 1 fun (x3 : Int) => zisO G p0 13 ∧ vX13_first p0 G fun (x5 : ZR) => ∃ k6 n6 : Nat, (0 + k6 ≤ mc ∧ 0 + n6 ≤ ms) ∧ wX5_writeGiven x5 k6 n6 G fun (G1 : ZG) => ∃ k7 n7 : Nat, ((0 + k6) + k7 ≤ mc ∧ (0 + n6) + n7 ≤ ms) ∧ vX5_put 5 0 0 0 k7 n7 G1 fun (x8 : Int) (G2 : ZG) => zgF G2 4 1 fun (x9 : Int) => vX5_lead x3 x9 G2 fun (G3 : ZG) => zisO G3 p0 13 ∧ vX13_second p0 G3 fun (x11 : ZR) => ∃ k12 n12 : Nat, (((0 + k6) + k7) + k12 ≤ mc ∧ ((0 + n6) + n7) + n12 ≤ ms) ∧ wX5_writeGiven x11 k12 n12 G3 fun (G4 : ZG) => zgU G4 4 0 fun (x13 : ZR) => zgF G4 4 1 fun (x14 : Int) => zeS G4 x13 (w32 (x8 + 4)) x14 fun (G5 : ZG) => J97 G5 (((0 + k6) + k7) + k12) (((0 + n6) + n7) + n12))) (zca G p0 11 ∧ zisO G p0 11 ∧ vX11_from p0 G fun (x16 : Int) => zisO G p0 11 ∧ vX11_to p0 G fun (x18 : Int) => ∃ k19 n19 : Nat, (0 + k19 ≤ mc ∧ 0 + n19 ≤ ms) ∧ vX5_put 4 x16 x18 0 k19 n19 G fun (x20 : Int) (G6 : ZG) => J97 G6 (0 + k19) (0 + n19))
set_option maxHeartbeats 4000000 in
theorem sX5_writeGiven (l : Launch) (P : ZP) {rf rl : Nat} (hrf : 2 ≤ rf) (hrl : 93 ≤ rl) (wX5_writeGiven : ZR → Nat → Nat → ZG → (ZG → Prop) → Prop) (ihX5_writeGiven : ∀ (G : ZG) (mc ms : Nat) (p0 : ZR) {Q : ZG → Prop}, wX5_writeGiven p0 mc ms G Q → Met l yX5_writeGiven (ws_ yX5_writeGiven cX5_writeGiven 6 none) ({ frames := rf, cells := mc, slots := ms, locals := rl } : Room) (zPc P G [.ref (zA P 4 0 0), zrv P p0]) (zQv P Q) mc ms (zAr P)) (G : ZG) (mc ms : Nat) (p0 : ZR) {Q : ZG → Prop} (hV : bX5_writeGiven wX5_writeGiven p0 mc ms G Q) : Met l yX5_writeGiven (ws_ yX5_writeGiven cX5_writeGiven 6 none) ({ frames := rf + 1, cells := mc, slots := ms, locals := rl + 25 } : Room) (zPc P G [.ref (zA P 4 0 0), zrv P p0]) (zQv P Q) mc ms (zAr P) := by
  refine zMet RX5 (plainFor_of_name (by decide)) rfl (zcs_c rfl (zcs_c (zrv_cat _ _) zcs_0)) (Nat.le_of_ble_eq_true rfl) (fun p e s m args below meth c ls hC hr hk hn hG hL => ?_)
  unfold bX5_writeGiven at hV
  have hB : 0 ≤ mc ∧ 0 ≤ ms := ⟨Nat.zero_le _, Nat.zero_le _⟩
  refine z_aload_n hC zvr_r rfl (hL.at 1 rfl) dX5_writeGiven_0 ?_
  refine z_inst hC hG (ci := 11) (by decide) q1580 hV dX5_writeGiven_1 ?_
  intro x1 hx1 hV
  obtain ⟨J97, eJ97, hV⟩ := zjn_abs hV
  have hJ97 : ∀ (H97 : ZG) (kc ks : Nat), (kc ≤ mc ∧ ks ≤ ms) → J97 H97 kc ks → ∀ (H : Heap) (locs : List Loc) (ls : Array Slot), zS P s H97 H locs → zL ls 6 [] → W p l e ({ frames := rf + 1, cells := mc, slots := ms, locals := rl + 25 } : Room) s m args below meth c H locs kc ks (MQ below (zQv P Q) args s mc ms (zAr P)) (F0 m 97 ls []) := by
    intro H97 kc ks hB hV H locs ls hG hL
    rw [eJ97] at hV
    exact z_vret hC hG hr hk hV hB.1 hB.2 dX5_writeGiven_97
  refine z_if_eq (tgt := 30) hC (inR_b hx1) hV dX5_writeGiven_4 (by decide) ?_ ?_
  · intro hV
    refine z_aload_n hC zvr_r rfl (hL.at 1 rfl) dX5_writeGiven_30 ?_
    refine z_inst hC hG (ci := 13) (by decide) q1602 hV dX5_writeGiven_31 ?_
    intro x2 hx2 hV
    refine z_if_eq (tgt := 97) hC (inR_b hx2) hV dX5_writeGiven_34 (by decide) ?_ ?_
    · intro hV
      exact hJ97 G 0 0 hB hV _ _ _ hG (hL.sub [] rfl)
    · intro hV
      refine z_aload_n hC zvr_r rfl (hL.at 1 rfl) dX5_writeGiven_37 ?_
      refine z_cast hC hG (ci := 13) (Nat.le_of_ble_eq_true rfl) (Nat.le_of_ble_eq_true rfl) q1602 hV dX5_writeGiven_38 (fun hV => ?_)
      refine z_astore_n (lv' := [(3, zrv P p0), (0, .ref (zA P 4 0 0)), (1, zrv P p0)]) hC zvr_r rfl hL (by decide) rfl dX5_writeGiven_41 (fun ls hL => ?_)
      refine z_aload_n hC zvr_a rfl (hL.at 1 rfl) dX5_writeGiven_42 ?_
      refine z_getF hC hG kFX5_19_5 rfl rfl hV dX5_writeGiven_43 ?_
      intro x3 hx3 hV
      refine z_istore (lv' := [(4, .int (zI x3)), (3, zrv P p0), (0, .ref (zA P 4 0 0)), (1, zrv P p0)]) hC hL (by decide) rfl dX5_writeGiven_46 (fun ls hL => ?_)
      refine z_aload_n hC zvr_a rfl (hL.at 2 rfl) dX5_writeGiven_48 ?_
      refine z_aload_n hC zvr_r rfl (hL.at 1 rfl) dX5_writeGiven_49 ?_
      obtain ⟨hO4, hV⟩ := hV
      refine z_call_r hG (zrunVD hC hG hO4 (mX13_first l P G p0 hV) kVX5_105 rfl rfl rfl ⟨(by show 1 + 1 ≤ rf + 1; omega), (by show 8 + (1 + 11) + 12 ≤ rl + 25; omega)⟩ ⟨hB.1, hB.2⟩ rfl ⟨(zcs_c rfl zcs_0), (Nat.le_of_ble_eq_true rfl)⟩ hL.1.1 dX5_writeGiven_50) ?_
      rintro x5 _ _ _  ⟨rfl, hV⟩ hG
      obtain ⟨k6, n6, hB, hV⟩ := hV
      refine z_call_v hG (zrunV (ci := 5) hC hG (Nat.le_of_ble_eq_true rfl) (Nat.le_of_ble_eq_true rfl) (zobj hG rfl (Nat.le_of_ble_eq_true rfl) (Nat.le_of_ble_eq_true rfl)) (ihX5_writeGiven G k6 n6 x5 hV) kVX5_117 rfl rfl rfl ⟨Nat.le_refl _, (by show 8 + (6 + 11) + rl ≤ rl + 25; omega)⟩ ⟨hB.1, hB.2⟩ rfl ⟨zcs_0, (Nat.le_of_ble_eq_true rfl)⟩ hL.1.1 dX5_writeGiven_53) ?_
      rintro G1 _ _ hV hG
      refine z_aload_n hC zvr_a rfl (hL.at 2 rfl) dX5_writeGiven_56 ?_
      refine z_iconst hC dX5_writeGiven_57 ?_
      refine z_iconst hC dX5_writeGiven_58 ?_
      refine z_iconst hC dX5_writeGiven_59 ?_
      refine z_iconst hC dX5_writeGiven_60 ?_
      obtain ⟨k7, n7, hB, hV⟩ := hV
      refine z_call_i hG (zrunV (ci := 5) hC hG (Nat.le_of_ble_eq_true rfl) (Nat.le_of_ble_eq_true rfl) (zobj hG rfl (Nat.le_of_ble_eq_true rfl) (Nat.le_of_ble_eq_true rfl)) (mX5_put l P G1 k7 n7 5 (inR_lit rfl) 0 (inR_lit rfl) 0 (inR_lit rfl) 0 (inR_lit rfl) hV) kVX5_69 rfl rfl rfl ⟨(by show 1 + 1 ≤ rf + 1; omega), (by show 8 + (6 + 11) + 68 ≤ rl + 25; omega)⟩ ⟨hB.1, hB.2⟩ rfl ⟨zcs_0, (Nat.le_of_ble_eq_true rfl)⟩ hL.1.1 dX5_writeGiven_61) ?_
      rintro x8 G2 _ _ hx8 hV hG
      refine z_istore (lv' := [(5, .int (zI x8)), (4, .int (zI x3)), (3, zrv P p0), (0, .ref (zA P 4 0 0)), (1, zrv P p0)]) hC hL (by decide) rfl dX5_writeGiven_64 (fun ls hL => ?_)
      refine z_aload_n hC zvr_a rfl (hL.at 3 rfl) dX5_writeGiven_66 ?_
      refine z_iload hC (hL.at 1 rfl) dX5_writeGiven_67 ?_
      refine z_aload_n hC zvr_a rfl (hL.at 3 rfl) dX5_writeGiven_69 ?_
      refine z_getF hC hG kFX5_19_5 rfl rfl hV dX5_writeGiven_70 ?_
      intro x9 hx9 hV
      refine z_call_v hG (zrunV (ci := 5) hC hG (Nat.le_of_ble_eq_true rfl) (Nat.le_of_ble_eq_true rfl) (zobj hG rfl (Nat.le_of_ble_eq_true rfl) (Nat.le_of_ble_eq_true rfl)) (mX5_lead l P G2 x3 hx3 x9 hx9 hV) kVX5_73 rfl rfl rfl ⟨(by show 1 + 1 ≤ rf + 1; omega), (by show 8 + (4 + 11) + 12 ≤ rl + 25; omega)⟩ ⟨hB.1, hB.2⟩ rfl ⟨zcs_0, (Nat.le_of_ble_eq_true rfl)⟩ hL.1.1 dX5_writeGiven_73) ?_
      rintro G3 _ _ hV hG
      refine z_aload_n hC zvr_a rfl (hL.at 3 rfl) dX5_writeGiven_76 ?_
      refine z_aload_n hC zvr_r rfl (hL.at 2 rfl) dX5_writeGiven_77 ?_
      obtain ⟨hO10, hV⟩ := hV
      refine z_call_r hG (zrunVD hC hG hO10 (mX13_second l P G3 p0 hV) kVX5_108 rfl rfl rfl ⟨(by show 1 + 1 ≤ rf + 1; omega), (by show 8 + (1 + 11) + 12 ≤ rl + 25; omega)⟩ ⟨hB.1, hB.2⟩ rfl ⟨(zcs_c rfl zcs_0), (Nat.le_of_ble_eq_true rfl)⟩ hL.1.1 dX5_writeGiven_78) ?_
      rintro x11 _ _ _  ⟨rfl, hV⟩ hG
      obtain ⟨k12, n12, hB, hV⟩ := hV
      refine z_call_v hG (zrunV (ci := 5) hC hG (Nat.le_of_ble_eq_true rfl) (Nat.le_of_ble_eq_true rfl) (zobj hG rfl (Nat.le_of_ble_eq_true rfl) (Nat.le_of_ble_eq_true rfl)) (ihX5_writeGiven G3 k12 n12 x11 hV) kVX5_117 rfl rfl rfl ⟨Nat.le_refl _, (by show 8 + (6 + 11) + rl ≤ rl + 25; omega)⟩ ⟨hB.1, hB.2⟩ rfl ⟨zcs_0, (Nat.le_of_ble_eq_true rfl)⟩ hL.1.1 dX5_writeGiven_81) ?_
      rintro G4 _ _ hV hG
      refine z_aload_n hC zvr_a rfl (hL.at 3 rfl) dX5_writeGiven_84 ?_
      refine z_getU hC hG kFX5_15_5 rfl rfl hV dX5_writeGiven_85 ?_
      intro x13 hV
      refine z_iload hC (hL.at 0 rfl) dX5_writeGiven_88 ?_
      refine z_iconst hC dX5_writeGiven_90 ?_
      refine z_iadd hC dX5_writeGiven_91 ?_
      refine z_aload_n hC zvr_a rfl (hL.at 3 rfl) dX5_writeGiven_92 ?_
      refine z_getF hC hG kFX5_19_5 rfl rfl hV dX5_writeGiven_93 ?_
      intro x14 hx14 hV
      refine z_east hC hG (inR_w _) hx14 hV dX5_writeGiven_96 ?_
      intro G5 _ _ hG hV
      exact hJ97 G5 (((0 + k6) + k7) + k12) (((0 + n6) + n7) + n12) hB hV _ _ _ hG (hL.sub [] rfl)
  · intro hV
    refine z_aload_n hC zvr_r rfl (hL.at 1 rfl) dX5_writeGiven_7 ?_
    refine z_cast hC hG (ci := 11) (Nat.le_of_ble_eq_true rfl) (Nat.le_of_ble_eq_true rfl) q1580 hV dX5_writeGiven_8 (fun hV => ?_)
    refine z_astore_n (lv' := [(2, zrv P p0), (0, .ref (zA P 4 0 0)), (1, zrv P p0)]) hC zvr_r rfl hL (by decide) rfl dX5_writeGiven_11 (fun ls hL => ?_)
    refine z_aload_n hC zvr_a rfl (hL.at 1 rfl) dX5_writeGiven_12 ?_
    refine z_iconst hC dX5_writeGiven_13 ?_
    refine z_aload_n hC zvr_r rfl (hL.at 0 rfl) dX5_writeGiven_14 ?_
    obtain ⟨hO15, hV⟩ := hV
    refine z_call_i hG (zrunVD hC hG hO15 (mX11_from l P G p0 hV) kVX5_84 rfl rfl rfl ⟨(by show 1 + 1 ≤ rf + 1; omega), (by show 8 + (1 + 11) + 12 ≤ rl + 25; omega)⟩ ⟨hB.1, hB.2⟩ rfl ⟨(zcs_c rfl (zcs_c rfl zcs_0)), (Nat.le_of_ble_eq_true rfl)⟩ hL.1.1 dX5_writeGiven_15) ?_
    rintro x16 _ _ _ hx16 ⟨rfl, hV⟩ hG
    refine z_aload_n hC zvr_r rfl (hL.at 0 rfl) dX5_writeGiven_18 ?_
    obtain ⟨hO17, hV⟩ := hV
    refine z_call_i hG (zrunVD hC hG hO17 (mX11_to l P G p0 hV) kVX5_87 rfl rfl rfl ⟨(by show 1 + 1 ≤ rf + 1; omega), (by show 8 + (1 + 11) + 12 ≤ rl + 25; omega)⟩ ⟨hB.1, hB.2⟩ rfl ⟨(zcs_c rfl (zcs_c rfl (zcs_c rfl zcs_0))), (Nat.le_of_ble_eq_true rfl)⟩ hL.1.1 dX5_writeGiven_19) ?_
    rintro x18 _ _ _ hx18 ⟨rfl, hV⟩ hG
    refine z_iconst hC dX5_writeGiven_22 ?_
    obtain ⟨k19, n19, hB, hV⟩ := hV
    refine z_call_i hG (zrunV (ci := 5) hC hG (Nat.le_of_ble_eq_true rfl) (Nat.le_of_ble_eq_true rfl) (zobj hG rfl (Nat.le_of_ble_eq_true rfl) (Nat.le_of_ble_eq_true rfl)) (mX5_put l P G k19 n19 4 (inR_lit rfl) x16 hx16 x18 hx18 0 (inR_lit rfl) hV) kVX5_69 rfl rfl rfl ⟨(by show 1 + 1 ≤ rf + 1; omega), (by show 8 + (6 + 11) + 68 ≤ rl + 25; omega)⟩ ⟨hB.1, hB.2⟩ rfl ⟨zcs_0, (Nat.le_of_ble_eq_true rfl)⟩ hL.1.1 dX5_writeGiven_23) ?_
    rintro x20 G6 _ _ hx20 hV hG
    refine z_pop hC rfl dX5_writeGiven_26 ?_
    refine z_goto (tgt := 97) hC dX5_writeGiven_27 (by decide) ?_
    exact hJ97 G6 (0 + k19) (0 + n19) hB hV _ _ _ hG (hL.sub [] rfl)
abbrev rgGiven (d : Nat) (mc ms : Nat) : Room := { frames := 2 + d, cells := mc, slots := ms, locals := 93 + 25 * d }
def vggGiven : Nat → (ZR → Nat → Nat → ZG → (ZG → Prop) → Prop)
  | 0 => fun _ _ _ _ _ => False
  | d + 1 => bX5_writeGiven (vggGiven d)
def vX5_writeGiven (d : Nat) (p0 : ZR) (mc ms : Nat) (G : ZG) (Q : ZG → Prop) : Prop := (vggGiven d) p0 mc ms G Q
theorem vX5_writeGiven_s (d : Nat) (p0 : ZR) (mc ms : Nat) (G : ZG) (Q : ZG → Prop) : vX5_writeGiven (d + 1) p0 mc ms G Q = bX5_writeGiven (vX5_writeGiven d) p0 mc ms G Q := rfl
theorem ggGiven (l : Launch) (P : ZP) : ∀ d : Nat, (∀ (G : ZG) (mc ms : Nat) (p0 : ZR) {Q : ZG → Prop}, vX5_writeGiven d p0 mc ms G Q → Met l yX5_writeGiven (ws_ yX5_writeGiven cX5_writeGiven 6 none) (rgGiven d mc ms) (zPc P G [.ref (zA P 4 0 0), zrv P p0]) (zQv P Q) mc ms (zAr P)) := by
  intro d
  induction d with
  | zero => exact fun G mc ms p0 Q h => False.elim h
  | succ d ih =>
    have e : 93 + 25 * (d + 1) = 93 + 25 * d + 25 := by omega
    exact fun G mc ms p0 Q h => (by
      simp only [rgGiven, e]
      exact sX5_writeGiven l P (rf := 2 + d) (rl := 93 + 25 * d) (by omega) (by omega) (vggGiven d) (ih) _ mc ms p0 h)
theorem mX5_writeGiven (l : Launch) (P : ZP) (d : Nat) (G : ZG) (mc ms : Nat) (p0 : ZR) {Q : ZG → Prop} (hV : vX5_writeGiven d p0 mc ms G Q) : Met l yX5_writeGiven (ws_ yX5_writeGiven cX5_writeGiven 6 none) (rgGiven d mc ms) (zPc P G [.ref (zA P 4 0 0), zrv P p0]) (zQv P Q) mc ms (zAr P) := (ggGiven l P d) G mc ms p0 hV
def bX5_write (wX5_write : ZR → Int → Nat → Nat → ZG → (ZG → Prop) → Prop) (wX5_writeAll : ZR → Int → Int → Nat → Nat → ZG → (ZG → Prop) → Prop) (wX5_writeList : ZR → Int → Nat → Nat → ZG → (ZG → Prop) → Prop) (p0 : ZR) (p1 : Int) (mc ms : Nat) (G : ZG) (Q : ZG → Prop) : Prop := ziO G p0 10 fun (x1 : Int) => zjn (fun (H230 : ZG) (kc ks : Nat) => Q H230) fun J230 => zbr (x1 = 0) (ziO G p0 11 fun (x2 : Int) => zbr (x2 = 0) (ziO G p0 12 fun (x3 : Int) => zbr (x3 = 0) (ziO G p0 13 fun (x4 : Int) => zbr (x4 = 0) (ziO G p0 14 fun (x5 : Int) => zbr (x5 = 0) (ziO G p0 15 fun (x6 : Int) => zbr (x6 = 0) (J230 G 0 0) (zca G p0 15 ∧ ∃ k7 n7 : Nat, (0 + k7 ≤ mc ∧ 0 + n7 ≤ ms) ∧ wX5_writeList p0 p1 k7 n7 G fun (G1 : ZG) => J230 G1 (0 + k7) (0 + n7))) (zca G p0 14 ∧ zisO G p0 14 ∧ vX14_view p0 G fun (x9 : Int) => ∃ k10 n10 : Nat, (0 + k10 ≤ mc ∧ 0 + n10 ≤ ms) ∧ vX5_put 3 x9 p1 0 k10 n10 G fun (x11 : Int) (G2 : ZG) => zisO G2 p0 14 ∧ vX14_of p0 G2 fun (x13 : ZR) => ∃ k14 n14 : Nat, ((0 + k10) + k14 ≤ mc ∧ (0 + n10) + n14 ≤ ms) ∧ vX5_writeGiven 45 x13 k14 n14 G2 fun (G3 : ZG) => J230 G3 ((0 + k10) + k14) ((0 + n10) + n14))) (zca G p0 13 ∧ zgF G 4 1 fun (x15 : Int) => zisO G p0 13 ∧ vX13_first p0 G fun (x17 : ZR) => ∃ k18 n18 : Nat, (0 + k18 ≤ mc ∧ 0 + n18 ≤ ms) ∧ wX5_write x17 p1 k18 n18 G fun (G4 : ZG) => ∃ k19 n19 : Nat, ((0 + k18) + k19 ≤ mc ∧ (0 + n18) + n19 ≤ ms) ∧ vX5_put 5 0 0 0 k19 n19 G4 fun (x20 : Int) (G5 : ZG) => zgF G5 4 1 fun (x21 : Int) => vX5_lead x15 x21 G5 fun (G6 : ZG) => zisO G6 p0 13 ∧ vX13_second p0 G6 fun (x23 : ZR) => ∃ k24 n24 : Nat, (((0 + k18) + k19) + k24 ≤ mc ∧ ((0 + n18) + n19) + n24 ≤ ms) ∧ wX5_write x23 p1 k24 n24 G6 fun (G7 : ZG) => zgU G7 4 0 fun (x25 : ZR) => zgF G7 4 1 fun (x26 : Int) => zeS G7 x25 (w32 (x20 + 4)) x26 fun (G8 : ZG) => J230 G8 (((0 + k18) + k19) + k24) (((0 + n18) + n19) + n24))) (zca G p0 12 ∧ zisO G p0 12 ∧ vX12_constructor p0 G fun (x28 : Int) => ∃ k29 n29 : Nat, (0 + k29 ≤ mc ∧ 0 + n29 ≤ ms) ∧ vX5_put 1 p1 x28 0 k29 n29 G fun (x30 : Int) (G9 : ZG) => zisO G9 p0 12 ∧ vX12_fields p0 G9 fun (x32 : ZR) => ∃ k33 n33 : Nat, ((0 + k29) + k33 ≤ mc ∧ (0 + n29) + n33 ≤ ms) ∧ wX5_writeAll x32 p1 0 k33 n33 G9 fun (G10 : ZG) => J230 G10 ((0 + k29) + k33) ((0 + n29) + n33))) (zca G p0 11 ∧ zisO G p0 11 ∧ vX11_from p0 G fun (x35 : Int) => zisO G p0 11 ∧ vX11_to p0 G fun (x37 : Int) => ∃ k38 n38 : Nat, (0 + k38 ≤ mc ∧ 0 + n38 ≤ ms) ∧ vX5_put 0 p1 x35 x37 k38 n38 G fun (x39 : Int) (G11 : ZG) => J230 G11 (0 + k38) (0 + n38))) (zca G p0 10 ∧ zisO G p0 10 ∧ vX10_of p0 G fun (x41 : ZR) => ∃ k42 n42 : Nat, (0 + k42 ≤ mc ∧ 0 + n42 ≤ ms) ∧ wX5_write x41 p1 k42 n42 G fun (G12 : ZG) => J230 G12 (0 + k42) (0 + n42))
set_option maxHeartbeats 4000000 in
theorem sX5_write (l : Launch) (P : ZP) {rf rl : Nat} (hrf : 48 ≤ rf) (hrl : 1243 ≤ rl) (wX5_write : ZR → Int → Nat → Nat → ZG → (ZG → Prop) → Prop) (wX5_writeAll : ZR → Int → Int → Nat → Nat → ZG → (ZG → Prop) → Prop) (wX5_writeList : ZR → Int → Nat → Nat → ZG → (ZG → Prop) → Prop) (ihX5_write : ∀ (G : ZG) (mc ms : Nat) (p0 : ZR) (p1 : Int) (hp1 : inR p1) {Q : ZG → Prop}, wX5_write p0 p1 mc ms G Q → Met l yX5_write (ws_ yX5_write cX5_write 11 none) ({ frames := rf, cells := mc, slots := ms, locals := rl } : Room) (zPc P G [.ref (zA P 4 0 0), zrv P p0, .int (zI p1)]) (zQv P Q) mc ms (zAr P)) (ihX5_writeAll : ∀ (G : ZG) (mc ms : Nat) (p0 : ZR) (p1 : Int) (hp1 : inR p1) (p2 : Int) (hp2 : inR p2) {Q : ZG → Prop}, wX5_writeAll p0 p1 p2 mc ms G Q → Met l yX5_writeAll (ws_ yX5_writeAll cX5_writeAll 5 none) ({ frames := rf, cells := mc, slots := ms, locals := rl } : Room) (zPc P G [.ref (zA P 4 0 0), zrv P p0, .int (zI p1), .int (zI p2)]) (zQv P Q) mc ms (zAr P)) (ihX5_writeList : ∀ (G : ZG) (mc ms : Nat) (p0 : ZR) (p1 : Int) (hp1 : inR p1) {Q : ZG → Prop}, wX5_writeList p0 p1 mc ms G Q → Met l yX5_writeList (ws_ yX5_writeList cX5_writeList 7 none) ({ frames := rf, cells := mc, slots := ms, locals := rl } : Room) (zPc P G [.ref (zA P 4 0 0), zrv P p0, .int (zI p1)]) (zQv P Q) mc ms (zAr P)) (G : ZG) (mc ms : Nat) (p0 : ZR) (p1 : Int) (hp1 : inR p1) {Q : ZG → Prop} (hV : bX5_write wX5_write wX5_writeAll wX5_writeList p0 p1 mc ms G Q) : Met l yX5_write (ws_ yX5_write cX5_write 11 none) ({ frames := rf + 1, cells := mc, slots := ms, locals := rl + 30 } : Room) (zPc P G [.ref (zA P 4 0 0), zrv P p0, .int (zI p1)]) (zQv P Q) mc ms (zAr P) := by
  refine zMet RX5 (plainFor_of_name (by decide)) rfl (zcs_c rfl (zcs_c (zrv_cat _ _) (zcs_c rfl zcs_0))) (Nat.le_of_ble_eq_true rfl) (fun p e s m args below meth c ls hC hr hk hn hG hL => ?_)
  unfold bX5_write at hV
  have hB : 0 ≤ mc ∧ 0 ≤ ms := ⟨Nat.zero_le _, Nat.zero_le _⟩
  refine z_aload_n hC zvr_r rfl (hL.at 1 rfl) dX5_write_0 ?_
  refine z_inst hC hG (ci := 10) (by decide) q1578 hV dX5_write_1 ?_
  intro x1 hx1 hV
  obtain ⟨J230, eJ230, hV⟩ := zjn_abs hV
  have hJ230 : ∀ (H230 : ZG) (kc ks : Nat), (kc ≤ mc ∧ ks ≤ ms) → J230 H230 kc ks → ∀ (H : Heap) (locs : List Loc) (ls : Array Slot), zS P s H230 H locs → zL ls 11 [] → W p l e ({ frames := rf + 1, cells := mc, slots := ms, locals := rl + 30 } : Room) s m args below meth c H locs kc ks (MQ below (zQv P Q) args s mc ms (zAr P)) (F0 m 230 ls []) := by
    intro H230 kc ks hB hV H locs ls hG hL
    rw [eJ230] at hV
    exact z_vret hC hG hr hk hV hB.1 hB.2 dX5_write_230
  refine z_if_eq (tgt := 24) hC (inR_b hx1) hV dX5_write_4 (by decide) ?_ ?_
  · intro hV
    refine z_aload_n hC zvr_r rfl (hL.at 1 rfl) dX5_write_24 ?_
    refine z_inst hC hG (ci := 11) (by decide) q1580 hV dX5_write_25 ?_
    intro x2 hx2 hV
    refine z_if_eq (tgt := 57) hC (inR_b hx2) hV dX5_write_28 (by decide) ?_ ?_
    · intro hV
      refine z_aload_n hC zvr_r rfl (hL.at 1 rfl) dX5_write_57 ?_
      refine z_inst hC hG (ci := 12) (by decide) q1594 hV dX5_write_58 ?_
      intro x3 hx3 hV
      refine z_if_eq (tgt := 97) hC (inR_b hx3) hV dX5_write_61 (by decide) ?_ ?_
      · intro hV
        refine z_aload_n hC zvr_r rfl (hL.at 1 rfl) dX5_write_97 ?_
        refine z_inst hC hG (ci := 13) (by decide) q1602 hV dX5_write_98 ?_
        intro x4 hx4 hV
        refine z_if_eq (tgt := 172) hC (inR_b hx4) hV dX5_write_101 (by decide) ?_ ?_
        · intro hV
          refine z_aload_n hC zvr_r rfl (hL.at 1 rfl) dX5_write_172 ?_
          refine z_inst hC hG (ci := 14) (by decide) q1609 hV dX5_write_173 ?_
          intro x5 hx5 hV
          refine z_if_eq (tgt := 210) hC (inR_b hx5) hV dX5_write_176 (by decide) ?_ ?_
          · intro hV
            refine z_aload_n hC zvr_r rfl (hL.at 1 rfl) dX5_write_210 ?_
            refine z_inst hC hG (ci := 15) (by decide) q1616 hV dX5_write_211 ?_
            intro x6 hx6 hV
            refine z_if_eq (tgt := 230) hC (inR_b hx6) hV dX5_write_214 (by decide) ?_ ?_
            · intro hV
              exact hJ230 G 0 0 hB hV _ _ _ hG (hL.sub [] rfl)
            · intro hV
              refine z_aload_n hC zvr_r rfl (hL.at 1 rfl) dX5_write_217 ?_
              refine z_cast hC hG (ci := 15) (Nat.le_of_ble_eq_true rfl) (Nat.le_of_ble_eq_true rfl) q1616 hV dX5_write_218 (fun hV => ?_)
              refine z_astore (lv' := [(8, zrv P p0), (0, .ref (zA P 4 0 0)), (1, zrv P p0), (2, .int (zI p1))]) hC zvr_r hL (by decide) rfl dX5_write_221 (fun ls hL => ?_)
              refine z_aload_n hC zvr_a rfl (hL.at 1 rfl) dX5_write_223 ?_
              refine z_aload hC zvr_r (hL.at 0 rfl) dX5_write_224 ?_
              refine z_iload_n hC rfl (hL.at 3 rfl) dX5_write_226 ?_
              obtain ⟨k7, n7, hB, hV⟩ := hV
              refine z_call_v hG (zrunV (ci := 5) hC hG (Nat.le_of_ble_eq_true rfl) (Nat.le_of_ble_eq_true rfl) (zobj hG rfl (Nat.le_of_ble_eq_true rfl) (Nat.le_of_ble_eq_true rfl)) (ihX5_writeList G k7 n7 p0 p1 hp1 hV) kVX5_123 rfl rfl rfl ⟨Nat.le_refl _, (by show 8 + (7 + 11) + rl ≤ rl + 30; omega)⟩ ⟨hB.1, hB.2⟩ rfl ⟨zcs_0, (Nat.le_of_ble_eq_true rfl)⟩ hL.1.1 dX5_write_227) ?_
              rintro G1 _ _ hV hG
              exact hJ230 G1 (0 + k7) (0 + n7) hB hV _ _ _ hG (hL.sub [] rfl)
          · intro hV
            refine z_aload_n hC zvr_r rfl (hL.at 1 rfl) dX5_write_179 ?_
            refine z_cast hC hG (ci := 14) (Nat.le_of_ble_eq_true rfl) (Nat.le_of_ble_eq_true rfl) q1609 hV dX5_write_180 (fun hV => ?_)
            refine z_astore (lv' := [(7, zrv P p0), (0, .ref (zA P 4 0 0)), (1, zrv P p0), (2, .int (zI p1))]) hC zvr_r hL (by decide) rfl dX5_write_183 (fun ls hL => ?_)
            refine z_aload_n hC zvr_a rfl (hL.at 1 rfl) dX5_write_185 ?_
            refine z_iconst hC dX5_write_186 ?_
            refine z_aload hC zvr_r (hL.at 0 rfl) dX5_write_187 ?_
            obtain ⟨hO8, hV⟩ := hV
            refine z_call_i hG (zrunVD hC hG hO8 (mX14_view l P G p0 hV) kVX5_113 rfl rfl rfl ⟨(by show 1 + 1 ≤ rf + 1; omega), (by show 8 + (1 + 11) + 12 ≤ rl + 30; omega)⟩ ⟨hB.1, hB.2⟩ rfl ⟨(zcs_c rfl (zcs_c rfl zcs_0)), (Nat.le_of_ble_eq_true rfl)⟩ hL.1.1 dX5_write_189) ?_
            rintro x9 _ _ _ hx9 ⟨rfl, hV⟩ hG
            refine z_iload_n hC rfl (hL.at 3 rfl) dX5_write_192 ?_
            refine z_iconst hC dX5_write_193 ?_
            obtain ⟨k10, n10, hB, hV⟩ := hV
            refine z_call_i hG (zrunV (ci := 5) hC hG (Nat.le_of_ble_eq_true rfl) (Nat.le_of_ble_eq_true rfl) (zobj hG rfl (Nat.le_of_ble_eq_true rfl) (Nat.le_of_ble_eq_true rfl)) (mX5_put l P G k10 n10 3 (inR_lit rfl) x9 hx9 p1 hp1 0 (inR_lit rfl) hV) kVX5_69 rfl rfl rfl ⟨(by show 1 + 1 ≤ rf + 1; omega), (by show 8 + (6 + 11) + 68 ≤ rl + 30; omega)⟩ ⟨hB.1, hB.2⟩ rfl ⟨zcs_0, (Nat.le_of_ble_eq_true rfl)⟩ hL.1.1 dX5_write_194) ?_
            rintro x11 G2 _ _ hx11 hV hG
            refine z_pop hC rfl dX5_write_197 ?_
            refine z_aload_n hC zvr_a rfl (hL.at 1 rfl) dX5_write_198 ?_
            refine z_aload hC zvr_r (hL.at 0 rfl) dX5_write_199 ?_
            obtain ⟨hO12, hV⟩ := hV
            refine z_call_r hG (zrunVD hC hG hO12 (mX14_of l P G2 p0 hV) kVX5_116 rfl rfl rfl ⟨(by show 1 + 1 ≤ rf + 1; omega), (by show 8 + (1 + 11) + 12 ≤ rl + 30; omega)⟩ ⟨hB.1, hB.2⟩ rfl ⟨(zcs_c rfl zcs_0), (Nat.le_of_ble_eq_true rfl)⟩ hL.1.1 dX5_write_201) ?_
            rintro x13 _ _ _  ⟨rfl, hV⟩ hG
            obtain ⟨k14, n14, hB, hV⟩ := hV
            refine z_call_v hG (zrunV (ci := 5) hC hG (Nat.le_of_ble_eq_true rfl) (Nat.le_of_ble_eq_true rfl) (zobj hG rfl (Nat.le_of_ble_eq_true rfl) (Nat.le_of_ble_eq_true rfl)) (mX5_writeGiven l P 45 G2 k14 n14 x13 hV) kVX5_117 rfl rfl rfl ⟨(by show 47 + 1 ≤ rf + 1; omega), (by show 8 + (6 + 11) + 1218 ≤ rl + 30; omega)⟩ ⟨hB.1, hB.2⟩ rfl ⟨zcs_0, (Nat.le_of_ble_eq_true rfl)⟩ hL.1.1 dX5_write_204) ?_
            rintro G3 _ _ hV hG
            refine z_goto (tgt := 230) hC dX5_write_207 (by decide) ?_
            exact hJ230 G3 ((0 + k10) + k14) ((0 + n10) + n14) hB hV _ _ _ hG (hL.sub [] rfl)
        · intro hV
          refine z_aload_n hC zvr_r rfl (hL.at 1 rfl) dX5_write_104 ?_
          refine z_cast hC hG (ci := 13) (Nat.le_of_ble_eq_true rfl) (Nat.le_of_ble_eq_true rfl) q1602 hV dX5_write_105 (fun hV => ?_)
          refine z_astore (lv' := [(6, zrv P p0), (0, .ref (zA P 4 0 0)), (1, zrv P p0), (2, .int (zI p1))]) hC zvr_r hL (by decide) rfl dX5_write_108 (fun ls hL => ?_)
          refine z_aload_n hC zvr_a rfl (hL.at 1 rfl) dX5_write_110 ?_
          refine z_getF hC hG kFX5_19_5 rfl rfl hV dX5_write_111 ?_
          intro x15 hx15 hV
          refine z_istore (lv' := [(9, .int (zI x15)), (6, zrv P p0), (0, .ref (zA P 4 0 0)), (1, zrv P p0), (2, .int (zI p1))]) hC hL (by decide) rfl dX5_write_114 (fun ls hL => ?_)
          refine z_aload_n hC zvr_a rfl (hL.at 2 rfl) dX5_write_116 ?_
          refine z_aload hC zvr_r (hL.at 1 rfl) dX5_write_117 ?_
          obtain ⟨hO16, hV⟩ := hV
          refine z_call_r hG (zrunVD hC hG hO16 (mX13_first l P G p0 hV) kVX5_105 rfl rfl rfl ⟨(by show 1 + 1 ≤ rf + 1; omega), (by show 8 + (1 + 11) + 12 ≤ rl + 30; omega)⟩ ⟨hB.1, hB.2⟩ rfl ⟨(zcs_c rfl zcs_0), (Nat.le_of_ble_eq_true rfl)⟩ hL.1.1 dX5_write_119) ?_
          rintro x17 _ _ _  ⟨rfl, hV⟩ hG
          refine z_iload_n hC rfl (hL.at 4 rfl) dX5_write_122 ?_
          obtain ⟨k18, n18, hB, hV⟩ := hV
          refine z_call_v hG (zrunV (ci := 5) hC hG (Nat.le_of_ble_eq_true rfl) (Nat.le_of_ble_eq_true rfl) (zobj hG rfl (Nat.le_of_ble_eq_true rfl) (Nat.le_of_ble_eq_true rfl)) (ihX5_write G k18 n18 x17 p1 hp1 hV) kVX5_65 rfl rfl rfl ⟨Nat.le_refl _, (by show 8 + (11 + 11) + rl ≤ rl + 30; omega)⟩ ⟨hB.1, hB.2⟩ rfl ⟨zcs_0, (Nat.le_of_ble_eq_true rfl)⟩ hL.1.1 dX5_write_123) ?_
          rintro G4 _ _ hV hG
          refine z_aload_n hC zvr_a rfl (hL.at 2 rfl) dX5_write_126 ?_
          refine z_iconst hC dX5_write_127 ?_
          refine z_iconst hC dX5_write_128 ?_
          refine z_iconst hC dX5_write_129 ?_
          refine z_iconst hC dX5_write_130 ?_
          obtain ⟨k19, n19, hB, hV⟩ := hV
          refine z_call_i hG (zrunV (ci := 5) hC hG (Nat.le_of_ble_eq_true rfl) (Nat.le_of_ble_eq_true rfl) (zobj hG rfl (Nat.le_of_ble_eq_true rfl) (Nat.le_of_ble_eq_true rfl)) (mX5_put l P G4 k19 n19 5 (inR_lit rfl) 0 (inR_lit rfl) 0 (inR_lit rfl) 0 (inR_lit rfl) hV) kVX5_69 rfl rfl rfl ⟨(by show 1 + 1 ≤ rf + 1; omega), (by show 8 + (6 + 11) + 68 ≤ rl + 30; omega)⟩ ⟨hB.1, hB.2⟩ rfl ⟨zcs_0, (Nat.le_of_ble_eq_true rfl)⟩ hL.1.1 dX5_write_131) ?_
          rintro x20 G5 _ _ hx20 hV hG
          refine z_istore (lv' := [(10, .int (zI x20)), (9, .int (zI x15)), (6, zrv P p0), (0, .ref (zA P 4 0 0)), (1, zrv P p0), (2, .int (zI p1))]) hC hL (by decide) rfl dX5_write_134 (fun ls hL => ?_)
          refine z_aload_n hC zvr_a rfl (hL.at 3 rfl) dX5_write_136 ?_
          refine z_iload hC (hL.at 1 rfl) dX5_write_137 ?_
          refine z_aload_n hC zvr_a rfl (hL.at 3 rfl) dX5_write_139 ?_
          refine z_getF hC hG kFX5_19_5 rfl rfl hV dX5_write_140 ?_
          intro x21 hx21 hV
          refine z_call_v hG (zrunV (ci := 5) hC hG (Nat.le_of_ble_eq_true rfl) (Nat.le_of_ble_eq_true rfl) (zobj hG rfl (Nat.le_of_ble_eq_true rfl) (Nat.le_of_ble_eq_true rfl)) (mX5_lead l P G5 x15 hx15 x21 hx21 hV) kVX5_73 rfl rfl rfl ⟨(by show 1 + 1 ≤ rf + 1; omega), (by show 8 + (4 + 11) + 12 ≤ rl + 30; omega)⟩ ⟨hB.1, hB.2⟩ rfl ⟨zcs_0, (Nat.le_of_ble_eq_true rfl)⟩ hL.1.1 dX5_write_143) ?_
          rintro G6 _ _ hV hG
          refine z_aload_n hC zvr_a rfl (hL.at 3 rfl) dX5_write_146 ?_
          refine z_aload hC zvr_r (hL.at 2 rfl) dX5_write_147 ?_
          obtain ⟨hO22, hV⟩ := hV
          refine z_call_r hG (zrunVD hC hG hO22 (mX13_second l P G6 p0 hV) kVX5_108 rfl rfl rfl ⟨(by show 1 + 1 ≤ rf + 1; omega), (by show 8 + (1 + 11) + 12 ≤ rl + 30; omega)⟩ ⟨hB.1, hB.2⟩ rfl ⟨(zcs_c rfl zcs_0), (Nat.le_of_ble_eq_true rfl)⟩ hL.1.1 dX5_write_149) ?_
          rintro x23 _ _ _  ⟨rfl, hV⟩ hG
          refine z_iload_n hC rfl (hL.at 5 rfl) dX5_write_152 ?_
          obtain ⟨k24, n24, hB, hV⟩ := hV
          refine z_call_v hG (zrunV (ci := 5) hC hG (Nat.le_of_ble_eq_true rfl) (Nat.le_of_ble_eq_true rfl) (zobj hG rfl (Nat.le_of_ble_eq_true rfl) (Nat.le_of_ble_eq_true rfl)) (ihX5_write G6 k24 n24 x23 p1 hp1 hV) kVX5_65 rfl rfl rfl ⟨Nat.le_refl _, (by show 8 + (11 + 11) + rl ≤ rl + 30; omega)⟩ ⟨hB.1, hB.2⟩ rfl ⟨zcs_0, (Nat.le_of_ble_eq_true rfl)⟩ hL.1.1 dX5_write_153) ?_
          rintro G7 _ _ hV hG
          refine z_aload_n hC zvr_a rfl (hL.at 3 rfl) dX5_write_156 ?_
          refine z_getU hC hG kFX5_15_5 rfl rfl hV dX5_write_157 ?_
          intro x25 hV
          refine z_iload hC (hL.at 0 rfl) dX5_write_160 ?_
          refine z_iconst hC dX5_write_162 ?_
          refine z_iadd hC dX5_write_163 ?_
          refine z_aload_n hC zvr_a rfl (hL.at 3 rfl) dX5_write_164 ?_
          refine z_getF hC hG kFX5_19_5 rfl rfl hV dX5_write_165 ?_
          intro x26 hx26 hV
          refine z_east hC hG (inR_w _) hx26 hV dX5_write_168 ?_
          intro G8 _ _ hG hV
          refine z_goto (tgt := 230) hC dX5_write_169 (by decide) ?_
          exact hJ230 G8 (((0 + k18) + k19) + k24) (((0 + n18) + n19) + n24) hB hV _ _ _ hG (hL.sub [] rfl)
      · intro hV
        refine z_aload_n hC zvr_r rfl (hL.at 1 rfl) dX5_write_64 ?_
        refine z_cast hC hG (ci := 12) (Nat.le_of_ble_eq_true rfl) (Nat.le_of_ble_eq_true rfl) q1594 hV dX5_write_65 (fun hV => ?_)
        refine z_astore (lv' := [(5, zrv P p0), (0, .ref (zA P 4 0 0)), (1, zrv P p0), (2, .int (zI p1))]) hC zvr_r hL (by decide) rfl dX5_write_68 (fun ls hL => ?_)
        refine z_aload_n hC zvr_a rfl (hL.at 1 rfl) dX5_write_70 ?_
        refine z_iconst hC dX5_write_71 ?_
        refine z_iload_n hC rfl (hL.at 3 rfl) dX5_write_72 ?_
        refine z_aload hC zvr_r (hL.at 0 rfl) dX5_write_73 ?_
        obtain ⟨hO27, hV⟩ := hV
        refine z_call_i hG (zrunVD hC hG hO27 (mX12_constructor l P G p0 hV) kVX5_92 rfl rfl rfl ⟨(by show 1 + 1 ≤ rf + 1; omega), (by show 8 + (1 + 11) + 12 ≤ rl + 30; omega)⟩ ⟨hB.1, hB.2⟩ rfl ⟨(zcs_c rfl (zcs_c rfl (zcs_c rfl zcs_0))), (Nat.le_of_ble_eq_true rfl)⟩ hL.1.1 dX5_write_75) ?_
        rintro x28 _ _ _ hx28 ⟨rfl, hV⟩ hG
        refine z_iconst hC dX5_write_78 ?_
        obtain ⟨k29, n29, hB, hV⟩ := hV
        refine z_call_i hG (zrunV (ci := 5) hC hG (Nat.le_of_ble_eq_true rfl) (Nat.le_of_ble_eq_true rfl) (zobj hG rfl (Nat.le_of_ble_eq_true rfl) (Nat.le_of_ble_eq_true rfl)) (mX5_put l P G k29 n29 1 (inR_lit rfl) p1 hp1 x28 hx28 0 (inR_lit rfl) hV) kVX5_69 rfl rfl rfl ⟨(by show 1 + 1 ≤ rf + 1; omega), (by show 8 + (6 + 11) + 68 ≤ rl + 30; omega)⟩ ⟨hB.1, hB.2⟩ rfl ⟨zcs_0, (Nat.le_of_ble_eq_true rfl)⟩ hL.1.1 dX5_write_79) ?_
        rintro x30 G9 _ _ hx30 hV hG
        refine z_pop hC rfl dX5_write_82 ?_
        refine z_aload_n hC zvr_a rfl (hL.at 1 rfl) dX5_write_83 ?_
        refine z_aload hC zvr_r (hL.at 0 rfl) dX5_write_84 ?_
        obtain ⟨hO31, hV⟩ := hV
        refine z_call_r hG (zrunVD hC hG hO31 (mX12_fields l P G9 p0 hV) kVX5_95 rfl rfl rfl ⟨(by show 1 + 1 ≤ rf + 1; omega), (by show 8 + (1 + 11) + 12 ≤ rl + 30; omega)⟩ ⟨hB.1, hB.2⟩ rfl ⟨(zcs_c rfl zcs_0), (Nat.le_of_ble_eq_true rfl)⟩ hL.1.1 dX5_write_86) ?_
        rintro x32 _ _ _  ⟨rfl, hV⟩ hG
        refine z_iload_n hC rfl (hL.at 3 rfl) dX5_write_89 ?_
        refine z_iconst hC dX5_write_90 ?_
        obtain ⟨k33, n33, hB, hV⟩ := hV
        refine z_call_v hG (zrunV (ci := 5) hC hG (Nat.le_of_ble_eq_true rfl) (Nat.le_of_ble_eq_true rfl) (zobj hG rfl (Nat.le_of_ble_eq_true rfl) (Nat.le_of_ble_eq_true rfl)) (ihX5_writeAll G9 k33 n33 x32 p1 hp1 0 (inR_lit rfl) hV) kVX5_99 rfl rfl rfl ⟨Nat.le_refl _, (by show 8 + (5 + 11) + rl ≤ rl + 30; omega)⟩ ⟨hB.1, hB.2⟩ rfl ⟨zcs_0, (Nat.le_of_ble_eq_true rfl)⟩ hL.1.1 dX5_write_91) ?_
        rintro G10 _ _ hV hG
        refine z_goto (tgt := 230) hC dX5_write_94 (by decide) ?_
        exact hJ230 G10 ((0 + k29) + k33) ((0 + n29) + n33) hB hV _ _ _ hG (hL.sub [] rfl)
    · intro hV
      refine z_aload_n hC zvr_r rfl (hL.at 1 rfl) dX5_write_31 ?_
      refine z_cast hC hG (ci := 11) (Nat.le_of_ble_eq_true rfl) (Nat.le_of_ble_eq_true rfl) q1580 hV dX5_write_32 (fun hV => ?_)
      refine z_astore (lv' := [(4, zrv P p0), (0, .ref (zA P 4 0 0)), (1, zrv P p0), (2, .int (zI p1))]) hC zvr_r hL (by decide) rfl dX5_write_35 (fun ls hL => ?_)
      refine z_aload_n hC zvr_a rfl (hL.at 1 rfl) dX5_write_37 ?_
      refine z_iconst hC dX5_write_38 ?_
      refine z_iload_n hC rfl (hL.at 3 rfl) dX5_write_39 ?_
      refine z_aload hC zvr_r (hL.at 0 rfl) dX5_write_40 ?_
      obtain ⟨hO34, hV⟩ := hV
      refine z_call_i hG (zrunVD hC hG hO34 (mX11_from l P G p0 hV) kVX5_84 rfl rfl rfl ⟨(by show 1 + 1 ≤ rf + 1; omega), (by show 8 + (1 + 11) + 12 ≤ rl + 30; omega)⟩ ⟨hB.1, hB.2⟩ rfl ⟨(zcs_c rfl (zcs_c rfl (zcs_c rfl zcs_0))), (Nat.le_of_ble_eq_true rfl)⟩ hL.1.1 dX5_write_42) ?_
      rintro x35 _ _ _ hx35 ⟨rfl, hV⟩ hG
      refine z_aload hC zvr_r (hL.at 0 rfl) dX5_write_45 ?_
      obtain ⟨hO36, hV⟩ := hV
      refine z_call_i hG (zrunVD hC hG hO36 (mX11_to l P G p0 hV) kVX5_87 rfl rfl rfl ⟨(by show 1 + 1 ≤ rf + 1; omega), (by show 8 + (1 + 11) + 12 ≤ rl + 30; omega)⟩ ⟨hB.1, hB.2⟩ rfl ⟨(zcs_c rfl (zcs_c rfl (zcs_c rfl (zcs_c rfl zcs_0)))), (Nat.le_of_ble_eq_true rfl)⟩ hL.1.1 dX5_write_47) ?_
      rintro x37 _ _ _ hx37 ⟨rfl, hV⟩ hG
      obtain ⟨k38, n38, hB, hV⟩ := hV
      refine z_call_i hG (zrunV (ci := 5) hC hG (Nat.le_of_ble_eq_true rfl) (Nat.le_of_ble_eq_true rfl) (zobj hG rfl (Nat.le_of_ble_eq_true rfl) (Nat.le_of_ble_eq_true rfl)) (mX5_put l P G k38 n38 0 (inR_lit rfl) p1 hp1 x35 hx35 x37 hx37 hV) kVX5_69 rfl rfl rfl ⟨(by show 1 + 1 ≤ rf + 1; omega), (by show 8 + (6 + 11) + 68 ≤ rl + 30; omega)⟩ ⟨hB.1, hB.2⟩ rfl ⟨zcs_0, (Nat.le_of_ble_eq_true rfl)⟩ hL.1.1 dX5_write_50) ?_
      rintro x39 G11 _ _ hx39 hV hG
      refine z_pop hC rfl dX5_write_53 ?_
      refine z_goto (tgt := 230) hC dX5_write_54 (by decide) ?_
      exact hJ230 G11 (0 + k38) (0 + n38) hB hV _ _ _ hG (hL.sub [] rfl)
  · intro hV
    refine z_aload_n hC zvr_r rfl (hL.at 1 rfl) dX5_write_7 ?_
    refine z_cast hC hG (ci := 10) (Nat.le_of_ble_eq_true rfl) (Nat.le_of_ble_eq_true rfl) q1578 hV dX5_write_8 (fun hV => ?_)
    refine z_astore_n (lv' := [(3, zrv P p0), (0, .ref (zA P 4 0 0)), (1, zrv P p0), (2, .int (zI p1))]) hC zvr_r rfl hL (by decide) rfl dX5_write_11 (fun ls hL => ?_)
    refine z_aload_n hC zvr_a rfl (hL.at 1 rfl) dX5_write_12 ?_
    refine z_aload_n hC zvr_r rfl (hL.at 0 rfl) dX5_write_13 ?_
    obtain ⟨hO40, hV⟩ := hV
    refine z_call_r hG (zrunVD hC hG hO40 (mX10_of l P G p0 hV) kVX5_79 rfl rfl rfl ⟨(by show 1 + 1 ≤ rf + 1; omega), (by show 8 + (1 + 11) + 12 ≤ rl + 30; omega)⟩ ⟨hB.1, hB.2⟩ rfl ⟨(zcs_c rfl zcs_0), (Nat.le_of_ble_eq_true rfl)⟩ hL.1.1 dX5_write_14) ?_
    rintro x41 _ _ _  ⟨rfl, hV⟩ hG
    refine z_iload_n hC rfl (hL.at 3 rfl) dX5_write_17 ?_
    obtain ⟨k42, n42, hB, hV⟩ := hV
    refine z_call_v hG (zrunV (ci := 5) hC hG (Nat.le_of_ble_eq_true rfl) (Nat.le_of_ble_eq_true rfl) (zobj hG rfl (Nat.le_of_ble_eq_true rfl) (Nat.le_of_ble_eq_true rfl)) (ihX5_write G k42 n42 x41 p1 hp1 hV) kVX5_65 rfl rfl rfl ⟨Nat.le_refl _, (by show 8 + (11 + 11) + rl ≤ rl + 30; omega)⟩ ⟨hB.1, hB.2⟩ rfl ⟨zcs_0, (Nat.le_of_ble_eq_true rfl)⟩ hL.1.1 dX5_write_18) ?_
    rintro G12 _ _ hV hG
    refine z_goto (tgt := 230) hC dX5_write_21 (by decide) ?_
    exact hJ230 G12 (0 + k42) (0 + n42) hB hV _ _ _ hG (hL.sub [] rfl)
def bX5_writeAll (wX5_write : ZR → Int → Nat → Nat → ZG → (ZG → Prop) → Prop) (wX5_writeAll : ZR → Int → Int → Nat → Nat → ZG → (ZG → Prop) → Prop) (wX5_writeList : ZR → Int → Nat → Nat → ZG → (ZG → Prop) → Prop) (p0 : ZR) (p1 : Int) (p2 : Int) (mc ms : Nat) (G : ZG) (Q : ZG → Prop) : Prop := zl4 (fun (P3 : Int → ZG → Nat → Nat → Prop) (a3_4 : Int) (K3 : ZG) (kc ks : Nat) => zeN K3 p0 fun (x1 : Int) => zbr (x1 ≤ a3_4) (Q K3) (zeR K3 p0 a3_4 fun (x2 : ZR) => vX1_field p1 (w32 (p2 + a3_4)) fun (x3 : Int) => ∃ k4 n4 : Nat, (kc + k4 ≤ mc ∧ ks + n4 ≤ ms) ∧ wX5_write x2 x3 k4 n4 K3 fun (G1 : ZG) => zlt1 (w32 (a3_4 + 1)) fun (x5 : Int) => P3 x5 G1 (kc + k4) (ks + n4))) 0 G 0 0
set_option maxHeartbeats 4000000 in
theorem sX5_writeAll (l : Launch) (P : ZP) {rf rl : Nat} (hrf : 48 ≤ rf) (hrl : 1243 ≤ rl) (wX5_write : ZR → Int → Nat → Nat → ZG → (ZG → Prop) → Prop) (wX5_writeAll : ZR → Int → Int → Nat → Nat → ZG → (ZG → Prop) → Prop) (wX5_writeList : ZR → Int → Nat → Nat → ZG → (ZG → Prop) → Prop) (ihX5_write : ∀ (G : ZG) (mc ms : Nat) (p0 : ZR) (p1 : Int) (hp1 : inR p1) {Q : ZG → Prop}, wX5_write p0 p1 mc ms G Q → Met l yX5_write (ws_ yX5_write cX5_write 11 none) ({ frames := rf, cells := mc, slots := ms, locals := rl } : Room) (zPc P G [.ref (zA P 4 0 0), zrv P p0, .int (zI p1)]) (zQv P Q) mc ms (zAr P)) (ihX5_writeAll : ∀ (G : ZG) (mc ms : Nat) (p0 : ZR) (p1 : Int) (hp1 : inR p1) (p2 : Int) (hp2 : inR p2) {Q : ZG → Prop}, wX5_writeAll p0 p1 p2 mc ms G Q → Met l yX5_writeAll (ws_ yX5_writeAll cX5_writeAll 5 none) ({ frames := rf, cells := mc, slots := ms, locals := rl } : Room) (zPc P G [.ref (zA P 4 0 0), zrv P p0, .int (zI p1), .int (zI p2)]) (zQv P Q) mc ms (zAr P)) (ihX5_writeList : ∀ (G : ZG) (mc ms : Nat) (p0 : ZR) (p1 : Int) (hp1 : inR p1) {Q : ZG → Prop}, wX5_writeList p0 p1 mc ms G Q → Met l yX5_writeList (ws_ yX5_writeList cX5_writeList 7 none) ({ frames := rf, cells := mc, slots := ms, locals := rl } : Room) (zPc P G [.ref (zA P 4 0 0), zrv P p0, .int (zI p1)]) (zQv P Q) mc ms (zAr P)) (G : ZG) (mc ms : Nat) (p0 : ZR) (p1 : Int) (hp1 : inR p1) (p2 : Int) (hp2 : inR p2) {Q : ZG → Prop} (hV : bX5_writeAll wX5_write wX5_writeAll wX5_writeList p0 p1 p2 mc ms G Q) : Met l yX5_writeAll (ws_ yX5_writeAll cX5_writeAll 5 none) ({ frames := rf + 1, cells := mc, slots := ms, locals := rl + 30 } : Room) (zPc P G [.ref (zA P 4 0 0), zrv P p0, .int (zI p1), .int (zI p2)]) (zQv P Q) mc ms (zAr P) := by
  refine zMet RX5 (plainFor_of_name (by decide)) rfl (zcs_c rfl (zcs_c (zrv_cat _ _) (zcs_c rfl (zcs_c rfl zcs_0)))) (Nat.le_of_ble_eq_true rfl) (fun p e s m args below meth c ls hC hr hk hn hG hL => ?_)
  unfold bX5_writeAll at hV
  have hB : 0 ≤ mc ∧ 0 ≤ ms := ⟨Nat.zero_le _, Nat.zero_le _⟩
  refine z_iconst hC dX5_writeAll_0 ?_
  refine z_istore (lv' := [(4, .int (zI 0)), (0, .ref (zA P 4 0 0)), (1, zrv P p0), (2, .int (zI p1)), (3, .int (zI p2))]) hC hL (by decide) rfl dX5_writeAll_1 (fun ls hL => ?_)
  refine zl4_use hV (fun (a3_4 : Int) (K3 : ZG) (kc ks : Nat) => inR a3_4 → (kc ≤ mc ∧ ks ≤ ms) → ∀ (H : Heap) (locs : List Loc), zS P s K3 H locs → ∀ (ls : Array Slot), zL ls 5 [(0, .ref (zA P 4 0 0)), (1, zrv P p0), (2, .int (zI p1)), (3, .int (zI p2)), (4, .int (zI a3_4))] → W p l e ({ frames := rf + 1, cells := mc, slots := ms, locals := rl + 30 } : Room) s m args below meth c H locs kc ks (MQ below (zQv P Q) args s mc ms (zAr P)) (F0 m 3 ls [])) ?_ (inR_lit rfl) hB _ _ hG _ (hL.sub [1, 2, 3, 4, 0] rfl)
  intro P3 a3_4 K3 kc ks hP3 hV ha3_4 hB H locs hG ls hL
  refine z_iload hC (hL.at 4 rfl) dX5_writeAll_3 ?_
  refine z_aload_n hC zvr_r rfl (hL.at 1 rfl) dX5_writeAll_5 ?_
  refine z_alenD hC hG hV dX5_writeAll_6 ?_
  intro x1 hx1 hV
  refine z_icmp_ge (tgt := 32) hC ha3_4 hx1 hV dX5_writeAll_7 (by decide) ?_ ?_
  · intro hV
    exact z_vret hC hG hr hk hV hB.1 hB.2 dX5_writeAll_32
  · intro hV
    refine z_aload_n hC zvr_a rfl (hL.at 0 rfl) dX5_writeAll_10 ?_
    refine z_aload_n hC zvr_r rfl (hL.at 1 rfl) dX5_writeAll_11 ?_
    refine z_iload hC (hL.at 4 rfl) dX5_writeAll_12 ?_
    refine z_erld hC hG ha3_4 hV dX5_writeAll_14 ?_
    intro x2 hV
    refine z_iload_n hC rfl (hL.at 2 rfl) dX5_writeAll_15 ?_
    refine z_iload_n hC rfl (hL.at 3 rfl) dX5_writeAll_16 ?_
    refine z_iload hC (hL.at 4 rfl) dX5_writeAll_17 ?_
    refine z_iadd hC dX5_writeAll_19 ?_
    refine z_call_i hG (zrunSN hC hG (mX1_field l P K3 p1 hp1 (w32 (p2 + a3_4)) (inR_w _) hV) kSX5_127 rfl rfl rfl ⟨(by show 1 + 1 ≤ rf + 1; omega), (by show 8 + (2 + 11) + 12 ≤ rl + 30; omega)⟩ ⟨hB.1, hB.2⟩ rfl ⟨(zcs_c (zrv_cat _ _) (zcs_c rfl zcs_0)), (Nat.le_of_ble_eq_true rfl)⟩ hL.1.1 dX5_writeAll_20) ?_
    rintro x3 _ _ _ hx3 ⟨rfl, hV⟩ hG
    obtain ⟨k4, n4, hB, hV⟩ := hV
    refine z_call_v hG (zrunV (ci := 5) hC hG (Nat.le_of_ble_eq_true rfl) (Nat.le_of_ble_eq_true rfl) (zobj hG rfl (Nat.le_of_ble_eq_true rfl) (Nat.le_of_ble_eq_true rfl)) (ihX5_write K3 k4 n4 x2 x3 hx3 hV) kVX5_65 rfl rfl rfl ⟨Nat.le_refl _, (by show 8 + (11 + 11) + rl ≤ rl + 30; omega)⟩ ⟨hB.1, hB.2⟩ rfl ⟨zcs_0, (Nat.le_of_ble_eq_true rfl)⟩ hL.1.1 dX5_writeAll_23) ?_
    rintro G1 _ _ hV hG
    refine z_iincV (fun x5 => [(4, .int (zI x5)), (0, .ref (zA P 4 0 0)), (1, zrv P p0), (2, .int (zI p1)), (3, .int (zI p2))]) hC hL (k := 4) rfl (by decide) (fun _ => rfl) hV dX5_writeAll_26 ?_
    intro x5 hx5 hV ls hL
    refine z_goto (tgt := 3) hC dX5_writeAll_29 (by decide) ?_
    exact hP3 x5 G1 (kc + k4) (ks + n4) hV hx5 hB _ _ hG _ (hL.sub [1, 2, 3, 4, 0] rfl)
def bX5_writeList (wX5_write : ZR → Int → Nat → Nat → ZG → (ZG → Prop) → Prop) (wX5_writeAll : ZR → Int → Int → Nat → Nat → ZG → (ZG → Prop) → Prop) (wX5_writeList : ZR → Int → Nat → Nat → ZG → (ZG → Prop) → Prop) (p0 : ZR) (p1 : Int) (mc ms : Nat) (G : ZG) (Q : ZG → Prop) : Prop := zisO G p0 15 ∧ vX15_items p0 G fun (x2 : ZR) => zeN G x2 fun (x3 : Int) => zisO G p0 15 ∧ vX15_rest p0 G fun (x5 : Int) => zjn (fun (z22_4 : Int) => ∃ k6 n6 : Nat, (0 + k6 ≤ mc ∧ 0 + n6 ≤ ms) ∧ vX5_put 2 p1 x3 z22_4 k6 n6 G fun (x7 : Int) (G1 : ZG) => zisO G1 p0 15 ∧ vX15_rest p0 G1 fun (x9 : Int) => zbr (x9 = 2) (((0 + k6) + 1 ≤ mc ∧ (0 + n6) + 4 ≤ ms) ∧ znI0 G1 0 4 4 fun (x10 : ZR) (G2 : ZG) => zl4 (fun (P53 : Int → ZG → Nat → Nat → Prop) (a53_5 : Int) (K53 : ZG) (kc ks : Nat) => zbr (3 < a53_5) (zl4 (fun (P121 : Int → ZG → Nat → Nat → Prop) (a121_5 : Int) (K121 : ZG) (kc ks : Nat) => zbr (3 < a121_5) (Q K121) (zgU K121 4 0 fun (x11 : ZR) => zeI K121 x10 a121_5 fun (x12 : Int) => zgF K121 4 1 fun (x13 : Int) => zeS K121 x11 (w32 (x12 + 4)) x13 fun (G3 : ZG) => zlt1 (w32 (a121_5 + 1)) fun (x14 : Int) => P121 x14 G3 kc ks)) x3 K53 kc ks) (∃ k15 n15 : Nat, (kc + k15 ≤ mc ∧ ks + n15 ≤ ms) ∧ vX5_put 7 p1 a53_5 0 k15 n15 K53 fun (x16 : Int) (G4 : ZG) => zisO G4 p0 15 ∧ vX15_items p0 G4 fun (x18 : ZR) => zisO G4 p0 15 ∧ vX15_beginning p0 a53_5 G4 fun (x20 : Int) => ∃ k21 n21 : Nat, ((kc + k15) + k21 ≤ mc ∧ (ks + n15) + n21 ≤ ms) ∧ wX5_writeAll x18 p1 x20 k21 n21 G4 fun (G5 : ZG) => ∃ k22 n22 : Nat, (((kc + k15) + k21) + k22 ≤ mc ∧ ((ks + n15) + n21) + n22 ≤ ms) ∧ vX5_put 5 0 0 0 k22 n22 G5 fun (x23 : Int) (G6 : ZG) => zeS G6 x10 a53_5 x23 fun (G7 : ZG) => zgU G7 4 0 fun (x24 : ZR) => zgF G7 4 1 fun (x25 : Int) => zeS G7 x24 (w32 (x16 + 4)) x25 fun (G8 : ZG) => zlt1 (w32 (a53_5 + 1)) fun (x26 : Int) => P53 x26 G8 (((kc + k15) + k21) + k22) (((ks + n15) + n21) + n22))) x3 G2 ((0 + k6) + 1) ((0 + n6) + 4)) (zisO G1 p0 15 ∧ vX15_items p0 G1 fun (x28 : ZR) => ∃ k29 n29 : Nat, ((0 + k6) + k29 ≤ mc ∧ (0 + n6) + n29 ≤ ms) ∧ wX5_writeAll x28 p1 0 k29 n29 G1 fun (G9 : ZG) => Q G9)) fun J22 => zbr (x5 ≠ 0) (J22 3) (J22 x3)
set_option maxHeartbeats 4000000 in
theorem sX5_writeList (l : Launch) (P : ZP) {rf rl : Nat} (hrf : 48 ≤ rf) (hrl : 1243 ≤ rl) (wX5_write : ZR → Int → Nat → Nat → ZG → (ZG → Prop) → Prop) (wX5_writeAll : ZR → Int → Int → Nat → Nat → ZG → (ZG → Prop) → Prop) (wX5_writeList : ZR → Int → Nat → Nat → ZG → (ZG → Prop) → Prop) (ihX5_write : ∀ (G : ZG) (mc ms : Nat) (p0 : ZR) (p1 : Int) (hp1 : inR p1) {Q : ZG → Prop}, wX5_write p0 p1 mc ms G Q → Met l yX5_write (ws_ yX5_write cX5_write 11 none) ({ frames := rf, cells := mc, slots := ms, locals := rl } : Room) (zPc P G [.ref (zA P 4 0 0), zrv P p0, .int (zI p1)]) (zQv P Q) mc ms (zAr P)) (ihX5_writeAll : ∀ (G : ZG) (mc ms : Nat) (p0 : ZR) (p1 : Int) (hp1 : inR p1) (p2 : Int) (hp2 : inR p2) {Q : ZG → Prop}, wX5_writeAll p0 p1 p2 mc ms G Q → Met l yX5_writeAll (ws_ yX5_writeAll cX5_writeAll 5 none) ({ frames := rf, cells := mc, slots := ms, locals := rl } : Room) (zPc P G [.ref (zA P 4 0 0), zrv P p0, .int (zI p1), .int (zI p2)]) (zQv P Q) mc ms (zAr P)) (ihX5_writeList : ∀ (G : ZG) (mc ms : Nat) (p0 : ZR) (p1 : Int) (hp1 : inR p1) {Q : ZG → Prop}, wX5_writeList p0 p1 mc ms G Q → Met l yX5_writeList (ws_ yX5_writeList cX5_writeList 7 none) ({ frames := rf, cells := mc, slots := ms, locals := rl } : Room) (zPc P G [.ref (zA P 4 0 0), zrv P p0, .int (zI p1)]) (zQv P Q) mc ms (zAr P)) (G : ZG) (mc ms : Nat) (p0 : ZR) (p1 : Int) (hp1 : inR p1) {Q : ZG → Prop} (hV : bX5_writeList wX5_write wX5_writeAll wX5_writeList p0 p1 mc ms G Q) : Met l yX5_writeList (ws_ yX5_writeList cX5_writeList 7 none) ({ frames := rf + 1, cells := mc, slots := ms, locals := rl + 30 } : Room) (zPc P G [.ref (zA P 4 0 0), zrv P p0, .int (zI p1)]) (zQv P Q) mc ms (zAr P) := by
  refine zMet RX5 (plainFor_of_name (by decide)) rfl (zcs_c rfl (zcs_c (zrv_cat _ _) (zcs_c rfl zcs_0))) (Nat.le_of_ble_eq_true rfl) (fun p e s m args below meth c ls hC hr hk hn hG hL => ?_)
  unfold bX5_writeList at hV
  have hB : 0 ≤ mc ∧ 0 ≤ ms := ⟨Nat.zero_le _, Nat.zero_le _⟩
  refine z_aload_n hC zvr_r rfl (hL.at 1 rfl) dX5_writeList_0 ?_
  obtain ⟨hO1, hV⟩ := hV
  refine z_call_r hG (zrunVD hC hG hO1 (mX15_items l P G p0 hV) kVX5_131 rfl rfl rfl ⟨(by show 1 + 1 ≤ rf + 1; omega), (by show 8 + (1 + 11) + 12 ≤ rl + 30; omega)⟩ ⟨hB.1, hB.2⟩ rfl ⟨zcs_0, (Nat.le_of_ble_eq_true rfl)⟩ hL.1.1 dX5_writeList_1) ?_
  rintro x2 _ _ _  ⟨rfl, hV⟩ hG
  refine z_alenD hC hG hV dX5_writeList_4 ?_
  intro x3 hx3 hV
  refine z_istore_n (lv' := [(3, .int (zI x3)), (0, .ref (zA P 4 0 0)), (1, zrv P p0), (2, .int (zI p1))]) hC rfl hL (by decide) rfl dX5_writeList_5 (fun ls hL => ?_)
  refine z_aload_n hC zvr_a rfl (hL.at 1 rfl) dX5_writeList_6 ?_
  refine z_iconst hC dX5_writeList_7 ?_
  refine z_iload_n hC rfl (hL.at 3 rfl) dX5_writeList_8 ?_
  refine z_iload_n hC rfl (hL.at 0 rfl) dX5_writeList_9 ?_
  refine z_aload_n hC zvr_r rfl (hL.at 2 rfl) dX5_writeList_10 ?_
  obtain ⟨hO4, hV⟩ := hV
  refine z_call_i hG (zrunVD hC hG hO4 (mX15_rest l P G p0 hV) kVX5_134 rfl rfl rfl ⟨(by show 1 + 1 ≤ rf + 1; omega), (by show 8 + (1 + 11) + 12 ≤ rl + 30; omega)⟩ ⟨hB.1, hB.2⟩ rfl ⟨(zcs_c rfl (zcs_c rfl (zcs_c rfl (zcs_c rfl zcs_0)))), (Nat.le_of_ble_eq_true rfl)⟩ hL.1.1 dX5_writeList_11) ?_
  rintro x5 _ _ _ hx5 ⟨rfl, hV⟩ hG
  obtain ⟨J22, eJ22, hV⟩ := zjn_abs hV
  have hJ22 : ∀ {H : Heap} {locs : List Loc}, zS P s G H locs → ∀ (z22_4 : Int), inR z22_4 → J22 z22_4 → ∀ (ls : Array Slot), zL ls 7 [(0, .ref (zA P 4 0 0)), (1, zrv P p0), (2, .int (zI p1)), (3, .int (zI x3))] → W p l e ({ frames := rf + 1, cells := mc, slots := ms, locals := rl + 30 } : Room) s m args below meth c H locs 0 0 (MQ below (zQv P Q) args s mc ms (zAr P)) (F0 m 22 ls [.int (zI z22_4), .int (zI x3), .int (zI p1), .int (zI 2), .ref (zA P 4 0 0)]) := by
    intro H locs hG z22_4 hz22_4 hV ls hL
    rw [eJ22] at hV
    obtain ⟨k6, n6, hB, hV⟩ := hV
    refine z_call_i hG (zrunV (ci := 5) hC hG (Nat.le_of_ble_eq_true rfl) (Nat.le_of_ble_eq_true rfl) (zobj hG rfl (Nat.le_of_ble_eq_true rfl) (Nat.le_of_ble_eq_true rfl)) (mX5_put l P G k6 n6 2 (inR_lit rfl) p1 hp1 x3 hx3 z22_4 hz22_4 hV) kVX5_69 rfl rfl rfl ⟨(by show 1 + 1 ≤ rf + 1; omega), (by show 8 + (6 + 11) + 68 ≤ rl + 30; omega)⟩ ⟨hB.1, hB.2⟩ rfl ⟨zcs_0, (Nat.le_of_ble_eq_true rfl)⟩ hL.1.1 dX5_writeList_22) ?_
    rintro x7 G1 _ _ hx7 hV hG
    refine z_pop hC rfl dX5_writeList_25 ?_
    refine z_aload_n hC zvr_r rfl (hL.at 1 rfl) dX5_writeList_26 ?_
    obtain ⟨hO8, hV⟩ := hV
    refine z_call_i hG (zrunVD hC hG hO8 (mX15_rest l P G1 p0 hV) kVX5_134 rfl rfl rfl ⟨(by show 1 + 1 ≤ rf + 1; omega), (by show 8 + (1 + 11) + 12 ≤ rl + 30; omega)⟩ ⟨hB.1, hB.2⟩ rfl ⟨zcs_0, (Nat.le_of_ble_eq_true rfl)⟩ hL.1.1 dX5_writeList_27) ?_
    rintro x9 _ _ _ hx9 ⟨rfl, hV⟩ hG
    refine z_iconst hC dX5_writeList_30 ?_
    refine z_icmp_eq (tgt := 45) hC hx9 (inR_lit rfl) hV dX5_writeList_31 (by decide) ?_ ?_
    · intro hV
      refine z_iconst hC dX5_writeList_45 ?_
      obtain ⟨hB, hV⟩ := hV
      refine z_newI (t := 0) hC hG rfl (Nat.le_of_ble_eq_true rfl) q223 (inR_lit rfl) (Nat.le_of_ble_eq_true rfl) hV hB.1 hB.2 dX5_writeList_46 ?_
      intro x10 G2 _ hG hV
      refine z_astore (lv' := [(4, zrv P x10), (0, .ref (zA P 4 0 0)), (1, zrv P p0), (2, .int (zI p1)), (3, .int (zI x3))]) hC zvr_r hL (by decide) rfl dX5_writeList_48 (fun ls hL => ?_)
      refine z_iload_n hC rfl (hL.at 4 rfl) dX5_writeList_50 ?_
      refine z_istore (lv' := [(5, .int (zI x3)), (4, zrv P x10), (0, .ref (zA P 4 0 0)), (1, zrv P p0), (2, .int (zI p1)), (3, .int (zI x3))]) hC hL (by decide) rfl dX5_writeList_51 (fun ls hL => ?_)
      refine zl4_use hV (fun (a53_5 : Int) (K53 : ZG) (kc ks : Nat) => inR a53_5 → (kc ≤ mc ∧ ks ≤ ms) → ∀ (H : Heap) (locs : List Loc), zS P s K53 H locs → ∀ (ls : Array Slot), zL ls 7 [(0, .ref (zA P 4 0 0)), (1, zrv P p0), (2, .int (zI p1)), (3, .int (zI x3)), (4, zrv P x10), (5, .int (zI a53_5))] → W p l e ({ frames := rf + 1, cells := mc, slots := ms, locals := rl + 30 } : Room) s m args below meth c H locs kc ks (MQ below (zQv P Q) args s mc ms (zAr P)) (F0 m 53 ls [])) ?_ hx3 hB _ _ hG _ (hL.sub [2, 3, 4, 5, 1, 0] rfl)
      intro P53 a53_5 K53 kc ks hP53 hV ha53_5 hB H locs hG ls hL
      refine z_iload hC (hL.at 5 rfl) dX5_writeList_53 ?_
      refine z_iconst hC dX5_writeList_55 ?_
      refine z_icmp_gt (tgt := 118) hC ha53_5 (inR_lit rfl) hV dX5_writeList_56 (by decide) ?_ ?_
      · intro hV
        refine z_iload_n hC rfl (hL.at 3 rfl) dX5_writeList_118 ?_
        refine z_istore (lv' := [(5, .int (zI x3)), (0, .ref (zA P 4 0 0)), (1, zrv P p0), (2, .int (zI p1)), (3, .int (zI x3)), (4, zrv P x10)]) hC hL (by decide) rfl dX5_writeList_119 (fun ls hL => ?_)
        refine zl4_use hV (fun (a121_5 : Int) (K121 : ZG) (kc ks : Nat) => inR a121_5 → (kc ≤ mc ∧ ks ≤ ms) → ∀ (H : Heap) (locs : List Loc), zS P s K121 H locs → ∀ (ls : Array Slot), zL ls 7 [(0, .ref (zA P 4 0 0)), (4, zrv P x10), (5, .int (zI a121_5))] → W p l e ({ frames := rf + 1, cells := mc, slots := ms, locals := rl + 30 } : Room) s m args below meth c H locs kc ks (MQ below (zQv P Q) args s mc ms (zAr P)) (F0 m 121 ls [])) ?_ hx3 hB _ _ hG _ (hL.sub [1, 5, 0] rfl)
        intro P121 a121_5 K121 kc ks hP121 hV ha121_5 hB H locs hG ls hL
        refine z_iload hC (hL.at 2 rfl) dX5_writeList_121 ?_
        refine z_iconst hC dX5_writeList_123 ?_
        refine z_icmp_gt (tgt := 149) hC ha121_5 (inR_lit rfl) hV dX5_writeList_124 (by decide) ?_ ?_
        · intro hV
          exact z_vret hC hG hr hk hV hB.1 hB.2 dX5_writeList_149
        · intro hV
          refine z_aload_n hC zvr_a rfl (hL.at 0 rfl) dX5_writeList_127 ?_
          refine z_getU hC hG kFX5_15_5 rfl rfl hV dX5_writeList_128 ?_
          intro x11 hV
          refine z_aload hC zvr_r (hL.at 1 rfl) dX5_writeList_131 ?_
          refine z_iload hC (hL.at 2 rfl) dX5_writeList_133 ?_
          refine z_eald hC hG ha121_5 hV dX5_writeList_135 ?_
          intro x12 hx12 hV
          refine z_iconst hC dX5_writeList_136 ?_
          refine z_iadd hC dX5_writeList_137 ?_
          refine z_aload_n hC zvr_a rfl (hL.at 0 rfl) dX5_writeList_138 ?_
          refine z_getF hC hG kFX5_19_5 rfl rfl hV dX5_writeList_139 ?_
          intro x13 hx13 hV
          refine z_east hC hG (inR_w _) hx13 hV dX5_writeList_142 ?_
          intro G3 _ _ hG hV
          refine z_iincV (fun x14 => [(5, .int (zI x14)), (0, .ref (zA P 4 0 0)), (4, zrv P x10)]) hC hL (k := 2) rfl (by decide) (fun _ => rfl) hV dX5_writeList_143 ?_
          intro x14 hx14 hV ls hL
          refine z_goto (tgt := 121) hC dX5_writeList_146 (by decide) ?_
          exact hP121 x14 G3 kc ks hV hx14 hB _ _ hG _ (hL.sub [1, 2, 0] rfl)
      · intro hV
        refine z_aload_n hC zvr_a rfl (hL.at 0 rfl) dX5_writeList_59 ?_
        refine z_bipush hC rfl dX5_writeList_60 ?_
        refine z_iload_n hC rfl (hL.at 2 rfl) dX5_writeList_62 ?_
        refine z_iload hC (hL.at 5 rfl) dX5_writeList_63 ?_
        refine z_iconst hC dX5_writeList_65 ?_
        obtain ⟨k15, n15, hB, hV⟩ := hV
        refine z_call_i hG (zrunV (ci := 5) hC hG (Nat.le_of_ble_eq_true rfl) (Nat.le_of_ble_eq_true rfl) (zobj hG rfl (Nat.le_of_ble_eq_true rfl) (Nat.le_of_ble_eq_true rfl)) (mX5_put l P K53 k15 n15 7 (inR_lit rfl) p1 hp1 a53_5 ha53_5 0 (inR_lit rfl) hV) kVX5_69 rfl rfl rfl ⟨(by show 1 + 1 ≤ rf + 1; omega), (by show 8 + (6 + 11) + 68 ≤ rl + 30; omega)⟩ ⟨hB.1, hB.2⟩ rfl ⟨zcs_0, (Nat.le_of_ble_eq_true rfl)⟩ hL.1.1 dX5_writeList_66) ?_
        rintro x16 G4 _ _ hx16 hV hG
        refine z_istore (lv' := [(6, .int (zI x16)), (0, .ref (zA P 4 0 0)), (1, zrv P p0), (2, .int (zI p1)), (3, .int (zI x3)), (4, zrv P x10), (5, .int (zI a53_5))]) hC hL (by decide) rfl dX5_writeList_69 (fun ls hL => ?_)
        refine z_aload_n hC zvr_a rfl (hL.at 1 rfl) dX5_writeList_71 ?_
        refine z_aload_n hC zvr_r rfl (hL.at 2 rfl) dX5_writeList_72 ?_
        obtain ⟨hO17, hV⟩ := hV
        refine z_call_r hG (zrunVD hC hG hO17 (mX15_items l P G4 p0 hV) kVX5_131 rfl rfl rfl ⟨(by show 1 + 1 ≤ rf + 1; omega), (by show 8 + (1 + 11) + 12 ≤ rl + 30; omega)⟩ ⟨hB.1, hB.2⟩ rfl ⟨(zcs_c rfl zcs_0), (Nat.le_of_ble_eq_true rfl)⟩ hL.1.1 dX5_writeList_73) ?_
        rintro x18 _ _ _  ⟨rfl, hV⟩ hG
        refine z_iload_n hC rfl (hL.at 3 rfl) dX5_writeList_76 ?_
        refine z_aload_n hC zvr_r rfl (hL.at 2 rfl) dX5_writeList_77 ?_
        refine z_iload hC (hL.at 6 rfl) dX5_writeList_78 ?_
        obtain ⟨hO19, hV⟩ := hV
        refine z_call_i hG (zrunVD hC hG hO19 (mX15_beginning l P G4 p0 a53_5 ha53_5 hV) kVX5_137 rfl rfl rfl ⟨(by show 1 + 1 ≤ rf + 1; omega), (by show 8 + (2 + 11) + 12 ≤ rl + 30; omega)⟩ ⟨hB.1, hB.2⟩ rfl ⟨(zcs_c rfl (zcs_c (zrv_cat _ _) (zcs_c rfl zcs_0))), (Nat.le_of_ble_eq_true rfl)⟩ hL.1.1 dX5_writeList_80) ?_
        rintro x20 _ _ _ hx20 ⟨rfl, hV⟩ hG
        obtain ⟨k21, n21, hB, hV⟩ := hV
        refine z_call_v hG (zrunV (ci := 5) hC hG (Nat.le_of_ble_eq_true rfl) (Nat.le_of_ble_eq_true rfl) (zobj hG rfl (Nat.le_of_ble_eq_true rfl) (Nat.le_of_ble_eq_true rfl)) (ihX5_writeAll G4 k21 n21 x18 p1 hp1 x20 hx20 hV) kVX5_99 rfl rfl rfl ⟨Nat.le_refl _, (by show 8 + (5 + 11) + rl ≤ rl + 30; omega)⟩ ⟨hB.1, hB.2⟩ rfl ⟨zcs_0, (Nat.le_of_ble_eq_true rfl)⟩ hL.1.1 dX5_writeList_83) ?_
        rintro G5 _ _ hV hG
        refine z_aload hC zvr_r (hL.at 5 rfl) dX5_writeList_86 ?_
        refine z_iload hC (hL.at 6 rfl) dX5_writeList_88 ?_
        refine z_aload_n hC zvr_a rfl (hL.at 1 rfl) dX5_writeList_90 ?_
        refine z_iconst hC dX5_writeList_91 ?_
        refine z_iconst hC dX5_writeList_92 ?_
        refine z_iconst hC dX5_writeList_93 ?_
        refine z_iconst hC dX5_writeList_94 ?_
        obtain ⟨k22, n22, hB, hV⟩ := hV
        refine z_call_i hG (zrunV (ci := 5) hC hG (Nat.le_of_ble_eq_true rfl) (Nat.le_of_ble_eq_true rfl) (zobj hG rfl (Nat.le_of_ble_eq_true rfl) (Nat.le_of_ble_eq_true rfl)) (mX5_put l P G5 k22 n22 5 (inR_lit rfl) 0 (inR_lit rfl) 0 (inR_lit rfl) 0 (inR_lit rfl) hV) kVX5_69 rfl rfl rfl ⟨(by show 1 + 1 ≤ rf + 1; omega), (by show 8 + (6 + 11) + 68 ≤ rl + 30; omega)⟩ ⟨hB.1, hB.2⟩ rfl ⟨(zcs_c rfl (zcs_c (zrv_cat _ _) zcs_0)), (Nat.le_of_ble_eq_true rfl)⟩ hL.1.1 dX5_writeList_95) ?_
        rintro x23 G6 _ _ hx23 hV hG
        refine z_east hC hG ha53_5 hx23 hV dX5_writeList_98 ?_
        intro G7 _ _ hG hV
        refine z_aload_n hC zvr_a rfl (hL.at 1 rfl) dX5_writeList_99 ?_
        refine z_getU hC hG kFX5_15_5 rfl rfl hV dX5_writeList_100 ?_
        intro x24 hV
        refine z_iload hC (hL.at 0 rfl) dX5_writeList_103 ?_
        refine z_iconst hC dX5_writeList_105 ?_
        refine z_iadd hC dX5_writeList_106 ?_
        refine z_aload_n hC zvr_a rfl (hL.at 1 rfl) dX5_writeList_107 ?_
        refine z_getF hC hG kFX5_19_5 rfl rfl hV dX5_writeList_108 ?_
        intro x25 hx25 hV
        refine z_east hC hG (inR_w _) hx25 hV dX5_writeList_111 ?_
        intro G8 _ _ hG hV
        refine z_iincV (fun x26 => [(5, .int (zI x26)), (6, .int (zI x16)), (0, .ref (zA P 4 0 0)), (1, zrv P p0), (2, .int (zI p1)), (3, .int (zI x3)), (4, zrv P x10)]) hC hL (k := 6) rfl (by decide) (fun _ => rfl) hV dX5_writeList_112 ?_
        intro x26 hx26 hV ls hL
        refine z_goto (tgt := 53) hC dX5_writeList_115 (by decide) ?_
        exact hP53 x26 G8 (((kc + k15) + k21) + k22) (((ks + n15) + n21) + n22) hV hx26 hB _ _ hG _ (hL.sub [2, 3, 4, 5, 6, 0] rfl)
    · intro hV
      refine z_aload_n hC zvr_a rfl (hL.at 0 rfl) dX5_writeList_34 ?_
      refine z_aload_n hC zvr_r rfl (hL.at 1 rfl) dX5_writeList_35 ?_
      obtain ⟨hO27, hV⟩ := hV
      refine z_call_r hG (zrunVD hC hG hO27 (mX15_items l P G1 p0 hV) kVX5_131 rfl rfl rfl ⟨(by show 1 + 1 ≤ rf + 1; omega), (by show 8 + (1 + 11) + 12 ≤ rl + 30; omega)⟩ ⟨hB.1, hB.2⟩ rfl ⟨(zcs_c rfl zcs_0), (Nat.le_of_ble_eq_true rfl)⟩ hL.1.1 dX5_writeList_36) ?_
      rintro x28 _ _ _  ⟨rfl, hV⟩ hG
      refine z_iload_n hC rfl (hL.at 2 rfl) dX5_writeList_39 ?_
      refine z_iconst hC dX5_writeList_40 ?_
      obtain ⟨k29, n29, hB, hV⟩ := hV
      refine z_call_v hG (zrunV (ci := 5) hC hG (Nat.le_of_ble_eq_true rfl) (Nat.le_of_ble_eq_true rfl) (zobj hG rfl (Nat.le_of_ble_eq_true rfl) (Nat.le_of_ble_eq_true rfl)) (ihX5_writeAll G1 k29 n29 x28 p1 hp1 0 (inR_lit rfl) hV) kVX5_99 rfl rfl rfl ⟨Nat.le_refl _, (by show 8 + (5 + 11) + rl ≤ rl + 30; omega)⟩ ⟨hB.1, hB.2⟩ rfl ⟨zcs_0, (Nat.le_of_ble_eq_true rfl)⟩ hL.1.1 dX5_writeList_41) ?_
      rintro G9 _ _ hV hG
      exact z_vret hC hG hr hk hV hB.1 hB.2 dX5_writeList_44
  refine z_if_ne (tgt := 21) hC hx5 hV dX5_writeList_14 (by decide) ?_ ?_
  · intro hV
    refine z_iconst hC dX5_writeList_21 ?_
    exact hJ22 hG 3 (inR_lit rfl) hV _ (hL.sub [1, 2, 3, 0] rfl)
  · intro hV
    refine z_iload_n hC rfl (hL.at 0 rfl) dX5_writeList_17 ?_
    refine z_goto (tgt := 22) hC dX5_writeList_18 (by decide) ?_
    exact hJ22 hG x3 hx3 hV _ (hL.sub [1, 2, 3, 0] rfl)
abbrev rgWrite (d : Nat) (mc ms : Nat) : Room := { frames := 48 + d, cells := mc, slots := ms, locals := 1243 + 30 * d }
def vggWrite : Nat → (ZR → Int → Nat → Nat → ZG → (ZG → Prop) → Prop) × (ZR → Int → Int → Nat → Nat → ZG → (ZG → Prop) → Prop) × (ZR → Int → Nat → Nat → ZG → (ZG → Prop) → Prop)
  | 0 => (fun _ _ _ _ _ _ => False, fun _ _ _ _ _ _ _ => False, fun _ _ _ _ _ _ => False)
  | d + 1 => (bX5_write ((vggWrite d).1) ((vggWrite d).2.1) ((vggWrite d).2.2), bX5_writeAll ((vggWrite d).1) ((vggWrite d).2.1) ((vggWrite d).2.2), bX5_writeList ((vggWrite d).1) ((vggWrite d).2.1) ((vggWrite d).2.2))
def vX5_write (d : Nat) (p0 : ZR) (p1 : Int) (mc ms : Nat) (G : ZG) (Q : ZG → Prop) : Prop := (vggWrite d).1 p0 p1 mc ms G Q
def vX5_writeAll (d : Nat) (p0 : ZR) (p1 : Int) (p2 : Int) (mc ms : Nat) (G : ZG) (Q : ZG → Prop) : Prop := (vggWrite d).2.1 p0 p1 p2 mc ms G Q
def vX5_writeList (d : Nat) (p0 : ZR) (p1 : Int) (mc ms : Nat) (G : ZG) (Q : ZG → Prop) : Prop := (vggWrite d).2.2 p0 p1 mc ms G Q
theorem vX5_write_s (d : Nat) (p0 : ZR) (p1 : Int) (mc ms : Nat) (G : ZG) (Q : ZG → Prop) : vX5_write (d + 1) p0 p1 mc ms G Q = bX5_write (vX5_write d) (vX5_writeAll d) (vX5_writeList d) p0 p1 mc ms G Q := rfl
theorem vX5_writeAll_s (d : Nat) (p0 : ZR) (p1 : Int) (p2 : Int) (mc ms : Nat) (G : ZG) (Q : ZG → Prop) : vX5_writeAll (d + 1) p0 p1 p2 mc ms G Q = bX5_writeAll (vX5_write d) (vX5_writeAll d) (vX5_writeList d) p0 p1 p2 mc ms G Q := rfl
theorem vX5_writeList_s (d : Nat) (p0 : ZR) (p1 : Int) (mc ms : Nat) (G : ZG) (Q : ZG → Prop) : vX5_writeList (d + 1) p0 p1 mc ms G Q = bX5_writeList (vX5_write d) (vX5_writeAll d) (vX5_writeList d) p0 p1 mc ms G Q := rfl
theorem ggWrite (l : Launch) (P : ZP) : ∀ d : Nat, (∀ (G : ZG) (mc ms : Nat) (p0 : ZR) (p1 : Int) (hp1 : inR p1) {Q : ZG → Prop}, vX5_write d p0 p1 mc ms G Q → Met l yX5_write (ws_ yX5_write cX5_write 11 none) (rgWrite d mc ms) (zPc P G [.ref (zA P 4 0 0), zrv P p0, .int (zI p1)]) (zQv P Q) mc ms (zAr P)) ∧ (∀ (G : ZG) (mc ms : Nat) (p0 : ZR) (p1 : Int) (hp1 : inR p1) (p2 : Int) (hp2 : inR p2) {Q : ZG → Prop}, vX5_writeAll d p0 p1 p2 mc ms G Q → Met l yX5_writeAll (ws_ yX5_writeAll cX5_writeAll 5 none) (rgWrite d mc ms) (zPc P G [.ref (zA P 4 0 0), zrv P p0, .int (zI p1), .int (zI p2)]) (zQv P Q) mc ms (zAr P)) ∧ (∀ (G : ZG) (mc ms : Nat) (p0 : ZR) (p1 : Int) (hp1 : inR p1) {Q : ZG → Prop}, vX5_writeList d p0 p1 mc ms G Q → Met l yX5_writeList (ws_ yX5_writeList cX5_writeList 7 none) (rgWrite d mc ms) (zPc P G [.ref (zA P 4 0 0), zrv P p0, .int (zI p1)]) (zQv P Q) mc ms (zAr P)) := by
  intro d
  induction d with
  | zero => exact ⟨fun G mc ms p0 p1 hp1 Q h => False.elim h, fun G mc ms p0 p1 hp1 p2 hp2 Q h => False.elim h, fun G mc ms p0 p1 hp1 Q h => False.elim h⟩
  | succ d ih =>
    have e : 1243 + 30 * (d + 1) = 1243 + 30 * d + 30 := by omega
    exact ⟨fun G mc ms p0 p1 hp1 Q h => (by
      simp only [rgWrite, e]
      exact sX5_write l P (rf := 48 + d) (rl := 1243 + 30 * d) (by omega) (by omega) ((vggWrite d).1) ((vggWrite d).2.1) ((vggWrite d).2.2) (ih.1) (ih.2.1) (ih.2.2) _ mc ms p0 p1 hp1 h), fun G mc ms p0 p1 hp1 p2 hp2 Q h => (by
      simp only [rgWrite, e]
      exact sX5_writeAll l P (rf := 48 + d) (rl := 1243 + 30 * d) (by omega) (by omega) ((vggWrite d).1) ((vggWrite d).2.1) ((vggWrite d).2.2) (ih.1) (ih.2.1) (ih.2.2) _ mc ms p0 p1 hp1 p2 hp2 h), fun G mc ms p0 p1 hp1 Q h => (by
      simp only [rgWrite, e]
      exact sX5_writeList l P (rf := 48 + d) (rl := 1243 + 30 * d) (by omega) (by omega) ((vggWrite d).1) ((vggWrite d).2.1) ((vggWrite d).2.2) (ih.1) (ih.2.1) (ih.2.2) _ mc ms p0 p1 hp1 h)⟩
theorem mX5_write (l : Launch) (P : ZP) (d : Nat) (G : ZG) (mc ms : Nat) (p0 : ZR) (p1 : Int) (hp1 : inR p1) {Q : ZG → Prop} (hV : vX5_write d p0 p1 mc ms G Q) : Met l yX5_write (ws_ yX5_write cX5_write 11 none) (rgWrite d mc ms) (zPc P G [.ref (zA P 4 0 0), zrv P p0, .int (zI p1)]) (zQv P Q) mc ms (zAr P) := (ggWrite l P d).1 G mc ms p0 p1 hp1 hV
theorem mX5_writeAll (l : Launch) (P : ZP) (d : Nat) (G : ZG) (mc ms : Nat) (p0 : ZR) (p1 : Int) (hp1 : inR p1) (p2 : Int) (hp2 : inR p2) {Q : ZG → Prop} (hV : vX5_writeAll d p0 p1 p2 mc ms G Q) : Met l yX5_writeAll (ws_ yX5_writeAll cX5_writeAll 5 none) (rgWrite d mc ms) (zPc P G [.ref (zA P 4 0 0), zrv P p0, .int (zI p1), .int (zI p2)]) (zQv P Q) mc ms (zAr P) := (ggWrite l P d).2.1 G mc ms p0 p1 hp1 p2 hp2 hV
theorem mX5_writeList (l : Launch) (P : ZP) (d : Nat) (G : ZG) (mc ms : Nat) (p0 : ZR) (p1 : Int) (hp1 : inR p1) {Q : ZG → Prop} (hV : vX5_writeList d p0 p1 mc ms G Q) : Met l yX5_writeList (ws_ yX5_writeList cX5_writeList 7 none) (rgWrite d mc ms) (zPc P G [.ref (zA P 4 0 0), zrv P p0, .int (zI p1)]) (zQv P Q) mc ms (zAr P) := (ggWrite l P d).2.2 G mc ms p0 p1 hp1 hV
abbrev rX5_refresh (mc ms : Nat) : Room := { frames := 139, cells := mc, slots := ms, locals := 3973 }
def vX5_refresh (mc ms : Nat) (G : ZG) (Q : ZG → Prop) : Prop := zgF G 4 2 fun (x1 : Int) => zjn (fun (H128 : ZG) (kc ks : Nat) => Q H128) fun J128 => zbr (x1 ≠ 0) (J128 G 0 0) (zpF G 4 2 1 fun (G1 : ZG) => zpF G1 4 1 0 fun (G2 : ZG) => zl4 (fun (P19 : Int → ZG → Nat → Nat → Prop) (a19_1 : Int) (K19 : ZG) (kc ks : Nat) => vJ2_size 10 K19 fun (x2 : Int) => zbr (x2 ≤ a19_1) (∃ k3 n3 : Nat, (kc + k3 ≤ mc ∧ ks + n3 ≤ ms) ∧ vX5_put 8 0 0 0 k3 n3 K19 fun (x4 : Int) (G3 : ZG) => J128 G3 (kc + k3) (ks + n3)) (zgF K19 4 1 fun (x5 : Int) => zl4 (fun (P40 : Int → ZG → Nat → Nat → Prop) (a40_3 : Int) (K40 : ZG) (kc ks : Nat) => zgF K40 0 5 fun (x6 : Int) => zbr (x6 ≤ a40_3) (∃ k7 n7 : Nat, (kc + k7 ≤ mc ∧ ks + n7 ≤ ms) ∧ vX5_put 6 a19_1 0 0 k7 n7 K40 fun (x8 : Int) (G4 : ZG) => zgF G4 4 1 fun (x9 : Int) => vX5_lead x5 x9 G4 fun (G5 : ZG) => zlt1 (w32 (a19_1 + 1)) fun (x10 : Int) => P19 x10 G5 (kc + k7) (ks + n7)) (vJ2_get 10 a19_1 K40 fun (x11 : ZR) => zca K40 x11 16 ∧ zdR K40 x11 16 0 fun (x12 : ZR) => zeI K40 x12 a40_3 fun (x13 : Int) => vX1_told x13 K40 fun (x14 : ZR) => zisO K40 x14 9 ∧ vX9_pattern x14 K40 fun (x16 : ZR) => ∃ k17 n17 : Nat, (kc + k17 ≤ mc ∧ ks + n17 ≤ ms) ∧ vX5_write 90 x16 (w32 (a40_3 + 1)) k17 n17 K40 fun (G6 : ZG) => zlt1 (w32 (a40_3 + 1)) fun (x18 : Int) => P40 x18 G6 (kc + k17) (ks + n17))) 0 K19 kc ks)) 0 G2 0 0)
set_option maxHeartbeats 4000000 in
theorem mX5_refresh (l : Launch) (P : ZP) (G : ZG) (mc ms : Nat) {Q : ZG → Prop} (hV : vX5_refresh mc ms G Q) : Met l yX5_refresh (ws_ yX5_refresh cX5_refresh 4 none) (rX5_refresh mc ms) (zPc P G [.ref (zA P 4 0 0)]) (zQv P Q) mc ms (zAr P) := by
  refine zMet RX5 (plainFor_of_name (by decide)) rfl (zcs_c rfl zcs_0) (Nat.le_of_ble_eq_true rfl) (fun p e s m args below meth c ls hC hr hk hn hG hL => ?_)
  unfold vX5_refresh at hV
  have hB : 0 ≤ mc ∧ 0 ≤ ms := ⟨Nat.zero_le _, Nat.zero_le _⟩
  refine z_aload_n hC zvr_a rfl (hL.at 0 rfl) dX5_refresh_0 ?_
  refine z_getF hC hG kFX5_29_5 rfl rfl hV dX5_refresh_1 ?_
  intro x1 hx1 hV
  obtain ⟨J128, eJ128, hV⟩ := zjn_abs hV
  have hJ128 : ∀ (H128 : ZG) (kc ks : Nat), (kc ≤ mc ∧ ks ≤ ms) → J128 H128 kc ks → ∀ (H : Heap) (locs : List Loc) (ls : Array Slot), zS P s H128 H locs → zL ls 4 [] → W p l e (rX5_refresh mc ms) s m args below meth c H locs kc ks (MQ below (zQv P Q) args s mc ms (zAr P)) (F0 m 128 ls []) := by
    intro H128 kc ks hB hV H locs ls hG hL
    rw [eJ128] at hV
    exact z_vret hC hG hr hk hV hB.1 hB.2 dX5_refresh_128
  refine z_if_ne (tgt := 128) hC hx1 hV dX5_refresh_4 (by decide) ?_ ?_
  · intro hV
    exact hJ128 G 0 0 hB hV _ _ _ hG (hL.sub [] rfl)
  · intro hV
    refine z_aload_n hC zvr_a rfl (hL.at 0 rfl) dX5_refresh_7 ?_
    refine z_iconst hC dX5_refresh_8 ?_
    refine z_putF hC hG kFX5_29_5 rfl rfl rfl rfl nk_5_2 (inR_lit rfl) (Or.inr ⟨rfl, (Or.inr rfl)⟩) hV dX5_refresh_9 ?_
    intro G1 _ _ hG hV
    refine z_aload_n hC zvr_a rfl (hL.at 0 rfl) dX5_refresh_12 ?_
    refine z_iconst hC dX5_refresh_13 ?_
    refine z_putF hC hG kFX5_19_5 rfl rfl rfl rfl nk_5_1 (inR_lit rfl) (Or.inl rfl) hV dX5_refresh_14 ?_
    intro G2 _ _ hG hV
    refine z_iconst hC dX5_refresh_17 ?_
    refine z_istore_n (lv' := [(1, .int (zI 0)), (0, .ref (zA P 4 0 0))]) hC rfl hL (by decide) rfl dX5_refresh_18 (fun ls hL => ?_)
    refine zl4_use hV (fun (a19_1 : Int) (K19 : ZG) (kc ks : Nat) => inR a19_1 → (kc ≤ mc ∧ ks ≤ ms) → ∀ (H : Heap) (locs : List Loc), zS P s K19 H locs → ∀ (ls : Array Slot), zL ls 4 [(0, .ref (zA P 4 0 0)), (1, .int (zI a19_1))] → W p l e (rX5_refresh mc ms) s m args below meth c H locs kc ks (MQ below (zQv P Q) args s mc ms (zAr P)) (F0 m 19 ls [])) ?_ (inR_lit rfl) hB _ _ hG _ (hL.sub [1, 0] rfl)
    intro P19 a19_1 K19 kc ks hP19 hV ha19_1 hB H locs hG ls hL
    refine z_iload_n hC rfl (hL.at 1 rfl) dX5_refresh_19 ?_
    refine z_aload_n hC zvr_a rfl (hL.at 0 rfl) dX5_refresh_20 ?_
    refine z_getO hC hG 0 kFX5_3_5 rfl rfl dX5_refresh_21 ?_
    refine z_getO hC hG 10 kFX5_33_1 rfl rfl dX5_refresh_24 ?_
    refine z_call_i hG (zrunV (ci := 2) hC hG (Nat.le_of_ble_eq_true rfl) (Nat.le_of_ble_eq_true rfl) (zobj hG rfl (Nat.le_of_ble_eq_true rfl) (Nat.le_of_ble_eq_true rfl)) (mJ2_size l P K19 10 rfl hV) kVX5_37 rfl rfl rfl ⟨(Nat.le_of_ble_eq_true rfl), (Nat.le_of_ble_eq_true rfl)⟩ ⟨hB.1, hB.2⟩ rfl ⟨(zcs_c rfl zcs_0), (Nat.le_of_ble_eq_true rfl)⟩ hL.1.1 dX5_refresh_27) ?_
    rintro x2 _ _ _ hx2 ⟨rfl, hV⟩ hG
    refine z_icmp_ge (tgt := 118) hC ha19_1 hx2 hV dX5_refresh_30 (by decide) ?_ ?_
    · intro hV
      refine z_aload_n hC zvr_a rfl (hL.at 0 rfl) dX5_refresh_118 ?_
      refine z_bipush hC rfl dX5_refresh_119 ?_
      refine z_iconst hC dX5_refresh_121 ?_
      refine z_iconst hC dX5_refresh_122 ?_
      refine z_iconst hC dX5_refresh_123 ?_
      obtain ⟨k3, n3, hB, hV⟩ := hV
      refine z_call_i hG (zrunV (ci := 5) hC hG (Nat.le_of_ble_eq_true rfl) (Nat.le_of_ble_eq_true rfl) (zobj hG rfl (Nat.le_of_ble_eq_true rfl) (Nat.le_of_ble_eq_true rfl)) (mX5_put l P K19 k3 n3 8 (inR_lit rfl) 0 (inR_lit rfl) 0 (inR_lit rfl) 0 (inR_lit rfl) hV) kVX5_69 rfl rfl rfl ⟨(Nat.le_of_ble_eq_true rfl), (Nat.le_of_ble_eq_true rfl)⟩ ⟨hB.1, hB.2⟩ rfl ⟨zcs_0, (Nat.le_of_ble_eq_true rfl)⟩ hL.1.1 dX5_refresh_124) ?_
      rintro x4 G3 _ _ hx4 hV hG
      refine z_pop hC rfl dX5_refresh_127 ?_
      exact hJ128 G3 (kc + k3) (ks + n3) hB hV _ _ _ hG (hL.sub [] rfl)
    · intro hV
      refine z_aload_n hC zvr_a rfl (hL.at 0 rfl) dX5_refresh_33 ?_
      refine z_getF hC hG kFX5_19_5 rfl rfl hV dX5_refresh_34 ?_
      intro x5 hx5 hV
      refine z_istore_n (lv' := [(2, .int (zI x5)), (0, .ref (zA P 4 0 0)), (1, .int (zI a19_1))]) hC rfl hL (by decide) rfl dX5_refresh_37 (fun ls hL => ?_)
      refine z_iconst hC dX5_refresh_38 ?_
      refine z_istore_n (lv' := [(3, .int (zI 0)), (2, .int (zI x5)), (0, .ref (zA P 4 0 0)), (1, .int (zI a19_1))]) hC rfl hL (by decide) rfl dX5_refresh_39 (fun ls hL => ?_)
      refine zl4_use hV (fun (a40_3 : Int) (K40 : ZG) (kc ks : Nat) => inR a40_3 → (kc ≤ mc ∧ ks ≤ ms) → ∀ (H : Heap) (locs : List Loc), zS P s K40 H locs → ∀ (ls : Array Slot), zL ls 4 [(0, .ref (zA P 4 0 0)), (1, .int (zI a19_1)), (2, .int (zI x5)), (3, .int (zI a40_3))] → W p l e (rX5_refresh mc ms) s m args below meth c H locs kc ks (MQ below (zQv P Q) args s mc ms (zAr P)) (F0 m 40 ls [])) ?_ (inR_lit rfl) hB _ _ hG _ (hL.sub [2, 3, 1, 0] rfl)
      intro P40 a40_3 K40 kc ks hP40 hV ha40_3 hB H locs hG ls hL
      refine z_iload_n hC rfl (hL.at 3 rfl) dX5_refresh_40 ?_
      refine z_aload_n hC zvr_a rfl (hL.at 0 rfl) dX5_refresh_41 ?_
      refine z_getO hC hG 0 kFX5_3_5 rfl rfl dX5_refresh_42 ?_
      refine z_getF hC hG kFX5_43_1 rfl rfl hV dX5_refresh_45 ?_
      intro x6 hx6 hV
      refine z_icmp_ge (tgt := 93) hC ha40_3 hx6 hV dX5_refresh_48 (by decide) ?_ ?_
      · intro hV
        refine z_aload_n hC zvr_a rfl (hL.at 0 rfl) dX5_refresh_93 ?_
        refine z_bipush hC rfl dX5_refresh_94 ?_
        refine z_iload_n hC rfl (hL.at 1 rfl) dX5_refresh_96 ?_
        refine z_iconst hC dX5_refresh_97 ?_
        refine z_iconst hC dX5_refresh_98 ?_
        obtain ⟨k7, n7, hB, hV⟩ := hV
        refine z_call_i hG (zrunV (ci := 5) hC hG (Nat.le_of_ble_eq_true rfl) (Nat.le_of_ble_eq_true rfl) (zobj hG rfl (Nat.le_of_ble_eq_true rfl) (Nat.le_of_ble_eq_true rfl)) (mX5_put l P K40 k7 n7 6 (inR_lit rfl) a19_1 ha19_1 0 (inR_lit rfl) 0 (inR_lit rfl) hV) kVX5_69 rfl rfl rfl ⟨(Nat.le_of_ble_eq_true rfl), (Nat.le_of_ble_eq_true rfl)⟩ ⟨hB.1, hB.2⟩ rfl ⟨zcs_0, (Nat.le_of_ble_eq_true rfl)⟩ hL.1.1 dX5_refresh_99) ?_
        rintro x8 G4 _ _ hx8 hV hG
        refine z_pop hC rfl dX5_refresh_102 ?_
        refine z_aload_n hC zvr_a rfl (hL.at 0 rfl) dX5_refresh_103 ?_
        refine z_iload_n hC rfl (hL.at 2 rfl) dX5_refresh_104 ?_
        refine z_aload_n hC zvr_a rfl (hL.at 0 rfl) dX5_refresh_105 ?_
        refine z_getF hC hG kFX5_19_5 rfl rfl hV dX5_refresh_106 ?_
        intro x9 hx9 hV
        refine z_call_v hG (zrunV (ci := 5) hC hG (Nat.le_of_ble_eq_true rfl) (Nat.le_of_ble_eq_true rfl) (zobj hG rfl (Nat.le_of_ble_eq_true rfl) (Nat.le_of_ble_eq_true rfl)) (mX5_lead l P G4 x5 hx5 x9 hx9 hV) kVX5_73 rfl rfl rfl ⟨(Nat.le_of_ble_eq_true rfl), (Nat.le_of_ble_eq_true rfl)⟩ ⟨hB.1, hB.2⟩ rfl ⟨zcs_0, (Nat.le_of_ble_eq_true rfl)⟩ hL.1.1 dX5_refresh_109) ?_
        rintro G5 _ _ hV hG
        refine z_iincV (fun x10 => [(1, .int (zI x10)), (0, .ref (zA P 4 0 0)), (2, .int (zI x5)), (3, .int (zI a40_3))]) hC hL (k := 1) rfl (by decide) (fun _ => rfl) hV dX5_refresh_112 ?_
        intro x10 hx10 hV ls hL
        refine z_goto (tgt := 19) hC dX5_refresh_115 (by decide) ?_
        exact hP19 x10 G5 (kc + k7) (ks + n7) hV hx10 hB _ _ hG _ (hL.sub [1, 0] rfl)
      · intro hV
        refine z_aload_n hC zvr_a rfl (hL.at 0 rfl) dX5_refresh_51 ?_
        refine z_aload_n hC zvr_a rfl (hL.at 0 rfl) dX5_refresh_52 ?_
        refine z_getO hC hG 0 kFX5_3_5 rfl rfl dX5_refresh_53 ?_
        refine z_aload_n hC zvr_a rfl (hL.at 0 rfl) dX5_refresh_56 ?_
        refine z_getO hC hG 0 kFX5_3_5 rfl rfl dX5_refresh_57 ?_
        refine z_getO hC hG 10 kFX5_33_1 rfl rfl dX5_refresh_60 ?_
        refine z_iload_n hC rfl (hL.at 1 rfl) dX5_refresh_63 ?_
        refine z_call_r hG (zrunV (ci := 2) hC hG (Nat.le_of_ble_eq_true rfl) (Nat.le_of_ble_eq_true rfl) (zobj hG rfl (Nat.le_of_ble_eq_true rfl) (Nat.le_of_ble_eq_true rfl)) (mJ2_get l P K40 10 rfl a19_1 ha19_1 hV) kVX5_46 rfl rfl rfl ⟨(Nat.le_of_ble_eq_true rfl), (Nat.le_of_ble_eq_true rfl)⟩ ⟨hB.1, hB.2⟩ rfl ⟨(zcs_c rfl (zcs_c rfl zcs_0)), (Nat.le_of_ble_eq_true rfl)⟩ hL.1.1 dX5_refresh_64) ?_
        rintro x11 _ _ _  ⟨rfl, hV⟩ hG
        refine z_cast hC hG (ci := 16) (Nat.le_of_ble_eq_true rfl) (Nat.le_of_ble_eq_true rfl) q1571 hV dX5_refresh_67 (fun hV => ?_)
        refine z_dR hC hG kFX5_52_16 hV dX5_refresh_70 ?_
        intro x12 hV
        refine z_iload_n hC rfl (hL.at 3 rfl) dX5_refresh_73 ?_
        refine z_eald hC hG ha40_3 hV dX5_refresh_74 ?_
        intro x13 hx13 hV
        refine z_call_r hG (zrunVN (ci := 1) hC hG (Nat.le_of_ble_eq_true rfl) (Nat.le_of_ble_eq_true rfl) (zobj hG rfl (Nat.le_of_ble_eq_true rfl) (Nat.le_of_ble_eq_true rfl)) (mX1_told l P K40 x13 hx13 hV) kVX5_55 rfl rfl rfl ⟨(Nat.le_of_ble_eq_true rfl), (Nat.le_of_ble_eq_true rfl)⟩ ⟨hB.1, hB.2⟩ rfl ⟨(zcs_c rfl zcs_0), (Nat.le_of_ble_eq_true rfl)⟩ hL.1.1 dX5_refresh_75) ?_
        rintro x14 _ _ _  ⟨rfl, hV⟩ hG
        obtain ⟨hO15, hV⟩ := hV
        refine z_call_r hG (zrunVD hC hG hO15 (mX9_pattern l P K40 x14 hV) kVX5_59 rfl rfl rfl ⟨(Nat.le_of_ble_eq_true rfl), (Nat.le_of_ble_eq_true rfl)⟩ ⟨hB.1, hB.2⟩ rfl ⟨(zcs_c rfl zcs_0), (Nat.le_of_ble_eq_true rfl)⟩ hL.1.1 dX5_refresh_78) ?_
        rintro x16 _ _ _  ⟨rfl, hV⟩ hG
        refine z_iload_n hC rfl (hL.at 3 rfl) dX5_refresh_81 ?_
        refine z_iconst hC dX5_refresh_82 ?_
        refine z_iadd hC dX5_refresh_83 ?_
        obtain ⟨k17, n17, hB, hV⟩ := hV
        refine z_call_v hG (zrunV (ci := 5) hC hG (Nat.le_of_ble_eq_true rfl) (Nat.le_of_ble_eq_true rfl) (zobj hG rfl (Nat.le_of_ble_eq_true rfl) (Nat.le_of_ble_eq_true rfl)) (mX5_write l P 90 K40 k17 n17 x16 (w32 (a40_3 + 1)) (inR_w _) hV) kVX5_65 rfl rfl rfl ⟨(Nat.le_of_ble_eq_true rfl), (Nat.le_of_ble_eq_true rfl)⟩ ⟨hB.1, hB.2⟩ rfl ⟨zcs_0, (Nat.le_of_ble_eq_true rfl)⟩ hL.1.1 dX5_refresh_84) ?_
        rintro G6 _ _ hV hG
        refine z_iincV (fun x18 => [(3, .int (zI x18)), (0, .ref (zA P 4 0 0)), (1, .int (zI a19_1)), (2, .int (zI x5))]) hC hL (k := 3) rfl (by decide) (fun _ => rfl) hV dX5_refresh_87 ?_
        intro x18 hx18 hV ls hL
        refine z_goto (tgt := 40) hC dX5_refresh_90 (by decide) ?_
        exact hP40 x18 G6 (kc + k17) (ks + n17) hV hx18 hB _ _ hG _ (hL.sub [1, 2, 3, 0] rfl)
abbrev rX5_go : Room := { frames := 143, cells := 0, slots := 0, locals := 3454 }
def vX5_go (G : ZG) (Q : Int → ZG → Prop) : Prop := zl3 (fun (P4 : Int → Int → ZG → Prop) (a4_1 : Int) (a4_2 : Int) (K4 : ZG) => zgU K4 4 0 fun (x1 : ZR) => zeI K4 x1 a4_1 fun (x2 : Int) => zbr (x2 = 8) (Q (-1) K4) (zgU K4 4 0 fun (x3 : ZR) => zeI K4 x3 (w32 (a4_1 + 1)) fun (x4 : Int) => zgU K4 4 0 fun (x5 : ZR) => zeI K4 x5 (w32 (a4_1 + 2)) fun (x6 : Int) => zgU K4 4 0 fun (x7 : ZR) => zeI K4 x7 a4_1 fun (x8 : Int) => zjn (fun (y309_2 : Int) (y309_5 : Int) (H309 : ZG) => zjn (fun (z328_0 : Int) => P4 z328_0 y309_2 H309) fun J328 => zbr (y309_5 = 0) (zgU H309 4 0 fun (x9 : ZR) => zeI H309 x9 (w32 (a4_1 + 4)) fun (x10 : Int) => J328 x10) (J328 (w32 (a4_1 + 5)))) fun J309 => zbr (x8 = 0) (vX3_at x4 4 K4 fun (x11 : Int) (G1 : ZG) => zgU G1 4 0 fun (x12 : ZR) => zeI G1 x12 (w32 (a4_1 + 3)) fun (x13 : Int) => vX1_inRange x11 x6 x13 fun (x14 : Int) => J309 a4_2 x14 G1) (zbr (x8 = 1) (vX3_at x4 0 K4 fun (x15 : Int) (G2 : ZG) => zjn (fun (z140_0 : Int) => J309 a4_2 z140_0 G2) fun J140 => zbr (x15 ≠ x6) (J140 0) (J140 1)) (zbr (x8 = 2) (vX3_at x4 5 K4 fun (x16 : Int) (G3 : ZG) => zgU G3 4 0 fun (x17 : ZR) => zeI G3 x17 (w32 (a4_1 + 3)) fun (x18 : Int) => vX1_inRange x16 x6 x18 fun (x19 : Int) => J309 a4_2 x19 G3) (zbr (x8 = 3) (vX3_seen x4 x6 K4 fun (x20 : Int) (G4 : ZG) => J309 x20 1 G4) (zbr (x8 = 4) (zgF K4 1 7 fun (x21 : Int) => zpF K4 1 7 (w32 (x21 + 1)) fun (G5 : ZG) => vX1_inRange a4_2 x4 x6 fun (x22 : Int) => J309 a4_2 x22 G5) (zbr (x8 = 6) (vJ2_get 10 x4 K4 fun (x23 : ZR) => zca K4 x23 16 ∧ vX3_binds x23 K4 fun (G6 : ZG) => vJ2_get 10 x4 G6 fun (x24 : ZR) => zca G6 x24 16 ∧ vX3_guards x24 G6 fun (x25 : Int) => zbr (x25 = 1) (J309 a4_2 0 G6) (Q x4 G6)) (zbr (x8 = 7) (vX3_look x4 K4 fun (x26 : Int) => zjn (fun (z241_0 : Int) => J309 a4_2 z241_0 K4) fun J241 => zbr (x26 ≠ x6) (J241 0) (J241 1)) (J309 a4_2 0 K4))))))))) 0 0 G
set_option maxHeartbeats 4000000 in
theorem mX5_go (l : Launch) (P : ZP) (G : ZG) {Q : Int → ZG → Prop} (hV : vX5_go G Q) : Met l yX5_go (ws_ yX5_go cX5_go 6 (some .int)) rX5_go (zPc P G [.ref (zA P 4 0 0)]) (zQi P Q) 0 0 (zAr P) := by
  refine zMet RX5 (plainFor_of_name (by decide)) rfl (zcs_c rfl zcs_0) (Nat.le_of_ble_eq_true rfl) (fun p e s m args below meth c ls hC hr hk hn hG hL => ?_)
  unfold vX5_go at hV
  refine z_iconst hC dX5_go_0 ?_
  refine z_istore_n (lv' := [(1, .int (zI 0)), (0, .ref (zA P 4 0 0))]) hC rfl hL (by decide) rfl dX5_go_1 (fun ls hL => ?_)
  refine z_iconst hC dX5_go_2 ?_
  refine z_istore_n (lv' := [(2, .int (zI 0)), (1, .int (zI 0)), (0, .ref (zA P 4 0 0))]) hC rfl hL (by decide) rfl dX5_go_3 (fun ls hL => ?_)
  refine zl3_use hV (fun (a4_1 : Int) (a4_2 : Int) (K4 : ZG) => inR a4_1 → inR a4_2 → ∀ (H : Heap) (locs : List Loc), zS P s K4 H locs → ∀ (ls : Array Slot), zL ls 6 [(0, .ref (zA P 4 0 0)), (1, .int (zI a4_1)), (2, .int (zI a4_2))] → W p l e rX5_go s m args below meth c H locs 0 0 (MQ below (zQi P Q) args s 0 0 (zAr P)) (F0 m 4 ls [])) ?_ (inR_lit rfl) (inR_lit rfl) _ _ hG _ (hL.sub [2, 1, 0] rfl)
  intro P4 a4_1 a4_2 K4 hP4 hV ha4_1 ha4_2 H locs hG ls hL
  refine z_aload_n hC zvr_a rfl (hL.at 0 rfl) dX5_go_4 ?_
  refine z_getU hC hG kFX5_15_5 rfl rfl hV dX5_go_5 ?_
  intro x1 hV
  refine z_iload_n hC rfl (hL.at 1 rfl) dX5_go_8 ?_
  refine z_eald hC hG ha4_1 hV dX5_go_9 ?_
  intro x2 hx2 hV
  refine z_bipush hC rfl dX5_go_10 ?_
  refine z_icmp_eq (tgt := 332) hC hx2 (inR_lit rfl) hV dX5_go_12 (by decide) ?_ ?_
  · intro hV
    refine z_iconst hC dX5_go_332 ?_
    exact z_iret hC hG hr hk (inR_lit rfl) hV (Nat.le_of_ble_eq_true rfl) (Nat.le_of_ble_eq_true rfl) dX5_go_333
  · intro hV
    refine z_aload_n hC zvr_a rfl (hL.at 0 rfl) dX5_go_15 ?_
    refine z_getU hC hG kFX5_15_5 rfl rfl hV dX5_go_16 ?_
    intro x3 hV
    refine z_iload_n hC rfl (hL.at 1 rfl) dX5_go_19 ?_
    refine z_iconst hC dX5_go_20 ?_
    refine z_iadd hC dX5_go_21 ?_
    refine z_eald hC hG (inR_w _) hV dX5_go_22 ?_
    intro x4 hx4 hV
    refine z_istore_n (lv' := [(3, .int (zI x4)), (0, .ref (zA P 4 0 0)), (1, .int (zI a4_1)), (2, .int (zI a4_2))]) hC rfl hL (by decide) rfl dX5_go_23 (fun ls hL => ?_)
    refine z_aload_n hC zvr_a rfl (hL.at 1 rfl) dX5_go_24 ?_
    refine z_getU hC hG kFX5_15_5 rfl rfl hV dX5_go_25 ?_
    intro x5 hV
    refine z_iload_n hC rfl (hL.at 2 rfl) dX5_go_28 ?_
    refine z_iconst hC dX5_go_29 ?_
    refine z_iadd hC dX5_go_30 ?_
    refine z_eald hC hG (inR_w _) hV dX5_go_31 ?_
    intro x6 hx6 hV
    refine z_istore (lv' := [(4, .int (zI x6)), (3, .int (zI x4)), (0, .ref (zA P 4 0 0)), (1, .int (zI a4_1)), (2, .int (zI a4_2))]) hC hL (by decide) rfl dX5_go_32 (fun ls hL => ?_)
    refine z_iconst hC dX5_go_34 ?_
    refine z_istore (lv' := [(5, .int (zI 1)), (4, .int (zI x6)), (3, .int (zI x4)), (0, .ref (zA P 4 0 0)), (1, .int (zI a4_1)), (2, .int (zI a4_2))]) hC hL (by decide) rfl dX5_go_35 (fun ls hL => ?_)
    refine z_aload_n hC zvr_a rfl (hL.at 3 rfl) dX5_go_37 ?_
    refine z_getU hC hG kFX5_15_5 rfl rfl hV dX5_go_38 ?_
    intro x7 hV
    refine z_iload_n hC rfl (hL.at 4 rfl) dX5_go_41 ?_
    refine z_eald hC hG ha4_1 hV dX5_go_42 ?_
    intro x8 hx8 hV
    obtain ⟨J309, eJ309, hV⟩ := zjn_abs hV
    have hJ309 : ∀ (y309_2 : Int) (y309_5 : Int) (H309 : ZG), inR y309_2 → (y309_5 = 0 ∨ y309_5 = 1) → J309 y309_2 y309_5 H309 → ∀ (H : Heap) (locs : List Loc) (ls : Array Slot), zS P s H309 H locs → zL ls 6 [(0, .ref (zA P 4 0 0)), (1, .int (zI a4_1)), (2, .int (zI y309_2)), (5, .int (zI y309_5))] → W p l e rX5_go s m args below meth c H locs 0 0 (MQ below (zQi P Q) args s 0 0 (zAr P)) (F0 m 309 ls []) := by
      intro y309_2 y309_5 H309 hy309_2 hy309_5 hV H locs ls hG hL
      rw [eJ309] at hV
      refine z_iload hC (hL.at 3 rfl) dX5_go_309 ?_
      obtain ⟨J328, eJ328, hV⟩ := zjn_abs hV
      have hJ328 : ∀ {H : Heap} {locs : List Loc}, zS P s H309 H locs → ∀ (z328_0 : Int), inR z328_0 → J328 z328_0 → ∀ (ls : Array Slot), zL ls 6 [(0, .ref (zA P 4 0 0)), (2, .int (zI y309_2))] → W p l e rX5_go s m args below meth c H locs 0 0 (MQ below (zQi P Q) args s 0 0 (zAr P)) (F0 m 328 ls [.int (zI z328_0)]) := by
        intro H locs hG z328_0 hz328_0 hV ls hL
        rw [eJ328] at hV
        refine z_istore_n (lv' := [(1, .int (zI z328_0)), (0, .ref (zA P 4 0 0)), (2, .int (zI y309_2))]) hC rfl hL (by decide) rfl dX5_go_328 (fun ls hL => ?_)
        refine z_goto (tgt := 4) hC dX5_go_329 (by decide) ?_
        exact hP4 z328_0 y309_2 H309 hV hz328_0 hy309_2 _ _ hG _ (hL.sub [1, 0, 2] rfl)
      refine z_if_eq (tgt := 320) hC (inR_b hy309_5) hV dX5_go_311 (by decide) ?_ ?_
      · intro hV
        refine z_aload_n hC zvr_a rfl (hL.at 0 rfl) dX5_go_320 ?_
        refine z_getU hC hG kFX5_15_5 rfl rfl hV dX5_go_321 ?_
        intro x9 hV
        refine z_iload_n hC rfl (hL.at 1 rfl) dX5_go_324 ?_
        refine z_iconst hC dX5_go_325 ?_
        refine z_iadd hC dX5_go_326 ?_
        refine z_eald hC hG (inR_w _) hV dX5_go_327 ?_
        intro x10 hx10 hV
        exact hJ328 hG x10 hx10 hV _ (hL.sub [0, 2] rfl)
      · intro hV
        refine z_iload_n hC rfl (hL.at 1 rfl) dX5_go_314 ?_
        refine z_iconst hC dX5_go_315 ?_
        refine z_iadd hC dX5_go_316 ?_
        refine z_goto (tgt := 328) hC dX5_go_317 (by decide) ?_
        exact hJ328 hG (w32 (a4_1 + 5)) (inR_w _) hV _ (hL.sub [0, 2] rfl)
    refine z_case (x := x8) (v := 0) hV (fun hc0 hV => ?_) (fun hd0 hV => ?_)
    · refine z_tsw (tgt := 88) hC hx8 dX5_go_43 (by rw [hc0]; decide) (fun i hi => by simp only [List.size_toArray, List.length_cons, List.length_nil]; omega) ?_
      refine z_aload_n hC zvr_a rfl (hL.at 3 rfl) dX5_go_88 ?_
      refine z_getO hC hG 0 kFX5_3_5 rfl rfl dX5_go_89 ?_
      refine z_getO hC hG 1 kFX5_141_1 rfl rfl dX5_go_92 ?_
      refine z_iload_n hC rfl (hL.at 2 rfl) dX5_go_95 ?_
      refine z_iconst hC dX5_go_96 ?_
      refine z_call_i hG (zrunV (ci := 3) hC hG (Nat.le_of_ble_eq_true rfl) (Nat.le_of_ble_eq_true rfl) (zobj hG rfl (Nat.le_of_ble_eq_true rfl) (Nat.le_of_ble_eq_true rfl)) (mX3_at l P K4 x4 hx4 4 (inR_lit rfl) hV) kVX5_145 rfl rfl rfl ⟨(Nat.le_of_ble_eq_true rfl), (Nat.le_of_ble_eq_true rfl)⟩ ⟨(Nat.le_of_ble_eq_true rfl), (Nat.le_of_ble_eq_true rfl)⟩ rfl ⟨zcs_0, (Nat.le_of_ble_eq_true rfl)⟩ hL.1.1 dX5_go_97) ?_
      rintro x11 G1 _ _ hx11 hV hG
      refine z_iload hC (hL.at 1 rfl) dX5_go_100 ?_
      refine z_aload_n hC zvr_a rfl (hL.at 3 rfl) dX5_go_102 ?_
      refine z_getU hC hG kFX5_15_5 rfl rfl hV dX5_go_103 ?_
      intro x12 hV
      refine z_iload_n hC rfl (hL.at 4 rfl) dX5_go_106 ?_
      refine z_iconst hC dX5_go_107 ?_
      refine z_iadd hC dX5_go_108 ?_
      refine z_eald hC hG (inR_w _) hV dX5_go_109 ?_
      intro x13 hx13 hV
      refine z_call_z hG (zrunSN hC hG (mX1_inRange l P G1 x11 hx11 x6 hx6 x13 hx13 hV) kSX5_150 rfl rfl rfl ⟨(Nat.le_of_ble_eq_true rfl), (Nat.le_of_ble_eq_true rfl)⟩ ⟨(Nat.le_of_ble_eq_true rfl), (Nat.le_of_ble_eq_true rfl)⟩ rfl ⟨zcs_0, (Nat.le_of_ble_eq_true rfl)⟩ hL.1.1 dX5_go_110) ?_
      rintro x14 _ _ _ hx14 ⟨rfl, hV⟩ hG
      refine z_istore (lv' := [(5, .int (zI x14)), (4, .int (zI x6)), (3, .int (zI x4)), (0, .ref (zA P 4 0 0)), (1, .int (zI a4_1)), (2, .int (zI a4_2))]) hC hL (by decide) rfl dX5_go_113 (fun ls hL => ?_)
      refine z_goto (tgt := 309) hC dX5_go_115 (by decide) ?_
      exact hJ309 a4_2 x14 G1 ha4_2 hx14 hV _ _ _ hG (hL.sub [3, 4, 5, 0] rfl)
    ·
      refine z_case (x := x8) (v := 1) hV (fun hc1 hV => ?_) (fun hd1 hV => ?_)
      · refine z_tsw (tgt := 118) hC hx8 dX5_go_43 (by rw [hc1]; decide) (fun i hi => by simp only [List.size_toArray, List.length_cons, List.length_nil]; omega) ?_
        refine z_aload_n hC zvr_a rfl (hL.at 3 rfl) dX5_go_118 ?_
        refine z_getO hC hG 0 kFX5_3_5 rfl rfl dX5_go_119 ?_
        refine z_getO hC hG 1 kFX5_141_1 rfl rfl dX5_go_122 ?_
        refine z_iload_n hC rfl (hL.at 2 rfl) dX5_go_125 ?_
        refine z_iconst hC dX5_go_126 ?_
        refine z_call_i hG (zrunV (ci := 3) hC hG (Nat.le_of_ble_eq_true rfl) (Nat.le_of_ble_eq_true rfl) (zobj hG rfl (Nat.le_of_ble_eq_true rfl) (Nat.le_of_ble_eq_true rfl)) (mX3_at l P K4 x4 hx4 0 (inR_lit rfl) hV) kVX5_145 rfl rfl rfl ⟨(Nat.le_of_ble_eq_true rfl), (Nat.le_of_ble_eq_true rfl)⟩ ⟨(Nat.le_of_ble_eq_true rfl), (Nat.le_of_ble_eq_true rfl)⟩ rfl ⟨zcs_0, (Nat.le_of_ble_eq_true rfl)⟩ hL.1.1 dX5_go_127) ?_
        rintro x15 G2 _ _ hx15 hV hG
        refine z_iload hC (hL.at 1 rfl) dX5_go_130 ?_
        obtain ⟨J140, eJ140, hV⟩ := zjn_abs hV
        have hJ140 : ∀ {H : Heap} {locs : List Loc}, zS P s G2 H locs → ∀ (z140_0 : Int), (z140_0 = 0 ∨ z140_0 = 1) → J140 z140_0 → ∀ (ls : Array Slot), zL ls 6 [(0, .ref (zA P 4 0 0)), (1, .int (zI a4_1)), (2, .int (zI a4_2))] → W p l e rX5_go s m args below meth c H locs 0 0 (MQ below (zQi P Q) args s 0 0 (zAr P)) (F0 m 140 ls [.int (zI z140_0)]) := by
          intro H locs hG z140_0 hz140_0 hV ls hL
          rw [eJ140] at hV
          refine z_istore (lv' := [(5, .int (zI z140_0)), (0, .ref (zA P 4 0 0)), (1, .int (zI a4_1)), (2, .int (zI a4_2))]) hC hL (by decide) rfl dX5_go_140 (fun ls hL => ?_)
          refine z_goto (tgt := 309) hC dX5_go_142 (by decide) ?_
          exact hJ309 a4_2 z140_0 G2 ha4_2 hz140_0 hV _ _ _ hG (hL.sub [1, 2, 3, 0] rfl)
        refine z_icmp_ne (tgt := 139) hC hx15 hx6 hV dX5_go_132 (by decide) ?_ ?_
        · intro hV
          refine z_iconst hC dX5_go_139 ?_
          exact hJ140 hG 0 (Or.inl rfl) hV _ (hL.sub [3, 4, 5] rfl)
        · intro hV
          refine z_iconst hC dX5_go_135 ?_
          refine z_goto (tgt := 140) hC dX5_go_136 (by decide) ?_
          exact hJ140 hG 1 (Or.inr rfl) hV _ (hL.sub [3, 4, 5] rfl)
      ·
        refine z_case (x := x8) (v := 2) hV (fun hc2 hV => ?_) (fun hd2 hV => ?_)
        · refine z_tsw (tgt := 145) hC hx8 dX5_go_43 (by rw [hc2]; decide) (fun i hi => by simp only [List.size_toArray, List.length_cons, List.length_nil]; omega) ?_
          refine z_aload_n hC zvr_a rfl (hL.at 3 rfl) dX5_go_145 ?_
          refine z_getO hC hG 0 kFX5_3_5 rfl rfl dX5_go_146 ?_
          refine z_getO hC hG 1 kFX5_141_1 rfl rfl dX5_go_149 ?_
          refine z_iload_n hC rfl (hL.at 2 rfl) dX5_go_152 ?_
          refine z_iconst hC dX5_go_153 ?_
          refine z_call_i hG (zrunV (ci := 3) hC hG (Nat.le_of_ble_eq_true rfl) (Nat.le_of_ble_eq_true rfl) (zobj hG rfl (Nat.le_of_ble_eq_true rfl) (Nat.le_of_ble_eq_true rfl)) (mX3_at l P K4 x4 hx4 5 (inR_lit rfl) hV) kVX5_145 rfl rfl rfl ⟨(Nat.le_of_ble_eq_true rfl), (Nat.le_of_ble_eq_true rfl)⟩ ⟨(Nat.le_of_ble_eq_true rfl), (Nat.le_of_ble_eq_true rfl)⟩ rfl ⟨zcs_0, (Nat.le_of_ble_eq_true rfl)⟩ hL.1.1 dX5_go_154) ?_
          rintro x16 G3 _ _ hx16 hV hG
          refine z_iload hC (hL.at 1 rfl) dX5_go_157 ?_
          refine z_aload_n hC zvr_a rfl (hL.at 3 rfl) dX5_go_159 ?_
          refine z_getU hC hG kFX5_15_5 rfl rfl hV dX5_go_160 ?_
          intro x17 hV
          refine z_iload_n hC rfl (hL.at 4 rfl) dX5_go_163 ?_
          refine z_iconst hC dX5_go_164 ?_
          refine z_iadd hC dX5_go_165 ?_
          refine z_eald hC hG (inR_w _) hV dX5_go_166 ?_
          intro x18 hx18 hV
          refine z_call_z hG (zrunSN hC hG (mX1_inRange l P G3 x16 hx16 x6 hx6 x18 hx18 hV) kSX5_150 rfl rfl rfl ⟨(Nat.le_of_ble_eq_true rfl), (Nat.le_of_ble_eq_true rfl)⟩ ⟨(Nat.le_of_ble_eq_true rfl), (Nat.le_of_ble_eq_true rfl)⟩ rfl ⟨zcs_0, (Nat.le_of_ble_eq_true rfl)⟩ hL.1.1 dX5_go_167) ?_
          rintro x19 _ _ _ hx19 ⟨rfl, hV⟩ hG
          refine z_istore (lv' := [(5, .int (zI x19)), (4, .int (zI x6)), (3, .int (zI x4)), (0, .ref (zA P 4 0 0)), (1, .int (zI a4_1)), (2, .int (zI a4_2))]) hC hL (by decide) rfl dX5_go_170 (fun ls hL => ?_)
          refine z_goto (tgt := 309) hC dX5_go_172 (by decide) ?_
          exact hJ309 a4_2 x19 G3 ha4_2 hx19 hV _ _ _ hG (hL.sub [3, 4, 5, 0] rfl)
        ·
          refine z_case (x := x8) (v := 3) hV (fun hc3 hV => ?_) (fun hd3 hV => ?_)
          · refine z_tsw (tgt := 175) hC hx8 dX5_go_43 (by rw [hc3]; decide) (fun i hi => by simp only [List.size_toArray, List.length_cons, List.length_nil]; omega) ?_
            refine z_aload_n hC zvr_a rfl (hL.at 3 rfl) dX5_go_175 ?_
            refine z_getO hC hG 0 kFX5_3_5 rfl rfl dX5_go_176 ?_
            refine z_getO hC hG 1 kFX5_141_1 rfl rfl dX5_go_179 ?_
            refine z_iload_n hC rfl (hL.at 2 rfl) dX5_go_182 ?_
            refine z_iload hC (hL.at 1 rfl) dX5_go_183 ?_
            refine z_call_i hG (zrunV (ci := 3) hC hG (Nat.le_of_ble_eq_true rfl) (Nat.le_of_ble_eq_true rfl) (zobj hG rfl (Nat.le_of_ble_eq_true rfl) (Nat.le_of_ble_eq_true rfl)) (mX3_seen l P K4 x4 hx4 x6 hx6 hV) kVX5_154 rfl rfl rfl ⟨(Nat.le_of_ble_eq_true rfl), (Nat.le_of_ble_eq_true rfl)⟩ ⟨(Nat.le_of_ble_eq_true rfl), (Nat.le_of_ble_eq_true rfl)⟩ rfl ⟨zcs_0, (Nat.le_of_ble_eq_true rfl)⟩ hL.1.1 dX5_go_185) ?_
            rintro x20 G4 _ _ hx20 hV hG
            refine z_istore_n (lv' := [(2, .int (zI x20)), (5, .int (zI 1)), (4, .int (zI x6)), (3, .int (zI x4)), (0, .ref (zA P 4 0 0)), (1, .int (zI a4_1))]) hC rfl hL (by decide) rfl dX5_go_188 (fun ls hL => ?_)
            refine z_goto (tgt := 309) hC dX5_go_189 (by decide) ?_
            exact hJ309 x20 1 G4 hx20 (Or.inr rfl) hV _ _ _ hG (hL.sub [4, 5, 0, 1] rfl)
          ·
            refine z_case (x := x8) (v := 4) hV (fun hc4 hV => ?_) (fun hd4 hV => ?_)
            · refine z_tsw (tgt := 192) hC hx8 dX5_go_43 (by rw [hc4]; decide) (fun i hi => by simp only [List.size_toArray, List.length_cons, List.length_nil]; omega) ?_
              refine z_aload_n hC zvr_a rfl (hL.at 3 rfl) dX5_go_192 ?_
              refine z_getO hC hG 0 kFX5_3_5 rfl rfl dX5_go_193 ?_
              refine z_getO hC hG 1 kFX5_141_1 rfl rfl dX5_go_196 ?_
              refine z_dup hC rfl dX5_go_199 ?_
              refine z_getF hC hG kFX5_157_3 rfl rfl hV dX5_go_200 ?_
              intro x21 hx21 hV
              refine z_iconst hC dX5_go_203 ?_
              refine z_iadd hC dX5_go_204 ?_
              refine z_putF hC hG kFX5_157_3 rfl rfl rfl rfl nk_3_7 (inR_w _) (Or.inl rfl) hV dX5_go_205 ?_
              intro G5 _ _ hG hV
              refine z_iload_n hC rfl (hL.at 5 rfl) dX5_go_208 ?_
              refine z_iload_n hC rfl (hL.at 2 rfl) dX5_go_209 ?_
              refine z_iload hC (hL.at 1 rfl) dX5_go_210 ?_
              refine z_call_z hG (zrunSN hC hG (mX1_inRange l P G5 a4_2 ha4_2 x4 hx4 x6 hx6 hV) kSX5_150 rfl rfl rfl ⟨(Nat.le_of_ble_eq_true rfl), (Nat.le_of_ble_eq_true rfl)⟩ ⟨(Nat.le_of_ble_eq_true rfl), (Nat.le_of_ble_eq_true rfl)⟩ rfl ⟨zcs_0, (Nat.le_of_ble_eq_true rfl)⟩ hL.1.1 dX5_go_212) ?_
              rintro x22 _ _ _ hx22 ⟨rfl, hV⟩ hG
              refine z_istore (lv' := [(5, .int (zI x22)), (4, .int (zI x6)), (3, .int (zI x4)), (0, .ref (zA P 4 0 0)), (1, .int (zI a4_1)), (2, .int (zI a4_2))]) hC hL (by decide) rfl dX5_go_215 (fun ls hL => ?_)
              refine z_goto (tgt := 309) hC dX5_go_217 (by decide) ?_
              exact hJ309 a4_2 x22 G5 ha4_2 hx22 hV _ _ _ hG (hL.sub [3, 4, 5, 0] rfl)
            ·
              refine z_case (x := x8) (v := 6) hV (fun hc6 hV => ?_) (fun hd6 hV => ?_)
              · refine z_tsw (tgt := 246) hC hx8 dX5_go_43 (by rw [hc6]; decide) (fun i hi => by simp only [List.size_toArray, List.length_cons, List.length_nil]; omega) ?_
                refine z_aload_n hC zvr_a rfl (hL.at 3 rfl) dX5_go_246 ?_
                refine z_getO hC hG 0 kFX5_3_5 rfl rfl dX5_go_247 ?_
                refine z_getO hC hG 1 kFX5_141_1 rfl rfl dX5_go_250 ?_
                refine z_aload_n hC zvr_a rfl (hL.at 3 rfl) dX5_go_253 ?_
                refine z_getO hC hG 0 kFX5_3_5 rfl rfl dX5_go_254 ?_
                refine z_getO hC hG 10 kFX5_33_1 rfl rfl dX5_go_257 ?_
                refine z_iload_n hC rfl (hL.at 2 rfl) dX5_go_260 ?_
                refine z_call_r hG (zrunV (ci := 2) hC hG (Nat.le_of_ble_eq_true rfl) (Nat.le_of_ble_eq_true rfl) (zobj hG rfl (Nat.le_of_ble_eq_true rfl) (Nat.le_of_ble_eq_true rfl)) (mJ2_get l P K4 10 rfl x4 hx4 hV) kVX5_46 rfl rfl rfl ⟨(Nat.le_of_ble_eq_true rfl), (Nat.le_of_ble_eq_true rfl)⟩ ⟨(Nat.le_of_ble_eq_true rfl), (Nat.le_of_ble_eq_true rfl)⟩ rfl ⟨(zcs_c rfl zcs_0), (Nat.le_of_ble_eq_true rfl)⟩ hL.1.1 dX5_go_261) ?_
                rintro x23 _ _ _  ⟨rfl, hV⟩ hG
                refine z_cast hC hG (ci := 16) (Nat.le_of_ble_eq_true rfl) (Nat.le_of_ble_eq_true rfl) q1571 hV dX5_go_264 (fun hV => ?_)
                refine z_call_v hG (zrunV (ci := 3) hC hG (Nat.le_of_ble_eq_true rfl) (Nat.le_of_ble_eq_true rfl) (zobj hG rfl (Nat.le_of_ble_eq_true rfl) (Nat.le_of_ble_eq_true rfl)) (mX3_binds l P K4 x23 hV) kVX5_163 rfl rfl rfl ⟨(Nat.le_of_ble_eq_true rfl), (Nat.le_of_ble_eq_true rfl)⟩ ⟨(Nat.le_of_ble_eq_true rfl), (Nat.le_of_ble_eq_true rfl)⟩ rfl ⟨zcs_0, (Nat.le_of_ble_eq_true rfl)⟩ hL.1.1 dX5_go_267) ?_
                rintro G6 _ _ hV hG
                refine z_aload_n hC zvr_a rfl (hL.at 3 rfl) dX5_go_270 ?_
                refine z_getO hC hG 0 kFX5_3_5 rfl rfl dX5_go_271 ?_
                refine z_getO hC hG 1 kFX5_141_1 rfl rfl dX5_go_274 ?_
                refine z_aload_n hC zvr_a rfl (hL.at 3 rfl) dX5_go_277 ?_
                refine z_getO hC hG 0 kFX5_3_5 rfl rfl dX5_go_278 ?_
                refine z_getO hC hG 10 kFX5_33_1 rfl rfl dX5_go_281 ?_
                refine z_iload_n hC rfl (hL.at 2 rfl) dX5_go_284 ?_
                refine z_call_r hG (zrunV (ci := 2) hC hG (Nat.le_of_ble_eq_true rfl) (Nat.le_of_ble_eq_true rfl) (zobj hG rfl (Nat.le_of_ble_eq_true rfl) (Nat.le_of_ble_eq_true rfl)) (mJ2_get l P G6 10 rfl x4 hx4 hV) kVX5_46 rfl rfl rfl ⟨(Nat.le_of_ble_eq_true rfl), (Nat.le_of_ble_eq_true rfl)⟩ ⟨(Nat.le_of_ble_eq_true rfl), (Nat.le_of_ble_eq_true rfl)⟩ rfl ⟨(zcs_c rfl zcs_0), (Nat.le_of_ble_eq_true rfl)⟩ hL.1.1 dX5_go_285) ?_
                rintro x24 _ _ _  ⟨rfl, hV⟩ hG
                refine z_cast hC hG (ci := 16) (Nat.le_of_ble_eq_true rfl) (Nat.le_of_ble_eq_true rfl) q1571 hV dX5_go_288 (fun hV => ?_)
                refine z_call_i hG (zrunV (ci := 3) hC hG (Nat.le_of_ble_eq_true rfl) (Nat.le_of_ble_eq_true rfl) (zobj hG rfl (Nat.le_of_ble_eq_true rfl) (Nat.le_of_ble_eq_true rfl)) (mX3_guards l P G6 x24 hV) kVX5_167 rfl rfl rfl ⟨(Nat.le_of_ble_eq_true rfl), (Nat.le_of_ble_eq_true rfl)⟩ ⟨(Nat.le_of_ble_eq_true rfl), (Nat.le_of_ble_eq_true rfl)⟩ rfl ⟨zcs_0, (Nat.le_of_ble_eq_true rfl)⟩ hL.1.1 dX5_go_291) ?_
                rintro x25 _ _ _ hx25 ⟨rfl, hV⟩ hG
                refine z_iconst hC dX5_go_294 ?_
                refine z_icmp_eq (tgt := 300) hC hx25 (inR_lit rfl) hV dX5_go_295 (by decide) ?_ ?_
                · intro hV
                  refine z_iconst hC dX5_go_300 ?_
                  refine z_istore (lv' := [(5, .int (zI 0)), (4, .int (zI x6)), (3, .int (zI x4)), (0, .ref (zA P 4 0 0)), (1, .int (zI a4_1)), (2, .int (zI a4_2))]) hC hL (by decide) rfl dX5_go_301 (fun ls hL => ?_)
                  refine z_goto (tgt := 309) hC dX5_go_303 (by decide) ?_
                  exact hJ309 a4_2 0 G6 ha4_2 (Or.inl rfl) hV _ _ _ hG (hL.sub [3, 4, 5, 0] rfl)
                · intro hV
                  refine z_iload_n hC rfl (hL.at 2 rfl) dX5_go_298 ?_
                  exact z_iret hC hG hr hk hx4 hV (Nat.le_of_ble_eq_true rfl) (Nat.le_of_ble_eq_true rfl) dX5_go_299
              ·
                refine z_case (x := x8) (v := 7) hV (fun hc7 hV => ?_) (fun hd7 hV => ?_)
                · refine z_tsw (tgt := 220) hC hx8 dX5_go_43 (by rw [hc7]; decide) (fun i hi => by simp only [List.size_toArray, List.length_cons, List.length_nil]; omega) ?_
                  refine z_aload_n hC zvr_a rfl (hL.at 3 rfl) dX5_go_220 ?_
                  refine z_getO hC hG 0 kFX5_3_5 rfl rfl dX5_go_221 ?_
                  refine z_getO hC hG 1 kFX5_141_1 rfl rfl dX5_go_224 ?_
                  refine z_iload_n hC rfl (hL.at 2 rfl) dX5_go_227 ?_
                  refine z_call_i hG (zrunV (ci := 3) hC hG (Nat.le_of_ble_eq_true rfl) (Nat.le_of_ble_eq_true rfl) (zobj hG rfl (Nat.le_of_ble_eq_true rfl) (Nat.le_of_ble_eq_true rfl)) (mX3_look l P K4 x4 hx4 hV) kVX5_160 rfl rfl rfl ⟨(Nat.le_of_ble_eq_true rfl), (Nat.le_of_ble_eq_true rfl)⟩ ⟨(Nat.le_of_ble_eq_true rfl), (Nat.le_of_ble_eq_true rfl)⟩ rfl ⟨zcs_0, (Nat.le_of_ble_eq_true rfl)⟩ hL.1.1 dX5_go_228) ?_
                  rintro x26 _ _ _ hx26 ⟨rfl, hV⟩ hG
                  refine z_iload hC (hL.at 1 rfl) dX5_go_231 ?_
                  obtain ⟨J241, eJ241, hV⟩ := zjn_abs hV
                  have hJ241 : ∀ {H : Heap} {locs : List Loc}, zS P s K4 H locs → ∀ (z241_0 : Int), (z241_0 = 0 ∨ z241_0 = 1) → J241 z241_0 → ∀ (ls : Array Slot), zL ls 6 [(0, .ref (zA P 4 0 0)), (1, .int (zI a4_1)), (2, .int (zI a4_2))] → W p l e rX5_go s m args below meth c H locs 0 0 (MQ below (zQi P Q) args s 0 0 (zAr P)) (F0 m 241 ls [.int (zI z241_0)]) := by
                    intro H locs hG z241_0 hz241_0 hV ls hL
                    rw [eJ241] at hV
                    refine z_istore (lv' := [(5, .int (zI z241_0)), (0, .ref (zA P 4 0 0)), (1, .int (zI a4_1)), (2, .int (zI a4_2))]) hC hL (by decide) rfl dX5_go_241 (fun ls hL => ?_)
                    refine z_goto (tgt := 309) hC dX5_go_243 (by decide) ?_
                    exact hJ309 a4_2 z241_0 K4 ha4_2 hz241_0 hV _ _ _ hG (hL.sub [1, 2, 3, 0] rfl)
                  refine z_icmp_ne (tgt := 240) hC hx26 hx6 hV dX5_go_233 (by decide) ?_ ?_
                  · intro hV
                    refine z_iconst hC dX5_go_240 ?_
                    exact hJ241 hG 0 (Or.inl rfl) hV _ (hL.sub [3, 4, 5] rfl)
                  · intro hV
                    refine z_iconst hC dX5_go_236 ?_
                    refine z_goto (tgt := 241) hC dX5_go_237 (by decide) ?_
                    exact hJ241 hG 1 (Or.inr rfl) hV _ (hL.sub [3, 4, 5] rfl)
                ·
                  refine z_tsw (tgt := 306) hC hx8 dX5_go_43 ?_ (fun i hi => by simp only [List.size_toArray, List.length_cons, List.length_nil]; omega) ?_
                  · by_cases hz : x8 < 0 ∨ 7 < x8
                    · rw [if_pos hz]; decide
                    · have hq : x8 = 5 := by omega
                      rcases hq with hq <;> (rw [hq]; decide)
                  refine z_iconst hC dX5_go_306 ?_
                  refine z_istore (lv' := [(5, .int (zI 0)), (4, .int (zI x6)), (3, .int (zI x4)), (0, .ref (zA P 4 0 0)), (1, .int (zI a4_1)), (2, .int (zI a4_2))]) hC hL (by decide) rfl dX5_go_307 (fun ls hL => ?_)
                  exact hJ309 a4_2 0 K4 ha4_2 (Or.inl rfl) hV _ _ _ hG (hL.sub [3, 4, 5, 0] rfl)
abbrev rX1_row : Room := { frames := 1, cells := 0, slots := 0, locals := 12 }
def vX1_row (p0 : ZR) (Q : ZR → Prop) : Prop := Q p0
set_option maxHeartbeats 4000000 in
theorem mX1_row (l : Launch) (P : ZP) (G : ZG) (p0 : ZR) {Q : ZR → Prop} (hV : vX1_row p0 Q) : Met l yX1_row (ws_ yX1_row cX1_row 1 (some (.array .int))) rX1_row (zPc P G [zrv P p0]) (zQr P (fun r G2 => G = G2 ∧ Q r)) 0 0 (zAr P) := by
  refine zMet RX1 (plainFor_of_name (by decide)) rfl (zcs_c (zrv_cat _ _) zcs_0) (Nat.le_of_ble_eq_true rfl) (fun p e s m args below meth c ls hC hr hk hn hG hL => ?_)
  unfold vX1_row at hV
  refine z_aload_n hC zvr_r rfl (hL.at 0 rfl) dX1_row_0 ?_
  exact z_aret (r := p0) hC hG hr hk (Or.inr ⟨_, rfl⟩) ⟨rfl, hV⟩ (Nat.le_of_ble_eq_true rfl) (Nat.le_of_ble_eq_true rfl) dX1_row_1
abbrev rX1_tests : Room := { frames := 1, cells := 0, slots := 0, locals := 12 }
def vX1_tests (G : ZG) (Q : Int → Prop) : Prop := zgF G 1 7 fun (x1 : Int) => Q x1
set_option maxHeartbeats 4000000 in
theorem mX1_tests (l : Launch) (P : ZP) (G : ZG) {Q : Int → Prop} (hV : vX1_tests G Q) : Met l yX1_tests (ws_ yX1_tests cX1_tests 1 (some .int)) rX1_tests (zPc P G [.ref (zA P 0 0 0)]) (zQi P (fun r G2 => G = G2 ∧ Q r)) 0 0 (zAr P) := by
  refine zMet RX1 (plainFor_of_name (by decide)) rfl (zcs_c rfl zcs_0) (Nat.le_of_ble_eq_true rfl) (fun p e s m args below meth c ls hC hr hk hn hG hL => ?_)
  unfold vX1_tests at hV
  refine z_aload_n hC zvr_a rfl (hL.at 0 rfl) dX1_tests_0 ?_
  refine z_getO hC hG 1 kFX1_52_1 rfl rfl dX1_tests_1 ?_
  refine z_getF hC hG kFX1_392_3 rfl rfl hV dX1_tests_4 ?_
  intro x1 hx1 hV
  exact z_iret hC hG hr hk hx1 ⟨rfl, hV⟩ (Nat.le_of_ble_eq_true rfl) (Nat.le_of_ble_eq_true rfl) dX1_tests_7
abbrev rX1_views : Room := { frames := 1, cells := 0, slots := 0, locals := 12 }
def vX1_views (G : ZG) (Q : Int → Prop) : Prop := zgF G 1 6 fun (x1 : Int) => Q x1
set_option maxHeartbeats 4000000 in
theorem mX1_views (l : Launch) (P : ZP) (G : ZG) {Q : Int → Prop} (hV : vX1_views G Q) : Met l yX1_views (ws_ yX1_views cX1_views 1 (some .int)) rX1_views (zPc P G [.ref (zA P 0 0 0)]) (zQi P (fun r G2 => G = G2 ∧ Q r)) 0 0 (zAr P) := by
  refine zMet RX1 (plainFor_of_name (by decide)) rfl (zcs_c rfl zcs_0) (Nat.le_of_ble_eq_true rfl) (fun p e s m args below meth c ls hC hr hk hn hG hL => ?_)
  unfold vX1_views at hV
  refine z_aload_n hC zvr_a rfl (hL.at 0 rfl) dX1_views_0 ?_
  refine z_getO hC hG 1 kFX1_52_1 rfl rfl dX1_views_1 ?_
  refine z_getF hC hG kFX1_395_3 rfl rfl hV dX1_views_4 ?_
  intro x1 hx1 hV
  exact z_iret hC hG hr hk hx1 ⟨rfl, hV⟩ (Nat.le_of_ble_eq_true rfl) (Nat.le_of_ble_eq_true rfl) dX1_views_7
abbrev rX1_requireIndex : Room := { frames := 8, cells := 1, slots := 6, locals := 100 }
def vX1_requireIndex (p0 : Int) (G : ZG) (X : Nat → ZG → Prop) (Q : Unit → Prop) : Prop := zbr (p0 ≠ 0) (Q ()) (X 0 G)
set_option maxHeartbeats 4000000 in
theorem mX1_requireIndex (l : Launch) (P : ZP) (G : ZG) (p0 : Int) (hp0 : p0 = 0 ∨ p0 = 1) {X : Nat → ZG → Prop} {Q : Unit → Prop} (hst : l.stackTraces = false) (hV : vX1_requireIndex p0 G X Q) : vx_Met l yX1_requireIndex (ws_ yX1_requireIndex cX1_requireIndex 1 none) rX1_requireIndex (zPc P G [.int (zI p0)]) (zQv P (fun G2 => G = G2 ∧ Q ())) (zXc P X) 1 6 (zAr P) := by
  refine zMetX (own := RX1) rfl (by decide) (zcs_c rfl zcs_0) (Nat.le_of_ble_eq_true rfl) (fun p e s m args below meth c ls hC hr hk hn hnt hG hL => ?_)
  unfold vX1_requireIndex at hV
  refine z_iload_n hC rfl (hL.at 0 rfl) dX1_requireIndex_0 ?_
  refine z_if_ne (tgt := 12) hC (inR_b hp0) hV dX1_requireIndex_1 (by decide) ?_ ?_
  · intro hV
    exact vx_ret (z_vret hC hG hr hk ⟨rfl, hV⟩ (Nat.le_of_ble_eq_true rfl) (Nat.le_of_ble_eq_true rfl) dX1_requireIndex_12)
  · intro hV
    exact z_throw (k := 0) hC hG hst hnt hk zthr_0 hV hL.1.1 dX1_requireIndex_4 dX1_requireIndex_7 dX1_requireIndex_8 dX1_requireIndex_11 ⟨(Nat.le_of_ble_eq_true rfl), (Nat.le_of_ble_eq_true rfl)⟩ ⟨(Nat.le_of_ble_eq_true rfl), (Nat.le_of_ble_eq_true rfl)⟩ (Nat.le_of_ble_eq_true rfl) (Nat.le_of_ble_eq_true rfl)
abbrev rX1_isKind : Room := { frames := 2, cells := 0, slots := 0, locals := 34 }
def vX1_isKind (p0 : Int) (Q : Int → Prop) : Prop := vX1_inRange p0 0 5 fun (x1 : Int) => Q x1
set_option maxHeartbeats 4000000 in
theorem mX1_isKind (l : Launch) (P : ZP) (G : ZG) (p0 : Int) (hp0 : inR p0) {Q : Int → Prop} (hV : vX1_isKind p0 Q) : Met l yX1_isKind (ws_ yX1_isKind cX1_isKind 1 (some .boolean)) rX1_isKind (zPc P G [.int (zI p0)]) (zQz P (fun r G2 => G = G2 ∧ Q r)) 0 0 (zAr P) := by
  refine zMet RX1 (plainFor_of_name (by decide)) rfl (zcs_c rfl zcs_0) (Nat.le_of_ble_eq_true rfl) (fun p e s m args below meth c ls hC hr hk hn hG hL => ?_)
  unfold vX1_isKind at hV
  refine z_iload_n hC rfl (hL.at 0 rfl) dX1_isKind_0 ?_
  refine z_iconst hC dX1_isKind_1 ?_
  refine z_iconst hC dX1_isKind_2 ?_
  refine z_call_z hG (zrunS hC hG (mX1_inRange l P G p0 hp0 0 (inR_lit rfl) 5 (inR_lit rfl) hV) kSX1_91 rfl rfl rfl ⟨(Nat.le_of_ble_eq_true rfl), (Nat.le_of_ble_eq_true rfl)⟩ ⟨(Nat.le_of_ble_eq_true rfl), (Nat.le_of_ble_eq_true rfl)⟩ rfl ⟨zcs_0, (Nat.le_of_ble_eq_true rfl)⟩ hL.1.1 dX1_isKind_3) ?_
  rintro x1 _ _ _ hx1 ⟨rfl, hV⟩ hG
  exact z_zret hC hG hr hk hx1 ⟨rfl, hV⟩ (Nat.le_of_ble_eq_true rfl) (Nat.le_of_ble_eq_true rfl) dX1_isKind_6
abbrev rX1_isKindOf : Room := { frames := 3, cells := 0, slots := 0, locals := 54 }
def vX1_isKindOf (p0 : Int) (p1 : Int) (Q : Int → Prop) : Prop := zjn (fun (z20_0 : Int) => Q z20_0) fun J20 => zbr (p1 = 0) (zbr (p0 ≠ 0) (J20 0) (J20 1)) (vX1_isKind p0 fun (x1 : Int) => J20 x1)
set_option maxHeartbeats 4000000 in
theorem mX1_isKindOf (l : Launch) (P : ZP) (G : ZG) (p0 : Int) (hp0 : inR p0) (p1 : Int) (hp1 : p1 = 0 ∨ p1 = 1) {Q : Int → Prop} (hV : vX1_isKindOf p0 p1 Q) : Met l yX1_isKindOf (ws_ yX1_isKindOf cX1_isKindOf 2 (some .boolean)) rX1_isKindOf (zPc P G [.int (zI p0), .int (zI p1)]) (zQz P (fun r G2 => G = G2 ∧ Q r)) 0 0 (zAr P) := by
  refine zMet RX1 (plainFor_of_name (by decide)) rfl (zcs_c rfl (zcs_c rfl zcs_0)) (Nat.le_of_ble_eq_true rfl) (fun p e s m args below meth c ls hC hr hk hn hG hL => ?_)
  unfold vX1_isKindOf at hV
  refine z_iload_n hC rfl (hL.at 1 rfl) dX1_isKindOf_0 ?_
  obtain ⟨J20, eJ20, hV⟩ := zjn_abs hV
  have hJ20 : ∀ {H : Heap} {locs : List Loc}, zS P s G H locs → ∀ (z20_0 : Int), (z20_0 = 0 ∨ z20_0 = 1) → J20 z20_0 → ∀ (ls : Array Slot), zL ls 2 [] → W p l e rX1_isKindOf s m args below meth c H locs 0 0 (MQ below (zQz P (fun r G2 => G = G2 ∧ Q r)) args s 0 0 (zAr P)) (F0 m 20 ls [.int (zI z20_0)]) := by
    intro H locs hG z20_0 hz20_0 hV ls hL
    rw [eJ20] at hV
    exact z_zret hC hG hr hk hz20_0 ⟨rfl, hV⟩ (Nat.le_of_ble_eq_true rfl) (Nat.le_of_ble_eq_true rfl) dX1_isKindOf_20
  refine z_if_eq (tgt := 11) hC (inR_b hp1) hV dX1_isKindOf_1 (by decide) ?_ ?_
  · intro hV
    refine z_iload_n hC rfl (hL.at 0 rfl) dX1_isKindOf_11 ?_
    refine z_if_ne (tgt := 19) hC hp0 hV dX1_isKindOf_12 (by decide) ?_ ?_
    · intro hV
      refine z_iconst hC dX1_isKindOf_19 ?_
      exact hJ20 hG 0 (Or.inl rfl) hV _ (hL.sub [] rfl)
    · intro hV
      refine z_iconst hC dX1_isKindOf_15 ?_
      refine z_goto (tgt := 20) hC dX1_isKindOf_16 (by decide) ?_
      exact hJ20 hG 1 (Or.inr rfl) hV _ (hL.sub [] rfl)
  · intro hV
    refine z_iload_n hC rfl (hL.at 0 rfl) dX1_isKindOf_4 ?_
    refine z_call_z hG (zrunS hC hG (mX1_isKind l P G p0 hp0 hV) kSX1_109 rfl rfl rfl ⟨(Nat.le_of_ble_eq_true rfl), (Nat.le_of_ble_eq_true rfl)⟩ ⟨(Nat.le_of_ble_eq_true rfl), (Nat.le_of_ble_eq_true rfl)⟩ rfl ⟨zcs_0, (Nat.le_of_ble_eq_true rfl)⟩ hL.1.1 dX1_isKindOf_5) ?_
    rintro x1 _ _ _ hx1 ⟨rfl, hV⟩ hG
    refine z_goto (tgt := 20) hC dX1_isKindOf_8 (by decide) ?_
    exact hJ20 hG x1 hx1 hV _ (hL.sub [] rfl)
abbrev rX1_requireArgument : Room := { frames := 8, cells := 1, slots := 6, locals := 100 }
def vX1_requireArgument (p0 : Int) (G : ZG) (X : Nat → ZG → Prop) (Q : Unit → Prop) : Prop := zbr (p0 ≠ 0) (Q ()) (X 1 G)
set_option maxHeartbeats 4000000 in
theorem mX1_requireArgument (l : Launch) (P : ZP) (G : ZG) (p0 : Int) (hp0 : p0 = 0 ∨ p0 = 1) {X : Nat → ZG → Prop} {Q : Unit → Prop} (hst : l.stackTraces = false) (hV : vX1_requireArgument p0 G X Q) : vx_Met l yX1_requireArgument (ws_ yX1_requireArgument cX1_requireArgument 1 none) rX1_requireArgument (zPc P G [.int (zI p0)]) (zQv P (fun G2 => G = G2 ∧ Q ())) (zXc P X) 1 6 (zAr P) := by
  refine zMetX (own := RX1) rfl (by decide) (zcs_c rfl zcs_0) (Nat.le_of_ble_eq_true rfl) (fun p e s m args below meth c ls hC hr hk hn hnt hG hL => ?_)
  unfold vX1_requireArgument at hV
  refine z_iload_n hC rfl (hL.at 0 rfl) dX1_requireArgument_0 ?_
  refine z_if_ne (tgt := 12) hC (inR_b hp0) hV dX1_requireArgument_1 (by decide) ?_ ?_
  · intro hV
    exact vx_ret (z_vret hC hG hr hk ⟨rfl, hV⟩ (Nat.le_of_ble_eq_true rfl) (Nat.le_of_ble_eq_true rfl) dX1_requireArgument_12)
  · intro hV
    exact z_throw (k := 1) hC hG hst hnt hk zthr_1 hV hL.1.1 dX1_requireArgument_4 dX1_requireArgument_7 dX1_requireArgument_8 dX1_requireArgument_11 ⟨(Nat.le_of_ble_eq_true rfl), (Nat.le_of_ble_eq_true rfl)⟩ ⟨(Nat.le_of_ble_eq_true rfl), (Nat.le_of_ble_eq_true rfl)⟩ (Nat.le_of_ble_eq_true rfl) (Nat.le_of_ble_eq_true rfl)
abbrev rX1_requireState : Room := { frames := 8, cells := 1, slots := 6, locals := 100 }
def vX1_requireState (p0 : Int) (G : ZG) (X : Nat → ZG → Prop) (Q : Unit → Prop) : Prop := zbr (p0 ≠ 0) (Q ()) (X 2 G)
set_option maxHeartbeats 4000000 in
theorem mX1_requireState (l : Launch) (P : ZP) (G : ZG) (p0 : Int) (hp0 : p0 = 0 ∨ p0 = 1) {X : Nat → ZG → Prop} {Q : Unit → Prop} (hst : l.stackTraces = false) (hV : vX1_requireState p0 G X Q) : vx_Met l yX1_requireState (ws_ yX1_requireState cX1_requireState 1 none) rX1_requireState (zPc P G [.int (zI p0)]) (zQv P (fun G2 => G = G2 ∧ Q ())) (zXc P X) 1 6 (zAr P) := by
  refine zMetX (own := RX1) rfl (by decide) (zcs_c rfl zcs_0) (Nat.le_of_ble_eq_true rfl) (fun p e s m args below meth c ls hC hr hk hn hnt hG hL => ?_)
  unfold vX1_requireState at hV
  refine z_iload_n hC rfl (hL.at 0 rfl) dX1_requireState_0 ?_
  refine z_if_ne (tgt := 12) hC (inR_b hp0) hV dX1_requireState_1 (by decide) ?_ ?_
  · intro hV
    exact vx_ret (z_vret hC hG hr hk ⟨rfl, hV⟩ (Nat.le_of_ble_eq_true rfl) (Nat.le_of_ble_eq_true rfl) dX1_requireState_12)
  · intro hV
    exact z_throw (k := 2) hC hG hst hnt hk zthr_2 hV hL.1.1 dX1_requireState_4 dX1_requireState_7 dX1_requireState_8 dX1_requireState_11 ⟨(Nat.le_of_ble_eq_true rfl), (Nat.le_of_ble_eq_true rfl)⟩ ⟨(Nat.le_of_ble_eq_true rfl), (Nat.le_of_ble_eq_true rfl)⟩ (Nat.le_of_ble_eq_true rfl) (Nat.le_of_ble_eq_true rfl)
abbrev rX1_firstOf : Room := { frames := 2, cells := 1, slots := 3, locals := 32 }
def vX1_firstOf (p0 : Int) (p1 : Int) (p2 : Int) (p3 : Int) (G : ZG) (Q : ZR → ZG → Prop) : Prop := zjn (fun (z71_0 : ZR) (H71 : ZG) => Q z71_0 H71) fun J71 => zbr (p0 ≠ 0) (zbr (p0 ≠ 1) (zbr (p0 ≠ 2) (znI0 G 0 3 3 fun (x1 : ZR) (G1 : ZG) => zeS G1 x1 0 p1 fun (G2 : ZG) => zeS G2 x1 1 p2 fun (G3 : ZG) => zeS G3 x1 2 p3 fun (G4 : ZG) => vX1_row x1 fun (x2 : ZR) => J71 x2 G4) (znI0 G 0 2 2 fun (x3 : ZR) (G5 : ZG) => zeS G5 x3 0 p1 fun (G6 : ZG) => zeS G6 x3 1 p2 fun (G7 : ZG) => vX1_row x3 fun (x4 : ZR) => J71 x4 G7)) (znI0 G 0 1 1 fun (x5 : ZR) (G8 : ZG) => zeS G8 x5 0 p1 fun (G9 : ZG) => vX1_row x5 fun (x6 : ZR) => J71 x6 G9)) (znI0 G 0 0 0 fun (x7 : ZR) (G10 : ZG) => vX1_row x7 fun (x8 : ZR) => J71 x8 G10)
set_option maxHeartbeats 4000000 in
theorem mX1_firstOf (l : Launch) (P : ZP) (G : ZG) (p0 : Int) (hp0 : inR p0) (p1 : Int) (hp1 : inR p1) (p2 : Int) (hp2 : inR p2) (p3 : Int) (hp3 : inR p3) {Q : ZR → ZG → Prop} (hV : vX1_firstOf p0 p1 p2 p3 G Q) : Met l yX1_firstOf (ws_ yX1_firstOf cX1_firstOf 4 (some (.array .int))) rX1_firstOf (zPc P G [.int (zI p0), .int (zI p1), .int (zI p2), .int (zI p3)]) (zQr P Q) 1 3 (zAr P) := by
  refine zMet RX1 (plainFor_of_name (by decide)) rfl (zcs_c rfl (zcs_c rfl (zcs_c rfl (zcs_c rfl zcs_0)))) (Nat.le_of_ble_eq_true rfl) (fun p e s m args below meth c ls hC hr hk hn hG hL => ?_)
  unfold vX1_firstOf at hV
  refine z_iload_n hC rfl (hL.at 0 rfl) dX1_firstOf_0 ?_
  obtain ⟨J71, eJ71, hV⟩ := zjn_abs hV
  have hJ71 : ∀ (z71_0 : ZR) (H71 : ZG), J71 z71_0 H71 → ∀ (H : Heap) (locs : List Loc) (ls : Array Slot), zS P s H71 H locs → zL ls 4 [] → W p l e rX1_firstOf s m args below meth c H locs 1 3 (MQ below (zQr P Q) args s 1 3 (zAr P)) (F0 m 71 ls [zrv P z71_0]) := by
    intro z71_0 H71 hV H locs ls hG hL
    rw [eJ71] at hV
    exact z_aret (r := z71_0) hC hG hr hk (Or.inr ⟨_, rfl⟩) hV (Nat.le_of_ble_eq_true rfl) (Nat.le_of_ble_eq_true rfl) dX1_firstOf_71
  refine z_if_ne (tgt := 13) hC hp0 hV dX1_firstOf_1 (by decide) ?_ ?_
  · intro hV
    refine z_iload_n hC rfl (hL.at 0 rfl) dX1_firstOf_13 ?_
    refine z_iconst hC dX1_firstOf_14 ?_
    refine z_icmp_ne (tgt := 31) hC hp0 (inR_lit rfl) hV dX1_firstOf_15 (by decide) ?_ ?_
    · intro hV
      refine z_iload_n hC rfl (hL.at 0 rfl) dX1_firstOf_31 ?_
      refine z_iconst hC dX1_firstOf_32 ?_
      refine z_icmp_ne (tgt := 53) hC hp0 (inR_lit rfl) hV dX1_firstOf_33 (by decide) ?_ ?_
      · intro hV
        refine z_iconst hC dX1_firstOf_53 ?_
        refine z_newI (t := 0) hC hG rfl (Nat.le_of_ble_eq_true rfl) q223 (inR_lit rfl) (Nat.le_of_ble_eq_true rfl) hV (Nat.le_of_ble_eq_true rfl) (Nat.le_of_ble_eq_true rfl) dX1_firstOf_54 ?_
        intro x1 G1 _ hG hV
        refine z_dup hC (zrv_cat _ _) dX1_firstOf_56 ?_
        refine z_iconst hC dX1_firstOf_57 ?_
        refine z_iload_n hC rfl (hL.at 1 rfl) dX1_firstOf_58 ?_
        refine z_east hC hG (inR_lit rfl) hp1 hV dX1_firstOf_59 ?_
        intro G2 _ _ hG hV
        refine z_dup hC (zrv_cat _ _) dX1_firstOf_60 ?_
        refine z_iconst hC dX1_firstOf_61 ?_
        refine z_iload_n hC rfl (hL.at 2 rfl) dX1_firstOf_62 ?_
        refine z_east hC hG (inR_lit rfl) hp2 hV dX1_firstOf_63 ?_
        intro G3 _ _ hG hV
        refine z_dup hC (zrv_cat _ _) dX1_firstOf_64 ?_
        refine z_iconst hC dX1_firstOf_65 ?_
        refine z_iload_n hC rfl (hL.at 3 rfl) dX1_firstOf_66 ?_
        refine z_east hC hG (inR_lit rfl) hp3 hV dX1_firstOf_67 ?_
        intro G4 _ _ hG hV
        refine z_call_r hG (zrunS hC hG (mX1_row l P G4 x1 hV) kSX1_15 rfl rfl rfl ⟨(Nat.le_of_ble_eq_true rfl), (Nat.le_of_ble_eq_true rfl)⟩ ⟨(Nat.le_of_ble_eq_true rfl), (Nat.le_of_ble_eq_true rfl)⟩ rfl ⟨zcs_0, (Nat.le_of_ble_eq_true rfl)⟩ hL.1.1 dX1_firstOf_68) ?_
        rintro x2 _ _ _  ⟨rfl, hV⟩ hG
        exact hJ71 x2 G4 hV _ _ _ hG (hL.sub [] rfl)
      · intro hV
        refine z_iconst hC dX1_firstOf_36 ?_
        refine z_newI (t := 0) hC hG rfl (Nat.le_of_ble_eq_true rfl) q223 (inR_lit rfl) (Nat.le_of_ble_eq_true rfl) hV (Nat.le_of_ble_eq_true rfl) (Nat.le_of_ble_eq_true rfl) dX1_firstOf_37 ?_
        intro x3 G5 _ hG hV
        refine z_dup hC (zrv_cat _ _) dX1_firstOf_39 ?_
        refine z_iconst hC dX1_firstOf_40 ?_
        refine z_iload_n hC rfl (hL.at 1 rfl) dX1_firstOf_41 ?_
        refine z_east hC hG (inR_lit rfl) hp1 hV dX1_firstOf_42 ?_
        intro G6 _ _ hG hV
        refine z_dup hC (zrv_cat _ _) dX1_firstOf_43 ?_
        refine z_iconst hC dX1_firstOf_44 ?_
        refine z_iload_n hC rfl (hL.at 2 rfl) dX1_firstOf_45 ?_
        refine z_east hC hG (inR_lit rfl) hp2 hV dX1_firstOf_46 ?_
        intro G7 _ _ hG hV
        refine z_call_r hG (zrunS hC hG (mX1_row l P G7 x3 hV) kSX1_15 rfl rfl rfl ⟨(Nat.le_of_ble_eq_true rfl), (Nat.le_of_ble_eq_true rfl)⟩ ⟨(Nat.le_of_ble_eq_true rfl), (Nat.le_of_ble_eq_true rfl)⟩ rfl ⟨zcs_0, (Nat.le_of_ble_eq_true rfl)⟩ hL.1.1 dX1_firstOf_47) ?_
        rintro x4 _ _ _  ⟨rfl, hV⟩ hG
        refine z_goto (tgt := 71) hC dX1_firstOf_50 (by decide) ?_
        refine W.widen (k := 1) (n := 3) (Nat.le_of_ble_eq_true rfl) (Nat.le_of_ble_eq_true rfl) ?_
        exact hJ71 x4 G7 hV _ _ _ hG (hL.sub [] rfl)
    · intro hV
      refine z_iconst hC dX1_firstOf_18 ?_
      refine z_newI (t := 0) hC hG rfl (Nat.le_of_ble_eq_true rfl) q223 (inR_lit rfl) (Nat.le_of_ble_eq_true rfl) hV (Nat.le_of_ble_eq_true rfl) (Nat.le_of_ble_eq_true rfl) dX1_firstOf_19 ?_
      intro x5 G8 _ hG hV
      refine z_dup hC (zrv_cat _ _) dX1_firstOf_21 ?_
      refine z_iconst hC dX1_firstOf_22 ?_
      refine z_iload_n hC rfl (hL.at 1 rfl) dX1_firstOf_23 ?_
      refine z_east hC hG (inR_lit rfl) hp1 hV dX1_firstOf_24 ?_
      intro G9 _ _ hG hV
      refine z_call_r hG (zrunS hC hG (mX1_row l P G9 x5 hV) kSX1_15 rfl rfl rfl ⟨(Nat.le_of_ble_eq_true rfl), (Nat.le_of_ble_eq_true rfl)⟩ ⟨(Nat.le_of_ble_eq_true rfl), (Nat.le_of_ble_eq_true rfl)⟩ rfl ⟨zcs_0, (Nat.le_of_ble_eq_true rfl)⟩ hL.1.1 dX1_firstOf_25) ?_
      rintro x6 _ _ _  ⟨rfl, hV⟩ hG
      refine z_goto (tgt := 71) hC dX1_firstOf_28 (by decide) ?_
      refine W.widen (k := 1) (n := 3) (Nat.le_of_ble_eq_true rfl) (Nat.le_of_ble_eq_true rfl) ?_
      exact hJ71 x6 G9 hV _ _ _ hG (hL.sub [] rfl)
  · intro hV
    refine z_iconst hC dX1_firstOf_4 ?_
    refine z_newI (t := 0) hC hG rfl (Nat.le_of_ble_eq_true rfl) q223 (inR_lit rfl) (Nat.le_of_ble_eq_true rfl) hV (Nat.le_of_ble_eq_true rfl) (Nat.le_of_ble_eq_true rfl) dX1_firstOf_5 ?_
    intro x7 G10 _ hG hV
    refine z_call_r hG (zrunS hC hG (mX1_row l P G10 x7 hV) kSX1_15 rfl rfl rfl ⟨(Nat.le_of_ble_eq_true rfl), (Nat.le_of_ble_eq_true rfl)⟩ ⟨(Nat.le_of_ble_eq_true rfl), (Nat.le_of_ble_eq_true rfl)⟩ rfl ⟨zcs_0, (Nat.le_of_ble_eq_true rfl)⟩ hL.1.1 dX1_firstOf_7) ?_
    rintro x8 _ _ _  ⟨rfl, hV⟩ hG
    refine z_goto (tgt := 71) hC dX1_firstOf_10 (by decide) ?_
    refine W.widen (k := 1) (n := 3) (Nat.le_of_ble_eq_true rfl) (Nat.le_of_ble_eq_true rfl) ?_
    exact hJ71 x8 G10 hV _ _ _ hG (hL.sub [] rfl)
abbrev rX1_changed : Room := { frames := 1, cells := 0, slots := 0, locals := 12 }
def vX1_changed (G : ZG) (Q : ZG → Prop) : Prop := zpF G 2 11 0 fun (G1 : ZG) => zpF G1 3 11 0 fun (G2 : ZG) => zpF G2 4 2 0 fun (G3 : ZG) => Q G3
set_option maxHeartbeats 4000000 in
theorem mX1_changed (l : Launch) (P : ZP) (G : ZG) {Q : ZG → Prop} (hV : vX1_changed G Q) : Met l yX1_changed (ws_ yX1_changed cX1_changed 1 none) rX1_changed (zPc P G [.ref (zA P 0 0 0)]) (zQv P Q) 0 0 (zAr P) := by
  refine zMet RX1 (plainFor_of_name (by decide)) rfl (zcs_c rfl zcs_0) (Nat.le_of_ble_eq_true rfl) (fun p e s m args below meth c ls hC hr hk hn hG hL => ?_)
  unfold vX1_changed at hV
  refine z_aload_n hC zvr_a rfl (hL.at 0 rfl) dX1_changed_0 ?_
  refine z_getO hC hG 2 kFX1_61_1 rfl rfl dX1_changed_1 ?_
  refine z_iconst hC dX1_changed_4 ?_
  refine z_putF hC hG kFX1_86_4 rfl rfl rfl rfl nk_4_11 (inR_lit rfl) (Or.inr ⟨rfl, (Or.inl rfl)⟩) hV dX1_changed_5 ?_
  intro G1 _ _ hG hV
  refine z_aload_n hC zvr_a rfl (hL.at 0 rfl) dX1_changed_8 ?_
  refine z_getO hC hG 3 kFX1_65_1 rfl rfl dX1_changed_9 ?_
  refine z_iconst hC dX1_changed_12 ?_
  refine z_putF hC hG kFX1_86_4 rfl rfl rfl rfl nk_4_11 (inR_lit rfl) (Or.inr ⟨rfl, (Or.inl rfl)⟩) hV dX1_changed_13 ?_
  intro G2 _ _ hG hV
  refine z_aload_n hC zvr_a rfl (hL.at 0 rfl) dX1_changed_16 ?_
  refine z_getO hC hG 4 kFX1_71_1 rfl rfl dX1_changed_17 ?_
  refine z_iconst hC dX1_changed_20 ?_
  refine z_putF hC hG kFX1_90_5 rfl rfl rfl rfl nk_5_2 (inR_lit rfl) (Or.inr ⟨rfl, (Or.inl rfl)⟩) hV dX1_changed_21 ?_
  intro G3 _ _ hG hV
  exact z_vret hC hG hr hk hV (Nat.le_of_ble_eq_true rfl) (Nat.le_of_ble_eq_true rfl) dX1_changed_24
abbrev rX1_constructor : Room := { frames := 9, cells := 5, slots := 121, locals := 199 }
def vX1_constructor (p0 : Int) (p1 : Int) (p2 : Int) (p3 : Int) (p4 : Int) (G : ZG) (X : Nat → ZG → Prop) (Q : Int → ZG → Prop) : Prop := vX1_inRange p0 0 3 fun (x1 : Int) => vX1_requireIndex x1 G X fun (_ : Unit) => vX1_inRange p1 0 3 fun (x2 : Int) => zjn (fun (z75_0 : Int) => vX1_requireArgument z75_0 G X fun (_ : Unit) => vJ2_get 7 p0 G fun (x3 : ZR) => zcaL x3 2 fun (o4 : Nat) => vJ2_size o4 G fun (x5 : Int) => zjn (fun (z101_0 : Int) => vX1_requireState z101_0 G X fun (_ : Unit) => vJ2_get 7 p0 G fun (x6 : ZR) => zcaL x6 2 fun (o7 : Nat) => vX1_firstOf p1 p2 p3 p4 G fun (x8 : ZR) (G1 : ZG) => vJ2_add o7 x8 G1 fun (x9 : Int) (G2 : ZG) => vX1_changed G2 fun (G3 : ZG) => vJ2_get 7 p0 G3 fun (x10 : ZR) => zcaL x10 2 fun (o11 : Nat) => vJ2_size o11 G3 fun (x12 : Int) => Q (w32 (x12 - 1)) G3) fun J101 => zbr (4 ≤ x5) (J101 0) (J101 1)) fun J75 => zjn (fun (_ : Unit) => J75 0) fun J74 => zbr (x2 = 0) (J74 ()) (zjn (fun (z28_1 : Int) => vX1_isKindOf p2 z28_1 fun (x13 : Int) => zbr (x13 = 0) (J74 ()) (zjn (fun (z46_1 : Int) => vX1_isKindOf p3 z46_1 fun (x14 : Int) => zbr (x14 = 0) (J74 ()) (zjn (fun (z64_1 : Int) => vX1_isKindOf p4 z64_1 fun (x15 : Int) => zbr (x15 = 0) (J74 ()) (J75 1)) fun J64 => zbr (p1 ≤ 2) (J64 0) (J64 1))) fun J46 => zbr (p1 ≤ 1) (J46 0) (J46 1))) fun J28 => zbr (p1 ≤ 0) (J28 0) (J28 1))
set_option maxHeartbeats 4000000 in
theorem mX1_constructor (l : Launch) (P : ZP) (G : ZG) (p0 : Int) (hp0 : inR p0) (p1 : Int) (hp1 : inR p1) (p2 : Int) (hp2 : inR p2) (p3 : Int) (hp3 : inR p3) (p4 : Int) (hp4 : inR p4) {X : Nat → ZG → Prop} {Q : Int → ZG → Prop} (hst : l.stackTraces = false) (hV : vX1_constructor p0 p1 p2 p3 p4 G X Q) : vx_Met l yX1_constructor (ws_ yX1_constructor cX1_constructor 6 (some .int)) rX1_constructor (zPc P G [.ref (zA P 0 0 0), .int (zI p0), .int (zI p1), .int (zI p2), .int (zI p3), .int (zI p4)]) (zQi P Q) (zXc P X) 5 121 (zAr P) := by
  refine zMetX (own := RX1) rfl (by decide) (zcs_c rfl (zcs_c rfl (zcs_c rfl (zcs_c rfl (zcs_c rfl (zcs_c rfl zcs_0)))))) (Nat.le_of_ble_eq_true rfl) (fun p e s m args below meth c ls hC hr hk hn hnt hG hL => ?_)
  unfold vX1_constructor at hV
  refine z_iload_n hC rfl (hL.at 1 rfl) dX1_constructor_0 ?_
  refine z_iconst hC dX1_constructor_1 ?_
  refine z_iconst hC dX1_constructor_2 ?_
  refine z_call_z hG (zrunS hC hG (mX1_inRange l P G p0 hp0 0 (inR_lit rfl) 3 (inR_lit rfl) hV) kSX1_91 rfl rfl rfl ⟨(Nat.le_of_ble_eq_true rfl), (Nat.le_of_ble_eq_true rfl)⟩ ⟨(Nat.le_of_ble_eq_true rfl), (Nat.le_of_ble_eq_true rfl)⟩ rfl ⟨zcs_0, (Nat.le_of_ble_eq_true rfl)⟩ hL.1.1 dX1_constructor_3) ?_
  rintro x1 _ _ _ hx1 ⟨rfl, hV⟩ hG
  refine z_xcall_v hG hnt hk (zrunSX hC hG (mX1_requireIndex l P G x1 hx1 hst hV) kSX1_105 rfl rfl rfl ⟨(Nat.le_of_ble_eq_true rfl), (Nat.le_of_ble_eq_true rfl)⟩ ⟨(Nat.le_of_ble_eq_true rfl), (Nat.le_of_ble_eq_true rfl)⟩ rfl ⟨zcs_0, (Nat.le_of_ble_eq_true rfl)⟩ hL.1.1 dX1_constructor_6) (Nat.le_of_ble_eq_true rfl) (Nat.le_of_ble_eq_true rfl) ?_
  rintro _ _ _ ⟨rfl, hV⟩ hG
  refine z_iload_n hC rfl (hL.at 2 rfl) dX1_constructor_9 ?_
  refine z_iconst hC dX1_constructor_10 ?_
  refine z_iconst hC dX1_constructor_11 ?_
  refine z_call_z hG (zrunS hC hG (mX1_inRange l P G p1 hp1 0 (inR_lit rfl) 3 (inR_lit rfl) hV) kSX1_91 rfl rfl rfl ⟨(Nat.le_of_ble_eq_true rfl), (Nat.le_of_ble_eq_true rfl)⟩ ⟨(Nat.le_of_ble_eq_true rfl), (Nat.le_of_ble_eq_true rfl)⟩ rfl ⟨zcs_0, (Nat.le_of_ble_eq_true rfl)⟩ hL.1.1 dX1_constructor_12) ?_
  rintro x2 _ _ _ hx2 ⟨rfl, hV⟩ hG
  obtain ⟨J75, eJ75, hV⟩ := zjn_abs hV
  have hJ75 : ∀ {H : Heap} {locs : List Loc}, zS P s G H locs → ∀ (z75_0 : Int), (z75_0 = 0 ∨ z75_0 = 1) → J75 z75_0 → ∀ (ls : Array Slot), zL ls 6 [(0, .ref (zA P 0 0 0)), (1, .int (zI p0)), (2, .int (zI p1)), (3, .int (zI p2)), (4, .int (zI p3)), (5, .int (zI p4))] → W p l e rX1_constructor s m args below meth c H locs 1 6 (vx_MQ below (zQi P Q) (zXc P X) args s 5 121 (zAr P)) (F0 m 75 ls [.int (zI z75_0)]) := by
    intro H locs hG z75_0 hz75_0 hV ls hL
    rw [eJ75] at hV
    refine z_xcall_v hG hnt hk (zrunSX hC hG (mX1_requireArgument l P G z75_0 hz75_0 hst hV) kSX1_117 rfl rfl rfl ⟨(Nat.le_of_ble_eq_true rfl), (Nat.le_of_ble_eq_true rfl)⟩ ⟨(Nat.le_of_ble_eq_true rfl), (Nat.le_of_ble_eq_true rfl)⟩ rfl ⟨zcs_0, (Nat.le_of_ble_eq_true rfl)⟩ hL.1.1 dX1_constructor_75) (Nat.le_of_ble_eq_true rfl) (Nat.le_of_ble_eq_true rfl) ?_
    rintro _ _ _ ⟨rfl, hV⟩ hG
    refine z_aload_n hC zvr_a rfl (hL.at 0 rfl) dX1_constructor_78 ?_
    refine z_getO hC hG 7 kFX1_25_1 rfl rfl dX1_constructor_79 ?_
    refine z_iload_n hC rfl (hL.at 1 rfl) dX1_constructor_82 ?_
    refine z_call_r hG (zrunV (ci := 2) hC hG (Nat.le_of_ble_eq_true rfl) (Nat.le_of_ble_eq_true rfl) (zobj hG rfl (Nat.le_of_ble_eq_true rfl) (Nat.le_of_ble_eq_true rfl)) (mJ2_get l P G 7 rfl p0 hp0 hV) kVX1_95 rfl rfl rfl ⟨(Nat.le_of_ble_eq_true rfl), (Nat.le_of_ble_eq_true rfl)⟩ ⟨(Nat.le_of_ble_eq_true rfl), (Nat.le_of_ble_eq_true rfl)⟩ rfl ⟨zcs_0, (Nat.le_of_ble_eq_true rfl)⟩ hL.1.1 dX1_constructor_83) ?_
    rintro x3 _ _ _  ⟨rfl, hV⟩ hG
    refine z_castL hC hG (ci := 2) (Nat.le_of_ble_eq_true rfl) (Nat.le_of_ble_eq_true rfl) q145 hV dX1_constructor_86 ?_
    intro o4 ho4 hV
    refine z_call_i hG (zrunV (ci := 2) hC hG (Nat.le_of_ble_eq_true rfl) (Nat.le_of_ble_eq_true rfl) (zobj hG ho4 (Nat.le_of_ble_eq_true rfl) (Nat.le_of_ble_eq_true rfl)) (mJ2_size l P G o4 ho4 hV) kVX1_101 rfl rfl rfl ⟨(Nat.le_of_ble_eq_true rfl), (Nat.le_of_ble_eq_true rfl)⟩ ⟨(Nat.le_of_ble_eq_true rfl), (Nat.le_of_ble_eq_true rfl)⟩ rfl ⟨zcs_0, (Nat.le_of_ble_eq_true rfl)⟩ hL.1.1 dX1_constructor_89) ?_
    rintro x5 _ _ _ hx5 ⟨rfl, hV⟩ hG
    refine z_iconst hC dX1_constructor_92 ?_
    obtain ⟨J101, eJ101, hV⟩ := zjn_abs hV
    have hJ101 : ∀ {H : Heap} {locs : List Loc}, zS P s G H locs → ∀ (z101_0 : Int), (z101_0 = 0 ∨ z101_0 = 1) → J101 z101_0 → ∀ (ls : Array Slot), zL ls 6 [(0, .ref (zA P 0 0 0)), (1, .int (zI p0)), (2, .int (zI p1)), (3, .int (zI p2)), (4, .int (zI p3)), (5, .int (zI p4))] → W p l e rX1_constructor s m args below meth c H locs 2 12 (vx_MQ below (zQi P Q) (zXc P X) args s 5 121 (zAr P)) (F0 m 101 ls [.int (zI z101_0)]) := by
      intro H locs hG z101_0 hz101_0 hV ls hL
      rw [eJ101] at hV
      refine z_xcall_v hG hnt hk (zrunSX hC hG (mX1_requireState l P G z101_0 hz101_0 hst hV) kSX1_120 rfl rfl rfl ⟨(Nat.le_of_ble_eq_true rfl), (Nat.le_of_ble_eq_true rfl)⟩ ⟨(Nat.le_of_ble_eq_true rfl), (Nat.le_of_ble_eq_true rfl)⟩ rfl ⟨zcs_0, (Nat.le_of_ble_eq_true rfl)⟩ hL.1.1 dX1_constructor_101) (Nat.le_of_ble_eq_true rfl) (Nat.le_of_ble_eq_true rfl) ?_
      rintro _ _ _ ⟨rfl, hV⟩ hG
      refine z_aload_n hC zvr_a rfl (hL.at 0 rfl) dX1_constructor_104 ?_
      refine z_getO hC hG 7 kFX1_25_1 rfl rfl dX1_constructor_105 ?_
      refine z_iload_n hC rfl (hL.at 1 rfl) dX1_constructor_108 ?_
      refine z_call_r hG (zrunV (ci := 2) hC hG (Nat.le_of_ble_eq_true rfl) (Nat.le_of_ble_eq_true rfl) (zobj hG rfl (Nat.le_of_ble_eq_true rfl) (Nat.le_of_ble_eq_true rfl)) (mJ2_get l P G 7 rfl p0 hp0 hV) kVX1_95 rfl rfl rfl ⟨(Nat.le_of_ble_eq_true rfl), (Nat.le_of_ble_eq_true rfl)⟩ ⟨(Nat.le_of_ble_eq_true rfl), (Nat.le_of_ble_eq_true rfl)⟩ rfl ⟨zcs_0, (Nat.le_of_ble_eq_true rfl)⟩ hL.1.1 dX1_constructor_109) ?_
      rintro x6 _ _ _  ⟨rfl, hV⟩ hG
      refine z_castL hC hG (ci := 2) (Nat.le_of_ble_eq_true rfl) (Nat.le_of_ble_eq_true rfl) q145 hV dX1_constructor_112 ?_
      intro o7 ho7 hV
      refine z_iload_n hC rfl (hL.at 2 rfl) dX1_constructor_115 ?_
      refine z_iload_n hC rfl (hL.at 3 rfl) dX1_constructor_116 ?_
      refine z_iload hC (hL.at 4 rfl) dX1_constructor_117 ?_
      refine z_iload hC (hL.at 5 rfl) dX1_constructor_119 ?_
      refine z_call_r hG (zrunS hC hG (mX1_firstOf l P G p1 hp1 p2 hp2 p3 hp3 p4 hp4 hV) kSX1_123 rfl rfl rfl ⟨(Nat.le_of_ble_eq_true rfl), (Nat.le_of_ble_eq_true rfl)⟩ ⟨(Nat.le_of_ble_eq_true rfl), (Nat.le_of_ble_eq_true rfl)⟩ rfl ⟨(zcs_c rfl zcs_0), (Nat.le_of_ble_eq_true rfl)⟩ hL.1.1 dX1_constructor_121) ?_
      rintro x8 G1 _ _  hV hG
      refine z_call_z hG (zrunV (ci := 2) hC hG (Nat.le_of_ble_eq_true rfl) (Nat.le_of_ble_eq_true rfl) (zobj hG ho7 (Nat.le_of_ble_eq_true rfl) (Nat.le_of_ble_eq_true rfl)) (mJ2_add l P G1 o7 ho7 x8 hV) kVX1_79 rfl rfl rfl ⟨(Nat.le_of_ble_eq_true rfl), (Nat.le_of_ble_eq_true rfl)⟩ ⟨(Nat.le_of_ble_eq_true rfl), (Nat.le_of_ble_eq_true rfl)⟩ rfl ⟨zcs_0, (Nat.le_of_ble_eq_true rfl)⟩ hL.1.1 dX1_constructor_124) ?_
      rintro x9 G2 _ _ hx9 hV hG
      refine z_pop hC rfl dX1_constructor_127 ?_
      refine z_aload_n hC zvr_a rfl (hL.at 0 rfl) dX1_constructor_128 ?_
      refine z_call_v hG (zrunV (ci := 1) hC hG (Nat.le_of_ble_eq_true rfl) (Nat.le_of_ble_eq_true rfl) (zobj hG rfl (Nat.le_of_ble_eq_true rfl) (Nat.le_of_ble_eq_true rfl)) (mX1_changed l P G2 hV) kVX1_127 rfl rfl rfl ⟨(Nat.le_of_ble_eq_true rfl), (Nat.le_of_ble_eq_true rfl)⟩ ⟨(Nat.le_of_ble_eq_true rfl), (Nat.le_of_ble_eq_true rfl)⟩ rfl ⟨zcs_0, (Nat.le_of_ble_eq_true rfl)⟩ hL.1.1 dX1_constructor_129) ?_
      rintro G3 _ _ hV hG
      refine z_aload_n hC zvr_a rfl (hL.at 0 rfl) dX1_constructor_132 ?_
      refine z_getO hC hG 7 kFX1_25_1 rfl rfl dX1_constructor_133 ?_
      refine z_iload_n hC rfl (hL.at 1 rfl) dX1_constructor_136 ?_
      refine z_call_r hG (zrunV (ci := 2) hC hG (Nat.le_of_ble_eq_true rfl) (Nat.le_of_ble_eq_true rfl) (zobj hG rfl (Nat.le_of_ble_eq_true rfl) (Nat.le_of_ble_eq_true rfl)) (mJ2_get l P G3 7 rfl p0 hp0 hV) kVX1_95 rfl rfl rfl ⟨(Nat.le_of_ble_eq_true rfl), (Nat.le_of_ble_eq_true rfl)⟩ ⟨(Nat.le_of_ble_eq_true rfl), (Nat.le_of_ble_eq_true rfl)⟩ rfl ⟨zcs_0, (Nat.le_of_ble_eq_true rfl)⟩ hL.1.1 dX1_constructor_137) ?_
      rintro x10 _ _ _  ⟨rfl, hV⟩ hG
      refine z_castL hC hG (ci := 2) (Nat.le_of_ble_eq_true rfl) (Nat.le_of_ble_eq_true rfl) q145 hV dX1_constructor_140 ?_
      intro o11 ho11 hV
      refine z_call_i hG (zrunV (ci := 2) hC hG (Nat.le_of_ble_eq_true rfl) (Nat.le_of_ble_eq_true rfl) (zobj hG ho11 (Nat.le_of_ble_eq_true rfl) (Nat.le_of_ble_eq_true rfl)) (mJ2_size l P G3 o11 ho11 hV) kVX1_101 rfl rfl rfl ⟨(Nat.le_of_ble_eq_true rfl), (Nat.le_of_ble_eq_true rfl)⟩ ⟨(Nat.le_of_ble_eq_true rfl), (Nat.le_of_ble_eq_true rfl)⟩ rfl ⟨zcs_0, (Nat.le_of_ble_eq_true rfl)⟩ hL.1.1 dX1_constructor_143) ?_
      rintro x12 _ _ _ hx12 ⟨rfl, hV⟩ hG
      refine z_iconst hC dX1_constructor_146 ?_
      refine z_isub hC dX1_constructor_147 ?_
      exact vx_ret (z_iret hC hG hr hk (inR_w _) hV (Nat.le_of_ble_eq_true rfl) (Nat.le_of_ble_eq_true rfl) dX1_constructor_148)
    refine z_icmp_ge (tgt := 100) hC hx5 (inR_lit rfl) hV dX1_constructor_93 (by decide) ?_ ?_
    · intro hV
      refine z_iconst hC dX1_constructor_100 ?_
      exact hJ101 hG 0 (Or.inl rfl) hV _ hL
    · intro hV
      refine z_iconst hC dX1_constructor_96 ?_
      refine z_goto (tgt := 101) hC dX1_constructor_97 (by decide) ?_
      exact hJ101 hG 1 (Or.inr rfl) hV _ hL
  obtain ⟨J74, eJ74, hV⟩ := zjn_abs hV
  have hJ74 : ∀ {H : Heap} {locs : List Loc}, zS P s G H locs → J74 () → ∀ (ls : Array Slot), zL ls 6 [(0, .ref (zA P 0 0 0)), (1, .int (zI p0)), (2, .int (zI p1)), (3, .int (zI p2)), (4, .int (zI p3)), (5, .int (zI p4))] → W p l e rX1_constructor s m args below meth c H locs 1 6 (vx_MQ below (zQi P Q) (zXc P X) args s 5 121 (zAr P)) (F0 m 74 ls []) := by
    intro H locs hG hV ls hL
    rw [eJ74] at hV
    refine z_iconst hC dX1_constructor_74 ?_
    exact hJ75 hG 0 (Or.inl rfl) hV _ hL
  refine z_if_eq (tgt := 74) hC (inR_b hx2) hV dX1_constructor_15 (by decide) ?_ ?_
  · intro hV
    exact hJ74 hG hV _ hL
  · intro hV
    refine z_iload_n hC rfl (hL.at 3 rfl) dX1_constructor_18 ?_
    refine z_iload_n hC rfl (hL.at 2 rfl) dX1_constructor_19 ?_
    obtain ⟨J28, eJ28, hV⟩ := zjn_abs hV
    have hJ28 : ∀ {H : Heap} {locs : List Loc}, zS P s G H locs → ∀ (z28_1 : Int), (z28_1 = 0 ∨ z28_1 = 1) → J28 z28_1 → ∀ (ls : Array Slot), zL ls 6 [(0, .ref (zA P 0 0 0)), (1, .int (zI p0)), (2, .int (zI p1)), (3, .int (zI p2)), (4, .int (zI p3)), (5, .int (zI p4))] → W p l e rX1_constructor s m args below meth c H locs 1 6 (vx_MQ below (zQi P Q) (zXc P X) args s 5 121 (zAr P)) (F0 m 28 ls [.int (zI z28_1), .int (zI p2)]) := by
      intro H locs hG z28_1 hz28_1 hV ls hL
      rw [eJ28] at hV
      refine z_call_z hG (zrunS hC hG (mX1_isKindOf l P G p2 hp2 z28_1 hz28_1 hV) kSX1_113 rfl rfl rfl ⟨(Nat.le_of_ble_eq_true rfl), (Nat.le_of_ble_eq_true rfl)⟩ ⟨(Nat.le_of_ble_eq_true rfl), (Nat.le_of_ble_eq_true rfl)⟩ rfl ⟨zcs_0, (Nat.le_of_ble_eq_true rfl)⟩ hL.1.1 dX1_constructor_28) ?_
      rintro x13 _ _ _ hx13 ⟨rfl, hV⟩ hG
      refine z_if_eq (tgt := 74) hC (inR_b hx13) hV dX1_constructor_31 (by decide) ?_ ?_
      · intro hV
        exact hJ74 hG hV _ hL
      · intro hV
        refine z_iload hC (hL.at 4 rfl) dX1_constructor_34 ?_
        refine z_iload_n hC rfl (hL.at 2 rfl) dX1_constructor_36 ?_
        refine z_iconst hC dX1_constructor_37 ?_
        obtain ⟨J46, eJ46, hV⟩ := zjn_abs hV
        have hJ46 : ∀ {H : Heap} {locs : List Loc}, zS P s G H locs → ∀ (z46_1 : Int), (z46_1 = 0 ∨ z46_1 = 1) → J46 z46_1 → ∀ (ls : Array Slot), zL ls 6 [(0, .ref (zA P 0 0 0)), (1, .int (zI p0)), (2, .int (zI p1)), (3, .int (zI p2)), (4, .int (zI p3)), (5, .int (zI p4))] → W p l e rX1_constructor s m args below meth c H locs 1 6 (vx_MQ below (zQi P Q) (zXc P X) args s 5 121 (zAr P)) (F0 m 46 ls [.int (zI z46_1), .int (zI p3)]) := by
          intro H locs hG z46_1 hz46_1 hV ls hL
          rw [eJ46] at hV
          refine z_call_z hG (zrunS hC hG (mX1_isKindOf l P G p3 hp3 z46_1 hz46_1 hV) kSX1_113 rfl rfl rfl ⟨(Nat.le_of_ble_eq_true rfl), (Nat.le_of_ble_eq_true rfl)⟩ ⟨(Nat.le_of_ble_eq_true rfl), (Nat.le_of_ble_eq_true rfl)⟩ rfl ⟨zcs_0, (Nat.le_of_ble_eq_true rfl)⟩ hL.1.1 dX1_constructor_46) ?_
          rintro x14 _ _ _ hx14 ⟨rfl, hV⟩ hG
          refine z_if_eq (tgt := 74) hC (inR_b hx14) hV dX1_constructor_49 (by decide) ?_ ?_
          · intro hV
            exact hJ74 hG hV _ hL
          · intro hV
            refine z_iload hC (hL.at 5 rfl) dX1_constructor_52 ?_
            refine z_iload_n hC rfl (hL.at 2 rfl) dX1_constructor_54 ?_
            refine z_iconst hC dX1_constructor_55 ?_
            obtain ⟨J64, eJ64, hV⟩ := zjn_abs hV
            have hJ64 : ∀ {H : Heap} {locs : List Loc}, zS P s G H locs → ∀ (z64_1 : Int), (z64_1 = 0 ∨ z64_1 = 1) → J64 z64_1 → ∀ (ls : Array Slot), zL ls 6 [(0, .ref (zA P 0 0 0)), (1, .int (zI p0)), (2, .int (zI p1)), (3, .int (zI p2)), (4, .int (zI p3)), (5, .int (zI p4))] → W p l e rX1_constructor s m args below meth c H locs 1 6 (vx_MQ below (zQi P Q) (zXc P X) args s 5 121 (zAr P)) (F0 m 64 ls [.int (zI z64_1), .int (zI p4)]) := by
              intro H locs hG z64_1 hz64_1 hV ls hL
              rw [eJ64] at hV
              refine z_call_z hG (zrunS hC hG (mX1_isKindOf l P G p4 hp4 z64_1 hz64_1 hV) kSX1_113 rfl rfl rfl ⟨(Nat.le_of_ble_eq_true rfl), (Nat.le_of_ble_eq_true rfl)⟩ ⟨(Nat.le_of_ble_eq_true rfl), (Nat.le_of_ble_eq_true rfl)⟩ rfl ⟨zcs_0, (Nat.le_of_ble_eq_true rfl)⟩ hL.1.1 dX1_constructor_64) ?_
              rintro x15 _ _ _ hx15 ⟨rfl, hV⟩ hG
              refine z_if_eq (tgt := 74) hC (inR_b hx15) hV dX1_constructor_67 (by decide) ?_ ?_
              · intro hV
                exact hJ74 hG hV _ hL
              · intro hV
                refine z_iconst hC dX1_constructor_70 ?_
                refine z_goto (tgt := 75) hC dX1_constructor_71 (by decide) ?_
                exact hJ75 hG 1 (Or.inr rfl) hV _ hL
            refine z_icmp_le (tgt := 63) hC hp1 (inR_lit rfl) hV dX1_constructor_56 (by decide) ?_ ?_
            · intro hV
              refine z_iconst hC dX1_constructor_63 ?_
              exact hJ64 hG 0 (Or.inl rfl) hV _ hL
            · intro hV
              refine z_iconst hC dX1_constructor_59 ?_
              refine z_goto (tgt := 64) hC dX1_constructor_60 (by decide) ?_
              exact hJ64 hG 1 (Or.inr rfl) hV _ hL
        refine z_icmp_le (tgt := 45) hC hp1 (inR_lit rfl) hV dX1_constructor_38 (by decide) ?_ ?_
        · intro hV
          refine z_iconst hC dX1_constructor_45 ?_
          exact hJ46 hG 0 (Or.inl rfl) hV _ hL
        · intro hV
          refine z_iconst hC dX1_constructor_41 ?_
          refine z_goto (tgt := 46) hC dX1_constructor_42 (by decide) ?_
          exact hJ46 hG 1 (Or.inr rfl) hV _ hL
    refine z_if_le (tgt := 27) hC hp1 hV dX1_constructor_20 (by decide) ?_ ?_
    · intro hV
      refine z_iconst hC dX1_constructor_27 ?_
      exact hJ28 hG 0 (Or.inl rfl) hV _ hL
    · intro hV
      refine z_iconst hC dX1_constructor_23 ?_
      refine z_goto (tgt := 28) hC dX1_constructor_24 (by decide) ?_
      exact hJ28 hG 1 (Or.inr rfl) hV _ hL
abbrev rX1_addValue : Room := { frames := 9, cells := 2, slots := 106, locals := 199 }
def vX1_addValue (p0 : ZR) (G : ZG) (X : Nat → ZG → Prop) (Q : Int → ZG → Prop) : Prop := vJ2_size 8 G fun (x1 : Int) => zjn (fun (z17_0 : Int) => vX1_requireState z17_0 G X fun (_ : Unit) => vJ2_add 8 p0 G fun (x2 : Int) (G1 : ZG) => vJ2_size 8 G1 fun (x3 : Int) => Q (w32 (x3 - 1)) G1) fun J17 => zbr (40 ≤ x1) (J17 0) (J17 1)
set_option maxHeartbeats 4000000 in
theorem mX1_addValue (l : Launch) (P : ZP) (G : ZG) (p0 : ZR) {X : Nat → ZG → Prop} {Q : Int → ZG → Prop} (hst : l.stackTraces = false) (hV : vX1_addValue p0 G X Q) : vx_Met l yX1_addValue (ws_ yX1_addValue cX1_addValue 2 (some .int)) rX1_addValue (zPc P G [.ref (zA P 0 0 0), zrv P p0]) (zQi P Q) (zXc P X) 2 106 (zAr P) := by
  refine zMetX (own := RX1) rfl (by decide) (zcs_c rfl (zcs_c (zrv_cat _ _) zcs_0)) (Nat.le_of_ble_eq_true rfl) (fun p e s m args below meth c ls hC hr hk hn hnt hG hL => ?_)
  unfold vX1_addValue at hV
  refine z_aload_n hC zvr_a rfl (hL.at 0 rfl) dX1_addValue_0 ?_
  refine z_getO hC hG 8 kFX1_29_1 rfl rfl dX1_addValue_1 ?_
  refine z_call_i hG (zrunV (ci := 2) hC hG (Nat.le_of_ble_eq_true rfl) (Nat.le_of_ble_eq_true rfl) (zobj hG rfl (Nat.le_of_ble_eq_true rfl) (Nat.le_of_ble_eq_true rfl)) (mJ2_size l P G 8 rfl hV) kVX1_101 rfl rfl rfl ⟨(Nat.le_of_ble_eq_true rfl), (Nat.le_of_ble_eq_true rfl)⟩ ⟨(Nat.le_of_ble_eq_true rfl), (Nat.le_of_ble_eq_true rfl)⟩ rfl ⟨zcs_0, (Nat.le_of_ble_eq_true rfl)⟩ hL.1.1 dX1_addValue_4) ?_
  rintro x1 _ _ _ hx1 ⟨rfl, hV⟩ hG
  refine z_bipush hC rfl dX1_addValue_7 ?_
  obtain ⟨J17, eJ17, hV⟩ := zjn_abs hV
  have hJ17 : ∀ {H : Heap} {locs : List Loc}, zS P s G H locs → ∀ (z17_0 : Int), (z17_0 = 0 ∨ z17_0 = 1) → J17 z17_0 → ∀ (ls : Array Slot), zL ls 2 [(0, .ref (zA P 0 0 0)), (1, zrv P p0)] → W p l e rX1_addValue s m args below meth c H locs 0 0 (vx_MQ below (zQi P Q) (zXc P X) args s 2 106 (zAr P)) (F0 m 17 ls [.int (zI z17_0)]) := by
    intro H locs hG z17_0 hz17_0 hV ls hL
    rw [eJ17] at hV
    refine z_xcall_v hG hnt hk (zrunSX hC hG (mX1_requireState l P G z17_0 hz17_0 hst hV) kSX1_120 rfl rfl rfl ⟨(Nat.le_of_ble_eq_true rfl), (Nat.le_of_ble_eq_true rfl)⟩ ⟨(Nat.le_of_ble_eq_true rfl), (Nat.le_of_ble_eq_true rfl)⟩ rfl ⟨zcs_0, (Nat.le_of_ble_eq_true rfl)⟩ hL.1.1 dX1_addValue_17) (Nat.le_of_ble_eq_true rfl) (Nat.le_of_ble_eq_true rfl) ?_
    rintro _ _ _ ⟨rfl, hV⟩ hG
    refine z_aload_n hC zvr_a rfl (hL.at 0 rfl) dX1_addValue_20 ?_
    refine z_getO hC hG 8 kFX1_29_1 rfl rfl dX1_addValue_21 ?_
    refine z_aload_n hC zvr_r rfl (hL.at 1 rfl) dX1_addValue_24 ?_
    refine z_call_z hG (zrunV (ci := 2) hC hG (Nat.le_of_ble_eq_true rfl) (Nat.le_of_ble_eq_true rfl) (zobj hG rfl (Nat.le_of_ble_eq_true rfl) (Nat.le_of_ble_eq_true rfl)) (mJ2_add l P G 8 rfl p0 hV) kVX1_79 rfl rfl rfl ⟨(Nat.le_of_ble_eq_true rfl), (Nat.le_of_ble_eq_true rfl)⟩ ⟨(Nat.le_of_ble_eq_true rfl), (Nat.le_of_ble_eq_true rfl)⟩ rfl ⟨zcs_0, (Nat.le_of_ble_eq_true rfl)⟩ hL.1.1 dX1_addValue_25) ?_
    rintro x2 G1 _ _ hx2 hV hG
    refine z_pop hC rfl dX1_addValue_28 ?_
    refine z_aload_n hC zvr_a rfl (hL.at 0 rfl) dX1_addValue_29 ?_
    refine z_getO hC hG 8 kFX1_29_1 rfl rfl dX1_addValue_30 ?_
    refine z_call_i hG (zrunV (ci := 2) hC hG (Nat.le_of_ble_eq_true rfl) (Nat.le_of_ble_eq_true rfl) (zobj hG rfl (Nat.le_of_ble_eq_true rfl) (Nat.le_of_ble_eq_true rfl)) (mJ2_size l P G1 8 rfl hV) kVX1_101 rfl rfl rfl ⟨(Nat.le_of_ble_eq_true rfl), (Nat.le_of_ble_eq_true rfl)⟩ ⟨(Nat.le_of_ble_eq_true rfl), (Nat.le_of_ble_eq_true rfl)⟩ rfl ⟨zcs_0, (Nat.le_of_ble_eq_true rfl)⟩ hL.1.1 dX1_addValue_33) ?_
    rintro x3 _ _ _ hx3 ⟨rfl, hV⟩ hG
    refine z_iconst hC dX1_addValue_36 ?_
    refine z_isub hC dX1_addValue_37 ?_
    exact vx_ret (z_iret hC hG hr hk (inR_w _) hV (Nat.le_of_ble_eq_true rfl) (Nat.le_of_ble_eq_true rfl) dX1_addValue_38)
  refine z_icmp_ge (tgt := 16) hC hx1 (inR_lit rfl) hV dX1_addValue_9 (by decide) ?_ ?_
  · intro hV
    refine z_iconst hC dX1_addValue_16 ?_
    exact hJ17 hG 0 (Or.inl rfl) hV _ hL
  · intro hV
    refine z_iconst hC dX1_addValue_12 ?_
    refine z_goto (tgt := 17) hC dX1_addValue_13 (by decide) ?_
    exact hJ17 hG 1 (Or.inr rfl) hV _ hL
abbrev rX1_num : Room := { frames := 10, cells := 5, slots := 116, locals := 220 }
def vX1_num (p0 : Int) (G : ZG) (X : Nat → ZG → Prop) (Q : Int → ZG → Prop) : Prop := vX1_inRange p0 0 9 fun (x1 : Int) => vX1_requireArgument x1 G X fun (_ : Unit) => znw G (.inr (.inr (7, zdf 7))) fun (x2 : ZR) (G1 : ZG) => znI0 G1 0 0 0 fun (x3 : ZR) (G2 : ZG) => vX1_row x3 fun (x4 : ZR) => znn x2 ∧ vX7_init x2 4 p0 x4 p0 G2 fun (G3 : ZG) => vX1_addValue x2 G3 X fun (x6 : Int) (G4 : ZG) => Q x6 G4
set_option maxHeartbeats 4000000 in
theorem mX1_num (l : Launch) (P : ZP) (G : ZG) (p0 : Int) (hp0 : inR p0) {X : Nat → ZG → Prop} {Q : Int → ZG → Prop} (hst : l.stackTraces = false) (hV : vX1_num p0 G X Q) : vx_Met l yX1_num (ws_ yX1_num cX1_num 2 (some .int)) rX1_num (zPc P G [.ref (zA P 0 0 0), .int (zI p0)]) (zQi P Q) (zXc P X) 5 116 (zAr P) := by
  refine zMetX (own := RX1) rfl (by decide) (zcs_c rfl (zcs_c rfl zcs_0)) (Nat.le_of_ble_eq_true rfl) (fun p e s m args below meth c ls hC hr hk hn hnt hG hL => ?_)
  unfold vX1_num at hV
  refine z_iload_n hC rfl (hL.at 1 rfl) dX1_num_0 ?_
  refine z_iconst hC dX1_num_1 ?_
  refine z_bipush hC rfl dX1_num_2 ?_
  refine z_call_z hG (zrunS hC hG (mX1_inRange l P G p0 hp0 0 (inR_lit rfl) 9 (inR_lit rfl) hV) kSX1_91 rfl rfl rfl ⟨(Nat.le_of_ble_eq_true rfl), (Nat.le_of_ble_eq_true rfl)⟩ ⟨(Nat.le_of_ble_eq_true rfl), (Nat.le_of_ble_eq_true rfl)⟩ rfl ⟨zcs_0, (Nat.le_of_ble_eq_true rfl)⟩ hL.1.1 dX1_num_4) ?_
  rintro x1 _ _ _ hx1 ⟨rfl, hV⟩ hG
  refine z_xcall_v hG hnt hk (zrunSX hC hG (mX1_requireArgument l P G x1 hx1 hst hV) kSX1_117 rfl rfl rfl ⟨(Nat.le_of_ble_eq_true rfl), (Nat.le_of_ble_eq_true rfl)⟩ ⟨(Nat.le_of_ble_eq_true rfl), (Nat.le_of_ble_eq_true rfl)⟩ rfl ⟨zcs_0, (Nat.le_of_ble_eq_true rfl)⟩ hL.1.1 dX1_num_7) (Nat.le_of_ble_eq_true rfl) (Nat.le_of_ble_eq_true rfl) ?_
  rintro _ _ _ ⟨rfl, hV⟩ hG
  refine z_aload_n hC zvr_a rfl (hL.at 0 rfl) dX1_num_10 ?_
  refine z_new (ci := 7) (n := 4) hC hG (Nat.le_of_ble_eq_true rfl) (Nat.le_of_ble_eq_true rfl) rfl q653 q654 q120 hV (Nat.le_of_ble_eq_true rfl) (Nat.le_of_ble_eq_true rfl) dX1_num_11 ?_
  intro x2 G1 _ hG hV
  refine z_dup hC (zrv_cat _ _) dX1_num_14 ?_
  refine z_iconst hC dX1_num_15 ?_
  refine z_iload_n hC rfl (hL.at 1 rfl) dX1_num_16 ?_
  refine z_iconst hC dX1_num_17 ?_
  refine z_newI (t := 0) hC hG rfl (Nat.le_of_ble_eq_true rfl) q223 (inR_lit rfl) (Nat.le_of_ble_eq_true rfl) hV (Nat.le_of_ble_eq_true rfl) (Nat.le_of_ble_eq_true rfl) dX1_num_18 ?_
  intro x3 G2 _ hG hV
  refine z_call_r hG (zrunS hC hG (mX1_row l P G2 x3 hV) kSX1_15 rfl rfl rfl ⟨(Nat.le_of_ble_eq_true rfl), (Nat.le_of_ble_eq_true rfl)⟩ ⟨(Nat.le_of_ble_eq_true rfl), (Nat.le_of_ble_eq_true rfl)⟩ rfl ⟨(zcs_c rfl (zcs_c rfl (zcs_c (zrv_cat _ _) (zcs_c (zrv_cat _ _) (zcs_c rfl zcs_0))))), (Nat.le_of_ble_eq_true rfl)⟩ hL.1.1 dX1_num_20) ?_
  rintro x4 _ _ _  ⟨rfl, hV⟩ hG
  refine z_iload_n hC rfl (hL.at 1 rfl) dX1_num_23 ?_
  obtain ⟨hO5, hV⟩ := hV
  refine z_call_v hG (zrunIN hC hG hO5 (mX7_init l P G2 x2 4 (inR_lit rfl) p0 hp0 x4 p0 hp0 hV) kIX1_132 rfl rfl rfl ⟨(Nat.le_of_ble_eq_true rfl), (Nat.le_of_ble_eq_true rfl)⟩ ⟨(Nat.le_of_ble_eq_true rfl), (Nat.le_of_ble_eq_true rfl)⟩ rfl ⟨(zcs_c (zrv_cat _ _) (zcs_c rfl zcs_0)), (Nat.le_of_ble_eq_true rfl)⟩ hL.1.1 dX1_num_24) ?_
  rintro G3 _ _ hV hG
  refine z_xcall_i hG hnt hk (zrunVX (ci := 1) hC hG (Nat.le_of_ble_eq_true rfl) (Nat.le_of_ble_eq_true rfl) (zobj hG rfl (Nat.le_of_ble_eq_true rfl) (Nat.le_of_ble_eq_true rfl)) (mX1_addValue l P G3 x2 hst hV) kVX1_135 rfl rfl rfl ⟨(Nat.le_of_ble_eq_true rfl), (Nat.le_of_ble_eq_true rfl)⟩ ⟨(Nat.le_of_ble_eq_true rfl), (Nat.le_of_ble_eq_true rfl)⟩ rfl ⟨zcs_0, (Nat.le_of_ble_eq_true rfl)⟩ hL.1.1 dX1_num_27) (Nat.le_of_ble_eq_true rfl) (Nat.le_of_ble_eq_true rfl) ?_
  rintro x6 G4 _ _ hx6 hV hG
  exact vx_ret (z_iret hC hG hr hk hx6 hV (Nat.le_of_ble_eq_true rfl) (Nat.le_of_ble_eq_true rfl) dX1_num_30)
abbrev rX1_isNumberOf : Room := { frames := 2, cells := 0, slots := 0, locals := 34 }
def vX1_isNumberOf (p0 : Int) (p1 : Int) (Q : Int → Prop) : Prop := zjn (fun (z12_2 : Int) => vX1_inRange p0 0 z12_2 fun (x1 : Int) => Q x1) fun J12 => zbr (p1 = 0) (J12 0) (J12 9)
set_option maxHeartbeats 4000000 in
theorem mX1_isNumberOf (l : Launch) (P : ZP) (G : ZG) (p0 : Int) (hp0 : inR p0) (p1 : Int) (hp1 : p1 = 0 ∨ p1 = 1) {Q : Int → Prop} (hV : vX1_isNumberOf p0 p1 Q) : Met l yX1_isNumberOf (ws_ yX1_isNumberOf cX1_isNumberOf 2 (some .boolean)) rX1_isNumberOf (zPc P G [.int (zI p0), .int (zI p1)]) (zQz P (fun r G2 => G = G2 ∧ Q r)) 0 0 (zAr P) := by
  refine zMet RX1 (plainFor_of_name (by decide)) rfl (zcs_c rfl (zcs_c rfl zcs_0)) (Nat.le_of_ble_eq_true rfl) (fun p e s m args below meth c ls hC hr hk hn hG hL => ?_)
  unfold vX1_isNumberOf at hV
  refine z_iload_n hC rfl (hL.at 0 rfl) dX1_isNumberOf_0 ?_
  refine z_iconst hC dX1_isNumberOf_1 ?_
  refine z_iload_n hC rfl (hL.at 1 rfl) dX1_isNumberOf_2 ?_
  obtain ⟨J12, eJ12, hV⟩ := zjn_abs hV
  have hJ12 : ∀ {H : Heap} {locs : List Loc}, zS P s G H locs → ∀ (z12_2 : Int), inR z12_2 → J12 z12_2 → ∀ (ls : Array Slot), zL ls 2 [] → W p l e rX1_isNumberOf s m args below meth c H locs 0 0 (MQ below (zQz P (fun r G2 => G = G2 ∧ Q r)) args s 0 0 (zAr P)) (F0 m 12 ls [.int (zI z12_2), .int (zI 0), .int (zI p0)]) := by
    intro H locs hG z12_2 hz12_2 hV ls hL
    rw [eJ12] at hV
    refine z_call_z hG (zrunS hC hG (mX1_inRange l P G p0 hp0 0 (inR_lit rfl) z12_2 hz12_2 hV) kSX1_91 rfl rfl rfl ⟨(Nat.le_of_ble_eq_true rfl), (Nat.le_of_ble_eq_true rfl)⟩ ⟨(Nat.le_of_ble_eq_true rfl), (Nat.le_of_ble_eq_true rfl)⟩ rfl ⟨zcs_0, (Nat.le_of_ble_eq_true rfl)⟩ hL.1.1 dX1_isNumberOf_12) ?_
    rintro x1 _ _ _ hx1 ⟨rfl, hV⟩ hG
    exact z_zret hC hG hr hk hx1 ⟨rfl, hV⟩ (Nat.le_of_ble_eq_true rfl) (Nat.le_of_ble_eq_true rfl) dX1_isNumberOf_15
  refine z_if_eq (tgt := 11) hC (inR_b hp1) hV dX1_isNumberOf_3 (by decide) ?_ ?_
  · intro hV
    refine z_iconst hC dX1_isNumberOf_11 ?_
    exact hJ12 hG 0 (inR_lit rfl) hV _ (hL.sub [] rfl)
  · intro hV
    refine z_bipush hC rfl dX1_isNumberOf_6 ?_
    refine z_goto (tgt := 12) hC dX1_isNumberOf_8 (by decide) ?_
    exact hJ12 hG 9 (inR_lit rfl) hV _ (hL.sub [] rfl)
abbrev rX1_seq : Room := { frames := 10, cells := 5, slots := 119, locals := 220 }
def vX1_seq (p0 : Int) (p1 : Int) (p2 : Int) (p3 : Int) (G : ZG) (X : Nat → ZG → Prop) (Q : Int → ZG → Prop) : Prop := vX1_inRange p0 0 3 fun (x1 : Int) => zjn (fun (z65_0 : Int) => vX1_requireArgument z65_0 G X fun (_ : Unit) => znw G (.inr (.inr (7, zdf 7))) fun (x2 : ZR) (G1 : ZG) => vX1_firstOf p0 p1 p2 p3 G1 fun (x3 : ZR) (G2 : ZG) => znn x2 ∧ vX7_init x2 5 p0 x3 (w32 ((w32 ((w32 ((w32 (3 * p0)) + p1)) + p2)) + p3)) G2 fun (G3 : ZG) => vX1_addValue x2 G3 X fun (x5 : Int) (G4 : ZG) => Q x5 G4) fun J65 => zjn (fun (_ : Unit) => J65 0) fun J64 => zbr (x1 = 0) (J64 ()) (zjn (fun (z19_1 : Int) => vX1_isNumberOf p1 z19_1 fun (x6 : Int) => zbr (x6 = 0) (J64 ()) (zjn (fun (z36_1 : Int) => vX1_isNumberOf p2 z36_1 fun (x7 : Int) => zbr (x7 = 0) (J64 ()) (zjn (fun (z54_1 : Int) => vX1_isNumberOf p3 z54_1 fun (x8 : Int) => zbr (x8 = 0) (J64 ()) (J65 1)) fun J54 => zbr (p0 ≤ 2) (J54 0) (J54 1))) fun J36 => zbr (p0 ≤ 1) (J36 0) (J36 1))) fun J19 => zbr (p0 ≤ 0) (J19 0) (J19 1))
set_option maxHeartbeats 4000000 in
theorem mX1_seq (l : Launch) (P : ZP) (G : ZG) (p0 : Int) (hp0 : inR p0) (p1 : Int) (hp1 : inR p1) (p2 : Int) (hp2 : inR p2) (p3 : Int) (hp3 : inR p3) {X : Nat → ZG → Prop} {Q : Int → ZG → Prop} (hst : l.stackTraces = false) (hV : vX1_seq p0 p1 p2 p3 G X Q) : vx_Met l yX1_seq (ws_ yX1_seq cX1_seq 5 (some .int)) rX1_seq (zPc P G [.ref (zA P 0 0 0), .int (zI p0), .int (zI p1), .int (zI p2), .int (zI p3)]) (zQi P Q) (zXc P X) 5 119 (zAr P) := by
  refine zMetX (own := RX1) rfl (by decide) (zcs_c rfl (zcs_c rfl (zcs_c rfl (zcs_c rfl (zcs_c rfl zcs_0))))) (Nat.le_of_ble_eq_true rfl) (fun p e s m args below meth c ls hC hr hk hn hnt hG hL => ?_)
  unfold vX1_seq at hV
  refine z_iload_n hC rfl (hL.at 1 rfl) dX1_seq_0 ?_
  refine z_iconst hC dX1_seq_1 ?_
  refine z_iconst hC dX1_seq_2 ?_
  refine z_call_z hG (zrunS hC hG (mX1_inRange l P G p0 hp0 0 (inR_lit rfl) 3 (inR_lit rfl) hV) kSX1_91 rfl rfl rfl ⟨(Nat.le_of_ble_eq_true rfl), (Nat.le_of_ble_eq_true rfl)⟩ ⟨(Nat.le_of_ble_eq_true rfl), (Nat.le_of_ble_eq_true rfl)⟩ rfl ⟨zcs_0, (Nat.le_of_ble_eq_true rfl)⟩ hL.1.1 dX1_seq_3) ?_
  rintro x1 _ _ _ hx1 ⟨rfl, hV⟩ hG
  obtain ⟨J65, eJ65, hV⟩ := zjn_abs hV
  have hJ65 : ∀ {H : Heap} {locs : List Loc}, zS P s G H locs → ∀ (z65_0 : Int), (z65_0 = 0 ∨ z65_0 = 1) → J65 z65_0 → ∀ (ls : Array Slot), zL ls 5 [(0, .ref (zA P 0 0 0)), (1, .int (zI p0)), (2, .int (zI p1)), (3, .int (zI p2)), (4, .int (zI p3))] → W p l e rX1_seq s m args below meth c H locs 0 0 (vx_MQ below (zQi P Q) (zXc P X) args s 5 119 (zAr P)) (F0 m 65 ls [.int (zI z65_0)]) := by
    intro H locs hG z65_0 hz65_0 hV ls hL
    rw [eJ65] at hV
    refine z_xcall_v hG hnt hk (zrunSX hC hG (mX1_requireArgument l P G z65_0 hz65_0 hst hV) kSX1_117 rfl rfl rfl ⟨(Nat.le_of_ble_eq_true rfl), (Nat.le_of_ble_eq_true rfl)⟩ ⟨(Nat.le_of_ble_eq_true rfl), (Nat.le_of_ble_eq_true rfl)⟩ rfl ⟨zcs_0, (Nat.le_of_ble_eq_true rfl)⟩ hL.1.1 dX1_seq_65) (Nat.le_of_ble_eq_true rfl) (Nat.le_of_ble_eq_true rfl) ?_
    rintro _ _ _ ⟨rfl, hV⟩ hG
    refine z_aload_n hC zvr_a rfl (hL.at 0 rfl) dX1_seq_68 ?_
    refine z_new (ci := 7) (n := 4) hC hG (Nat.le_of_ble_eq_true rfl) (Nat.le_of_ble_eq_true rfl) rfl q653 q654 q120 hV (Nat.le_of_ble_eq_true rfl) (Nat.le_of_ble_eq_true rfl) dX1_seq_69 ?_
    intro x2 G1 _ hG hV
    refine z_dup hC (zrv_cat _ _) dX1_seq_72 ?_
    refine z_iconst hC dX1_seq_73 ?_
    refine z_iload_n hC rfl (hL.at 1 rfl) dX1_seq_74 ?_
    refine z_iload_n hC rfl (hL.at 1 rfl) dX1_seq_75 ?_
    refine z_iload_n hC rfl (hL.at 2 rfl) dX1_seq_76 ?_
    refine z_iload_n hC rfl (hL.at 3 rfl) dX1_seq_77 ?_
    refine z_iload hC (hL.at 4 rfl) dX1_seq_78 ?_
    refine z_call_r hG (zrunS hC hG (mX1_firstOf l P G1 p0 hp0 p1 hp1 p2 hp2 p3 hp3 hV) kSX1_123 rfl rfl rfl ⟨(Nat.le_of_ble_eq_true rfl), (Nat.le_of_ble_eq_true rfl)⟩ ⟨(Nat.le_of_ble_eq_true rfl), (Nat.le_of_ble_eq_true rfl)⟩ rfl ⟨(zcs_c rfl (zcs_c rfl (zcs_c (zrv_cat _ _) (zcs_c (zrv_cat _ _) (zcs_c rfl zcs_0))))), (Nat.le_of_ble_eq_true rfl)⟩ hL.1.1 dX1_seq_80) ?_
    rintro x3 G2 _ _  hV hG
    refine z_iconst hC dX1_seq_83 ?_
    refine z_iload_n hC rfl (hL.at 1 rfl) dX1_seq_84 ?_
    refine z_imul hC dX1_seq_85 ?_
    refine z_iload_n hC rfl (hL.at 2 rfl) dX1_seq_86 ?_
    refine z_iadd hC dX1_seq_87 ?_
    refine z_iload_n hC rfl (hL.at 3 rfl) dX1_seq_88 ?_
    refine z_iadd hC dX1_seq_89 ?_
    refine z_iload hC (hL.at 4 rfl) dX1_seq_90 ?_
    refine z_iadd hC dX1_seq_92 ?_
    obtain ⟨hO4, hV⟩ := hV
    refine z_call_v hG (zrunIN hC hG hO4 (mX7_init l P G2 x2 5 (inR_lit rfl) p0 hp0 x3 (w32 ((w32 ((w32 ((w32 (3 * p0)) + p1)) + p2)) + p3)) (inR_w _) hV) kIX1_132 rfl rfl rfl ⟨(Nat.le_of_ble_eq_true rfl), (Nat.le_of_ble_eq_true rfl)⟩ ⟨(Nat.le_of_ble_eq_true rfl), (Nat.le_of_ble_eq_true rfl)⟩ rfl ⟨(zcs_c (zrv_cat _ _) (zcs_c rfl zcs_0)), (Nat.le_of_ble_eq_true rfl)⟩ hL.1.1 dX1_seq_93) ?_
    rintro G3 _ _ hV hG
    refine z_xcall_i hG hnt hk (zrunVX (ci := 1) hC hG (Nat.le_of_ble_eq_true rfl) (Nat.le_of_ble_eq_true rfl) (zobj hG rfl (Nat.le_of_ble_eq_true rfl) (Nat.le_of_ble_eq_true rfl)) (mX1_addValue l P G3 x2 hst hV) kVX1_135 rfl rfl rfl ⟨(Nat.le_of_ble_eq_true rfl), (Nat.le_of_ble_eq_true rfl)⟩ ⟨(Nat.le_of_ble_eq_true rfl), (Nat.le_of_ble_eq_true rfl)⟩ rfl ⟨zcs_0, (Nat.le_of_ble_eq_true rfl)⟩ hL.1.1 dX1_seq_96) (Nat.le_of_ble_eq_true rfl) (Nat.le_of_ble_eq_true rfl) ?_
    rintro x5 G4 _ _ hx5 hV hG
    exact vx_ret (z_iret hC hG hr hk hx5 hV (Nat.le_of_ble_eq_true rfl) (Nat.le_of_ble_eq_true rfl) dX1_seq_99)
  obtain ⟨J64, eJ64, hV⟩ := zjn_abs hV
  have hJ64 : ∀ {H : Heap} {locs : List Loc}, zS P s G H locs → J64 () → ∀ (ls : Array Slot), zL ls 5 [(0, .ref (zA P 0 0 0)), (1, .int (zI p0)), (2, .int (zI p1)), (3, .int (zI p2)), (4, .int (zI p3))] → W p l e rX1_seq s m args below meth c H locs 0 0 (vx_MQ below (zQi P Q) (zXc P X) args s 5 119 (zAr P)) (F0 m 64 ls []) := by
    intro H locs hG hV ls hL
    rw [eJ64] at hV
    refine z_iconst hC dX1_seq_64 ?_
    exact hJ65 hG 0 (Or.inl rfl) hV _ hL
  refine z_if_eq (tgt := 64) hC (inR_b hx1) hV dX1_seq_6 (by decide) ?_ ?_
  · intro hV
    exact hJ64 hG hV _ hL
  · intro hV
    refine z_iload_n hC rfl (hL.at 2 rfl) dX1_seq_9 ?_
    refine z_iload_n hC rfl (hL.at 1 rfl) dX1_seq_10 ?_
    obtain ⟨J19, eJ19, hV⟩ := zjn_abs hV
    have hJ19 : ∀ {H : Heap} {locs : List Loc}, zS P s G H locs → ∀ (z19_1 : Int), (z19_1 = 0 ∨ z19_1 = 1) → J19 z19_1 → ∀ (ls : Array Slot), zL ls 5 [(0, .ref (zA P 0 0 0)), (1, .int (zI p0)), (2, .int (zI p1)), (3, .int (zI p2)), (4, .int (zI p3))] → W p l e rX1_seq s m args below meth c H locs 0 0 (vx_MQ below (zQi P Q) (zXc P X) args s 5 119 (zAr P)) (F0 m 19 ls [.int (zI z19_1), .int (zI p1)]) := by
      intro H locs hG z19_1 hz19_1 hV ls hL
      rw [eJ19] at hV
      refine z_call_z hG (zrunS hC hG (mX1_isNumberOf l P G p1 hp1 z19_1 hz19_1 hV) kSX1_139 rfl rfl rfl ⟨(Nat.le_of_ble_eq_true rfl), (Nat.le_of_ble_eq_true rfl)⟩ ⟨(Nat.le_of_ble_eq_true rfl), (Nat.le_of_ble_eq_true rfl)⟩ rfl ⟨zcs_0, (Nat.le_of_ble_eq_true rfl)⟩ hL.1.1 dX1_seq_19) ?_
      rintro x6 _ _ _ hx6 ⟨rfl, hV⟩ hG
      refine z_if_eq (tgt := 64) hC (inR_b hx6) hV dX1_seq_22 (by decide) ?_ ?_
      · intro hV
        exact hJ64 hG hV _ hL
      · intro hV
        refine z_iload_n hC rfl (hL.at 3 rfl) dX1_seq_25 ?_
        refine z_iload_n hC rfl (hL.at 1 rfl) dX1_seq_26 ?_
        refine z_iconst hC dX1_seq_27 ?_
        obtain ⟨J36, eJ36, hV⟩ := zjn_abs hV
        have hJ36 : ∀ {H : Heap} {locs : List Loc}, zS P s G H locs → ∀ (z36_1 : Int), (z36_1 = 0 ∨ z36_1 = 1) → J36 z36_1 → ∀ (ls : Array Slot), zL ls 5 [(0, .ref (zA P 0 0 0)), (1, .int (zI p0)), (2, .int (zI p1)), (3, .int (zI p2)), (4, .int (zI p3))] → W p l e rX1_seq s m args below meth c H locs 0 0 (vx_MQ below (zQi P Q) (zXc P X) args s 5 119 (zAr P)) (F0 m 36 ls [.int (zI z36_1), .int (zI p2)]) := by
          intro H locs hG z36_1 hz36_1 hV ls hL
          rw [eJ36] at hV
          refine z_call_z hG (zrunS hC hG (mX1_isNumberOf l P G p2 hp2 z36_1 hz36_1 hV) kSX1_139 rfl rfl rfl ⟨(Nat.le_of_ble_eq_true rfl), (Nat.le_of_ble_eq_true rfl)⟩ ⟨(Nat.le_of_ble_eq_true rfl), (Nat.le_of_ble_eq_true rfl)⟩ rfl ⟨zcs_0, (Nat.le_of_ble_eq_true rfl)⟩ hL.1.1 dX1_seq_36) ?_
          rintro x7 _ _ _ hx7 ⟨rfl, hV⟩ hG
          refine z_if_eq (tgt := 64) hC (inR_b hx7) hV dX1_seq_39 (by decide) ?_ ?_
          · intro hV
            exact hJ64 hG hV _ hL
          · intro hV
            refine z_iload hC (hL.at 4 rfl) dX1_seq_42 ?_
            refine z_iload_n hC rfl (hL.at 1 rfl) dX1_seq_44 ?_
            refine z_iconst hC dX1_seq_45 ?_
            obtain ⟨J54, eJ54, hV⟩ := zjn_abs hV
            have hJ54 : ∀ {H : Heap} {locs : List Loc}, zS P s G H locs → ∀ (z54_1 : Int), (z54_1 = 0 ∨ z54_1 = 1) → J54 z54_1 → ∀ (ls : Array Slot), zL ls 5 [(0, .ref (zA P 0 0 0)), (1, .int (zI p0)), (2, .int (zI p1)), (3, .int (zI p2)), (4, .int (zI p3))] → W p l e rX1_seq s m args below meth c H locs 0 0 (vx_MQ below (zQi P Q) (zXc P X) args s 5 119 (zAr P)) (F0 m 54 ls [.int (zI z54_1), .int (zI p3)]) := by
              intro H locs hG z54_1 hz54_1 hV ls hL
              rw [eJ54] at hV
              refine z_call_z hG (zrunS hC hG (mX1_isNumberOf l P G p3 hp3 z54_1 hz54_1 hV) kSX1_139 rfl rfl rfl ⟨(Nat.le_of_ble_eq_true rfl), (Nat.le_of_ble_eq_true rfl)⟩ ⟨(Nat.le_of_ble_eq_true rfl), (Nat.le_of_ble_eq_true rfl)⟩ rfl ⟨zcs_0, (Nat.le_of_ble_eq_true rfl)⟩ hL.1.1 dX1_seq_54) ?_
              rintro x8 _ _ _ hx8 ⟨rfl, hV⟩ hG
              refine z_if_eq (tgt := 64) hC (inR_b hx8) hV dX1_seq_57 (by decide) ?_ ?_
              · intro hV
                exact hJ64 hG hV _ hL
              · intro hV
                refine z_iconst hC dX1_seq_60 ?_
                refine z_goto (tgt := 65) hC dX1_seq_61 (by decide) ?_
                exact hJ65 hG 1 (Or.inr rfl) hV _ hL
            refine z_icmp_le (tgt := 53) hC hp0 (inR_lit rfl) hV dX1_seq_46 (by decide) ?_ ?_
            · intro hV
              refine z_iconst hC dX1_seq_53 ?_
              exact hJ54 hG 0 (Or.inl rfl) hV _ hL
            · intro hV
              refine z_iconst hC dX1_seq_49 ?_
              refine z_goto (tgt := 54) hC dX1_seq_50 (by decide) ?_
              exact hJ54 hG 1 (Or.inr rfl) hV _ hL
        refine z_icmp_le (tgt := 35) hC hp0 (inR_lit rfl) hV dX1_seq_28 (by decide) ?_ ?_
        · intro hV
          refine z_iconst hC dX1_seq_35 ?_
          exact hJ36 hG 0 (Or.inl rfl) hV _ hL
        · intro hV
          refine z_iconst hC dX1_seq_31 ?_
          refine z_goto (tgt := 36) hC dX1_seq_32 (by decide) ?_
          exact hJ36 hG 1 (Or.inr rfl) hV _ hL
    refine z_if_le (tgt := 18) hC hp0 hV dX1_seq_11 (by decide) ?_ ?_
    · intro hV
      refine z_iconst hC dX1_seq_18 ?_
      exact hJ19 hG 0 (Or.inl rfl) hV _ hL
    · intro hV
      refine z_iconst hC dX1_seq_14 ?_
      refine z_goto (tgt := 19) hC dX1_seq_15 (by decide) ?_
      exact hJ19 hG 1 (Or.inr rfl) hV _ hL
abbrev rX1_fieldsOf : Room := { frames := 9, cells := 2, slots := 12, locals := 120 }
def vX1_fieldsOf (p0 : Int) (p1 : Int) (G : ZG) (X : Nat → ZG → Prop) (Q : ZR → Prop) : Prop := vX1_inRange p0 0 3 fun (x1 : Int) => vX1_requireIndex x1 G X fun (_ : Unit) => vJ2_get 7 p0 G fun (x2 : ZR) => zcaL x2 2 fun (o3 : Nat) => vJ2_size o3 G fun (x4 : Int) => vX1_inRange p1 0 (w32 (x4 - 1)) fun (x5 : Int) => vX1_requireIndex x5 G X fun (_ : Unit) => vJ2_get 7 p0 G fun (x6 : ZR) => zcaL x6 2 fun (o7 : Nat) => vJ2_get o7 p1 G fun (x8 : ZR) => zcaI G x8 ∧ Q x8
set_option maxHeartbeats 4000000 in
theorem mX1_fieldsOf (l : Launch) (P : ZP) (G : ZG) (p0 : Int) (hp0 : inR p0) (p1 : Int) (hp1 : inR p1) {X : Nat → ZG → Prop} {Q : ZR → Prop} (hst : l.stackTraces = false) (hV : vX1_fieldsOf p0 p1 G X Q) : vx_Met l yX1_fieldsOf (ws_ yX1_fieldsOf cX1_fieldsOf 3 (some (.array .int))) rX1_fieldsOf (zPc P G [.ref (zA P 0 0 0), .int (zI p0), .int (zI p1)]) (zQr P (fun r G2 => G = G2 ∧ Q r)) (zXc P X) 2 12 (zAr P) := by
  refine zMetX (own := RX1) rfl (by decide) (zcs_c rfl (zcs_c rfl (zcs_c rfl zcs_0))) (Nat.le_of_ble_eq_true rfl) (fun p e s m args below meth c ls hC hr hk hn hnt hG hL => ?_)
  unfold vX1_fieldsOf at hV
  refine z_iload_n hC rfl (hL.at 1 rfl) dX1_fieldsOf_0 ?_
  refine z_iconst hC dX1_fieldsOf_1 ?_
  refine z_iconst hC dX1_fieldsOf_2 ?_
  refine z_call_z hG (zrunS hC hG (mX1_inRange l P G p0 hp0 0 (inR_lit rfl) 3 (inR_lit rfl) hV) kSX1_91 rfl rfl rfl ⟨(Nat.le_of_ble_eq_true rfl), (Nat.le_of_ble_eq_true rfl)⟩ ⟨(Nat.le_of_ble_eq_true rfl), (Nat.le_of_ble_eq_true rfl)⟩ rfl ⟨zcs_0, (Nat.le_of_ble_eq_true rfl)⟩ hL.1.1 dX1_fieldsOf_3) ?_
  rintro x1 _ _ _ hx1 ⟨rfl, hV⟩ hG
  refine z_xcall_v hG hnt hk (zrunSX hC hG (mX1_requireIndex l P G x1 hx1 hst hV) kSX1_105 rfl rfl rfl ⟨(Nat.le_of_ble_eq_true rfl), (Nat.le_of_ble_eq_true rfl)⟩ ⟨(Nat.le_of_ble_eq_true rfl), (Nat.le_of_ble_eq_true rfl)⟩ rfl ⟨zcs_0, (Nat.le_of_ble_eq_true rfl)⟩ hL.1.1 dX1_fieldsOf_6) (Nat.le_of_ble_eq_true rfl) (Nat.le_of_ble_eq_true rfl) ?_
  rintro _ _ _ ⟨rfl, hV⟩ hG
  refine z_iload_n hC rfl (hL.at 2 rfl) dX1_fieldsOf_9 ?_
  refine z_iconst hC dX1_fieldsOf_10 ?_
  refine z_aload_n hC zvr_a rfl (hL.at 0 rfl) dX1_fieldsOf_11 ?_
  refine z_getO hC hG 7 kFX1_25_1 rfl rfl dX1_fieldsOf_12 ?_
  refine z_iload_n hC rfl (hL.at 1 rfl) dX1_fieldsOf_15 ?_
  refine z_call_r hG (zrunV (ci := 2) hC hG (Nat.le_of_ble_eq_true rfl) (Nat.le_of_ble_eq_true rfl) (zobj hG rfl (Nat.le_of_ble_eq_true rfl) (Nat.le_of_ble_eq_true rfl)) (mJ2_get l P G 7 rfl p0 hp0 hV) kVX1_95 rfl rfl rfl ⟨(Nat.le_of_ble_eq_true rfl), (Nat.le_of_ble_eq_true rfl)⟩ ⟨(Nat.le_of_ble_eq_true rfl), (Nat.le_of_ble_eq_true rfl)⟩ rfl ⟨(zcs_c rfl (zcs_c rfl zcs_0)), (Nat.le_of_ble_eq_true rfl)⟩ hL.1.1 dX1_fieldsOf_16) ?_
  rintro x2 _ _ _  ⟨rfl, hV⟩ hG
  refine z_castL hC hG (ci := 2) (Nat.le_of_ble_eq_true rfl) (Nat.le_of_ble_eq_true rfl) q145 hV dX1_fieldsOf_19 ?_
  intro o3 ho3 hV
  refine z_call_i hG (zrunV (ci := 2) hC hG (Nat.le_of_ble_eq_true rfl) (Nat.le_of_ble_eq_true rfl) (zobj hG ho3 (Nat.le_of_ble_eq_true rfl) (Nat.le_of_ble_eq_true rfl)) (mJ2_size l P G o3 ho3 hV) kVX1_101 rfl rfl rfl ⟨(Nat.le_of_ble_eq_true rfl), (Nat.le_of_ble_eq_true rfl)⟩ ⟨(Nat.le_of_ble_eq_true rfl), (Nat.le_of_ble_eq_true rfl)⟩ rfl ⟨(zcs_c rfl (zcs_c rfl zcs_0)), (Nat.le_of_ble_eq_true rfl)⟩ hL.1.1 dX1_fieldsOf_22) ?_
  rintro x4 _ _ _ hx4 ⟨rfl, hV⟩ hG
  refine z_iconst hC dX1_fieldsOf_25 ?_
  refine z_isub hC dX1_fieldsOf_26 ?_
  refine z_call_z hG (zrunS hC hG (mX1_inRange l P G p1 hp1 0 (inR_lit rfl) (w32 (x4 - 1)) (inR_w _) hV) kSX1_91 rfl rfl rfl ⟨(Nat.le_of_ble_eq_true rfl), (Nat.le_of_ble_eq_true rfl)⟩ ⟨(Nat.le_of_ble_eq_true rfl), (Nat.le_of_ble_eq_true rfl)⟩ rfl ⟨zcs_0, (Nat.le_of_ble_eq_true rfl)⟩ hL.1.1 dX1_fieldsOf_27) ?_
  rintro x5 _ _ _ hx5 ⟨rfl, hV⟩ hG
  refine z_xcall_v hG hnt hk (zrunSX hC hG (mX1_requireIndex l P G x5 hx5 hst hV) kSX1_105 rfl rfl rfl ⟨(Nat.le_of_ble_eq_true rfl), (Nat.le_of_ble_eq_true rfl)⟩ ⟨(Nat.le_of_ble_eq_true rfl), (Nat.le_of_ble_eq_true rfl)⟩ rfl ⟨zcs_0, (Nat.le_of_ble_eq_true rfl)⟩ hL.1.1 dX1_fieldsOf_30) (Nat.le_of_ble_eq_true rfl) (Nat.le_of_ble_eq_true rfl) ?_
  rintro _ _ _ ⟨rfl, hV⟩ hG
  refine z_aload_n hC zvr_a rfl (hL.at 0 rfl) dX1_fieldsOf_33 ?_
  refine z_getO hC hG 7 kFX1_25_1 rfl rfl dX1_fieldsOf_34 ?_
  refine z_iload_n hC rfl (hL.at 1 rfl) dX1_fieldsOf_37 ?_
  refine z_call_r hG (zrunV (ci := 2) hC hG (Nat.le_of_ble_eq_true rfl) (Nat.le_of_ble_eq_true rfl) (zobj hG rfl (Nat.le_of_ble_eq_true rfl) (Nat.le_of_ble_eq_true rfl)) (mJ2_get l P G 7 rfl p0 hp0 hV) kVX1_95 rfl rfl rfl ⟨(Nat.le_of_ble_eq_true rfl), (Nat.le_of_ble_eq_true rfl)⟩ ⟨(Nat.le_of_ble_eq_true rfl), (Nat.le_of_ble_eq_true rfl)⟩ rfl ⟨zcs_0, (Nat.le_of_ble_eq_true rfl)⟩ hL.1.1 dX1_fieldsOf_38) ?_
  rintro x6 _ _ _  ⟨rfl, hV⟩ hG
  refine z_castL hC hG (ci := 2) (Nat.le_of_ble_eq_true rfl) (Nat.le_of_ble_eq_true rfl) q145 hV dX1_fieldsOf_41 ?_
  intro o7 ho7 hV
  refine z_iload_n hC rfl (hL.at 2 rfl) dX1_fieldsOf_44 ?_
  refine z_call_r hG (zrunV (ci := 2) hC hG (Nat.le_of_ble_eq_true rfl) (Nat.le_of_ble_eq_true rfl) (zobj hG ho7 (Nat.le_of_ble_eq_true rfl) (Nat.le_of_ble_eq_true rfl)) (mJ2_get l P G o7 ho7 p1 hp1 hV) kVX1_95 rfl rfl rfl ⟨(Nat.le_of_ble_eq_true rfl), (Nat.le_of_ble_eq_true rfl)⟩ ⟨(Nat.le_of_ble_eq_true rfl), (Nat.le_of_ble_eq_true rfl)⟩ rfl ⟨zcs_0, (Nat.le_of_ble_eq_true rfl)⟩ hL.1.1 dX1_fieldsOf_45) ?_
  rintro x8 _ _ _  ⟨rfl, hV⟩ hG
  refine z_castI hC hG q171 hV dX1_fieldsOf_48 (fun hV => ?_)
  exact vx_ret (z_aret (r := x8) hC hG hr hk (Or.inr ⟨_, rfl⟩) ⟨rfl, hV⟩ (Nat.le_of_ble_eq_true rfl) (Nat.le_of_ble_eq_true rfl) dX1_fieldsOf_51)
abbrev rX1_requireParts (mc ms : Nat) : Room := { frames := 9, cells := mc, slots := ms, locals := 120 }
def vX1_requireParts (p0 : Int) (p1 : Int) (p2 : Int) (p3 : Int) (p4 : Int) (mc ms : Nat) (G : ZG) (X : Nat → ZG → Prop) (Q : ZG → Prop) : Prop := (0 + 1 ≤ mc ∧ 0 + 3 ≤ ms) ∧ znI0 G 0 3 3 fun (x1 : ZR) (G1 : ZG) => zeS G1 x1 0 p1 fun (G2 : ZG) => zeS G2 x1 1 p2 fun (G3 : ZG) => zeS G3 x1 2 p3 fun (G4 : ZG) => vX1_row x1 fun (x2 : ZR) => zl4 (fun (P23 : Int → ZG → Nat → Nat → Prop) (a23_6 : Int) (K23 : ZG) (kc ks : Nat) => zbr (p0 ≤ a23_6) (zl4 (fun (P54 : Int → ZG → Nat → Nat → Prop) (a54_6 : Int) (K54 : ZG) (kc ks : Nat) => zeN K54 x2 fun (x3 : Int) => zbr (x3 ≤ a54_6) (Q K54) (zeI K54 x2 a54_6 fun (x4 : Int) => zjn (fun (z76_0 : Int) => (kc + 1 ≤ mc ∧ ks + 6 ≤ ms) ∧ vX1_requireArgument z76_0 K54 X fun (_ : Unit) => zlt1 (w32 (a54_6 + 1)) fun (x5 : Int) => P54 x5 K54 (kc + 1) (ks + 6)) fun J76 => zbr (x4 ≠ (-1)) (J76 0) (J76 1))) p0 K23 kc ks) (zeI K23 x2 a23_6 fun (x6 : Int) => vX1_inRange x6 0 (w32 (p4 - 1)) fun (x7 : Int) => (kc + 1 ≤ mc ∧ ks + 6 ≤ ms) ∧ vX1_requireIndex x7 K23 X fun (_ : Unit) => zlt1 (w32 (a23_6 + 1)) fun (x8 : Int) => P23 x8 K23 (kc + 1) (ks + 6))) 0 G4 (0 + 1) (0 + 3)
set_option maxHeartbeats 4000000 in
theorem mX1_requireParts (l : Launch) (P : ZP) (G : ZG) (mc ms : Nat) (p0 : Int) (hp0 : inR p0) (p1 : Int) (hp1 : inR p1) (p2 : Int) (hp2 : inR p2) (p3 : Int) (hp3 : inR p3) (p4 : Int) (hp4 : inR p4) {X : Nat → ZG → Prop} {Q : ZG → Prop} (hst : l.stackTraces = false) (hV : vX1_requireParts p0 p1 p2 p3 p4 mc ms G X Q) : vx_Met l yX1_requireParts (ws_ yX1_requireParts cX1_requireParts 7 none) (rX1_requireParts mc ms) (zPc P G [.int (zI p0), .int (zI p1), .int (zI p2), .int (zI p3), .int (zI p4)]) (zQv P Q) (zXc P X) mc ms (zAr P) := by
  refine zMetX (own := RX1) rfl (by decide) (zcs_c rfl (zcs_c rfl (zcs_c rfl (zcs_c rfl (zcs_c rfl zcs_0))))) (Nat.le_of_ble_eq_true rfl) (fun p e s m args below meth c ls hC hr hk hn hnt hG hL => ?_)
  unfold vX1_requireParts at hV
  have hB : 0 ≤ mc ∧ 0 ≤ ms := ⟨Nat.zero_le _, Nat.zero_le _⟩
  refine z_iconst hC dX1_requireParts_0 ?_
  obtain ⟨hB, hV⟩ := hV
  refine z_newI (t := 0) hC hG rfl (Nat.le_of_ble_eq_true rfl) q223 (inR_lit rfl) (Nat.le_of_ble_eq_true rfl) hV hB.1 hB.2 dX1_requireParts_1 ?_
  intro x1 G1 _ hG hV
  refine z_dup hC (zrv_cat _ _) dX1_requireParts_3 ?_
  refine z_iconst hC dX1_requireParts_4 ?_
  refine z_iload_n hC rfl (hL.at 1 rfl) dX1_requireParts_5 ?_
  refine z_east hC hG (inR_lit rfl) hp1 hV dX1_requireParts_6 ?_
  intro G2 _ _ hG hV
  refine z_dup hC (zrv_cat _ _) dX1_requireParts_7 ?_
  refine z_iconst hC dX1_requireParts_8 ?_
  refine z_iload_n hC rfl (hL.at 2 rfl) dX1_requireParts_9 ?_
  refine z_east hC hG (inR_lit rfl) hp2 hV dX1_requireParts_10 ?_
  intro G3 _ _ hG hV
  refine z_dup hC (zrv_cat _ _) dX1_requireParts_11 ?_
  refine z_iconst hC dX1_requireParts_12 ?_
  refine z_iload_n hC rfl (hL.at 3 rfl) dX1_requireParts_13 ?_
  refine z_east hC hG (inR_lit rfl) hp3 hV dX1_requireParts_14 ?_
  intro G4 _ _ hG hV
  refine z_call_r hG (zrunS hC hG (mX1_row l P G4 x1 hV) kSX1_15 rfl rfl rfl ⟨(Nat.le_of_ble_eq_true rfl), (Nat.le_of_ble_eq_true rfl)⟩ ⟨hB.1, hB.2⟩ rfl ⟨zcs_0, (Nat.le_of_ble_eq_true rfl)⟩ hL.1.1 dX1_requireParts_15) ?_
  rintro x2 _ _ _  ⟨rfl, hV⟩ hG
  refine z_astore (lv' := [(5, zrv P x2), (0, .int (zI p0)), (1, .int (zI p1)), (2, .int (zI p2)), (3, .int (zI p3)), (4, .int (zI p4))]) hC zvr_r hL (by decide) rfl dX1_requireParts_18 (fun ls hL => ?_)
  refine z_iconst hC dX1_requireParts_20 ?_
  refine z_istore (lv' := [(6, .int (zI 0)), (5, zrv P x2), (0, .int (zI p0)), (1, .int (zI p1)), (2, .int (zI p2)), (3, .int (zI p3)), (4, .int (zI p4))]) hC hL (by decide) rfl dX1_requireParts_21 (fun ls hL => ?_)
  refine zl4_use hV (fun (a23_6 : Int) (K23 : ZG) (kc ks : Nat) => inR a23_6 → (kc ≤ mc ∧ ks ≤ ms) → ∀ (H : Heap) (locs : List Loc), zS P s K23 H locs → ∀ (ls : Array Slot), zL ls 7 [(0, .int (zI p0)), (4, .int (zI p4)), (5, zrv P x2), (6, .int (zI a23_6))] → W p l e (rX1_requireParts mc ms) s m args below meth c H locs kc ks (vx_MQ below (zQv P Q) (zXc P X) args s mc ms (zAr P)) (F0 m 23 ls [])) ?_ (inR_lit rfl) hB _ _ hG _ (hL.sub [2, 6, 1, 0] rfl)
  intro P23 a23_6 K23 kc ks hP23 hV ha23_6 hB H locs hG ls hL
  refine z_iload hC (hL.at 3 rfl) dX1_requireParts_23 ?_
  refine z_iload_n hC rfl (hL.at 0 rfl) dX1_requireParts_25 ?_
  refine z_icmp_ge (tgt := 51) hC ha23_6 hp0 hV dX1_requireParts_26 (by decide) ?_ ?_
  · intro hV
    refine z_iload_n hC rfl (hL.at 0 rfl) dX1_requireParts_51 ?_
    refine z_istore (lv' := [(6, .int (zI p0)), (0, .int (zI p0)), (4, .int (zI p4)), (5, zrv P x2)]) hC hL (by decide) rfl dX1_requireParts_52 (fun ls hL => ?_)
    refine zl4_use hV (fun (a54_6 : Int) (K54 : ZG) (kc ks : Nat) => inR a54_6 → (kc ≤ mc ∧ ks ≤ ms) → ∀ (H : Heap) (locs : List Loc), zS P s K54 H locs → ∀ (ls : Array Slot), zL ls 7 [(5, zrv P x2), (6, .int (zI a54_6))] → W p l e (rX1_requireParts mc ms) s m args below meth c H locs kc ks (vx_MQ below (zQv P Q) (zXc P X) args s mc ms (zAr P)) (F0 m 54 ls [])) ?_ hp0 hB _ _ hG _ (hL.sub [3, 0] rfl)
    intro P54 a54_6 K54 kc ks hP54 hV ha54_6 hB H locs hG ls hL
    refine z_iload hC (hL.at 1 rfl) dX1_requireParts_54 ?_
    refine z_aload hC zvr_r (hL.at 0 rfl) dX1_requireParts_56 ?_
    refine z_alenD hC hG hV dX1_requireParts_58 ?_
    intro x3 hx3 hV
    refine z_icmp_ge (tgt := 85) hC ha54_6 hx3 hV dX1_requireParts_59 (by decide) ?_ ?_
    · intro hV
      exact vx_ret (z_vret hC hG hr hk hV hB.1 hB.2 dX1_requireParts_85)
    · intro hV
      refine z_aload hC zvr_r (hL.at 0 rfl) dX1_requireParts_62 ?_
      refine z_iload hC (hL.at 1 rfl) dX1_requireParts_64 ?_
      refine z_eald hC hG ha54_6 hV dX1_requireParts_66 ?_
      intro x4 hx4 hV
      refine z_iconst hC dX1_requireParts_67 ?_
      obtain ⟨J76, eJ76, hV⟩ := zjn_abs hV
      have hJ76 : ∀ {H : Heap} {locs : List Loc}, zS P s K54 H locs → ∀ (z76_0 : Int), (z76_0 = 0 ∨ z76_0 = 1) → J76 z76_0 → ∀ (ls : Array Slot), zL ls 7 [(5, zrv P x2), (6, .int (zI a54_6))] → W p l e (rX1_requireParts mc ms) s m args below meth c H locs kc ks (vx_MQ below (zQv P Q) (zXc P X) args s mc ms (zAr P)) (F0 m 76 ls [.int (zI z76_0)]) := by
        intro H locs hG z76_0 hz76_0 hV ls hL
        rw [eJ76] at hV
        obtain ⟨hB, hV⟩ := hV
        refine z_xcall_v hG hnt hk (zrunSX hC hG (mX1_requireArgument l P K54 z76_0 hz76_0 hst hV) kSX1_117 rfl rfl rfl ⟨(Nat.le_of_ble_eq_true rfl), (Nat.le_of_ble_eq_true rfl)⟩ ⟨hB.1, hB.2⟩ rfl ⟨zcs_0, (Nat.le_of_ble_eq_true rfl)⟩ hL.1.1 dX1_requireParts_76) hB.1 hB.2 ?_
        rintro _ _ _ ⟨rfl, hV⟩ hG
        refine z_iincV (fun x5 => [(6, .int (zI x5)), (5, zrv P x2)]) hC hL (k := 1) rfl (by decide) (fun _ => rfl) hV dX1_requireParts_79 ?_
        intro x5 hx5 hV ls hL
        refine z_goto (tgt := 54) hC dX1_requireParts_82 (by decide) ?_
        exact hP54 x5 K54 (kc + 1) (ks + 6) hV hx5 hB _ _ hG _ (hL.sub [1, 0] rfl)
      refine z_icmp_ne (tgt := 75) hC hx4 (inR_lit rfl) hV dX1_requireParts_68 (by decide) ?_ ?_
      · intro hV
        refine z_iconst hC dX1_requireParts_75 ?_
        exact hJ76 hG 0 (Or.inl rfl) hV _ hL
      · intro hV
        refine z_iconst hC dX1_requireParts_71 ?_
        refine z_goto (tgt := 76) hC dX1_requireParts_72 (by decide) ?_
        exact hJ76 hG 1 (Or.inr rfl) hV _ hL
  · intro hV
    refine z_aload hC zvr_r (hL.at 2 rfl) dX1_requireParts_29 ?_
    refine z_iload hC (hL.at 3 rfl) dX1_requireParts_31 ?_
    refine z_eald hC hG ha23_6 hV dX1_requireParts_33 ?_
    intro x6 hx6 hV
    refine z_iconst hC dX1_requireParts_34 ?_
    refine z_iload hC (hL.at 1 rfl) dX1_requireParts_35 ?_
    refine z_iconst hC dX1_requireParts_37 ?_
    refine z_isub hC dX1_requireParts_38 ?_
    refine z_call_z hG (zrunS hC hG (mX1_inRange l P K23 x6 hx6 0 (inR_lit rfl) (w32 (p4 - 1)) (inR_w _) hV) kSX1_91 rfl rfl rfl ⟨(Nat.le_of_ble_eq_true rfl), (Nat.le_of_ble_eq_true rfl)⟩ ⟨hB.1, hB.2⟩ rfl ⟨zcs_0, (Nat.le_of_ble_eq_true rfl)⟩ hL.1.1 dX1_requireParts_39) ?_
    rintro x7 _ _ _ hx7 ⟨rfl, hV⟩ hG
    obtain ⟨hB, hV⟩ := hV
    refine z_xcall_v hG hnt hk (zrunSX hC hG (mX1_requireIndex l P K23 x7 hx7 hst hV) kSX1_105 rfl rfl rfl ⟨(Nat.le_of_ble_eq_true rfl), (Nat.le_of_ble_eq_true rfl)⟩ ⟨hB.1, hB.2⟩ rfl ⟨zcs_0, (Nat.le_of_ble_eq_true rfl)⟩ hL.1.1 dX1_requireParts_42) hB.1 hB.2 ?_
    rintro _ _ _ ⟨rfl, hV⟩ hG
    refine z_iincV (fun x8 => [(6, .int (zI x8)), (0, .int (zI p0)), (4, .int (zI p4)), (5, zrv P x2)]) hC hL (k := 3) rfl (by decide) (fun _ => rfl) hV dX1_requireParts_45 ?_
    intro x8 hx8 hV ls hL
    refine z_goto (tgt := 23) hC dX1_requireParts_48 (by decide) ?_
    exact hP23 x8 K23 (kc + 1) (ks + 6) hV hx8 hB _ _ hG _ (hL.sub [1, 2, 3, 0] rfl)
abbrev rX1_data (mc ms : Nat) : Room := { frames := 10, cells := mc, slots := ms, locals := 220 }
def vX1_data (p0 : Int) (p1 : Int) (p2 : Int) (p3 : Int) (p4 : Int) (mc ms : Nat) (G : ZG) (X : Nat → ZG → Prop) (Q : Int → ZG → Prop) : Prop := (0 + 2 ≤ mc ∧ 0 + 12 ≤ ms) ∧ vX1_fieldsOf p0 p1 G X fun (x1 : ZR) => zeN G x1 fun (x2 : Int) => vJ2_size 8 G fun (x3 : Int) => ∃ k4 n4 : Nat, ((0 + 2) + k4 ≤ mc ∧ (0 + 12) + n4 ≤ ms) ∧ vX1_requireParts x2 p2 p3 p4 x3 k4 n4 G X fun (G1 : ZG) => zeN G1 x1 fun (x5 : Int) => (((0 + 2) + k4) + 1 ≤ mc ∧ ((0 + 12) + n4) + 3 ≤ ms) ∧ vX1_firstOf x5 p2 p3 p4 G1 fun (x6 : ZR) (G2 : ZG) => zlt1 (w32 (5 * p1)) fun (x7 : Int) => zl5 (fun (P47 : Int → Int → ZG → Nat → Nat → Prop) (a47_8 : Int) (a47_9 : Int) (K47 : ZG) (kc ks : Nat) => zeN K47 x6 fun (x8 : Int) => zbr (x8 ≤ a47_9) ((kc + 1 ≤ mc ∧ ks + 4 ≤ ms) ∧ znw K47 (.inr (.inr (7, zdf 7))) fun (x9 : ZR) (G3 : ZG) => zn0 97 ∧ znn x9 ∧ vX7_init x9 p0 p1 x6 (dRem a47_8 97) G3 fun (G4 : ZG) => ((kc + 1) + 2 ≤ mc ∧ (ks + 4) + 106 ≤ ms) ∧ vX1_addValue x9 G4 X fun (x11 : Int) (G5 : ZG) => Q x11 G5) (zeI K47 x6 a47_9 fun (x12 : Int) => vJ2_get 8 x12 K47 fun (x13 : ZR) => zca K47 x13 7 ∧ zisO K47 x13 7 ∧ vX7_kind x13 K47 fun (x15 : Int) => zeI K47 x1 a47_9 fun (x16 : Int) => zjn (fun (z86_0 : Int) => (kc + 1 ≤ mc ∧ ks + 6 ≤ ms) ∧ vX1_requireArgument z86_0 K47 X fun (_ : Unit) => zeI K47 x6 a47_9 fun (x17 : Int) => vJ2_get 8 x17 K47 fun (x18 : ZR) => zca K47 x18 7 ∧ zisO K47 x18 7 ∧ vX7_measure x18 K47 fun (x20 : Int) => zlt1 (w32 (a47_8 + (w32 ((w32 (a47_9 + 1)) * x20)))) fun (x21 : Int) => zlt1 (w32 (a47_9 + 1)) fun (x22 : Int) => P47 x21 x22 K47 (kc + 1) (ks + 6)) fun J86 => zbr (x15 ≠ x16) (J86 0) (J86 1))) x7 0 G2 (((0 + 2) + k4) + 1) (((0 + 12) + n4) + 3)
set_option maxHeartbeats 4000000 in
theorem mX1_data (l : Launch) (P : ZP) (G : ZG) (mc ms : Nat) (p0 : Int) (hp0 : inR p0) (p1 : Int) (hp1 : inR p1) (p2 : Int) (hp2 : inR p2) (p3 : Int) (hp3 : inR p3) (p4 : Int) (hp4 : inR p4) {X : Nat → ZG → Prop} {Q : Int → ZG → Prop} (hst : l.stackTraces = false) (hV : vX1_data p0 p1 p2 p3 p4 mc ms G X Q) : vx_Met l yX1_data (ws_ yX1_data cX1_data 10 (some .int)) (rX1_data mc ms) (zPc P G [.ref (zA P 0 0 0), .int (zI p0), .int (zI p1), .int (zI p2), .int (zI p3), .int (zI p4)]) (zQi P Q) (zXc P X) mc ms (zAr P) := by
  refine zMetX (own := RX1) rfl (by decide) (zcs_c rfl (zcs_c rfl (zcs_c rfl (zcs_c rfl (zcs_c rfl (zcs_c rfl zcs_0)))))) (Nat.le_of_ble_eq_true rfl) (fun p e s m args below meth c ls hC hr hk hn hnt hG hL => ?_)
  unfold vX1_data at hV
  have hB : 0 ≤ mc ∧ 0 ≤ ms := ⟨Nat.zero_le _, Nat.zero_le _⟩
  refine z_aload_n hC zvr_a rfl (hL.at 0 rfl) dX1_data_0 ?_
  refine z_iload_n hC rfl (hL.at 1 rfl) dX1_data_1 ?_
  refine z_iload_n hC rfl (hL.at 2 rfl) dX1_data_2 ?_
  obtain ⟨hB, hV⟩ := hV
  refine z_xcall_r hG hnt hk (zrunVX (ci := 1) hC hG (Nat.le_of_ble_eq_true rfl) (Nat.le_of_ble_eq_true rfl) (zobj hG rfl (Nat.le_of_ble_eq_true rfl) (Nat.le_of_ble_eq_true rfl)) (mX1_fieldsOf l P G p0 hp0 p1 hp1 hst hV) kVX1_142 rfl rfl rfl ⟨(Nat.le_of_ble_eq_true rfl), (Nat.le_of_ble_eq_true rfl)⟩ ⟨hB.1, hB.2⟩ rfl ⟨zcs_0, (Nat.le_of_ble_eq_true rfl)⟩ hL.1.1 dX1_data_3) hB.1 hB.2 ?_
  rintro x1 _ _ _  ⟨rfl, hV⟩ hG
  refine z_astore (lv' := [(6, zrv P x1), (0, .ref (zA P 0 0 0)), (1, .int (zI p0)), (2, .int (zI p1)), (3, .int (zI p2)), (4, .int (zI p3)), (5, .int (zI p4))]) hC zvr_r hL (by decide) rfl dX1_data_6 (fun ls hL => ?_)
  refine z_aload hC zvr_r (hL.at 0 rfl) dX1_data_8 ?_
  refine z_alenD hC hG hV dX1_data_10 ?_
  intro x2 hx2 hV
  refine z_iload_n hC rfl (hL.at 4 rfl) dX1_data_11 ?_
  refine z_iload hC (hL.at 5 rfl) dX1_data_12 ?_
  refine z_iload hC (hL.at 6 rfl) dX1_data_14 ?_
  refine z_aload_n hC zvr_a rfl (hL.at 1 rfl) dX1_data_16 ?_
  refine z_getO hC hG 8 kFX1_29_1 rfl rfl dX1_data_17 ?_
  refine z_call_i hG (zrunV (ci := 2) hC hG (Nat.le_of_ble_eq_true rfl) (Nat.le_of_ble_eq_true rfl) (zobj hG rfl (Nat.le_of_ble_eq_true rfl) (Nat.le_of_ble_eq_true rfl)) (mJ2_size l P G 8 rfl hV) kVX1_101 rfl rfl rfl ⟨(Nat.le_of_ble_eq_true rfl), (Nat.le_of_ble_eq_true rfl)⟩ ⟨hB.1, hB.2⟩ rfl ⟨(zcs_c rfl (zcs_c rfl (zcs_c rfl (zcs_c rfl zcs_0)))), (Nat.le_of_ble_eq_true rfl)⟩ hL.1.1 dX1_data_20) ?_
  rintro x3 _ _ _ hx3 ⟨rfl, hV⟩ hG
  obtain ⟨k4, n4, hB, hV⟩ := hV
  refine z_xcall_v hG hnt hk (zrunSX hC hG (mX1_requireParts l P G k4 n4 x2 hx2 p2 hp2 p3 hp3 p4 hp4 x3 hx3 hst hV) kSX1_146 rfl rfl rfl ⟨(Nat.le_of_ble_eq_true rfl), (Nat.le_of_ble_eq_true rfl)⟩ ⟨hB.1, hB.2⟩ rfl ⟨zcs_0, (Nat.le_of_ble_eq_true rfl)⟩ hL.1.1 dX1_data_23) hB.1 hB.2 ?_
  rintro G1 _ _ hV hG
  refine z_aload hC zvr_r (hL.at 0 rfl) dX1_data_26 ?_
  refine z_alenD hC hG hV dX1_data_28 ?_
  intro x5 hx5 hV
  refine z_iload_n hC rfl (hL.at 4 rfl) dX1_data_29 ?_
  refine z_iload hC (hL.at 5 rfl) dX1_data_30 ?_
  refine z_iload hC (hL.at 6 rfl) dX1_data_32 ?_
  obtain ⟨hB, hV⟩ := hV
  refine z_call_r hG (zrunS hC hG (mX1_firstOf l P G1 x5 hx5 p2 hp2 p3 hp3 p4 hp4 hV) kSX1_123 rfl rfl rfl ⟨(Nat.le_of_ble_eq_true rfl), (Nat.le_of_ble_eq_true rfl)⟩ ⟨hB.1, hB.2⟩ rfl ⟨zcs_0, (Nat.le_of_ble_eq_true rfl)⟩ hL.1.1 dX1_data_34) ?_
  rintro x6 G2 _ _  hV hG
  refine z_astore (lv' := [(7, zrv P x6), (6, zrv P x1), (0, .ref (zA P 0 0 0)), (1, .int (zI p0)), (2, .int (zI p1)), (3, .int (zI p2)), (4, .int (zI p3)), (5, .int (zI p4))]) hC zvr_r hL (by decide) rfl dX1_data_37 (fun ls hL => ?_)
  refine z_iconst hC dX1_data_39 ?_
  refine z_iload_n hC rfl (hL.at 4 rfl) dX1_data_40 ?_
  refine z_imul hC dX1_data_41 ?_
  refine z_top hV (inR_w _) ?_
  intro x7 hx7 hV
  refine z_istore (lv' := [(8, .int (zI x7)), (7, zrv P x6), (6, zrv P x1), (0, .ref (zA P 0 0 0)), (1, .int (zI p0)), (2, .int (zI p1)), (3, .int (zI p2)), (4, .int (zI p3)), (5, .int (zI p4))]) hC hL (by decide) rfl dX1_data_42 (fun ls hL => ?_)
  refine z_iconst hC dX1_data_44 ?_
  refine z_istore (lv' := [(9, .int (zI 0)), (8, .int (zI x7)), (7, zrv P x6), (6, zrv P x1), (0, .ref (zA P 0 0 0)), (1, .int (zI p0)), (2, .int (zI p1)), (3, .int (zI p2)), (4, .int (zI p3)), (5, .int (zI p4))]) hC hL (by decide) rfl dX1_data_45 (fun ls hL => ?_)
  refine zl5_use hV (fun (a47_8 : Int) (a47_9 : Int) (K47 : ZG) (kc ks : Nat) => inR a47_8 → inR a47_9 → (kc ≤ mc ∧ ks ≤ ms) → ∀ (H : Heap) (locs : List Loc), zS P s K47 H locs → ∀ (ls : Array Slot), zL ls 10 [(0, .ref (zA P 0 0 0)), (1, .int (zI p0)), (2, .int (zI p1)), (6, zrv P x1), (7, zrv P x6), (8, .int (zI a47_8)), (9, .int (zI a47_9))] → W p l e (rX1_data mc ms) s m args below meth c H locs kc ks (vx_MQ below (zQi P Q) (zXc P X) args s mc ms (zAr P)) (F0 m 47 ls [])) ?_ hx7 (inR_lit rfl) hB _ _ hG _ (hL.sub [4, 5, 6, 3, 2, 1, 0] rfl)
  intro P47 a47_8 a47_9 K47 kc ks hP47 hV ha47_8 ha47_9 hB H locs hG ls hL
  refine z_iload hC (hL.at 6 rfl) dX1_data_47 ?_
  refine z_aload hC zvr_r (hL.at 4 rfl) dX1_data_49 ?_
  refine z_alenD hC hG hV dX1_data_51 ?_
  intro x8 hx8 hV
  refine z_icmp_ge (tgt := 123) hC ha47_9 hx8 hV dX1_data_52 (by decide) ?_ ?_
  · intro hV
    refine z_aload_n hC zvr_a rfl (hL.at 0 rfl) dX1_data_123 ?_
    obtain ⟨hB, hV⟩ := hV
    refine z_new (ci := 7) (n := 4) hC hG (Nat.le_of_ble_eq_true rfl) (Nat.le_of_ble_eq_true rfl) rfl q653 q654 q120 hV hB.1 hB.2 dX1_data_124 ?_
    intro x9 G3 _ hG hV
    refine z_dup hC (zrv_cat _ _) dX1_data_127 ?_
    refine z_iload_n hC rfl (hL.at 1 rfl) dX1_data_128 ?_
    refine z_iload_n hC rfl (hL.at 2 rfl) dX1_data_129 ?_
    refine z_aload hC zvr_r (hL.at 4 rfl) dX1_data_130 ?_
    refine z_iload hC (hL.at 5 rfl) dX1_data_132 ?_
    refine z_bipush hC rfl dX1_data_134 ?_
    refine z_irem hC (inR_lit rfl) hV dX1_data_136 (fun hV => ?_)
    obtain ⟨hO10, hV⟩ := hV
    refine z_call_v hG (zrunIN hC hG hO10 (mX7_init l P G3 x9 p0 hp0 p1 hp1 x6 (dRem a47_8 97) (inR_toInt _) hV) kIX1_132 rfl rfl rfl ⟨(Nat.le_of_ble_eq_true rfl), (Nat.le_of_ble_eq_true rfl)⟩ ⟨hB.1, hB.2⟩ rfl ⟨(zcs_c (zrv_cat _ _) (zcs_c rfl zcs_0)), (Nat.le_of_ble_eq_true rfl)⟩ hL.1.1 dX1_data_137) ?_
    rintro G4 _ _ hV hG
    obtain ⟨hB, hV⟩ := hV
    refine z_xcall_i hG hnt hk (zrunVX (ci := 1) hC hG (Nat.le_of_ble_eq_true rfl) (Nat.le_of_ble_eq_true rfl) (zobj hG rfl (Nat.le_of_ble_eq_true rfl) (Nat.le_of_ble_eq_true rfl)) (mX1_addValue l P G4 x9 hst hV) kVX1_135 rfl rfl rfl ⟨(Nat.le_of_ble_eq_true rfl), (Nat.le_of_ble_eq_true rfl)⟩ ⟨hB.1, hB.2⟩ rfl ⟨zcs_0, (Nat.le_of_ble_eq_true rfl)⟩ hL.1.1 dX1_data_140) hB.1 hB.2 ?_
    rintro x11 G5 _ _ hx11 hV hG
    exact vx_ret (z_iret hC hG hr hk hx11 hV hB.1 hB.2 dX1_data_143)
  · intro hV
    refine z_aload_n hC zvr_a rfl (hL.at 0 rfl) dX1_data_55 ?_
    refine z_getO hC hG 8 kFX1_29_1 rfl rfl dX1_data_56 ?_
    refine z_aload hC zvr_r (hL.at 4 rfl) dX1_data_59 ?_
    refine z_iload hC (hL.at 6 rfl) dX1_data_61 ?_
    refine z_eald hC hG ha47_9 hV dX1_data_63 ?_
    intro x12 hx12 hV
    refine z_call_r hG (zrunV (ci := 2) hC hG (Nat.le_of_ble_eq_true rfl) (Nat.le_of_ble_eq_true rfl) (zobj hG rfl (Nat.le_of_ble_eq_true rfl) (Nat.le_of_ble_eq_true rfl)) (mJ2_get l P K47 8 rfl x12 hx12 hV) kVX1_95 rfl rfl rfl ⟨(Nat.le_of_ble_eq_true rfl), (Nat.le_of_ble_eq_true rfl)⟩ ⟨hB.1, hB.2⟩ rfl ⟨zcs_0, (Nat.le_of_ble_eq_true rfl)⟩ hL.1.1 dX1_data_64) ?_
    rintro x13 _ _ _  ⟨rfl, hV⟩ hG
    refine z_cast hC hG (ci := 7) (Nat.le_of_ble_eq_true rfl) (Nat.le_of_ble_eq_true rfl) q653 hV dX1_data_67 (fun hV => ?_)
    obtain ⟨hO14, hV⟩ := hV
    refine z_call_i hG (zrunVD hC hG hO14 (mX7_kind l P K47 x13 hV) kVX1_150 rfl rfl rfl ⟨(Nat.le_of_ble_eq_true rfl), (Nat.le_of_ble_eq_true rfl)⟩ ⟨hB.1, hB.2⟩ rfl ⟨zcs_0, (Nat.le_of_ble_eq_true rfl)⟩ hL.1.1 dX1_data_70) ?_
    rintro x15 _ _ _ hx15 ⟨rfl, hV⟩ hG
    refine z_aload hC zvr_r (hL.at 3 rfl) dX1_data_73 ?_
    refine z_iload hC (hL.at 6 rfl) dX1_data_75 ?_
    refine z_eald hC hG ha47_9 hV dX1_data_77 ?_
    intro x16 hx16 hV
    obtain ⟨J86, eJ86, hV⟩ := zjn_abs hV
    have hJ86 : ∀ {H : Heap} {locs : List Loc}, zS P s K47 H locs → ∀ (z86_0 : Int), (z86_0 = 0 ∨ z86_0 = 1) → J86 z86_0 → ∀ (ls : Array Slot), zL ls 10 [(0, .ref (zA P 0 0 0)), (1, .int (zI p0)), (2, .int (zI p1)), (6, zrv P x1), (7, zrv P x6), (8, .int (zI a47_8)), (9, .int (zI a47_9))] → W p l e (rX1_data mc ms) s m args below meth c H locs kc ks (vx_MQ below (zQi P Q) (zXc P X) args s mc ms (zAr P)) (F0 m 86 ls [.int (zI z86_0)]) := by
      intro H locs hG z86_0 hz86_0 hV ls hL
      rw [eJ86] at hV
      obtain ⟨hB, hV⟩ := hV
      refine z_xcall_v hG hnt hk (zrunSX hC hG (mX1_requireArgument l P K47 z86_0 hz86_0 hst hV) kSX1_117 rfl rfl rfl ⟨(Nat.le_of_ble_eq_true rfl), (Nat.le_of_ble_eq_true rfl)⟩ ⟨hB.1, hB.2⟩ rfl ⟨zcs_0, (Nat.le_of_ble_eq_true rfl)⟩ hL.1.1 dX1_data_86) hB.1 hB.2 ?_
      rintro _ _ _ ⟨rfl, hV⟩ hG
      refine z_iload hC (hL.at 5 rfl) dX1_data_89 ?_
      refine z_iload hC (hL.at 6 rfl) dX1_data_91 ?_
      refine z_iconst hC dX1_data_93 ?_
      refine z_iadd hC dX1_data_94 ?_
      refine z_aload_n hC zvr_a rfl (hL.at 0 rfl) dX1_data_95 ?_
      refine z_getO hC hG 8 kFX1_29_1 rfl rfl dX1_data_96 ?_
      refine z_aload hC zvr_r (hL.at 4 rfl) dX1_data_99 ?_
      refine z_iload hC (hL.at 6 rfl) dX1_data_101 ?_
      refine z_eald hC hG ha47_9 hV dX1_data_103 ?_
      intro x17 hx17 hV
      refine z_call_r hG (zrunV (ci := 2) hC hG (Nat.le_of_ble_eq_true rfl) (Nat.le_of_ble_eq_true rfl) (zobj hG rfl (Nat.le_of_ble_eq_true rfl) (Nat.le_of_ble_eq_true rfl)) (mJ2_get l P K47 8 rfl x17 hx17 hV) kVX1_95 rfl rfl rfl ⟨(Nat.le_of_ble_eq_true rfl), (Nat.le_of_ble_eq_true rfl)⟩ ⟨hB.1, hB.2⟩ rfl ⟨(zcs_c rfl (zcs_c rfl zcs_0)), (Nat.le_of_ble_eq_true rfl)⟩ hL.1.1 dX1_data_104) ?_
      rintro x18 _ _ _  ⟨rfl, hV⟩ hG
      refine z_cast hC hG (ci := 7) (Nat.le_of_ble_eq_true rfl) (Nat.le_of_ble_eq_true rfl) q653 hV dX1_data_107 (fun hV => ?_)
      obtain ⟨hO19, hV⟩ := hV
      refine z_call_i hG (zrunVD hC hG hO19 (mX7_measure l P K47 x18 hV) kVX1_153 rfl rfl rfl ⟨(Nat.le_of_ble_eq_true rfl), (Nat.le_of_ble_eq_true rfl)⟩ ⟨hB.1, hB.2⟩ rfl ⟨(zcs_c rfl (zcs_c rfl zcs_0)), (Nat.le_of_ble_eq_true rfl)⟩ hL.1.1 dX1_data_110) ?_
      rintro x20 _ _ _ hx20 ⟨rfl, hV⟩ hG
      refine z_imul hC dX1_data_113 ?_
      refine z_iadd hC dX1_data_114 ?_
      refine z_top hV (inR_w _) ?_
      intro x21 hx21 hV
      refine z_istore (lv' := [(8, .int (zI x21)), (0, .ref (zA P 0 0 0)), (1, .int (zI p0)), (2, .int (zI p1)), (6, zrv P x1), (7, zrv P x6), (9, .int (zI a47_9))]) hC hL (by decide) rfl dX1_data_115 (fun ls hL => ?_)
      refine z_iincV (fun x22 => [(9, .int (zI x22)), (8, .int (zI x21)), (0, .ref (zA P 0 0 0)), (1, .int (zI p0)), (2, .int (zI p1)), (6, zrv P x1), (7, zrv P x6)]) hC hL (k := 6) rfl (by decide) (fun _ => rfl) hV dX1_data_117 ?_
      intro x22 hx22 hV ls hL
      refine z_goto (tgt := 47) hC dX1_data_120 (by decide) ?_
      exact hP47 x21 x22 K47 (kc + 1) (ks + 6) hV hx21 hx22 hB _ _ hG _ (hL.sub [2, 3, 4, 5, 6, 1, 0] rfl)
    refine z_icmp_ne (tgt := 85) hC hx15 hx16 hV dX1_data_78 (by decide) ?_ ?_
    · intro hV
      refine z_iconst hC dX1_data_85 ?_
      exact hJ86 hG 0 (Or.inl rfl) hV _ hL
    · intro hV
      refine z_iconst hC dX1_data_81 ?_
      refine z_goto (tgt := 86) hC dX1_data_82 (by decide) ?_
      exact hJ86 hG 1 (Or.inr rfl) hV _ hL
abbrev rX1_addPattern : Room := { frames := 9, cells := 4, slots := 119, locals := 199 }
def vX1_addPattern (p0 : ZR) (p1 : Int) (p2 : Int) (p3 : Int) (p4 : Int) (p5 : Int) (p6 : Int) (G : ZG) (X : Nat → ZG → Prop) (Q : Int → ZG → Prop) : Prop := zjn (fun (z18_0 : Int) => vX1_requireArgument z18_0 G X fun (_ : Unit) => vJ2_size 9 G fun (x1 : Int) => zjn (fun (z38_0 : Int) => vX1_requireState z38_0 G X fun (_ : Unit) => znw G (.inr (.inr (9, zdf 9))) fun (x2 : ZR) (G1 : ZG) => znn x2 ∧ vX9_init x2 p0 p1 p2 p3 p4 p5 p6 G1 fun (G2 : ZG) => vJ2_add 9 x2 G2 fun (x4 : Int) (G3 : ZG) => vJ2_size 9 G3 fun (x5 : Int) => Q (w32 (x5 - 1)) G3) fun J38 => zbr (60 ≤ x1) (J38 0) (J38 1)) fun J18 => zjn (fun (_ : Unit) => J18 0) fun J17 => zbr (40 < p4) (J17 ()) (zbr (4 < p3) (J17 ()) (J18 1))
set_option maxHeartbeats 4000000 in
theorem mX1_addPattern (l : Launch) (P : ZP) (G : ZG) (p0 : ZR) (p1 : Int) (hp1 : inR p1) (p2 : Int) (hp2 : inR p2) (p3 : Int) (hp3 : inR p3) (p4 : Int) (hp4 : inR p4) (p5 : Int) (hp5 : p5 = 0 ∨ p5 = 1) (p6 : Int) (hp6 : p6 = 0 ∨ p6 = 1) {X : Nat → ZG → Prop} {Q : Int → ZG → Prop} (hst : l.stackTraces = false) (hV : vX1_addPattern p0 p1 p2 p3 p4 p5 p6 G X Q) : vx_Met l yX1_addPattern (ws_ yX1_addPattern cX1_addPattern 8 (some .int)) rX1_addPattern (zPc P G [.ref (zA P 0 0 0), zrv P p0, .int (zI p1), .int (zI p2), .int (zI p3), .int (zI p4), .int (zI p5), .int (zI p6)]) (zQi P Q) (zXc P X) 4 119 (zAr P) := by
  refine zMetX (own := RX1) rfl (by decide) (zcs_c rfl (zcs_c (zrv_cat _ _) (zcs_c rfl (zcs_c rfl (zcs_c rfl (zcs_c rfl (zcs_c rfl (zcs_c rfl zcs_0)))))))) (Nat.le_of_ble_eq_true rfl) (fun p e s m args below meth c ls hC hr hk hn hnt hG hL => ?_)
  unfold vX1_addPattern at hV
  refine z_iload hC (hL.at 5 rfl) dX1_addPattern_0 ?_
  refine z_bipush hC rfl dX1_addPattern_2 ?_
  obtain ⟨J18, eJ18, hV⟩ := zjn_abs hV
  have hJ18 : ∀ {H : Heap} {locs : List Loc}, zS P s G H locs → ∀ (z18_0 : Int), (z18_0 = 0 ∨ z18_0 = 1) → J18 z18_0 → ∀ (ls : Array Slot), zL ls 8 [(0, .ref (zA P 0 0 0)), (1, zrv P p0), (2, .int (zI p1)), (3, .int (zI p2)), (4, .int (zI p3)), (5, .int (zI p4)), (6, .int (zI p5)), (7, .int (zI p6))] → W p l e rX1_addPattern s m args below meth c H locs 0 0 (vx_MQ below (zQi P Q) (zXc P X) args s 4 119 (zAr P)) (F0 m 18 ls [.int (zI z18_0)]) := by
    intro H locs hG z18_0 hz18_0 hV ls hL
    rw [eJ18] at hV
    refine z_xcall_v hG hnt hk (zrunSX hC hG (mX1_requireArgument l P G z18_0 hz18_0 hst hV) kSX1_117 rfl rfl rfl ⟨(Nat.le_of_ble_eq_true rfl), (Nat.le_of_ble_eq_true rfl)⟩ ⟨(Nat.le_of_ble_eq_true rfl), (Nat.le_of_ble_eq_true rfl)⟩ rfl ⟨zcs_0, (Nat.le_of_ble_eq_true rfl)⟩ hL.1.1 dX1_addPattern_18) (Nat.le_of_ble_eq_true rfl) (Nat.le_of_ble_eq_true rfl) ?_
    rintro _ _ _ ⟨rfl, hV⟩ hG
    refine z_aload_n hC zvr_a rfl (hL.at 0 rfl) dX1_addPattern_21 ?_
    refine z_getO hC hG 9 kFX1_32_1 rfl rfl dX1_addPattern_22 ?_
    refine z_call_i hG (zrunV (ci := 2) hC hG (Nat.le_of_ble_eq_true rfl) (Nat.le_of_ble_eq_true rfl) (zobj hG rfl (Nat.le_of_ble_eq_true rfl) (Nat.le_of_ble_eq_true rfl)) (mJ2_size l P G 9 rfl hV) kVX1_101 rfl rfl rfl ⟨(Nat.le_of_ble_eq_true rfl), (Nat.le_of_ble_eq_true rfl)⟩ ⟨(Nat.le_of_ble_eq_true rfl), (Nat.le_of_ble_eq_true rfl)⟩ rfl ⟨zcs_0, (Nat.le_of_ble_eq_true rfl)⟩ hL.1.1 dX1_addPattern_25) ?_
    rintro x1 _ _ _ hx1 ⟨rfl, hV⟩ hG
    refine z_bipush hC rfl dX1_addPattern_28 ?_
    obtain ⟨J38, eJ38, hV⟩ := zjn_abs hV
    have hJ38 : ∀ {H : Heap} {locs : List Loc}, zS P s G H locs → ∀ (z38_0 : Int), (z38_0 = 0 ∨ z38_0 = 1) → J38 z38_0 → ∀ (ls : Array Slot), zL ls 8 [(0, .ref (zA P 0 0 0)), (1, zrv P p0), (2, .int (zI p1)), (3, .int (zI p2)), (4, .int (zI p3)), (5, .int (zI p4)), (6, .int (zI p5)), (7, .int (zI p6))] → W p l e rX1_addPattern s m args below meth c H locs 1 6 (vx_MQ below (zQi P Q) (zXc P X) args s 4 119 (zAr P)) (F0 m 38 ls [.int (zI z38_0)]) := by
      intro H locs hG z38_0 hz38_0 hV ls hL
      rw [eJ38] at hV
      refine z_xcall_v hG hnt hk (zrunSX hC hG (mX1_requireState l P G z38_0 hz38_0 hst hV) kSX1_120 rfl rfl rfl ⟨(Nat.le_of_ble_eq_true rfl), (Nat.le_of_ble_eq_true rfl)⟩ ⟨(Nat.le_of_ble_eq_true rfl), (Nat.le_of_ble_eq_true rfl)⟩ rfl ⟨zcs_0, (Nat.le_of_ble_eq_true rfl)⟩ hL.1.1 dX1_addPattern_38) (Nat.le_of_ble_eq_true rfl) (Nat.le_of_ble_eq_true rfl) ?_
      rintro _ _ _ ⟨rfl, hV⟩ hG
      refine z_aload_n hC zvr_a rfl (hL.at 0 rfl) dX1_addPattern_41 ?_
      refine z_getO hC hG 9 kFX1_32_1 rfl rfl dX1_addPattern_42 ?_
      refine z_new (ci := 9) (n := 7) hC hG (Nat.le_of_ble_eq_true rfl) (Nat.le_of_ble_eq_true rfl) rfl q729 q730 q122 hV (Nat.le_of_ble_eq_true rfl) (Nat.le_of_ble_eq_true rfl) dX1_addPattern_45 ?_
      intro x2 G1 _ hG hV
      refine z_dup hC (zrv_cat _ _) dX1_addPattern_48 ?_
      refine z_aload_n hC zvr_r rfl (hL.at 1 rfl) dX1_addPattern_49 ?_
      refine z_iload_n hC rfl (hL.at 2 rfl) dX1_addPattern_50 ?_
      refine z_iload_n hC rfl (hL.at 3 rfl) dX1_addPattern_51 ?_
      refine z_iload hC (hL.at 4 rfl) dX1_addPattern_52 ?_
      refine z_iload hC (hL.at 5 rfl) dX1_addPattern_54 ?_
      refine z_iload hC (hL.at 6 rfl) dX1_addPattern_56 ?_
      refine z_iload hC (hL.at 7 rfl) dX1_addPattern_58 ?_
      obtain ⟨hO3, hV⟩ := hV
      refine z_call_v hG (zrunIN hC hG hO3 (mX9_init l P G1 x2 p0 p1 hp1 p2 hp2 p3 hp3 p4 hp4 p5 hp5 p6 hp6 hV) kIX1_156 rfl rfl rfl ⟨(Nat.le_of_ble_eq_true rfl), (Nat.le_of_ble_eq_true rfl)⟩ ⟨(Nat.le_of_ble_eq_true rfl), (Nat.le_of_ble_eq_true rfl)⟩ rfl ⟨(zcs_c (zrv_cat _ _) (zcs_c rfl zcs_0)), (Nat.le_of_ble_eq_true rfl)⟩ hL.1.1 dX1_addPattern_60) ?_
      rintro G2 _ _ hV hG
      refine z_call_z hG (zrunV (ci := 2) hC hG (Nat.le_of_ble_eq_true rfl) (Nat.le_of_ble_eq_true rfl) (zobj hG rfl (Nat.le_of_ble_eq_true rfl) (Nat.le_of_ble_eq_true rfl)) (mJ2_add l P G2 9 rfl x2 hV) kVX1_79 rfl rfl rfl ⟨(Nat.le_of_ble_eq_true rfl), (Nat.le_of_ble_eq_true rfl)⟩ ⟨(Nat.le_of_ble_eq_true rfl), (Nat.le_of_ble_eq_true rfl)⟩ rfl ⟨zcs_0, (Nat.le_of_ble_eq_true rfl)⟩ hL.1.1 dX1_addPattern_63) ?_
      rintro x4 G3 _ _ hx4 hV hG
      refine z_pop hC rfl dX1_addPattern_66 ?_
      refine z_aload_n hC zvr_a rfl (hL.at 0 rfl) dX1_addPattern_67 ?_
      refine z_getO hC hG 9 kFX1_32_1 rfl rfl dX1_addPattern_68 ?_
      refine z_call_i hG (zrunV (ci := 2) hC hG (Nat.le_of_ble_eq_true rfl) (Nat.le_of_ble_eq_true rfl) (zobj hG rfl (Nat.le_of_ble_eq_true rfl) (Nat.le_of_ble_eq_true rfl)) (mJ2_size l P G3 9 rfl hV) kVX1_101 rfl rfl rfl ⟨(Nat.le_of_ble_eq_true rfl), (Nat.le_of_ble_eq_true rfl)⟩ ⟨(Nat.le_of_ble_eq_true rfl), (Nat.le_of_ble_eq_true rfl)⟩ rfl ⟨zcs_0, (Nat.le_of_ble_eq_true rfl)⟩ hL.1.1 dX1_addPattern_71) ?_
      rintro x5 _ _ _ hx5 ⟨rfl, hV⟩ hG
      refine z_iconst hC dX1_addPattern_74 ?_
      refine z_isub hC dX1_addPattern_75 ?_
      exact vx_ret (z_iret hC hG hr hk (inR_w _) hV (Nat.le_of_ble_eq_true rfl) (Nat.le_of_ble_eq_true rfl) dX1_addPattern_76)
    refine z_icmp_ge (tgt := 37) hC hx1 (inR_lit rfl) hV dX1_addPattern_30 (by decide) ?_ ?_
    · intro hV
      refine z_iconst hC dX1_addPattern_37 ?_
      exact hJ38 hG 0 (Or.inl rfl) hV _ hL
    · intro hV
      refine z_iconst hC dX1_addPattern_33 ?_
      refine z_goto (tgt := 38) hC dX1_addPattern_34 (by decide) ?_
      exact hJ38 hG 1 (Or.inr rfl) hV _ hL
  obtain ⟨J17, eJ17, hV⟩ := zjn_abs hV
  have hJ17 : ∀ {H : Heap} {locs : List Loc}, zS P s G H locs → J17 () → ∀ (ls : Array Slot), zL ls 8 [(0, .ref (zA P 0 0 0)), (1, zrv P p0), (2, .int (zI p1)), (3, .int (zI p2)), (4, .int (zI p3)), (5, .int (zI p4)), (6, .int (zI p5)), (7, .int (zI p6))] → W p l e rX1_addPattern s m args below meth c H locs 0 0 (vx_MQ below (zQi P Q) (zXc P X) args s 4 119 (zAr P)) (F0 m 17 ls []) := by
    intro H locs hG hV ls hL
    rw [eJ17] at hV
    refine z_iconst hC dX1_addPattern_17 ?_
    exact hJ18 hG 0 (Or.inl rfl) hV _ hL
  refine z_icmp_gt (tgt := 17) hC hp4 (inR_lit rfl) hV dX1_addPattern_4 (by decide) ?_ ?_
  · intro hV
    exact hJ17 hG hV _ hL
  · intro hV
    refine z_iload hC (hL.at 4 rfl) dX1_addPattern_7 ?_
    refine z_iconst hC dX1_addPattern_9 ?_
    refine z_icmp_gt (tgt := 17) hC hp3 (inR_lit rfl) hV dX1_addPattern_10 (by decide) ?_ ?_
    · intro hV
      exact hJ17 hG hV _ hL
    · intro hV
      refine z_iconst hC dX1_addPattern_13 ?_
      refine z_goto (tgt := 18) hC dX1_addPattern_14 (by decide) ?_
      exact hJ18 hG 1 (Or.inr rfl) hV _ hL
abbrev rX1_any : Room := { frames := 10, cells := 5, slots := 119, locals := 226 }
def vX1_any (G : ZG) (X : Nat → ZG → Prop) (Q : Int → ZG → Prop) : Prop := znw G (.inr (.inr (8, zdf 8))) fun (x1 : ZR) (G1 : ZG) => znn x1 ∧ vX8_init x1 G1 fun (_ : Unit) => vX1_addPattern x1 (-1) 0 1 1 1 1 G1 X fun (x3 : Int) (G2 : ZG) => Q x3 G2
set_option maxHeartbeats 4000000 in
theorem mX1_any (l : Launch) (P : ZP) (G : ZG) {X : Nat → ZG → Prop} {Q : Int → ZG → Prop} (hst : l.stackTraces = false) (hV : vX1_any G X Q) : vx_Met l yX1_any (ws_ yX1_any cX1_any 1 (some .int)) rX1_any (zPc P G [.ref (zA P 0 0 0)]) (zQi P Q) (zXc P X) 5 119 (zAr P) := by
  refine zMetX (own := RX1) rfl (by decide) (zcs_c rfl zcs_0) (Nat.le_of_ble_eq_true rfl) (fun p e s m args below meth c ls hC hr hk hn hnt hG hL => ?_)
  unfold vX1_any at hV
  refine z_aload_n hC zvr_a rfl (hL.at 0 rfl) dX1_any_0 ?_
  refine z_new (ci := 8) (n := 0) hC hG (Nat.le_of_ble_eq_true rfl) (Nat.le_of_ble_eq_true rfl) rfl q718 q719 q121 hV (Nat.le_of_ble_eq_true rfl) (Nat.le_of_ble_eq_true rfl) dX1_any_1 ?_
  intro x1 G1 _ hG hV
  refine z_dup hC (zrv_cat _ _) dX1_any_4 ?_
  obtain ⟨hO2, hV⟩ := hV
  refine z_call_v hG (zrunIN hC hG hO2 (mX8_init l P G1 x1 hV) kIX1_161 rfl rfl rfl ⟨(Nat.le_of_ble_eq_true rfl), (Nat.le_of_ble_eq_true rfl)⟩ ⟨(Nat.le_of_ble_eq_true rfl), (Nat.le_of_ble_eq_true rfl)⟩ rfl ⟨(zcs_c (zrv_cat _ _) (zcs_c rfl zcs_0)), (Nat.le_of_ble_eq_true rfl)⟩ hL.1.1 dX1_any_5) ?_
  rintro _ _ _ ⟨rfl, hV⟩ hG
  refine z_iconst hC dX1_any_8 ?_
  refine z_iconst hC dX1_any_9 ?_
  refine z_iconst hC dX1_any_10 ?_
  refine z_iconst hC dX1_any_11 ?_
  refine z_iconst hC dX1_any_12 ?_
  refine z_iconst hC dX1_any_13 ?_
  refine z_xcall_i hG hnt hk (zrunVX (ci := 1) hC hG (Nat.le_of_ble_eq_true rfl) (Nat.le_of_ble_eq_true rfl) (zobj hG rfl (Nat.le_of_ble_eq_true rfl) (Nat.le_of_ble_eq_true rfl)) (mX1_addPattern l P G1 x1 (-1) (inR_lit rfl) 0 (inR_lit rfl) 1 (inR_lit rfl) 1 (inR_lit rfl) 1 (Or.inr rfl) 1 (Or.inr rfl) hst hV) kVX1_162 rfl rfl rfl ⟨(Nat.le_of_ble_eq_true rfl), (Nat.le_of_ble_eq_true rfl)⟩ ⟨(Nat.le_of_ble_eq_true rfl), (Nat.le_of_ble_eq_true rfl)⟩ rfl ⟨zcs_0, (Nat.le_of_ble_eq_true rfl)⟩ hL.1.1 dX1_any_14) (Nat.le_of_ble_eq_true rfl) (Nat.le_of_ble_eq_true rfl) ?_
  rintro x3 G2 _ _ hx3 hV hG
  exact vx_ret (z_iret hC hG hr hk hx3 hV (Nat.le_of_ble_eq_true rfl) (Nat.le_of_ble_eq_true rfl) dX1_any_17)
abbrev rX1_requirePattern : Room := { frames := 9, cells := 1, slots := 6, locals := 120 }
def vX1_requirePattern (p0 : Int) (G : ZG) (X : Nat → ZG → Prop) (Q : Unit → Prop) : Prop := vJ2_size 9 G fun (x1 : Int) => vX1_inRange p0 0 (w32 (x1 - 1)) fun (x2 : Int) => vX1_requireIndex x2 G X fun (_ : Unit) => Q ()
set_option maxHeartbeats 4000000 in
theorem mX1_requirePattern (l : Launch) (P : ZP) (G : ZG) (p0 : Int) (hp0 : inR p0) {X : Nat → ZG → Prop} {Q : Unit → Prop} (hst : l.stackTraces = false) (hV : vX1_requirePattern p0 G X Q) : vx_Met l yX1_requirePattern (ws_ yX1_requirePattern cX1_requirePattern 2 none) rX1_requirePattern (zPc P G [.ref (zA P 0 0 0), .int (zI p0)]) (zQv P (fun G2 => G = G2 ∧ Q ())) (zXc P X) 1 6 (zAr P) := by
  refine zMetX (own := RX1) rfl (by decide) (zcs_c rfl (zcs_c rfl zcs_0)) (Nat.le_of_ble_eq_true rfl) (fun p e s m args below meth c ls hC hr hk hn hnt hG hL => ?_)
  unfold vX1_requirePattern at hV
  refine z_iload_n hC rfl (hL.at 1 rfl) dX1_requirePattern_0 ?_
  refine z_iconst hC dX1_requirePattern_1 ?_
  refine z_aload_n hC zvr_a rfl (hL.at 0 rfl) dX1_requirePattern_2 ?_
  refine z_getO hC hG 9 kFX1_32_1 rfl rfl dX1_requirePattern_3 ?_
  refine z_call_i hG (zrunV (ci := 2) hC hG (Nat.le_of_ble_eq_true rfl) (Nat.le_of_ble_eq_true rfl) (zobj hG rfl (Nat.le_of_ble_eq_true rfl) (Nat.le_of_ble_eq_true rfl)) (mJ2_size l P G 9 rfl hV) kVX1_101 rfl rfl rfl ⟨(Nat.le_of_ble_eq_true rfl), (Nat.le_of_ble_eq_true rfl)⟩ ⟨(Nat.le_of_ble_eq_true rfl), (Nat.le_of_ble_eq_true rfl)⟩ rfl ⟨(zcs_c rfl (zcs_c rfl zcs_0)), (Nat.le_of_ble_eq_true rfl)⟩ hL.1.1 dX1_requirePattern_6) ?_
  rintro x1 _ _ _ hx1 ⟨rfl, hV⟩ hG
  refine z_iconst hC dX1_requirePattern_9 ?_
  refine z_isub hC dX1_requirePattern_10 ?_
  refine z_call_z hG (zrunS hC hG (mX1_inRange l P G p0 hp0 0 (inR_lit rfl) (w32 (x1 - 1)) (inR_w _) hV) kSX1_91 rfl rfl rfl ⟨(Nat.le_of_ble_eq_true rfl), (Nat.le_of_ble_eq_true rfl)⟩ ⟨(Nat.le_of_ble_eq_true rfl), (Nat.le_of_ble_eq_true rfl)⟩ rfl ⟨zcs_0, (Nat.le_of_ble_eq_true rfl)⟩ hL.1.1 dX1_requirePattern_11) ?_
  rintro x2 _ _ _ hx2 ⟨rfl, hV⟩ hG
  refine z_xcall_v hG hnt hk (zrunSX hC hG (mX1_requireIndex l P G x2 hx2 hst hV) kSX1_105 rfl rfl rfl ⟨(Nat.le_of_ble_eq_true rfl), (Nat.le_of_ble_eq_true rfl)⟩ ⟨(Nat.le_of_ble_eq_true rfl), (Nat.le_of_ble_eq_true rfl)⟩ rfl ⟨zcs_0, (Nat.le_of_ble_eq_true rfl)⟩ hL.1.1 dX1_requirePattern_14) (Nat.le_of_ble_eq_true rfl) (Nat.le_of_ble_eq_true rfl) ?_
  rintro _ _ _ ⟨rfl, hV⟩ hG
  exact vx_ret (z_vret hC hG hr hk ⟨rfl, hV⟩ (Nat.le_of_ble_eq_true rfl) (Nat.le_of_ble_eq_true rfl) dX1_requirePattern_17)
abbrev rX1_name : Room := { frames := 10, cells := 8, slots := 139, locals := 226 }
def vX1_name (p0 : Int) (p1 : Int) (G : ZG) (X : Nat → ZG → Prop) (Q : Int → ZG → Prop) : Prop := vX1_inRange p0 0 5 fun (x1 : Int) => vX1_requireIndex x1 G X fun (_ : Unit) => vX1_requirePattern p1 G X fun (_ : Unit) => vX1_told p1 G fun (x2 : ZR) => zisO G x2 9 ∧ vX9_names x2 G fun (x4 : Int) => vX1_has x4 p0 fun (x5 : Int) => zjn (fun (z36_0 : Int) => vX1_requireArgument z36_0 G X fun (_ : Unit) => znw G (.inr (.inr (10, zdf 10))) fun (x6 : ZR) (G1 : ZG) => zisO G1 x2 9 ∧ vX9_pattern x2 G1 fun (x8 : ZR) => znn x6 ∧ vX10_init x6 p0 x8 G1 fun (G2 : ZG) => zisO G2 x2 9 ∧ vX9_kind x2 G2 fun (x11 : Int) => zisO G2 x2 9 ∧ vX9_names x2 G2 fun (x13 : Int) => zisO G2 x2 9 ∧ vX9_depth x2 G2 fun (x15 : Int) => zisO G2 x2 9 ∧ vX9_size x2 G2 fun (x17 : Int) => zisO G2 x2 9 ∧ vX9_isPure x2 G2 fun (x19 : Int) => vX1_addPattern x6 x11 (bOr x13 (bShl 1 p0)) x15 (w32 (x17 + 1)) x19 0 G2 X fun (x20 : Int) (G3 : ZG) => Q x20 G3) fun J36 => zbr (x5 ≠ 0) (J36 0) (J36 1)
set_option maxHeartbeats 4000000 in
theorem mX1_name (l : Launch) (P : ZP) (G : ZG) (p0 : Int) (hp0 : inR p0) (p1 : Int) (hp1 : inR p1) {X : Nat → ZG → Prop} {Q : Int → ZG → Prop} (hst : l.stackTraces = false) (hV : vX1_name p0 p1 G X Q) : vx_Met l yX1_name (ws_ yX1_name cX1_name 4 (some .int)) rX1_name (zPc P G [.ref (zA P 0 0 0), .int (zI p0), .int (zI p1)]) (zQi P Q) (zXc P X) 8 139 (zAr P) := by
  refine zMetX (own := RX1) rfl (by decide) (zcs_c rfl (zcs_c rfl (zcs_c rfl zcs_0))) (Nat.le_of_ble_eq_true rfl) (fun p e s m args below meth c ls hC hr hk hn hnt hG hL => ?_)
  unfold vX1_name at hV
  refine z_iload_n hC rfl (hL.at 1 rfl) dX1_name_0 ?_
  refine z_iconst hC dX1_name_1 ?_
  refine z_iconst hC dX1_name_2 ?_
  refine z_call_z hG (zrunS hC hG (mX1_inRange l P G p0 hp0 0 (inR_lit rfl) 5 (inR_lit rfl) hV) kSX1_91 rfl rfl rfl ⟨(Nat.le_of_ble_eq_true rfl), (Nat.le_of_ble_eq_true rfl)⟩ ⟨(Nat.le_of_ble_eq_true rfl), (Nat.le_of_ble_eq_true rfl)⟩ rfl ⟨zcs_0, (Nat.le_of_ble_eq_true rfl)⟩ hL.1.1 dX1_name_3) ?_
  rintro x1 _ _ _ hx1 ⟨rfl, hV⟩ hG
  refine z_xcall_v hG hnt hk (zrunSX hC hG (mX1_requireIndex l P G x1 hx1 hst hV) kSX1_105 rfl rfl rfl ⟨(Nat.le_of_ble_eq_true rfl), (Nat.le_of_ble_eq_true rfl)⟩ ⟨(Nat.le_of_ble_eq_true rfl), (Nat.le_of_ble_eq_true rfl)⟩ rfl ⟨zcs_0, (Nat.le_of_ble_eq_true rfl)⟩ hL.1.1 dX1_name_6) (Nat.le_of_ble_eq_true rfl) (Nat.le_of_ble_eq_true rfl) ?_
  rintro _ _ _ ⟨rfl, hV⟩ hG
  refine z_aload_n hC zvr_a rfl (hL.at 0 rfl) dX1_name_9 ?_
  refine z_iload_n hC rfl (hL.at 2 rfl) dX1_name_10 ?_
  refine z_xcall_v hG hnt hk (zrunVX (ci := 1) hC hG (Nat.le_of_ble_eq_true rfl) (Nat.le_of_ble_eq_true rfl) (zobj hG rfl (Nat.le_of_ble_eq_true rfl) (Nat.le_of_ble_eq_true rfl)) (mX1_requirePattern l P G p1 hp1 hst hV) kVX1_166 rfl rfl rfl ⟨(Nat.le_of_ble_eq_true rfl), (Nat.le_of_ble_eq_true rfl)⟩ ⟨(Nat.le_of_ble_eq_true rfl), (Nat.le_of_ble_eq_true rfl)⟩ rfl ⟨zcs_0, (Nat.le_of_ble_eq_true rfl)⟩ hL.1.1 dX1_name_11) (Nat.le_of_ble_eq_true rfl) (Nat.le_of_ble_eq_true rfl) ?_
  rintro _ _ _ ⟨rfl, hV⟩ hG
  refine z_aload_n hC zvr_a rfl (hL.at 0 rfl) dX1_name_14 ?_
  refine z_iload_n hC rfl (hL.at 2 rfl) dX1_name_15 ?_
  refine z_call_r hG (zrunV (ci := 1) hC hG (Nat.le_of_ble_eq_true rfl) (Nat.le_of_ble_eq_true rfl) (zobj hG rfl (Nat.le_of_ble_eq_true rfl) (Nat.le_of_ble_eq_true rfl)) (mX1_told l P G p1 hp1 hV) kVX1_170 rfl rfl rfl ⟨(Nat.le_of_ble_eq_true rfl), (Nat.le_of_ble_eq_true rfl)⟩ ⟨(Nat.le_of_ble_eq_true rfl), (Nat.le_of_ble_eq_true rfl)⟩ rfl ⟨zcs_0, (Nat.le_of_ble_eq_true rfl)⟩ hL.1.1 dX1_name_16) ?_
  rintro x2 _ _ _  ⟨rfl, hV⟩ hG
  refine z_astore_n (lv' := [(3, zrv P x2), (0, .ref (zA P 0 0 0)), (1, .int (zI p0)), (2, .int (zI p1))]) hC zvr_r rfl hL (by decide) rfl dX1_name_19 (fun ls hL => ?_)
  refine z_aload_n hC zvr_r rfl (hL.at 0 rfl) dX1_name_20 ?_
  obtain ⟨hO3, hV⟩ := hV
  refine z_call_i hG (zrunVD hC hG hO3 (mX9_names l P G x2 hV) kVX1_174 rfl rfl rfl ⟨(Nat.le_of_ble_eq_true rfl), (Nat.le_of_ble_eq_true rfl)⟩ ⟨(Nat.le_of_ble_eq_true rfl), (Nat.le_of_ble_eq_true rfl)⟩ rfl ⟨zcs_0, (Nat.le_of_ble_eq_true rfl)⟩ hL.1.1 dX1_name_21) ?_
  rintro x4 _ _ _ hx4 ⟨rfl, hV⟩ hG
  refine z_iload_n hC rfl (hL.at 2 rfl) dX1_name_24 ?_
  refine z_call_z hG (zrunS hC hG (mX1_has l P G x4 hx4 p0 hp0 hV) kSX1_177 rfl rfl rfl ⟨(Nat.le_of_ble_eq_true rfl), (Nat.le_of_ble_eq_true rfl)⟩ ⟨(Nat.le_of_ble_eq_true rfl), (Nat.le_of_ble_eq_true rfl)⟩ rfl ⟨zcs_0, (Nat.le_of_ble_eq_true rfl)⟩ hL.1.1 dX1_name_25) ?_
  rintro x5 _ _ _ hx5 ⟨rfl, hV⟩ hG
  obtain ⟨J36, eJ36, hV⟩ := zjn_abs hV
  have hJ36 : ∀ {H : Heap} {locs : List Loc}, zS P s G H locs → ∀ (z36_0 : Int), (z36_0 = 0 ∨ z36_0 = 1) → J36 z36_0 → ∀ (ls : Array Slot), zL ls 4 [(0, .ref (zA P 0 0 0)), (1, .int (zI p0)), (3, zrv P x2)] → W p l e rX1_name s m args below meth c H locs 2 12 (vx_MQ below (zQi P Q) (zXc P X) args s 8 139 (zAr P)) (F0 m 36 ls [.int (zI z36_0)]) := by
    intro H locs hG z36_0 hz36_0 hV ls hL
    rw [eJ36] at hV
    refine z_xcall_v hG hnt hk (zrunSX hC hG (mX1_requireArgument l P G z36_0 hz36_0 hst hV) kSX1_117 rfl rfl rfl ⟨(Nat.le_of_ble_eq_true rfl), (Nat.le_of_ble_eq_true rfl)⟩ ⟨(Nat.le_of_ble_eq_true rfl), (Nat.le_of_ble_eq_true rfl)⟩ rfl ⟨zcs_0, (Nat.le_of_ble_eq_true rfl)⟩ hL.1.1 dX1_name_36) (Nat.le_of_ble_eq_true rfl) (Nat.le_of_ble_eq_true rfl) ?_
    rintro _ _ _ ⟨rfl, hV⟩ hG
    refine z_aload_n hC zvr_a rfl (hL.at 0 rfl) dX1_name_39 ?_
    refine z_new (ci := 10) (n := 2) hC hG (Nat.le_of_ble_eq_true rfl) (Nat.le_of_ble_eq_true rfl) rfl q779 q780 q123 hV (Nat.le_of_ble_eq_true rfl) (Nat.le_of_ble_eq_true rfl) dX1_name_40 ?_
    intro x6 G1 _ hG hV
    refine z_dup hC (zrv_cat _ _) dX1_name_43 ?_
    refine z_iload_n hC rfl (hL.at 1 rfl) dX1_name_44 ?_
    refine z_aload_n hC zvr_r rfl (hL.at 2 rfl) dX1_name_45 ?_
    obtain ⟨hO7, hV⟩ := hV
    refine z_call_r hG (zrunVD hC hG hO7 (mX9_pattern l P G1 x2 hV) kVX1_183 rfl rfl rfl ⟨(Nat.le_of_ble_eq_true rfl), (Nat.le_of_ble_eq_true rfl)⟩ ⟨(Nat.le_of_ble_eq_true rfl), (Nat.le_of_ble_eq_true rfl)⟩ rfl ⟨(zcs_c rfl (zcs_c (zrv_cat _ _) (zcs_c (zrv_cat _ _) (zcs_c rfl zcs_0)))), (Nat.le_of_ble_eq_true rfl)⟩ hL.1.1 dX1_name_46) ?_
    rintro x8 _ _ _  ⟨rfl, hV⟩ hG
    obtain ⟨hO9, hV⟩ := hV
    refine z_call_v hG (zrunIN hC hG hO9 (mX10_init l P G1 x6 p0 hp0 x8 hV) kIX1_187 rfl rfl rfl ⟨(Nat.le_of_ble_eq_true rfl), (Nat.le_of_ble_eq_true rfl)⟩ ⟨(Nat.le_of_ble_eq_true rfl), (Nat.le_of_ble_eq_true rfl)⟩ rfl ⟨(zcs_c (zrv_cat _ _) (zcs_c rfl zcs_0)), (Nat.le_of_ble_eq_true rfl)⟩ hL.1.1 dX1_name_49) ?_
    rintro G2 _ _ hV hG
    refine z_aload_n hC zvr_r rfl (hL.at 2 rfl) dX1_name_52 ?_
    obtain ⟨hO10, hV⟩ := hV
    refine z_call_i hG (zrunVD hC hG hO10 (mX9_kind l P G2 x2 hV) kVX1_190 rfl rfl rfl ⟨(Nat.le_of_ble_eq_true rfl), (Nat.le_of_ble_eq_true rfl)⟩ ⟨(Nat.le_of_ble_eq_true rfl), (Nat.le_of_ble_eq_true rfl)⟩ rfl ⟨(zcs_c (zrv_cat _ _) (zcs_c rfl zcs_0)), (Nat.le_of_ble_eq_true rfl)⟩ hL.1.1 dX1_name_53) ?_
    rintro x11 _ _ _ hx11 ⟨rfl, hV⟩ hG
    refine z_aload_n hC zvr_r rfl (hL.at 2 rfl) dX1_name_56 ?_
    obtain ⟨hO12, hV⟩ := hV
    refine z_call_i hG (zrunVD hC hG hO12 (mX9_names l P G2 x2 hV) kVX1_174 rfl rfl rfl ⟨(Nat.le_of_ble_eq_true rfl), (Nat.le_of_ble_eq_true rfl)⟩ ⟨(Nat.le_of_ble_eq_true rfl), (Nat.le_of_ble_eq_true rfl)⟩ rfl ⟨(zcs_c rfl (zcs_c (zrv_cat _ _) (zcs_c rfl zcs_0))), (Nat.le_of_ble_eq_true rfl)⟩ hL.1.1 dX1_name_57) ?_
    rintro x13 _ _ _ hx13 ⟨rfl, hV⟩ hG
    refine z_iconst hC dX1_name_60 ?_
    refine z_iload_n hC rfl (hL.at 1 rfl) dX1_name_61 ?_
    refine z_ishl hC dX1_name_62 ?_
    refine z_ior hC dX1_name_63 ?_
    refine z_aload_n hC zvr_r rfl (hL.at 2 rfl) dX1_name_64 ?_
    obtain ⟨hO14, hV⟩ := hV
    refine z_call_i hG (zrunVD hC hG hO14 (mX9_depth l P G2 x2 hV) kVX1_191 rfl rfl rfl ⟨(Nat.le_of_ble_eq_true rfl), (Nat.le_of_ble_eq_true rfl)⟩ ⟨(Nat.le_of_ble_eq_true rfl), (Nat.le_of_ble_eq_true rfl)⟩ rfl ⟨(zcs_c rfl (zcs_c rfl (zcs_c (zrv_cat _ _) (zcs_c rfl zcs_0)))), (Nat.le_of_ble_eq_true rfl)⟩ hL.1.1 dX1_name_65) ?_
    rintro x15 _ _ _ hx15 ⟨rfl, hV⟩ hG
    refine z_aload_n hC zvr_r rfl (hL.at 2 rfl) dX1_name_68 ?_
    obtain ⟨hO16, hV⟩ := hV
    refine z_call_i hG (zrunVD hC hG hO16 (mX9_size l P G2 x2 hV) kVX1_194 rfl rfl rfl ⟨(Nat.le_of_ble_eq_true rfl), (Nat.le_of_ble_eq_true rfl)⟩ ⟨(Nat.le_of_ble_eq_true rfl), (Nat.le_of_ble_eq_true rfl)⟩ rfl ⟨(zcs_c rfl (zcs_c rfl (zcs_c rfl (zcs_c (zrv_cat _ _) (zcs_c rfl zcs_0))))), (Nat.le_of_ble_eq_true rfl)⟩ hL.1.1 dX1_name_69) ?_
    rintro x17 _ _ _ hx17 ⟨rfl, hV⟩ hG
    refine z_iconst hC dX1_name_72 ?_
    refine z_iadd hC dX1_name_73 ?_
    refine z_aload_n hC zvr_r rfl (hL.at 2 rfl) dX1_name_74 ?_
    obtain ⟨hO18, hV⟩ := hV
    refine z_call_z hG (zrunVD hC hG hO18 (mX9_isPure l P G2 x2 hV) kVX1_195 rfl rfl rfl ⟨(Nat.le_of_ble_eq_true rfl), (Nat.le_of_ble_eq_true rfl)⟩ ⟨(Nat.le_of_ble_eq_true rfl), (Nat.le_of_ble_eq_true rfl)⟩ rfl ⟨(zcs_c rfl (zcs_c rfl (zcs_c rfl (zcs_c rfl (zcs_c (zrv_cat _ _) (zcs_c rfl zcs_0)))))), (Nat.le_of_ble_eq_true rfl)⟩ hL.1.1 dX1_name_75) ?_
    rintro x19 _ _ _ hx19 ⟨rfl, hV⟩ hG
    refine z_iconst hC dX1_name_78 ?_
    refine z_xcall_i hG hnt hk (zrunVX (ci := 1) hC hG (Nat.le_of_ble_eq_true rfl) (Nat.le_of_ble_eq_true rfl) (zobj hG rfl (Nat.le_of_ble_eq_true rfl) (Nat.le_of_ble_eq_true rfl)) (mX1_addPattern l P G2 x6 x11 hx11 (bOr x13 (bShl 1 p0)) (inR_toInt _) x15 hx15 (w32 (x17 + 1)) (inR_w _) x19 hx19 0 (Or.inl rfl) hst hV) kVX1_162 rfl rfl rfl ⟨(Nat.le_of_ble_eq_true rfl), (Nat.le_of_ble_eq_true rfl)⟩ ⟨(Nat.le_of_ble_eq_true rfl), (Nat.le_of_ble_eq_true rfl)⟩ rfl ⟨zcs_0, (Nat.le_of_ble_eq_true rfl)⟩ hL.1.1 dX1_name_79) (Nat.le_of_ble_eq_true rfl) (Nat.le_of_ble_eq_true rfl) ?_
    rintro x20 G3 _ _ hx20 hV hG
    exact vx_ret (z_iret hC hG hr hk hx20 hV (Nat.le_of_ble_eq_true rfl) (Nat.le_of_ble_eq_true rfl) dX1_name_82)
  refine z_if_ne (tgt := 35) hC (inR_b hx5) hV dX1_name_28 (by decide) ?_ ?_
  · intro hV
    refine z_iconst hC dX1_name_35 ?_
    exact hJ36 hG 0 (Or.inl rfl) hV _ (hL.sub [1, 2, 0] rfl)
  · intro hV
    refine z_iconst hC dX1_name_31 ?_
    refine z_goto (tgt := 36) hC dX1_name_32 (by decide) ?_
    exact hJ36 hG 1 (Or.inr rfl) hV _ (hL.sub [1, 2, 0] rfl)
abbrev rX1_range : Room := { frames := 10, cells := 6, slots := 127, locals := 226 }
def vX1_range (p0 : Int) (p1 : Int) (G : ZG) (X : Nat → ZG → Prop) (Q : Int → ZG → Prop) : Prop := vX1_inRange p0 0 9 fun (x1 : Int) => zjn (fun (z25_0 : Int) => vX1_requireArgument z25_0 G X fun (_ : Unit) => znw G (.inr (.inr (11, zdf 11))) fun (x2 : ZR) (G1 : ZG) => znn x2 ∧ vX11_init x2 p0 p1 G1 fun (G2 : ZG) => vX1_addPattern x2 4 0 1 1 1 1 G2 X fun (x4 : Int) (G3 : ZG) => Q x4 G3) fun J25 => zjn (fun (_ : Unit) => J25 0) fun J24 => zbr (x1 = 0) (J24 ()) (vX1_inRange p1 p0 9 fun (x5 : Int) => zbr (x5 = 0) (J24 ()) (J25 1))
set_option maxHeartbeats 4000000 in
theorem mX1_range (l : Launch) (P : ZP) (G : ZG) (p0 : Int) (hp0 : inR p0) (p1 : Int) (hp1 : inR p1) {X : Nat → ZG → Prop} {Q : Int → ZG → Prop} (hst : l.stackTraces = false) (hV : vX1_range p0 p1 G X Q) : vx_Met l yX1_range (ws_ yX1_range cX1_range 3 (some .int)) rX1_range (zPc P G [.ref (zA P 0 0 0), .int (zI p0), .int (zI p1)]) (zQi P Q) (zXc P X) 6 127 (zAr P) := by
  refine zMetX (own := RX1) rfl (by decide) (zcs_c rfl (zcs_c rfl (zcs_c rfl zcs_0))) (Nat.le_of_ble_eq_true rfl) (fun p e s m args below meth c ls hC hr hk hn hnt hG hL => ?_)
  unfold vX1_range at hV
  refine z_iload_n hC rfl (hL.at 1 rfl) dX1_range_0 ?_
  refine z_iconst hC dX1_range_1 ?_
  refine z_bipush hC rfl dX1_range_2 ?_
  refine z_call_z hG (zrunS hC hG (mX1_inRange l P G p0 hp0 0 (inR_lit rfl) 9 (inR_lit rfl) hV) kSX1_91 rfl rfl rfl ⟨(Nat.le_of_ble_eq_true rfl), (Nat.le_of_ble_eq_true rfl)⟩ ⟨(Nat.le_of_ble_eq_true rfl), (Nat.le_of_ble_eq_true rfl)⟩ rfl ⟨zcs_0, (Nat.le_of_ble_eq_true rfl)⟩ hL.1.1 dX1_range_4) ?_
  rintro x1 _ _ _ hx1 ⟨rfl, hV⟩ hG
  obtain ⟨J25, eJ25, hV⟩ := zjn_abs hV
  have hJ25 : ∀ {H : Heap} {locs : List Loc}, zS P s G H locs → ∀ (z25_0 : Int), (z25_0 = 0 ∨ z25_0 = 1) → J25 z25_0 → ∀ (ls : Array Slot), zL ls 3 [(0, .ref (zA P 0 0 0)), (1, .int (zI p0)), (2, .int (zI p1))] → W p l e rX1_range s m args below meth c H locs 0 0 (vx_MQ below (zQi P Q) (zXc P X) args s 6 127 (zAr P)) (F0 m 25 ls [.int (zI z25_0)]) := by
    intro H locs hG z25_0 hz25_0 hV ls hL
    rw [eJ25] at hV
    refine z_xcall_v hG hnt hk (zrunSX hC hG (mX1_requireArgument l P G z25_0 hz25_0 hst hV) kSX1_117 rfl rfl rfl ⟨(Nat.le_of_ble_eq_true rfl), (Nat.le_of_ble_eq_true rfl)⟩ ⟨(Nat.le_of_ble_eq_true rfl), (Nat.le_of_ble_eq_true rfl)⟩ rfl ⟨zcs_0, (Nat.le_of_ble_eq_true rfl)⟩ hL.1.1 dX1_range_25) (Nat.le_of_ble_eq_true rfl) (Nat.le_of_ble_eq_true rfl) ?_
    rintro _ _ _ ⟨rfl, hV⟩ hG
    refine z_aload_n hC zvr_a rfl (hL.at 0 rfl) dX1_range_28 ?_
    refine z_new (ci := 11) (n := 2) hC hG (Nat.le_of_ble_eq_true rfl) (Nat.le_of_ble_eq_true rfl) rfl q819 q820 q124 hV (Nat.le_of_ble_eq_true rfl) (Nat.le_of_ble_eq_true rfl) dX1_range_29 ?_
    intro x2 G1 _ hG hV
    refine z_dup hC (zrv_cat _ _) dX1_range_32 ?_
    refine z_iload_n hC rfl (hL.at 1 rfl) dX1_range_33 ?_
    refine z_iload_n hC rfl (hL.at 2 rfl) dX1_range_34 ?_
    obtain ⟨hO3, hV⟩ := hV
    refine z_call_v hG (zrunIN hC hG hO3 (mX11_init l P G1 x2 p0 hp0 p1 hp1 hV) kIX1_201 rfl rfl rfl ⟨(Nat.le_of_ble_eq_true rfl), (Nat.le_of_ble_eq_true rfl)⟩ ⟨(Nat.le_of_ble_eq_true rfl), (Nat.le_of_ble_eq_true rfl)⟩ rfl ⟨(zcs_c (zrv_cat _ _) (zcs_c rfl zcs_0)), (Nat.le_of_ble_eq_true rfl)⟩ hL.1.1 dX1_range_35) ?_
    rintro G2 _ _ hV hG
    refine z_iconst hC dX1_range_38 ?_
    refine z_iconst hC dX1_range_39 ?_
    refine z_iconst hC dX1_range_40 ?_
    refine z_iconst hC dX1_range_41 ?_
    refine z_iconst hC dX1_range_42 ?_
    refine z_iconst hC dX1_range_43 ?_
    refine z_xcall_i hG hnt hk (zrunVX (ci := 1) hC hG (Nat.le_of_ble_eq_true rfl) (Nat.le_of_ble_eq_true rfl) (zobj hG rfl (Nat.le_of_ble_eq_true rfl) (Nat.le_of_ble_eq_true rfl)) (mX1_addPattern l P G2 x2 4 (inR_lit rfl) 0 (inR_lit rfl) 1 (inR_lit rfl) 1 (inR_lit rfl) 1 (Or.inr rfl) 1 (Or.inr rfl) hst hV) kVX1_162 rfl rfl rfl ⟨(Nat.le_of_ble_eq_true rfl), (Nat.le_of_ble_eq_true rfl)⟩ ⟨(Nat.le_of_ble_eq_true rfl), (Nat.le_of_ble_eq_true rfl)⟩ rfl ⟨zcs_0, (Nat.le_of_ble_eq_true rfl)⟩ hL.1.1 dX1_range_44) (Nat.le_of_ble_eq_true rfl) (Nat.le_of_ble_eq_true rfl) ?_
    rintro x4 G3 _ _ hx4 hV hG
    exact vx_ret (z_iret hC hG hr hk hx4 hV (Nat.le_of_ble_eq_true rfl) (Nat.le_of_ble_eq_true rfl) dX1_range_47)
  obtain ⟨J24, eJ24, hV⟩ := zjn_abs hV
  have hJ24 : ∀ {H : Heap} {locs : List Loc}, zS P s G H locs → J24 () → ∀ (ls : Array Slot), zL ls 3 [(0, .ref (zA P 0 0 0)), (1, .int (zI p0)), (2, .int (zI p1))] → W p l e rX1_range s m args below meth c H locs 0 0 (vx_MQ below (zQi P Q) (zXc P X) args s 6 127 (zAr P)) (F0 m 24 ls []) := by
    intro H locs hG hV ls hL
    rw [eJ24] at hV
    refine z_iconst hC dX1_range_24 ?_
    exact hJ25 hG 0 (Or.inl rfl) hV _ hL
  refine z_if_eq (tgt := 24) hC (inR_b hx1) hV dX1_range_7 (by decide) ?_ ?_
  · intro hV
    exact hJ24 hG hV _ hL
  · intro hV
    refine z_iload_n hC rfl (hL.at 2 rfl) dX1_range_10 ?_
    refine z_iload_n hC rfl (hL.at 1 rfl) dX1_range_11 ?_
    refine z_bipush hC rfl dX1_range_12 ?_
    refine z_call_z hG (zrunS hC hG (mX1_inRange l P G p1 hp1 p0 hp0 9 (inR_lit rfl) hV) kSX1_91 rfl rfl rfl ⟨(Nat.le_of_ble_eq_true rfl), (Nat.le_of_ble_eq_true rfl)⟩ ⟨(Nat.le_of_ble_eq_true rfl), (Nat.le_of_ble_eq_true rfl)⟩ rfl ⟨zcs_0, (Nat.le_of_ble_eq_true rfl)⟩ hL.1.1 dX1_range_14) ?_
    rintro x5 _ _ _ hx5 ⟨rfl, hV⟩ hG
    refine z_if_eq (tgt := 24) hC (inR_b hx5) hV dX1_range_17 (by decide) ?_ ?_
    · intro hV
      exact hJ24 hG hV _ hL
    · intro hV
      refine z_iconst hC dX1_range_20 ?_
      refine z_goto (tgt := 25) hC dX1_range_21 (by decide) ?_
      exact hJ25 hG 1 (Or.inr rfl) hV _ hL
abbrev rX1_partsOf (mc ms : Nat) : Room := { frames := 9, cells := mc, slots := ms, locals := 120 }
def vX1_partsOf (p0 : ZR) (p1 : ZR) (mc ms : Nat) (G : ZG) (X : Nat → ZG → Prop) (Q : ZR → ZG → Prop) : Prop := zeN G p0 fun (x1 : Int) => (0 + 1 ≤ mc ∧ 0 + 100 ≤ ms) ∧ znR0 G 4 x1 100 fun (x2 : ZR) (G1 : ZG) => zl5 (fun (P12 : Int → Int → ZG → Nat → Nat → Prop) (a12_4 : Int) (a12_5 : Int) (K12 : ZG) (kc ks : Nat) => zeN K12 p0 fun (x3 : Int) => zbr (x3 ≤ a12_5) (Q x2 K12) (zeI K12 p0 a12_5 fun (x4 : Int) => vX1_told x4 K12 fun (x5 : ZR) => zeI K12 p1 a12_5 fun (x6 : Int) => zisO K12 x5 9 ∧ vX9_fits x5 x6 K12 fun (x8 : Int) => zjn (fun (z57_0 : Int) => (kc + 1 ≤ mc ∧ ks + 6 ≤ ms) ∧ vX1_requireArgument z57_0 K12 X fun (_ : Unit) => zisO K12 x5 9 ∧ vX9_names x5 K12 fun (x10 : Int) => zlt1 (bOr a12_4 x10) fun (x11 : Int) => zisO K12 x5 9 ∧ vX9_pattern x5 K12 fun (x13 : ZR) => zeU K12 x2 a12_5 x13 fun (G2 : ZG) => zlt1 (w32 (a12_5 + 1)) fun (x14 : Int) => P12 x11 x14 G2 (kc + 1) (ks + 6)) fun J57 => zjn (fun (_ : Unit) => J57 0) fun J56 => zbr (x8 = 0) (J56 ()) (zisO K12 x5 9 ∧ vX9_names x5 K12 fun (x16 : Int) => zbr (bAnd x16 a12_4 ≠ 0) (J56 ()) (J57 1)))) 0 0 G1 (0 + 1) (0 + 100)
set_option maxHeartbeats 4000000 in
theorem mX1_partsOf (l : Launch) (P : ZP) (G : ZG) (mc ms : Nat) (p0 : ZR) (p1 : ZR) {X : Nat → ZG → Prop} {Q : ZR → ZG → Prop} (hst : l.stackTraces = false) (hV : vX1_partsOf p0 p1 mc ms G X Q) : vx_Met l yX1_partsOf (ws_ yX1_partsOf cX1_partsOf 7 (some (.array (.object "Patternforge$Pattern")))) (rX1_partsOf mc ms) (zPc P G [.ref (zA P 0 0 0), zrv P p0, zrv P p1]) (zQr P Q) (zXc P X) mc ms (zAr P) := by
  refine zMetX (own := RX1) rfl (by decide) (zcs_c rfl (zcs_c (zrv_cat _ _) (zcs_c (zrv_cat _ _) zcs_0))) (Nat.le_of_ble_eq_true rfl) (fun p e s m args below meth c ls hC hr hk hn hnt hG hL => ?_)
  unfold vX1_partsOf at hV
  have hB : 0 ≤ mc ∧ 0 ≤ ms := ⟨Nat.zero_le _, Nat.zero_le _⟩
  refine z_aload_n hC zvr_r rfl (hL.at 1 rfl) dX1_partsOf_0 ?_
  refine z_alenD hC hG hV dX1_partsOf_1 ?_
  intro x1 hx1 hV
  obtain ⟨hB, hV⟩ := hV
  refine z_anew hC hG (k := 4) (Or.inr rfl) q845 xq846 hx1 (Nat.le_of_ble_eq_true rfl) hV hB.1 hB.2 dX1_partsOf_2 ?_
  intro x2 G1 _ hG hV
  refine z_astore_n (lv' := [(3, zrv P x2), (0, .ref (zA P 0 0 0)), (1, zrv P p0), (2, zrv P p1)]) hC zvr_r rfl hL (by decide) rfl dX1_partsOf_5 (fun ls hL => ?_)
  refine z_iconst hC dX1_partsOf_6 ?_
  refine z_istore (lv' := [(4, .int (zI 0)), (3, zrv P x2), (0, .ref (zA P 0 0 0)), (1, zrv P p0), (2, zrv P p1)]) hC hL (by decide) rfl dX1_partsOf_7 (fun ls hL => ?_)
  refine z_iconst hC dX1_partsOf_9 ?_
  refine z_istore (lv' := [(5, .int (zI 0)), (4, .int (zI 0)), (3, zrv P x2), (0, .ref (zA P 0 0 0)), (1, zrv P p0), (2, zrv P p1)]) hC hL (by decide) rfl dX1_partsOf_10 (fun ls hL => ?_)
  refine zl5_use hV (fun (a12_4 : Int) (a12_5 : Int) (K12 : ZG) (kc ks : Nat) => inR a12_4 → inR a12_5 → (kc ≤ mc ∧ ks ≤ ms) → ∀ (H : Heap) (locs : List Loc), zS P s K12 H locs → ∀ (ls : Array Slot), zL ls 7 [(0, .ref (zA P 0 0 0)), (1, zrv P p0), (2, zrv P p1), (3, zrv P x2), (4, .int (zI a12_4)), (5, .int (zI a12_5))] → W p l e (rX1_partsOf mc ms) s m args below meth c H locs kc ks (vx_MQ below (zQr P Q) (zXc P X) args s mc ms (zAr P)) (F0 m 12 ls [])) ?_ (inR_lit rfl) (inR_lit rfl) hB _ _ hG _ (hL.sub [3, 4, 5, 2, 1, 0] rfl)
  intro P12 a12_4 a12_5 K12 kc ks hP12 hV ha12_4 ha12_5 hB H locs hG ls hL
  refine z_iload hC (hL.at 5 rfl) dX1_partsOf_12 ?_
  refine z_aload_n hC zvr_r rfl (hL.at 1 rfl) dX1_partsOf_14 ?_
  refine z_alenD hC hG hV dX1_partsOf_15 ?_
  intro x3 hx3 hV
  refine z_icmp_ge (tgt := 85) hC ha12_5 hx3 hV dX1_partsOf_16 (by decide) ?_ ?_
  · intro hV
    refine z_aload_n hC zvr_r rfl (hL.at 3 rfl) dX1_partsOf_85 ?_
    exact vx_ret (z_aret (r := x2) hC hG hr hk (Or.inr ⟨_, rfl⟩) hV hB.1 hB.2 dX1_partsOf_86)
  · intro hV
    refine z_aload_n hC zvr_a rfl (hL.at 0 rfl) dX1_partsOf_19 ?_
    refine z_aload_n hC zvr_r rfl (hL.at 1 rfl) dX1_partsOf_20 ?_
    refine z_iload hC (hL.at 5 rfl) dX1_partsOf_21 ?_
    refine z_eald hC hG ha12_5 hV dX1_partsOf_23 ?_
    intro x4 hx4 hV
    refine z_call_r hG (zrunV (ci := 1) hC hG (Nat.le_of_ble_eq_true rfl) (Nat.le_of_ble_eq_true rfl) (zobj hG rfl (Nat.le_of_ble_eq_true rfl) (Nat.le_of_ble_eq_true rfl)) (mX1_told l P K12 x4 hx4 hV) kVX1_170 rfl rfl rfl ⟨(Nat.le_of_ble_eq_true rfl), (Nat.le_of_ble_eq_true rfl)⟩ ⟨hB.1, hB.2⟩ rfl ⟨zcs_0, (Nat.le_of_ble_eq_true rfl)⟩ hL.1.1 dX1_partsOf_24) ?_
    rintro x5 _ _ _  ⟨rfl, hV⟩ hG
    refine z_astore (lv' := [(6, zrv P x5), (0, .ref (zA P 0 0 0)), (1, zrv P p0), (2, zrv P p1), (3, zrv P x2), (4, .int (zI a12_4)), (5, .int (zI a12_5))]) hC zvr_r hL (by decide) rfl dX1_partsOf_27 (fun ls hL => ?_)
    refine z_aload hC zvr_r (hL.at 0 rfl) dX1_partsOf_29 ?_
    refine z_aload_n hC zvr_r rfl (hL.at 3 rfl) dX1_partsOf_31 ?_
    refine z_iload hC (hL.at 6 rfl) dX1_partsOf_32 ?_
    refine z_eald hC hG ha12_5 hV dX1_partsOf_34 ?_
    intro x6 hx6 hV
    obtain ⟨hO7, hV⟩ := hV
    refine z_call_z hG (zrunVD hC hG hO7 (mX9_fits l P K12 x5 x6 hx6 hV) kVX1_206 rfl rfl rfl ⟨(Nat.le_of_ble_eq_true rfl), (Nat.le_of_ble_eq_true rfl)⟩ ⟨hB.1, hB.2⟩ rfl ⟨zcs_0, (Nat.le_of_ble_eq_true rfl)⟩ hL.1.1 dX1_partsOf_35) ?_
    rintro x8 _ _ _ hx8 ⟨rfl, hV⟩ hG
    obtain ⟨J57, eJ57, hV⟩ := zjn_abs hV
    have hJ57 : ∀ {H : Heap} {locs : List Loc}, zS P s K12 H locs → ∀ (z57_0 : Int), (z57_0 = 0 ∨ z57_0 = 1) → J57 z57_0 → ∀ (ls : Array Slot), zL ls 7 [(0, .ref (zA P 0 0 0)), (1, zrv P p0), (2, zrv P p1), (3, zrv P x2), (4, .int (zI a12_4)), (5, .int (zI a12_5)), (6, zrv P x5)] → W p l e (rX1_partsOf mc ms) s m args below meth c H locs kc ks (vx_MQ below (zQr P Q) (zXc P X) args s mc ms (zAr P)) (F0 m 57 ls [.int (zI z57_0)]) := by
      intro H locs hG z57_0 hz57_0 hV ls hL
      rw [eJ57] at hV
      obtain ⟨hB, hV⟩ := hV
      refine z_xcall_v hG hnt hk (zrunSX hC hG (mX1_requireArgument l P K12 z57_0 hz57_0 hst hV) kSX1_117 rfl rfl rfl ⟨(Nat.le_of_ble_eq_true rfl), (Nat.le_of_ble_eq_true rfl)⟩ ⟨hB.1, hB.2⟩ rfl ⟨zcs_0, (Nat.le_of_ble_eq_true rfl)⟩ hL.1.1 dX1_partsOf_57) hB.1 hB.2 ?_
      rintro _ _ _ ⟨rfl, hV⟩ hG
      refine z_iload hC (hL.at 4 rfl) dX1_partsOf_60 ?_
      refine z_aload hC zvr_r (hL.at 6 rfl) dX1_partsOf_62 ?_
      obtain ⟨hO9, hV⟩ := hV
      refine z_call_i hG (zrunVD hC hG hO9 (mX9_names l P K12 x5 hV) kVX1_174 rfl rfl rfl ⟨(Nat.le_of_ble_eq_true rfl), (Nat.le_of_ble_eq_true rfl)⟩ ⟨hB.1, hB.2⟩ rfl ⟨(zcs_c rfl zcs_0), (Nat.le_of_ble_eq_true rfl)⟩ hL.1.1 dX1_partsOf_64) ?_
      rintro x10 _ _ _ hx10 ⟨rfl, hV⟩ hG
      refine z_ior hC dX1_partsOf_67 ?_
      refine z_top hV (inR_toInt _) ?_
      intro x11 hx11 hV
      refine z_istore (lv' := [(4, .int (zI x11)), (0, .ref (zA P 0 0 0)), (1, zrv P p0), (2, zrv P p1), (3, zrv P x2), (5, .int (zI a12_5)), (6, zrv P x5)]) hC hL (by decide) rfl dX1_partsOf_68 (fun ls hL => ?_)
      refine z_aload_n hC zvr_r rfl (hL.at 4 rfl) dX1_partsOf_70 ?_
      refine z_iload hC (hL.at 5 rfl) dX1_partsOf_71 ?_
      refine z_aload hC zvr_r (hL.at 6 rfl) dX1_partsOf_73 ?_
      obtain ⟨hO12, hV⟩ := hV
      refine z_call_r hG (zrunVD hC hG hO12 (mX9_pattern l P K12 x5 hV) kVX1_183 rfl rfl rfl ⟨(Nat.le_of_ble_eq_true rfl), (Nat.le_of_ble_eq_true rfl)⟩ ⟨hB.1, hB.2⟩ rfl ⟨(zcs_c rfl (zcs_c (zrv_cat _ _) zcs_0)), (Nat.le_of_ble_eq_true rfl)⟩ hL.1.1 dX1_partsOf_75) ?_
      rintro x13 _ _ _  ⟨rfl, hV⟩ hG
      refine z_eust (x := x13) hC hG ha12_5 hV dX1_partsOf_78 ?_
      intro G2 _ _ hG hV
      refine z_iincV (fun x14 => [(5, .int (zI x14)), (4, .int (zI x11)), (0, .ref (zA P 0 0 0)), (1, zrv P p0), (2, zrv P p1), (3, zrv P x2), (6, zrv P x5)]) hC hL (k := 5) rfl (by decide) (fun _ => rfl) hV dX1_partsOf_79 ?_
      intro x14 hx14 hV ls hL
      refine z_goto (tgt := 12) hC dX1_partsOf_82 (by decide) ?_
      exact hP12 x11 x14 G2 (kc + 1) (ks + 6) hV hx11 hx14 hB _ _ hG _ (hL.sub [2, 3, 4, 5, 1, 0] rfl)
    obtain ⟨J56, eJ56, hV⟩ := zjn_abs hV
    have hJ56 : ∀ {H : Heap} {locs : List Loc}, zS P s K12 H locs → J56 () → ∀ (ls : Array Slot), zL ls 7 [(0, .ref (zA P 0 0 0)), (1, zrv P p0), (2, zrv P p1), (3, zrv P x2), (4, .int (zI a12_4)), (5, .int (zI a12_5)), (6, zrv P x5)] → W p l e (rX1_partsOf mc ms) s m args below meth c H locs kc ks (vx_MQ below (zQr P Q) (zXc P X) args s mc ms (zAr P)) (F0 m 56 ls []) := by
      intro H locs hG hV ls hL
      rw [eJ56] at hV
      refine z_iconst hC dX1_partsOf_56 ?_
      exact hJ57 hG 0 (Or.inl rfl) hV _ hL
    refine z_if_eq (tgt := 56) hC (inR_b hx8) hV dX1_partsOf_38 (by decide) ?_ ?_
    · intro hV
      exact hJ56 hG hV _ (hL.sub [1, 2, 3, 4, 5, 6, 0] rfl)
    · intro hV
      refine z_aload hC zvr_r (hL.at 0 rfl) dX1_partsOf_41 ?_
      obtain ⟨hO15, hV⟩ := hV
      refine z_call_i hG (zrunVD hC hG hO15 (mX9_names l P K12 x5 hV) kVX1_174 rfl rfl rfl ⟨(Nat.le_of_ble_eq_true rfl), (Nat.le_of_ble_eq_true rfl)⟩ ⟨hB.1, hB.2⟩ rfl ⟨zcs_0, (Nat.le_of_ble_eq_true rfl)⟩ hL.1.1 dX1_partsOf_43) ?_
      rintro x16 _ _ _ hx16 ⟨rfl, hV⟩ hG
      refine z_iload hC (hL.at 5 rfl) dX1_partsOf_46 ?_
      refine z_iand hC dX1_partsOf_48 ?_
      refine z_if_ne (tgt := 56) hC (inR_toInt _) hV dX1_partsOf_49 (by decide) ?_ ?_
      · intro hV
        exact hJ56 hG hV _ (hL.sub [1, 2, 3, 4, 5, 6, 0] rfl)
      · intro hV
        refine z_iconst hC dX1_partsOf_52 ?_
        refine z_goto (tgt := 57) hC dX1_partsOf_53 (by decide) ?_
        exact hJ57 hG 1 (Or.inr rfl) hV _ (hL.sub [1, 2, 3, 4, 5, 6, 0] rfl)
abbrev rX1_addMade : Room := { frames := 10, cells := 4, slots := 119, locals := 226 }
def vX1_addMade (p0 : ZR) (p1 : Int) (p2 : ZR) (G : ZG) (X : Nat → ZG → Prop) (Q : Int → ZG → Prop) : Prop := zeN G p2 fun (x1 : Int) => zl5 (fun (P23 : Int → Int → Int → Int → Int → Prop) (a23_4 : Int) (a23_5 : Int) (a23_6 : Int) (a23_7 : Int) (a23_10 : Int) => zbr (x1 ≤ a23_10) (vX1_addPattern p0 p1 a23_4 (w32 (a23_5 + 1)) a23_6 a23_7 0 G X fun (x2 : Int) (G1 : ZG) => Q x2 G1) (zeI G p2 a23_10 fun (x3 : Int) => vX1_told x3 G fun (x4 : ZR) => zisO G x4 9 ∧ vX9_names x4 G fun (x6 : Int) => zlt1 (bOr a23_4 x6) fun (x7 : Int) => zisO G x4 9 ∧ vX9_depth x4 G fun (x9 : Int) => vJ4_max a23_5 x9 fun (x10 : Int) => zisO G x4 9 ∧ vX9_size x4 G fun (x12 : Int) => zlt1 (w32 (a23_6 + x12)) fun (x13 : Int) => zjn (fun (z95_0 : Int) => zlt1 (w32 (a23_10 + 1)) fun (x14 : Int) => P23 x7 x10 x13 z95_0 x14) fun J95 => zjn (fun (_ : Unit) => J95 0) fun J94 => zbr (a23_7 = 0) (J94 ()) (zisO G x4 9 ∧ vX9_isPure x4 G fun (x16 : Int) => zbr (x16 = 0) (J94 ()) (J95 1)))) 0 0 1 1 0
set_option maxHeartbeats 4000000 in
theorem mX1_addMade (l : Launch) (P : ZP) (G : ZG) (p0 : ZR) (p1 : Int) (hp1 : inR p1) (p2 : ZR) {X : Nat → ZG → Prop} {Q : Int → ZG → Prop} (hst : l.stackTraces = false) (hV : vX1_addMade p0 p1 p2 G X Q) : vx_Met l yX1_addMade (ws_ yX1_addMade cX1_addMade 13 (some .int)) rX1_addMade (zPc P G [.ref (zA P 0 0 0), zrv P p0, .int (zI p1), zrv P p2]) (zQi P Q) (zXc P X) 4 119 (zAr P) := by
  refine zMetX (own := RX1) rfl (by decide) (zcs_c rfl (zcs_c (zrv_cat _ _) (zcs_c rfl (zcs_c (zrv_cat _ _) zcs_0)))) (Nat.le_of_ble_eq_true rfl) (fun p e s m args below meth c ls hC hr hk hn hnt hG hL => ?_)
  unfold vX1_addMade at hV
  refine z_iconst hC dX1_addMade_0 ?_
  refine z_istore (lv' := [(4, .int (zI 0)), (0, .ref (zA P 0 0 0)), (1, zrv P p0), (2, .int (zI p1)), (3, zrv P p2)]) hC hL (by decide) rfl dX1_addMade_1 (fun ls hL => ?_)
  refine z_iconst hC dX1_addMade_3 ?_
  refine z_istore (lv' := [(5, .int (zI 0)), (4, .int (zI 0)), (0, .ref (zA P 0 0 0)), (1, zrv P p0), (2, .int (zI p1)), (3, zrv P p2)]) hC hL (by decide) rfl dX1_addMade_4 (fun ls hL => ?_)
  refine z_iconst hC dX1_addMade_6 ?_
  refine z_istore (lv' := [(6, .int (zI 1)), (5, .int (zI 0)), (4, .int (zI 0)), (0, .ref (zA P 0 0 0)), (1, zrv P p0), (2, .int (zI p1)), (3, zrv P p2)]) hC hL (by decide) rfl dX1_addMade_7 (fun ls hL => ?_)
  refine z_iconst hC dX1_addMade_9 ?_
  refine z_istore (lv' := [(7, .int (zI 1)), (6, .int (zI 1)), (5, .int (zI 0)), (4, .int (zI 0)), (0, .ref (zA P 0 0 0)), (1, zrv P p0), (2, .int (zI p1)), (3, zrv P p2)]) hC hL (by decide) rfl dX1_addMade_10 (fun ls hL => ?_)
  refine z_aload_n hC zvr_r rfl (hL.at 7 rfl) dX1_addMade_12 ?_
  refine z_astore (lv' := [(8, zrv P p2), (7, .int (zI 1)), (6, .int (zI 1)), (5, .int (zI 0)), (4, .int (zI 0)), (0, .ref (zA P 0 0 0)), (1, zrv P p0), (2, .int (zI p1)), (3, zrv P p2)]) hC zvr_r hL (by decide) rfl dX1_addMade_13 (fun ls hL => ?_)
  refine z_aload hC zvr_r (hL.at 0 rfl) dX1_addMade_15 ?_
  refine z_alenD hC hG hV dX1_addMade_17 ?_
  intro x1 hx1 hV
  refine z_istore (lv' := [(9, .int (zI x1)), (8, zrv P p2), (7, .int (zI 1)), (6, .int (zI 1)), (5, .int (zI 0)), (4, .int (zI 0)), (0, .ref (zA P 0 0 0)), (1, zrv P p0), (2, .int (zI p1)), (3, zrv P p2)]) hC hL (by decide) rfl dX1_addMade_18 (fun ls hL => ?_)
  refine z_iconst hC dX1_addMade_20 ?_
  refine z_istore (lv' := [(10, .int (zI 0)), (9, .int (zI x1)), (8, zrv P p2), (7, .int (zI 1)), (6, .int (zI 1)), (5, .int (zI 0)), (4, .int (zI 0)), (0, .ref (zA P 0 0 0)), (1, zrv P p0), (2, .int (zI p1)), (3, zrv P p2)]) hC hL (by decide) rfl dX1_addMade_21 (fun ls hL => ?_)
  refine zl5_use hV (fun (a23_4 : Int) (a23_5 : Int) (a23_6 : Int) (a23_7 : Int) (a23_10 : Int) => inR a23_4 → inR a23_5 → inR a23_6 → (a23_7 = 0 ∨ a23_7 = 1) → inR a23_10 → ∀ (H : Heap) (locs : List Loc), zS P s G H locs → ∀ (ls : Array Slot), zL ls 13 [(0, .ref (zA P 0 0 0)), (1, zrv P p0), (2, .int (zI p1)), (4, .int (zI a23_4)), (5, .int (zI a23_5)), (6, .int (zI a23_6)), (7, .int (zI a23_7)), (8, zrv P p2), (9, .int (zI x1)), (10, .int (zI a23_10))] → W p l e rX1_addMade s m args below meth c H locs 0 0 (vx_MQ below (zQi P Q) (zXc P X) args s 4 119 (zAr P)) (F0 m 23 ls [])) ?_ (inR_lit rfl) (inR_lit rfl) (inR_lit rfl) (Or.inr rfl) (inR_lit rfl) _ _ hG _ (hL.sub [7, 8, 9, 6, 5, 4, 3, 2, 1, 0] rfl)
  intro P23 a23_4 a23_5 a23_6 a23_7 a23_10 hP23 hV ha23_4 ha23_5 ha23_6 ha23_7 ha23_10 H locs hG ls hL
  refine z_iload hC (hL.at 9 rfl) dX1_addMade_23 ?_
  refine z_iload hC (hL.at 8 rfl) dX1_addMade_25 ?_
  refine z_icmp_ge (tgt := 103) hC ha23_10 hx1 hV dX1_addMade_27 (by decide) ?_ ?_
  · intro hV
    refine z_aload_n hC zvr_a rfl (hL.at 0 rfl) dX1_addMade_103 ?_
    refine z_aload_n hC zvr_r rfl (hL.at 1 rfl) dX1_addMade_104 ?_
    refine z_iload_n hC rfl (hL.at 2 rfl) dX1_addMade_105 ?_
    refine z_iload hC (hL.at 3 rfl) dX1_addMade_106 ?_
    refine z_iload hC (hL.at 4 rfl) dX1_addMade_108 ?_
    refine z_iconst hC dX1_addMade_110 ?_
    refine z_iadd hC dX1_addMade_111 ?_
    refine z_iload hC (hL.at 5 rfl) dX1_addMade_112 ?_
    refine z_iload hC (hL.at 6 rfl) dX1_addMade_114 ?_
    refine z_iconst hC dX1_addMade_116 ?_
    refine z_xcall_i hG hnt hk (zrunVX (ci := 1) hC hG (Nat.le_of_ble_eq_true rfl) (Nat.le_of_ble_eq_true rfl) (zobj hG rfl (Nat.le_of_ble_eq_true rfl) (Nat.le_of_ble_eq_true rfl)) (mX1_addPattern l P G p0 p1 hp1 a23_4 ha23_4 (w32 (a23_5 + 1)) (inR_w _) a23_6 ha23_6 a23_7 ha23_7 0 (Or.inl rfl) hst hV) kVX1_162 rfl rfl rfl ⟨(Nat.le_of_ble_eq_true rfl), (Nat.le_of_ble_eq_true rfl)⟩ ⟨(Nat.le_of_ble_eq_true rfl), (Nat.le_of_ble_eq_true rfl)⟩ rfl ⟨zcs_0, (Nat.le_of_ble_eq_true rfl)⟩ hL.1.1 dX1_addMade_117) (Nat.le_of_ble_eq_true rfl) (Nat.le_of_ble_eq_true rfl) ?_
    rintro x2 G1 _ _ hx2 hV hG
    exact vx_ret (z_iret hC hG hr hk hx2 hV (Nat.le_of_ble_eq_true rfl) (Nat.le_of_ble_eq_true rfl) dX1_addMade_120)
  · intro hV
    refine z_aload hC zvr_r (hL.at 7 rfl) dX1_addMade_30 ?_
    refine z_iload hC (hL.at 9 rfl) dX1_addMade_32 ?_
    refine z_eald hC hG ha23_10 hV dX1_addMade_34 ?_
    intro x3 hx3 hV
    refine z_istore (lv' := [(11, .int (zI x3)), (0, .ref (zA P 0 0 0)), (1, zrv P p0), (2, .int (zI p1)), (4, .int (zI a23_4)), (5, .int (zI a23_5)), (6, .int (zI a23_6)), (7, .int (zI a23_7)), (8, zrv P p2), (9, .int (zI x1)), (10, .int (zI a23_10))]) hC hL (by decide) rfl dX1_addMade_35 (fun ls hL => ?_)
    refine z_aload_n hC zvr_a rfl (hL.at 1 rfl) dX1_addMade_37 ?_
    refine z_iload hC (hL.at 0 rfl) dX1_addMade_38 ?_
    refine z_call_r hG (zrunV (ci := 1) hC hG (Nat.le_of_ble_eq_true rfl) (Nat.le_of_ble_eq_true rfl) (zobj hG rfl (Nat.le_of_ble_eq_true rfl) (Nat.le_of_ble_eq_true rfl)) (mX1_told l P G x3 hx3 hV) kVX1_170 rfl rfl rfl ⟨(Nat.le_of_ble_eq_true rfl), (Nat.le_of_ble_eq_true rfl)⟩ ⟨(Nat.le_of_ble_eq_true rfl), (Nat.le_of_ble_eq_true rfl)⟩ rfl ⟨zcs_0, (Nat.le_of_ble_eq_true rfl)⟩ hL.1.1 dX1_addMade_40) ?_
    rintro x4 _ _ _  ⟨rfl, hV⟩ hG
    refine z_astore (lv' := [(12, zrv P x4), (11, .int (zI x3)), (0, .ref (zA P 0 0 0)), (1, zrv P p0), (2, .int (zI p1)), (4, .int (zI a23_4)), (5, .int (zI a23_5)), (6, .int (zI a23_6)), (7, .int (zI a23_7)), (8, zrv P p2), (9, .int (zI x1)), (10, .int (zI a23_10))]) hC zvr_r hL (by decide) rfl dX1_addMade_43 (fun ls hL => ?_)
    refine z_iload hC (hL.at 5 rfl) dX1_addMade_45 ?_
    refine z_aload hC zvr_r (hL.at 0 rfl) dX1_addMade_47 ?_
    obtain ⟨hO5, hV⟩ := hV
    refine z_call_i hG (zrunVD hC hG hO5 (mX9_names l P G x4 hV) kVX1_174 rfl rfl rfl ⟨(Nat.le_of_ble_eq_true rfl), (Nat.le_of_ble_eq_true rfl)⟩ ⟨(Nat.le_of_ble_eq_true rfl), (Nat.le_of_ble_eq_true rfl)⟩ rfl ⟨(zcs_c rfl zcs_0), (Nat.le_of_ble_eq_true rfl)⟩ hL.1.1 dX1_addMade_49) ?_
    rintro x6 _ _ _ hx6 ⟨rfl, hV⟩ hG
    refine z_ior hC dX1_addMade_52 ?_
    refine z_top hV (inR_toInt _) ?_
    intro x7 hx7 hV
    refine z_istore (lv' := [(4, .int (zI x7)), (12, zrv P x4), (11, .int (zI x3)), (0, .ref (zA P 0 0 0)), (1, zrv P p0), (2, .int (zI p1)), (5, .int (zI a23_5)), (6, .int (zI a23_6)), (7, .int (zI a23_7)), (8, zrv P p2), (9, .int (zI x1)), (10, .int (zI a23_10))]) hC hL (by decide) rfl dX1_addMade_53 (fun ls hL => ?_)
    refine z_iload hC (hL.at 6 rfl) dX1_addMade_55 ?_
    refine z_aload hC zvr_r (hL.at 1 rfl) dX1_addMade_57 ?_
    obtain ⟨hO8, hV⟩ := hV
    refine z_call_i hG (zrunVD hC hG hO8 (mX9_depth l P G x4 hV) kVX1_191 rfl rfl rfl ⟨(Nat.le_of_ble_eq_true rfl), (Nat.le_of_ble_eq_true rfl)⟩ ⟨(Nat.le_of_ble_eq_true rfl), (Nat.le_of_ble_eq_true rfl)⟩ rfl ⟨(zcs_c rfl zcs_0), (Nat.le_of_ble_eq_true rfl)⟩ hL.1.1 dX1_addMade_59) ?_
    rintro x9 _ _ _ hx9 ⟨rfl, hV⟩ hG
    refine z_call_i hG (zrunS hC hG (mJ4_max l P G a23_5 ha23_5 x9 hx9 hV) kSX1_209 rfl rfl rfl ⟨(Nat.le_of_ble_eq_true rfl), (Nat.le_of_ble_eq_true rfl)⟩ ⟨(Nat.le_of_ble_eq_true rfl), (Nat.le_of_ble_eq_true rfl)⟩ rfl ⟨zcs_0, (Nat.le_of_ble_eq_true rfl)⟩ hL.1.1 dX1_addMade_62) ?_
    rintro x10 _ _ _ hx10 ⟨rfl, hV⟩ hG
    refine z_istore (lv' := [(5, .int (zI x10)), (4, .int (zI x7)), (12, zrv P x4), (11, .int (zI x3)), (0, .ref (zA P 0 0 0)), (1, zrv P p0), (2, .int (zI p1)), (6, .int (zI a23_6)), (7, .int (zI a23_7)), (8, zrv P p2), (9, .int (zI x1)), (10, .int (zI a23_10))]) hC hL (by decide) rfl dX1_addMade_65 (fun ls hL => ?_)
    refine z_iload hC (hL.at 7 rfl) dX1_addMade_67 ?_
    refine z_aload hC zvr_r (hL.at 2 rfl) dX1_addMade_69 ?_
    obtain ⟨hO11, hV⟩ := hV
    refine z_call_i hG (zrunVD hC hG hO11 (mX9_size l P G x4 hV) kVX1_194 rfl rfl rfl ⟨(Nat.le_of_ble_eq_true rfl), (Nat.le_of_ble_eq_true rfl)⟩ ⟨(Nat.le_of_ble_eq_true rfl), (Nat.le_of_ble_eq_true rfl)⟩ rfl ⟨(zcs_c rfl zcs_0), (Nat.le_of_ble_eq_true rfl)⟩ hL.1.1 dX1_addMade_71) ?_
    rintro x12 _ _ _ hx12 ⟨rfl, hV⟩ hG
    refine z_iadd hC dX1_addMade_74 ?_
    refine z_top hV (inR_w _) ?_
    intro x13 hx13 hV
    refine z_istore (lv' := [(6, .int (zI x13)), (5, .int (zI x10)), (4, .int (zI x7)), (12, zrv P x4), (11, .int (zI x3)), (0, .ref (zA P 0 0 0)), (1, zrv P p0), (2, .int (zI p1)), (7, .int (zI a23_7)), (8, zrv P p2), (9, .int (zI x1)), (10, .int (zI a23_10))]) hC hL (by decide) rfl dX1_addMade_75 (fun ls hL => ?_)
    refine z_iload hC (hL.at 8 rfl) dX1_addMade_77 ?_
    obtain ⟨J95, eJ95, hV⟩ := zjn_abs hV
    have hJ95 : ∀ {H : Heap} {locs : List Loc}, zS P s G H locs → ∀ (z95_0 : Int), (z95_0 = 0 ∨ z95_0 = 1) → J95 z95_0 → ∀ (ls : Array Slot), zL ls 13 [(0, .ref (zA P 0 0 0)), (1, zrv P p0), (2, .int (zI p1)), (4, .int (zI x7)), (5, .int (zI x10)), (6, .int (zI x13)), (8, zrv P p2), (9, .int (zI x1)), (10, .int (zI a23_10))] → W p l e rX1_addMade s m args below meth c H locs 0 0 (vx_MQ below (zQi P Q) (zXc P X) args s 4 119 (zAr P)) (F0 m 95 ls [.int (zI z95_0)]) := by
      intro H locs hG z95_0 hz95_0 hV ls hL
      rw [eJ95] at hV
      refine z_istore (lv' := [(7, .int (zI z95_0)), (0, .ref (zA P 0 0 0)), (1, zrv P p0), (2, .int (zI p1)), (4, .int (zI x7)), (5, .int (zI x10)), (6, .int (zI x13)), (8, zrv P p2), (9, .int (zI x1)), (10, .int (zI a23_10))]) hC hL (by decide) rfl dX1_addMade_95 (fun ls hL => ?_)
      refine z_iincV (fun x14 => [(10, .int (zI x14)), (7, .int (zI z95_0)), (0, .ref (zA P 0 0 0)), (1, zrv P p0), (2, .int (zI p1)), (4, .int (zI x7)), (5, .int (zI x10)), (6, .int (zI x13)), (8, zrv P p2), (9, .int (zI x1))]) hC hL (k := 9) rfl (by decide) (fun _ => rfl) hV dX1_addMade_97 ?_
      intro x14 hx14 hV ls hL
      refine z_goto (tgt := 23) hC dX1_addMade_100 (by decide) ?_
      exact hP23 x7 x10 x13 z95_0 x14 hV hx7 hx10 hx13 hz95_0 hx14 _ _ hG _ (hL.sub [2, 3, 4, 5, 6, 7, 1, 8, 9, 0] rfl)
    obtain ⟨J94, eJ94, hV⟩ := zjn_abs hV
    have hJ94 : ∀ {H : Heap} {locs : List Loc}, zS P s G H locs → J94 () → ∀ (ls : Array Slot), zL ls 13 [(0, .ref (zA P 0 0 0)), (1, zrv P p0), (2, .int (zI p1)), (4, .int (zI x7)), (5, .int (zI x10)), (6, .int (zI x13)), (8, zrv P p2), (9, .int (zI x1)), (10, .int (zI a23_10))] → W p l e rX1_addMade s m args below meth c H locs 0 0 (vx_MQ below (zQi P Q) (zXc P X) args s 4 119 (zAr P)) (F0 m 94 ls []) := by
      intro H locs hG hV ls hL
      rw [eJ94] at hV
      refine z_iconst hC dX1_addMade_94 ?_
      exact hJ95 hG 0 (Or.inl rfl) hV _ hL
    refine z_if_eq (tgt := 94) hC (inR_b ha23_7) hV dX1_addMade_79 (by decide) ?_ ?_
    · intro hV
      exact hJ94 hG hV _ (hL.sub [5, 6, 7, 2, 1, 0, 9, 10, 11] rfl)
    · intro hV
      refine z_aload hC zvr_r (hL.at 3 rfl) dX1_addMade_82 ?_
      obtain ⟨hO15, hV⟩ := hV
      refine z_call_z hG (zrunVD hC hG hO15 (mX9_isPure l P G x4 hV) kVX1_195 rfl rfl rfl ⟨(Nat.le_of_ble_eq_true rfl), (Nat.le_of_ble_eq_true rfl)⟩ ⟨(Nat.le_of_ble_eq_true rfl), (Nat.le_of_ble_eq_true rfl)⟩ rfl ⟨zcs_0, (Nat.le_of_ble_eq_true rfl)⟩ hL.1.1 dX1_addMade_84) ?_
      rintro x16 _ _ _ hx16 ⟨rfl, hV⟩ hG
      refine z_if_eq (tgt := 94) hC (inR_b hx16) hV dX1_addMade_87 (by decide) ?_ ?_
      · intro hV
        exact hJ94 hG hV _ (hL.sub [5, 6, 7, 2, 1, 0, 9, 10, 11] rfl)
      · intro hV
        refine z_iconst hC dX1_addMade_90 ?_
        refine z_goto (tgt := 95) hC dX1_addMade_91 (by decide) ?_
        exact hJ95 hG 1 (Or.inr rfl) hV _ (hL.sub [5, 6, 7, 2, 1, 0, 9, 10, 11] rfl)
abbrev rX1_make : Room := { frames := 11, cells := 20, slots := 297, locals := 258 }
def vX1_make (p0 : Int) (p1 : Int) (p2 : Int) (p3 : Int) (p4 : Int) (G : ZG) (X : Nat → ZG → Prop) (Q : Int → ZG → Prop) : Prop := vX1_fieldsOf p0 p1 G X fun (x1 : ZR) => zeN G x1 fun (x2 : Int) => vJ2_size 9 G fun (x3 : Int) => vX1_requireParts x2 p2 p3 p4 x3 6 30 G X fun (G1 : ZG) => zeN G1 x1 fun (x4 : Int) => vX1_firstOf x4 p2 p3 p4 G1 fun (x5 : ZR) (G2 : ZG) => znw G2 (.inr (.inr (12, zdf 12))) fun (x6 : ZR) (G3 : ZG) => vX1_partsOf x5 x1 6 130 G3 X fun (x7 : ZR) (G4 : ZG) => znn x6 ∧ vX12_init x6 p0 p1 x7 G4 fun (G5 : ZG) => vX1_addMade x6 p0 x5 G5 X fun (x9 : Int) (G6 : ZG) => Q x9 G6
set_option maxHeartbeats 4000000 in
theorem mX1_make (l : Launch) (P : ZP) (G : ZG) (p0 : Int) (hp0 : inR p0) (p1 : Int) (hp1 : inR p1) (p2 : Int) (hp2 : inR p2) (p3 : Int) (hp3 : inR p3) (p4 : Int) (hp4 : inR p4) {X : Nat → ZG → Prop} {Q : Int → ZG → Prop} (hst : l.stackTraces = false) (hV : vX1_make p0 p1 p2 p3 p4 G X Q) : vx_Met l yX1_make (ws_ yX1_make cX1_make 8 (some .int)) rX1_make (zPc P G [.ref (zA P 0 0 0), .int (zI p0), .int (zI p1), .int (zI p2), .int (zI p3), .int (zI p4)]) (zQi P Q) (zXc P X) 20 297 (zAr P) := by
  refine zMetX (own := RX1) rfl (by decide) (zcs_c rfl (zcs_c rfl (zcs_c rfl (zcs_c rfl (zcs_c rfl (zcs_c rfl zcs_0)))))) (Nat.le_of_ble_eq_true rfl) (fun p e s m args below meth c ls hC hr hk hn hnt hG hL => ?_)
  unfold vX1_make at hV
  refine z_aload_n hC zvr_a rfl (hL.at 0 rfl) dX1_make_0 ?_
  refine z_iload_n hC rfl (hL.at 1 rfl) dX1_make_1 ?_
  refine z_iload_n hC rfl (hL.at 2 rfl) dX1_make_2 ?_
  refine z_xcall_r hG hnt hk (zrunVX (ci := 1) hC hG (Nat.le_of_ble_eq_true rfl) (Nat.le_of_ble_eq_true rfl) (zobj hG rfl (Nat.le_of_ble_eq_true rfl) (Nat.le_of_ble_eq_true rfl)) (mX1_fieldsOf l P G p0 hp0 p1 hp1 hst hV) kVX1_142 rfl rfl rfl ⟨(Nat.le_of_ble_eq_true rfl), (Nat.le_of_ble_eq_true rfl)⟩ ⟨(Nat.le_of_ble_eq_true rfl), (Nat.le_of_ble_eq_true rfl)⟩ rfl ⟨zcs_0, (Nat.le_of_ble_eq_true rfl)⟩ hL.1.1 dX1_make_3) (Nat.le_of_ble_eq_true rfl) (Nat.le_of_ble_eq_true rfl) ?_
  rintro x1 _ _ _  ⟨rfl, hV⟩ hG
  refine z_astore (lv' := [(6, zrv P x1), (0, .ref (zA P 0 0 0)), (1, .int (zI p0)), (2, .int (zI p1)), (3, .int (zI p2)), (4, .int (zI p3)), (5, .int (zI p4))]) hC zvr_r hL (by decide) rfl dX1_make_6 (fun ls hL => ?_)
  refine z_aload hC zvr_r (hL.at 0 rfl) dX1_make_8 ?_
  refine z_alenD hC hG hV dX1_make_10 ?_
  intro x2 hx2 hV
  refine z_iload_n hC rfl (hL.at 4 rfl) dX1_make_11 ?_
  refine z_iload hC (hL.at 5 rfl) dX1_make_12 ?_
  refine z_iload hC (hL.at 6 rfl) dX1_make_14 ?_
  refine z_aload_n hC zvr_a rfl (hL.at 1 rfl) dX1_make_16 ?_
  refine z_getO hC hG 9 kFX1_32_1 rfl rfl dX1_make_17 ?_
  refine z_call_i hG (zrunV (ci := 2) hC hG (Nat.le_of_ble_eq_true rfl) (Nat.le_of_ble_eq_true rfl) (zobj hG rfl (Nat.le_of_ble_eq_true rfl) (Nat.le_of_ble_eq_true rfl)) (mJ2_size l P G 9 rfl hV) kVX1_101 rfl rfl rfl ⟨(Nat.le_of_ble_eq_true rfl), (Nat.le_of_ble_eq_true rfl)⟩ ⟨(Nat.le_of_ble_eq_true rfl), (Nat.le_of_ble_eq_true rfl)⟩ rfl ⟨(zcs_c rfl (zcs_c rfl (zcs_c rfl (zcs_c rfl zcs_0)))), (Nat.le_of_ble_eq_true rfl)⟩ hL.1.1 dX1_make_20) ?_
  rintro x3 _ _ _ hx3 ⟨rfl, hV⟩ hG
  refine z_xcall_v hG hnt hk (zrunSX hC hG (mX1_requireParts l P G 6 30 x2 hx2 p2 hp2 p3 hp3 p4 hp4 x3 hx3 hst hV) kSX1_146 rfl rfl rfl ⟨(Nat.le_of_ble_eq_true rfl), (Nat.le_of_ble_eq_true rfl)⟩ ⟨(Nat.le_of_ble_eq_true rfl), (Nat.le_of_ble_eq_true rfl)⟩ rfl ⟨zcs_0, (Nat.le_of_ble_eq_true rfl)⟩ hL.1.1 dX1_make_23) (Nat.le_of_ble_eq_true rfl) (Nat.le_of_ble_eq_true rfl) ?_
  rintro G1 _ _ hV hG
  refine z_aload hC zvr_r (hL.at 0 rfl) dX1_make_26 ?_
  refine z_alenD hC hG hV dX1_make_28 ?_
  intro x4 hx4 hV
  refine z_iload_n hC rfl (hL.at 4 rfl) dX1_make_29 ?_
  refine z_iload hC (hL.at 5 rfl) dX1_make_30 ?_
  refine z_iload hC (hL.at 6 rfl) dX1_make_32 ?_
  refine z_call_r hG (zrunS hC hG (mX1_firstOf l P G1 x4 hx4 p2 hp2 p3 hp3 p4 hp4 hV) kSX1_123 rfl rfl rfl ⟨(Nat.le_of_ble_eq_true rfl), (Nat.le_of_ble_eq_true rfl)⟩ ⟨(Nat.le_of_ble_eq_true rfl), (Nat.le_of_ble_eq_true rfl)⟩ rfl ⟨zcs_0, (Nat.le_of_ble_eq_true rfl)⟩ hL.1.1 dX1_make_34) ?_
  rintro x5 G2 _ _  hV hG
  refine z_astore (lv' := [(7, zrv P x5), (6, zrv P x1), (0, .ref (zA P 0 0 0)), (1, .int (zI p0)), (2, .int (zI p1)), (3, .int (zI p2)), (4, .int (zI p3)), (5, .int (zI p4))]) hC zvr_r hL (by decide) rfl dX1_make_37 (fun ls hL => ?_)
  refine z_aload_n hC zvr_a rfl (hL.at 2 rfl) dX1_make_39 ?_
  refine z_new (ci := 12) (n := 3) hC hG (Nat.le_of_ble_eq_true rfl) (Nat.le_of_ble_eq_true rfl) rfl q839 q840 q125 hV (Nat.le_of_ble_eq_true rfl) (Nat.le_of_ble_eq_true rfl) dX1_make_40 ?_
  intro x6 G3 _ hG hV
  refine z_dup hC (zrv_cat _ _) dX1_make_43 ?_
  refine z_iload_n hC rfl (hL.at 3 rfl) dX1_make_44 ?_
  refine z_iload_n hC rfl (hL.at 4 rfl) dX1_make_45 ?_
  refine z_aload_n hC zvr_a rfl (hL.at 2 rfl) dX1_make_46 ?_
  refine z_aload hC zvr_r (hL.at 0 rfl) dX1_make_47 ?_
  refine z_aload hC zvr_r (hL.at 1 rfl) dX1_make_49 ?_
  refine z_xcall_r hG hnt hk (zrunVX (ci := 1) hC hG (Nat.le_of_ble_eq_true rfl) (Nat.le_of_ble_eq_true rfl) (zobj hG rfl (Nat.le_of_ble_eq_true rfl) (Nat.le_of_ble_eq_true rfl)) (mX1_partsOf l P G3 6 130 x5 x1 hst hV) kVX1_217 rfl rfl rfl ⟨(Nat.le_of_ble_eq_true rfl), (Nat.le_of_ble_eq_true rfl)⟩ ⟨(Nat.le_of_ble_eq_true rfl), (Nat.le_of_ble_eq_true rfl)⟩ rfl ⟨(zcs_c rfl (zcs_c rfl (zcs_c (zrv_cat _ _) (zcs_c (zrv_cat _ _) (zcs_c rfl zcs_0))))), (Nat.le_of_ble_eq_true rfl)⟩ hL.1.1 dX1_make_51) (Nat.le_of_ble_eq_true rfl) (Nat.le_of_ble_eq_true rfl) ?_
  rintro x7 G4 _ _  hV hG
  obtain ⟨hO8, hV⟩ := hV
  refine z_call_v hG (zrunIN hC hG hO8 (mX12_init l P G4 x6 p0 hp0 p1 hp1 x7 hV) kIX1_221 rfl rfl rfl ⟨(Nat.le_of_ble_eq_true rfl), (Nat.le_of_ble_eq_true rfl)⟩ ⟨(Nat.le_of_ble_eq_true rfl), (Nat.le_of_ble_eq_true rfl)⟩ rfl ⟨(zcs_c (zrv_cat _ _) (zcs_c rfl zcs_0)), (Nat.le_of_ble_eq_true rfl)⟩ hL.1.1 dX1_make_54) ?_
  rintro G5 _ _ hV hG
  refine z_iload_n hC rfl (hL.at 3 rfl) dX1_make_57 ?_
  refine z_aload hC zvr_r (hL.at 0 rfl) dX1_make_58 ?_
  refine z_xcall_i hG hnt hk (zrunVX (ci := 1) hC hG (Nat.le_of_ble_eq_true rfl) (Nat.le_of_ble_eq_true rfl) (zobj hG rfl (Nat.le_of_ble_eq_true rfl) (Nat.le_of_ble_eq_true rfl)) (mX1_addMade l P G5 x6 p0 hp0 x5 hst hV) kVX1_224 rfl rfl rfl ⟨(Nat.le_of_ble_eq_true rfl), (Nat.le_of_ble_eq_true rfl)⟩ ⟨(Nat.le_of_ble_eq_true rfl), (Nat.le_of_ble_eq_true rfl)⟩ rfl ⟨zcs_0, (Nat.le_of_ble_eq_true rfl)⟩ hL.1.1 dX1_make_60) (Nat.le_of_ble_eq_true rfl) (Nat.le_of_ble_eq_true rfl) ?_
  rintro x9 G6 _ _ hx9 hV hG
  exact vx_ret (z_iret hC hG hr hk hx9 hV (Nat.le_of_ble_eq_true rfl) (Nat.le_of_ble_eq_true rfl) dX1_make_63)
abbrev rX1_canBeEither : Room := { frames := 2, cells := 0, slots := 0, locals := 33 }
def vX1_canBeEither (p0 : ZR) (p1 : ZR) (G : ZG) (Q : Int → Prop) : Prop := zisO G p0 9 ∧ vX9_kind p0 G fun (x2 : Int) => zjn (fun (z24_0 : Int) => zjn (fun (z59_0 : Int) => Q z59_0) fun J59 => zjn (fun (_ : Unit) => J59 0) fun J58 => zbr (z24_0 = 0) (J58 ()) (zisO G p0 9 ∧ vX9_names p0 G fun (x4 : Int) => zisO G p1 9 ∧ vX9_names p1 G fun (x6 : Int) => zbr (x4 ≠ x6) (J58 ()) (zisO G p0 9 ∧ vX9_size p0 G fun (x8 : Int) => zisO G p1 9 ∧ vX9_size p1 G fun (x10 : Int) => zbr (40 ≤ w32 (x8 + x10)) (J58 ()) (J59 1)))) fun J24 => zjn (fun (_ : Unit) => J24 1) fun J19 => zbr (x2 = (-1)) (J19 ()) (zisO G p0 9 ∧ vX9_kind p0 G fun (x12 : Int) => zisO G p1 9 ∧ vX9_fits p1 x12 G fun (x14 : Int) => zbr (x14 = 0) (J24 0) (J19 ()))
set_option maxHeartbeats 4000000 in
theorem mX1_canBeEither (l : Launch) (P : ZP) (G : ZG) (p0 : ZR) (p1 : ZR) {Q : Int → Prop} (hV : vX1_canBeEither p0 p1 G Q) : Met l yX1_canBeEither (ws_ yX1_canBeEither cX1_canBeEither 3 (some .boolean)) rX1_canBeEither (zPc P G [zrv P p0, zrv P p1]) (zQz P (fun r G2 => G = G2 ∧ Q r)) 0 0 (zAr P) := by
  refine zMet RX1 (plainFor_of_name (by decide)) rfl (zcs_c (zrv_cat _ _) (zcs_c (zrv_cat _ _) zcs_0)) (Nat.le_of_ble_eq_true rfl) (fun p e s m args below meth c ls hC hr hk hn hG hL => ?_)
  unfold vX1_canBeEither at hV
  refine z_aload_n hC zvr_r rfl (hL.at 0 rfl) dX1_canBeEither_0 ?_
  obtain ⟨hO1, hV⟩ := hV
  refine z_call_i hG (zrunVD hC hG hO1 (mX9_kind l P G p0 hV) kVX1_190 rfl rfl rfl ⟨(Nat.le_of_ble_eq_true rfl), (Nat.le_of_ble_eq_true rfl)⟩ ⟨(Nat.le_of_ble_eq_true rfl), (Nat.le_of_ble_eq_true rfl)⟩ rfl ⟨zcs_0, (Nat.le_of_ble_eq_true rfl)⟩ hL.1.1 dX1_canBeEither_1) ?_
  rintro x2 _ _ _ hx2 ⟨rfl, hV⟩ hG
  refine z_iconst hC dX1_canBeEither_4 ?_
  obtain ⟨J24, eJ24, hV⟩ := zjn_abs hV
  have hJ24 : ∀ {H : Heap} {locs : List Loc}, zS P s G H locs → ∀ (z24_0 : Int), (z24_0 = 0 ∨ z24_0 = 1) → J24 z24_0 → ∀ (ls : Array Slot), zL ls 3 [(0, zrv P p0), (1, zrv P p1)] → W p l e rX1_canBeEither s m args below meth c H locs 0 0 (MQ below (zQz P (fun r G2 => G = G2 ∧ Q r)) args s 0 0 (zAr P)) (F0 m 24 ls [.int (zI z24_0)]) := by
    intro H locs hG z24_0 hz24_0 hV ls hL
    rw [eJ24] at hV
    refine z_istore_n (lv' := [(2, .int (zI z24_0)), (0, zrv P p0), (1, zrv P p1)]) hC rfl hL (by decide) rfl dX1_canBeEither_24 (fun ls hL => ?_)
    refine z_iload_n hC rfl (hL.at 0 rfl) dX1_canBeEither_25 ?_
    obtain ⟨J59, eJ59, hV⟩ := zjn_abs hV
    have hJ59 : ∀ {H : Heap} {locs : List Loc}, zS P s G H locs → ∀ (z59_0 : Int), (z59_0 = 0 ∨ z59_0 = 1) → J59 z59_0 → ∀ (ls : Array Slot), zL ls 3 [] → W p l e rX1_canBeEither s m args below meth c H locs 0 0 (MQ below (zQz P (fun r G2 => G = G2 ∧ Q r)) args s 0 0 (zAr P)) (F0 m 59 ls [.int (zI z59_0)]) := by
      intro H locs hG z59_0 hz59_0 hV ls hL
      rw [eJ59] at hV
      exact z_zret hC hG hr hk hz59_0 ⟨rfl, hV⟩ (Nat.le_of_ble_eq_true rfl) (Nat.le_of_ble_eq_true rfl) dX1_canBeEither_59
    obtain ⟨J58, eJ58, hV⟩ := zjn_abs hV
    have hJ58 : ∀ {H : Heap} {locs : List Loc}, zS P s G H locs → J58 () → ∀ (ls : Array Slot), zL ls 3 [] → W p l e rX1_canBeEither s m args below meth c H locs 0 0 (MQ below (zQz P (fun r G2 => G = G2 ∧ Q r)) args s 0 0 (zAr P)) (F0 m 58 ls []) := by
      intro H locs hG hV ls hL
      rw [eJ58] at hV
      refine z_iconst hC dX1_canBeEither_58 ?_
      exact hJ59 hG 0 (Or.inl rfl) hV _ hL
    refine z_if_eq (tgt := 58) hC (inR_b hz24_0) hV dX1_canBeEither_26 (by decide) ?_ ?_
    · intro hV
      exact hJ58 hG hV _ (hL.sub [] rfl)
    · intro hV
      refine z_aload_n hC zvr_r rfl (hL.at 1 rfl) dX1_canBeEither_29 ?_
      obtain ⟨hO3, hV⟩ := hV
      refine z_call_i hG (zrunVD hC hG hO3 (mX9_names l P G p0 hV) kVX1_174 rfl rfl rfl ⟨(Nat.le_of_ble_eq_true rfl), (Nat.le_of_ble_eq_true rfl)⟩ ⟨(Nat.le_of_ble_eq_true rfl), (Nat.le_of_ble_eq_true rfl)⟩ rfl ⟨zcs_0, (Nat.le_of_ble_eq_true rfl)⟩ hL.1.1 dX1_canBeEither_30) ?_
      rintro x4 _ _ _ hx4 ⟨rfl, hV⟩ hG
      refine z_aload_n hC zvr_r rfl (hL.at 2 rfl) dX1_canBeEither_33 ?_
      obtain ⟨hO5, hV⟩ := hV
      refine z_call_i hG (zrunVD hC hG hO5 (mX9_names l P G p1 hV) kVX1_174 rfl rfl rfl ⟨(Nat.le_of_ble_eq_true rfl), (Nat.le_of_ble_eq_true rfl)⟩ ⟨(Nat.le_of_ble_eq_true rfl), (Nat.le_of_ble_eq_true rfl)⟩ rfl ⟨(zcs_c rfl zcs_0), (Nat.le_of_ble_eq_true rfl)⟩ hL.1.1 dX1_canBeEither_34) ?_
      rintro x6 _ _ _ hx6 ⟨rfl, hV⟩ hG
      refine z_icmp_ne (tgt := 58) hC hx4 hx6 hV dX1_canBeEither_37 (by decide) ?_ ?_
      · intro hV
        exact hJ58 hG hV _ (hL.sub [] rfl)
      · intro hV
        refine z_aload_n hC zvr_r rfl (hL.at 1 rfl) dX1_canBeEither_40 ?_
        obtain ⟨hO7, hV⟩ := hV
        refine z_call_i hG (zrunVD hC hG hO7 (mX9_size l P G p0 hV) kVX1_194 rfl rfl rfl ⟨(Nat.le_of_ble_eq_true rfl), (Nat.le_of_ble_eq_true rfl)⟩ ⟨(Nat.le_of_ble_eq_true rfl), (Nat.le_of_ble_eq_true rfl)⟩ rfl ⟨zcs_0, (Nat.le_of_ble_eq_true rfl)⟩ hL.1.1 dX1_canBeEither_41) ?_
        rintro x8 _ _ _ hx8 ⟨rfl, hV⟩ hG
        refine z_aload_n hC zvr_r rfl (hL.at 2 rfl) dX1_canBeEither_44 ?_
        obtain ⟨hO9, hV⟩ := hV
        refine z_call_i hG (zrunVD hC hG hO9 (mX9_size l P G p1 hV) kVX1_194 rfl rfl rfl ⟨(Nat.le_of_ble_eq_true rfl), (Nat.le_of_ble_eq_true rfl)⟩ ⟨(Nat.le_of_ble_eq_true rfl), (Nat.le_of_ble_eq_true rfl)⟩ rfl ⟨(zcs_c rfl zcs_0), (Nat.le_of_ble_eq_true rfl)⟩ hL.1.1 dX1_canBeEither_45) ?_
        rintro x10 _ _ _ hx10 ⟨rfl, hV⟩ hG
        refine z_iadd hC dX1_canBeEither_48 ?_
        refine z_bipush hC rfl dX1_canBeEither_49 ?_
        refine z_icmp_ge (tgt := 58) hC (inR_w _) (inR_lit rfl) hV dX1_canBeEither_51 (by decide) ?_ ?_
        · intro hV
          exact hJ58 hG hV _ (hL.sub [] rfl)
        · intro hV
          refine z_iconst hC dX1_canBeEither_54 ?_
          refine z_goto (tgt := 59) hC dX1_canBeEither_55 (by decide) ?_
          exact hJ59 hG 1 (Or.inr rfl) hV _ (hL.sub [] rfl)
  obtain ⟨J19, eJ19, hV⟩ := zjn_abs hV
  have hJ19 : ∀ {H : Heap} {locs : List Loc}, zS P s G H locs → J19 () → ∀ (ls : Array Slot), zL ls 3 [(0, zrv P p0), (1, zrv P p1)] → W p l e rX1_canBeEither s m args below meth c H locs 0 0 (MQ below (zQz P (fun r G2 => G = G2 ∧ Q r)) args s 0 0 (zAr P)) (F0 m 19 ls []) := by
    intro H locs hG hV ls hL
    rw [eJ19] at hV
    refine z_iconst hC dX1_canBeEither_19 ?_
    refine z_goto (tgt := 24) hC dX1_canBeEither_20 (by decide) ?_
    exact hJ24 hG 1 (Or.inr rfl) hV _ hL
  refine z_icmp_eq (tgt := 19) hC hx2 (inR_lit rfl) hV dX1_canBeEither_5 (by decide) ?_ ?_
  · intro hV
    exact hJ19 hG hV _ hL
  · intro hV
    refine z_aload_n hC zvr_r rfl (hL.at 1 rfl) dX1_canBeEither_8 ?_
    refine z_aload_n hC zvr_r rfl (hL.at 0 rfl) dX1_canBeEither_9 ?_
    obtain ⟨hO11, hV⟩ := hV
    refine z_call_i hG (zrunVD hC hG hO11 (mX9_kind l P G p0 hV) kVX1_190 rfl rfl rfl ⟨(Nat.le_of_ble_eq_true rfl), (Nat.le_of_ble_eq_true rfl)⟩ ⟨(Nat.le_of_ble_eq_true rfl), (Nat.le_of_ble_eq_true rfl)⟩ rfl ⟨(zcs_c (zrv_cat _ _) zcs_0), (Nat.le_of_ble_eq_true rfl)⟩ hL.1.1 dX1_canBeEither_10) ?_
    rintro x12 _ _ _ hx12 ⟨rfl, hV⟩ hG
    obtain ⟨hO13, hV⟩ := hV
    refine z_call_z hG (zrunVD hC hG hO13 (mX9_fits l P G p1 x12 hx12 hV) kVX1_206 rfl rfl rfl ⟨(Nat.le_of_ble_eq_true rfl), (Nat.le_of_ble_eq_true rfl)⟩ ⟨(Nat.le_of_ble_eq_true rfl), (Nat.le_of_ble_eq_true rfl)⟩ rfl ⟨zcs_0, (Nat.le_of_ble_eq_true rfl)⟩ hL.1.1 dX1_canBeEither_13) ?_
    rintro x14 _ _ _ hx14 ⟨rfl, hV⟩ hG
    refine z_if_eq (tgt := 23) hC (inR_b hx14) hV dX1_canBeEither_16 (by decide) ?_ ?_
    · intro hV
      refine z_iconst hC dX1_canBeEither_23 ?_
      exact hJ24 hG 0 (Or.inl rfl) hV _ hL
    · intro hV
      exact hJ19 hG hV _ hL
abbrev rX1_addEither : Room := { frames := 10, cells := 5, slots := 121, locals := 226 }
def vX1_addEither (p0 : ZR) (p1 : ZR) (G : ZG) (X : Nat → ZG → Prop) (Q : Int → ZG → Prop) : Prop := zisO G p0 9 ∧ vX9_kind p0 G fun (x2 : Int) => zjn (fun (z19_0 : Int) => znw G (.inr (.inr (13, zdf 13))) fun (x3 : ZR) (G1 : ZG) => zisO G1 p0 9 ∧ vX9_pattern p0 G1 fun (x5 : ZR) => zisO G1 p1 9 ∧ vX9_pattern p1 G1 fun (x7 : ZR) => znn x3 ∧ vX13_init x3 x5 x7 G1 fun (G2 : ZG) => zisO G2 p0 9 ∧ vX9_names p0 G2 fun (x10 : Int) => zisO G2 p0 9 ∧ vX9_depth p0 G2 fun (x12 : Int) => zisO G2 p1 9 ∧ vX9_depth p1 G2 fun (x14 : Int) => vJ4_max x12 x14 fun (x15 : Int) => zisO G2 p0 9 ∧ vX9_size p0 G2 fun (x17 : Int) => zisO G2 p1 9 ∧ vX9_size p1 G2 fun (x19 : Int) => zisO G2 p0 9 ∧ vX9_isPure p0 G2 fun (x21 : Int) => zjn (fun (z82_6 : Int) => zisO G2 p0 9 ∧ vX9_isForNumbers p0 G2 fun (x23 : Int) => zjn (fun (z101_7 : Int) => vX1_addPattern x3 z19_0 x10 x15 (w32 ((w32 (x17 + x19)) + 1)) z82_6 z101_7 G2 X fun (x24 : Int) (G3 : ZG) => Q x24 G3) fun J101 => zjn (fun (_ : Unit) => J101 0) fun J100 => zbr (x23 = 0) (J100 ()) (zisO G2 p1 9 ∧ vX9_isForNumbers p1 G2 fun (x26 : Int) => zbr (x26 = 0) (J100 ()) (J101 1))) fun J82 => zjn (fun (_ : Unit) => J82 0) fun J81 => zbr (x21 = 0) (J81 ()) (zisO G2 p1 9 ∧ vX9_isPure p1 G2 fun (x28 : Int) => zbr (x28 = 0) (J81 ()) (J82 1))) fun J19 => zbr (x2 ≠ (-1)) (zisO G p0 9 ∧ vX9_kind p0 G fun (x30 : Int) => J19 x30) (zisO G p1 9 ∧ vX9_kind p1 G fun (x32 : Int) => J19 x32)
set_option maxHeartbeats 4000000 in
theorem mX1_addEither (l : Launch) (P : ZP) (G : ZG) (p0 : ZR) (p1 : ZR) {X : Nat → ZG → Prop} {Q : Int → ZG → Prop} (hst : l.stackTraces = false) (hV : vX1_addEither p0 p1 G X Q) : vx_Met l yX1_addEither (ws_ yX1_addEither cX1_addEither 4 (some .int)) rX1_addEither (zPc P G [.ref (zA P 0 0 0), zrv P p0, zrv P p1]) (zQi P Q) (zXc P X) 5 121 (zAr P) := by
  refine zMetX (own := RX1) rfl (by decide) (zcs_c rfl (zcs_c (zrv_cat _ _) (zcs_c (zrv_cat _ _) zcs_0))) (Nat.le_of_ble_eq_true rfl) (fun p e s m args below meth c ls hC hr hk hn hnt hG hL => ?_)
  unfold vX1_addEither at hV
  refine z_aload_n hC zvr_r rfl (hL.at 1 rfl) dX1_addEither_0 ?_
  obtain ⟨hO1, hV⟩ := hV
  refine z_call_i hG (zrunVD hC hG hO1 (mX9_kind l P G p0 hV) kVX1_190 rfl rfl rfl ⟨(Nat.le_of_ble_eq_true rfl), (Nat.le_of_ble_eq_true rfl)⟩ ⟨(Nat.le_of_ble_eq_true rfl), (Nat.le_of_ble_eq_true rfl)⟩ rfl ⟨zcs_0, (Nat.le_of_ble_eq_true rfl)⟩ hL.1.1 dX1_addEither_1) ?_
  rintro x2 _ _ _ hx2 ⟨rfl, hV⟩ hG
  refine z_iconst hC dX1_addEither_4 ?_
  obtain ⟨J19, eJ19, hV⟩ := zjn_abs hV
  have hJ19 : ∀ {H : Heap} {locs : List Loc}, zS P s G H locs → ∀ (z19_0 : Int), inR z19_0 → J19 z19_0 → ∀ (ls : Array Slot), zL ls 4 [(0, .ref (zA P 0 0 0)), (1, zrv P p0), (2, zrv P p1)] → W p l e rX1_addEither s m args below meth c H locs 0 0 (vx_MQ below (zQi P Q) (zXc P X) args s 5 121 (zAr P)) (F0 m 19 ls [.int (zI z19_0)]) := by
    intro H locs hG z19_0 hz19_0 hV ls hL
    rw [eJ19] at hV
    refine z_istore_n (lv' := [(3, .int (zI z19_0)), (0, .ref (zA P 0 0 0)), (1, zrv P p0), (2, zrv P p1)]) hC rfl hL (by decide) rfl dX1_addEither_19 (fun ls hL => ?_)
    refine z_aload_n hC zvr_a rfl (hL.at 1 rfl) dX1_addEither_20 ?_
    refine z_new (ci := 13) (n := 2) hC hG (Nat.le_of_ble_eq_true rfl) (Nat.le_of_ble_eq_true rfl) rfl q884 q885 q126 hV (Nat.le_of_ble_eq_true rfl) (Nat.le_of_ble_eq_true rfl) dX1_addEither_21 ?_
    intro x3 G1 _ hG hV
    refine z_dup hC (zrv_cat _ _) dX1_addEither_24 ?_
    refine z_aload_n hC zvr_r rfl (hL.at 2 rfl) dX1_addEither_25 ?_
    obtain ⟨hO4, hV⟩ := hV
    refine z_call_r hG (zrunVD hC hG hO4 (mX9_pattern l P G1 p0 hV) kVX1_183 rfl rfl rfl ⟨(Nat.le_of_ble_eq_true rfl), (Nat.le_of_ble_eq_true rfl)⟩ ⟨(Nat.le_of_ble_eq_true rfl), (Nat.le_of_ble_eq_true rfl)⟩ rfl ⟨(zcs_c (zrv_cat _ _) (zcs_c (zrv_cat _ _) (zcs_c rfl zcs_0))), (Nat.le_of_ble_eq_true rfl)⟩ hL.1.1 dX1_addEither_26) ?_
    rintro x5 _ _ _  ⟨rfl, hV⟩ hG
    refine z_aload_n hC zvr_r rfl (hL.at 3 rfl) dX1_addEither_29 ?_
    obtain ⟨hO6, hV⟩ := hV
    refine z_call_r hG (zrunVD hC hG hO6 (mX9_pattern l P G1 p1 hV) kVX1_183 rfl rfl rfl ⟨(Nat.le_of_ble_eq_true rfl), (Nat.le_of_ble_eq_true rfl)⟩ ⟨(Nat.le_of_ble_eq_true rfl), (Nat.le_of_ble_eq_true rfl)⟩ rfl ⟨(zcs_c (zrv_cat _ _) (zcs_c (zrv_cat _ _) (zcs_c (zrv_cat _ _) (zcs_c rfl zcs_0)))), (Nat.le_of_ble_eq_true rfl)⟩ hL.1.1 dX1_addEither_30) ?_
    rintro x7 _ _ _  ⟨rfl, hV⟩ hG
    obtain ⟨hO8, hV⟩ := hV
    refine z_call_v hG (zrunIN hC hG hO8 (mX13_init l P G1 x3 x5 x7 hV) kIX1_230 rfl rfl rfl ⟨(Nat.le_of_ble_eq_true rfl), (Nat.le_of_ble_eq_true rfl)⟩ ⟨(Nat.le_of_ble_eq_true rfl), (Nat.le_of_ble_eq_true rfl)⟩ rfl ⟨(zcs_c (zrv_cat _ _) (zcs_c rfl zcs_0)), (Nat.le_of_ble_eq_true rfl)⟩ hL.1.1 dX1_addEither_33) ?_
    rintro G2 _ _ hV hG
    refine z_iload_n hC rfl (hL.at 0 rfl) dX1_addEither_36 ?_
    refine z_aload_n hC zvr_r rfl (hL.at 2 rfl) dX1_addEither_37 ?_
    obtain ⟨hO9, hV⟩ := hV
    refine z_call_i hG (zrunVD hC hG hO9 (mX9_names l P G2 p0 hV) kVX1_174 rfl rfl rfl ⟨(Nat.le_of_ble_eq_true rfl), (Nat.le_of_ble_eq_true rfl)⟩ ⟨(Nat.le_of_ble_eq_true rfl), (Nat.le_of_ble_eq_true rfl)⟩ rfl ⟨(zcs_c rfl (zcs_c (zrv_cat _ _) (zcs_c rfl zcs_0))), (Nat.le_of_ble_eq_true rfl)⟩ hL.1.1 dX1_addEither_38) ?_
    rintro x10 _ _ _ hx10 ⟨rfl, hV⟩ hG
    refine z_aload_n hC zvr_r rfl (hL.at 2 rfl) dX1_addEither_41 ?_
    obtain ⟨hO11, hV⟩ := hV
    refine z_call_i hG (zrunVD hC hG hO11 (mX9_depth l P G2 p0 hV) kVX1_191 rfl rfl rfl ⟨(Nat.le_of_ble_eq_true rfl), (Nat.le_of_ble_eq_true rfl)⟩ ⟨(Nat.le_of_ble_eq_true rfl), (Nat.le_of_ble_eq_true rfl)⟩ rfl ⟨(zcs_c rfl (zcs_c rfl (zcs_c (zrv_cat _ _) (zcs_c rfl zcs_0)))), (Nat.le_of_ble_eq_true rfl)⟩ hL.1.1 dX1_addEither_42) ?_
    rintro x12 _ _ _ hx12 ⟨rfl, hV⟩ hG
    refine z_aload_n hC zvr_r rfl (hL.at 3 rfl) dX1_addEither_45 ?_
    obtain ⟨hO13, hV⟩ := hV
    refine z_call_i hG (zrunVD hC hG hO13 (mX9_depth l P G2 p1 hV) kVX1_191 rfl rfl rfl ⟨(Nat.le_of_ble_eq_true rfl), (Nat.le_of_ble_eq_true rfl)⟩ ⟨(Nat.le_of_ble_eq_true rfl), (Nat.le_of_ble_eq_true rfl)⟩ rfl ⟨(zcs_c rfl (zcs_c rfl (zcs_c rfl (zcs_c (zrv_cat _ _) (zcs_c rfl zcs_0))))), (Nat.le_of_ble_eq_true rfl)⟩ hL.1.1 dX1_addEither_46) ?_
    rintro x14 _ _ _ hx14 ⟨rfl, hV⟩ hG
    refine z_call_i hG (zrunS hC hG (mJ4_max l P G2 x12 hx12 x14 hx14 hV) kSX1_209 rfl rfl rfl ⟨(Nat.le_of_ble_eq_true rfl), (Nat.le_of_ble_eq_true rfl)⟩ ⟨(Nat.le_of_ble_eq_true rfl), (Nat.le_of_ble_eq_true rfl)⟩ rfl ⟨(zcs_c rfl (zcs_c rfl (zcs_c (zrv_cat _ _) (zcs_c rfl zcs_0)))), (Nat.le_of_ble_eq_true rfl)⟩ hL.1.1 dX1_addEither_49) ?_
    rintro x15 _ _ _ hx15 ⟨rfl, hV⟩ hG
    refine z_aload_n hC zvr_r rfl (hL.at 2 rfl) dX1_addEither_52 ?_
    obtain ⟨hO16, hV⟩ := hV
    refine z_call_i hG (zrunVD hC hG hO16 (mX9_size l P G2 p0 hV) kVX1_194 rfl rfl rfl ⟨(Nat.le_of_ble_eq_true rfl), (Nat.le_of_ble_eq_true rfl)⟩ ⟨(Nat.le_of_ble_eq_true rfl), (Nat.le_of_ble_eq_true rfl)⟩ rfl ⟨(zcs_c rfl (zcs_c rfl (zcs_c rfl (zcs_c (zrv_cat _ _) (zcs_c rfl zcs_0))))), (Nat.le_of_ble_eq_true rfl)⟩ hL.1.1 dX1_addEither_53) ?_
    rintro x17 _ _ _ hx17 ⟨rfl, hV⟩ hG
    refine z_aload_n hC zvr_r rfl (hL.at 3 rfl) dX1_addEither_56 ?_
    obtain ⟨hO18, hV⟩ := hV
    refine z_call_i hG (zrunVD hC hG hO18 (mX9_size l P G2 p1 hV) kVX1_194 rfl rfl rfl ⟨(Nat.le_of_ble_eq_true rfl), (Nat.le_of_ble_eq_true rfl)⟩ ⟨(Nat.le_of_ble_eq_true rfl), (Nat.le_of_ble_eq_true rfl)⟩ rfl ⟨(zcs_c rfl (zcs_c rfl (zcs_c rfl (zcs_c rfl (zcs_c (zrv_cat _ _) (zcs_c rfl zcs_0)))))), (Nat.le_of_ble_eq_true rfl)⟩ hL.1.1 dX1_addEither_57) ?_
    rintro x19 _ _ _ hx19 ⟨rfl, hV⟩ hG
    refine z_iadd hC dX1_addEither_60 ?_
    refine z_iconst hC dX1_addEither_61 ?_
    refine z_iadd hC dX1_addEither_62 ?_
    refine z_aload_n hC zvr_r rfl (hL.at 2 rfl) dX1_addEither_63 ?_
    obtain ⟨hO20, hV⟩ := hV
    refine z_call_z hG (zrunVD hC hG hO20 (mX9_isPure l P G2 p0 hV) kVX1_195 rfl rfl rfl ⟨(Nat.le_of_ble_eq_true rfl), (Nat.le_of_ble_eq_true rfl)⟩ ⟨(Nat.le_of_ble_eq_true rfl), (Nat.le_of_ble_eq_true rfl)⟩ rfl ⟨(zcs_c rfl (zcs_c rfl (zcs_c rfl (zcs_c rfl (zcs_c (zrv_cat _ _) (zcs_c rfl zcs_0)))))), (Nat.le_of_ble_eq_true rfl)⟩ hL.1.1 dX1_addEither_64) ?_
    rintro x21 _ _ _ hx21 ⟨rfl, hV⟩ hG
    obtain ⟨J82, eJ82, hV⟩ := zjn_abs hV
    have hJ82 : ∀ {H : Heap} {locs : List Loc}, zS P s G2 H locs → ∀ (z82_6 : Int), (z82_6 = 0 ∨ z82_6 = 1) → J82 z82_6 → ∀ (ls : Array Slot), zL ls 4 [(1, zrv P p0), (2, zrv P p1)] → W p l e rX1_addEither s m args below meth c H locs 1 2 (vx_MQ below (zQi P Q) (zXc P X) args s 5 121 (zAr P)) (F0 m 82 ls [.int (zI z82_6), .int (zI (w32 ((w32 (x17 + x19)) + 1))), .int (zI x15), .int (zI x10), .int (zI z19_0), zrv P x3, .ref (zA P 0 0 0)]) := by
      intro H locs hG z82_6 hz82_6 hV ls hL
      rw [eJ82] at hV
      refine z_aload_n hC zvr_r rfl (hL.at 0 rfl) dX1_addEither_82 ?_
      obtain ⟨hO22, hV⟩ := hV
      refine z_call_z hG (zrunVD hC hG hO22 (mX9_isForNumbers l P G2 p0 hV) kVX1_233 rfl rfl rfl ⟨(Nat.le_of_ble_eq_true rfl), (Nat.le_of_ble_eq_true rfl)⟩ ⟨(Nat.le_of_ble_eq_true rfl), (Nat.le_of_ble_eq_true rfl)⟩ rfl ⟨(zcs_c rfl (zcs_c rfl (zcs_c rfl (zcs_c rfl (zcs_c rfl (zcs_c (zrv_cat _ _) (zcs_c rfl zcs_0))))))), (Nat.le_of_ble_eq_true rfl)⟩ hL.1.1 dX1_addEither_83) ?_
      rintro x23 _ _ _ hx23 ⟨rfl, hV⟩ hG
      obtain ⟨J101, eJ101, hV⟩ := zjn_abs hV
      have hJ101 : ∀ {H : Heap} {locs : List Loc}, zS P s G2 H locs → ∀ (z101_7 : Int), (z101_7 = 0 ∨ z101_7 = 1) → J101 z101_7 → ∀ (ls : Array Slot), zL ls 4 [] → W p l e rX1_addEither s m args below meth c H locs 1 2 (vx_MQ below (zQi P Q) (zXc P X) args s 5 121 (zAr P)) (F0 m 101 ls [.int (zI z101_7), .int (zI z82_6), .int (zI (w32 ((w32 (x17 + x19)) + 1))), .int (zI x15), .int (zI x10), .int (zI z19_0), zrv P x3, .ref (zA P 0 0 0)]) := by
        intro H locs hG z101_7 hz101_7 hV ls hL
        rw [eJ101] at hV
        refine z_xcall_i hG hnt hk (zrunVX (ci := 1) hC hG (Nat.le_of_ble_eq_true rfl) (Nat.le_of_ble_eq_true rfl) (zobj hG rfl (Nat.le_of_ble_eq_true rfl) (Nat.le_of_ble_eq_true rfl)) (mX1_addPattern l P G2 x3 z19_0 hz19_0 x10 hx10 x15 hx15 (w32 ((w32 (x17 + x19)) + 1)) (inR_w _) z82_6 hz82_6 z101_7 hz101_7 hst hV) kVX1_162 rfl rfl rfl ⟨(Nat.le_of_ble_eq_true rfl), (Nat.le_of_ble_eq_true rfl)⟩ ⟨(Nat.le_of_ble_eq_true rfl), (Nat.le_of_ble_eq_true rfl)⟩ rfl ⟨zcs_0, (Nat.le_of_ble_eq_true rfl)⟩ hL.1.1 dX1_addEither_101) (Nat.le_of_ble_eq_true rfl) (Nat.le_of_ble_eq_true rfl) ?_
        rintro x24 G3 _ _ hx24 hV hG
        exact vx_ret (z_iret hC hG hr hk hx24 hV (Nat.le_of_ble_eq_true rfl) (Nat.le_of_ble_eq_true rfl) dX1_addEither_104)
      obtain ⟨J100, eJ100, hV⟩ := zjn_abs hV
      have hJ100 : ∀ {H : Heap} {locs : List Loc}, zS P s G2 H locs → J100 () → ∀ (ls : Array Slot), zL ls 4 [] → W p l e rX1_addEither s m args below meth c H locs 1 2 (vx_MQ below (zQi P Q) (zXc P X) args s 5 121 (zAr P)) (F0 m 100 ls [.int (zI z82_6), .int (zI (w32 ((w32 (x17 + x19)) + 1))), .int (zI x15), .int (zI x10), .int (zI z19_0), zrv P x3, .ref (zA P 0 0 0)]) := by
        intro H locs hG hV ls hL
        rw [eJ100] at hV
        refine z_iconst hC dX1_addEither_100 ?_
        exact hJ101 hG 0 (Or.inl rfl) hV _ hL
      refine z_if_eq (tgt := 100) hC (inR_b hx23) hV dX1_addEither_86 (by decide) ?_ ?_
      · intro hV
        exact hJ100 hG hV _ (hL.sub [] rfl)
      · intro hV
        refine z_aload_n hC zvr_r rfl (hL.at 1 rfl) dX1_addEither_89 ?_
        obtain ⟨hO25, hV⟩ := hV
        refine z_call_z hG (zrunVD hC hG hO25 (mX9_isForNumbers l P G2 p1 hV) kVX1_233 rfl rfl rfl ⟨(Nat.le_of_ble_eq_true rfl), (Nat.le_of_ble_eq_true rfl)⟩ ⟨(Nat.le_of_ble_eq_true rfl), (Nat.le_of_ble_eq_true rfl)⟩ rfl ⟨(zcs_c rfl (zcs_c rfl (zcs_c rfl (zcs_c rfl (zcs_c rfl (zcs_c (zrv_cat _ _) (zcs_c rfl zcs_0))))))), (Nat.le_of_ble_eq_true rfl)⟩ hL.1.1 dX1_addEither_90) ?_
        rintro x26 _ _ _ hx26 ⟨rfl, hV⟩ hG
        refine z_if_eq (tgt := 100) hC (inR_b hx26) hV dX1_addEither_93 (by decide) ?_ ?_
        · intro hV
          exact hJ100 hG hV _ (hL.sub [] rfl)
        · intro hV
          refine z_iconst hC dX1_addEither_96 ?_
          refine z_goto (tgt := 101) hC dX1_addEither_97 (by decide) ?_
          exact hJ101 hG 1 (Or.inr rfl) hV _ (hL.sub [] rfl)
    obtain ⟨J81, eJ81, hV⟩ := zjn_abs hV
    have hJ81 : ∀ {H : Heap} {locs : List Loc}, zS P s G2 H locs → J81 () → ∀ (ls : Array Slot), zL ls 4 [(1, zrv P p0), (2, zrv P p1)] → W p l e rX1_addEither s m args below meth c H locs 1 2 (vx_MQ below (zQi P Q) (zXc P X) args s 5 121 (zAr P)) (F0 m 81 ls [.int (zI (w32 ((w32 (x17 + x19)) + 1))), .int (zI x15), .int (zI x10), .int (zI z19_0), zrv P x3, .ref (zA P 0 0 0)]) := by
      intro H locs hG hV ls hL
      rw [eJ81] at hV
      refine z_iconst hC dX1_addEither_81 ?_
      exact hJ82 hG 0 (Or.inl rfl) hV _ hL
    refine z_if_eq (tgt := 81) hC (inR_b hx21) hV dX1_addEither_67 (by decide) ?_ ?_
    · intro hV
      exact hJ81 hG hV _ (hL.sub [2, 3] rfl)
    · intro hV
      refine z_aload_n hC zvr_r rfl (hL.at 3 rfl) dX1_addEither_70 ?_
      obtain ⟨hO27, hV⟩ := hV
      refine z_call_z hG (zrunVD hC hG hO27 (mX9_isPure l P G2 p1 hV) kVX1_195 rfl rfl rfl ⟨(Nat.le_of_ble_eq_true rfl), (Nat.le_of_ble_eq_true rfl)⟩ ⟨(Nat.le_of_ble_eq_true rfl), (Nat.le_of_ble_eq_true rfl)⟩ rfl ⟨(zcs_c rfl (zcs_c rfl (zcs_c rfl (zcs_c rfl (zcs_c (zrv_cat _ _) (zcs_c rfl zcs_0)))))), (Nat.le_of_ble_eq_true rfl)⟩ hL.1.1 dX1_addEither_71) ?_
      rintro x28 _ _ _ hx28 ⟨rfl, hV⟩ hG
      refine z_if_eq (tgt := 81) hC (inR_b hx28) hV dX1_addEither_74 (by decide) ?_ ?_
      · intro hV
        exact hJ81 hG hV _ (hL.sub [2, 3] rfl)
      · intro hV
        refine z_iconst hC dX1_addEither_77 ?_
        refine z_goto (tgt := 82) hC dX1_addEither_78 (by decide) ?_
        exact hJ82 hG 1 (Or.inr rfl) hV _ (hL.sub [2, 3] rfl)
  refine z_icmp_ne (tgt := 15) hC hx2 (inR_lit rfl) hV dX1_addEither_5 (by decide) ?_ ?_
  · intro hV
    refine z_aload_n hC zvr_r rfl (hL.at 1 rfl) dX1_addEither_15 ?_
    obtain ⟨hO29, hV⟩ := hV
    refine z_call_i hG (zrunVD hC hG hO29 (mX9_kind l P G p0 hV) kVX1_190 rfl rfl rfl ⟨(Nat.le_of_ble_eq_true rfl), (Nat.le_of_ble_eq_true rfl)⟩ ⟨(Nat.le_of_ble_eq_true rfl), (Nat.le_of_ble_eq_true rfl)⟩ rfl ⟨zcs_0, (Nat.le_of_ble_eq_true rfl)⟩ hL.1.1 dX1_addEither_16) ?_
    rintro x30 _ _ _ hx30 ⟨rfl, hV⟩ hG
    exact hJ19 hG x30 hx30 hV _ hL
  · intro hV
    refine z_aload_n hC zvr_r rfl (hL.at 2 rfl) dX1_addEither_8 ?_
    obtain ⟨hO31, hV⟩ := hV
    refine z_call_i hG (zrunVD hC hG hO31 (mX9_kind l P G p1 hV) kVX1_190 rfl rfl rfl ⟨(Nat.le_of_ble_eq_true rfl), (Nat.le_of_ble_eq_true rfl)⟩ ⟨(Nat.le_of_ble_eq_true rfl), (Nat.le_of_ble_eq_true rfl)⟩ rfl ⟨zcs_0, (Nat.le_of_ble_eq_true rfl)⟩ hL.1.1 dX1_addEither_9) ?_
    rintro x32 _ _ _ hx32 ⟨rfl, hV⟩ hG
    refine z_goto (tgt := 19) hC dX1_addEither_12 (by decide) ?_
    exact hJ19 hG x32 hx32 hV _ hL
abbrev rX1_either : Room := { frames := 11, cells := 8, slots := 139, locals := 249 }
def vX1_either (p0 : Int) (p1 : Int) (G : ZG) (X : Nat → ZG → Prop) (Q : Int → ZG → Prop) : Prop := vX1_requirePattern p0 G X fun (_ : Unit) => vX1_requirePattern p1 G X fun (_ : Unit) => vX1_told p0 G fun (x1 : ZR) => vX1_told p1 G fun (x2 : ZR) => vX1_canBeEither x1 x2 G fun (x3 : Int) => vX1_requireArgument x3 G X fun (_ : Unit) => vX1_told p0 G fun (x4 : ZR) => vX1_told p1 G fun (x5 : ZR) => vX1_addEither x4 x5 G X fun (x6 : Int) (G1 : ZG) => Q x6 G1
set_option maxHeartbeats 4000000 in
theorem mX1_either (l : Launch) (P : ZP) (G : ZG) (p0 : Int) (hp0 : inR p0) (p1 : Int) (hp1 : inR p1) {X : Nat → ZG → Prop} {Q : Int → ZG → Prop} (hst : l.stackTraces = false) (hV : vX1_either p0 p1 G X Q) : vx_Met l yX1_either (ws_ yX1_either cX1_either 3 (some .int)) rX1_either (zPc P G [.ref (zA P 0 0 0), .int (zI p0), .int (zI p1)]) (zQi P Q) (zXc P X) 8 139 (zAr P) := by
  refine zMetX (own := RX1) rfl (by decide) (zcs_c rfl (zcs_c rfl (zcs_c rfl zcs_0))) (Nat.le_of_ble_eq_true rfl) (fun p e s m args below meth c ls hC hr hk hn hnt hG hL => ?_)
  unfold vX1_either at hV
  refine z_aload_n hC zvr_a rfl (hL.at 0 rfl) dX1_either_0 ?_
  refine z_iload_n hC rfl (hL.at 1 rfl) dX1_either_1 ?_
  refine z_xcall_v hG hnt hk (zrunVX (ci := 1) hC hG (Nat.le_of_ble_eq_true rfl) (Nat.le_of_ble_eq_true rfl) (zobj hG rfl (Nat.le_of_ble_eq_true rfl) (Nat.le_of_ble_eq_true rfl)) (mX1_requirePattern l P G p0 hp0 hst hV) kVX1_166 rfl rfl rfl ⟨(Nat.le_of_ble_eq_true rfl), (Nat.le_of_ble_eq_true rfl)⟩ ⟨(Nat.le_of_ble_eq_true rfl), (Nat.le_of_ble_eq_true rfl)⟩ rfl ⟨zcs_0, (Nat.le_of_ble_eq_true rfl)⟩ hL.1.1 dX1_either_2) (Nat.le_of_ble_eq_true rfl) (Nat.le_of_ble_eq_true rfl) ?_
  rintro _ _ _ ⟨rfl, hV⟩ hG
  refine z_aload_n hC zvr_a rfl (hL.at 0 rfl) dX1_either_5 ?_
  refine z_iload_n hC rfl (hL.at 2 rfl) dX1_either_6 ?_
  refine z_xcall_v hG hnt hk (zrunVX (ci := 1) hC hG (Nat.le_of_ble_eq_true rfl) (Nat.le_of_ble_eq_true rfl) (zobj hG rfl (Nat.le_of_ble_eq_true rfl) (Nat.le_of_ble_eq_true rfl)) (mX1_requirePattern l P G p1 hp1 hst hV) kVX1_166 rfl rfl rfl ⟨(Nat.le_of_ble_eq_true rfl), (Nat.le_of_ble_eq_true rfl)⟩ ⟨(Nat.le_of_ble_eq_true rfl), (Nat.le_of_ble_eq_true rfl)⟩ rfl ⟨zcs_0, (Nat.le_of_ble_eq_true rfl)⟩ hL.1.1 dX1_either_7) (Nat.le_of_ble_eq_true rfl) (Nat.le_of_ble_eq_true rfl) ?_
  rintro _ _ _ ⟨rfl, hV⟩ hG
  refine z_aload_n hC zvr_a rfl (hL.at 0 rfl) dX1_either_10 ?_
  refine z_iload_n hC rfl (hL.at 1 rfl) dX1_either_11 ?_
  refine z_call_r hG (zrunV (ci := 1) hC hG (Nat.le_of_ble_eq_true rfl) (Nat.le_of_ble_eq_true rfl) (zobj hG rfl (Nat.le_of_ble_eq_true rfl) (Nat.le_of_ble_eq_true rfl)) (mX1_told l P G p0 hp0 hV) kVX1_170 rfl rfl rfl ⟨(Nat.le_of_ble_eq_true rfl), (Nat.le_of_ble_eq_true rfl)⟩ ⟨(Nat.le_of_ble_eq_true rfl), (Nat.le_of_ble_eq_true rfl)⟩ rfl ⟨zcs_0, (Nat.le_of_ble_eq_true rfl)⟩ hL.1.1 dX1_either_12) ?_
  rintro x1 _ _ _  ⟨rfl, hV⟩ hG
  refine z_aload_n hC zvr_a rfl (hL.at 0 rfl) dX1_either_15 ?_
  refine z_iload_n hC rfl (hL.at 2 rfl) dX1_either_16 ?_
  refine z_call_r hG (zrunV (ci := 1) hC hG (Nat.le_of_ble_eq_true rfl) (Nat.le_of_ble_eq_true rfl) (zobj hG rfl (Nat.le_of_ble_eq_true rfl) (Nat.le_of_ble_eq_true rfl)) (mX1_told l P G p1 hp1 hV) kVX1_170 rfl rfl rfl ⟨(Nat.le_of_ble_eq_true rfl), (Nat.le_of_ble_eq_true rfl)⟩ ⟨(Nat.le_of_ble_eq_true rfl), (Nat.le_of_ble_eq_true rfl)⟩ rfl ⟨(zcs_c (zrv_cat _ _) zcs_0), (Nat.le_of_ble_eq_true rfl)⟩ hL.1.1 dX1_either_17) ?_
  rintro x2 _ _ _  ⟨rfl, hV⟩ hG
  refine z_call_z hG (zrunS hC hG (mX1_canBeEither l P G x1 x2 hV) kSX1_236 rfl rfl rfl ⟨(Nat.le_of_ble_eq_true rfl), (Nat.le_of_ble_eq_true rfl)⟩ ⟨(Nat.le_of_ble_eq_true rfl), (Nat.le_of_ble_eq_true rfl)⟩ rfl ⟨zcs_0, (Nat.le_of_ble_eq_true rfl)⟩ hL.1.1 dX1_either_20) ?_
  rintro x3 _ _ _ hx3 ⟨rfl, hV⟩ hG
  refine z_xcall_v hG hnt hk (zrunSX hC hG (mX1_requireArgument l P G x3 hx3 hst hV) kSX1_117 rfl rfl rfl ⟨(Nat.le_of_ble_eq_true rfl), (Nat.le_of_ble_eq_true rfl)⟩ ⟨(Nat.le_of_ble_eq_true rfl), (Nat.le_of_ble_eq_true rfl)⟩ rfl ⟨zcs_0, (Nat.le_of_ble_eq_true rfl)⟩ hL.1.1 dX1_either_23) (Nat.le_of_ble_eq_true rfl) (Nat.le_of_ble_eq_true rfl) ?_
  rintro _ _ _ ⟨rfl, hV⟩ hG
  refine z_aload_n hC zvr_a rfl (hL.at 0 rfl) dX1_either_26 ?_
  refine z_aload_n hC zvr_a rfl (hL.at 0 rfl) dX1_either_27 ?_
  refine z_iload_n hC rfl (hL.at 1 rfl) dX1_either_28 ?_
  refine z_call_r hG (zrunV (ci := 1) hC hG (Nat.le_of_ble_eq_true rfl) (Nat.le_of_ble_eq_true rfl) (zobj hG rfl (Nat.le_of_ble_eq_true rfl) (Nat.le_of_ble_eq_true rfl)) (mX1_told l P G p0 hp0 hV) kVX1_170 rfl rfl rfl ⟨(Nat.le_of_ble_eq_true rfl), (Nat.le_of_ble_eq_true rfl)⟩ ⟨(Nat.le_of_ble_eq_true rfl), (Nat.le_of_ble_eq_true rfl)⟩ rfl ⟨(zcs_c rfl zcs_0), (Nat.le_of_ble_eq_true rfl)⟩ hL.1.1 dX1_either_29) ?_
  rintro x4 _ _ _  ⟨rfl, hV⟩ hG
  refine z_aload_n hC zvr_a rfl (hL.at 0 rfl) dX1_either_32 ?_
  refine z_iload_n hC rfl (hL.at 2 rfl) dX1_either_33 ?_
  refine z_call_r hG (zrunV (ci := 1) hC hG (Nat.le_of_ble_eq_true rfl) (Nat.le_of_ble_eq_true rfl) (zobj hG rfl (Nat.le_of_ble_eq_true rfl) (Nat.le_of_ble_eq_true rfl)) (mX1_told l P G p1 hp1 hV) kVX1_170 rfl rfl rfl ⟨(Nat.le_of_ble_eq_true rfl), (Nat.le_of_ble_eq_true rfl)⟩ ⟨(Nat.le_of_ble_eq_true rfl), (Nat.le_of_ble_eq_true rfl)⟩ rfl ⟨(zcs_c (zrv_cat _ _) (zcs_c rfl zcs_0)), (Nat.le_of_ble_eq_true rfl)⟩ hL.1.1 dX1_either_34) ?_
  rintro x5 _ _ _  ⟨rfl, hV⟩ hG
  refine z_xcall_i hG hnt hk (zrunVX (ci := 1) hC hG (Nat.le_of_ble_eq_true rfl) (Nat.le_of_ble_eq_true rfl) (zobj hG rfl (Nat.le_of_ble_eq_true rfl) (Nat.le_of_ble_eq_true rfl)) (mX1_addEither l P G x4 x5 hst hV) kVX1_240 rfl rfl rfl ⟨(Nat.le_of_ble_eq_true rfl), (Nat.le_of_ble_eq_true rfl)⟩ ⟨(Nat.le_of_ble_eq_true rfl), (Nat.le_of_ble_eq_true rfl)⟩ rfl ⟨zcs_0, (Nat.le_of_ble_eq_true rfl)⟩ hL.1.1 dX1_either_37) (Nat.le_of_ble_eq_true rfl) (Nat.le_of_ble_eq_true rfl) ?_
  rintro x6 G1 _ _ hx6 hV hG
  exact vx_ret (z_iret hC hG hr hk hx6 hV (Nat.le_of_ble_eq_true rfl) (Nat.le_of_ble_eq_true rfl) dX1_either_40)
abbrev rX1_view : Room := { frames := 10, cells := 8, slots := 139, locals := 226 }
def vX1_view (p0 : Int) (p1 : Int) (G : ZG) (X : Nat → ZG → Prop) (Q : Int → ZG → Prop) : Prop := vX1_inRange p0 0 2 fun (x1 : Int) => vX1_requireIndex x1 G X fun (_ : Unit) => vX1_requirePattern p1 G X fun (_ : Unit) => vX1_told p1 G fun (x2 : ZR) => zisO G x2 9 ∧ vX9_isForNumbers x2 G fun (x4 : Int) => vX1_requireArgument x4 G X fun (_ : Unit) => znw G (.inr (.inr (14, zdf 14))) fun (x5 : ZR) (G1 : ZG) => zisO G1 x2 9 ∧ vX9_pattern x2 G1 fun (x7 : ZR) => znn x5 ∧ vX14_init x5 p0 x7 G1 fun (G2 : ZG) => zisO G2 x2 9 ∧ vX9_depth x2 G2 fun (x10 : Int) => zisO G2 x2 9 ∧ vX9_size x2 G2 fun (x12 : Int) => vX1_addPattern x5 (-1) 0 x10 (w32 (x12 + 1)) 0 0 G2 X fun (x13 : Int) (G3 : ZG) => Q x13 G3
set_option maxHeartbeats 4000000 in
theorem mX1_view (l : Launch) (P : ZP) (G : ZG) (p0 : Int) (hp0 : inR p0) (p1 : Int) (hp1 : inR p1) {X : Nat → ZG → Prop} {Q : Int → ZG → Prop} (hst : l.stackTraces = false) (hV : vX1_view p0 p1 G X Q) : vx_Met l yX1_view (ws_ yX1_view cX1_view 4 (some .int)) rX1_view (zPc P G [.ref (zA P 0 0 0), .int (zI p0), .int (zI p1)]) (zQi P Q) (zXc P X) 8 139 (zAr P) := by
  refine zMetX (own := RX1) rfl (by decide) (zcs_c rfl (zcs_c rfl (zcs_c rfl zcs_0))) (Nat.le_of_ble_eq_true rfl) (fun p e s m args below meth c ls hC hr hk hn hnt hG hL => ?_)
  unfold vX1_view at hV
  refine z_iload_n hC rfl (hL.at 1 rfl) dX1_view_0 ?_
  refine z_iconst hC dX1_view_1 ?_
  refine z_iconst hC dX1_view_2 ?_
  refine z_call_z hG (zrunS hC hG (mX1_inRange l P G p0 hp0 0 (inR_lit rfl) 2 (inR_lit rfl) hV) kSX1_91 rfl rfl rfl ⟨(Nat.le_of_ble_eq_true rfl), (Nat.le_of_ble_eq_true rfl)⟩ ⟨(Nat.le_of_ble_eq_true rfl), (Nat.le_of_ble_eq_true rfl)⟩ rfl ⟨zcs_0, (Nat.le_of_ble_eq_true rfl)⟩ hL.1.1 dX1_view_3) ?_
  rintro x1 _ _ _ hx1 ⟨rfl, hV⟩ hG
  refine z_xcall_v hG hnt hk (zrunSX hC hG (mX1_requireIndex l P G x1 hx1 hst hV) kSX1_105 rfl rfl rfl ⟨(Nat.le_of_ble_eq_true rfl), (Nat.le_of_ble_eq_true rfl)⟩ ⟨(Nat.le_of_ble_eq_true rfl), (Nat.le_of_ble_eq_true rfl)⟩ rfl ⟨zcs_0, (Nat.le_of_ble_eq_true rfl)⟩ hL.1.1 dX1_view_6) (Nat.le_of_ble_eq_true rfl) (Nat.le_of_ble_eq_true rfl) ?_
  rintro _ _ _ ⟨rfl, hV⟩ hG
  refine z_aload_n hC zvr_a rfl (hL.at 0 rfl) dX1_view_9 ?_
  refine z_iload_n hC rfl (hL.at 2 rfl) dX1_view_10 ?_
  refine z_xcall_v hG hnt hk (zrunVX (ci := 1) hC hG (Nat.le_of_ble_eq_true rfl) (Nat.le_of_ble_eq_true rfl) (zobj hG rfl (Nat.le_of_ble_eq_true rfl) (Nat.le_of_ble_eq_true rfl)) (mX1_requirePattern l P G p1 hp1 hst hV) kVX1_166 rfl rfl rfl ⟨(Nat.le_of_ble_eq_true rfl), (Nat.le_of_ble_eq_true rfl)⟩ ⟨(Nat.le_of_ble_eq_true rfl), (Nat.le_of_ble_eq_true rfl)⟩ rfl ⟨zcs_0, (Nat.le_of_ble_eq_true rfl)⟩ hL.1.1 dX1_view_11) (Nat.le_of_ble_eq_true rfl) (Nat.le_of_ble_eq_true rfl) ?_
  rintro _ _ _ ⟨rfl, hV⟩ hG
  refine z_aload_n hC zvr_a rfl (hL.at 0 rfl) dX1_view_14 ?_
  refine z_iload_n hC rfl (hL.at 2 rfl) dX1_view_15 ?_
  refine z_call_r hG (zrunV (ci := 1) hC hG (Nat.le_of_ble_eq_true rfl) (Nat.le_of_ble_eq_true rfl) (zobj hG rfl (Nat.le_of_ble_eq_true rfl) (Nat.le_of_ble_eq_true rfl)) (mX1_told l P G p1 hp1 hV) kVX1_170 rfl rfl rfl ⟨(Nat.le_of_ble_eq_true rfl), (Nat.le_of_ble_eq_true rfl)⟩ ⟨(Nat.le_of_ble_eq_true rfl), (Nat.le_of_ble_eq_true rfl)⟩ rfl ⟨zcs_0, (Nat.le_of_ble_eq_true rfl)⟩ hL.1.1 dX1_view_16) ?_
  rintro x2 _ _ _  ⟨rfl, hV⟩ hG
  refine z_astore_n (lv' := [(3, zrv P x2), (0, .ref (zA P 0 0 0)), (1, .int (zI p0)), (2, .int (zI p1))]) hC zvr_r rfl hL (by decide) rfl dX1_view_19 (fun ls hL => ?_)
  refine z_aload_n hC zvr_r rfl (hL.at 0 rfl) dX1_view_20 ?_
  obtain ⟨hO3, hV⟩ := hV
  refine z_call_z hG (zrunVD hC hG hO3 (mX9_isForNumbers l P G x2 hV) kVX1_233 rfl rfl rfl ⟨(Nat.le_of_ble_eq_true rfl), (Nat.le_of_ble_eq_true rfl)⟩ ⟨(Nat.le_of_ble_eq_true rfl), (Nat.le_of_ble_eq_true rfl)⟩ rfl ⟨zcs_0, (Nat.le_of_ble_eq_true rfl)⟩ hL.1.1 dX1_view_21) ?_
  rintro x4 _ _ _ hx4 ⟨rfl, hV⟩ hG
  refine z_xcall_v hG hnt hk (zrunSX hC hG (mX1_requireArgument l P G x4 hx4 hst hV) kSX1_117 rfl rfl rfl ⟨(Nat.le_of_ble_eq_true rfl), (Nat.le_of_ble_eq_true rfl)⟩ ⟨(Nat.le_of_ble_eq_true rfl), (Nat.le_of_ble_eq_true rfl)⟩ rfl ⟨zcs_0, (Nat.le_of_ble_eq_true rfl)⟩ hL.1.1 dX1_view_24) (Nat.le_of_ble_eq_true rfl) (Nat.le_of_ble_eq_true rfl) ?_
  rintro _ _ _ ⟨rfl, hV⟩ hG
  refine z_aload_n hC zvr_a rfl (hL.at 1 rfl) dX1_view_27 ?_
  refine z_new (ci := 14) (n := 2) hC hG (Nat.le_of_ble_eq_true rfl) (Nat.le_of_ble_eq_true rfl) rfl q908 q909 q127 hV (Nat.le_of_ble_eq_true rfl) (Nat.le_of_ble_eq_true rfl) dX1_view_28 ?_
  intro x5 G1 _ hG hV
  refine z_dup hC (zrv_cat _ _) dX1_view_31 ?_
  refine z_iload_n hC rfl (hL.at 2 rfl) dX1_view_32 ?_
  refine z_aload_n hC zvr_r rfl (hL.at 0 rfl) dX1_view_33 ?_
  obtain ⟨hO6, hV⟩ := hV
  refine z_call_r hG (zrunVD hC hG hO6 (mX9_pattern l P G1 x2 hV) kVX1_183 rfl rfl rfl ⟨(Nat.le_of_ble_eq_true rfl), (Nat.le_of_ble_eq_true rfl)⟩ ⟨(Nat.le_of_ble_eq_true rfl), (Nat.le_of_ble_eq_true rfl)⟩ rfl ⟨(zcs_c rfl (zcs_c (zrv_cat _ _) (zcs_c (zrv_cat _ _) (zcs_c rfl zcs_0)))), (Nat.le_of_ble_eq_true rfl)⟩ hL.1.1 dX1_view_34) ?_
  rintro x7 _ _ _  ⟨rfl, hV⟩ hG
  obtain ⟨hO8, hV⟩ := hV
  refine z_call_v hG (zrunIN hC hG hO8 (mX14_init l P G1 x5 p0 hp0 x7 hV) kIX1_246 rfl rfl rfl ⟨(Nat.le_of_ble_eq_true rfl), (Nat.le_of_ble_eq_true rfl)⟩ ⟨(Nat.le_of_ble_eq_true rfl), (Nat.le_of_ble_eq_true rfl)⟩ rfl ⟨(zcs_c (zrv_cat _ _) (zcs_c rfl zcs_0)), (Nat.le_of_ble_eq_true rfl)⟩ hL.1.1 dX1_view_37) ?_
  rintro G2 _ _ hV hG
  refine z_iconst hC dX1_view_40 ?_
  refine z_iconst hC dX1_view_41 ?_
  refine z_aload_n hC zvr_r rfl (hL.at 0 rfl) dX1_view_42 ?_
  obtain ⟨hO9, hV⟩ := hV
  refine z_call_i hG (zrunVD hC hG hO9 (mX9_depth l P G2 x2 hV) kVX1_191 rfl rfl rfl ⟨(Nat.le_of_ble_eq_true rfl), (Nat.le_of_ble_eq_true rfl)⟩ ⟨(Nat.le_of_ble_eq_true rfl), (Nat.le_of_ble_eq_true rfl)⟩ rfl ⟨(zcs_c rfl (zcs_c rfl (zcs_c (zrv_cat _ _) (zcs_c rfl zcs_0)))), (Nat.le_of_ble_eq_true rfl)⟩ hL.1.1 dX1_view_43) ?_
  rintro x10 _ _ _ hx10 ⟨rfl, hV⟩ hG
  refine z_aload_n hC zvr_r rfl (hL.at 0 rfl) dX1_view_46 ?_
  obtain ⟨hO11, hV⟩ := hV
  refine z_call_i hG (zrunVD hC hG hO11 (mX9_size l P G2 x2 hV) kVX1_194 rfl rfl rfl ⟨(Nat.le_of_ble_eq_true rfl), (Nat.le_of_ble_eq_true rfl)⟩ ⟨(Nat.le_of_ble_eq_true rfl), (Nat.le_of_ble_eq_true rfl)⟩ rfl ⟨(zcs_c rfl (zcs_c rfl (zcs_c rfl (zcs_c (zrv_cat _ _) (zcs_c rfl zcs_0))))), (Nat.le_of_ble_eq_true rfl)⟩ hL.1.1 dX1_view_47) ?_
  rintro x12 _ _ _ hx12 ⟨rfl, hV⟩ hG
  refine z_iconst hC dX1_view_50 ?_
  refine z_iadd hC dX1_view_51 ?_
  refine z_iconst hC dX1_view_52 ?_
  refine z_iconst hC dX1_view_53 ?_
  refine z_xcall_i hG hnt hk (zrunVX (ci := 1) hC hG (Nat.le_of_ble_eq_true rfl) (Nat.le_of_ble_eq_true rfl) (zobj hG rfl (Nat.le_of_ble_eq_true rfl) (Nat.le_of_ble_eq_true rfl)) (mX1_addPattern l P G2 x5 (-1) (inR_lit rfl) 0 (inR_lit rfl) x10 hx10 (w32 (x12 + 1)) (inR_w _) 0 (Or.inl rfl) 0 (Or.inl rfl) hst hV) kVX1_162 rfl rfl rfl ⟨(Nat.le_of_ble_eq_true rfl), (Nat.le_of_ble_eq_true rfl)⟩ ⟨(Nat.le_of_ble_eq_true rfl), (Nat.le_of_ble_eq_true rfl)⟩ rfl ⟨zcs_0, (Nat.le_of_ble_eq_true rfl)⟩ hL.1.1 dX1_view_54) (Nat.le_of_ble_eq_true rfl) (Nat.le_of_ble_eq_true rfl) ?_
  rintro x13 G3 _ _ hx13 hV hG
  exact vx_ret (z_iret hC hG hr hk hx13 hV (Nat.le_of_ble_eq_true rfl) (Nat.le_of_ble_eq_true rfl) dX1_view_57)
abbrev rX1_list : Room := { frames := 11, cells := 21, slots := 298, locals := 258 }
def vX1_list (p0 : Int) (p1 : Int) (p2 : Int) (p3 : Int) (G : ZG) (X : Nat → ZG → Prop) (Q : Int → ZG → Prop) : Prop := vX1_inRange p3 0 2 fun (x1 : Int) => vX1_requireIndex x1 G X fun (_ : Unit) => vX1_inRange p0 0 2 fun (x2 : Int) => vX1_requireArgument x2 G X fun (_ : Unit) => vJ2_size 9 G fun (x3 : Int) => vX1_requireParts p0 p1 p2 (-1) x3 6 30 G X fun (G1 : ZG) => vX1_firstOf p0 p1 p2 (-1) G1 fun (x4 : ZR) (G2 : ZG) => znw G2 (.inr (.inr (15, zdf 15))) fun (x5 : ZR) (G3 : ZG) => znI0 G3 0 2 2 fun (x6 : ZR) (G4 : ZG) => zeS G4 x6 0 4 fun (G5 : ZG) => zeS G5 x6 1 4 fun (G6 : ZG) => vX1_row x6 fun (x7 : ZR) => vX1_partsOf x4 x7 6 130 G6 X fun (x8 : ZR) (G7 : ZG) => znn x5 ∧ vX15_init x5 x8 p3 G7 fun (G8 : ZG) => vX1_addMade x5 5 x4 G8 X fun (x10 : Int) (G9 : ZG) => Q x10 G9
set_option maxHeartbeats 4000000 in
theorem mX1_list (l : Launch) (P : ZP) (G : ZG) (p0 : Int) (hp0 : inR p0) (p1 : Int) (hp1 : inR p1) (p2 : Int) (hp2 : inR p2) (p3 : Int) (hp3 : inR p3) {X : Nat → ZG → Prop} {Q : Int → ZG → Prop} (hst : l.stackTraces = false) (hV : vX1_list p0 p1 p2 p3 G X Q) : vx_Met l yX1_list (ws_ yX1_list cX1_list 6 (some .int)) rX1_list (zPc P G [.ref (zA P 0 0 0), .int (zI p0), .int (zI p1), .int (zI p2), .int (zI p3)]) (zQi P Q) (zXc P X) 21 298 (zAr P) := by
  refine zMetX (own := RX1) rfl (by decide) (zcs_c rfl (zcs_c rfl (zcs_c rfl (zcs_c rfl (zcs_c rfl zcs_0))))) (Nat.le_of_ble_eq_true rfl) (fun p e s m args below meth c ls hC hr hk hn hnt hG hL => ?_)
  unfold vX1_list at hV
  refine z_iload hC (hL.at 4 rfl) dX1_list_0 ?_
  refine z_iconst hC dX1_list_2 ?_
  refine z_iconst hC dX1_list_3 ?_
  refine z_call_z hG (zrunS hC hG (mX1_inRange l P G p3 hp3 0 (inR_lit rfl) 2 (inR_lit rfl) hV) kSX1_91 rfl rfl rfl ⟨(Nat.le_of_ble_eq_true rfl), (Nat.le_of_ble_eq_true rfl)⟩ ⟨(Nat.le_of_ble_eq_true rfl), (Nat.le_of_ble_eq_true rfl)⟩ rfl ⟨zcs_0, (Nat.le_of_ble_eq_true rfl)⟩ hL.1.1 dX1_list_4) ?_
  rintro x1 _ _ _ hx1 ⟨rfl, hV⟩ hG
  refine z_xcall_v hG hnt hk (zrunSX hC hG (mX1_requireIndex l P G x1 hx1 hst hV) kSX1_105 rfl rfl rfl ⟨(Nat.le_of_ble_eq_true rfl), (Nat.le_of_ble_eq_true rfl)⟩ ⟨(Nat.le_of_ble_eq_true rfl), (Nat.le_of_ble_eq_true rfl)⟩ rfl ⟨zcs_0, (Nat.le_of_ble_eq_true rfl)⟩ hL.1.1 dX1_list_7) (Nat.le_of_ble_eq_true rfl) (Nat.le_of_ble_eq_true rfl) ?_
  rintro _ _ _ ⟨rfl, hV⟩ hG
  refine z_iload_n hC rfl (hL.at 1 rfl) dX1_list_10 ?_
  refine z_iconst hC dX1_list_11 ?_
  refine z_iconst hC dX1_list_12 ?_
  refine z_call_z hG (zrunS hC hG (mX1_inRange l P G p0 hp0 0 (inR_lit rfl) 2 (inR_lit rfl) hV) kSX1_91 rfl rfl rfl ⟨(Nat.le_of_ble_eq_true rfl), (Nat.le_of_ble_eq_true rfl)⟩ ⟨(Nat.le_of_ble_eq_true rfl), (Nat.le_of_ble_eq_true rfl)⟩ rfl ⟨zcs_0, (Nat.le_of_ble_eq_true rfl)⟩ hL.1.1 dX1_list_13) ?_
  rintro x2 _ _ _ hx2 ⟨rfl, hV⟩ hG
  refine z_xcall_v hG hnt hk (zrunSX hC hG (mX1_requireArgument l P G x2 hx2 hst hV) kSX1_117 rfl rfl rfl ⟨(Nat.le_of_ble_eq_true rfl), (Nat.le_of_ble_eq_true rfl)⟩ ⟨(Nat.le_of_ble_eq_true rfl), (Nat.le_of_ble_eq_true rfl)⟩ rfl ⟨zcs_0, (Nat.le_of_ble_eq_true rfl)⟩ hL.1.1 dX1_list_16) (Nat.le_of_ble_eq_true rfl) (Nat.le_of_ble_eq_true rfl) ?_
  rintro _ _ _ ⟨rfl, hV⟩ hG
  refine z_iload_n hC rfl (hL.at 1 rfl) dX1_list_19 ?_
  refine z_iload_n hC rfl (hL.at 2 rfl) dX1_list_20 ?_
  refine z_iload_n hC rfl (hL.at 3 rfl) dX1_list_21 ?_
  refine z_iconst hC dX1_list_22 ?_
  refine z_aload_n hC zvr_a rfl (hL.at 0 rfl) dX1_list_23 ?_
  refine z_getO hC hG 9 kFX1_32_1 rfl rfl dX1_list_24 ?_
  refine z_call_i hG (zrunV (ci := 2) hC hG (Nat.le_of_ble_eq_true rfl) (Nat.le_of_ble_eq_true rfl) (zobj hG rfl (Nat.le_of_ble_eq_true rfl) (Nat.le_of_ble_eq_true rfl)) (mJ2_size l P G 9 rfl hV) kVX1_101 rfl rfl rfl ⟨(Nat.le_of_ble_eq_true rfl), (Nat.le_of_ble_eq_true rfl)⟩ ⟨(Nat.le_of_ble_eq_true rfl), (Nat.le_of_ble_eq_true rfl)⟩ rfl ⟨(zcs_c rfl (zcs_c rfl (zcs_c rfl (zcs_c rfl zcs_0)))), (Nat.le_of_ble_eq_true rfl)⟩ hL.1.1 dX1_list_27) ?_
  rintro x3 _ _ _ hx3 ⟨rfl, hV⟩ hG
  refine z_xcall_v hG hnt hk (zrunSX hC hG (mX1_requireParts l P G 6 30 p0 hp0 p1 hp1 p2 hp2 (-1) (inR_lit rfl) x3 hx3 hst hV) kSX1_146 rfl rfl rfl ⟨(Nat.le_of_ble_eq_true rfl), (Nat.le_of_ble_eq_true rfl)⟩ ⟨(Nat.le_of_ble_eq_true rfl), (Nat.le_of_ble_eq_true rfl)⟩ rfl ⟨zcs_0, (Nat.le_of_ble_eq_true rfl)⟩ hL.1.1 dX1_list_30) (Nat.le_of_ble_eq_true rfl) (Nat.le_of_ble_eq_true rfl) ?_
  rintro G1 _ _ hV hG
  refine z_iload_n hC rfl (hL.at 1 rfl) dX1_list_33 ?_
  refine z_iload_n hC rfl (hL.at 2 rfl) dX1_list_34 ?_
  refine z_iload_n hC rfl (hL.at 3 rfl) dX1_list_35 ?_
  refine z_iconst hC dX1_list_36 ?_
  refine z_call_r hG (zrunS hC hG (mX1_firstOf l P G1 p0 hp0 p1 hp1 p2 hp2 (-1) (inR_lit rfl) hV) kSX1_123 rfl rfl rfl ⟨(Nat.le_of_ble_eq_true rfl), (Nat.le_of_ble_eq_true rfl)⟩ ⟨(Nat.le_of_ble_eq_true rfl), (Nat.le_of_ble_eq_true rfl)⟩ rfl ⟨zcs_0, (Nat.le_of_ble_eq_true rfl)⟩ hL.1.1 dX1_list_37) ?_
  rintro x4 G2 _ _  hV hG
  refine z_astore (lv' := [(5, zrv P x4), (0, .ref (zA P 0 0 0)), (1, .int (zI p0)), (2, .int (zI p1)), (3, .int (zI p2)), (4, .int (zI p3))]) hC zvr_r hL (by decide) rfl dX1_list_40 (fun ls hL => ?_)
  refine z_aload_n hC zvr_a rfl (hL.at 1 rfl) dX1_list_42 ?_
  refine z_new (ci := 15) (n := 2) hC hG (Nat.le_of_ble_eq_true rfl) (Nat.le_of_ble_eq_true rfl) rfl q928 q929 q128 hV (Nat.le_of_ble_eq_true rfl) (Nat.le_of_ble_eq_true rfl) dX1_list_43 ?_
  intro x5 G3 _ hG hV
  refine z_dup hC (zrv_cat _ _) dX1_list_46 ?_
  refine z_aload_n hC zvr_a rfl (hL.at 1 rfl) dX1_list_47 ?_
  refine z_aload hC zvr_r (hL.at 0 rfl) dX1_list_48 ?_
  refine z_iconst hC dX1_list_50 ?_
  refine z_newI (t := 0) hC hG rfl (Nat.le_of_ble_eq_true rfl) q223 (inR_lit rfl) (Nat.le_of_ble_eq_true rfl) hV (Nat.le_of_ble_eq_true rfl) (Nat.le_of_ble_eq_true rfl) dX1_list_51 ?_
  intro x6 G4 _ hG hV
  refine z_dup hC (zrv_cat _ _) dX1_list_53 ?_
  refine z_iconst hC dX1_list_54 ?_
  refine z_iconst hC dX1_list_55 ?_
  refine z_east hC hG (inR_lit rfl) (inR_lit rfl) hV dX1_list_56 ?_
  intro G5 _ _ hG hV
  refine z_dup hC (zrv_cat _ _) dX1_list_57 ?_
  refine z_iconst hC dX1_list_58 ?_
  refine z_iconst hC dX1_list_59 ?_
  refine z_east hC hG (inR_lit rfl) (inR_lit rfl) hV dX1_list_60 ?_
  intro G6 _ _ hG hV
  refine z_call_r hG (zrunS hC hG (mX1_row l P G6 x6 hV) kSX1_15 rfl rfl rfl ⟨(Nat.le_of_ble_eq_true rfl), (Nat.le_of_ble_eq_true rfl)⟩ ⟨(Nat.le_of_ble_eq_true rfl), (Nat.le_of_ble_eq_true rfl)⟩ rfl ⟨(zcs_c (zrv_cat _ _) (zcs_c rfl (zcs_c (zrv_cat _ _) (zcs_c (zrv_cat _ _) (zcs_c rfl zcs_0))))), (Nat.le_of_ble_eq_true rfl)⟩ hL.1.1 dX1_list_61) ?_
  rintro x7 _ _ _  ⟨rfl, hV⟩ hG
  refine z_xcall_r hG hnt hk (zrunVX (ci := 1) hC hG (Nat.le_of_ble_eq_true rfl) (Nat.le_of_ble_eq_true rfl) (zobj hG rfl (Nat.le_of_ble_eq_true rfl) (Nat.le_of_ble_eq_true rfl)) (mX1_partsOf l P G6 6 130 x4 x7 hst hV) kVX1_217 rfl rfl rfl ⟨(Nat.le_of_ble_eq_true rfl), (Nat.le_of_ble_eq_true rfl)⟩ ⟨(Nat.le_of_ble_eq_true rfl), (Nat.le_of_ble_eq_true rfl)⟩ rfl ⟨(zcs_c (zrv_cat _ _) (zcs_c (zrv_cat _ _) (zcs_c rfl zcs_0))), (Nat.le_of_ble_eq_true rfl)⟩ hL.1.1 dX1_list_64) (Nat.le_of_ble_eq_true rfl) (Nat.le_of_ble_eq_true rfl) ?_
  rintro x8 G7 _ _  hV hG
  refine z_iload hC (hL.at 5 rfl) dX1_list_67 ?_
  obtain ⟨hO9, hV⟩ := hV
  refine z_call_v hG (zrunIN hC hG hO9 (mX15_init l P G7 x5 x8 p3 hp3 hV) kIX1_249 rfl rfl rfl ⟨(Nat.le_of_ble_eq_true rfl), (Nat.le_of_ble_eq_true rfl)⟩ ⟨(Nat.le_of_ble_eq_true rfl), (Nat.le_of_ble_eq_true rfl)⟩ rfl ⟨(zcs_c (zrv_cat _ _) (zcs_c rfl zcs_0)), (Nat.le_of_ble_eq_true rfl)⟩ hL.1.1 dX1_list_69) ?_
  rintro G8 _ _ hV hG
  refine z_iconst hC dX1_list_72 ?_
  refine z_aload hC zvr_r (hL.at 0 rfl) dX1_list_73 ?_
  refine z_xcall_i hG hnt hk (zrunVX (ci := 1) hC hG (Nat.le_of_ble_eq_true rfl) (Nat.le_of_ble_eq_true rfl) (zobj hG rfl (Nat.le_of_ble_eq_true rfl) (Nat.le_of_ble_eq_true rfl)) (mX1_addMade l P G8 x5 5 (inR_lit rfl) x4 hst hV) kVX1_224 rfl rfl rfl ⟨(Nat.le_of_ble_eq_true rfl), (Nat.le_of_ble_eq_true rfl)⟩ ⟨(Nat.le_of_ble_eq_true rfl), (Nat.le_of_ble_eq_true rfl)⟩ rfl ⟨zcs_0, (Nat.le_of_ble_eq_true rfl)⟩ hL.1.1 dX1_list_75) (Nat.le_of_ble_eq_true rfl) (Nat.le_of_ble_eq_true rfl) ?_
  rintro x10 G9 _ _ hx10 hV hG
  exact vx_ret (z_iret hC hG hr hk hx10 hV (Nat.le_of_ble_eq_true rfl) (Nat.le_of_ble_eq_true rfl) dX1_list_78)
abbrev rX1_setView : Room := { frames := 9, cells := 3, slots := 16, locals := 120 }
def vX1_setView (p0 : Int) (p1 : Int) (p2 : Int) (p3 : Int) (p4 : Int) (G : ZG) (X : Nat → ZG → Prop) (Q : Int → ZG → Prop) : Prop := vX1_inRange p0 0 2 fun (x1 : Int) => vX1_requireIndex x1 G X fun (_ : Unit) => vX1_inRange p1 (-9) 9 fun (x2 : Int) => zjn (fun (z59_0 : Int) => vX1_requireArgument z59_0 G X fun (_ : Unit) => zuL G 0 3 3 p0 fun (x3 : ZR) => zeI G x3 3 fun (x4 : Int) => znI0 G 0 4 4 fun (x5 : ZR) (G1 : ZG) => zeS G1 x5 0 p1 fun (G2 : ZG) => zeS G2 x5 1 p2 fun (G3 : ZG) => zeS G3 x5 2 p3 fun (G4 : ZG) => zeS G4 x5 3 p4 fun (G5 : ZG) => vX1_row x5 fun (x6 : ZR) => zuS G5 0 3 3 p0 x6 fun (G6 : ZG) => vX1_changed G6 fun (G7 : ZG) => Q x4 G7) fun J59 => zjn (fun (_ : Unit) => J59 0) fun J58 => zbr (x2 = 0) (J58 ()) (vX1_inRange p2 (-9) 9 fun (x7 : Int) => zbr (x7 = 0) (J58 ()) (vX1_inRange p3 (-9) 9 fun (x8 : Int) => zbr (x8 = 0) (J58 ()) (vX1_inRange p4 1 10 fun (x9 : Int) => zbr (x9 = 0) (J58 ()) (J59 1))))
set_option maxHeartbeats 4000000 in
theorem mX1_setView (l : Launch) (P : ZP) (G : ZG) (p0 : Int) (hp0 : inR p0) (p1 : Int) (hp1 : inR p1) (p2 : Int) (hp2 : inR p2) (p3 : Int) (hp3 : inR p3) (p4 : Int) (hp4 : inR p4) {X : Nat → ZG → Prop} {Q : Int → ZG → Prop} (hst : l.stackTraces = false) (hV : vX1_setView p0 p1 p2 p3 p4 G X Q) : vx_Met l yX1_setView (ws_ yX1_setView cX1_setView 7 (some .int)) rX1_setView (zPc P G [.ref (zA P 0 0 0), .int (zI p0), .int (zI p1), .int (zI p2), .int (zI p3), .int (zI p4)]) (zQi P Q) (zXc P X) 3 16 (zAr P) := by
  refine zMetX (own := RX1) rfl (by decide) (zcs_c rfl (zcs_c rfl (zcs_c rfl (zcs_c rfl (zcs_c rfl (zcs_c rfl zcs_0)))))) (Nat.le_of_ble_eq_true rfl) (fun p e s m args below meth c ls hC hr hk hn hnt hG hL => ?_)
  unfold vX1_setView at hV
  refine z_iload_n hC rfl (hL.at 1 rfl) dX1_setView_0 ?_
  refine z_iconst hC dX1_setView_1 ?_
  refine z_iconst hC dX1_setView_2 ?_
  refine z_call_z hG (zrunS hC hG (mX1_inRange l P G p0 hp0 0 (inR_lit rfl) 2 (inR_lit rfl) hV) kSX1_91 rfl rfl rfl ⟨(Nat.le_of_ble_eq_true rfl), (Nat.le_of_ble_eq_true rfl)⟩ ⟨(Nat.le_of_ble_eq_true rfl), (Nat.le_of_ble_eq_true rfl)⟩ rfl ⟨zcs_0, (Nat.le_of_ble_eq_true rfl)⟩ hL.1.1 dX1_setView_3) ?_
  rintro x1 _ _ _ hx1 ⟨rfl, hV⟩ hG
  refine z_xcall_v hG hnt hk (zrunSX hC hG (mX1_requireIndex l P G x1 hx1 hst hV) kSX1_105 rfl rfl rfl ⟨(Nat.le_of_ble_eq_true rfl), (Nat.le_of_ble_eq_true rfl)⟩ ⟨(Nat.le_of_ble_eq_true rfl), (Nat.le_of_ble_eq_true rfl)⟩ rfl ⟨zcs_0, (Nat.le_of_ble_eq_true rfl)⟩ hL.1.1 dX1_setView_6) (Nat.le_of_ble_eq_true rfl) (Nat.le_of_ble_eq_true rfl) ?_
  rintro _ _ _ ⟨rfl, hV⟩ hG
  refine z_iload_n hC rfl (hL.at 2 rfl) dX1_setView_9 ?_
  refine z_bipush hC rfl dX1_setView_10 ?_
  refine z_bipush hC rfl dX1_setView_12 ?_
  refine z_call_z hG (zrunS hC hG (mX1_inRange l P G p1 hp1 (-9) (inR_lit rfl) 9 (inR_lit rfl) hV) kSX1_91 rfl rfl rfl ⟨(Nat.le_of_ble_eq_true rfl), (Nat.le_of_ble_eq_true rfl)⟩ ⟨(Nat.le_of_ble_eq_true rfl), (Nat.le_of_ble_eq_true rfl)⟩ rfl ⟨zcs_0, (Nat.le_of_ble_eq_true rfl)⟩ hL.1.1 dX1_setView_14) ?_
  rintro x2 _ _ _ hx2 ⟨rfl, hV⟩ hG
  obtain ⟨J59, eJ59, hV⟩ := zjn_abs hV
  have hJ59 : ∀ {H : Heap} {locs : List Loc}, zS P s G H locs → ∀ (z59_0 : Int), (z59_0 = 0 ∨ z59_0 = 1) → J59 z59_0 → ∀ (ls : Array Slot), zL ls 7 [(0, .ref (zA P 0 0 0)), (1, .int (zI p0)), (2, .int (zI p1)), (3, .int (zI p2)), (4, .int (zI p3)), (5, .int (zI p4))] → W p l e rX1_setView s m args below meth c H locs 1 6 (vx_MQ below (zQi P Q) (zXc P X) args s 3 16 (zAr P)) (F0 m 59 ls [.int (zI z59_0)]) := by
    intro H locs hG z59_0 hz59_0 hV ls hL
    rw [eJ59] at hV
    refine z_xcall_v hG hnt hk (zrunSX hC hG (mX1_requireArgument l P G z59_0 hz59_0 hst hV) kSX1_117 rfl rfl rfl ⟨(Nat.le_of_ble_eq_true rfl), (Nat.le_of_ble_eq_true rfl)⟩ ⟨(Nat.le_of_ble_eq_true rfl), (Nat.le_of_ble_eq_true rfl)⟩ rfl ⟨zcs_0, (Nat.le_of_ble_eq_true rfl)⟩ hL.1.1 dX1_setView_59) (Nat.le_of_ble_eq_true rfl) (Nat.le_of_ble_eq_true rfl) ?_
    rintro _ _ _ ⟨rfl, hV⟩ hG
    refine z_aload_n hC zvr_a rfl (hL.at 0 rfl) dX1_setView_62 ?_
    refine z_getA hC hG kFX1_37_1 rfl rfl dX1_setView_63 ?_
    refine z_iload_n hC rfl (hL.at 1 rfl) dX1_setView_66 ?_
    refine z_uald hC hG rfl rfl rfl hp0 hV dX1_setView_67 ?_
    intro x3 hV
    refine z_iconst hC dX1_setView_68 ?_
    refine z_eald hC hG (inR_lit rfl) hV dX1_setView_69 ?_
    intro x4 hx4 hV
    refine z_istore (lv' := [(6, .int (zI x4)), (0, .ref (zA P 0 0 0)), (1, .int (zI p0)), (2, .int (zI p1)), (3, .int (zI p2)), (4, .int (zI p3)), (5, .int (zI p4))]) hC hL (by decide) rfl dX1_setView_70 (fun ls hL => ?_)
    refine z_aload_n hC zvr_a rfl (hL.at 1 rfl) dX1_setView_72 ?_
    refine z_getA hC hG kFX1_37_1 rfl rfl dX1_setView_73 ?_
    refine z_iload_n hC rfl (hL.at 2 rfl) dX1_setView_76 ?_
    refine z_iconst hC dX1_setView_77 ?_
    refine z_newI (t := 0) hC hG rfl (Nat.le_of_ble_eq_true rfl) q223 (inR_lit rfl) (Nat.le_of_ble_eq_true rfl) hV (Nat.le_of_ble_eq_true rfl) (Nat.le_of_ble_eq_true rfl) dX1_setView_78 ?_
    intro x5 G1 _ hG hV
    refine z_dup hC (zrv_cat _ _) dX1_setView_80 ?_
    refine z_iconst hC dX1_setView_81 ?_
    refine z_iload_n hC rfl (hL.at 3 rfl) dX1_setView_82 ?_
    refine z_east hC hG (inR_lit rfl) hp1 hV dX1_setView_83 ?_
    intro G2 _ _ hG hV
    refine z_dup hC (zrv_cat _ _) dX1_setView_84 ?_
    refine z_iconst hC dX1_setView_85 ?_
    refine z_iload_n hC rfl (hL.at 4 rfl) dX1_setView_86 ?_
    refine z_east hC hG (inR_lit rfl) hp2 hV dX1_setView_87 ?_
    intro G3 _ _ hG hV
    refine z_dup hC (zrv_cat _ _) dX1_setView_88 ?_
    refine z_iconst hC dX1_setView_89 ?_
    refine z_iload hC (hL.at 5 rfl) dX1_setView_90 ?_
    refine z_east hC hG (inR_lit rfl) hp3 hV dX1_setView_92 ?_
    intro G4 _ _ hG hV
    refine z_dup hC (zrv_cat _ _) dX1_setView_93 ?_
    refine z_iconst hC dX1_setView_94 ?_
    refine z_iload hC (hL.at 6 rfl) dX1_setView_95 ?_
    refine z_east hC hG (inR_lit rfl) hp4 hV dX1_setView_97 ?_
    intro G5 _ _ hG hV
    refine z_call_r hG (zrunS hC hG (mX1_row l P G5 x5 hV) kSX1_15 rfl rfl rfl ⟨(Nat.le_of_ble_eq_true rfl), (Nat.le_of_ble_eq_true rfl)⟩ ⟨(Nat.le_of_ble_eq_true rfl), (Nat.le_of_ble_eq_true rfl)⟩ rfl ⟨(zcs_c rfl (zcs_c rfl zcs_0)), (Nat.le_of_ble_eq_true rfl)⟩ hL.1.1 dX1_setView_98) ?_
    rintro x6 _ _ _  ⟨rfl, hV⟩ hG
    refine z_uast (x := x6) hC hG rfl (Nat.le_of_ble_eq_true rfl) (Nat.le_of_ble_eq_true rfl) rfl rfl rfl hp0 hV dX1_setView_101 ?_
    intro G6 _ _ hG hV
    refine z_aload_n hC zvr_a rfl (hL.at 1 rfl) dX1_setView_102 ?_
    refine z_call_v hG (zrunV (ci := 1) hC hG (Nat.le_of_ble_eq_true rfl) (Nat.le_of_ble_eq_true rfl) (zobj hG rfl (Nat.le_of_ble_eq_true rfl) (Nat.le_of_ble_eq_true rfl)) (mX1_changed l P G6 hV) kVX1_127 rfl rfl rfl ⟨(Nat.le_of_ble_eq_true rfl), (Nat.le_of_ble_eq_true rfl)⟩ ⟨(Nat.le_of_ble_eq_true rfl), (Nat.le_of_ble_eq_true rfl)⟩ rfl ⟨zcs_0, (Nat.le_of_ble_eq_true rfl)⟩ hL.1.1 dX1_setView_103) ?_
    rintro G7 _ _ hV hG
    refine z_iload hC (hL.at 0 rfl) dX1_setView_106 ?_
    exact vx_ret (z_iret hC hG hr hk hx4 hV (Nat.le_of_ble_eq_true rfl) (Nat.le_of_ble_eq_true rfl) dX1_setView_108)
  obtain ⟨J58, eJ58, hV⟩ := zjn_abs hV
  have hJ58 : ∀ {H : Heap} {locs : List Loc}, zS P s G H locs → J58 () → ∀ (ls : Array Slot), zL ls 7 [(0, .ref (zA P 0 0 0)), (1, .int (zI p0)), (2, .int (zI p1)), (3, .int (zI p2)), (4, .int (zI p3)), (5, .int (zI p4))] → W p l e rX1_setView s m args below meth c H locs 1 6 (vx_MQ below (zQi P Q) (zXc P X) args s 3 16 (zAr P)) (F0 m 58 ls []) := by
    intro H locs hG hV ls hL
    rw [eJ58] at hV
    refine z_iconst hC dX1_setView_58 ?_
    exact hJ59 hG 0 (Or.inl rfl) hV _ hL
  refine z_if_eq (tgt := 58) hC (inR_b hx2) hV dX1_setView_17 (by decide) ?_ ?_
  · intro hV
    exact hJ58 hG hV _ hL
  · intro hV
    refine z_iload_n hC rfl (hL.at 3 rfl) dX1_setView_20 ?_
    refine z_bipush hC rfl dX1_setView_21 ?_
    refine z_bipush hC rfl dX1_setView_23 ?_
    refine z_call_z hG (zrunS hC hG (mX1_inRange l P G p2 hp2 (-9) (inR_lit rfl) 9 (inR_lit rfl) hV) kSX1_91 rfl rfl rfl ⟨(Nat.le_of_ble_eq_true rfl), (Nat.le_of_ble_eq_true rfl)⟩ ⟨(Nat.le_of_ble_eq_true rfl), (Nat.le_of_ble_eq_true rfl)⟩ rfl ⟨zcs_0, (Nat.le_of_ble_eq_true rfl)⟩ hL.1.1 dX1_setView_25) ?_
    rintro x7 _ _ _ hx7 ⟨rfl, hV⟩ hG
    refine z_if_eq (tgt := 58) hC (inR_b hx7) hV dX1_setView_28 (by decide) ?_ ?_
    · intro hV
      exact hJ58 hG hV _ hL
    · intro hV
      refine z_iload hC (hL.at 4 rfl) dX1_setView_31 ?_
      refine z_bipush hC rfl dX1_setView_33 ?_
      refine z_bipush hC rfl dX1_setView_35 ?_
      refine z_call_z hG (zrunS hC hG (mX1_inRange l P G p3 hp3 (-9) (inR_lit rfl) 9 (inR_lit rfl) hV) kSX1_91 rfl rfl rfl ⟨(Nat.le_of_ble_eq_true rfl), (Nat.le_of_ble_eq_true rfl)⟩ ⟨(Nat.le_of_ble_eq_true rfl), (Nat.le_of_ble_eq_true rfl)⟩ rfl ⟨zcs_0, (Nat.le_of_ble_eq_true rfl)⟩ hL.1.1 dX1_setView_37) ?_
      rintro x8 _ _ _ hx8 ⟨rfl, hV⟩ hG
      refine z_if_eq (tgt := 58) hC (inR_b hx8) hV dX1_setView_40 (by decide) ?_ ?_
      · intro hV
        exact hJ58 hG hV _ hL
      · intro hV
        refine z_iload hC (hL.at 5 rfl) dX1_setView_43 ?_
        refine z_iconst hC dX1_setView_45 ?_
        refine z_bipush hC rfl dX1_setView_46 ?_
        refine z_call_z hG (zrunS hC hG (mX1_inRange l P G p4 hp4 1 (inR_lit rfl) 10 (inR_lit rfl) hV) kSX1_91 rfl rfl rfl ⟨(Nat.le_of_ble_eq_true rfl), (Nat.le_of_ble_eq_true rfl)⟩ ⟨(Nat.le_of_ble_eq_true rfl), (Nat.le_of_ble_eq_true rfl)⟩ rfl ⟨zcs_0, (Nat.le_of_ble_eq_true rfl)⟩ hL.1.1 dX1_setView_48) ?_
        rintro x9 _ _ _ hx9 ⟨rfl, hV⟩ hG
        refine z_if_eq (tgt := 58) hC (inR_b hx9) hV dX1_setView_51 (by decide) ?_ ?_
        · intro hV
          exact hJ58 hG hV _ hL
        · intro hV
          refine z_iconst hC dX1_setView_54 ?_
          refine z_goto (tgt := 59) hC dX1_setView_55 (by decide) ?_
          exact hJ59 hG 1 (Or.inr rfl) hV _ hL
abbrev rX1_begin : Room := { frames := 9, cells := 1, slots := 6, locals := 120 }
def vX1_begin (p0 : Int) (p1 : Int) (p2 : Int) (p3 : Int) (G : ZG) (X : Nat → ZG → Prop) (Q : Int → ZG → Prop) : Prop := vX1_inRange p0 1 3 fun (x1 : Int) => zjn (fun (z57_0 : Int) => vX1_requireArgument z57_0 G X fun (_ : Unit) => vJ2_size 10 G fun (x2 : Int) => vJ2_clear 10 G fun (G1 : ZG) => zpF G1 0 5 p0 fun (G2 : ZG) => zaS G2 0 4 3 0 p1 fun (G3 : ZG) => zaS G3 0 4 3 1 p2 fun (G4 : ZG) => zaS G4 0 4 3 2 p3 fun (G5 : ZG) => zpF G5 0 11 (-1) fun (G6 : ZG) => vX3_begin G6 fun (G7 : ZG) => vX1_changed G7 fun (G8 : ZG) => Q x2 G8) fun J57 => zjn (fun (_ : Unit) => J57 0) fun J56 => zbr (x1 = 0) (J56 ()) (vX1_isKindOf p1 1 fun (x3 : Int) => zbr (x3 = 0) (J56 ()) (zjn (fun (z28_1 : Int) => vX1_isKindOf p2 z28_1 fun (x4 : Int) => zbr (x4 = 0) (J56 ()) (zjn (fun (z46_1 : Int) => vX1_isKindOf p3 z46_1 fun (x5 : Int) => zbr (x5 = 0) (J56 ()) (J57 1)) fun J46 => zbr (p0 ≤ 2) (J46 0) (J46 1))) fun J28 => zbr (p0 ≤ 1) (J28 0) (J28 1)))
set_option maxHeartbeats 4000000 in
theorem mX1_begin (l : Launch) (P : ZP) (G : ZG) (p0 : Int) (hp0 : inR p0) (p1 : Int) (hp1 : inR p1) (p2 : Int) (hp2 : inR p2) (p3 : Int) (hp3 : inR p3) {X : Nat → ZG → Prop} {Q : Int → ZG → Prop} (hst : l.stackTraces = false) (hV : vX1_begin p0 p1 p2 p3 G X Q) : vx_Met l yX1_begin (ws_ yX1_begin cX1_begin 6 (some .int)) rX1_begin (zPc P G [.ref (zA P 0 0 0), .int (zI p0), .int (zI p1), .int (zI p2), .int (zI p3)]) (zQi P Q) (zXc P X) 1 6 (zAr P) := by
  refine zMetX (own := RX1) rfl (by decide) (zcs_c rfl (zcs_c rfl (zcs_c rfl (zcs_c rfl (zcs_c rfl zcs_0))))) (Nat.le_of_ble_eq_true rfl) (fun p e s m args below meth c ls hC hr hk hn hnt hG hL => ?_)
  unfold vX1_begin at hV
  refine z_iload_n hC rfl (hL.at 1 rfl) dX1_begin_0 ?_
  refine z_iconst hC dX1_begin_1 ?_
  refine z_iconst hC dX1_begin_2 ?_
  refine z_call_z hG (zrunS hC hG (mX1_inRange l P G p0 hp0 1 (inR_lit rfl) 3 (inR_lit rfl) hV) kSX1_91 rfl rfl rfl ⟨(Nat.le_of_ble_eq_true rfl), (Nat.le_of_ble_eq_true rfl)⟩ ⟨(Nat.le_of_ble_eq_true rfl), (Nat.le_of_ble_eq_true rfl)⟩ rfl ⟨zcs_0, (Nat.le_of_ble_eq_true rfl)⟩ hL.1.1 dX1_begin_3) ?_
  rintro x1 _ _ _ hx1 ⟨rfl, hV⟩ hG
  obtain ⟨J57, eJ57, hV⟩ := zjn_abs hV
  have hJ57 : ∀ {H : Heap} {locs : List Loc}, zS P s G H locs → ∀ (z57_0 : Int), (z57_0 = 0 ∨ z57_0 = 1) → J57 z57_0 → ∀ (ls : Array Slot), zL ls 6 [(0, .ref (zA P 0 0 0)), (1, .int (zI p0)), (2, .int (zI p1)), (3, .int (zI p2)), (4, .int (zI p3))] → W p l e rX1_begin s m args below meth c H locs 0 0 (vx_MQ below (zQi P Q) (zXc P X) args s 1 6 (zAr P)) (F0 m 57 ls [.int (zI z57_0)]) := by
    intro H locs hG z57_0 hz57_0 hV ls hL
    rw [eJ57] at hV
    refine z_xcall_v hG hnt hk (zrunSX hC hG (mX1_requireArgument l P G z57_0 hz57_0 hst hV) kSX1_117 rfl rfl rfl ⟨(Nat.le_of_ble_eq_true rfl), (Nat.le_of_ble_eq_true rfl)⟩ ⟨(Nat.le_of_ble_eq_true rfl), (Nat.le_of_ble_eq_true rfl)⟩ rfl ⟨zcs_0, (Nat.le_of_ble_eq_true rfl)⟩ hL.1.1 dX1_begin_57) (Nat.le_of_ble_eq_true rfl) (Nat.le_of_ble_eq_true rfl) ?_
    rintro _ _ _ ⟨rfl, hV⟩ hG
    refine z_aload_n hC zvr_a rfl (hL.at 0 rfl) dX1_begin_60 ?_
    refine z_getO hC hG 10 kFX1_44_1 rfl rfl dX1_begin_61 ?_
    refine z_call_i hG (zrunV (ci := 2) hC hG (Nat.le_of_ble_eq_true rfl) (Nat.le_of_ble_eq_true rfl) (zobj hG rfl (Nat.le_of_ble_eq_true rfl) (Nat.le_of_ble_eq_true rfl)) (mJ2_size l P G 10 rfl hV) kVX1_101 rfl rfl rfl ⟨(Nat.le_of_ble_eq_true rfl), (Nat.le_of_ble_eq_true rfl)⟩ ⟨(Nat.le_of_ble_eq_true rfl), (Nat.le_of_ble_eq_true rfl)⟩ rfl ⟨zcs_0, (Nat.le_of_ble_eq_true rfl)⟩ hL.1.1 dX1_begin_64) ?_
    rintro x2 _ _ _ hx2 ⟨rfl, hV⟩ hG
    refine z_istore (lv' := [(5, .int (zI x2)), (0, .ref (zA P 0 0 0)), (1, .int (zI p0)), (2, .int (zI p1)), (3, .int (zI p2)), (4, .int (zI p3))]) hC hL (by decide) rfl dX1_begin_67 (fun ls hL => ?_)
    refine z_aload_n hC zvr_a rfl (hL.at 1 rfl) dX1_begin_69 ?_
    refine z_getO hC hG 10 kFX1_44_1 rfl rfl dX1_begin_70 ?_
    refine z_call_v hG (zrunV (ci := 2) hC hG (Nat.le_of_ble_eq_true rfl) (Nat.le_of_ble_eq_true rfl) (zobj hG rfl (Nat.le_of_ble_eq_true rfl) (Nat.le_of_ble_eq_true rfl)) (mJ2_clear l P G 10 rfl hV) kVX1_252 rfl rfl rfl ⟨(Nat.le_of_ble_eq_true rfl), (Nat.le_of_ble_eq_true rfl)⟩ ⟨(Nat.le_of_ble_eq_true rfl), (Nat.le_of_ble_eq_true rfl)⟩ rfl ⟨zcs_0, (Nat.le_of_ble_eq_true rfl)⟩ hL.1.1 dX1_begin_73) ?_
    rintro G1 _ _ hV hG
    refine z_aload_n hC zvr_a rfl (hL.at 1 rfl) dX1_begin_76 ?_
    refine z_iload_n hC rfl (hL.at 2 rfl) dX1_begin_77 ?_
    refine z_putF hC hG kFX1_255_1 rfl rfl rfl rfl nk_1_5 hp0 (Or.inl rfl) hV dX1_begin_78 ?_
    intro G2 _ _ hG hV
    refine z_aload_n hC zvr_a rfl (hL.at 1 rfl) dX1_begin_81 ?_
    refine z_getA hC hG kFX1_41_1 rfl rfl dX1_begin_82 ?_
    refine z_iconst hC dX1_begin_85 ?_
    refine z_iload_n hC rfl (hL.at 3 rfl) dX1_begin_86 ?_
    refine z_iast hC hG rfl (Nat.le_of_ble_eq_true rfl) (Nat.le_of_ble_eq_true rfl) rfl rfl rfl (inR_lit rfl) hp1 hV dX1_begin_87 ?_
    intro G3 _ _ hG hV
    refine z_aload_n hC zvr_a rfl (hL.at 1 rfl) dX1_begin_88 ?_
    refine z_getA hC hG kFX1_41_1 rfl rfl dX1_begin_89 ?_
    refine z_iconst hC dX1_begin_92 ?_
    refine z_iload_n hC rfl (hL.at 4 rfl) dX1_begin_93 ?_
    refine z_iast hC hG rfl (Nat.le_of_ble_eq_true rfl) (Nat.le_of_ble_eq_true rfl) rfl rfl rfl (inR_lit rfl) hp2 hV dX1_begin_94 ?_
    intro G4 _ _ hG hV
    refine z_aload_n hC zvr_a rfl (hL.at 1 rfl) dX1_begin_95 ?_
    refine z_getA hC hG kFX1_41_1 rfl rfl dX1_begin_96 ?_
    refine z_iconst hC dX1_begin_99 ?_
    refine z_iload hC (hL.at 5 rfl) dX1_begin_100 ?_
    refine z_iast hC hG rfl (Nat.le_of_ble_eq_true rfl) (Nat.le_of_ble_eq_true rfl) rfl rfl rfl (inR_lit rfl) hp3 hV dX1_begin_102 ?_
    intro G5 _ _ hG hV
    refine z_aload_n hC zvr_a rfl (hL.at 1 rfl) dX1_begin_103 ?_
    refine z_iconst hC dX1_begin_104 ?_
    refine z_putF hC hG kFX1_75_1 rfl rfl rfl rfl nk_1_11 (inR_lit rfl) (Or.inl rfl) hV dX1_begin_105 ?_
    intro G6 _ _ hG hV
    refine z_aload_n hC zvr_a rfl (hL.at 1 rfl) dX1_begin_108 ?_
    refine z_getO hC hG 1 kFX1_52_1 rfl rfl dX1_begin_109 ?_
    refine z_call_v hG (zrunV (ci := 3) hC hG (Nat.le_of_ble_eq_true rfl) (Nat.le_of_ble_eq_true rfl) (zobj hG rfl (Nat.le_of_ble_eq_true rfl) (Nat.le_of_ble_eq_true rfl)) (mX3_begin l P G6 hV) kVX1_258 rfl rfl rfl ⟨(Nat.le_of_ble_eq_true rfl), (Nat.le_of_ble_eq_true rfl)⟩ ⟨(Nat.le_of_ble_eq_true rfl), (Nat.le_of_ble_eq_true rfl)⟩ rfl ⟨zcs_0, (Nat.le_of_ble_eq_true rfl)⟩ hL.1.1 dX1_begin_112) ?_
    rintro G7 _ _ hV hG
    refine z_aload_n hC zvr_a rfl (hL.at 1 rfl) dX1_begin_115 ?_
    refine z_call_v hG (zrunV (ci := 1) hC hG (Nat.le_of_ble_eq_true rfl) (Nat.le_of_ble_eq_true rfl) (zobj hG rfl (Nat.le_of_ble_eq_true rfl) (Nat.le_of_ble_eq_true rfl)) (mX1_changed l P G7 hV) kVX1_127 rfl rfl rfl ⟨(Nat.le_of_ble_eq_true rfl), (Nat.le_of_ble_eq_true rfl)⟩ ⟨(Nat.le_of_ble_eq_true rfl), (Nat.le_of_ble_eq_true rfl)⟩ rfl ⟨zcs_0, (Nat.le_of_ble_eq_true rfl)⟩ hL.1.1 dX1_begin_116) ?_
    rintro G8 _ _ hV hG
    refine z_iload hC (hL.at 0 rfl) dX1_begin_119 ?_
    exact vx_ret (z_iret hC hG hr hk hx2 hV (Nat.le_of_ble_eq_true rfl) (Nat.le_of_ble_eq_true rfl) dX1_begin_121)
  obtain ⟨J56, eJ56, hV⟩ := zjn_abs hV
  have hJ56 : ∀ {H : Heap} {locs : List Loc}, zS P s G H locs → J56 () → ∀ (ls : Array Slot), zL ls 6 [(0, .ref (zA P 0 0 0)), (1, .int (zI p0)), (2, .int (zI p1)), (3, .int (zI p2)), (4, .int (zI p3))] → W p l e rX1_begin s m args below meth c H locs 0 0 (vx_MQ below (zQi P Q) (zXc P X) args s 1 6 (zAr P)) (F0 m 56 ls []) := by
    intro H locs hG hV ls hL
    rw [eJ56] at hV
    refine z_iconst hC dX1_begin_56 ?_
    exact hJ57 hG 0 (Or.inl rfl) hV _ hL
  refine z_if_eq (tgt := 56) hC (inR_b hx1) hV dX1_begin_6 (by decide) ?_ ?_
  · intro hV
    exact hJ56 hG hV _ hL
  · intro hV
    refine z_iload_n hC rfl (hL.at 2 rfl) dX1_begin_9 ?_
    refine z_iconst hC dX1_begin_10 ?_
    refine z_call_z hG (zrunS hC hG (mX1_isKindOf l P G p1 hp1 1 (Or.inr rfl) hV) kSX1_113 rfl rfl rfl ⟨(Nat.le_of_ble_eq_true rfl), (Nat.le_of_ble_eq_true rfl)⟩ ⟨(Nat.le_of_ble_eq_true rfl), (Nat.le_of_ble_eq_true rfl)⟩ rfl ⟨zcs_0, (Nat.le_of_ble_eq_true rfl)⟩ hL.1.1 dX1_begin_11) ?_
    rintro x3 _ _ _ hx3 ⟨rfl, hV⟩ hG
    refine z_if_eq (tgt := 56) hC (inR_b hx3) hV dX1_begin_14 (by decide) ?_ ?_
    · intro hV
      exact hJ56 hG hV _ hL
    · intro hV
      refine z_iload_n hC rfl (hL.at 3 rfl) dX1_begin_17 ?_
      refine z_iload_n hC rfl (hL.at 1 rfl) dX1_begin_18 ?_
      refine z_iconst hC dX1_begin_19 ?_
      obtain ⟨J28, eJ28, hV⟩ := zjn_abs hV
      have hJ28 : ∀ {H : Heap} {locs : List Loc}, zS P s G H locs → ∀ (z28_1 : Int), (z28_1 = 0 ∨ z28_1 = 1) → J28 z28_1 → ∀ (ls : Array Slot), zL ls 6 [(0, .ref (zA P 0 0 0)), (1, .int (zI p0)), (2, .int (zI p1)), (3, .int (zI p2)), (4, .int (zI p3))] → W p l e rX1_begin s m args below meth c H locs 0 0 (vx_MQ below (zQi P Q) (zXc P X) args s 1 6 (zAr P)) (F0 m 28 ls [.int (zI z28_1), .int (zI p2)]) := by
        intro H locs hG z28_1 hz28_1 hV ls hL
        rw [eJ28] at hV
        refine z_call_z hG (zrunS hC hG (mX1_isKindOf l P G p2 hp2 z28_1 hz28_1 hV) kSX1_113 rfl rfl rfl ⟨(Nat.le_of_ble_eq_true rfl), (Nat.le_of_ble_eq_true rfl)⟩ ⟨(Nat.le_of_ble_eq_true rfl), (Nat.le_of_ble_eq_true rfl)⟩ rfl ⟨zcs_0, (Nat.le_of_ble_eq_true rfl)⟩ hL.1.1 dX1_begin_28) ?_
        rintro x4 _ _ _ hx4 ⟨rfl, hV⟩ hG
        refine z_if_eq (tgt := 56) hC (inR_b hx4) hV dX1_begin_31 (by decide) ?_ ?_
        · intro hV
          exact hJ56 hG hV _ hL
        · intro hV
          refine z_iload hC (hL.at 4 rfl) dX1_begin_34 ?_
          refine z_iload_n hC rfl (hL.at 1 rfl) dX1_begin_36 ?_
          refine z_iconst hC dX1_begin_37 ?_
          obtain ⟨J46, eJ46, hV⟩ := zjn_abs hV
          have hJ46 : ∀ {H : Heap} {locs : List Loc}, zS P s G H locs → ∀ (z46_1 : Int), (z46_1 = 0 ∨ z46_1 = 1) → J46 z46_1 → ∀ (ls : Array Slot), zL ls 6 [(0, .ref (zA P 0 0 0)), (1, .int (zI p0)), (2, .int (zI p1)), (3, .int (zI p2)), (4, .int (zI p3))] → W p l e rX1_begin s m args below meth c H locs 0 0 (vx_MQ below (zQi P Q) (zXc P X) args s 1 6 (zAr P)) (F0 m 46 ls [.int (zI z46_1), .int (zI p3)]) := by
            intro H locs hG z46_1 hz46_1 hV ls hL
            rw [eJ46] at hV
            refine z_call_z hG (zrunS hC hG (mX1_isKindOf l P G p3 hp3 z46_1 hz46_1 hV) kSX1_113 rfl rfl rfl ⟨(Nat.le_of_ble_eq_true rfl), (Nat.le_of_ble_eq_true rfl)⟩ ⟨(Nat.le_of_ble_eq_true rfl), (Nat.le_of_ble_eq_true rfl)⟩ rfl ⟨zcs_0, (Nat.le_of_ble_eq_true rfl)⟩ hL.1.1 dX1_begin_46) ?_
            rintro x5 _ _ _ hx5 ⟨rfl, hV⟩ hG
            refine z_if_eq (tgt := 56) hC (inR_b hx5) hV dX1_begin_49 (by decide) ?_ ?_
            · intro hV
              exact hJ56 hG hV _ hL
            · intro hV
              refine z_iconst hC dX1_begin_52 ?_
              refine z_goto (tgt := 57) hC dX1_begin_53 (by decide) ?_
              exact hJ57 hG 1 (Or.inr rfl) hV _ hL
          refine z_icmp_le (tgt := 45) hC hp0 (inR_lit rfl) hV dX1_begin_38 (by decide) ?_ ?_
          · intro hV
            refine z_iconst hC dX1_begin_45 ?_
            exact hJ46 hG 0 (Or.inl rfl) hV _ hL
          · intro hV
            refine z_iconst hC dX1_begin_41 ?_
            refine z_goto (tgt := 46) hC dX1_begin_42 (by decide) ?_
            exact hJ46 hG 1 (Or.inr rfl) hV _ hL
      refine z_icmp_le (tgt := 27) hC hp0 (inR_lit rfl) hV dX1_begin_20 (by decide) ?_ ?_
      · intro hV
        refine z_iconst hC dX1_begin_27 ?_
        exact hJ28 hG 0 (Or.inl rfl) hV _ hL
      · intro hV
        refine z_iconst hC dX1_begin_23 ?_
        refine z_goto (tgt := 28) hC dX1_begin_24 (by decide) ?_
        exact hJ28 hG 1 (Or.inr rfl) hV _ hL
abbrev rX1_add : Room := { frames := 10, cells := 11, slots := 151, locals := 199 }
def vX1_add (p0 : Int) (p1 : Int) (p2 : Int) (p3 : Int) (G : ZG) (X : Nat → ZG → Prop) (Q : Int → ZG → Prop) : Prop := zgF G 0 5 fun (x1 : Int) => vJ2_size 9 G fun (x2 : Int) => vX1_requireParts x1 p0 p1 p2 x2 6 30 G X fun (G1 : ZG) => vX1_inRange p3 0 99 fun (x3 : Int) => zgF G1 0 5 fun (x4 : Int) => vX1_firstOf x4 p0 p1 p2 G1 fun (x5 : ZR) (G2 : ZG) => zl3 (fun (P45 : Int → Int → Int → Prop) (a45_5 : Int) (a45_7 : Int) (a45_8 : Int) => zgF G2 0 5 fun (x6 : Int) => zjn (fun (_ : Unit) => vX1_requireArgument a45_5 G2 X fun (_ : Unit) => zgF G2 0 5 fun (x7 : Int) => zjn (fun (z158_0 : Int) => vX1_requireState z158_0 G2 X fun (_ : Unit) => znw G2 (.inr (.inr (16, zdf 16))) fun (x8 : ZR) (G3 : ZG) => znn x8 ∧ vX16_init x8 x5 p3 G3 fun (G4 : ZG) => vJ2_add 10 x8 G4 fun (x10 : Int) (G5 : ZG) => vX1_changed G5 fun (G6 : ZG) => vJ2_size 10 G6 fun (x11 : Int) => Q (w32 (x11 - 1)) G6) fun J158 => zjn (fun (_ : Unit) => J158 0) fun J157 => zbr (x7 ≤ 0) (J157 ()) (vJ2_size 10 G2 fun (x12 : Int) => zbr (8 ≤ x12) (J157 ()) (J158 1))) fun J129 => zbr (x6 ≤ a45_8) (J129 ()) (zbr (a45_5 = 0) (J129 ()) (zeI G2 x5 a45_8 fun (x13 : Int) => vX1_told x13 G2 fun (x14 : ZR) => zaL G2 0 4 3 a45_8 fun (x15 : Int) => zisO G2 x14 9 ∧ vX9_fits x14 x15 G2 fun (x17 : Int) => zjn (fun (z104_0 : Int) => zeI G2 x5 a45_8 fun (x18 : Int) => vX1_told x18 G2 fun (x19 : ZR) => zisO G2 x19 9 ∧ vX9_names x19 G2 fun (x21 : Int) => zlt1 (bOr a45_7 x21) fun (x22 : Int) => zlt1 (w32 (a45_8 + 1)) fun (x23 : Int) => P45 z104_0 x22 x23) fun J104 => zjn (fun (_ : Unit) => J104 0) fun J103 => zbr (x17 = 0) (J103 ()) (zeI G2 x5 a45_8 fun (x24 : Int) => vX1_told x24 G2 fun (x25 : ZR) => zisO G2 x25 9 ∧ vX9_names x25 G2 fun (x27 : Int) => zbr (bAnd x27 a45_7 ≠ 0) (J103 ()) (J104 1))))) x3 0 0
set_option maxHeartbeats 4000000 in
theorem mX1_add (l : Launch) (P : ZP) (G : ZG) (p0 : Int) (hp0 : inR p0) (p1 : Int) (hp1 : inR p1) (p2 : Int) (hp2 : inR p2) (p3 : Int) (hp3 : inR p3) {X : Nat → ZG → Prop} {Q : Int → ZG → Prop} (hst : l.stackTraces = false) (hV : vX1_add p0 p1 p2 p3 G X Q) : vx_Met l yX1_add (ws_ yX1_add cX1_add 9 (some .int)) rX1_add (zPc P G [.ref (zA P 0 0 0), .int (zI p0), .int (zI p1), .int (zI p2), .int (zI p3)]) (zQi P Q) (zXc P X) 11 151 (zAr P) := by
  refine zMetX (own := RX1) rfl (by decide) (zcs_c rfl (zcs_c rfl (zcs_c rfl (zcs_c rfl (zcs_c rfl zcs_0))))) (Nat.le_of_ble_eq_true rfl) (fun p e s m args below meth c ls hC hr hk hn hnt hG hL => ?_)
  unfold vX1_add at hV
  refine z_aload_n hC zvr_a rfl (hL.at 0 rfl) dX1_add_0 ?_
  refine z_getF hC hG kFX1_255_1 rfl rfl hV dX1_add_1 ?_
  intro x1 hx1 hV
  refine z_iload_n hC rfl (hL.at 1 rfl) dX1_add_4 ?_
  refine z_iload_n hC rfl (hL.at 2 rfl) dX1_add_5 ?_
  refine z_iload_n hC rfl (hL.at 3 rfl) dX1_add_6 ?_
  refine z_aload_n hC zvr_a rfl (hL.at 0 rfl) dX1_add_7 ?_
  refine z_getO hC hG 9 kFX1_32_1 rfl rfl dX1_add_8 ?_
  refine z_call_i hG (zrunV (ci := 2) hC hG (Nat.le_of_ble_eq_true rfl) (Nat.le_of_ble_eq_true rfl) (zobj hG rfl (Nat.le_of_ble_eq_true rfl) (Nat.le_of_ble_eq_true rfl)) (mJ2_size l P G 9 rfl hV) kVX1_101 rfl rfl rfl ⟨(Nat.le_of_ble_eq_true rfl), (Nat.le_of_ble_eq_true rfl)⟩ ⟨(Nat.le_of_ble_eq_true rfl), (Nat.le_of_ble_eq_true rfl)⟩ rfl ⟨(zcs_c rfl (zcs_c rfl (zcs_c rfl (zcs_c rfl zcs_0)))), (Nat.le_of_ble_eq_true rfl)⟩ hL.1.1 dX1_add_11) ?_
  rintro x2 _ _ _ hx2 ⟨rfl, hV⟩ hG
  refine z_xcall_v hG hnt hk (zrunSX hC hG (mX1_requireParts l P G 6 30 x1 hx1 p0 hp0 p1 hp1 p2 hp2 x2 hx2 hst hV) kSX1_146 rfl rfl rfl ⟨(Nat.le_of_ble_eq_true rfl), (Nat.le_of_ble_eq_true rfl)⟩ ⟨(Nat.le_of_ble_eq_true rfl), (Nat.le_of_ble_eq_true rfl)⟩ rfl ⟨zcs_0, (Nat.le_of_ble_eq_true rfl)⟩ hL.1.1 dX1_add_14) (Nat.le_of_ble_eq_true rfl) (Nat.le_of_ble_eq_true rfl) ?_
  rintro G1 _ _ hV hG
  refine z_iload hC (hL.at 4 rfl) dX1_add_17 ?_
  refine z_iconst hC dX1_add_19 ?_
  refine z_bipush hC rfl dX1_add_20 ?_
  refine z_call_z hG (zrunS hC hG (mX1_inRange l P G1 p3 hp3 0 (inR_lit rfl) 99 (inR_lit rfl) hV) kSX1_91 rfl rfl rfl ⟨(Nat.le_of_ble_eq_true rfl), (Nat.le_of_ble_eq_true rfl)⟩ ⟨(Nat.le_of_ble_eq_true rfl), (Nat.le_of_ble_eq_true rfl)⟩ rfl ⟨zcs_0, (Nat.le_of_ble_eq_true rfl)⟩ hL.1.1 dX1_add_22) ?_
  rintro x3 _ _ _ hx3 ⟨rfl, hV⟩ hG
  refine z_istore (lv' := [(5, .int (zI x3)), (0, .ref (zA P 0 0 0)), (1, .int (zI p0)), (2, .int (zI p1)), (3, .int (zI p2)), (4, .int (zI p3))]) hC hL (by decide) rfl dX1_add_25 (fun ls hL => ?_)
  refine z_aload_n hC zvr_a rfl (hL.at 1 rfl) dX1_add_27 ?_
  refine z_getF hC hG kFX1_255_1 rfl rfl hV dX1_add_28 ?_
  intro x4 hx4 hV
  refine z_iload_n hC rfl (hL.at 2 rfl) dX1_add_31 ?_
  refine z_iload_n hC rfl (hL.at 3 rfl) dX1_add_32 ?_
  refine z_iload_n hC rfl (hL.at 4 rfl) dX1_add_33 ?_
  refine z_call_r hG (zrunS hC hG (mX1_firstOf l P G1 x4 hx4 p0 hp0 p1 hp1 p2 hp2 hV) kSX1_123 rfl rfl rfl ⟨(Nat.le_of_ble_eq_true rfl), (Nat.le_of_ble_eq_true rfl)⟩ ⟨(Nat.le_of_ble_eq_true rfl), (Nat.le_of_ble_eq_true rfl)⟩ rfl ⟨zcs_0, (Nat.le_of_ble_eq_true rfl)⟩ hL.1.1 dX1_add_34) ?_
  rintro x5 G2 _ _  hV hG
  refine z_astore (lv' := [(6, zrv P x5), (5, .int (zI x3)), (0, .ref (zA P 0 0 0)), (1, .int (zI p0)), (2, .int (zI p1)), (3, .int (zI p2)), (4, .int (zI p3))]) hC zvr_r hL (by decide) rfl dX1_add_37 (fun ls hL => ?_)
  refine z_iconst hC dX1_add_39 ?_
  refine z_istore (lv' := [(7, .int (zI 0)), (6, zrv P x5), (5, .int (zI x3)), (0, .ref (zA P 0 0 0)), (1, .int (zI p0)), (2, .int (zI p1)), (3, .int (zI p2)), (4, .int (zI p3))]) hC hL (by decide) rfl dX1_add_40 (fun ls hL => ?_)
  refine z_iconst hC dX1_add_42 ?_
  refine z_istore (lv' := [(8, .int (zI 0)), (7, .int (zI 0)), (6, zrv P x5), (5, .int (zI x3)), (0, .ref (zA P 0 0 0)), (1, .int (zI p0)), (2, .int (zI p1)), (3, .int (zI p2)), (4, .int (zI p3))]) hC hL (by decide) rfl dX1_add_43 (fun ls hL => ?_)
  refine zl3_use hV (fun (a45_5 : Int) (a45_7 : Int) (a45_8 : Int) => (a45_5 = 0 ∨ a45_5 = 1) → inR a45_7 → inR a45_8 → ∀ (H : Heap) (locs : List Loc), zS P s G2 H locs → ∀ (ls : Array Slot), zL ls 9 [(0, .ref (zA P 0 0 0)), (4, .int (zI p3)), (5, .int (zI a45_5)), (6, zrv P x5), (7, .int (zI a45_7)), (8, .int (zI a45_8))] → W p l e rX1_add s m args below meth c H locs 7 33 (vx_MQ below (zQi P Q) (zXc P X) args s 11 151 (zAr P)) (F0 m 45 ls [])) ?_ hx3 (inR_lit rfl) (inR_lit rfl) _ _ hG _ (hL.sub [4, 8, 3, 2, 1, 0] rfl)
  intro P45 a45_5 a45_7 a45_8 hP45 hV ha45_5 ha45_7 ha45_8 H locs hG ls hL
  refine z_iload hC (hL.at 5 rfl) dX1_add_45 ?_
  refine z_aload_n hC zvr_a rfl (hL.at 0 rfl) dX1_add_47 ?_
  refine z_getF hC hG kFX1_255_1 rfl rfl hV dX1_add_48 ?_
  intro x6 hx6 hV
  obtain ⟨J129, eJ129, hV⟩ := zjn_abs hV
  have hJ129 : ∀ {H : Heap} {locs : List Loc}, zS P s G2 H locs → J129 () → ∀ (ls : Array Slot), zL ls 9 [(0, .ref (zA P 0 0 0)), (4, .int (zI p3)), (5, .int (zI a45_5)), (6, zrv P x5)] → W p l e rX1_add s m args below meth c H locs 7 33 (vx_MQ below (zQi P Q) (zXc P X) args s 11 151 (zAr P)) (F0 m 129 ls []) := by
    intro H locs hG hV ls hL
    rw [eJ129] at hV
    refine z_iload hC (hL.at 2 rfl) dX1_add_129 ?_
    refine z_xcall_v hG hnt hk (zrunSX hC hG (mX1_requireArgument l P G2 a45_5 ha45_5 hst hV) kSX1_117 rfl rfl rfl ⟨(Nat.le_of_ble_eq_true rfl), (Nat.le_of_ble_eq_true rfl)⟩ ⟨(Nat.le_of_ble_eq_true rfl), (Nat.le_of_ble_eq_true rfl)⟩ rfl ⟨zcs_0, (Nat.le_of_ble_eq_true rfl)⟩ hL.1.1 dX1_add_131) (Nat.le_of_ble_eq_true rfl) (Nat.le_of_ble_eq_true rfl) ?_
    rintro _ _ _ ⟨rfl, hV⟩ hG
    refine z_aload_n hC zvr_a rfl (hL.at 0 rfl) dX1_add_134 ?_
    refine z_getF hC hG kFX1_255_1 rfl rfl hV dX1_add_135 ?_
    intro x7 hx7 hV
    obtain ⟨J158, eJ158, hV⟩ := zjn_abs hV
    have hJ158 : ∀ {H : Heap} {locs : List Loc}, zS P s G2 H locs → ∀ (z158_0 : Int), (z158_0 = 0 ∨ z158_0 = 1) → J158 z158_0 → ∀ (ls : Array Slot), zL ls 9 [(0, .ref (zA P 0 0 0)), (4, .int (zI p3)), (6, zrv P x5)] → W p l e rX1_add s m args below meth c H locs 8 39 (vx_MQ below (zQi P Q) (zXc P X) args s 11 151 (zAr P)) (F0 m 158 ls [.int (zI z158_0)]) := by
      intro H locs hG z158_0 hz158_0 hV ls hL
      rw [eJ158] at hV
      refine z_xcall_v hG hnt hk (zrunSX hC hG (mX1_requireState l P G2 z158_0 hz158_0 hst hV) kSX1_120 rfl rfl rfl ⟨(Nat.le_of_ble_eq_true rfl), (Nat.le_of_ble_eq_true rfl)⟩ ⟨(Nat.le_of_ble_eq_true rfl), (Nat.le_of_ble_eq_true rfl)⟩ rfl ⟨zcs_0, (Nat.le_of_ble_eq_true rfl)⟩ hL.1.1 dX1_add_158) (Nat.le_of_ble_eq_true rfl) (Nat.le_of_ble_eq_true rfl) ?_
      rintro _ _ _ ⟨rfl, hV⟩ hG
      refine z_aload_n hC zvr_a rfl (hL.at 0 rfl) dX1_add_161 ?_
      refine z_getO hC hG 10 kFX1_44_1 rfl rfl dX1_add_162 ?_
      refine z_new (ci := 16) (n := 6) hC hG (Nat.le_of_ble_eq_true rfl) (Nat.le_of_ble_eq_true rfl) rfl q971 q972 q129 hV (Nat.le_of_ble_eq_true rfl) (Nat.le_of_ble_eq_true rfl) dX1_add_165 ?_
      intro x8 G3 _ hG hV
      refine z_dup hC (zrv_cat _ _) dX1_add_168 ?_
      refine z_aload hC zvr_r (hL.at 2 rfl) dX1_add_169 ?_
      refine z_iload hC (hL.at 1 rfl) dX1_add_171 ?_
      obtain ⟨hO9, hV⟩ := hV
      refine z_call_v hG (zrunI hC hG hO9 (mX16_init l P G3 x8 x5 p3 hp3 hV) kIX1_263 rfl rfl rfl ⟨(Nat.le_of_ble_eq_true rfl), (Nat.le_of_ble_eq_true rfl)⟩ ⟨(Nat.le_of_ble_eq_true rfl), (Nat.le_of_ble_eq_true rfl)⟩ rfl ⟨(zcs_c (zrv_cat _ _) (zcs_c rfl zcs_0)), (Nat.le_of_ble_eq_true rfl)⟩ hL.1.1 dX1_add_173) ?_
      rintro G4 _ _ hV hG
      refine z_call_z hG (zrunV (ci := 2) hC hG (Nat.le_of_ble_eq_true rfl) (Nat.le_of_ble_eq_true rfl) (zobj hG rfl (Nat.le_of_ble_eq_true rfl) (Nat.le_of_ble_eq_true rfl)) (mJ2_add l P G4 10 rfl x8 hV) kVX1_79 rfl rfl rfl ⟨(Nat.le_of_ble_eq_true rfl), (Nat.le_of_ble_eq_true rfl)⟩ ⟨(Nat.le_of_ble_eq_true rfl), (Nat.le_of_ble_eq_true rfl)⟩ rfl ⟨zcs_0, (Nat.le_of_ble_eq_true rfl)⟩ hL.1.1 dX1_add_176) ?_
      rintro x10 G5 _ _ hx10 hV hG
      refine z_pop hC rfl dX1_add_179 ?_
      refine z_aload_n hC zvr_a rfl (hL.at 0 rfl) dX1_add_180 ?_
      refine z_call_v hG (zrunV (ci := 1) hC hG (Nat.le_of_ble_eq_true rfl) (Nat.le_of_ble_eq_true rfl) (zobj hG rfl (Nat.le_of_ble_eq_true rfl) (Nat.le_of_ble_eq_true rfl)) (mX1_changed l P G5 hV) kVX1_127 rfl rfl rfl ⟨(Nat.le_of_ble_eq_true rfl), (Nat.le_of_ble_eq_true rfl)⟩ ⟨(Nat.le_of_ble_eq_true rfl), (Nat.le_of_ble_eq_true rfl)⟩ rfl ⟨zcs_0, (Nat.le_of_ble_eq_true rfl)⟩ hL.1.1 dX1_add_181) ?_
      rintro G6 _ _ hV hG
      refine z_aload_n hC zvr_a rfl (hL.at 0 rfl) dX1_add_184 ?_
      refine z_getO hC hG 10 kFX1_44_1 rfl rfl dX1_add_185 ?_
      refine z_call_i hG (zrunV (ci := 2) hC hG (Nat.le_of_ble_eq_true rfl) (Nat.le_of_ble_eq_true rfl) (zobj hG rfl (Nat.le_of_ble_eq_true rfl) (Nat.le_of_ble_eq_true rfl)) (mJ2_size l P G6 10 rfl hV) kVX1_101 rfl rfl rfl ⟨(Nat.le_of_ble_eq_true rfl), (Nat.le_of_ble_eq_true rfl)⟩ ⟨(Nat.le_of_ble_eq_true rfl), (Nat.le_of_ble_eq_true rfl)⟩ rfl ⟨zcs_0, (Nat.le_of_ble_eq_true rfl)⟩ hL.1.1 dX1_add_188) ?_
      rintro x11 _ _ _ hx11 ⟨rfl, hV⟩ hG
      refine z_iconst hC dX1_add_191 ?_
      refine z_isub hC dX1_add_192 ?_
      exact vx_ret (z_iret hC hG hr hk (inR_w _) hV (Nat.le_of_ble_eq_true rfl) (Nat.le_of_ble_eq_true rfl) dX1_add_193)
    obtain ⟨J157, eJ157, hV⟩ := zjn_abs hV
    have hJ157 : ∀ {H : Heap} {locs : List Loc}, zS P s G2 H locs → J157 () → ∀ (ls : Array Slot), zL ls 9 [(0, .ref (zA P 0 0 0)), (4, .int (zI p3)), (6, zrv P x5)] → W p l e rX1_add s m args below meth c H locs 8 39 (vx_MQ below (zQi P Q) (zXc P X) args s 11 151 (zAr P)) (F0 m 157 ls []) := by
      intro H locs hG hV ls hL
      rw [eJ157] at hV
      refine z_iconst hC dX1_add_157 ?_
      exact hJ158 hG 0 (Or.inl rfl) hV _ hL
    refine z_if_le (tgt := 157) hC hx7 hV dX1_add_138 (by decide) ?_ ?_
    · intro hV
      exact hJ157 hG hV _ (hL.sub [0, 1, 3] rfl)
    · intro hV
      refine z_aload_n hC zvr_a rfl (hL.at 0 rfl) dX1_add_141 ?_
      refine z_getO hC hG 10 kFX1_44_1 rfl rfl dX1_add_142 ?_
      refine z_call_i hG (zrunV (ci := 2) hC hG (Nat.le_of_ble_eq_true rfl) (Nat.le_of_ble_eq_true rfl) (zobj hG rfl (Nat.le_of_ble_eq_true rfl) (Nat.le_of_ble_eq_true rfl)) (mJ2_size l P G2 10 rfl hV) kVX1_101 rfl rfl rfl ⟨(Nat.le_of_ble_eq_true rfl), (Nat.le_of_ble_eq_true rfl)⟩ ⟨(Nat.le_of_ble_eq_true rfl), (Nat.le_of_ble_eq_true rfl)⟩ rfl ⟨zcs_0, (Nat.le_of_ble_eq_true rfl)⟩ hL.1.1 dX1_add_145) ?_
      rintro x12 _ _ _ hx12 ⟨rfl, hV⟩ hG
      refine z_bipush hC rfl dX1_add_148 ?_
      refine z_icmp_ge (tgt := 157) hC hx12 (inR_lit rfl) hV dX1_add_150 (by decide) ?_ ?_
      · intro hV
        exact hJ157 hG hV _ (hL.sub [0, 1, 3] rfl)
      · intro hV
        refine z_iconst hC dX1_add_153 ?_
        refine z_goto (tgt := 158) hC dX1_add_154 (by decide) ?_
        exact hJ158 hG 1 (Or.inr rfl) hV _ (hL.sub [0, 1, 3] rfl)
  refine z_icmp_ge (tgt := 129) hC ha45_8 hx6 hV dX1_add_51 (by decide) ?_ ?_
  · intro hV
    exact hJ129 hG hV _ (hL.sub [0, 1, 2, 3] rfl)
  · intro hV
    refine z_iload hC (hL.at 2 rfl) dX1_add_54 ?_
    refine z_if_eq (tgt := 129) hC (inR_b ha45_5) hV dX1_add_56 (by decide) ?_ ?_
    · intro hV
      exact hJ129 hG hV _ (hL.sub [0, 1, 2, 3] rfl)
    · intro hV
      refine z_aload_n hC zvr_a rfl (hL.at 0 rfl) dX1_add_59 ?_
      refine z_aload hC zvr_r (hL.at 3 rfl) dX1_add_60 ?_
      refine z_iload hC (hL.at 5 rfl) dX1_add_62 ?_
      refine z_eald hC hG ha45_8 hV dX1_add_64 ?_
      intro x13 hx13 hV
      refine z_call_r hG (zrunV (ci := 1) hC hG (Nat.le_of_ble_eq_true rfl) (Nat.le_of_ble_eq_true rfl) (zobj hG rfl (Nat.le_of_ble_eq_true rfl) (Nat.le_of_ble_eq_true rfl)) (mX1_told l P G2 x13 hx13 hV) kVX1_170 rfl rfl rfl ⟨(Nat.le_of_ble_eq_true rfl), (Nat.le_of_ble_eq_true rfl)⟩ ⟨(Nat.le_of_ble_eq_true rfl), (Nat.le_of_ble_eq_true rfl)⟩ rfl ⟨zcs_0, (Nat.le_of_ble_eq_true rfl)⟩ hL.1.1 dX1_add_65) ?_
      rintro x14 _ _ _  ⟨rfl, hV⟩ hG
      refine z_aload_n hC zvr_a rfl (hL.at 0 rfl) dX1_add_68 ?_
      refine z_getA hC hG kFX1_41_1 rfl rfl dX1_add_69 ?_
      refine z_iload hC (hL.at 5 rfl) dX1_add_72 ?_
      refine z_iald hC hG rfl rfl rfl ha45_8 hV dX1_add_74 ?_
      intro x15 hx15 hV
      obtain ⟨hO16, hV⟩ := hV
      refine z_call_z hG (zrunVD hC hG hO16 (mX9_fits l P G2 x14 x15 hx15 hV) kVX1_206 rfl rfl rfl ⟨(Nat.le_of_ble_eq_true rfl), (Nat.le_of_ble_eq_true rfl)⟩ ⟨(Nat.le_of_ble_eq_true rfl), (Nat.le_of_ble_eq_true rfl)⟩ rfl ⟨zcs_0, (Nat.le_of_ble_eq_true rfl)⟩ hL.1.1 dX1_add_75) ?_
      rintro x17 _ _ _ hx17 ⟨rfl, hV⟩ hG
      obtain ⟨J104, eJ104, hV⟩ := zjn_abs hV
      have hJ104 : ∀ {H : Heap} {locs : List Loc}, zS P s G2 H locs → ∀ (z104_0 : Int), (z104_0 = 0 ∨ z104_0 = 1) → J104 z104_0 → ∀ (ls : Array Slot), zL ls 9 [(0, .ref (zA P 0 0 0)), (4, .int (zI p3)), (6, zrv P x5), (7, .int (zI a45_7)), (8, .int (zI a45_8))] → W p l e rX1_add s m args below meth c H locs 7 33 (vx_MQ below (zQi P Q) (zXc P X) args s 11 151 (zAr P)) (F0 m 104 ls [.int (zI z104_0)]) := by
        intro H locs hG z104_0 hz104_0 hV ls hL
        rw [eJ104] at hV
        refine z_istore (lv' := [(5, .int (zI z104_0)), (0, .ref (zA P 0 0 0)), (4, .int (zI p3)), (6, zrv P x5), (7, .int (zI a45_7)), (8, .int (zI a45_8))]) hC hL (by decide) rfl dX1_add_104 (fun ls hL => ?_)
        refine z_iload hC (hL.at 4 rfl) dX1_add_106 ?_
        refine z_aload_n hC zvr_a rfl (hL.at 1 rfl) dX1_add_108 ?_
        refine z_aload hC zvr_r (hL.at 3 rfl) dX1_add_109 ?_
        refine z_iload hC (hL.at 5 rfl) dX1_add_111 ?_
        refine z_eald hC hG ha45_8 hV dX1_add_113 ?_
        intro x18 hx18 hV
        refine z_call_r hG (zrunV (ci := 1) hC hG (Nat.le_of_ble_eq_true rfl) (Nat.le_of_ble_eq_true rfl) (zobj hG rfl (Nat.le_of_ble_eq_true rfl) (Nat.le_of_ble_eq_true rfl)) (mX1_told l P G2 x18 hx18 hV) kVX1_170 rfl rfl rfl ⟨(Nat.le_of_ble_eq_true rfl), (Nat.le_of_ble_eq_true rfl)⟩ ⟨(Nat.le_of_ble_eq_true rfl), (Nat.le_of_ble_eq_true rfl)⟩ rfl ⟨(zcs_c rfl zcs_0), (Nat.le_of_ble_eq_true rfl)⟩ hL.1.1 dX1_add_114) ?_
        rintro x19 _ _ _  ⟨rfl, hV⟩ hG
        obtain ⟨hO20, hV⟩ := hV
        refine z_call_i hG (zrunVD hC hG hO20 (mX9_names l P G2 x19 hV) kVX1_174 rfl rfl rfl ⟨(Nat.le_of_ble_eq_true rfl), (Nat.le_of_ble_eq_true rfl)⟩ ⟨(Nat.le_of_ble_eq_true rfl), (Nat.le_of_ble_eq_true rfl)⟩ rfl ⟨(zcs_c rfl zcs_0), (Nat.le_of_ble_eq_true rfl)⟩ hL.1.1 dX1_add_117) ?_
        rintro x21 _ _ _ hx21 ⟨rfl, hV⟩ hG
        refine z_ior hC dX1_add_120 ?_
        refine z_top hV (inR_toInt _) ?_
        intro x22 hx22 hV
        refine z_istore (lv' := [(7, .int (zI x22)), (5, .int (zI z104_0)), (0, .ref (zA P 0 0 0)), (4, .int (zI p3)), (6, zrv P x5), (8, .int (zI a45_8))]) hC hL (by decide) rfl dX1_add_121 (fun ls hL => ?_)
        refine z_iincV (fun x23 => [(8, .int (zI x23)), (7, .int (zI x22)), (5, .int (zI z104_0)), (0, .ref (zA P 0 0 0)), (4, .int (zI p3)), (6, zrv P x5)]) hC hL (k := 5) rfl (by decide) (fun _ => rfl) hV dX1_add_123 ?_
        intro x23 hx23 hV ls hL
        refine z_goto (tgt := 45) hC dX1_add_126 (by decide) ?_
        exact hP45 z104_0 x22 x23 hV hz104_0 hx22 hx23 _ _ hG _ (hL.sub [3, 4, 2, 5, 1, 0] rfl)
      obtain ⟨J103, eJ103, hV⟩ := zjn_abs hV
      have hJ103 : ∀ {H : Heap} {locs : List Loc}, zS P s G2 H locs → J103 () → ∀ (ls : Array Slot), zL ls 9 [(0, .ref (zA P 0 0 0)), (4, .int (zI p3)), (6, zrv P x5), (7, .int (zI a45_7)), (8, .int (zI a45_8))] → W p l e rX1_add s m args below meth c H locs 7 33 (vx_MQ below (zQi P Q) (zXc P X) args s 11 151 (zAr P)) (F0 m 103 ls []) := by
        intro H locs hG hV ls hL
        rw [eJ103] at hV
        refine z_iconst hC dX1_add_103 ?_
        exact hJ104 hG 0 (Or.inl rfl) hV _ hL
      refine z_if_eq (tgt := 103) hC (inR_b hx17) hV dX1_add_78 (by decide) ?_ ?_
      · intro hV
        exact hJ103 hG hV _ (hL.sub [0, 1, 3, 4, 5] rfl)
      · intro hV
        refine z_aload_n hC zvr_a rfl (hL.at 0 rfl) dX1_add_81 ?_
        refine z_aload hC zvr_r (hL.at 3 rfl) dX1_add_82 ?_
        refine z_iload hC (hL.at 5 rfl) dX1_add_84 ?_
        refine z_eald hC hG ha45_8 hV dX1_add_86 ?_
        intro x24 hx24 hV
        refine z_call_r hG (zrunV (ci := 1) hC hG (Nat.le_of_ble_eq_true rfl) (Nat.le_of_ble_eq_true rfl) (zobj hG rfl (Nat.le_of_ble_eq_true rfl) (Nat.le_of_ble_eq_true rfl)) (mX1_told l P G2 x24 hx24 hV) kVX1_170 rfl rfl rfl ⟨(Nat.le_of_ble_eq_true rfl), (Nat.le_of_ble_eq_true rfl)⟩ ⟨(Nat.le_of_ble_eq_true rfl), (Nat.le_of_ble_eq_true rfl)⟩ rfl ⟨zcs_0, (Nat.le_of_ble_eq_true rfl)⟩ hL.1.1 dX1_add_87) ?_
        rintro x25 _ _ _  ⟨rfl, hV⟩ hG
        obtain ⟨hO26, hV⟩ := hV
        refine z_call_i hG (zrunVD hC hG hO26 (mX9_names l P G2 x25 hV) kVX1_174 rfl rfl rfl ⟨(Nat.le_of_ble_eq_true rfl), (Nat.le_of_ble_eq_true rfl)⟩ ⟨(Nat.le_of_ble_eq_true rfl), (Nat.le_of_ble_eq_true rfl)⟩ rfl ⟨zcs_0, (Nat.le_of_ble_eq_true rfl)⟩ hL.1.1 dX1_add_90) ?_
        rintro x27 _ _ _ hx27 ⟨rfl, hV⟩ hG
        refine z_iload hC (hL.at 4 rfl) dX1_add_93 ?_
        refine z_iand hC dX1_add_95 ?_
        refine z_if_ne (tgt := 103) hC (inR_toInt _) hV dX1_add_96 (by decide) ?_ ?_
        · intro hV
          exact hJ103 hG hV _ (hL.sub [0, 1, 3, 4, 5] rfl)
        · intro hV
          refine z_iconst hC dX1_add_99 ?_
          refine z_goto (tgt := 104) hC dX1_add_100 (by decide) ?_
          exact hJ104 hG 1 (Or.inr rfl) hV _ (hL.sub [0, 1, 3, 4, 5] rfl)
abbrev rX1_caseAt : Room := { frames := 9, cells := 1, slots := 6, locals := 120 }
def vX1_caseAt (p0 : Int) (G : ZG) (X : Nat → ZG → Prop) (Q : ZR → Prop) : Prop := vJ2_size 10 G fun (x1 : Int) => vX1_inRange p0 0 (w32 (x1 - 1)) fun (x2 : Int) => vX1_requireIndex x2 G X fun (_ : Unit) => vJ2_get 10 p0 G fun (x3 : ZR) => zca G x3 16 ∧ Q x3
set_option maxHeartbeats 4000000 in
theorem mX1_caseAt (l : Launch) (P : ZP) (G : ZG) (p0 : Int) (hp0 : inR p0) {X : Nat → ZG → Prop} {Q : ZR → Prop} (hst : l.stackTraces = false) (hV : vX1_caseAt p0 G X Q) : vx_Met l yX1_caseAt (ws_ yX1_caseAt cX1_caseAt 2 (some (.object "Patternforge$Case"))) rX1_caseAt (zPc P G [.ref (zA P 0 0 0), .int (zI p0)]) (zQr P (fun r G2 => G = G2 ∧ Q r)) (zXc P X) 1 6 (zAr P) := by
  refine zMetX (own := RX1) rfl (by decide) (zcs_c rfl (zcs_c rfl zcs_0)) (Nat.le_of_ble_eq_true rfl) (fun p e s m args below meth c ls hC hr hk hn hnt hG hL => ?_)
  unfold vX1_caseAt at hV
  refine z_iload_n hC rfl (hL.at 1 rfl) dX1_caseAt_0 ?_
  refine z_iconst hC dX1_caseAt_1 ?_
  refine z_aload_n hC zvr_a rfl (hL.at 0 rfl) dX1_caseAt_2 ?_
  refine z_getO hC hG 10 kFX1_44_1 rfl rfl dX1_caseAt_3 ?_
  refine z_call_i hG (zrunV (ci := 2) hC hG (Nat.le_of_ble_eq_true rfl) (Nat.le_of_ble_eq_true rfl) (zobj hG rfl (Nat.le_of_ble_eq_true rfl) (Nat.le_of_ble_eq_true rfl)) (mJ2_size l P G 10 rfl hV) kVX1_101 rfl rfl rfl ⟨(Nat.le_of_ble_eq_true rfl), (Nat.le_of_ble_eq_true rfl)⟩ ⟨(Nat.le_of_ble_eq_true rfl), (Nat.le_of_ble_eq_true rfl)⟩ rfl ⟨(zcs_c rfl (zcs_c rfl zcs_0)), (Nat.le_of_ble_eq_true rfl)⟩ hL.1.1 dX1_caseAt_6) ?_
  rintro x1 _ _ _ hx1 ⟨rfl, hV⟩ hG
  refine z_iconst hC dX1_caseAt_9 ?_
  refine z_isub hC dX1_caseAt_10 ?_
  refine z_call_z hG (zrunS hC hG (mX1_inRange l P G p0 hp0 0 (inR_lit rfl) (w32 (x1 - 1)) (inR_w _) hV) kSX1_91 rfl rfl rfl ⟨(Nat.le_of_ble_eq_true rfl), (Nat.le_of_ble_eq_true rfl)⟩ ⟨(Nat.le_of_ble_eq_true rfl), (Nat.le_of_ble_eq_true rfl)⟩ rfl ⟨zcs_0, (Nat.le_of_ble_eq_true rfl)⟩ hL.1.1 dX1_caseAt_11) ?_
  rintro x2 _ _ _ hx2 ⟨rfl, hV⟩ hG
  refine z_xcall_v hG hnt hk (zrunSX hC hG (mX1_requireIndex l P G x2 hx2 hst hV) kSX1_105 rfl rfl rfl ⟨(Nat.le_of_ble_eq_true rfl), (Nat.le_of_ble_eq_true rfl)⟩ ⟨(Nat.le_of_ble_eq_true rfl), (Nat.le_of_ble_eq_true rfl)⟩ rfl ⟨zcs_0, (Nat.le_of_ble_eq_true rfl)⟩ hL.1.1 dX1_caseAt_14) (Nat.le_of_ble_eq_true rfl) (Nat.le_of_ble_eq_true rfl) ?_
  rintro _ _ _ ⟨rfl, hV⟩ hG
  refine z_aload_n hC zvr_a rfl (hL.at 0 rfl) dX1_caseAt_17 ?_
  refine z_getO hC hG 10 kFX1_44_1 rfl rfl dX1_caseAt_18 ?_
  refine z_iload_n hC rfl (hL.at 1 rfl) dX1_caseAt_21 ?_
  refine z_call_r hG (zrunV (ci := 2) hC hG (Nat.le_of_ble_eq_true rfl) (Nat.le_of_ble_eq_true rfl) (zobj hG rfl (Nat.le_of_ble_eq_true rfl) (Nat.le_of_ble_eq_true rfl)) (mJ2_get l P G 10 rfl p0 hp0 hV) kVX1_95 rfl rfl rfl ⟨(Nat.le_of_ble_eq_true rfl), (Nat.le_of_ble_eq_true rfl)⟩ ⟨(Nat.le_of_ble_eq_true rfl), (Nat.le_of_ble_eq_true rfl)⟩ rfl ⟨zcs_0, (Nat.le_of_ble_eq_true rfl)⟩ hL.1.1 dX1_caseAt_22) ?_
  rintro x3 _ _ _  ⟨rfl, hV⟩ hG
  refine z_cast hC hG (ci := 16) (Nat.le_of_ble_eq_true rfl) (Nat.le_of_ble_eq_true rfl) q971 hV dX1_caseAt_25 (fun hV => ?_)
  exact vx_ret (z_aret (r := x3) hC hG hr hk (Or.inl ⟨_, rfl⟩) ⟨rfl, hV⟩ (Nat.le_of_ble_eq_true rfl) (Nat.le_of_ble_eq_true rfl) dX1_caseAt_28)
def bX1_isNumberIn_2 (wX1_isNumberIn_2 : ZR → Int → Int → ZG → (Int → Prop) → Prop) (p0 : ZR) (p1 : Int) (p2 : Int) (G : ZG) (Q : Int → Prop) : Prop := ziO G p0 10 fun (x1 : Int) => zbr (x1 = 0) (ziO G p0 13 fun (x2 : Int) => zbr (x2 = 0) (ziO G p0 12 fun (x3 : Int) => zjn (fun (y188_4 : Int) => Q y188_4) fun J188 => zbr (x3 = 0) (J188 1) (zca G p0 12 ∧ zisO G p0 12 ∧ vX12_type p0 G fun (x5 : Int) => vJ2_get 7 x5 G fun (x6 : ZR) => zcaL x6 2 fun (o7 : Nat) => zisO G p0 12 ∧ vX12_constructor p0 G fun (x9 : Int) => vJ2_get o7 x9 G fun (x10 : ZR) => zcaI G x10 ∧ zl2 (fun (P141 : Int → Int → Prop) (a141_4 : Int) (a141_7 : Int) => zeN G x10 fun (x11 : Int) => zbr (x11 ≤ a141_7) (J188 a141_4) (zjn (fun (z180_0 : Int) => zlt1 (w32 (a141_7 + 1)) fun (x12 : Int) => P141 z180_0 x12) fun J180 => zjn (fun (_ : Unit) => J180 0) fun J179 => zbr (a141_4 = 0) (J179 ()) (zisO G p0 12 ∧ vX12_fields p0 G fun (x14 : ZR) => zeR G x14 a141_7 fun (x15 : ZR) => zeI G x10 a141_7 fun (x16 : Int) => wX1_isNumberIn_2 x15 p1 x16 G fun (x17 : Int) => zbr (x17 = 0) (J179 ()) (J180 1)))) 1 0)) (zca G p0 13 ∧ zisO G p0 13 ∧ vX13_first p0 G fun (x19 : ZR) => wX1_isNumberIn_2 x19 p1 p2 G fun (x20 : Int) => zjn (fun (z93_0 : Int) => Q z93_0) fun J93 => zjn (fun (_ : Unit) => J93 0) fun J92 => zbr (x20 = 0) (J92 ()) (zisO G p0 13 ∧ vX13_second p0 G fun (x22 : ZR) => wX1_isNumberIn_2 x22 p1 p2 G fun (x23 : Int) => zbr (x23 = 0) (J92 ()) (J93 1)))) (zca G p0 10 ∧ zisO G p0 10 ∧ vX10_name p0 G fun (x25 : Int) => zjn (fun (z46_0 : Int) => Q z46_0) fun J46 => zjn (fun (_ : Unit) => J46 0) fun J45 => zjn (fun (_ : Unit) => zisO G p0 10 ∧ vX10_of p0 G fun (x27 : ZR) => wX1_isNumberIn_2 x27 p1 p2 G fun (x28 : Int) => zbr (x28 = 0) (J45 ()) (J46 1)) fun J27 => zbr (x25 ≠ p1) (J27 ()) (zbr (p2 ≠ 4) (J45 ()) (J27 ())))
set_option maxHeartbeats 4000000 in
theorem sX1_isNumberIn_2 (l : Launch) (P : ZP) {rf rl : Nat} (hrf : 4 ≤ rf) (hrl : 76 ≤ rl) (wX1_isNumberIn_2 : ZR → Int → Int → ZG → (Int → Prop) → Prop) (ihX1_isNumberIn_2 : ∀ (G : ZG) (p0 : ZR) (p1 : Int) (hp1 : inR p1) (p2 : Int) (hp2 : inR p2) {Q : Int → Prop}, wX1_isNumberIn_2 p0 p1 p2 G Q → Met l yX1_isNumberIn_2 (ws_ yX1_isNumberIn_2 cX1_isNumberIn_2 8 (some .boolean)) ({ frames := rf, cells := 0, slots := 0, locals := rl } : Room) (zPc P G [.ref (zA P 0 0 0), zrv P p0, .int (zI p1), .int (zI p2)]) (zQz P (fun r G2 => G = G2 ∧ Q r)) 0 0 (zAr P)) (G : ZG) (p0 : ZR) (p1 : Int) (hp1 : inR p1) (p2 : Int) (hp2 : inR p2) {Q : Int → Prop} (hV : bX1_isNumberIn_2 wX1_isNumberIn_2 p0 p1 p2 G Q) : Met l yX1_isNumberIn_2 (ws_ yX1_isNumberIn_2 cX1_isNumberIn_2 8 (some .boolean)) ({ frames := rf + 1, cells := 0, slots := 0, locals := rl + 27 } : Room) (zPc P G [.ref (zA P 0 0 0), zrv P p0, .int (zI p1), .int (zI p2)]) (zQz P (fun r G2 => G = G2 ∧ Q r)) 0 0 (zAr P) := by
  refine zMet RX1 (plainFor_of_name (by decide)) rfl (zcs_c rfl (zcs_c (zrv_cat _ _) (zcs_c rfl (zcs_c rfl zcs_0)))) (Nat.le_of_ble_eq_true rfl) (fun p e s m args below meth c ls hC hr hk hn hG hL => ?_)
  unfold bX1_isNumberIn_2 at hV
  refine z_aload_n hC zvr_r rfl (hL.at 1 rfl) dX1_isNumberIn_2_0 ?_
  refine z_inst hC hG (ci := 10) (by decide) q779 hV dX1_isNumberIn_2_1 ?_
  intro x1 hx1 hV
  refine z_if_eq (tgt := 47) hC (inR_b hx1) hV dX1_isNumberIn_2_4 (by decide) ?_ ?_
  · intro hV
    refine z_aload_n hC zvr_r rfl (hL.at 1 rfl) dX1_isNumberIn_2_47 ?_
    refine z_inst hC hG (ci := 13) (by decide) q884 hV dX1_isNumberIn_2_48 ?_
    intro x2 hx2 hV
    refine z_if_eq (tgt := 94) hC (inR_b hx2) hV dX1_isNumberIn_2_51 (by decide) ?_ ?_
    · intro hV
      refine z_iconst hC dX1_isNumberIn_2_94 ?_
      refine z_istore (lv' := [(4, .int (zI 1)), (0, .ref (zA P 0 0 0)), (1, zrv P p0), (2, .int (zI p1)), (3, .int (zI p2))]) hC hL (by decide) rfl dX1_isNumberIn_2_95 (fun ls hL => ?_)
      refine z_aload_n hC zvr_r rfl (hL.at 2 rfl) dX1_isNumberIn_2_97 ?_
      refine z_inst hC hG (ci := 12) (by decide) q839 hV dX1_isNumberIn_2_98 ?_
      intro x3 hx3 hV
      obtain ⟨J188, eJ188, hV⟩ := zjn_abs hV
      have hJ188 : ∀ {H : Heap} {locs : List Loc}, zS P s G H locs → ∀ (y188_4 : Int), (y188_4 = 0 ∨ y188_4 = 1) → J188 y188_4 → ∀ (ls : Array Slot), zL ls 8 [(4, .int (zI y188_4))] → W p l e ({ frames := rf + 1, cells := 0, slots := 0, locals := rl + 27 } : Room) s m args below meth c H locs 0 0 (MQ below (zQz P (fun r G2 => G = G2 ∧ Q r)) args s 0 0 (zAr P)) (F0 m 188 ls []) := by
        intro H locs hG y188_4 hy188_4 hV ls hL
        rw [eJ188] at hV
        refine z_iload hC (hL.at 0 rfl) dX1_isNumberIn_2_188 ?_
        exact z_zret hC hG hr hk hy188_4 ⟨rfl, hV⟩ (Nat.le_of_ble_eq_true rfl) (Nat.le_of_ble_eq_true rfl) dX1_isNumberIn_2_190
      refine z_if_eq (tgt := 188) hC (inR_b hx3) hV dX1_isNumberIn_2_101 (by decide) ?_ ?_
      · intro hV
        exact hJ188 hG 1 (Or.inr rfl) hV _ (hL.sub [0] rfl)
      · intro hV
        refine z_aload_n hC zvr_r rfl (hL.at 2 rfl) dX1_isNumberIn_2_104 ?_
        refine z_cast hC hG (ci := 12) (Nat.le_of_ble_eq_true rfl) (Nat.le_of_ble_eq_true rfl) q839 hV dX1_isNumberIn_2_105 (fun hV => ?_)
        refine z_astore (lv' := [(5, zrv P p0), (4, .int (zI 1)), (0, .ref (zA P 0 0 0)), (1, zrv P p0), (2, .int (zI p1)), (3, .int (zI p2))]) hC zvr_r hL (by decide) rfl dX1_isNumberIn_2_108 (fun ls hL => ?_)
        refine z_aload_n hC zvr_a rfl (hL.at 2 rfl) dX1_isNumberIn_2_110 ?_
        refine z_getO hC hG 7 kFX1_25_1 rfl rfl dX1_isNumberIn_2_111 ?_
        refine z_aload hC zvr_r (hL.at 0 rfl) dX1_isNumberIn_2_114 ?_
        obtain ⟨hO4, hV⟩ := hV
        refine z_call_i hG (zrunVD hC hG hO4 (mX12_type l P G p0 hV) kVX1_282 rfl rfl rfl ⟨(by show 1 + 1 ≤ rf + 1; omega), (by show 8 + (1 + 11) + 12 ≤ rl + 27; omega)⟩ ⟨(Nat.le_of_ble_eq_true rfl), (Nat.le_of_ble_eq_true rfl)⟩ rfl ⟨(zcs_c rfl zcs_0), (Nat.le_of_ble_eq_true rfl)⟩ hL.1.1 dX1_isNumberIn_2_116) ?_
        rintro x5 _ _ _ hx5 ⟨rfl, hV⟩ hG
        refine z_call_r hG (zrunV (ci := 2) hC hG (Nat.le_of_ble_eq_true rfl) (Nat.le_of_ble_eq_true rfl) (zobj hG rfl (Nat.le_of_ble_eq_true rfl) (Nat.le_of_ble_eq_true rfl)) (mJ2_get l P G 7 rfl x5 hx5 hV) kVX1_95 rfl rfl rfl ⟨(by show 3 + 1 ≤ rf + 1; omega), (by show 8 + (2 + 11) + 55 ≤ rl + 27; omega)⟩ ⟨(Nat.le_of_ble_eq_true rfl), (Nat.le_of_ble_eq_true rfl)⟩ rfl ⟨zcs_0, (Nat.le_of_ble_eq_true rfl)⟩ hL.1.1 dX1_isNumberIn_2_119) ?_
        rintro x6 _ _ _  ⟨rfl, hV⟩ hG
        refine z_castL hC hG (ci := 2) (Nat.le_of_ble_eq_true rfl) (Nat.le_of_ble_eq_true rfl) q145 hV dX1_isNumberIn_2_122 ?_
        intro o7 ho7 hV
        refine z_aload hC zvr_r (hL.at 0 rfl) dX1_isNumberIn_2_125 ?_
        obtain ⟨hO8, hV⟩ := hV
        refine z_call_i hG (zrunVD hC hG hO8 (mX12_constructor l P G p0 hV) kVX1_285 rfl rfl rfl ⟨(by show 1 + 1 ≤ rf + 1; omega), (by show 8 + (1 + 11) + 12 ≤ rl + 27; omega)⟩ ⟨(Nat.le_of_ble_eq_true rfl), (Nat.le_of_ble_eq_true rfl)⟩ rfl ⟨(zcs_c rfl zcs_0), (Nat.le_of_ble_eq_true rfl)⟩ hL.1.1 dX1_isNumberIn_2_127) ?_
        rintro x9 _ _ _ hx9 ⟨rfl, hV⟩ hG
        refine z_call_r hG (zrunV (ci := 2) hC hG (Nat.le_of_ble_eq_true rfl) (Nat.le_of_ble_eq_true rfl) (zobj hG ho7 (Nat.le_of_ble_eq_true rfl) (Nat.le_of_ble_eq_true rfl)) (mJ2_get l P G o7 ho7 x9 hx9 hV) kVX1_95 rfl rfl rfl ⟨(by show 3 + 1 ≤ rf + 1; omega), (by show 8 + (2 + 11) + 55 ≤ rl + 27; omega)⟩ ⟨(Nat.le_of_ble_eq_true rfl), (Nat.le_of_ble_eq_true rfl)⟩ rfl ⟨zcs_0, (Nat.le_of_ble_eq_true rfl)⟩ hL.1.1 dX1_isNumberIn_2_130) ?_
        rintro x10 _ _ _  ⟨rfl, hV⟩ hG
        refine z_castI hC hG q171 hV dX1_isNumberIn_2_133 (fun hV => ?_)
        refine z_astore (lv' := [(6, zrv P x10), (5, zrv P p0), (4, .int (zI 1)), (0, .ref (zA P 0 0 0)), (1, zrv P p0), (2, .int (zI p1)), (3, .int (zI p2))]) hC zvr_r hL (by decide) rfl dX1_isNumberIn_2_136 (fun ls hL => ?_)
        refine z_iconst hC dX1_isNumberIn_2_138 ?_
        refine z_istore (lv' := [(7, .int (zI 0)), (6, zrv P x10), (5, zrv P p0), (4, .int (zI 1)), (0, .ref (zA P 0 0 0)), (1, zrv P p0), (2, .int (zI p1)), (3, .int (zI p2))]) hC hL (by decide) rfl dX1_isNumberIn_2_139 (fun ls hL => ?_)
        refine zl2_use hV (fun (a141_4 : Int) (a141_7 : Int) => (a141_4 = 0 ∨ a141_4 = 1) → inR a141_7 → ∀ (H : Heap) (locs : List Loc), zS P s G H locs → ∀ (ls : Array Slot), zL ls 8 [(0, .ref (zA P 0 0 0)), (2, .int (zI p1)), (4, .int (zI a141_4)), (5, zrv P p0), (6, zrv P x10), (7, .int (zI a141_7))] → W p l e ({ frames := rf + 1, cells := 0, slots := 0, locals := rl + 27 } : Room) s m args below meth c H locs 0 0 (MQ below (zQz P (fun r G2 => G = G2 ∧ Q r)) args s 0 0 (zAr P)) (F0 m 141 ls [])) ?_ (Or.inr rfl) (inR_lit rfl) _ _ hG _ (hL.sub [4, 6, 3, 2, 1, 0] rfl)
        intro P141 a141_4 a141_7 hP141 hV ha141_4 ha141_7 H locs hG ls hL
        refine z_iload hC (hL.at 5 rfl) dX1_isNumberIn_2_141 ?_
        refine z_aload hC zvr_r (hL.at 4 rfl) dX1_isNumberIn_2_143 ?_
        refine z_alenD hC hG hV dX1_isNumberIn_2_145 ?_
        intro x11 hx11 hV
        refine z_icmp_ge (tgt := 188) hC ha141_7 hx11 hV dX1_isNumberIn_2_146 (by decide) ?_ ?_
        · intro hV
          exact hJ188 hG a141_4 ha141_4 hV _ (hL.sub [2] rfl)
        · intro hV
          refine z_iload hC (hL.at 2 rfl) dX1_isNumberIn_2_149 ?_
          obtain ⟨J180, eJ180, hV⟩ := zjn_abs hV
          have hJ180 : ∀ {H : Heap} {locs : List Loc}, zS P s G H locs → ∀ (z180_0 : Int), (z180_0 = 0 ∨ z180_0 = 1) → J180 z180_0 → ∀ (ls : Array Slot), zL ls 8 [(0, .ref (zA P 0 0 0)), (2, .int (zI p1)), (5, zrv P p0), (6, zrv P x10), (7, .int (zI a141_7))] → W p l e ({ frames := rf + 1, cells := 0, slots := 0, locals := rl + 27 } : Room) s m args below meth c H locs 0 0 (MQ below (zQz P (fun r G2 => G = G2 ∧ Q r)) args s 0 0 (zAr P)) (F0 m 180 ls [.int (zI z180_0)]) := by
            intro H locs hG z180_0 hz180_0 hV ls hL
            rw [eJ180] at hV
            refine z_istore (lv' := [(4, .int (zI z180_0)), (0, .ref (zA P 0 0 0)), (2, .int (zI p1)), (5, zrv P p0), (6, zrv P x10), (7, .int (zI a141_7))]) hC hL (by decide) rfl dX1_isNumberIn_2_180 (fun ls hL => ?_)
            refine z_iincV (fun x12 => [(7, .int (zI x12)), (4, .int (zI z180_0)), (0, .ref (zA P 0 0 0)), (2, .int (zI p1)), (5, zrv P p0), (6, zrv P x10)]) hC hL (k := 5) rfl (by decide) (fun _ => rfl) hV dX1_isNumberIn_2_182 ?_
            intro x12 hx12 hV ls hL
            refine z_goto (tgt := 141) hC dX1_isNumberIn_2_185 (by decide) ?_
            exact hP141 z180_0 x12 hV hz180_0 hx12 _ _ hG _ (hL.sub [2, 3, 1, 4, 5, 0] rfl)
          obtain ⟨J179, eJ179, hV⟩ := zjn_abs hV
          have hJ179 : ∀ {H : Heap} {locs : List Loc}, zS P s G H locs → J179 () → ∀ (ls : Array Slot), zL ls 8 [(0, .ref (zA P 0 0 0)), (2, .int (zI p1)), (5, zrv P p0), (6, zrv P x10), (7, .int (zI a141_7))] → W p l e ({ frames := rf + 1, cells := 0, slots := 0, locals := rl + 27 } : Room) s m args below meth c H locs 0 0 (MQ below (zQz P (fun r G2 => G = G2 ∧ Q r)) args s 0 0 (zAr P)) (F0 m 179 ls []) := by
            intro H locs hG hV ls hL
            rw [eJ179] at hV
            refine z_iconst hC dX1_isNumberIn_2_179 ?_
            exact hJ180 hG 0 (Or.inl rfl) hV _ hL
          refine z_if_eq (tgt := 179) hC (inR_b ha141_4) hV dX1_isNumberIn_2_151 (by decide) ?_ ?_
          · intro hV
            exact hJ179 hG hV _ (hL.sub [0, 1, 3, 4, 5] rfl)
          · intro hV
            refine z_aload_n hC zvr_a rfl (hL.at 0 rfl) dX1_isNumberIn_2_154 ?_
            refine z_aload hC zvr_r (hL.at 3 rfl) dX1_isNumberIn_2_155 ?_
            obtain ⟨hO13, hV⟩ := hV
            refine z_call_r hG (zrunVD hC hG hO13 (mX12_fields l P G p0 hV) kVX1_288 rfl rfl rfl ⟨(by show 1 + 1 ≤ rf + 1; omega), (by show 8 + (1 + 11) + 12 ≤ rl + 27; omega)⟩ ⟨(Nat.le_of_ble_eq_true rfl), (Nat.le_of_ble_eq_true rfl)⟩ rfl ⟨(zcs_c rfl zcs_0), (Nat.le_of_ble_eq_true rfl)⟩ hL.1.1 dX1_isNumberIn_2_157) ?_
            rintro x14 _ _ _  ⟨rfl, hV⟩ hG
            refine z_iload hC (hL.at 5 rfl) dX1_isNumberIn_2_160 ?_
            refine z_erld hC hG ha141_7 hV dX1_isNumberIn_2_162 ?_
            intro x15 hV
            refine z_iload_n hC rfl (hL.at 1 rfl) dX1_isNumberIn_2_163 ?_
            refine z_aload hC zvr_r (hL.at 4 rfl) dX1_isNumberIn_2_164 ?_
            refine z_iload hC (hL.at 5 rfl) dX1_isNumberIn_2_166 ?_
            refine z_eald hC hG ha141_7 hV dX1_isNumberIn_2_168 ?_
            intro x16 hx16 hV
            refine z_call_z hG (zrunV (ci := 1) hC hG (Nat.le_of_ble_eq_true rfl) (Nat.le_of_ble_eq_true rfl) (zobj hG rfl (Nat.le_of_ble_eq_true rfl) (Nat.le_of_ble_eq_true rfl)) (ihX1_isNumberIn_2 G x15 p1 hp1 x16 hx16 hV) kVX1_272 rfl rfl rfl ⟨Nat.le_refl _, (by show 8 + (8 + 11) + rl ≤ rl + 27; omega)⟩ ⟨(Nat.le_of_ble_eq_true rfl), (Nat.le_of_ble_eq_true rfl)⟩ rfl ⟨zcs_0, (Nat.le_of_ble_eq_true rfl)⟩ hL.1.1 dX1_isNumberIn_2_169) ?_
            rintro x17 _ _ _ hx17 ⟨rfl, hV⟩ hG
            refine z_if_eq (tgt := 179) hC (inR_b hx17) hV dX1_isNumberIn_2_172 (by decide) ?_ ?_
            · intro hV
              exact hJ179 hG hV _ (hL.sub [0, 1, 3, 4, 5] rfl)
            · intro hV
              refine z_iconst hC dX1_isNumberIn_2_175 ?_
              refine z_goto (tgt := 180) hC dX1_isNumberIn_2_176 (by decide) ?_
              exact hJ180 hG 1 (Or.inr rfl) hV _ (hL.sub [0, 1, 3, 4, 5] rfl)
    · intro hV
      refine z_aload_n hC zvr_r rfl (hL.at 1 rfl) dX1_isNumberIn_2_54 ?_
      refine z_cast hC hG (ci := 13) (Nat.le_of_ble_eq_true rfl) (Nat.le_of_ble_eq_true rfl) q884 hV dX1_isNumberIn_2_55 (fun hV => ?_)
      refine z_astore (lv' := [(4, zrv P p0), (0, .ref (zA P 0 0 0)), (1, zrv P p0), (2, .int (zI p1)), (3, .int (zI p2))]) hC zvr_r hL (by decide) rfl dX1_isNumberIn_2_58 (fun ls hL => ?_)
      refine z_aload_n hC zvr_a rfl (hL.at 1 rfl) dX1_isNumberIn_2_60 ?_
      refine z_aload hC zvr_r (hL.at 0 rfl) dX1_isNumberIn_2_61 ?_
      obtain ⟨hO18, hV⟩ := hV
      refine z_call_r hG (zrunVD hC hG hO18 (mX13_first l P G p0 hV) kVX1_276 rfl rfl rfl ⟨(by show 1 + 1 ≤ rf + 1; omega), (by show 8 + (1 + 11) + 12 ≤ rl + 27; omega)⟩ ⟨(Nat.le_of_ble_eq_true rfl), (Nat.le_of_ble_eq_true rfl)⟩ rfl ⟨(zcs_c rfl zcs_0), (Nat.le_of_ble_eq_true rfl)⟩ hL.1.1 dX1_isNumberIn_2_63) ?_
      rintro x19 _ _ _  ⟨rfl, hV⟩ hG
      refine z_iload_n hC rfl (hL.at 3 rfl) dX1_isNumberIn_2_66 ?_
      refine z_iload_n hC rfl (hL.at 4 rfl) dX1_isNumberIn_2_67 ?_
      refine z_call_z hG (zrunV (ci := 1) hC hG (Nat.le_of_ble_eq_true rfl) (Nat.le_of_ble_eq_true rfl) (zobj hG rfl (Nat.le_of_ble_eq_true rfl) (Nat.le_of_ble_eq_true rfl)) (ihX1_isNumberIn_2 G x19 p1 hp1 p2 hp2 hV) kVX1_272 rfl rfl rfl ⟨Nat.le_refl _, (by show 8 + (8 + 11) + rl ≤ rl + 27; omega)⟩ ⟨(Nat.le_of_ble_eq_true rfl), (Nat.le_of_ble_eq_true rfl)⟩ rfl ⟨zcs_0, (Nat.le_of_ble_eq_true rfl)⟩ hL.1.1 dX1_isNumberIn_2_68) ?_
      rintro x20 _ _ _ hx20 ⟨rfl, hV⟩ hG
      obtain ⟨J93, eJ93, hV⟩ := zjn_abs hV
      have hJ93 : ∀ {H : Heap} {locs : List Loc}, zS P s G H locs → ∀ (z93_0 : Int), (z93_0 = 0 ∨ z93_0 = 1) → J93 z93_0 → ∀ (ls : Array Slot), zL ls 8 [] → W p l e ({ frames := rf + 1, cells := 0, slots := 0, locals := rl + 27 } : Room) s m args below meth c H locs 0 0 (MQ below (zQz P (fun r G2 => G = G2 ∧ Q r)) args s 0 0 (zAr P)) (F0 m 93 ls [.int (zI z93_0)]) := by
        intro H locs hG z93_0 hz93_0 hV ls hL
        rw [eJ93] at hV
        exact z_zret hC hG hr hk hz93_0 ⟨rfl, hV⟩ (Nat.le_of_ble_eq_true rfl) (Nat.le_of_ble_eq_true rfl) dX1_isNumberIn_2_93
      obtain ⟨J92, eJ92, hV⟩ := zjn_abs hV
      have hJ92 : ∀ {H : Heap} {locs : List Loc}, zS P s G H locs → J92 () → ∀ (ls : Array Slot), zL ls 8 [] → W p l e ({ frames := rf + 1, cells := 0, slots := 0, locals := rl + 27 } : Room) s m args below meth c H locs 0 0 (MQ below (zQz P (fun r G2 => G = G2 ∧ Q r)) args s 0 0 (zAr P)) (F0 m 92 ls []) := by
        intro H locs hG hV ls hL
        rw [eJ92] at hV
        refine z_iconst hC dX1_isNumberIn_2_92 ?_
        exact hJ93 hG 0 (Or.inl rfl) hV _ hL
      refine z_if_eq (tgt := 92) hC (inR_b hx20) hV dX1_isNumberIn_2_71 (by decide) ?_ ?_
      · intro hV
        exact hJ92 hG hV _ (hL.sub [] rfl)
      · intro hV
        refine z_aload_n hC zvr_a rfl (hL.at 1 rfl) dX1_isNumberIn_2_74 ?_
        refine z_aload hC zvr_r (hL.at 0 rfl) dX1_isNumberIn_2_75 ?_
        obtain ⟨hO21, hV⟩ := hV
        refine z_call_r hG (zrunVD hC hG hO21 (mX13_second l P G p0 hV) kVX1_279 rfl rfl rfl ⟨(by show 1 + 1 ≤ rf + 1; omega), (by show 8 + (1 + 11) + 12 ≤ rl + 27; omega)⟩ ⟨(Nat.le_of_ble_eq_true rfl), (Nat.le_of_ble_eq_true rfl)⟩ rfl ⟨(zcs_c rfl zcs_0), (Nat.le_of_ble_eq_true rfl)⟩ hL.1.1 dX1_isNumberIn_2_77) ?_
        rintro x22 _ _ _  ⟨rfl, hV⟩ hG
        refine z_iload_n hC rfl (hL.at 3 rfl) dX1_isNumberIn_2_80 ?_
        refine z_iload_n hC rfl (hL.at 4 rfl) dX1_isNumberIn_2_81 ?_
        refine z_call_z hG (zrunV (ci := 1) hC hG (Nat.le_of_ble_eq_true rfl) (Nat.le_of_ble_eq_true rfl) (zobj hG rfl (Nat.le_of_ble_eq_true rfl) (Nat.le_of_ble_eq_true rfl)) (ihX1_isNumberIn_2 G x22 p1 hp1 p2 hp2 hV) kVX1_272 rfl rfl rfl ⟨Nat.le_refl _, (by show 8 + (8 + 11) + rl ≤ rl + 27; omega)⟩ ⟨(Nat.le_of_ble_eq_true rfl), (Nat.le_of_ble_eq_true rfl)⟩ rfl ⟨zcs_0, (Nat.le_of_ble_eq_true rfl)⟩ hL.1.1 dX1_isNumberIn_2_82) ?_
        rintro x23 _ _ _ hx23 ⟨rfl, hV⟩ hG
        refine z_if_eq (tgt := 92) hC (inR_b hx23) hV dX1_isNumberIn_2_85 (by decide) ?_ ?_
        · intro hV
          exact hJ92 hG hV _ (hL.sub [] rfl)
        · intro hV
          refine z_iconst hC dX1_isNumberIn_2_88 ?_
          refine z_goto (tgt := 93) hC dX1_isNumberIn_2_89 (by decide) ?_
          exact hJ93 hG 1 (Or.inr rfl) hV _ (hL.sub [] rfl)
  · intro hV
    refine z_aload_n hC zvr_r rfl (hL.at 1 rfl) dX1_isNumberIn_2_7 ?_
    refine z_cast hC hG (ci := 10) (Nat.le_of_ble_eq_true rfl) (Nat.le_of_ble_eq_true rfl) q779 hV dX1_isNumberIn_2_8 (fun hV => ?_)
    refine z_astore (lv' := [(4, zrv P p0), (0, .ref (zA P 0 0 0)), (1, zrv P p0), (2, .int (zI p1)), (3, .int (zI p2))]) hC zvr_r hL (by decide) rfl dX1_isNumberIn_2_11 (fun ls hL => ?_)
    refine z_aload hC zvr_r (hL.at 0 rfl) dX1_isNumberIn_2_13 ?_
    obtain ⟨hO24, hV⟩ := hV
    refine z_call_i hG (zrunVD hC hG hO24 (mX10_name l P G p0 hV) kVX1_266 rfl rfl rfl ⟨(by show 1 + 1 ≤ rf + 1; omega), (by show 8 + (1 + 11) + 12 ≤ rl + 27; omega)⟩ ⟨(Nat.le_of_ble_eq_true rfl), (Nat.le_of_ble_eq_true rfl)⟩ rfl ⟨zcs_0, (Nat.le_of_ble_eq_true rfl)⟩ hL.1.1 dX1_isNumberIn_2_15) ?_
    rintro x25 _ _ _ hx25 ⟨rfl, hV⟩ hG
    refine z_iload_n hC rfl (hL.at 3 rfl) dX1_isNumberIn_2_18 ?_
    obtain ⟨J46, eJ46, hV⟩ := zjn_abs hV
    have hJ46 : ∀ {H : Heap} {locs : List Loc}, zS P s G H locs → ∀ (z46_0 : Int), (z46_0 = 0 ∨ z46_0 = 1) → J46 z46_0 → ∀ (ls : Array Slot), zL ls 8 [] → W p l e ({ frames := rf + 1, cells := 0, slots := 0, locals := rl + 27 } : Room) s m args below meth c H locs 0 0 (MQ below (zQz P (fun r G2 => G = G2 ∧ Q r)) args s 0 0 (zAr P)) (F0 m 46 ls [.int (zI z46_0)]) := by
      intro H locs hG z46_0 hz46_0 hV ls hL
      rw [eJ46] at hV
      exact z_zret hC hG hr hk hz46_0 ⟨rfl, hV⟩ (Nat.le_of_ble_eq_true rfl) (Nat.le_of_ble_eq_true rfl) dX1_isNumberIn_2_46
    obtain ⟨J45, eJ45, hV⟩ := zjn_abs hV
    have hJ45 : ∀ {H : Heap} {locs : List Loc}, zS P s G H locs → J45 () → ∀ (ls : Array Slot), zL ls 8 [] → W p l e ({ frames := rf + 1, cells := 0, slots := 0, locals := rl + 27 } : Room) s m args below meth c H locs 0 0 (MQ below (zQz P (fun r G2 => G = G2 ∧ Q r)) args s 0 0 (zAr P)) (F0 m 45 ls []) := by
      intro H locs hG hV ls hL
      rw [eJ45] at hV
      refine z_iconst hC dX1_isNumberIn_2_45 ?_
      exact hJ46 hG 0 (Or.inl rfl) hV _ hL
    obtain ⟨J27, eJ27, hV⟩ := zjn_abs hV
    have hJ27 : ∀ {H : Heap} {locs : List Loc}, zS P s G H locs → J27 () → ∀ (ls : Array Slot), zL ls 8 [(0, .ref (zA P 0 0 0)), (2, .int (zI p1)), (3, .int (zI p2)), (4, zrv P p0)] → W p l e ({ frames := rf + 1, cells := 0, slots := 0, locals := rl + 27 } : Room) s m args below meth c H locs 0 0 (MQ below (zQz P (fun r G2 => G = G2 ∧ Q r)) args s 0 0 (zAr P)) (F0 m 27 ls []) := by
      intro H locs hG hV ls hL
      rw [eJ27] at hV
      refine z_aload_n hC zvr_a rfl (hL.at 0 rfl) dX1_isNumberIn_2_27 ?_
      refine z_aload hC zvr_r (hL.at 3 rfl) dX1_isNumberIn_2_28 ?_
      obtain ⟨hO26, hV⟩ := hV
      refine z_call_r hG (zrunVD hC hG hO26 (mX10_of l P G p0 hV) kVX1_269 rfl rfl rfl ⟨(by show 1 + 1 ≤ rf + 1; omega), (by show 8 + (1 + 11) + 12 ≤ rl + 27; omega)⟩ ⟨(Nat.le_of_ble_eq_true rfl), (Nat.le_of_ble_eq_true rfl)⟩ rfl ⟨(zcs_c rfl zcs_0), (Nat.le_of_ble_eq_true rfl)⟩ hL.1.1 dX1_isNumberIn_2_30) ?_
      rintro x27 _ _ _  ⟨rfl, hV⟩ hG
      refine z_iload_n hC rfl (hL.at 1 rfl) dX1_isNumberIn_2_33 ?_
      refine z_iload_n hC rfl (hL.at 2 rfl) dX1_isNumberIn_2_34 ?_
      refine z_call_z hG (zrunV (ci := 1) hC hG (Nat.le_of_ble_eq_true rfl) (Nat.le_of_ble_eq_true rfl) (zobj hG rfl (Nat.le_of_ble_eq_true rfl) (Nat.le_of_ble_eq_true rfl)) (ihX1_isNumberIn_2 G x27 p1 hp1 p2 hp2 hV) kVX1_272 rfl rfl rfl ⟨Nat.le_refl _, (by show 8 + (8 + 11) + rl ≤ rl + 27; omega)⟩ ⟨(Nat.le_of_ble_eq_true rfl), (Nat.le_of_ble_eq_true rfl)⟩ rfl ⟨zcs_0, (Nat.le_of_ble_eq_true rfl)⟩ hL.1.1 dX1_isNumberIn_2_35) ?_
      rintro x28 _ _ _ hx28 ⟨rfl, hV⟩ hG
      refine z_if_eq (tgt := 45) hC (inR_b hx28) hV dX1_isNumberIn_2_38 (by decide) ?_ ?_
      · intro hV
        exact hJ45 hG hV _ (hL.sub [] rfl)
      · intro hV
        refine z_iconst hC dX1_isNumberIn_2_41 ?_
        refine z_goto (tgt := 46) hC dX1_isNumberIn_2_42 (by decide) ?_
        exact hJ46 hG 1 (Or.inr rfl) hV _ (hL.sub [] rfl)
    refine z_icmp_ne (tgt := 27) hC hx25 hp1 hV dX1_isNumberIn_2_19 (by decide) ?_ ?_
    · intro hV
      exact hJ27 hG hV _ (hL.sub [1, 3, 4, 0] rfl)
    · intro hV
      refine z_iload_n hC rfl (hL.at 4 rfl) dX1_isNumberIn_2_22 ?_
      refine z_iconst hC dX1_isNumberIn_2_23 ?_
      refine z_icmp_ne (tgt := 45) hC hp2 (inR_lit rfl) hV dX1_isNumberIn_2_24 (by decide) ?_ ?_
      · intro hV
        exact hJ45 hG hV _ (hL.sub [] rfl)
      · intro hV
        exact hJ27 hG hV _ (hL.sub [1, 3, 4, 0] rfl)
abbrev rgNumIn (d : Nat) : Room := { frames := 4 + d, cells := 0, slots := 0, locals := 76 + 27 * d }
def vggNumIn : Nat → (ZR → Int → Int → ZG → (Int → Prop) → Prop)
  | 0 => fun _ _ _ _ _ => False
  | d + 1 => bX1_isNumberIn_2 (vggNumIn d)
def vX1_isNumberIn_2 (d : Nat) (p0 : ZR) (p1 : Int) (p2 : Int) (G : ZG) (Q : Int → Prop) : Prop := (vggNumIn d) p0 p1 p2 G Q
theorem vX1_isNumberIn_2_s (d : Nat) (p0 : ZR) (p1 : Int) (p2 : Int) (G : ZG) (Q : Int → Prop) : vX1_isNumberIn_2 (d + 1) p0 p1 p2 G Q = bX1_isNumberIn_2 (vX1_isNumberIn_2 d) p0 p1 p2 G Q := rfl
theorem ggNumIn (l : Launch) (P : ZP) : ∀ d : Nat, (∀ (G : ZG) (p0 : ZR) (p1 : Int) (hp1 : inR p1) (p2 : Int) (hp2 : inR p2) {Q : Int → Prop}, vX1_isNumberIn_2 d p0 p1 p2 G Q → Met l yX1_isNumberIn_2 (ws_ yX1_isNumberIn_2 cX1_isNumberIn_2 8 (some .boolean)) (rgNumIn d) (zPc P G [.ref (zA P 0 0 0), zrv P p0, .int (zI p1), .int (zI p2)]) (zQz P (fun r G2 => G = G2 ∧ Q r)) 0 0 (zAr P)) := by
  intro d
  induction d with
  | zero => exact fun G p0 p1 hp1 p2 hp2 Q h => False.elim h
  | succ d ih =>
    have e : 76 + 27 * (d + 1) = 76 + 27 * d + 27 := by omega
    exact fun G p0 p1 hp1 p2 hp2 Q h => (by
      simp only [rgNumIn, e]
      exact sX1_isNumberIn_2 l P (rf := 4 + d) (rl := 76 + 27 * d) (by omega) (by omega) (vggNumIn d) (ih) _ p0 p1 hp1 p2 hp2 h)
theorem mX1_isNumberIn_2 (l : Launch) (P : ZP) (d : Nat) (G : ZG) (p0 : ZR) (p1 : Int) (hp1 : inR p1) (p2 : Int) (hp2 : inR p2) {Q : Int → Prop} (hV : vX1_isNumberIn_2 d p0 p1 p2 G Q) : Met l yX1_isNumberIn_2 (ws_ yX1_isNumberIn_2 cX1_isNumberIn_2 8 (some .boolean)) (rgNumIn d) (zPc P G [.ref (zA P 0 0 0), zrv P p0, .int (zI p1), .int (zI p2)]) (zQz P (fun r G2 => G = G2 ∧ Q r)) 0 0 (zAr P) := (ggNumIn l P d) G p0 p1 hp1 p2 hp2 hV
abbrev rX1_isNumberIn : Room := { frames := 50, cells := 0, slots := 0, locals := 1318 }
def vX1_isNumberIn (p0 : ZR) (p1 : Int) (G : ZG) (Q : Int → Prop) : Prop := zl3 (fun (P8 : Int → Int → Int → Prop) (a8_3 : Int) (a8_4 : Int) (a8_5 : Int) => zgF G 0 5 fun (x1 : Int) => zbr (x1 ≤ a8_5) (zjn (fun (z99_0 : Int) => Q z99_0) fun J99 => zjn (fun (_ : Unit) => J99 0) fun J98 => zbr (a8_4 = 0) (J98 ()) (vX1_has a8_3 p1 fun (x2 : Int) => zbr (x2 = 0) (J98 ()) (J99 1))) (zdR G p0 16 0 fun (x3 : ZR) => zeI G x3 a8_5 fun (x4 : Int) => vX1_told x4 G fun (x5 : ZR) => zisO G x5 9 ∧ vX9_names x5 G fun (x7 : Int) => zlt1 (bOr a8_3 x7) fun (x8 : Int) => zjn (fun (z73_0 : Int) => zlt1 (w32 (a8_5 + 1)) fun (x9 : Int) => P8 x8 z73_0 x9) fun J73 => zjn (fun (_ : Unit) => J73 0) fun J72 => zbr (a8_4 = 0) (J72 ()) (zdR G p0 16 0 fun (x10 : ZR) => zeI G x10 a8_5 fun (x11 : Int) => vX1_told x11 G fun (x12 : ZR) => zisO G x12 9 ∧ vX9_pattern x12 G fun (x14 : ZR) => zaL G 0 4 3 a8_5 fun (x15 : Int) => vX1_isNumberIn_2 45 x14 p1 x15 G fun (x16 : Int) => zbr (x16 = 0) (J72 ()) (J73 1)))) 0 1 0
set_option maxHeartbeats 4000000 in
theorem mX1_isNumberIn (l : Launch) (P : ZP) (G : ZG) (p0 : ZR) (p1 : Int) (hp1 : inR p1) {Q : Int → Prop} (hV : vX1_isNumberIn p0 p1 G Q) : Met l yX1_isNumberIn (ws_ yX1_isNumberIn cX1_isNumberIn 6 (some .boolean)) rX1_isNumberIn (zPc P G [.ref (zA P 0 0 0), zrv P p0, .int (zI p1)]) (zQz P (fun r G2 => G = G2 ∧ Q r)) 0 0 (zAr P) := by
  refine zMet RX1 (plainFor_of_name (by decide)) rfl (zcs_c rfl (zcs_c (zrv_cat _ _) (zcs_c rfl zcs_0))) (Nat.le_of_ble_eq_true rfl) (fun p e s m args below meth c ls hC hr hk hn hG hL => ?_)
  unfold vX1_isNumberIn at hV
  refine z_iconst hC dX1_isNumberIn_0 ?_
  refine z_istore_n (lv' := [(3, .int (zI 0)), (0, .ref (zA P 0 0 0)), (1, zrv P p0), (2, .int (zI p1))]) hC rfl hL (by decide) rfl dX1_isNumberIn_1 (fun ls hL => ?_)
  refine z_iconst hC dX1_isNumberIn_2 ?_
  refine z_istore (lv' := [(4, .int (zI 1)), (3, .int (zI 0)), (0, .ref (zA P 0 0 0)), (1, zrv P p0), (2, .int (zI p1))]) hC hL (by decide) rfl dX1_isNumberIn_3 (fun ls hL => ?_)
  refine z_iconst hC dX1_isNumberIn_5 ?_
  refine z_istore (lv' := [(5, .int (zI 0)), (4, .int (zI 1)), (3, .int (zI 0)), (0, .ref (zA P 0 0 0)), (1, zrv P p0), (2, .int (zI p1))]) hC hL (by decide) rfl dX1_isNumberIn_6 (fun ls hL => ?_)
  refine zl3_use hV (fun (a8_3 : Int) (a8_4 : Int) (a8_5 : Int) => inR a8_3 → (a8_4 = 0 ∨ a8_4 = 1) → inR a8_5 → ∀ (H : Heap) (locs : List Loc), zS P s G H locs → ∀ (ls : Array Slot), zL ls 6 [(0, .ref (zA P 0 0 0)), (1, zrv P p0), (2, .int (zI p1)), (3, .int (zI a8_3)), (4, .int (zI a8_4)), (5, .int (zI a8_5))] → W p l e rX1_isNumberIn s m args below meth c H locs 0 0 (MQ below (zQz P (fun r G2 => G = G2 ∧ Q r)) args s 0 0 (zAr P)) (F0 m 8 ls [])) ?_ (inR_lit rfl) (Or.inr rfl) (inR_lit rfl) _ _ hG _ (hL.sub [3, 4, 5, 2, 1, 0] rfl)
  intro P8 a8_3 a8_4 a8_5 hP8 hV ha8_3 ha8_4 ha8_5 H locs hG ls hL
  refine z_iload hC (hL.at 5 rfl) dX1_isNumberIn_8 ?_
  refine z_aload_n hC zvr_a rfl (hL.at 0 rfl) dX1_isNumberIn_10 ?_
  refine z_getF hC hG kFX1_255_1 rfl rfl hV dX1_isNumberIn_11 ?_
  intro x1 hx1 hV
  refine z_icmp_ge (tgt := 81) hC ha8_5 hx1 hV dX1_isNumberIn_14 (by decide) ?_ ?_
  · intro hV
    refine z_iload hC (hL.at 4 rfl) dX1_isNumberIn_81 ?_
    obtain ⟨J99, eJ99, hV⟩ := zjn_abs hV
    have hJ99 : ∀ {H : Heap} {locs : List Loc}, zS P s G H locs → ∀ (z99_0 : Int), (z99_0 = 0 ∨ z99_0 = 1) → J99 z99_0 → ∀ (ls : Array Slot), zL ls 6 [] → W p l e rX1_isNumberIn s m args below meth c H locs 0 0 (MQ below (zQz P (fun r G2 => G = G2 ∧ Q r)) args s 0 0 (zAr P)) (F0 m 99 ls [.int (zI z99_0)]) := by
      intro H locs hG z99_0 hz99_0 hV ls hL
      rw [eJ99] at hV
      exact z_zret hC hG hr hk hz99_0 ⟨rfl, hV⟩ (Nat.le_of_ble_eq_true rfl) (Nat.le_of_ble_eq_true rfl) dX1_isNumberIn_99
    obtain ⟨J98, eJ98, hV⟩ := zjn_abs hV
    have hJ98 : ∀ {H : Heap} {locs : List Loc}, zS P s G H locs → J98 () → ∀ (ls : Array Slot), zL ls 6 [] → W p l e rX1_isNumberIn s m args below meth c H locs 0 0 (MQ below (zQz P (fun r G2 => G = G2 ∧ Q r)) args s 0 0 (zAr P)) (F0 m 98 ls []) := by
      intro H locs hG hV ls hL
      rw [eJ98] at hV
      refine z_iconst hC dX1_isNumberIn_98 ?_
      exact hJ99 hG 0 (Or.inl rfl) hV _ hL
    refine z_if_eq (tgt := 98) hC (inR_b ha8_4) hV dX1_isNumberIn_83 (by decide) ?_ ?_
    · intro hV
      exact hJ98 hG hV _ (hL.sub [] rfl)
    · intro hV
      refine z_iload_n hC rfl (hL.at 3 rfl) dX1_isNumberIn_86 ?_
      refine z_iload_n hC rfl (hL.at 2 rfl) dX1_isNumberIn_87 ?_
      refine z_call_z hG (zrunS hC hG (mX1_has l P G a8_3 ha8_3 p1 hp1 hV) kSX1_177 rfl rfl rfl ⟨(Nat.le_of_ble_eq_true rfl), (Nat.le_of_ble_eq_true rfl)⟩ ⟨(Nat.le_of_ble_eq_true rfl), (Nat.le_of_ble_eq_true rfl)⟩ rfl ⟨zcs_0, (Nat.le_of_ble_eq_true rfl)⟩ hL.1.1 dX1_isNumberIn_88) ?_
      rintro x2 _ _ _ hx2 ⟨rfl, hV⟩ hG
      refine z_if_eq (tgt := 98) hC (inR_b hx2) hV dX1_isNumberIn_91 (by decide) ?_ ?_
      · intro hV
        exact hJ98 hG hV _ (hL.sub [] rfl)
      · intro hV
        refine z_iconst hC dX1_isNumberIn_94 ?_
        refine z_goto (tgt := 99) hC dX1_isNumberIn_95 (by decide) ?_
        exact hJ99 hG 1 (Or.inr rfl) hV _ (hL.sub [] rfl)
  · intro hV
    refine z_iload_n hC rfl (hL.at 3 rfl) dX1_isNumberIn_17 ?_
    refine z_aload_n hC zvr_a rfl (hL.at 0 rfl) dX1_isNumberIn_18 ?_
    refine z_aload_n hC zvr_r rfl (hL.at 1 rfl) dX1_isNumberIn_19 ?_
    refine z_dR hC hG kFX1_292_16 hV dX1_isNumberIn_20 ?_
    intro x3 hV
    refine z_iload hC (hL.at 5 rfl) dX1_isNumberIn_23 ?_
    refine z_eald hC hG ha8_5 hV dX1_isNumberIn_25 ?_
    intro x4 hx4 hV
    refine z_call_r hG (zrunV (ci := 1) hC hG (Nat.le_of_ble_eq_true rfl) (Nat.le_of_ble_eq_true rfl) (zobj hG rfl (Nat.le_of_ble_eq_true rfl) (Nat.le_of_ble_eq_true rfl)) (mX1_told l P G x4 hx4 hV) kVX1_170 rfl rfl rfl ⟨(Nat.le_of_ble_eq_true rfl), (Nat.le_of_ble_eq_true rfl)⟩ ⟨(Nat.le_of_ble_eq_true rfl), (Nat.le_of_ble_eq_true rfl)⟩ rfl ⟨(zcs_c rfl zcs_0), (Nat.le_of_ble_eq_true rfl)⟩ hL.1.1 dX1_isNumberIn_26) ?_
    rintro x5 _ _ _  ⟨rfl, hV⟩ hG
    obtain ⟨hO6, hV⟩ := hV
    refine z_call_i hG (zrunVD hC hG hO6 (mX9_names l P G x5 hV) kVX1_174 rfl rfl rfl ⟨(Nat.le_of_ble_eq_true rfl), (Nat.le_of_ble_eq_true rfl)⟩ ⟨(Nat.le_of_ble_eq_true rfl), (Nat.le_of_ble_eq_true rfl)⟩ rfl ⟨(zcs_c rfl zcs_0), (Nat.le_of_ble_eq_true rfl)⟩ hL.1.1 dX1_isNumberIn_29) ?_
    rintro x7 _ _ _ hx7 ⟨rfl, hV⟩ hG
    refine z_ior hC dX1_isNumberIn_32 ?_
    refine z_top hV (inR_toInt _) ?_
    intro x8 hx8 hV
    refine z_istore_n (lv' := [(3, .int (zI x8)), (0, .ref (zA P 0 0 0)), (1, zrv P p0), (2, .int (zI p1)), (4, .int (zI a8_4)), (5, .int (zI a8_5))]) hC rfl hL (by decide) rfl dX1_isNumberIn_33 (fun ls hL => ?_)
    refine z_iload hC (hL.at 4 rfl) dX1_isNumberIn_34 ?_
    obtain ⟨J73, eJ73, hV⟩ := zjn_abs hV
    have hJ73 : ∀ {H : Heap} {locs : List Loc}, zS P s G H locs → ∀ (z73_0 : Int), (z73_0 = 0 ∨ z73_0 = 1) → J73 z73_0 → ∀ (ls : Array Slot), zL ls 6 [(0, .ref (zA P 0 0 0)), (1, zrv P p0), (2, .int (zI p1)), (3, .int (zI x8)), (5, .int (zI a8_5))] → W p l e rX1_isNumberIn s m args below meth c H locs 0 0 (MQ below (zQz P (fun r G2 => G = G2 ∧ Q r)) args s 0 0 (zAr P)) (F0 m 73 ls [.int (zI z73_0)]) := by
      intro H locs hG z73_0 hz73_0 hV ls hL
      rw [eJ73] at hV
      refine z_istore (lv' := [(4, .int (zI z73_0)), (0, .ref (zA P 0 0 0)), (1, zrv P p0), (2, .int (zI p1)), (3, .int (zI x8)), (5, .int (zI a8_5))]) hC hL (by decide) rfl dX1_isNumberIn_73 (fun ls hL => ?_)
      refine z_iincV (fun x9 => [(5, .int (zI x9)), (4, .int (zI z73_0)), (0, .ref (zA P 0 0 0)), (1, zrv P p0), (2, .int (zI p1)), (3, .int (zI x8))]) hC hL (k := 5) rfl (by decide) (fun _ => rfl) hV dX1_isNumberIn_75 ?_
      intro x9 hx9 hV ls hL
      refine z_goto (tgt := 8) hC dX1_isNumberIn_78 (by decide) ?_
      exact hP8 x8 z73_0 x9 hV hx8 hz73_0 hx9 _ _ hG _ (hL.sub [2, 3, 4, 5, 1, 0] rfl)
    obtain ⟨J72, eJ72, hV⟩ := zjn_abs hV
    have hJ72 : ∀ {H : Heap} {locs : List Loc}, zS P s G H locs → J72 () → ∀ (ls : Array Slot), zL ls 6 [(0, .ref (zA P 0 0 0)), (1, zrv P p0), (2, .int (zI p1)), (3, .int (zI x8)), (5, .int (zI a8_5))] → W p l e rX1_isNumberIn s m args below meth c H locs 0 0 (MQ below (zQz P (fun r G2 => G = G2 ∧ Q r)) args s 0 0 (zAr P)) (F0 m 72 ls []) := by
      intro H locs hG hV ls hL
      rw [eJ72] at hV
      refine z_iconst hC dX1_isNumberIn_72 ?_
      exact hJ73 hG 0 (Or.inl rfl) hV _ hL
    refine z_if_eq (tgt := 72) hC (inR_b ha8_4) hV dX1_isNumberIn_36 (by decide) ?_ ?_
    · intro hV
      exact hJ72 hG hV _ (hL.sub [1, 2, 3, 0, 5] rfl)
    · intro hV
      refine z_aload_n hC zvr_a rfl (hL.at 1 rfl) dX1_isNumberIn_39 ?_
      refine z_aload_n hC zvr_a rfl (hL.at 1 rfl) dX1_isNumberIn_40 ?_
      refine z_aload_n hC zvr_r rfl (hL.at 2 rfl) dX1_isNumberIn_41 ?_
      refine z_dR hC hG kFX1_292_16 hV dX1_isNumberIn_42 ?_
      intro x10 hV
      refine z_iload hC (hL.at 5 rfl) dX1_isNumberIn_45 ?_
      refine z_eald hC hG ha8_5 hV dX1_isNumberIn_47 ?_
      intro x11 hx11 hV
      refine z_call_r hG (zrunV (ci := 1) hC hG (Nat.le_of_ble_eq_true rfl) (Nat.le_of_ble_eq_true rfl) (zobj hG rfl (Nat.le_of_ble_eq_true rfl) (Nat.le_of_ble_eq_true rfl)) (mX1_told l P G x11 hx11 hV) kVX1_170 rfl rfl rfl ⟨(Nat.le_of_ble_eq_true rfl), (Nat.le_of_ble_eq_true rfl)⟩ ⟨(Nat.le_of_ble_eq_true rfl), (Nat.le_of_ble_eq_true rfl)⟩ rfl ⟨(zcs_c rfl zcs_0), (Nat.le_of_ble_eq_true rfl)⟩ hL.1.1 dX1_isNumberIn_48) ?_
      rintro x12 _ _ _  ⟨rfl, hV⟩ hG
      obtain ⟨hO13, hV⟩ := hV
      refine z_call_r hG (zrunVD hC hG hO13 (mX9_pattern l P G x12 hV) kVX1_183 rfl rfl rfl ⟨(Nat.le_of_ble_eq_true rfl), (Nat.le_of_ble_eq_true rfl)⟩ ⟨(Nat.le_of_ble_eq_true rfl), (Nat.le_of_ble_eq_true rfl)⟩ rfl ⟨(zcs_c rfl zcs_0), (Nat.le_of_ble_eq_true rfl)⟩ hL.1.1 dX1_isNumberIn_51) ?_
      rintro x14 _ _ _  ⟨rfl, hV⟩ hG
      refine z_iload_n hC rfl (hL.at 3 rfl) dX1_isNumberIn_54 ?_
      refine z_aload_n hC zvr_a rfl (hL.at 1 rfl) dX1_isNumberIn_55 ?_
      refine z_getA hC hG kFX1_41_1 rfl rfl dX1_isNumberIn_56 ?_
      refine z_iload hC (hL.at 5 rfl) dX1_isNumberIn_59 ?_
      refine z_iald hC hG rfl rfl rfl ha8_5 hV dX1_isNumberIn_61 ?_
      intro x15 hx15 hV
      refine z_call_z hG (zrunV (ci := 1) hC hG (Nat.le_of_ble_eq_true rfl) (Nat.le_of_ble_eq_true rfl) (zobj hG rfl (Nat.le_of_ble_eq_true rfl) (Nat.le_of_ble_eq_true rfl)) (mX1_isNumberIn_2 l P 45 G x14 p1 hp1 x15 hx15 hV) kVX1_272 rfl rfl rfl ⟨(Nat.le_of_ble_eq_true rfl), (Nat.le_of_ble_eq_true rfl)⟩ ⟨(Nat.le_of_ble_eq_true rfl), (Nat.le_of_ble_eq_true rfl)⟩ rfl ⟨zcs_0, (Nat.le_of_ble_eq_true rfl)⟩ hL.1.1 dX1_isNumberIn_62) ?_
      rintro x16 _ _ _ hx16 ⟨rfl, hV⟩ hG
      refine z_if_eq (tgt := 72) hC (inR_b hx16) hV dX1_isNumberIn_65 (by decide) ?_ ?_
      · intro hV
        exact hJ72 hG hV _ (hL.sub [1, 2, 3, 0, 5] rfl)
      · intro hV
        refine z_iconst hC dX1_isNumberIn_68 ?_
        refine z_goto (tgt := 73) hC dX1_isNumberIn_69 (by decide) ?_
        exact hJ73 hG 1 (Or.inr rfl) hV _ (hL.sub [1, 2, 3, 0, 5] rfl)
abbrev rX17_values : Room := { frames := 1, cells := 1, slots := 4, locals := 22 }
def vX17_values (G : ZG) (Q : ZR → ZG → Prop) : Prop := zclV G fun (x1 : ZR) (G1 : ZG) => (∃ a l', x1 = some (.inl a) ∧ zsj G1 a = some (.inr (.inl (6, l')))) ∧ Q x1 G1
set_option maxHeartbeats 4000000 in
theorem mX17_values (l : Launch) (P : ZP) (G : ZG) {Q : ZR → ZG → Prop} (hV : vX17_values G Q) : Met l yX17_values (ws_ yX17_values cX17_values 0 (some (.array (.object "Patternforge$Test")))) rX17_values (zPc P G []) (zQr P Q) 1 4 (zAr P) := by
  refine zMet RX17 (plainFor_of_name (by decide)) rfl zcs_0 (Nat.le_of_ble_eq_true rfl) (fun p e s m args below meth c ls hC hr hk hn hG hL => ?_)
  unfold vX17_values at hV
  refine z_getsV hC hG q1064 dX17_values_0 ?_
  refine z_cloneV hC hG hL.1.1 kCX17_20 hV ⟨zcs_0, (Nat.le_of_ble_eq_true rfl)⟩ ⟨(Nat.le_of_ble_eq_true rfl), (Nat.le_of_ble_eq_true rfl)⟩ (Nat.le_of_ble_eq_true rfl) (Nat.le_of_ble_eq_true rfl) dX17_values_3 ?_
  intro x1 G1 _ hG hV
  refine z_castV hC hG q1073 hV dX17_values_6 (fun hV => ?_)
  exact z_aret (r := x1) hC hG hr hk (Or.inr ⟨_, rfl⟩) hV (Nat.le_of_ble_eq_true rfl) (Nat.le_of_ble_eq_true rfl) dX17_values_9
abbrev rX1_guard : Room := { frames := 51, cells := 4, slots := 22, locals := 1343 }
def vX1_guard (p0 : Int) (p1 : Int) (p2 : Int) (p3 : Int) (G : ZG) (X : Nat → ZG → Prop) (Q : Int → ZG → Prop) : Prop := vX1_caseAt p0 G X fun (x1 : ZR) => vX1_inRange p1 (-1) 3 fun (x2 : Int) => zjn (fun (z30_0 : Int) => vX1_requireIndex z30_0 G X fun (_ : Unit) => vX1_inRange p3 0 9 fun (x3 : Int) => zjn (fun (z71_0 : Int) => vX1_requireArgument z71_0 G X fun (_ : Unit) => zdR G x1 16 2 fun (x4 : ZR) => zjn (fun (z94_0 : Int) => zjn (fun (z112_1 : ZR) (H112 : ZG) => zdP H112 x1 16 2 (.inr z112_1) fun (G1 : ZG) => zdP G1 x1 16 3 (.inl p2) fun (G2 : ZG) => zdP G2 x1 16 4 (.inl p3) fun (G3 : ZG) => vX1_changed G3 fun (G4 : ZG) => Q z94_0 G4) fun J112 => zbr (p1 ≠ (-1)) (vX17_values G fun (x5 : ZR) (G5 : ZG) => zeR G5 x5 p1 fun (x6 : ZR) => J112 x6 G5) (J112 none G)) fun J94 => zbr (x4 ≠ none) (zdR G x1 16 2 fun (x7 : ZR) => zord x7 fun (x8 : Int) => J94 x8) (J94 (-1))) fun J71 => zjn (fun (_ : Unit) => J71 0) fun J70 => zbr (x3 = 0) (J70 ()) (zjn (fun (_ : Unit) => J71 1) fun J66 => zbr (p1 ≠ (-1)) (vX1_isNumberIn x1 p2 G fun (x9 : Int) => zbr (x9 = 0) (J70 ()) (J66 ())) (zbr (p2 ≠ 0) (J70 ()) (J66 ())))) fun J30 => zjn (fun (_ : Unit) => J30 0) fun J29 => zbr (x2 = 0) (J29 ()) (vX1_inRange p2 0 5 fun (x10 : Int) => zbr (x10 = 0) (J29 ()) (J30 1))
set_option maxHeartbeats 4000000 in
theorem mX1_guard (l : Launch) (P : ZP) (G : ZG) (p0 : Int) (hp0 : inR p0) (p1 : Int) (hp1 : inR p1) (p2 : Int) (hp2 : inR p2) (p3 : Int) (hp3 : inR p3) {X : Nat → ZG → Prop} {Q : Int → ZG → Prop} (hst : l.stackTraces = false) (hV : vX1_guard p0 p1 p2 p3 G X Q) : vx_Met l yX1_guard (ws_ yX1_guard cX1_guard 7 (some .int)) rX1_guard (zPc P G [.ref (zA P 0 0 0), .int (zI p0), .int (zI p1), .int (zI p2), .int (zI p3)]) (zQi P Q) (zXc P X) 4 22 (zAr P) := by
  refine zMetX (own := RX1) rfl (by decide) (zcs_c rfl (zcs_c rfl (zcs_c rfl (zcs_c rfl (zcs_c rfl zcs_0))))) (Nat.le_of_ble_eq_true rfl) (fun p e s m args below meth c ls hC hr hk hn hnt hG hL => ?_)
  unfold vX1_guard at hV
  refine z_aload_n hC zvr_a rfl (hL.at 0 rfl) dX1_guard_0 ?_
  refine z_iload_n hC rfl (hL.at 1 rfl) dX1_guard_1 ?_
  refine z_xcall_r hG hnt hk (zrunVX (ci := 1) hC hG (Nat.le_of_ble_eq_true rfl) (Nat.le_of_ble_eq_true rfl) (zobj hG rfl (Nat.le_of_ble_eq_true rfl) (Nat.le_of_ble_eq_true rfl)) (mX1_caseAt l P G p0 hp0 hst hV) kVX1_294 rfl rfl rfl ⟨(Nat.le_of_ble_eq_true rfl), (Nat.le_of_ble_eq_true rfl)⟩ ⟨(Nat.le_of_ble_eq_true rfl), (Nat.le_of_ble_eq_true rfl)⟩ rfl ⟨zcs_0, (Nat.le_of_ble_eq_true rfl)⟩ hL.1.1 dX1_guard_2) (Nat.le_of_ble_eq_true rfl) (Nat.le_of_ble_eq_true rfl) ?_
  rintro x1 _ _ _  ⟨rfl, hV⟩ hG
  refine z_astore (lv' := [(5, zrv P x1), (0, .ref (zA P 0 0 0)), (1, .int (zI p0)), (2, .int (zI p1)), (3, .int (zI p2)), (4, .int (zI p3))]) hC zvr_r hL (by decide) rfl dX1_guard_5 (fun ls hL => ?_)
  refine z_iload_n hC rfl (hL.at 3 rfl) dX1_guard_7 ?_
  refine z_iconst hC dX1_guard_8 ?_
  refine z_iconst hC dX1_guard_9 ?_
  refine z_call_z hG (zrunS hC hG (mX1_inRange l P G p1 hp1 (-1) (inR_lit rfl) 3 (inR_lit rfl) hV) kSX1_91 rfl rfl rfl ⟨(Nat.le_of_ble_eq_true rfl), (Nat.le_of_ble_eq_true rfl)⟩ ⟨(Nat.le_of_ble_eq_true rfl), (Nat.le_of_ble_eq_true rfl)⟩ rfl ⟨zcs_0, (Nat.le_of_ble_eq_true rfl)⟩ hL.1.1 dX1_guard_10) ?_
  rintro x2 _ _ _ hx2 ⟨rfl, hV⟩ hG
  obtain ⟨J30, eJ30, hV⟩ := zjn_abs hV
  have hJ30 : ∀ {H : Heap} {locs : List Loc}, zS P s G H locs → ∀ (z30_0 : Int), (z30_0 = 0 ∨ z30_0 = 1) → J30 z30_0 → ∀ (ls : Array Slot), zL ls 7 [(0, .ref (zA P 0 0 0)), (2, .int (zI p1)), (3, .int (zI p2)), (4, .int (zI p3)), (5, zrv P x1)] → W p l e rX1_guard s m args below meth c H locs 1 6 (vx_MQ below (zQi P Q) (zXc P X) args s 4 22 (zAr P)) (F0 m 30 ls [.int (zI z30_0)]) := by
    intro H locs hG z30_0 hz30_0 hV ls hL
    rw [eJ30] at hV
    refine z_xcall_v hG hnt hk (zrunSX hC hG (mX1_requireIndex l P G z30_0 hz30_0 hst hV) kSX1_105 rfl rfl rfl ⟨(Nat.le_of_ble_eq_true rfl), (Nat.le_of_ble_eq_true rfl)⟩ ⟨(Nat.le_of_ble_eq_true rfl), (Nat.le_of_ble_eq_true rfl)⟩ rfl ⟨zcs_0, (Nat.le_of_ble_eq_true rfl)⟩ hL.1.1 dX1_guard_30) (Nat.le_of_ble_eq_true rfl) (Nat.le_of_ble_eq_true rfl) ?_
    rintro _ _ _ ⟨rfl, hV⟩ hG
    refine z_iload hC (hL.at 3 rfl) dX1_guard_33 ?_
    refine z_iconst hC dX1_guard_35 ?_
    refine z_bipush hC rfl dX1_guard_36 ?_
    refine z_call_z hG (zrunS hC hG (mX1_inRange l P G p3 hp3 0 (inR_lit rfl) 9 (inR_lit rfl) hV) kSX1_91 rfl rfl rfl ⟨(Nat.le_of_ble_eq_true rfl), (Nat.le_of_ble_eq_true rfl)⟩ ⟨(Nat.le_of_ble_eq_true rfl), (Nat.le_of_ble_eq_true rfl)⟩ rfl ⟨zcs_0, (Nat.le_of_ble_eq_true rfl)⟩ hL.1.1 dX1_guard_38) ?_
    rintro x3 _ _ _ hx3 ⟨rfl, hV⟩ hG
    obtain ⟨J71, eJ71, hV⟩ := zjn_abs hV
    have hJ71 : ∀ {H : Heap} {locs : List Loc}, zS P s G H locs → ∀ (z71_0 : Int), (z71_0 = 0 ∨ z71_0 = 1) → J71 z71_0 → ∀ (ls : Array Slot), zL ls 7 [(0, .ref (zA P 0 0 0)), (2, .int (zI p1)), (3, .int (zI p2)), (4, .int (zI p3)), (5, zrv P x1)] → W p l e rX1_guard s m args below meth c H locs 2 12 (vx_MQ below (zQi P Q) (zXc P X) args s 4 22 (zAr P)) (F0 m 71 ls [.int (zI z71_0)]) := by
      intro H locs hG z71_0 hz71_0 hV ls hL
      rw [eJ71] at hV
      refine z_xcall_v hG hnt hk (zrunSX hC hG (mX1_requireArgument l P G z71_0 hz71_0 hst hV) kSX1_117 rfl rfl rfl ⟨(Nat.le_of_ble_eq_true rfl), (Nat.le_of_ble_eq_true rfl)⟩ ⟨(Nat.le_of_ble_eq_true rfl), (Nat.le_of_ble_eq_true rfl)⟩ rfl ⟨zcs_0, (Nat.le_of_ble_eq_true rfl)⟩ hL.1.1 dX1_guard_71) (Nat.le_of_ble_eq_true rfl) (Nat.le_of_ble_eq_true rfl) ?_
      rintro _ _ _ ⟨rfl, hV⟩ hG
      refine z_aload hC zvr_r (hL.at 4 rfl) dX1_guard_74 ?_
      refine z_dR hC hG kFX1_301_16 hV dX1_guard_76 ?_
      intro x4 hV
      obtain ⟨J94, eJ94, hV⟩ := zjn_abs hV
      have hJ94 : ∀ {H : Heap} {locs : List Loc}, zS P s G H locs → ∀ (z94_0 : Int), inR z94_0 → J94 z94_0 → ∀ (ls : Array Slot), zL ls 7 [(0, .ref (zA P 0 0 0)), (2, .int (zI p1)), (3, .int (zI p2)), (4, .int (zI p3)), (5, zrv P x1)] → W p l e rX1_guard s m args below meth c H locs 3 18 (vx_MQ below (zQi P Q) (zXc P X) args s 4 22 (zAr P)) (F0 m 94 ls [.int (zI z94_0)]) := by
        intro H locs hG z94_0 hz94_0 hV ls hL
        rw [eJ94] at hV
        refine z_istore (lv' := [(6, .int (zI z94_0)), (0, .ref (zA P 0 0 0)), (2, .int (zI p1)), (3, .int (zI p2)), (4, .int (zI p3)), (5, zrv P x1)]) hC hL (by decide) rfl dX1_guard_94 (fun ls hL => ?_)
        refine z_aload hC zvr_r (hL.at 5 rfl) dX1_guard_96 ?_
        refine z_iload_n hC rfl (hL.at 2 rfl) dX1_guard_98 ?_
        refine z_iconst hC dX1_guard_99 ?_
        obtain ⟨J112, eJ112, hV⟩ := zjn_abs hV
        have hJ112 : ∀ (z112_1 : ZR) (H112 : ZG), J112 z112_1 H112 → ∀ (H : Heap) (locs : List Loc) (ls : Array Slot), zS P s H112 H locs → zL ls 7 [(0, .ref (zA P 0 0 0)), (3, .int (zI p2)), (4, .int (zI p3)), (5, zrv P x1), (6, .int (zI z94_0))] → W p l e rX1_guard s m args below meth c H locs 4 22 (vx_MQ below (zQi P Q) (zXc P X) args s 4 22 (zAr P)) (F0 m 112 ls [zrv P z112_1, zrv P x1]) := by
          intro z112_1 H112 hV H locs ls hG hL
          rw [eJ112] at hV
          refine z_dP (v := (.inr z112_1)) hC hG kFX1_301_16 rfl nk_16_2 zty_o zvR_r hV dX1_guard_112 ?_
          intro G1 _ _ hG hV
          refine z_aload hC zvr_r (hL.at 3 rfl) dX1_guard_115 ?_
          refine z_iload_n hC rfl (hL.at 1 rfl) dX1_guard_117 ?_
          refine z_dP (v := (.inl p2)) hC hG kFX1_314_16 rfl nk_16_3 zty_i (zvR_i hp2) hV dX1_guard_118 ?_
          intro G2 _ _ hG hV
          refine z_aload hC zvr_r (hL.at 3 rfl) dX1_guard_121 ?_
          refine z_iload hC (hL.at 2 rfl) dX1_guard_123 ?_
          refine z_dP (v := (.inl p3)) hC hG kFX1_316_16 rfl nk_16_4 zty_i (zvR_i hp3) hV dX1_guard_125 ?_
          intro G3 _ _ hG hV
          refine z_aload_n hC zvr_a rfl (hL.at 0 rfl) dX1_guard_128 ?_
          refine z_call_v hG (zrunV (ci := 1) hC hG (Nat.le_of_ble_eq_true rfl) (Nat.le_of_ble_eq_true rfl) (zobj hG rfl (Nat.le_of_ble_eq_true rfl) (Nat.le_of_ble_eq_true rfl)) (mX1_changed l P G3 hV) kVX1_127 rfl rfl rfl ⟨(Nat.le_of_ble_eq_true rfl), (Nat.le_of_ble_eq_true rfl)⟩ ⟨(Nat.le_of_ble_eq_true rfl), (Nat.le_of_ble_eq_true rfl)⟩ rfl ⟨zcs_0, (Nat.le_of_ble_eq_true rfl)⟩ hL.1.1 dX1_guard_129) ?_
          rintro G4 _ _ hV hG
          refine z_iload hC (hL.at 4 rfl) dX1_guard_132 ?_
          exact vx_ret (z_iret hC hG hr hk hz94_0 hV (Nat.le_of_ble_eq_true rfl) (Nat.le_of_ble_eq_true rfl) dX1_guard_134)
        refine z_icmp_ne (tgt := 107) hC hp1 (inR_lit rfl) hV dX1_guard_100 (by decide) ?_ ?_
        · intro hV
          refine z_call_r hG (zrunS hC hG (mX17_values l P G hV) kSX1_310 rfl rfl rfl ⟨(Nat.le_of_ble_eq_true rfl), (Nat.le_of_ble_eq_true rfl)⟩ ⟨(Nat.le_of_ble_eq_true rfl), (Nat.le_of_ble_eq_true rfl)⟩ rfl ⟨(zcs_c (zrv_cat _ _) zcs_0), (Nat.le_of_ble_eq_true rfl)⟩ hL.1.1 dX1_guard_107) ?_
          rintro x5 G5 _ _  hV hG
          refine z_iload_n hC rfl (hL.at 2 rfl) dX1_guard_110 ?_
          refine z_erld hC hG hp1 hV dX1_guard_111 ?_
          intro x6 hV
          exact hJ112 x6 G5 hV _ _ _ hG (hL.sub [1, 3, 4, 5, 0] rfl)
        · intro hV
          refine z_null hC dX1_guard_103 ?_
          refine z_goto (tgt := 112) hC dX1_guard_104 (by decide) ?_
          refine W.widen (k := 4) (n := 22) (Nat.le_of_ble_eq_true rfl) (Nat.le_of_ble_eq_true rfl) ?_
          exact hJ112 none G hV _ _ _ hG (hL.sub [1, 3, 4, 5, 0] rfl)
      refine z_ifnonnull (tgt := 86) hC hV dX1_guard_79 (by decide) ?_ ?_
      · intro hV
        refine z_aload hC zvr_r (hL.at 4 rfl) dX1_guard_86 ?_
        refine z_dR hC hG kFX1_301_16 hV dX1_guard_88 ?_
        intro x7 hV
        refine z_ord hC hG (l := l) hV kUX1_305_1 kUX1_305_2 kUX1_305_3 kUX1_305_4 ⟨(Nat.le_of_ble_eq_true rfl), (Nat.le_of_ble_eq_true rfl)⟩ ⟨(Nat.le_of_ble_eq_true rfl), (Nat.le_of_ble_eq_true rfl)⟩ ⟨zcs_0, (Nat.le_of_ble_eq_true rfl)⟩ hL.1.1 dX1_guard_91 ?_
        intro x8 _ _ hx8 hV hG
        exact hJ94 hG x8 hx8 hV _ hL
      · intro hV
        refine z_iconst hC dX1_guard_82 ?_
        refine z_goto (tgt := 94) hC dX1_guard_83 (by decide) ?_
        exact hJ94 hG (-1) (inR_lit rfl) hV _ hL
    obtain ⟨J70, eJ70, hV⟩ := zjn_abs hV
    have hJ70 : ∀ {H : Heap} {locs : List Loc}, zS P s G H locs → J70 () → ∀ (ls : Array Slot), zL ls 7 [(0, .ref (zA P 0 0 0)), (2, .int (zI p1)), (3, .int (zI p2)), (4, .int (zI p3)), (5, zrv P x1)] → W p l e rX1_guard s m args below meth c H locs 2 12 (vx_MQ below (zQi P Q) (zXc P X) args s 4 22 (zAr P)) (F0 m 70 ls []) := by
      intro H locs hG hV ls hL
      rw [eJ70] at hV
      refine z_iconst hC dX1_guard_70 ?_
      exact hJ71 hG 0 (Or.inl rfl) hV _ hL
    refine z_if_eq (tgt := 70) hC (inR_b hx3) hV dX1_guard_41 (by decide) ?_ ?_
    · intro hV
      exact hJ70 hG hV _ hL
    · intro hV
      refine z_iload_n hC rfl (hL.at 1 rfl) dX1_guard_44 ?_
      refine z_iconst hC dX1_guard_45 ?_
      obtain ⟨J66, eJ66, hV⟩ := zjn_abs hV
      have hJ66 : ∀ {H : Heap} {locs : List Loc}, zS P s G H locs → J66 () → ∀ (ls : Array Slot), zL ls 7 [(0, .ref (zA P 0 0 0)), (2, .int (zI p1)), (3, .int (zI p2)), (4, .int (zI p3)), (5, zrv P x1)] → W p l e rX1_guard s m args below meth c H locs 2 12 (vx_MQ below (zQi P Q) (zXc P X) args s 4 22 (zAr P)) (F0 m 66 ls []) := by
        intro H locs hG hV ls hL
        rw [eJ66] at hV
        refine z_iconst hC dX1_guard_66 ?_
        refine z_goto (tgt := 71) hC dX1_guard_67 (by decide) ?_
        exact hJ71 hG 1 (Or.inr rfl) hV _ hL
      refine z_icmp_ne (tgt := 56) hC hp1 (inR_lit rfl) hV dX1_guard_46 (by decide) ?_ ?_
      · intro hV
        refine z_aload_n hC zvr_a rfl (hL.at 0 rfl) dX1_guard_56 ?_
        refine z_aload hC zvr_r (hL.at 4 rfl) dX1_guard_57 ?_
        refine z_iload_n hC rfl (hL.at 2 rfl) dX1_guard_59 ?_
        refine z_call_z hG (zrunV (ci := 1) hC hG (Nat.le_of_ble_eq_true rfl) (Nat.le_of_ble_eq_true rfl) (zobj hG rfl (Nat.le_of_ble_eq_true rfl) (Nat.le_of_ble_eq_true rfl)) (mX1_isNumberIn l P G x1 p2 hp2 hV) kVX1_298 rfl rfl rfl ⟨(Nat.le_of_ble_eq_true rfl), (Nat.le_of_ble_eq_true rfl)⟩ ⟨(Nat.le_of_ble_eq_true rfl), (Nat.le_of_ble_eq_true rfl)⟩ rfl ⟨zcs_0, (Nat.le_of_ble_eq_true rfl)⟩ hL.1.1 dX1_guard_60) ?_
        rintro x9 _ _ _ hx9 ⟨rfl, hV⟩ hG
        refine z_if_eq (tgt := 70) hC (inR_b hx9) hV dX1_guard_63 (by decide) ?_ ?_
        · intro hV
          exact hJ70 hG hV _ hL
        · intro hV
          exact hJ66 hG hV _ hL
      · intro hV
        refine z_iload_n hC rfl (hL.at 2 rfl) dX1_guard_49 ?_
        refine z_if_ne (tgt := 70) hC hp2 hV dX1_guard_50 (by decide) ?_ ?_
        · intro hV
          exact hJ70 hG hV _ hL
        · intro hV
          refine z_goto (tgt := 66) hC dX1_guard_53 (by decide) ?_
          exact hJ66 hG hV _ hL
  obtain ⟨J29, eJ29, hV⟩ := zjn_abs hV
  have hJ29 : ∀ {H : Heap} {locs : List Loc}, zS P s G H locs → J29 () → ∀ (ls : Array Slot), zL ls 7 [(0, .ref (zA P 0 0 0)), (2, .int (zI p1)), (3, .int (zI p2)), (4, .int (zI p3)), (5, zrv P x1)] → W p l e rX1_guard s m args below meth c H locs 1 6 (vx_MQ below (zQi P Q) (zXc P X) args s 4 22 (zAr P)) (F0 m 29 ls []) := by
    intro H locs hG hV ls hL
    rw [eJ29] at hV
    refine z_iconst hC dX1_guard_29 ?_
    exact hJ30 hG 0 (Or.inl rfl) hV _ hL
  refine z_if_eq (tgt := 29) hC (inR_b hx2) hV dX1_guard_13 (by decide) ?_ ?_
  · intro hV
    exact hJ29 hG hV _ (hL.sub [1, 3, 4, 5, 0] rfl)
  · intro hV
    refine z_iload_n hC rfl (hL.at 4 rfl) dX1_guard_16 ?_
    refine z_iconst hC dX1_guard_17 ?_
    refine z_iconst hC dX1_guard_18 ?_
    refine z_call_z hG (zrunS hC hG (mX1_inRange l P G p2 hp2 0 (inR_lit rfl) 5 (inR_lit rfl) hV) kSX1_91 rfl rfl rfl ⟨(Nat.le_of_ble_eq_true rfl), (Nat.le_of_ble_eq_true rfl)⟩ ⟨(Nat.le_of_ble_eq_true rfl), (Nat.le_of_ble_eq_true rfl)⟩ rfl ⟨zcs_0, (Nat.le_of_ble_eq_true rfl)⟩ hL.1.1 dX1_guard_19) ?_
    rintro x10 _ _ _ hx10 ⟨rfl, hV⟩ hG
    refine z_if_eq (tgt := 29) hC (inR_b hx10) hV dX1_guard_22 (by decide) ?_ ?_
    · intro hV
      exact hJ29 hG hV _ (hL.sub [1, 3, 4, 5, 0] rfl)
    · intro hV
      refine z_iconst hC dX1_guard_25 ?_
      refine z_goto (tgt := 30) hC dX1_guard_26 (by decide) ?_
      exact hJ30 hG 1 (Or.inr rfl) hV _ (hL.sub [1, 3, 4, 5, 0] rfl)
abbrev rX1_requireColumn : Room := { frames := 9, cells := 1, slots := 6, locals := 120 }
def vX1_requireColumn (p0 : Int) (G : ZG) (X : Nat → ZG → Prop) (Q : Unit → Prop) : Prop := zgF G 0 5 fun (x1 : Int) => vX1_inRange p0 0 (w32 (x1 - 1)) fun (x2 : Int) => vX1_requireIndex x2 G X fun (_ : Unit) => Q ()
set_option maxHeartbeats 4000000 in
theorem mX1_requireColumn (l : Launch) (P : ZP) (G : ZG) (p0 : Int) (hp0 : inR p0) {X : Nat → ZG → Prop} {Q : Unit → Prop} (hst : l.stackTraces = false) (hV : vX1_requireColumn p0 G X Q) : vx_Met l yX1_requireColumn (ws_ yX1_requireColumn cX1_requireColumn 2 none) rX1_requireColumn (zPc P G [.ref (zA P 0 0 0), .int (zI p0)]) (zQv P (fun G2 => G = G2 ∧ Q ())) (zXc P X) 1 6 (zAr P) := by
  refine zMetX (own := RX1) rfl (by decide) (zcs_c rfl (zcs_c rfl zcs_0)) (Nat.le_of_ble_eq_true rfl) (fun p e s m args below meth c ls hC hr hk hn hnt hG hL => ?_)
  unfold vX1_requireColumn at hV
  refine z_iload_n hC rfl (hL.at 1 rfl) dX1_requireColumn_0 ?_
  refine z_iconst hC dX1_requireColumn_1 ?_
  refine z_aload_n hC zvr_a rfl (hL.at 0 rfl) dX1_requireColumn_2 ?_
  refine z_getF hC hG kFX1_255_1 rfl rfl hV dX1_requireColumn_3 ?_
  intro x1 hx1 hV
  refine z_iconst hC dX1_requireColumn_6 ?_
  refine z_isub hC dX1_requireColumn_7 ?_
  refine z_call_z hG (zrunS hC hG (mX1_inRange l P G p0 hp0 0 (inR_lit rfl) (w32 (x1 - 1)) (inR_w _) hV) kSX1_91 rfl rfl rfl ⟨(Nat.le_of_ble_eq_true rfl), (Nat.le_of_ble_eq_true rfl)⟩ ⟨(Nat.le_of_ble_eq_true rfl), (Nat.le_of_ble_eq_true rfl)⟩ rfl ⟨zcs_0, (Nat.le_of_ble_eq_true rfl)⟩ hL.1.1 dX1_requireColumn_8) ?_
  rintro x2 _ _ _ hx2 ⟨rfl, hV⟩ hG
  refine z_xcall_v hG hnt hk (zrunSX hC hG (mX1_requireIndex l P G x2 hx2 hst hV) kSX1_105 rfl rfl rfl ⟨(Nat.le_of_ble_eq_true rfl), (Nat.le_of_ble_eq_true rfl)⟩ ⟨(Nat.le_of_ble_eq_true rfl), (Nat.le_of_ble_eq_true rfl)⟩ rfl ⟨zcs_0, (Nat.le_of_ble_eq_true rfl)⟩ hL.1.1 dX1_requireColumn_11) (Nat.le_of_ble_eq_true rfl) (Nat.le_of_ble_eq_true rfl) ?_
  rintro _ _ _ ⟨rfl, hV⟩ hG
  exact vx_ret (z_vret hC hG hr hk ⟨rfl, hV⟩ (Nat.le_of_ble_eq_true rfl) (Nat.le_of_ble_eq_true rfl) dX1_requireColumn_14)
abbrev rX1_numberOf : Room := { frames := 5, cells := 0, slots := 0, locals := 97 }
def vX1_numberOf (p0 : ZR) (G : ZG) (Q : Int → Prop) : Prop := zl1 (fun (P2 : Int → Prop) (a2_2 : Int) => vX1_told a2_2 G fun (x1 : ZR) => zisO G x1 9 ∧ vX9_pattern x1 G fun (x3 : ZR) => zok G x3 ∧ zok G p0 ∧ zfam x3 p0 ∧ zbr (x3 = p0) (Q a2_2) (zlt1 (w32 (a2_2 + 1)) fun (x4 : Int) => P2 x4)) 0
set_option maxHeartbeats 4000000 in
theorem mX1_numberOf (l : Launch) (P : ZP) (G : ZG) (p0 : ZR) {Q : Int → Prop} (hV : vX1_numberOf p0 G Q) : Met l yX1_numberOf (ws_ yX1_numberOf cX1_numberOf 3 (some .int)) rX1_numberOf (zPc P G [.ref (zA P 0 0 0), zrv P p0]) (zQi P (fun r G2 => G = G2 ∧ Q r)) 0 0 (zAr P) := by
  refine zMet RX1 (plainFor_of_name (by decide)) rfl (zcs_c rfl (zcs_c (zrv_cat _ _) zcs_0)) (Nat.le_of_ble_eq_true rfl) (fun p e s m args below meth c ls hC hr hk hn hG hL => ?_)
  unfold vX1_numberOf at hV
  refine z_iconst hC dX1_numberOf_0 ?_
  refine z_istore_n (lv' := [(2, .int (zI 0)), (0, .ref (zA P 0 0 0)), (1, zrv P p0)]) hC rfl hL (by decide) rfl dX1_numberOf_1 (fun ls hL => ?_)
  refine zl1_use hV (fun (a2_2 : Int) => inR a2_2 → ∀ (H : Heap) (locs : List Loc), zS P s G H locs → ∀ (ls : Array Slot), zL ls 3 [(0, .ref (zA P 0 0 0)), (1, zrv P p0), (2, .int (zI a2_2))] → W p l e rX1_numberOf s m args below meth c H locs 0 0 (MQ below (zQi P (fun r G2 => G = G2 ∧ Q r)) args s 0 0 (zAr P)) (F0 m 2 ls [])) ?_ (inR_lit rfl) _ _ hG _ (hL.sub [1, 2, 0] rfl)
  intro P2 a2_2 hP2 hV ha2_2 H locs hG ls hL
  refine z_aload_n hC zvr_a rfl (hL.at 0 rfl) dX1_numberOf_2 ?_
  refine z_iload_n hC rfl (hL.at 2 rfl) dX1_numberOf_3 ?_
  refine z_call_r hG (zrunV (ci := 1) hC hG (Nat.le_of_ble_eq_true rfl) (Nat.le_of_ble_eq_true rfl) (zobj hG rfl (Nat.le_of_ble_eq_true rfl) (Nat.le_of_ble_eq_true rfl)) (mX1_told l P G a2_2 ha2_2 hV) kVX1_170 rfl rfl rfl ⟨(Nat.le_of_ble_eq_true rfl), (Nat.le_of_ble_eq_true rfl)⟩ ⟨(Nat.le_of_ble_eq_true rfl), (Nat.le_of_ble_eq_true rfl)⟩ rfl ⟨zcs_0, (Nat.le_of_ble_eq_true rfl)⟩ hL.1.1 dX1_numberOf_4) ?_
  rintro x1 _ _ _  ⟨rfl, hV⟩ hG
  obtain ⟨hO2, hV⟩ := hV
  refine z_call_r hG (zrunVD hC hG hO2 (mX9_pattern l P G x1 hV) kVX1_183 rfl rfl rfl ⟨(Nat.le_of_ble_eq_true rfl), (Nat.le_of_ble_eq_true rfl)⟩ ⟨(Nat.le_of_ble_eq_true rfl), (Nat.le_of_ble_eq_true rfl)⟩ rfl ⟨zcs_0, (Nat.le_of_ble_eq_true rfl)⟩ hL.1.1 dX1_numberOf_7) ?_
  rintro x3 _ _ _  ⟨rfl, hV⟩ hG
  refine z_aload_n hC zvr_r rfl (hL.at 1 rfl) dX1_numberOf_10 ?_
  refine z_acmp_eq (x := x3) (y := p0) (tgt := 20) hC hG hV dX1_numberOf_11 (by decide) ?_ ?_
  · intro hV
    refine z_iload_n hC rfl (hL.at 2 rfl) dX1_numberOf_20 ?_
    exact z_iret hC hG hr hk ha2_2 ⟨rfl, hV⟩ (Nat.le_of_ble_eq_true rfl) (Nat.le_of_ble_eq_true rfl) dX1_numberOf_21
  · intro hV
    refine z_iincV (fun x4 => [(2, .int (zI x4)), (0, .ref (zA P 0 0 0)), (1, zrv P p0)]) hC hL (k := 2) rfl (by decide) (fun _ => rfl) hV dX1_numberOf_14 ?_
    intro x4 hx4 hV ls hL
    refine z_goto (tgt := 2) hC dX1_numberOf_17 (by decide) ?_
    exact hP2 x4 hV hx4 _ _ hG _ (hL.sub [1, 2, 0] rfl)
abbrev rX1_with : Room := { frames := 1, cells := 1, slots := 3, locals := 22 }
def vX1_with (p0 : ZR) (p1 : Int) (p2 : Int) (G : ZG) (Q : ZR → ZG → Prop) : Prop := zclI G p0 3 fun (x1 : ZR) (G1 : ZG) => zcaI G1 x1 ∧ zeS G1 x1 p1 p2 fun (G2 : ZG) => Q x1 G2
set_option maxHeartbeats 4000000 in
theorem mX1_with (l : Launch) (P : ZP) (G : ZG) (p0 : ZR) (p1 : Int) (hp1 : inR p1) (p2 : Int) (hp2 : inR p2) {Q : ZR → ZG → Prop} (hV : vX1_with p0 p1 p2 G Q) : Met l yX1_with (ws_ yX1_with cX1_with 4 (some (.array .int))) rX1_with (zPc P G [zrv P p0, .int (zI p1), .int (zI p2)]) (zQr P Q) 1 3 (zAr P) := by
  refine zMet RX1 (plainFor_of_name (by decide)) rfl (zcs_c (zrv_cat _ _) (zcs_c rfl (zcs_c rfl zcs_0))) (Nat.le_of_ble_eq_true rfl) (fun p e s m args below meth c ls hC hr hk hn hG hL => ?_)
  unfold vX1_with at hV
  refine z_aload_n hC zvr_r rfl (hL.at 0 rfl) dX1_with_0 ?_
  refine z_cloneI hC hG hL.1.1 kCX1_319 hV ⟨zcs_0, (Nat.le_of_ble_eq_true rfl)⟩ ⟨(Nat.le_of_ble_eq_true rfl), (Nat.le_of_ble_eq_true rfl)⟩ (Nat.le_of_ble_eq_true rfl) (Nat.le_of_ble_eq_true rfl) dX1_with_1 ?_
  intro x1 G1 _ hG hV
  refine z_castI hC hG q171 hV dX1_with_4 (fun hV => ?_)
  refine z_astore_n (lv' := [(3, zrv P x1), (0, zrv P p0), (1, .int (zI p1)), (2, .int (zI p2))]) hC zvr_r rfl hL (by decide) rfl dX1_with_7 (fun ls hL => ?_)
  refine z_aload_n hC zvr_r rfl (hL.at 0 rfl) dX1_with_8 ?_
  refine z_iload_n hC rfl (hL.at 2 rfl) dX1_with_9 ?_
  refine z_iload_n hC rfl (hL.at 3 rfl) dX1_with_10 ?_
  refine z_east hC hG hp1 hp2 hV dX1_with_11 ?_
  intro G2 _ _ hG hV
  refine z_aload_n hC zvr_r rfl (hL.at 0 rfl) dX1_with_12 ?_
  exact z_aret (r := x1) hC hG hr hk (Or.inr ⟨_, rfl⟩) hV (Nat.le_of_ble_eq_true rfl) (Nat.le_of_ble_eq_true rfl) dX1_with_13
abbrev rX1_split : Room := { frames := 10, cells := 8, slots := 136, locals := 179 }
def vX1_split (p0 : Int) (p1 : Int) (G : ZG) (X : Nat → ZG → Prop) (Q : Int → ZG → Prop) : Prop := vX1_caseAt p0 G X fun (x1 : ZR) => vX1_requireColumn p1 G X fun (_ : Unit) => zdR G x1 16 0 fun (x2 : ZR) => zeI G x2 p1 fun (x3 : Int) => vX1_told x3 G fun (x4 : ZR) => zdR G x1 16 2 fun (x5 : ZR) => zjn (fun (z66_0 : Int) => vX1_requireState z66_0 G X fun (_ : Unit) => zisO G x4 9 ∧ vX9_pattern x4 G fun (x7 : ZR) => zca G x7 13 ∧ znw G (.inr (.inr (16, zdf 16))) fun (x8 : ZR) (G1 : ZG) => zdR G1 x1 16 0 fun (x9 : ZR) => zisO G1 x7 13 ∧ vX13_first x7 G1 fun (x11 : ZR) => vX1_numberOf x11 G1 fun (x12 : Int) => vX1_with x9 p1 x12 G1 fun (x13 : ZR) (G2 : ZG) => zdI G2 x1 16 1 fun (x14 : Int) => znn x8 ∧ vX16_init x8 x13 x14 G2 fun (G3 : ZG) => vJ2_set 10 p0 x8 G3 fun (x16 : ZR) (G4 : ZG) => znw G4 (.inr (.inr (16, zdf 16))) fun (x17 : ZR) (G5 : ZG) => zdR G5 x1 16 0 fun (x18 : ZR) => zisO G5 x7 13 ∧ vX13_second x7 G5 fun (x20 : ZR) => vX1_numberOf x20 G5 fun (x21 : Int) => vX1_with x18 p1 x21 G5 fun (x22 : ZR) (G6 : ZG) => zdI G6 x1 16 1 fun (x23 : Int) => znn x17 ∧ vX16_init x17 x22 x23 G6 fun (G7 : ZG) => vJ2_add_3 10 (w32 (p0 + 1)) x17 G7 fun (G8 : ZG) => vX1_changed G8 fun (G9 : ZG) => vJ2_size 10 G9 fun (x25 : Int) => Q x25 G9) fun J66 => zjn (fun (_ : Unit) => J66 0) fun J65 => zbr (x5 ≠ none) (J65 ()) (zisO G x4 9 ∧ vX9_pattern x4 G fun (x27 : ZR) => ziO G x27 13 fun (x28 : Int) => zbr (x28 = 0) (J65 ()) (zisO G x4 9 ∧ vX9_isPure x4 G fun (x30 : Int) => zbr (x30 = 0) (J65 ()) (vJ2_size 10 G fun (x31 : Int) => zbr (8 ≤ x31) (J65 ()) (J66 1))))
set_option maxHeartbeats 4000000 in
theorem mX1_split (l : Launch) (P : ZP) (G : ZG) (p0 : Int) (hp0 : inR p0) (p1 : Int) (hp1 : inR p1) {X : Nat → ZG → Prop} {Q : Int → ZG → Prop} (hst : l.stackTraces = false) (hV : vX1_split p0 p1 G X Q) : vx_Met l yX1_split (ws_ yX1_split cX1_split 6 (some .int)) rX1_split (zPc P G [.ref (zA P 0 0 0), .int (zI p0), .int (zI p1)]) (zQi P Q) (zXc P X) 8 136 (zAr P) := by
  refine zMetX (own := RX1) rfl (by decide) (zcs_c rfl (zcs_c rfl (zcs_c rfl zcs_0))) (Nat.le_of_ble_eq_true rfl) (fun p e s m args below meth c ls hC hr hk hn hnt hG hL => ?_)
  unfold vX1_split at hV
  refine z_aload_n hC zvr_a rfl (hL.at 0 rfl) dX1_split_0 ?_
  refine z_iload_n hC rfl (hL.at 1 rfl) dX1_split_1 ?_
  refine z_xcall_r hG hnt hk (zrunVX (ci := 1) hC hG (Nat.le_of_ble_eq_true rfl) (Nat.le_of_ble_eq_true rfl) (zobj hG rfl (Nat.le_of_ble_eq_true rfl) (Nat.le_of_ble_eq_true rfl)) (mX1_caseAt l P G p0 hp0 hst hV) kVX1_294 rfl rfl rfl ⟨(Nat.le_of_ble_eq_true rfl), (Nat.le_of_ble_eq_true rfl)⟩ ⟨(Nat.le_of_ble_eq_true rfl), (Nat.le_of_ble_eq_true rfl)⟩ rfl ⟨zcs_0, (Nat.le_of_ble_eq_true rfl)⟩ hL.1.1 dX1_split_2) (Nat.le_of_ble_eq_true rfl) (Nat.le_of_ble_eq_true rfl) ?_
  rintro x1 _ _ _  ⟨rfl, hV⟩ hG
  refine z_astore_n (lv' := [(3, zrv P x1), (0, .ref (zA P 0 0 0)), (1, .int (zI p0)), (2, .int (zI p1))]) hC zvr_r rfl hL (by decide) rfl dX1_split_5 (fun ls hL => ?_)
  refine z_aload_n hC zvr_a rfl (hL.at 1 rfl) dX1_split_6 ?_
  refine z_iload_n hC rfl (hL.at 3 rfl) dX1_split_7 ?_
  refine z_xcall_v hG hnt hk (zrunVX (ci := 1) hC hG (Nat.le_of_ble_eq_true rfl) (Nat.le_of_ble_eq_true rfl) (zobj hG rfl (Nat.le_of_ble_eq_true rfl) (Nat.le_of_ble_eq_true rfl)) (mX1_requireColumn l P G p1 hp1 hst hV) kVX1_323 rfl rfl rfl ⟨(Nat.le_of_ble_eq_true rfl), (Nat.le_of_ble_eq_true rfl)⟩ ⟨(Nat.le_of_ble_eq_true rfl), (Nat.le_of_ble_eq_true rfl)⟩ rfl ⟨zcs_0, (Nat.le_of_ble_eq_true rfl)⟩ hL.1.1 dX1_split_8) (Nat.le_of_ble_eq_true rfl) (Nat.le_of_ble_eq_true rfl) ?_
  rintro _ _ _ ⟨rfl, hV⟩ hG
  refine z_aload_n hC zvr_a rfl (hL.at 1 rfl) dX1_split_11 ?_
  refine z_aload_n hC zvr_r rfl (hL.at 0 rfl) dX1_split_12 ?_
  refine z_dR hC hG kFX1_292_16 hV dX1_split_13 ?_
  intro x2 hV
  refine z_iload_n hC rfl (hL.at 3 rfl) dX1_split_16 ?_
  refine z_eald hC hG hp1 hV dX1_split_17 ?_
  intro x3 hx3 hV
  refine z_call_r hG (zrunV (ci := 1) hC hG (Nat.le_of_ble_eq_true rfl) (Nat.le_of_ble_eq_true rfl) (zobj hG rfl (Nat.le_of_ble_eq_true rfl) (Nat.le_of_ble_eq_true rfl)) (mX1_told l P G x3 hx3 hV) kVX1_170 rfl rfl rfl ⟨(Nat.le_of_ble_eq_true rfl), (Nat.le_of_ble_eq_true rfl)⟩ ⟨(Nat.le_of_ble_eq_true rfl), (Nat.le_of_ble_eq_true rfl)⟩ rfl ⟨zcs_0, (Nat.le_of_ble_eq_true rfl)⟩ hL.1.1 dX1_split_18) ?_
  rintro x4 _ _ _  ⟨rfl, hV⟩ hG
  refine z_astore (lv' := [(4, zrv P x4), (3, zrv P x1), (0, .ref (zA P 0 0 0)), (1, .int (zI p0)), (2, .int (zI p1))]) hC zvr_r hL (by decide) rfl dX1_split_21 (fun ls hL => ?_)
  refine z_aload_n hC zvr_r rfl (hL.at 1 rfl) dX1_split_23 ?_
  refine z_dR hC hG kFX1_301_16 hV dX1_split_24 ?_
  intro x5 hV
  obtain ⟨J66, eJ66, hV⟩ := zjn_abs hV
  have hJ66 : ∀ {H : Heap} {locs : List Loc}, zS P s G H locs → ∀ (z66_0 : Int), (z66_0 = 0 ∨ z66_0 = 1) → J66 z66_0 → ∀ (ls : Array Slot), zL ls 6 [(0, .ref (zA P 0 0 0)), (1, .int (zI p0)), (2, .int (zI p1)), (3, zrv P x1), (4, zrv P x4)] → W p l e rX1_split s m args below meth c H locs 2 12 (vx_MQ below (zQi P Q) (zXc P X) args s 8 136 (zAr P)) (F0 m 66 ls [.int (zI z66_0)]) := by
    intro H locs hG z66_0 hz66_0 hV ls hL
    rw [eJ66] at hV
    refine z_xcall_v hG hnt hk (zrunSX hC hG (mX1_requireState l P G z66_0 hz66_0 hst hV) kSX1_120 rfl rfl rfl ⟨(Nat.le_of_ble_eq_true rfl), (Nat.le_of_ble_eq_true rfl)⟩ ⟨(Nat.le_of_ble_eq_true rfl), (Nat.le_of_ble_eq_true rfl)⟩ rfl ⟨zcs_0, (Nat.le_of_ble_eq_true rfl)⟩ hL.1.1 dX1_split_66) (Nat.le_of_ble_eq_true rfl) (Nat.le_of_ble_eq_true rfl) ?_
    rintro _ _ _ ⟨rfl, hV⟩ hG
    refine z_aload hC zvr_r (hL.at 4 rfl) dX1_split_69 ?_
    obtain ⟨hO6, hV⟩ := hV
    refine z_call_r hG (zrunVD hC hG hO6 (mX9_pattern l P G x4 hV) kVX1_183 rfl rfl rfl ⟨(Nat.le_of_ble_eq_true rfl), (Nat.le_of_ble_eq_true rfl)⟩ ⟨(Nat.le_of_ble_eq_true rfl), (Nat.le_of_ble_eq_true rfl)⟩ rfl ⟨zcs_0, (Nat.le_of_ble_eq_true rfl)⟩ hL.1.1 dX1_split_71) ?_
    rintro x7 _ _ _  ⟨rfl, hV⟩ hG
    refine z_cast hC hG (ci := 13) (Nat.le_of_ble_eq_true rfl) (Nat.le_of_ble_eq_true rfl) q884 hV dX1_split_74 (fun hV => ?_)
    refine z_astore (lv' := [(5, zrv P x7), (0, .ref (zA P 0 0 0)), (1, .int (zI p0)), (2, .int (zI p1)), (3, zrv P x1), (4, zrv P x4)]) hC zvr_r hL (by decide) rfl dX1_split_77 (fun ls hL => ?_)
    refine z_aload_n hC zvr_a rfl (hL.at 1 rfl) dX1_split_79 ?_
    refine z_getO hC hG 10 kFX1_44_1 rfl rfl dX1_split_80 ?_
    refine z_iload_n hC rfl (hL.at 2 rfl) dX1_split_83 ?_
    refine z_new (ci := 16) (n := 6) hC hG (Nat.le_of_ble_eq_true rfl) (Nat.le_of_ble_eq_true rfl) rfl q971 q972 q129 hV (Nat.le_of_ble_eq_true rfl) (Nat.le_of_ble_eq_true rfl) dX1_split_84 ?_
    intro x8 G1 _ hG hV
    refine z_dup hC (zrv_cat _ _) dX1_split_87 ?_
    refine z_aload_n hC zvr_r rfl (hL.at 4 rfl) dX1_split_88 ?_
    refine z_dR hC hG kFX1_292_16 hV dX1_split_89 ?_
    intro x9 hV
    refine z_iload_n hC rfl (hL.at 3 rfl) dX1_split_92 ?_
    refine z_aload_n hC zvr_a rfl (hL.at 1 rfl) dX1_split_93 ?_
    refine z_aload hC zvr_r (hL.at 0 rfl) dX1_split_94 ?_
    obtain ⟨hO10, hV⟩ := hV
    refine z_call_r hG (zrunVD hC hG hO10 (mX13_first l P G1 x7 hV) kVX1_276 rfl rfl rfl ⟨(Nat.le_of_ble_eq_true rfl), (Nat.le_of_ble_eq_true rfl)⟩ ⟨(Nat.le_of_ble_eq_true rfl), (Nat.le_of_ble_eq_true rfl)⟩ rfl ⟨(zcs_c rfl (zcs_c rfl (zcs_c (zrv_cat _ _) (zcs_c (zrv_cat _ _) (zcs_c (zrv_cat _ _) (zcs_c rfl (zcs_c rfl zcs_0))))))), (Nat.le_of_ble_eq_true rfl)⟩ hL.1.1 dX1_split_96) ?_
    rintro x11 _ _ _  ⟨rfl, hV⟩ hG
    refine z_call_i hG (zrunV (ci := 1) hC hG (Nat.le_of_ble_eq_true rfl) (Nat.le_of_ble_eq_true rfl) (zobj hG rfl (Nat.le_of_ble_eq_true rfl) (Nat.le_of_ble_eq_true rfl)) (mX1_numberOf l P G1 x11 hV) kVX1_326 rfl rfl rfl ⟨(Nat.le_of_ble_eq_true rfl), (Nat.le_of_ble_eq_true rfl)⟩ ⟨(Nat.le_of_ble_eq_true rfl), (Nat.le_of_ble_eq_true rfl)⟩ rfl ⟨(zcs_c rfl (zcs_c (zrv_cat _ _) (zcs_c (zrv_cat _ _) (zcs_c (zrv_cat _ _) (zcs_c rfl (zcs_c rfl zcs_0)))))), (Nat.le_of_ble_eq_true rfl)⟩ hL.1.1 dX1_split_99) ?_
    rintro x12 _ _ _ hx12 ⟨rfl, hV⟩ hG
    refine z_call_r hG (zrunS hC hG (mX1_with l P G1 x9 p1 hp1 x12 hx12 hV) kSX1_330 rfl rfl rfl ⟨(Nat.le_of_ble_eq_true rfl), (Nat.le_of_ble_eq_true rfl)⟩ ⟨(Nat.le_of_ble_eq_true rfl), (Nat.le_of_ble_eq_true rfl)⟩ rfl ⟨(zcs_c (zrv_cat _ _) (zcs_c (zrv_cat _ _) (zcs_c rfl (zcs_c rfl zcs_0)))), (Nat.le_of_ble_eq_true rfl)⟩ hL.1.1 dX1_split_102) ?_
    rintro x13 G2 _ _  hV hG
    refine z_aload_n hC zvr_r rfl (hL.at 4 rfl) dX1_split_105 ?_
    refine z_dI hC hG kFX1_334_16 hV dX1_split_106 ?_
    intro x14 hx14 hV
    obtain ⟨hO15, hV⟩ := hV
    refine z_call_v hG (zrunI hC hG hO15 (mX16_init l P G2 x8 x13 x14 hx14 hV) kIX1_263 rfl rfl rfl ⟨(Nat.le_of_ble_eq_true rfl), (Nat.le_of_ble_eq_true rfl)⟩ ⟨(Nat.le_of_ble_eq_true rfl), (Nat.le_of_ble_eq_true rfl)⟩ rfl ⟨(zcs_c (zrv_cat _ _) (zcs_c rfl (zcs_c rfl zcs_0))), (Nat.le_of_ble_eq_true rfl)⟩ hL.1.1 dX1_split_109) ?_
    rintro G3 _ _ hV hG
    refine z_call_r hG (zrunV (ci := 2) hC hG (Nat.le_of_ble_eq_true rfl) (Nat.le_of_ble_eq_true rfl) (zobj hG rfl (Nat.le_of_ble_eq_true rfl) (Nat.le_of_ble_eq_true rfl)) (mJ2_set l P G3 10 rfl p0 hp0 x8 hV) kVX1_337 rfl rfl rfl ⟨(Nat.le_of_ble_eq_true rfl), (Nat.le_of_ble_eq_true rfl)⟩ ⟨(Nat.le_of_ble_eq_true rfl), (Nat.le_of_ble_eq_true rfl)⟩ rfl ⟨zcs_0, (Nat.le_of_ble_eq_true rfl)⟩ hL.1.1 dX1_split_112) ?_
    rintro x16 G4 _ _  hV hG
    refine z_pop hC (zrv_cat _ _) dX1_split_115 ?_
    refine z_aload_n hC zvr_a rfl (hL.at 1 rfl) dX1_split_116 ?_
    refine z_getO hC hG 10 kFX1_44_1 rfl rfl dX1_split_117 ?_
    refine z_iload_n hC rfl (hL.at 2 rfl) dX1_split_120 ?_
    refine z_iconst hC dX1_split_121 ?_
    refine z_iadd hC dX1_split_122 ?_
    refine z_new (ci := 16) (n := 6) hC hG (Nat.le_of_ble_eq_true rfl) (Nat.le_of_ble_eq_true rfl) rfl q971 q972 q129 hV (Nat.le_of_ble_eq_true rfl) (Nat.le_of_ble_eq_true rfl) dX1_split_123 ?_
    intro x17 G5 _ hG hV
    refine z_dup hC (zrv_cat _ _) dX1_split_126 ?_
    refine z_aload_n hC zvr_r rfl (hL.at 4 rfl) dX1_split_127 ?_
    refine z_dR hC hG kFX1_292_16 hV dX1_split_128 ?_
    intro x18 hV
    refine z_iload_n hC rfl (hL.at 3 rfl) dX1_split_131 ?_
    refine z_aload_n hC zvr_a rfl (hL.at 1 rfl) dX1_split_132 ?_
    refine z_aload hC zvr_r (hL.at 0 rfl) dX1_split_133 ?_
    obtain ⟨hO19, hV⟩ := hV
    refine z_call_r hG (zrunVD hC hG hO19 (mX13_second l P G5 x7 hV) kVX1_279 rfl rfl rfl ⟨(Nat.le_of_ble_eq_true rfl), (Nat.le_of_ble_eq_true rfl)⟩ ⟨(Nat.le_of_ble_eq_true rfl), (Nat.le_of_ble_eq_true rfl)⟩ rfl ⟨(zcs_c rfl (zcs_c rfl (zcs_c (zrv_cat _ _) (zcs_c (zrv_cat _ _) (zcs_c (zrv_cat _ _) (zcs_c rfl (zcs_c rfl zcs_0))))))), (Nat.le_of_ble_eq_true rfl)⟩ hL.1.1 dX1_split_135) ?_
    rintro x20 _ _ _  ⟨rfl, hV⟩ hG
    refine z_call_i hG (zrunV (ci := 1) hC hG (Nat.le_of_ble_eq_true rfl) (Nat.le_of_ble_eq_true rfl) (zobj hG rfl (Nat.le_of_ble_eq_true rfl) (Nat.le_of_ble_eq_true rfl)) (mX1_numberOf l P G5 x20 hV) kVX1_326 rfl rfl rfl ⟨(Nat.le_of_ble_eq_true rfl), (Nat.le_of_ble_eq_true rfl)⟩ ⟨(Nat.le_of_ble_eq_true rfl), (Nat.le_of_ble_eq_true rfl)⟩ rfl ⟨(zcs_c rfl (zcs_c (zrv_cat _ _) (zcs_c (zrv_cat _ _) (zcs_c (zrv_cat _ _) (zcs_c rfl (zcs_c rfl zcs_0)))))), (Nat.le_of_ble_eq_true rfl)⟩ hL.1.1 dX1_split_138) ?_
    rintro x21 _ _ _ hx21 ⟨rfl, hV⟩ hG
    refine z_call_r hG (zrunS hC hG (mX1_with l P G5 x18 p1 hp1 x21 hx21 hV) kSX1_330 rfl rfl rfl ⟨(Nat.le_of_ble_eq_true rfl), (Nat.le_of_ble_eq_true rfl)⟩ ⟨(Nat.le_of_ble_eq_true rfl), (Nat.le_of_ble_eq_true rfl)⟩ rfl ⟨(zcs_c (zrv_cat _ _) (zcs_c (zrv_cat _ _) (zcs_c rfl (zcs_c rfl zcs_0)))), (Nat.le_of_ble_eq_true rfl)⟩ hL.1.1 dX1_split_141) ?_
    rintro x22 G6 _ _  hV hG
    refine z_aload_n hC zvr_r rfl (hL.at 4 rfl) dX1_split_144 ?_
    refine z_dI hC hG kFX1_334_16 hV dX1_split_145 ?_
    intro x23 hx23 hV
    obtain ⟨hO24, hV⟩ := hV
    refine z_call_v hG (zrunI hC hG hO24 (mX16_init l P G6 x17 x22 x23 hx23 hV) kIX1_263 rfl rfl rfl ⟨(Nat.le_of_ble_eq_true rfl), (Nat.le_of_ble_eq_true rfl)⟩ ⟨(Nat.le_of_ble_eq_true rfl), (Nat.le_of_ble_eq_true rfl)⟩ rfl ⟨(zcs_c (zrv_cat _ _) (zcs_c rfl (zcs_c rfl zcs_0))), (Nat.le_of_ble_eq_true rfl)⟩ hL.1.1 dX1_split_148) ?_
    rintro G7 _ _ hV hG
    refine z_call_v hG (zrunV (ci := 2) hC hG (Nat.le_of_ble_eq_true rfl) (Nat.le_of_ble_eq_true rfl) (zobj hG rfl (Nat.le_of_ble_eq_true rfl) (Nat.le_of_ble_eq_true rfl)) (mJ2_add_3 l P G7 10 rfl (w32 (p0 + 1)) (inR_w _) x17 hV) kVX1_341 rfl rfl rfl ⟨(Nat.le_of_ble_eq_true rfl), (Nat.le_of_ble_eq_true rfl)⟩ ⟨(Nat.le_of_ble_eq_true rfl), (Nat.le_of_ble_eq_true rfl)⟩ rfl ⟨zcs_0, (Nat.le_of_ble_eq_true rfl)⟩ hL.1.1 dX1_split_151) ?_
    rintro G8 _ _ hV hG
    refine z_aload_n hC zvr_a rfl (hL.at 1 rfl) dX1_split_154 ?_
    refine z_call_v hG (zrunV (ci := 1) hC hG (Nat.le_of_ble_eq_true rfl) (Nat.le_of_ble_eq_true rfl) (zobj hG rfl (Nat.le_of_ble_eq_true rfl) (Nat.le_of_ble_eq_true rfl)) (mX1_changed l P G8 hV) kVX1_127 rfl rfl rfl ⟨(Nat.le_of_ble_eq_true rfl), (Nat.le_of_ble_eq_true rfl)⟩ ⟨(Nat.le_of_ble_eq_true rfl), (Nat.le_of_ble_eq_true rfl)⟩ rfl ⟨zcs_0, (Nat.le_of_ble_eq_true rfl)⟩ hL.1.1 dX1_split_155) ?_
    rintro G9 _ _ hV hG
    refine z_aload_n hC zvr_a rfl (hL.at 1 rfl) dX1_split_158 ?_
    refine z_getO hC hG 10 kFX1_44_1 rfl rfl dX1_split_159 ?_
    refine z_call_i hG (zrunV (ci := 2) hC hG (Nat.le_of_ble_eq_true rfl) (Nat.le_of_ble_eq_true rfl) (zobj hG rfl (Nat.le_of_ble_eq_true rfl) (Nat.le_of_ble_eq_true rfl)) (mJ2_size l P G9 10 rfl hV) kVX1_101 rfl rfl rfl ⟨(Nat.le_of_ble_eq_true rfl), (Nat.le_of_ble_eq_true rfl)⟩ ⟨(Nat.le_of_ble_eq_true rfl), (Nat.le_of_ble_eq_true rfl)⟩ rfl ⟨zcs_0, (Nat.le_of_ble_eq_true rfl)⟩ hL.1.1 dX1_split_162) ?_
    rintro x25 _ _ _ hx25 ⟨rfl, hV⟩ hG
    exact vx_ret (z_iret hC hG hr hk hx25 hV (Nat.le_of_ble_eq_true rfl) (Nat.le_of_ble_eq_true rfl) dX1_split_165)
  obtain ⟨J65, eJ65, hV⟩ := zjn_abs hV
  have hJ65 : ∀ {H : Heap} {locs : List Loc}, zS P s G H locs → J65 () → ∀ (ls : Array Slot), zL ls 6 [(0, .ref (zA P 0 0 0)), (1, .int (zI p0)), (2, .int (zI p1)), (3, zrv P x1), (4, zrv P x4)] → W p l e rX1_split s m args below meth c H locs 2 12 (vx_MQ below (zQi P Q) (zXc P X) args s 8 136 (zAr P)) (F0 m 65 ls []) := by
    intro H locs hG hV ls hL
    rw [eJ65] at hV
    refine z_iconst hC dX1_split_65 ?_
    exact hJ66 hG 0 (Or.inl rfl) hV _ hL
  refine z_ifnonnull (tgt := 65) hC hV dX1_split_27 (by decide) ?_ ?_
  · intro hV
    exact hJ65 hG hV _ (hL.sub [2, 3, 4, 1, 0] rfl)
  · intro hV
    refine z_aload hC zvr_r (hL.at 0 rfl) dX1_split_30 ?_
    obtain ⟨hO26, hV⟩ := hV
    refine z_call_r hG (zrunVD hC hG hO26 (mX9_pattern l P G x4 hV) kVX1_183 rfl rfl rfl ⟨(Nat.le_of_ble_eq_true rfl), (Nat.le_of_ble_eq_true rfl)⟩ ⟨(Nat.le_of_ble_eq_true rfl), (Nat.le_of_ble_eq_true rfl)⟩ rfl ⟨zcs_0, (Nat.le_of_ble_eq_true rfl)⟩ hL.1.1 dX1_split_32) ?_
    rintro x27 _ _ _  ⟨rfl, hV⟩ hG
    refine z_inst hC hG (ci := 13) (by decide) q884 hV dX1_split_35 ?_
    intro x28 hx28 hV
    refine z_if_eq (tgt := 65) hC (inR_b hx28) hV dX1_split_38 (by decide) ?_ ?_
    · intro hV
      exact hJ65 hG hV _ (hL.sub [2, 3, 4, 1, 0] rfl)
    · intro hV
      refine z_aload hC zvr_r (hL.at 0 rfl) dX1_split_41 ?_
      obtain ⟨hO29, hV⟩ := hV
      refine z_call_z hG (zrunVD hC hG hO29 (mX9_isPure l P G x4 hV) kVX1_195 rfl rfl rfl ⟨(Nat.le_of_ble_eq_true rfl), (Nat.le_of_ble_eq_true rfl)⟩ ⟨(Nat.le_of_ble_eq_true rfl), (Nat.le_of_ble_eq_true rfl)⟩ rfl ⟨zcs_0, (Nat.le_of_ble_eq_true rfl)⟩ hL.1.1 dX1_split_43) ?_
      rintro x30 _ _ _ hx30 ⟨rfl, hV⟩ hG
      refine z_if_eq (tgt := 65) hC (inR_b hx30) hV dX1_split_46 (by decide) ?_ ?_
      · intro hV
        exact hJ65 hG hV _ (hL.sub [2, 3, 4, 1, 0] rfl)
      · intro hV
        refine z_aload_n hC zvr_a rfl (hL.at 2 rfl) dX1_split_49 ?_
        refine z_getO hC hG 10 kFX1_44_1 rfl rfl dX1_split_50 ?_
        refine z_call_i hG (zrunV (ci := 2) hC hG (Nat.le_of_ble_eq_true rfl) (Nat.le_of_ble_eq_true rfl) (zobj hG rfl (Nat.le_of_ble_eq_true rfl) (Nat.le_of_ble_eq_true rfl)) (mJ2_size l P G 10 rfl hV) kVX1_101 rfl rfl rfl ⟨(Nat.le_of_ble_eq_true rfl), (Nat.le_of_ble_eq_true rfl)⟩ ⟨(Nat.le_of_ble_eq_true rfl), (Nat.le_of_ble_eq_true rfl)⟩ rfl ⟨zcs_0, (Nat.le_of_ble_eq_true rfl)⟩ hL.1.1 dX1_split_53) ?_
        rintro x31 _ _ _ hx31 ⟨rfl, hV⟩ hG
        refine z_bipush hC rfl dX1_split_56 ?_
        refine z_icmp_ge (tgt := 65) hC hx31 (inR_lit rfl) hV dX1_split_58 (by decide) ?_ ?_
        · intro hV
          exact hJ65 hG hV _ (hL.sub [2, 3, 4, 1, 0] rfl)
        · intro hV
          refine z_iconst hC dX1_split_61 ?_
          refine z_goto (tgt := 66) hC dX1_split_62 (by decide) ?_
          exact hJ66 hG 1 (Or.inr rfl) hV _ (hL.sub [2, 3, 4, 1, 0] rfl)
abbrev rX1_merge : Room := { frames := 11, cells := 10, slots := 148, locals := 249 }
def vX1_merge (p0 : Int) (p1 : Int) (G : ZG) (X : Nat → ZG → Prop) (Q : Int → ZG → Prop) : Prop := vJ2_size 10 G fun (x1 : Int) => vX1_inRange p0 0 (w32 (x1 - 2)) fun (x2 : Int) => vX1_requireIndex x2 G X fun (_ : Unit) => vX1_requireColumn p1 G X fun (_ : Unit) => vJ2_get 10 p0 G fun (x3 : ZR) => zca G x3 16 ∧ vJ2_get 10 (w32 (p0 + 1)) G fun (x4 : ZR) => zca G x4 16 ∧ zdR G x3 16 2 fun (x5 : ZR) => zjn (fun (z81_0 : Int) => zl2 (fun (P86 : Int → Int → Prop) (a86_5 : Int) (a86_6 : Int) => zgF G 0 5 fun (x6 : Int) => zbr (x6 ≤ a86_6) (zdR G x3 16 0 fun (x7 : ZR) => zeI G x7 p1 fun (x8 : Int) => vX1_told x8 G fun (x9 : ZR) => zdR G x4 16 0 fun (x10 : ZR) => zeI G x10 p1 fun (x11 : Int) => vX1_told x11 G fun (x12 : ZR) => zjn (fun (z210_0 : Int) => vX1_requireState z210_0 G X fun (_ : Unit) => vX1_addEither x9 x12 G X fun (x13 : Int) (G1 : ZG) => znw G1 (.inr (.inr (16, zdf 16))) fun (x14 : ZR) (G2 : ZG) => zdR G2 x3 16 0 fun (x15 : ZR) => vX1_with x15 p1 x13 G2 fun (x16 : ZR) (G3 : ZG) => zdI G3 x3 16 1 fun (x17 : Int) => znn x14 ∧ vX16_init x14 x16 x17 G3 fun (G4 : ZG) => vJ2_set 10 p0 x14 G4 fun (x19 : ZR) (G5 : ZG) => vJ2_remove 10 (w32 (p0 + 1)) G5 fun (x20 : ZR) (G6 : ZG) => vX1_changed G6 fun (G7 : ZG) => vJ2_size 10 G7 fun (x21 : Int) => Q x21 G7) fun J210 => zjn (fun (_ : Unit) => J210 0) fun J209 => zbr (a86_5 = 0) (J209 ()) (zisO G x9 9 ∧ vX9_isPure x9 G fun (x23 : Int) => zbr (x23 = 0) (J209 ()) (zisO G x12 9 ∧ vX9_isPure x12 G fun (x25 : Int) => zbr (x25 = 0) (J209 ()) (vX1_canBeEither x9 x12 G fun (x26 : Int) => zbr (x26 = 0) (J209 ()) (vJ2_size 9 G fun (x27 : Int) => zbr (60 ≤ x27) (J209 ()) (J210 1)))))) (zjn (fun (z129_0 : Int) => zlt1 (w32 (a86_6 + 1)) fun (x28 : Int) => P86 z129_0 x28) fun J129 => zjn (fun (_ : Unit) => J129 0) fun J128 => zbr (a86_5 = 0) (J128 ()) (zjn (fun (_ : Unit) => J129 1) fun J124 => zbr (a86_6 = p1) (J124 ()) (zdR G x3 16 0 fun (x29 : ZR) => zeI G x29 a86_6 fun (x30 : Int) => zdR G x4 16 0 fun (x31 : ZR) => zeI G x31 a86_6 fun (x32 : Int) => zbr (x30 ≠ x32) (J128 ()) (J124 ()))))) z81_0 0) fun J81 => zjn (fun (_ : Unit) => J81 0) fun J80 => zbr (x5 ≠ none) (J80 ()) (zdR G x4 16 2 fun (x33 : ZR) => zbr (x33 ≠ none) (J80 ()) (zdI G x3 16 1 fun (x34 : Int) => zdI G x4 16 1 fun (x35 : Int) => zbr (x34 ≠ x35) (J80 ()) (J81 1)))
set_option maxHeartbeats 4000000 in
theorem mX1_merge (l : Launch) (P : ZP) (G : ZG) (p0 : Int) (hp0 : inR p0) (p1 : Int) (hp1 : inR p1) {X : Nat → ZG → Prop} {Q : Int → ZG → Prop} (hst : l.stackTraces = false) (hV : vX1_merge p0 p1 G X Q) : vx_Met l yX1_merge (ws_ yX1_merge cX1_merge 9 (some .int)) rX1_merge (zPc P G [.ref (zA P 0 0 0), .int (zI p0), .int (zI p1)]) (zQi P Q) (zXc P X) 10 148 (zAr P) := by
  refine zMetX (own := RX1) rfl (by decide) (zcs_c rfl (zcs_c rfl (zcs_c rfl zcs_0))) (Nat.le_of_ble_eq_true rfl) (fun p e s m args below meth c ls hC hr hk hn hnt hG hL => ?_)
  unfold vX1_merge at hV
  refine z_iload_n hC rfl (hL.at 1 rfl) dX1_merge_0 ?_
  refine z_iconst hC dX1_merge_1 ?_
  refine z_aload_n hC zvr_a rfl (hL.at 0 rfl) dX1_merge_2 ?_
  refine z_getO hC hG 10 kFX1_44_1 rfl rfl dX1_merge_3 ?_
  refine z_call_i hG (zrunV (ci := 2) hC hG (Nat.le_of_ble_eq_true rfl) (Nat.le_of_ble_eq_true rfl) (zobj hG rfl (Nat.le_of_ble_eq_true rfl) (Nat.le_of_ble_eq_true rfl)) (mJ2_size l P G 10 rfl hV) kVX1_101 rfl rfl rfl ⟨(Nat.le_of_ble_eq_true rfl), (Nat.le_of_ble_eq_true rfl)⟩ ⟨(Nat.le_of_ble_eq_true rfl), (Nat.le_of_ble_eq_true rfl)⟩ rfl ⟨(zcs_c rfl (zcs_c rfl zcs_0)), (Nat.le_of_ble_eq_true rfl)⟩ hL.1.1 dX1_merge_6) ?_
  rintro x1 _ _ _ hx1 ⟨rfl, hV⟩ hG
  refine z_iconst hC dX1_merge_9 ?_
  refine z_isub hC dX1_merge_10 ?_
  refine z_call_z hG (zrunS hC hG (mX1_inRange l P G p0 hp0 0 (inR_lit rfl) (w32 (x1 - 2)) (inR_w _) hV) kSX1_91 rfl rfl rfl ⟨(Nat.le_of_ble_eq_true rfl), (Nat.le_of_ble_eq_true rfl)⟩ ⟨(Nat.le_of_ble_eq_true rfl), (Nat.le_of_ble_eq_true rfl)⟩ rfl ⟨zcs_0, (Nat.le_of_ble_eq_true rfl)⟩ hL.1.1 dX1_merge_11) ?_
  rintro x2 _ _ _ hx2 ⟨rfl, hV⟩ hG
  refine z_xcall_v hG hnt hk (zrunSX hC hG (mX1_requireIndex l P G x2 hx2 hst hV) kSX1_105 rfl rfl rfl ⟨(Nat.le_of_ble_eq_true rfl), (Nat.le_of_ble_eq_true rfl)⟩ ⟨(Nat.le_of_ble_eq_true rfl), (Nat.le_of_ble_eq_true rfl)⟩ rfl ⟨zcs_0, (Nat.le_of_ble_eq_true rfl)⟩ hL.1.1 dX1_merge_14) (Nat.le_of_ble_eq_true rfl) (Nat.le_of_ble_eq_true rfl) ?_
  rintro _ _ _ ⟨rfl, hV⟩ hG
  refine z_aload_n hC zvr_a rfl (hL.at 0 rfl) dX1_merge_17 ?_
  refine z_iload_n hC rfl (hL.at 2 rfl) dX1_merge_18 ?_
  refine z_xcall_v hG hnt hk (zrunVX (ci := 1) hC hG (Nat.le_of_ble_eq_true rfl) (Nat.le_of_ble_eq_true rfl) (zobj hG rfl (Nat.le_of_ble_eq_true rfl) (Nat.le_of_ble_eq_true rfl)) (mX1_requireColumn l P G p1 hp1 hst hV) kVX1_323 rfl rfl rfl ⟨(Nat.le_of_ble_eq_true rfl), (Nat.le_of_ble_eq_true rfl)⟩ ⟨(Nat.le_of_ble_eq_true rfl), (Nat.le_of_ble_eq_true rfl)⟩ rfl ⟨zcs_0, (Nat.le_of_ble_eq_true rfl)⟩ hL.1.1 dX1_merge_19) (Nat.le_of_ble_eq_true rfl) (Nat.le_of_ble_eq_true rfl) ?_
  rintro _ _ _ ⟨rfl, hV⟩ hG
  refine z_aload_n hC zvr_a rfl (hL.at 0 rfl) dX1_merge_22 ?_
  refine z_getO hC hG 10 kFX1_44_1 rfl rfl dX1_merge_23 ?_
  refine z_iload_n hC rfl (hL.at 1 rfl) dX1_merge_26 ?_
  refine z_call_r hG (zrunV (ci := 2) hC hG (Nat.le_of_ble_eq_true rfl) (Nat.le_of_ble_eq_true rfl) (zobj hG rfl (Nat.le_of_ble_eq_true rfl) (Nat.le_of_ble_eq_true rfl)) (mJ2_get l P G 10 rfl p0 hp0 hV) kVX1_95 rfl rfl rfl ⟨(Nat.le_of_ble_eq_true rfl), (Nat.le_of_ble_eq_true rfl)⟩ ⟨(Nat.le_of_ble_eq_true rfl), (Nat.le_of_ble_eq_true rfl)⟩ rfl ⟨zcs_0, (Nat.le_of_ble_eq_true rfl)⟩ hL.1.1 dX1_merge_27) ?_
  rintro x3 _ _ _  ⟨rfl, hV⟩ hG
  refine z_cast hC hG (ci := 16) (Nat.le_of_ble_eq_true rfl) (Nat.le_of_ble_eq_true rfl) q971 hV dX1_merge_30 (fun hV => ?_)
  refine z_astore_n (lv' := [(3, zrv P x3), (0, .ref (zA P 0 0 0)), (1, .int (zI p0)), (2, .int (zI p1))]) hC zvr_r rfl hL (by decide) rfl dX1_merge_33 (fun ls hL => ?_)
  refine z_aload_n hC zvr_a rfl (hL.at 1 rfl) dX1_merge_34 ?_
  refine z_getO hC hG 10 kFX1_44_1 rfl rfl dX1_merge_35 ?_
  refine z_iload_n hC rfl (hL.at 2 rfl) dX1_merge_38 ?_
  refine z_iconst hC dX1_merge_39 ?_
  refine z_iadd hC dX1_merge_40 ?_
  refine z_call_r hG (zrunV (ci := 2) hC hG (Nat.le_of_ble_eq_true rfl) (Nat.le_of_ble_eq_true rfl) (zobj hG rfl (Nat.le_of_ble_eq_true rfl) (Nat.le_of_ble_eq_true rfl)) (mJ2_get l P G 10 rfl (w32 (p0 + 1)) (inR_w _) hV) kVX1_95 rfl rfl rfl ⟨(Nat.le_of_ble_eq_true rfl), (Nat.le_of_ble_eq_true rfl)⟩ ⟨(Nat.le_of_ble_eq_true rfl), (Nat.le_of_ble_eq_true rfl)⟩ rfl ⟨zcs_0, (Nat.le_of_ble_eq_true rfl)⟩ hL.1.1 dX1_merge_41) ?_
  rintro x4 _ _ _  ⟨rfl, hV⟩ hG
  refine z_cast hC hG (ci := 16) (Nat.le_of_ble_eq_true rfl) (Nat.le_of_ble_eq_true rfl) q971 hV dX1_merge_44 (fun hV => ?_)
  refine z_astore (lv' := [(4, zrv P x4), (3, zrv P x3), (0, .ref (zA P 0 0 0)), (1, .int (zI p0)), (2, .int (zI p1))]) hC zvr_r hL (by decide) rfl dX1_merge_47 (fun ls hL => ?_)
  refine z_aload_n hC zvr_r rfl (hL.at 1 rfl) dX1_merge_49 ?_
  refine z_dR hC hG kFX1_301_16 hV dX1_merge_50 ?_
  intro x5 hV
  obtain ⟨J81, eJ81, hV⟩ := zjn_abs hV
  have hJ81 : ∀ {H : Heap} {locs : List Loc}, zS P s G H locs → ∀ (z81_0 : Int), (z81_0 = 0 ∨ z81_0 = 1) → J81 z81_0 → ∀ (ls : Array Slot), zL ls 9 [(0, .ref (zA P 0 0 0)), (1, .int (zI p0)), (2, .int (zI p1)), (3, zrv P x3), (4, zrv P x4)] → W p l e rX1_merge s m args below meth c H locs 2 12 (vx_MQ below (zQi P Q) (zXc P X) args s 10 148 (zAr P)) (F0 m 81 ls [.int (zI z81_0)]) := by
    intro H locs hG z81_0 hz81_0 hV ls hL
    rw [eJ81] at hV
    refine z_istore (lv' := [(5, .int (zI z81_0)), (0, .ref (zA P 0 0 0)), (1, .int (zI p0)), (2, .int (zI p1)), (3, zrv P x3), (4, zrv P x4)]) hC hL (by decide) rfl dX1_merge_81 (fun ls hL => ?_)
    refine z_iconst hC dX1_merge_83 ?_
    refine z_istore (lv' := [(6, .int (zI 0)), (5, .int (zI z81_0)), (0, .ref (zA P 0 0 0)), (1, .int (zI p0)), (2, .int (zI p1)), (3, zrv P x3), (4, zrv P x4)]) hC hL (by decide) rfl dX1_merge_84 (fun ls hL => ?_)
    refine zl2_use hV (fun (a86_5 : Int) (a86_6 : Int) => (a86_5 = 0 ∨ a86_5 = 1) → inR a86_6 → ∀ (H : Heap) (locs : List Loc), zS P s G H locs → ∀ (ls : Array Slot), zL ls 9 [(0, .ref (zA P 0 0 0)), (1, .int (zI p0)), (2, .int (zI p1)), (3, zrv P x3), (4, zrv P x4), (5, .int (zI a86_5)), (6, .int (zI a86_6))] → W p l e rX1_merge s m args below meth c H locs 2 12 (vx_MQ below (zQi P Q) (zXc P X) args s 10 148 (zAr P)) (F0 m 86 ls [])) ?_ hz81_0 (inR_lit rfl) _ _ hG _ (hL.sub [2, 3, 4, 5, 6, 1, 0] rfl)
    intro P86 a86_5 a86_6 hP86 hV ha86_5 ha86_6 H locs hG ls hL
    refine z_iload hC (hL.at 6 rfl) dX1_merge_86 ?_
    refine z_aload_n hC zvr_a rfl (hL.at 0 rfl) dX1_merge_88 ?_
    refine z_getF hC hG kFX1_255_1 rfl rfl hV dX1_merge_89 ?_
    intro x6 hx6 hV
    refine z_icmp_ge (tgt := 137) hC ha86_6 hx6 hV dX1_merge_92 (by decide) ?_ ?_
    · intro hV
      refine z_aload_n hC zvr_a rfl (hL.at 0 rfl) dX1_merge_137 ?_
      refine z_aload_n hC zvr_r rfl (hL.at 3 rfl) dX1_merge_138 ?_
      refine z_dR hC hG kFX1_292_16 hV dX1_merge_139 ?_
      intro x7 hV
      refine z_iload_n hC rfl (hL.at 2 rfl) dX1_merge_142 ?_
      refine z_eald hC hG hp1 hV dX1_merge_143 ?_
      intro x8 hx8 hV
      refine z_call_r hG (zrunV (ci := 1) hC hG (Nat.le_of_ble_eq_true rfl) (Nat.le_of_ble_eq_true rfl) (zobj hG rfl (Nat.le_of_ble_eq_true rfl) (Nat.le_of_ble_eq_true rfl)) (mX1_told l P G x8 hx8 hV) kVX1_170 rfl rfl rfl ⟨(Nat.le_of_ble_eq_true rfl), (Nat.le_of_ble_eq_true rfl)⟩ ⟨(Nat.le_of_ble_eq_true rfl), (Nat.le_of_ble_eq_true rfl)⟩ rfl ⟨zcs_0, (Nat.le_of_ble_eq_true rfl)⟩ hL.1.1 dX1_merge_144) ?_
      rintro x9 _ _ _  ⟨rfl, hV⟩ hG
      refine z_astore (lv' := [(6, zrv P x9), (0, .ref (zA P 0 0 0)), (1, .int (zI p0)), (2, .int (zI p1)), (3, zrv P x3), (4, zrv P x4), (5, .int (zI a86_5))]) hC zvr_r hL (by decide) rfl dX1_merge_147 (fun ls hL => ?_)
      refine z_aload_n hC zvr_a rfl (hL.at 1 rfl) dX1_merge_149 ?_
      refine z_aload hC zvr_r (hL.at 5 rfl) dX1_merge_150 ?_
      refine z_dR hC hG kFX1_292_16 hV dX1_merge_152 ?_
      intro x10 hV
      refine z_iload_n hC rfl (hL.at 3 rfl) dX1_merge_155 ?_
      refine z_eald hC hG hp1 hV dX1_merge_156 ?_
      intro x11 hx11 hV
      refine z_call_r hG (zrunV (ci := 1) hC hG (Nat.le_of_ble_eq_true rfl) (Nat.le_of_ble_eq_true rfl) (zobj hG rfl (Nat.le_of_ble_eq_true rfl) (Nat.le_of_ble_eq_true rfl)) (mX1_told l P G x11 hx11 hV) kVX1_170 rfl rfl rfl ⟨(Nat.le_of_ble_eq_true rfl), (Nat.le_of_ble_eq_true rfl)⟩ ⟨(Nat.le_of_ble_eq_true rfl), (Nat.le_of_ble_eq_true rfl)⟩ rfl ⟨zcs_0, (Nat.le_of_ble_eq_true rfl)⟩ hL.1.1 dX1_merge_157) ?_
      rintro x12 _ _ _  ⟨rfl, hV⟩ hG
      refine z_astore (lv' := [(7, zrv P x12), (6, zrv P x9), (0, .ref (zA P 0 0 0)), (1, .int (zI p0)), (2, .int (zI p1)), (3, zrv P x3), (4, zrv P x4), (5, .int (zI a86_5))]) hC zvr_r hL (by decide) rfl dX1_merge_160 (fun ls hL => ?_)
      refine z_iload hC (hL.at 7 rfl) dX1_merge_162 ?_
      obtain ⟨J210, eJ210, hV⟩ := zjn_abs hV
      have hJ210 : ∀ {H : Heap} {locs : List Loc}, zS P s G H locs → ∀ (z210_0 : Int), (z210_0 = 0 ∨ z210_0 = 1) → J210 z210_0 → ∀ (ls : Array Slot), zL ls 9 [(0, .ref (zA P 0 0 0)), (1, .int (zI p0)), (2, .int (zI p1)), (3, zrv P x3), (6, zrv P x9), (7, zrv P x12)] → W p l e rX1_merge s m args below meth c H locs 2 12 (vx_MQ below (zQi P Q) (zXc P X) args s 10 148 (zAr P)) (F0 m 210 ls [.int (zI z210_0)]) := by
        intro H locs hG z210_0 hz210_0 hV ls hL
        rw [eJ210] at hV
        refine z_xcall_v hG hnt hk (zrunSX hC hG (mX1_requireState l P G z210_0 hz210_0 hst hV) kSX1_120 rfl rfl rfl ⟨(Nat.le_of_ble_eq_true rfl), (Nat.le_of_ble_eq_true rfl)⟩ ⟨(Nat.le_of_ble_eq_true rfl), (Nat.le_of_ble_eq_true rfl)⟩ rfl ⟨zcs_0, (Nat.le_of_ble_eq_true rfl)⟩ hL.1.1 dX1_merge_210) (Nat.le_of_ble_eq_true rfl) (Nat.le_of_ble_eq_true rfl) ?_
        rintro _ _ _ ⟨rfl, hV⟩ hG
        refine z_aload_n hC zvr_a rfl (hL.at 0 rfl) dX1_merge_213 ?_
        refine z_aload hC zvr_r (hL.at 4 rfl) dX1_merge_214 ?_
        refine z_aload hC zvr_r (hL.at 5 rfl) dX1_merge_216 ?_
        refine z_xcall_i hG hnt hk (zrunVX (ci := 1) hC hG (Nat.le_of_ble_eq_true rfl) (Nat.le_of_ble_eq_true rfl) (zobj hG rfl (Nat.le_of_ble_eq_true rfl) (Nat.le_of_ble_eq_true rfl)) (mX1_addEither l P G x9 x12 hst hV) kVX1_240 rfl rfl rfl ⟨(Nat.le_of_ble_eq_true rfl), (Nat.le_of_ble_eq_true rfl)⟩ ⟨(Nat.le_of_ble_eq_true rfl), (Nat.le_of_ble_eq_true rfl)⟩ rfl ⟨zcs_0, (Nat.le_of_ble_eq_true rfl)⟩ hL.1.1 dX1_merge_218) (Nat.le_of_ble_eq_true rfl) (Nat.le_of_ble_eq_true rfl) ?_
        rintro x13 G1 _ _ hx13 hV hG
        refine z_istore (lv' := [(8, .int (zI x13)), (0, .ref (zA P 0 0 0)), (1, .int (zI p0)), (2, .int (zI p1)), (3, zrv P x3), (6, zrv P x9), (7, zrv P x12)]) hC hL (by decide) rfl dX1_merge_221 (fun ls hL => ?_)
        refine z_aload_n hC zvr_a rfl (hL.at 1 rfl) dX1_merge_223 ?_
        refine z_getO hC hG 10 kFX1_44_1 rfl rfl dX1_merge_224 ?_
        refine z_iload_n hC rfl (hL.at 2 rfl) dX1_merge_227 ?_
        refine z_new (ci := 16) (n := 6) hC hG (Nat.le_of_ble_eq_true rfl) (Nat.le_of_ble_eq_true rfl) rfl q971 q972 q129 hV (Nat.le_of_ble_eq_true rfl) (Nat.le_of_ble_eq_true rfl) dX1_merge_228 ?_
        intro x14 G2 _ hG hV
        refine z_dup hC (zrv_cat _ _) dX1_merge_231 ?_
        refine z_aload_n hC zvr_r rfl (hL.at 4 rfl) dX1_merge_232 ?_
        refine z_dR hC hG kFX1_292_16 hV dX1_merge_233 ?_
        intro x15 hV
        refine z_iload_n hC rfl (hL.at 3 rfl) dX1_merge_236 ?_
        refine z_iload hC (hL.at 0 rfl) dX1_merge_237 ?_
        refine z_call_r hG (zrunS hC hG (mX1_with l P G2 x15 p1 hp1 x13 hx13 hV) kSX1_330 rfl rfl rfl ⟨(Nat.le_of_ble_eq_true rfl), (Nat.le_of_ble_eq_true rfl)⟩ ⟨(Nat.le_of_ble_eq_true rfl), (Nat.le_of_ble_eq_true rfl)⟩ rfl ⟨(zcs_c (zrv_cat _ _) (zcs_c (zrv_cat _ _) (zcs_c rfl (zcs_c rfl zcs_0)))), (Nat.le_of_ble_eq_true rfl)⟩ hL.1.1 dX1_merge_239) ?_
        rintro x16 G3 _ _  hV hG
        refine z_aload_n hC zvr_r rfl (hL.at 4 rfl) dX1_merge_242 ?_
        refine z_dI hC hG kFX1_334_16 hV dX1_merge_243 ?_
        intro x17 hx17 hV
        obtain ⟨hO18, hV⟩ := hV
        refine z_call_v hG (zrunI hC hG hO18 (mX16_init l P G3 x14 x16 x17 hx17 hV) kIX1_263 rfl rfl rfl ⟨(Nat.le_of_ble_eq_true rfl), (Nat.le_of_ble_eq_true rfl)⟩ ⟨(Nat.le_of_ble_eq_true rfl), (Nat.le_of_ble_eq_true rfl)⟩ rfl ⟨(zcs_c (zrv_cat _ _) (zcs_c rfl (zcs_c rfl zcs_0))), (Nat.le_of_ble_eq_true rfl)⟩ hL.1.1 dX1_merge_246) ?_
        rintro G4 _ _ hV hG
        refine z_call_r hG (zrunV (ci := 2) hC hG (Nat.le_of_ble_eq_true rfl) (Nat.le_of_ble_eq_true rfl) (zobj hG rfl (Nat.le_of_ble_eq_true rfl) (Nat.le_of_ble_eq_true rfl)) (mJ2_set l P G4 10 rfl p0 hp0 x14 hV) kVX1_337 rfl rfl rfl ⟨(Nat.le_of_ble_eq_true rfl), (Nat.le_of_ble_eq_true rfl)⟩ ⟨(Nat.le_of_ble_eq_true rfl), (Nat.le_of_ble_eq_true rfl)⟩ rfl ⟨zcs_0, (Nat.le_of_ble_eq_true rfl)⟩ hL.1.1 dX1_merge_249) ?_
        rintro x19 G5 _ _  hV hG
        refine z_pop hC (zrv_cat _ _) dX1_merge_252 ?_
        refine z_aload_n hC zvr_a rfl (hL.at 1 rfl) dX1_merge_253 ?_
        refine z_getO hC hG 10 kFX1_44_1 rfl rfl dX1_merge_254 ?_
        refine z_iload_n hC rfl (hL.at 2 rfl) dX1_merge_257 ?_
        refine z_iconst hC dX1_merge_258 ?_
        refine z_iadd hC dX1_merge_259 ?_
        refine z_call_r hG (zrunV (ci := 2) hC hG (Nat.le_of_ble_eq_true rfl) (Nat.le_of_ble_eq_true rfl) (zobj hG rfl (Nat.le_of_ble_eq_true rfl) (Nat.le_of_ble_eq_true rfl)) (mJ2_remove l P G5 10 rfl (w32 (p0 + 1)) (inR_w _) hV) kVX1_344 rfl rfl rfl ⟨(Nat.le_of_ble_eq_true rfl), (Nat.le_of_ble_eq_true rfl)⟩ ⟨(Nat.le_of_ble_eq_true rfl), (Nat.le_of_ble_eq_true rfl)⟩ rfl ⟨zcs_0, (Nat.le_of_ble_eq_true rfl)⟩ hL.1.1 dX1_merge_260) ?_
        rintro x20 G6 _ _  hV hG
        refine z_pop hC (zrv_cat _ _) dX1_merge_263 ?_
        refine z_aload_n hC zvr_a rfl (hL.at 1 rfl) dX1_merge_264 ?_
        refine z_call_v hG (zrunV (ci := 1) hC hG (Nat.le_of_ble_eq_true rfl) (Nat.le_of_ble_eq_true rfl) (zobj hG rfl (Nat.le_of_ble_eq_true rfl) (Nat.le_of_ble_eq_true rfl)) (mX1_changed l P G6 hV) kVX1_127 rfl rfl rfl ⟨(Nat.le_of_ble_eq_true rfl), (Nat.le_of_ble_eq_true rfl)⟩ ⟨(Nat.le_of_ble_eq_true rfl), (Nat.le_of_ble_eq_true rfl)⟩ rfl ⟨zcs_0, (Nat.le_of_ble_eq_true rfl)⟩ hL.1.1 dX1_merge_265) ?_
        rintro G7 _ _ hV hG
        refine z_aload_n hC zvr_a rfl (hL.at 1 rfl) dX1_merge_268 ?_
        refine z_getO hC hG 10 kFX1_44_1 rfl rfl dX1_merge_269 ?_
        refine z_call_i hG (zrunV (ci := 2) hC hG (Nat.le_of_ble_eq_true rfl) (Nat.le_of_ble_eq_true rfl) (zobj hG rfl (Nat.le_of_ble_eq_true rfl) (Nat.le_of_ble_eq_true rfl)) (mJ2_size l P G7 10 rfl hV) kVX1_101 rfl rfl rfl ⟨(Nat.le_of_ble_eq_true rfl), (Nat.le_of_ble_eq_true rfl)⟩ ⟨(Nat.le_of_ble_eq_true rfl), (Nat.le_of_ble_eq_true rfl)⟩ rfl ⟨zcs_0, (Nat.le_of_ble_eq_true rfl)⟩ hL.1.1 dX1_merge_272) ?_
        rintro x21 _ _ _ hx21 ⟨rfl, hV⟩ hG
        exact vx_ret (z_iret hC hG hr hk hx21 hV (Nat.le_of_ble_eq_true rfl) (Nat.le_of_ble_eq_true rfl) dX1_merge_275)
      obtain ⟨J209, eJ209, hV⟩ := zjn_abs hV
      have hJ209 : ∀ {H : Heap} {locs : List Loc}, zS P s G H locs → J209 () → ∀ (ls : Array Slot), zL ls 9 [(0, .ref (zA P 0 0 0)), (1, .int (zI p0)), (2, .int (zI p1)), (3, zrv P x3), (6, zrv P x9), (7, zrv P x12)] → W p l e rX1_merge s m args below meth c H locs 2 12 (vx_MQ below (zQi P Q) (zXc P X) args s 10 148 (zAr P)) (F0 m 209 ls []) := by
        intro H locs hG hV ls hL
        rw [eJ209] at hV
        refine z_iconst hC dX1_merge_209 ?_
        exact hJ210 hG 0 (Or.inl rfl) hV _ hL
      refine z_if_eq (tgt := 209) hC (inR_b ha86_5) hV dX1_merge_164 (by decide) ?_ ?_
      · intro hV
        exact hJ209 hG hV _ (hL.sub [2, 3, 4, 5, 1, 0] rfl)
      · intro hV
        refine z_aload hC zvr_r (hL.at 1 rfl) dX1_merge_167 ?_
        obtain ⟨hO22, hV⟩ := hV
        refine z_call_z hG (zrunVD hC hG hO22 (mX9_isPure l P G x9 hV) kVX1_195 rfl rfl rfl ⟨(Nat.le_of_ble_eq_true rfl), (Nat.le_of_ble_eq_true rfl)⟩ ⟨(Nat.le_of_ble_eq_true rfl), (Nat.le_of_ble_eq_true rfl)⟩ rfl ⟨zcs_0, (Nat.le_of_ble_eq_true rfl)⟩ hL.1.1 dX1_merge_169) ?_
        rintro x23 _ _ _ hx23 ⟨rfl, hV⟩ hG
        refine z_if_eq (tgt := 209) hC (inR_b hx23) hV dX1_merge_172 (by decide) ?_ ?_
        · intro hV
          exact hJ209 hG hV _ (hL.sub [2, 3, 4, 5, 1, 0] rfl)
        · intro hV
          refine z_aload hC zvr_r (hL.at 0 rfl) dX1_merge_175 ?_
          obtain ⟨hO24, hV⟩ := hV
          refine z_call_z hG (zrunVD hC hG hO24 (mX9_isPure l P G x12 hV) kVX1_195 rfl rfl rfl ⟨(Nat.le_of_ble_eq_true rfl), (Nat.le_of_ble_eq_true rfl)⟩ ⟨(Nat.le_of_ble_eq_true rfl), (Nat.le_of_ble_eq_true rfl)⟩ rfl ⟨zcs_0, (Nat.le_of_ble_eq_true rfl)⟩ hL.1.1 dX1_merge_177) ?_
          rintro x25 _ _ _ hx25 ⟨rfl, hV⟩ hG
          refine z_if_eq (tgt := 209) hC (inR_b hx25) hV dX1_merge_180 (by decide) ?_ ?_
          · intro hV
            exact hJ209 hG hV _ (hL.sub [2, 3, 4, 5, 1, 0] rfl)
          · intro hV
            refine z_aload hC zvr_r (hL.at 1 rfl) dX1_merge_183 ?_
            refine z_aload hC zvr_r (hL.at 0 rfl) dX1_merge_185 ?_
            refine z_call_z hG (zrunS hC hG (mX1_canBeEither l P G x9 x12 hV) kSX1_236 rfl rfl rfl ⟨(Nat.le_of_ble_eq_true rfl), (Nat.le_of_ble_eq_true rfl)⟩ ⟨(Nat.le_of_ble_eq_true rfl), (Nat.le_of_ble_eq_true rfl)⟩ rfl ⟨zcs_0, (Nat.le_of_ble_eq_true rfl)⟩ hL.1.1 dX1_merge_187) ?_
            rintro x26 _ _ _ hx26 ⟨rfl, hV⟩ hG
            refine z_if_eq (tgt := 209) hC (inR_b hx26) hV dX1_merge_190 (by decide) ?_ ?_
            · intro hV
              exact hJ209 hG hV _ (hL.sub [2, 3, 4, 5, 1, 0] rfl)
            · intro hV
              refine z_aload_n hC zvr_a rfl (hL.at 2 rfl) dX1_merge_193 ?_
              refine z_getO hC hG 9 kFX1_32_1 rfl rfl dX1_merge_194 ?_
              refine z_call_i hG (zrunV (ci := 2) hC hG (Nat.le_of_ble_eq_true rfl) (Nat.le_of_ble_eq_true rfl) (zobj hG rfl (Nat.le_of_ble_eq_true rfl) (Nat.le_of_ble_eq_true rfl)) (mJ2_size l P G 9 rfl hV) kVX1_101 rfl rfl rfl ⟨(Nat.le_of_ble_eq_true rfl), (Nat.le_of_ble_eq_true rfl)⟩ ⟨(Nat.le_of_ble_eq_true rfl), (Nat.le_of_ble_eq_true rfl)⟩ rfl ⟨zcs_0, (Nat.le_of_ble_eq_true rfl)⟩ hL.1.1 dX1_merge_197) ?_
              rintro x27 _ _ _ hx27 ⟨rfl, hV⟩ hG
              refine z_bipush hC rfl dX1_merge_200 ?_
              refine z_icmp_ge (tgt := 209) hC hx27 (inR_lit rfl) hV dX1_merge_202 (by decide) ?_ ?_
              · intro hV
                exact hJ209 hG hV _ (hL.sub [2, 3, 4, 5, 1, 0] rfl)
              · intro hV
                refine z_iconst hC dX1_merge_205 ?_
                refine z_goto (tgt := 210) hC dX1_merge_206 (by decide) ?_
                exact hJ210 hG 1 (Or.inr rfl) hV _ (hL.sub [2, 3, 4, 5, 1, 0] rfl)
    · intro hV
      refine z_iload hC (hL.at 5 rfl) dX1_merge_95 ?_
      obtain ⟨J129, eJ129, hV⟩ := zjn_abs hV
      have hJ129 : ∀ {H : Heap} {locs : List Loc}, zS P s G H locs → ∀ (z129_0 : Int), (z129_0 = 0 ∨ z129_0 = 1) → J129 z129_0 → ∀ (ls : Array Slot), zL ls 9 [(0, .ref (zA P 0 0 0)), (1, .int (zI p0)), (2, .int (zI p1)), (3, zrv P x3), (4, zrv P x4), (6, .int (zI a86_6))] → W p l e rX1_merge s m args below meth c H locs 2 12 (vx_MQ below (zQi P Q) (zXc P X) args s 10 148 (zAr P)) (F0 m 129 ls [.int (zI z129_0)]) := by
        intro H locs hG z129_0 hz129_0 hV ls hL
        rw [eJ129] at hV
        refine z_istore (lv' := [(5, .int (zI z129_0)), (0, .ref (zA P 0 0 0)), (1, .int (zI p0)), (2, .int (zI p1)), (3, zrv P x3), (4, zrv P x4), (6, .int (zI a86_6))]) hC hL (by decide) rfl dX1_merge_129 (fun ls hL => ?_)
        refine z_iincV (fun x28 => [(6, .int (zI x28)), (5, .int (zI z129_0)), (0, .ref (zA P 0 0 0)), (1, .int (zI p0)), (2, .int (zI p1)), (3, zrv P x3), (4, zrv P x4)]) hC hL (k := 6) rfl (by decide) (fun _ => rfl) hV dX1_merge_131 ?_
        intro x28 hx28 hV ls hL
        refine z_goto (tgt := 86) hC dX1_merge_134 (by decide) ?_
        exact hP86 z129_0 x28 hV hz129_0 hx28 _ _ hG _ (hL.sub [2, 3, 4, 5, 6, 1, 0] rfl)
      obtain ⟨J128, eJ128, hV⟩ := zjn_abs hV
      have hJ128 : ∀ {H : Heap} {locs : List Loc}, zS P s G H locs → J128 () → ∀ (ls : Array Slot), zL ls 9 [(0, .ref (zA P 0 0 0)), (1, .int (zI p0)), (2, .int (zI p1)), (3, zrv P x3), (4, zrv P x4), (6, .int (zI a86_6))] → W p l e rX1_merge s m args below meth c H locs 2 12 (vx_MQ below (zQi P Q) (zXc P X) args s 10 148 (zAr P)) (F0 m 128 ls []) := by
        intro H locs hG hV ls hL
        rw [eJ128] at hV
        refine z_iconst hC dX1_merge_128 ?_
        exact hJ129 hG 0 (Or.inl rfl) hV _ hL
      refine z_if_eq (tgt := 128) hC (inR_b ha86_5) hV dX1_merge_97 (by decide) ?_ ?_
      · intro hV
        exact hJ128 hG hV _ (hL.sub [0, 1, 2, 3, 4, 6] rfl)
      · intro hV
        refine z_iload hC (hL.at 6 rfl) dX1_merge_100 ?_
        refine z_iload_n hC rfl (hL.at 2 rfl) dX1_merge_102 ?_
        obtain ⟨J124, eJ124, hV⟩ := zjn_abs hV
        have hJ124 : ∀ {H : Heap} {locs : List Loc}, zS P s G H locs → J124 () → ∀ (ls : Array Slot), zL ls 9 [(0, .ref (zA P 0 0 0)), (1, .int (zI p0)), (2, .int (zI p1)), (3, zrv P x3), (4, zrv P x4), (6, .int (zI a86_6))] → W p l e rX1_merge s m args below meth c H locs 2 12 (vx_MQ below (zQi P Q) (zXc P X) args s 10 148 (zAr P)) (F0 m 124 ls []) := by
          intro H locs hG hV ls hL
          rw [eJ124] at hV
          refine z_iconst hC dX1_merge_124 ?_
          refine z_goto (tgt := 129) hC dX1_merge_125 (by decide) ?_
          exact hJ129 hG 1 (Or.inr rfl) hV _ hL
        refine z_icmp_eq (tgt := 124) hC ha86_6 hp1 hV dX1_merge_103 (by decide) ?_ ?_
        · intro hV
          exact hJ124 hG hV _ (hL.sub [0, 1, 2, 3, 4, 6] rfl)
        · intro hV
          refine z_aload_n hC zvr_r rfl (hL.at 3 rfl) dX1_merge_106 ?_
          refine z_dR hC hG kFX1_292_16 hV dX1_merge_107 ?_
          intro x29 hV
          refine z_iload hC (hL.at 6 rfl) dX1_merge_110 ?_
          refine z_eald hC hG ha86_6 hV dX1_merge_112 ?_
          intro x30 hx30 hV
          refine z_aload hC zvr_r (hL.at 4 rfl) dX1_merge_113 ?_
          refine z_dR hC hG kFX1_292_16 hV dX1_merge_115 ?_
          intro x31 hV
          refine z_iload hC (hL.at 6 rfl) dX1_merge_118 ?_
          refine z_eald hC hG ha86_6 hV dX1_merge_120 ?_
          intro x32 hx32 hV
          refine z_icmp_ne (tgt := 128) hC hx30 hx32 hV dX1_merge_121 (by decide) ?_ ?_
          · intro hV
            exact hJ128 hG hV _ (hL.sub [0, 1, 2, 3, 4, 6] rfl)
          · intro hV
            exact hJ124 hG hV _ (hL.sub [0, 1, 2, 3, 4, 6] rfl)
  obtain ⟨J80, eJ80, hV⟩ := zjn_abs hV
  have hJ80 : ∀ {H : Heap} {locs : List Loc}, zS P s G H locs → J80 () → ∀ (ls : Array Slot), zL ls 9 [(0, .ref (zA P 0 0 0)), (1, .int (zI p0)), (2, .int (zI p1)), (3, zrv P x3), (4, zrv P x4)] → W p l e rX1_merge s m args below meth c H locs 2 12 (vx_MQ below (zQi P Q) (zXc P X) args s 10 148 (zAr P)) (F0 m 80 ls []) := by
    intro H locs hG hV ls hL
    rw [eJ80] at hV
    refine z_iconst hC dX1_merge_80 ?_
    exact hJ81 hG 0 (Or.inl rfl) hV _ hL
  refine z_ifnonnull (tgt := 80) hC hV dX1_merge_53 (by decide) ?_ ?_
  · intro hV
    exact hJ80 hG hV _ (hL.sub [2, 3, 4, 1, 0] rfl)
  · intro hV
    refine z_aload hC zvr_r (hL.at 0 rfl) dX1_merge_56 ?_
    refine z_dR hC hG kFX1_301_16 hV dX1_merge_58 ?_
    intro x33 hV
    refine z_ifnonnull (tgt := 80) hC hV dX1_merge_61 (by decide) ?_ ?_
    · intro hV
      exact hJ80 hG hV _ (hL.sub [2, 3, 4, 1, 0] rfl)
    · intro hV
      refine z_aload_n hC zvr_r rfl (hL.at 1 rfl) dX1_merge_64 ?_
      refine z_dI hC hG kFX1_334_16 hV dX1_merge_65 ?_
      intro x34 hx34 hV
      refine z_aload hC zvr_r (hL.at 0 rfl) dX1_merge_68 ?_
      refine z_dI hC hG kFX1_334_16 hV dX1_merge_70 ?_
      intro x35 hx35 hV
      refine z_icmp_ne (tgt := 80) hC hx34 hx35 hV dX1_merge_73 (by decide) ?_ ?_
      · intro hV
        exact hJ80 hG hV _ (hL.sub [2, 3, 4, 1, 0] rfl)
      · intro hV
        refine z_iconst hC dX1_merge_76 ?_
        refine z_goto (tgt := 81) hC dX1_merge_77 (by decide) ?_
        exact hJ81 hG 1 (Or.inr rfl) hV _ (hL.sub [2, 3, 4, 1, 0] rfl)
abbrev rX1_treeAt : Room := { frames := 1745, cells := 0, slots := 0, locals := 46698 }
def vX1_treeAt (p0 : Int) (G : ZG) (Q : ZR → ZG → Prop) : Prop := zjn (fun (z16_0 : Nat) => vX4_refresh z16_0 G fun (G1 : ZG) => Q (some (.inr z16_0)) G1) fun J16 => zbr (p0 ≠ 2) (J16 3) (J16 2)
set_option maxHeartbeats 4000000 in
theorem mX1_treeAt (l : Launch) (P : ZP) (G : ZG) (p0 : Int) (hp0 : inR p0) {Q : ZR → ZG → Prop} (hV : vX1_treeAt p0 G Q) : Met l yX1_treeAt (ws_ yX1_treeAt cX1_treeAt 3 (some (.object "Patternforge$Tree"))) rX1_treeAt (zPc P G [.ref (zA P 0 0 0), .int (zI p0)]) (zQr P Q) 0 0 (zAr P) := by
  refine zMet RX1 (plainFor_of_name (by decide)) rfl (zcs_c rfl (zcs_c rfl zcs_0)) (Nat.le_of_ble_eq_true rfl) (fun p e s m args below meth c ls hC hr hk hn hG hL => ?_)
  unfold vX1_treeAt at hV
  refine z_iload_n hC rfl (hL.at 1 rfl) dX1_treeAt_0 ?_
  refine z_iconst hC dX1_treeAt_1 ?_
  obtain ⟨J16, eJ16, hV⟩ := zjn_abs hV
  have hJ16 : ∀ {H : Heap} {locs : List Loc}, zS P s G H locs → ∀ (z16_0 : Nat), tCls z16_0 = 4 → J16 z16_0 → ∀ (ls : Array Slot), zL ls 3 [] → W p l e rX1_treeAt s m args below meth c H locs 0 0 (MQ below (zQr P Q) args s 0 0 (zAr P)) (F0 m 16 ls [.ref (zA P z16_0 0 0)]) := by
    intro H locs hG z16_0 hz16_0 hV ls hL
    rw [eJ16] at hV
    refine z_astore_n (lv' := [(2, .ref (zA P z16_0 0 0))]) hC zvr_a rfl hL (by decide) rfl dX1_treeAt_16 (fun ls hL => ?_)
    refine z_aload_n hC zvr_a rfl (hL.at 0 rfl) dX1_treeAt_17 ?_
    refine z_call_v hG (zrunV (ci := 4) hC hG (Nat.le_of_ble_eq_true rfl) (Nat.le_of_ble_eq_true rfl) (zobj hG hz16_0 (Nat.le_of_ble_eq_true rfl) (Nat.le_of_ble_eq_true rfl)) (mX4_refresh l P G z16_0 hz16_0 hV) kVX1_347 rfl rfl rfl ⟨(Nat.le_of_ble_eq_true rfl), (Nat.le_of_ble_eq_true rfl)⟩ ⟨(Nat.le_of_ble_eq_true rfl), (Nat.le_of_ble_eq_true rfl)⟩ rfl ⟨zcs_0, (Nat.le_of_ble_eq_true rfl)⟩ hL.1.1 dX1_treeAt_18) ?_
    rintro G1 _ _ hV hG
    refine z_aload_n hC zvr_a rfl (hL.at 0 rfl) dX1_treeAt_21 ?_
    exact z_aret (r := (some (.inr z16_0))) hC hG hr hk (Or.inl ⟨_, rfl⟩) hV (Nat.le_of_ble_eq_true rfl) (Nat.le_of_ble_eq_true rfl) dX1_treeAt_22
  refine z_icmp_ne (tgt := 12) hC hp0 (inR_lit rfl) hV dX1_treeAt_2 (by decide) ?_ ?_
  · intro hV
    refine z_aload_n hC zvr_a rfl (hL.at 0 rfl) dX1_treeAt_12 ?_
    refine z_getO hC hG 3 kFX1_65_1 rfl rfl dX1_treeAt_13 ?_
    exact hJ16 hG 3 rfl hV _ (hL.sub [] rfl)
  · intro hV
    refine z_aload_n hC zvr_a rfl (hL.at 0 rfl) dX1_treeAt_5 ?_
    refine z_getO hC hG 2 kFX1_61_1 rfl rfl dX1_treeAt_6 ?_
    refine z_goto (tgt := 16) hC dX1_treeAt_9 (by decide) ?_
    exact hJ16 hG 2 rfl hV _ (hL.sub [] rfl)
abbrev rX1_tryPlain : Room := { frames := 142, cells := 0, slots := 0, locals := 3432 }
def vX1_tryPlain (G : ZG) (Q : Int → ZG → Prop) : Prop := zl2 (fun (P2 : Int → ZG → Prop) (a2_1 : Int) (K2 : ZG) => vJ2_size 10 K2 fun (x1 : Int) => zbr (x1 ≤ a2_1) (Q (-1) K2) (vX2_clearNamesR K2 fun (G1 : ZG) => vJ2_get 10 a2_1 G1 fun (x2 : ZR) => zca G1 x2 16 ∧ vX2_matchesR x2 G1 fun (x3 : Int) (G2 : ZG) => zjn (fun (_ : Unit) => zlt1 (w32 (a2_1 + 1)) fun (x4 : Int) => P2 x4 G2) fun J66 => zbr (x3 ≠ 1) (J66 ()) (vJ2_get 10 a2_1 G2 fun (x5 : ZR) => zca G2 x5 16 ∧ vX3_guards x5 G2 fun (x6 : Int) => zbr (x6 = 1) (J66 ()) (Q a2_1 G2)))) 0 G
set_option maxHeartbeats 4000000 in
theorem mX1_tryPlain (l : Launch) (P : ZP) (G : ZG) {Q : Int → ZG → Prop} (hV : vX1_tryPlain G Q) : Met l yX1_tryPlain (ws_ yX1_tryPlain cX1_tryPlain 2 (some .int)) rX1_tryPlain (zPc P G [.ref (zA P 0 0 0)]) (zQi P Q) 0 0 (zAr P) := by
  refine zMet RX1 (plainFor_of_name (by decide)) rfl (zcs_c rfl zcs_0) (Nat.le_of_ble_eq_true rfl) (fun p e s m args below meth c ls hC hr hk hn hG hL => ?_)
  unfold vX1_tryPlain at hV
  refine z_iconst hC dX1_tryPlain_0 ?_
  refine z_istore_n (lv' := [(1, .int (zI 0)), (0, .ref (zA P 0 0 0))]) hC rfl hL (by decide) rfl dX1_tryPlain_1 (fun ls hL => ?_)
  refine zl2_use hV (fun (a2_1 : Int) (K2 : ZG) => inR a2_1 → ∀ (H : Heap) (locs : List Loc), zS P s K2 H locs → ∀ (ls : Array Slot), zL ls 2 [(0, .ref (zA P 0 0 0)), (1, .int (zI a2_1))] → W p l e rX1_tryPlain s m args below meth c H locs 0 0 (MQ below (zQi P Q) args s 0 0 (zAr P)) (F0 m 2 ls [])) ?_ (inR_lit rfl) _ _ hG _ (hL.sub [1, 0] rfl)
  intro P2 a2_1 K2 hP2 hV ha2_1 H locs hG ls hL
  refine z_iload_n hC rfl (hL.at 1 rfl) dX1_tryPlain_2 ?_
  refine z_aload_n hC zvr_a rfl (hL.at 0 rfl) dX1_tryPlain_3 ?_
  refine z_getO hC hG 10 kFX1_44_1 rfl rfl dX1_tryPlain_4 ?_
  refine z_call_i hG (zrunV (ci := 2) hC hG (Nat.le_of_ble_eq_true rfl) (Nat.le_of_ble_eq_true rfl) (zobj hG rfl (Nat.le_of_ble_eq_true rfl) (Nat.le_of_ble_eq_true rfl)) (mJ2_size l P K2 10 rfl hV) kVX1_101 rfl rfl rfl ⟨(Nat.le_of_ble_eq_true rfl), (Nat.le_of_ble_eq_true rfl)⟩ ⟨(Nat.le_of_ble_eq_true rfl), (Nat.le_of_ble_eq_true rfl)⟩ rfl ⟨(zcs_c rfl zcs_0), (Nat.le_of_ble_eq_true rfl)⟩ hL.1.1 dX1_tryPlain_7) ?_
  rintro x1 _ _ _ hx1 ⟨rfl, hV⟩ hG
  refine z_icmp_ge (tgt := 72) hC ha2_1 hx1 hV dX1_tryPlain_10 (by decide) ?_ ?_
  · intro hV
    refine z_iconst hC dX1_tryPlain_72 ?_
    exact z_iret hC hG hr hk (inR_lit rfl) hV (Nat.le_of_ble_eq_true rfl) (Nat.le_of_ble_eq_true rfl) dX1_tryPlain_73
  · intro hV
    refine z_aload_n hC zvr_a rfl (hL.at 0 rfl) dX1_tryPlain_13 ?_
    refine z_getO hC hG 1 kFX1_52_1 rfl rfl dX1_tryPlain_14 ?_
    refine z_call_v hG (zrunU hC hG (zrecv hC (Nat.le_of_ble_eq_true rfl) (Nat.le_of_ble_eq_true rfl) (zobj hG rfl (Nat.le_of_ble_eq_true rfl) (Nat.le_of_ble_eq_true rfl))) (mX2_clearNamesR l P K2 hV) kUX1_83_Running rfl rfl rfl ⟨(Nat.le_of_ble_eq_true rfl), (Nat.le_of_ble_eq_true rfl)⟩ ⟨(Nat.le_of_ble_eq_true rfl), (Nat.le_of_ble_eq_true rfl)⟩ rfl ⟨zcs_0, (Nat.le_of_ble_eq_true rfl)⟩ hL.1.1 dX1_tryPlain_17) ?_
    rintro G1 _ _ hV hG
    refine z_aload_n hC zvr_a rfl (hL.at 0 rfl) dX1_tryPlain_20 ?_
    refine z_getO hC hG 1 kFX1_52_1 rfl rfl dX1_tryPlain_21 ?_
    refine z_aload_n hC zvr_a rfl (hL.at 0 rfl) dX1_tryPlain_24 ?_
    refine z_getO hC hG 10 kFX1_44_1 rfl rfl dX1_tryPlain_25 ?_
    refine z_iload_n hC rfl (hL.at 1 rfl) dX1_tryPlain_28 ?_
    refine z_call_r hG (zrunV (ci := 2) hC hG (Nat.le_of_ble_eq_true rfl) (Nat.le_of_ble_eq_true rfl) (zobj hG rfl (Nat.le_of_ble_eq_true rfl) (Nat.le_of_ble_eq_true rfl)) (mJ2_get l P G1 10 rfl a2_1 ha2_1 hV) kVX1_95 rfl rfl rfl ⟨(Nat.le_of_ble_eq_true rfl), (Nat.le_of_ble_eq_true rfl)⟩ ⟨(Nat.le_of_ble_eq_true rfl), (Nat.le_of_ble_eq_true rfl)⟩ rfl ⟨(zcs_c rfl zcs_0), (Nat.le_of_ble_eq_true rfl)⟩ hL.1.1 dX1_tryPlain_29) ?_
    rintro x2 _ _ _  ⟨rfl, hV⟩ hG
    refine z_cast hC hG (ci := 16) (Nat.le_of_ble_eq_true rfl) (Nat.le_of_ble_eq_true rfl) q971 hV dX1_tryPlain_32 (fun hV => ?_)
    refine z_call_i hG (zrunU hC hG (zrecv hC (Nat.le_of_ble_eq_true rfl) (Nat.le_of_ble_eq_true rfl) (zobj hG rfl (Nat.le_of_ble_eq_true rfl) (Nat.le_of_ble_eq_true rfl))) (mX2_matchesR l P G1 x2 hV) kUX1_350_Running rfl rfl rfl ⟨(Nat.le_of_ble_eq_true rfl), (Nat.le_of_ble_eq_true rfl)⟩ ⟨(Nat.le_of_ble_eq_true rfl), (Nat.le_of_ble_eq_true rfl)⟩ rfl ⟨zcs_0, (Nat.le_of_ble_eq_true rfl)⟩ hL.1.1 dX1_tryPlain_35) ?_
    rintro x3 G2 _ _ hx3 hV hG
    refine z_iconst hC dX1_tryPlain_38 ?_
    obtain ⟨J66, eJ66, hV⟩ := zjn_abs hV
    have hJ66 : ∀ {H : Heap} {locs : List Loc}, zS P s G2 H locs → J66 () → ∀ (ls : Array Slot), zL ls 2 [(0, .ref (zA P 0 0 0)), (1, .int (zI a2_1))] → W p l e rX1_tryPlain s m args below meth c H locs 0 0 (MQ below (zQi P Q) args s 0 0 (zAr P)) (F0 m 66 ls []) := by
      intro H locs hG hV ls hL
      rw [eJ66] at hV
      refine z_iincV (fun x4 => [(1, .int (zI x4)), (0, .ref (zA P 0 0 0))]) hC hL (k := 1) rfl (by decide) (fun _ => rfl) hV dX1_tryPlain_66 ?_
      intro x4 hx4 hV ls hL
      refine z_goto (tgt := 2) hC dX1_tryPlain_69 (by decide) ?_
      exact hP2 x4 G2 hV hx4 _ _ hG _ (hL.sub [1, 0] rfl)
    refine z_icmp_ne (tgt := 66) hC hx3 (inR_lit rfl) hV dX1_tryPlain_39 (by decide) ?_ ?_
    · intro hV
      exact hJ66 hG hV _ hL
    · intro hV
      refine z_aload_n hC zvr_a rfl (hL.at 0 rfl) dX1_tryPlain_42 ?_
      refine z_getO hC hG 1 kFX1_52_1 rfl rfl dX1_tryPlain_43 ?_
      refine z_aload_n hC zvr_a rfl (hL.at 0 rfl) dX1_tryPlain_46 ?_
      refine z_getO hC hG 10 kFX1_44_1 rfl rfl dX1_tryPlain_47 ?_
      refine z_iload_n hC rfl (hL.at 1 rfl) dX1_tryPlain_50 ?_
      refine z_call_r hG (zrunV (ci := 2) hC hG (Nat.le_of_ble_eq_true rfl) (Nat.le_of_ble_eq_true rfl) (zobj hG rfl (Nat.le_of_ble_eq_true rfl) (Nat.le_of_ble_eq_true rfl)) (mJ2_get l P G2 10 rfl a2_1 ha2_1 hV) kVX1_95 rfl rfl rfl ⟨(Nat.le_of_ble_eq_true rfl), (Nat.le_of_ble_eq_true rfl)⟩ ⟨(Nat.le_of_ble_eq_true rfl), (Nat.le_of_ble_eq_true rfl)⟩ rfl ⟨(zcs_c rfl zcs_0), (Nat.le_of_ble_eq_true rfl)⟩ hL.1.1 dX1_tryPlain_51) ?_
      rintro x5 _ _ _  ⟨rfl, hV⟩ hG
      refine z_cast hC hG (ci := 16) (Nat.le_of_ble_eq_true rfl) (Nat.le_of_ble_eq_true rfl) q971 hV dX1_tryPlain_54 (fun hV => ?_)
      refine z_call_i hG (zrunV (ci := 3) hC hG (Nat.le_of_ble_eq_true rfl) (Nat.le_of_ble_eq_true rfl) (zobj hG rfl (Nat.le_of_ble_eq_true rfl) (Nat.le_of_ble_eq_true rfl)) (mX3_guards l P G2 x5 hV) kVX1_354 rfl rfl rfl ⟨(Nat.le_of_ble_eq_true rfl), (Nat.le_of_ble_eq_true rfl)⟩ ⟨(Nat.le_of_ble_eq_true rfl), (Nat.le_of_ble_eq_true rfl)⟩ rfl ⟨zcs_0, (Nat.le_of_ble_eq_true rfl)⟩ hL.1.1 dX1_tryPlain_57) ?_
      rintro x6 _ _ _ hx6 ⟨rfl, hV⟩ hG
      refine z_iconst hC dX1_tryPlain_60 ?_
      refine z_icmp_eq (tgt := 66) hC hx6 (inR_lit rfl) hV dX1_tryPlain_61 (by decide) ?_ ?_
      · intro hV
        exact hJ66 hG hV _ hL
      · intro hV
        refine z_iload_n hC rfl (hL.at 1 rfl) dX1_tryPlain_64 ?_
        exact z_iret hC hG hr hk ha2_1 hV (Nat.le_of_ble_eq_true rfl) (Nat.le_of_ble_eq_true rfl) dX1_tryPlain_65
abbrev rX1_tryTree : Room := { frames := 144, cells := 0, slots := 0, locals := 3476 }
def vX1_tryTree (p0 : Nat) (G : ZG) (Q : Int → ZG → Prop) : Prop := vX4_descend p0 G fun (x1 : Int) (G1 : ZG) => zaL G1 p0 3 500 x1 fun (x2 : Int) => zjn (fun (z25_0 : Int) => Q z25_0 G1) fun J25 => zbr (x2 ≠ 5) (zaL G1 p0 5 500 x1 fun (x3 : Int) => J25 x3) (J25 (-1))
set_option maxHeartbeats 4000000 in
theorem mX1_tryTree (l : Launch) (P : ZP) (G : ZG) (p0 : Nat) (hp0 : tCls p0 = 4) {Q : Int → ZG → Prop} (hV : vX1_tryTree p0 G Q) : Met l yX1_tryTree (ws_ yX1_tryTree cX1_tryTree 3 (some .int)) rX1_tryTree (zPc P G [.ref (zA P 0 0 0), .ref (zA P p0 0 0)]) (zQi P Q) 0 0 (zAr P) := by
  refine zMet RX1 (plainFor_of_name (by decide)) rfl (zcs_c rfl (zcs_c rfl zcs_0)) (Nat.le_of_ble_eq_true rfl) (fun p e s m args below meth c ls hC hr hk hn hG hL => ?_)
  unfold vX1_tryTree at hV
  refine z_aload_n hC zvr_a rfl (hL.at 1 rfl) dX1_tryTree_0 ?_
  refine z_call_i hG (zrunV (ci := 4) hC hG (Nat.le_of_ble_eq_true rfl) (Nat.le_of_ble_eq_true rfl) (zobj hG hp0 (Nat.le_of_ble_eq_true rfl) (Nat.le_of_ble_eq_true rfl)) (mX4_descend l P G p0 hp0 hV) kVX1_357 rfl rfl rfl ⟨(Nat.le_of_ble_eq_true rfl), (Nat.le_of_ble_eq_true rfl)⟩ ⟨(Nat.le_of_ble_eq_true rfl), (Nat.le_of_ble_eq_true rfl)⟩ rfl ⟨zcs_0, (Nat.le_of_ble_eq_true rfl)⟩ hL.1.1 dX1_tryTree_1) ?_
  rintro x1 G1 _ _ hx1 hV hG
  refine z_istore_n (lv' := [(2, .int (zI x1)), (0, .ref (zA P 0 0 0)), (1, .ref (zA P p0 0 0))]) hC rfl hL (by decide) rfl dX1_tryTree_4 (fun ls hL => ?_)
  refine z_aload_n hC zvr_a rfl (hL.at 2 rfl) dX1_tryTree_5 ?_
  refine z_getA hC hG kFX1_360_4 hp0 rfl dX1_tryTree_6 ?_
  refine z_iload_n hC rfl (hL.at 0 rfl) dX1_tryTree_9 ?_
  refine z_iald hC hG hp0 rfl rfl hx1 hV dX1_tryTree_10 ?_
  intro x2 hx2 hV
  refine z_iconst hC dX1_tryTree_11 ?_
  obtain ⟨J25, eJ25, hV⟩ := zjn_abs hV
  have hJ25 : ∀ {H : Heap} {locs : List Loc}, zS P s G1 H locs → ∀ (z25_0 : Int), inR z25_0 → J25 z25_0 → ∀ (ls : Array Slot), zL ls 3 [] → W p l e rX1_tryTree s m args below meth c H locs 0 0 (MQ below (zQi P Q) args s 0 0 (zAr P)) (F0 m 25 ls [.int (zI z25_0)]) := by
    intro H locs hG z25_0 hz25_0 hV ls hL
    rw [eJ25] at hV
    exact z_iret hC hG hr hk hz25_0 hV (Nat.le_of_ble_eq_true rfl) (Nat.le_of_ble_eq_true rfl) dX1_tryTree_25
  refine z_icmp_ne (tgt := 19) hC hx2 (inR_lit rfl) hV dX1_tryTree_12 (by decide) ?_ ?_
  · intro hV
    refine z_aload_n hC zvr_a rfl (hL.at 2 rfl) dX1_tryTree_19 ?_
    refine z_getA hC hG kFX1_363_4 hp0 rfl dX1_tryTree_20 ?_
    refine z_iload_n hC rfl (hL.at 0 rfl) dX1_tryTree_23 ?_
    refine z_iald hC hG hp0 rfl rfl hx1 hV dX1_tryTree_24 ?_
    intro x3 hx3 hV
    exact hJ25 hG x3 hx3 hV _ (hL.sub [] rfl)
  · intro hV
    refine z_iconst hC dX1_tryTree_15 ?_
    refine z_goto (tgt := 25) hC dX1_tryTree_16 (by decide) ?_
    exact hJ25 hG (-1) (inR_lit rfl) hV _ (hL.sub [] rfl)
abbrev rX1_run : Room := { frames := 1746, cells := 1010, slots := 70051, locals := 46720 }
def vX1_run (p0 : Int) (p1 : Int) (p2 : Int) (p3 : Int) (G : ZG) (X : Nat → ZG → Prop) (Q : Int → ZG → Prop) : Prop := vX1_inRange p0 0 3 fun (x1 : Int) => vX1_requireIndex x1 G X fun (_ : Unit) => zgF G 0 5 fun (x2 : Int) => vJ2_size 8 G fun (x3 : Int) => vX1_requireParts x2 p1 p2 p3 x3 6 30 G X fun (G1 : ZG) => znI0 G1 0 3 3 fun (x4 : ZR) (G2 : ZG) => zeS G2 x4 0 p1 fun (G3 : ZG) => zeS G3 x4 1 p2 fun (G4 : ZG) => zeS G4 x4 2 p3 fun (G5 : ZG) => vX1_row x4 fun (x5 : ZR) => zl2 (fun (P54 : Int → Int → Prop) (a54_6 : Int) (a54_7 : Int) => zgF G5 0 5 fun (x6 : Int) => zjn (fun (_ : Unit) => vX1_requireArgument a54_6 G5 X fun (_ : Unit) => zgF G5 0 5 fun (x7 : Int) => zjn (fun (z142_0 : Int) (H142 : ZG) => vX1_requireState z142_0 H142 X fun (_ : Unit) => zl2 (fun (P148 : Int → ZG → Prop) (a148_7 : Int) (K148 : ZG) => zgF K148 0 5 fun (x8 : Int) => zbr (x8 ≤ a148_7) (vX3_begin K148 fun (G6 : ZG) => vX5_refresh 1000 70000 G6 fun (G7 : ZG) => zjn (fun (z228_1 : Int) (H228 : ZG) => zpF H228 0 11 z228_1 fun (G8 : ZG) => vX2_clearNamesR G8 fun (G9 : ZG) => zgF G9 0 11 fun (x9 : Int) => zbr (x9 ≠ (-1)) (zgF G9 0 11 fun (x10 : Int) => vJ2_get 10 x10 G9 fun (x11 : ZR) => zca G9 x11 16 ∧ vX3_binds x11 G9 fun (G10 : ZG) => vX3_guards x11 G10 fun (x12 : Int) => zbr (x12 ≠ 2) (zdI G10 x11 16 5 fun (x13 : Int) => zdP G10 x11 16 5 (.inl (w32 (x13 + 1))) fun (G11 : ZG) => zdI G11 x11 16 1 fun (x14 : Int) => Q x14 G11) (Q (-2) G10)) (Q (-1) G9)) fun J228 => zbr (p0 ≠ 0) (zbr (p0 ≠ 1) (vX1_treeAt p0 G7 fun (x15 : ZR) (G12 : ZG) => zcaL x15 4 fun (o16 : Nat) => vX1_tryTree o16 G12 fun (x17 : Int) (G13 : ZG) => J228 x17 G13) (vX5_go G7 fun (x18 : Int) (G14 : ZG) => J228 x18 G14)) (vX1_tryPlain G7 fun (x19 : Int) (G15 : ZG) => J228 x19 G15)) (zeI K148 x5 a148_7 fun (x20 : Int) => zaS K148 1 2 3 a148_7 x20 fun (G16 : ZG) => zlt1 (w32 (a148_7 + 1)) fun (x21 : Int) => P148 x21 G16)) 0 H142) fun J142 => zjn (fun (H141 : ZG) => J142 0 H141) fun J141 => zbr (x7 ≤ 0) (J141 G5) (zjn (fun (H137 : ZG) => J142 1 H137) fun J137 => zbr (p0 < 2) (J137 G5) (vX1_treeAt p0 G5 fun (x22 : ZR) (G17 : ZG) => zcaL x22 4 fun (o23 : Nat) => zgF G17 o23 10 fun (x24 : Int) => zbr (x24 ≠ 0) (J141 G17) (J137 G17)))) fun J109 => zbr (x6 ≤ a54_7) (J109 ()) (zbr (a54_6 = 0) (J109 ()) (zeI G5 x5 a54_7 fun (x25 : Int) => vJ2_get 8 x25 G5 fun (x26 : ZR) => zca G5 x26 7 ∧ zisO G5 x26 7 ∧ vX7_kind x26 G5 fun (x28 : Int) => zaL G5 0 4 3 a54_7 fun (x29 : Int) => zjn (fun (z101_0 : Int) => zlt1 (w32 (a54_7 + 1)) fun (x30 : Int) => P54 z101_0 x30) fun J101 => zbr (x28 ≠ x29) (J101 0) (J101 1)))) 1 0
set_option maxHeartbeats 4000000 in
theorem mX1_run (l : Launch) (P : ZP) (G : ZG) (p0 : Int) (hp0 : inR p0) (p1 : Int) (hp1 : inR p1) (p2 : Int) (hp2 : inR p2) (p3 : Int) (hp3 : inR p3) {X : Nat → ZG → Prop} {Q : Int → ZG → Prop} (hst : l.stackTraces = false) (hV : vX1_run p0 p1 p2 p3 G X Q) : vx_Met l yX1_run (ws_ yX1_run cX1_run 8 (some .int)) rX1_run (zPc P G [.ref (zA P 0 0 0), .int (zI p0), .int (zI p1), .int (zI p2), .int (zI p3)]) (zQi P Q) (zXc P X) 1010 70051 (zAr P) := by
  refine zMetX (own := RX1) rfl (by decide) (zcs_c rfl (zcs_c rfl (zcs_c rfl (zcs_c rfl (zcs_c rfl zcs_0))))) (Nat.le_of_ble_eq_true rfl) (fun p e s m args below meth c ls hC hr hk hn hnt hG hL => ?_)
  unfold vX1_run at hV
  refine z_iload_n hC rfl (hL.at 1 rfl) dX1_run_0 ?_
  refine z_iconst hC dX1_run_1 ?_
  refine z_iconst hC dX1_run_2 ?_
  refine z_call_z hG (zrunS hC hG (mX1_inRange l P G p0 hp0 0 (inR_lit rfl) 3 (inR_lit rfl) hV) kSX1_91 rfl rfl rfl ⟨(Nat.le_of_ble_eq_true rfl), (Nat.le_of_ble_eq_true rfl)⟩ ⟨(Nat.le_of_ble_eq_true rfl), (Nat.le_of_ble_eq_true rfl)⟩ rfl ⟨zcs_0, (Nat.le_of_ble_eq_true rfl)⟩ hL.1.1 dX1_run_3) ?_
  rintro x1 _ _ _ hx1 ⟨rfl, hV⟩ hG
  refine z_xcall_v hG hnt hk (zrunSX hC hG (mX1_requireIndex l P G x1 hx1 hst hV) kSX1_105 rfl rfl rfl ⟨(Nat.le_of_ble_eq_true rfl), (Nat.le_of_ble_eq_true rfl)⟩ ⟨(Nat.le_of_ble_eq_true rfl), (Nat.le_of_ble_eq_true rfl)⟩ rfl ⟨zcs_0, (Nat.le_of_ble_eq_true rfl)⟩ hL.1.1 dX1_run_6) (Nat.le_of_ble_eq_true rfl) (Nat.le_of_ble_eq_true rfl) ?_
  rintro _ _ _ ⟨rfl, hV⟩ hG
  refine z_aload_n hC zvr_a rfl (hL.at 0 rfl) dX1_run_9 ?_
  refine z_getF hC hG kFX1_255_1 rfl rfl hV dX1_run_10 ?_
  intro x2 hx2 hV
  refine z_iload_n hC rfl (hL.at 2 rfl) dX1_run_13 ?_
  refine z_iload_n hC rfl (hL.at 3 rfl) dX1_run_14 ?_
  refine z_iload hC (hL.at 4 rfl) dX1_run_15 ?_
  refine z_aload_n hC zvr_a rfl (hL.at 0 rfl) dX1_run_17 ?_
  refine z_getO hC hG 8 kFX1_29_1 rfl rfl dX1_run_18 ?_
  refine z_call_i hG (zrunV (ci := 2) hC hG (Nat.le_of_ble_eq_true rfl) (Nat.le_of_ble_eq_true rfl) (zobj hG rfl (Nat.le_of_ble_eq_true rfl) (Nat.le_of_ble_eq_true rfl)) (mJ2_size l P G 8 rfl hV) kVX1_101 rfl rfl rfl ⟨(Nat.le_of_ble_eq_true rfl), (Nat.le_of_ble_eq_true rfl)⟩ ⟨(Nat.le_of_ble_eq_true rfl), (Nat.le_of_ble_eq_true rfl)⟩ rfl ⟨(zcs_c rfl (zcs_c rfl (zcs_c rfl (zcs_c rfl zcs_0)))), (Nat.le_of_ble_eq_true rfl)⟩ hL.1.1 dX1_run_21) ?_
  rintro x3 _ _ _ hx3 ⟨rfl, hV⟩ hG
  refine z_xcall_v hG hnt hk (zrunSX hC hG (mX1_requireParts l P G 6 30 x2 hx2 p1 hp1 p2 hp2 p3 hp3 x3 hx3 hst hV) kSX1_146 rfl rfl rfl ⟨(Nat.le_of_ble_eq_true rfl), (Nat.le_of_ble_eq_true rfl)⟩ ⟨(Nat.le_of_ble_eq_true rfl), (Nat.le_of_ble_eq_true rfl)⟩ rfl ⟨zcs_0, (Nat.le_of_ble_eq_true rfl)⟩ hL.1.1 dX1_run_24) (Nat.le_of_ble_eq_true rfl) (Nat.le_of_ble_eq_true rfl) ?_
  rintro G1 _ _ hV hG
  refine z_iconst hC dX1_run_27 ?_
  refine z_newI (t := 0) hC hG rfl (Nat.le_of_ble_eq_true rfl) q223 (inR_lit rfl) (Nat.le_of_ble_eq_true rfl) hV (Nat.le_of_ble_eq_true rfl) (Nat.le_of_ble_eq_true rfl) dX1_run_28 ?_
  intro x4 G2 _ hG hV
  refine z_dup hC (zrv_cat _ _) dX1_run_30 ?_
  refine z_iconst hC dX1_run_31 ?_
  refine z_iload_n hC rfl (hL.at 2 rfl) dX1_run_32 ?_
  refine z_east hC hG (inR_lit rfl) hp1 hV dX1_run_33 ?_
  intro G3 _ _ hG hV
  refine z_dup hC (zrv_cat _ _) dX1_run_34 ?_
  refine z_iconst hC dX1_run_35 ?_
  refine z_iload_n hC rfl (hL.at 3 rfl) dX1_run_36 ?_
  refine z_east hC hG (inR_lit rfl) hp2 hV dX1_run_37 ?_
  intro G4 _ _ hG hV
  refine z_dup hC (zrv_cat _ _) dX1_run_38 ?_
  refine z_iconst hC dX1_run_39 ?_
  refine z_iload hC (hL.at 4 rfl) dX1_run_40 ?_
  refine z_east hC hG (inR_lit rfl) hp3 hV dX1_run_42 ?_
  intro G5 _ _ hG hV
  refine z_call_r hG (zrunS hC hG (mX1_row l P G5 x4 hV) kSX1_15 rfl rfl rfl ⟨(Nat.le_of_ble_eq_true rfl), (Nat.le_of_ble_eq_true rfl)⟩ ⟨(Nat.le_of_ble_eq_true rfl), (Nat.le_of_ble_eq_true rfl)⟩ rfl ⟨zcs_0, (Nat.le_of_ble_eq_true rfl)⟩ hL.1.1 dX1_run_43) ?_
  rintro x5 _ _ _  ⟨rfl, hV⟩ hG
  refine z_astore (lv' := [(5, zrv P x5), (0, .ref (zA P 0 0 0)), (1, .int (zI p0)), (2, .int (zI p1)), (3, .int (zI p2)), (4, .int (zI p3))]) hC zvr_r hL (by decide) rfl dX1_run_46 (fun ls hL => ?_)
  refine z_iconst hC dX1_run_48 ?_
  refine z_istore (lv' := [(6, .int (zI 1)), (5, zrv P x5), (0, .ref (zA P 0 0 0)), (1, .int (zI p0)), (2, .int (zI p1)), (3, .int (zI p2)), (4, .int (zI p3))]) hC hL (by decide) rfl dX1_run_49 (fun ls hL => ?_)
  refine z_iconst hC dX1_run_51 ?_
  refine z_istore (lv' := [(7, .int (zI 0)), (6, .int (zI 1)), (5, zrv P x5), (0, .ref (zA P 0 0 0)), (1, .int (zI p0)), (2, .int (zI p1)), (3, .int (zI p2)), (4, .int (zI p3))]) hC hL (by decide) rfl dX1_run_52 (fun ls hL => ?_)
  refine zl2_use hV (fun (a54_6 : Int) (a54_7 : Int) => (a54_6 = 0 ∨ a54_6 = 1) → inR a54_7 → ∀ (H : Heap) (locs : List Loc), zS P s G5 H locs → ∀ (ls : Array Slot), zL ls 8 [(0, .ref (zA P 0 0 0)), (1, .int (zI p0)), (5, zrv P x5), (6, .int (zI a54_6)), (7, .int (zI a54_7))] → W p l e rX1_run s m args below meth c H locs 8 39 (vx_MQ below (zQi P Q) (zXc P X) args s 1010 70051 (zAr P)) (F0 m 54 ls [])) ?_ (Or.inr rfl) (inR_lit rfl) _ _ hG _ (hL.sub [3, 4, 2, 1, 0] rfl)
  intro P54 a54_6 a54_7 hP54 hV ha54_6 ha54_7 H locs hG ls hL
  refine z_iload hC (hL.at 4 rfl) dX1_run_54 ?_
  refine z_aload_n hC zvr_a rfl (hL.at 0 rfl) dX1_run_56 ?_
  refine z_getF hC hG kFX1_255_1 rfl rfl hV dX1_run_57 ?_
  intro x6 hx6 hV
  obtain ⟨J109, eJ109, hV⟩ := zjn_abs hV
  have hJ109 : ∀ {H : Heap} {locs : List Loc}, zS P s G5 H locs → J109 () → ∀ (ls : Array Slot), zL ls 8 [(0, .ref (zA P 0 0 0)), (1, .int (zI p0)), (5, zrv P x5), (6, .int (zI a54_6))] → W p l e rX1_run s m args below meth c H locs 8 39 (vx_MQ below (zQi P Q) (zXc P X) args s 1010 70051 (zAr P)) (F0 m 109 ls []) := by
    intro H locs hG hV ls hL
    rw [eJ109] at hV
    refine z_iload hC (hL.at 3 rfl) dX1_run_109 ?_
    refine z_xcall_v hG hnt hk (zrunSX hC hG (mX1_requireArgument l P G5 a54_6 ha54_6 hst hV) kSX1_117 rfl rfl rfl ⟨(Nat.le_of_ble_eq_true rfl), (Nat.le_of_ble_eq_true rfl)⟩ ⟨(Nat.le_of_ble_eq_true rfl), (Nat.le_of_ble_eq_true rfl)⟩ rfl ⟨zcs_0, (Nat.le_of_ble_eq_true rfl)⟩ hL.1.1 dX1_run_111) (Nat.le_of_ble_eq_true rfl) (Nat.le_of_ble_eq_true rfl) ?_
    rintro _ _ _ ⟨rfl, hV⟩ hG
    refine z_aload_n hC zvr_a rfl (hL.at 0 rfl) dX1_run_114 ?_
    refine z_getF hC hG kFX1_255_1 rfl rfl hV dX1_run_115 ?_
    intro x7 hx7 hV
    obtain ⟨J142, eJ142, hV⟩ := zjn_abs hV
    have hJ142 : ∀ (z142_0 : Int) (H142 : ZG), (z142_0 = 0 ∨ z142_0 = 1) → J142 z142_0 H142 → ∀ (H : Heap) (locs : List Loc) (ls : Array Slot), zS P s H142 H locs → zL ls 8 [(0, .ref (zA P 0 0 0)), (1, .int (zI p0)), (5, zrv P x5)] → W p l e rX1_run s m args below meth c H locs 9 45 (vx_MQ below (zQi P Q) (zXc P X) args s 1010 70051 (zAr P)) (F0 m 142 ls [.int (zI z142_0)]) := by
      intro z142_0 H142 hz142_0 hV H locs ls hG hL
      rw [eJ142] at hV
      refine z_xcall_v hG hnt hk (zrunSX hC hG (mX1_requireState l P H142 z142_0 hz142_0 hst hV) kSX1_120 rfl rfl rfl ⟨(Nat.le_of_ble_eq_true rfl), (Nat.le_of_ble_eq_true rfl)⟩ ⟨(Nat.le_of_ble_eq_true rfl), (Nat.le_of_ble_eq_true rfl)⟩ rfl ⟨zcs_0, (Nat.le_of_ble_eq_true rfl)⟩ hL.1.1 dX1_run_142) (Nat.le_of_ble_eq_true rfl) (Nat.le_of_ble_eq_true rfl) ?_
      rintro _ _ _ ⟨rfl, hV⟩ hG
      refine z_iconst hC dX1_run_145 ?_
      refine z_istore (lv' := [(7, .int (zI 0)), (0, .ref (zA P 0 0 0)), (1, .int (zI p0)), (5, zrv P x5)]) hC hL (by decide) rfl dX1_run_146 (fun ls hL => ?_)
      refine zl2_use hV (fun (a148_7 : Int) (K148 : ZG) => inR a148_7 → ∀ (H : Heap) (locs : List Loc), zS P s K148 H locs → ∀ (ls : Array Slot), zL ls 8 [(0, .ref (zA P 0 0 0)), (1, .int (zI p0)), (5, zrv P x5), (7, .int (zI a148_7))] → W p l e rX1_run s m args below meth c H locs 10 51 (vx_MQ below (zQi P Q) (zXc P X) args s 1010 70051 (zAr P)) (F0 m 148 ls [])) ?_ (inR_lit rfl) _ _ hG _ (hL.sub [1, 2, 3, 0] rfl)
      intro P148 a148_7 K148 hP148 hV ha148_7 H locs hG ls hL
      refine z_iload hC (hL.at 3 rfl) dX1_run_148 ?_
      refine z_aload_n hC zvr_a rfl (hL.at 0 rfl) dX1_run_150 ?_
      refine z_getF hC hG kFX1_255_1 rfl rfl hV dX1_run_151 ?_
      intro x8 hx8 hV
      refine z_icmp_ge (tgt := 178) hC ha148_7 hx8 hV dX1_run_154 (by decide) ?_ ?_
      · intro hV
        refine z_aload_n hC zvr_a rfl (hL.at 0 rfl) dX1_run_178 ?_
        refine z_getO hC hG 1 kFX1_52_1 rfl rfl dX1_run_179 ?_
        refine z_call_v hG (zrunV (ci := 3) hC hG (Nat.le_of_ble_eq_true rfl) (Nat.le_of_ble_eq_true rfl) (zobj hG rfl (Nat.le_of_ble_eq_true rfl) (Nat.le_of_ble_eq_true rfl)) (mX3_begin l P K148 hV) kVX1_258 rfl rfl rfl ⟨(Nat.le_of_ble_eq_true rfl), (Nat.le_of_ble_eq_true rfl)⟩ ⟨(Nat.le_of_ble_eq_true rfl), (Nat.le_of_ble_eq_true rfl)⟩ rfl ⟨zcs_0, (Nat.le_of_ble_eq_true rfl)⟩ hL.1.1 dX1_run_182) ?_
        rintro G6 _ _ hV hG
        refine z_aload_n hC zvr_a rfl (hL.at 0 rfl) dX1_run_185 ?_
        refine z_getO hC hG 4 kFX1_71_1 rfl rfl dX1_run_186 ?_
        refine z_call_v hG (zrunV (ci := 5) hC hG (Nat.le_of_ble_eq_true rfl) (Nat.le_of_ble_eq_true rfl) (zobj hG rfl (Nat.le_of_ble_eq_true rfl) (Nat.le_of_ble_eq_true rfl)) (mX5_refresh l P G6 1000 70000 hV) kVX1_374 rfl rfl rfl ⟨(Nat.le_of_ble_eq_true rfl), (Nat.le_of_ble_eq_true rfl)⟩ ⟨(Nat.le_of_ble_eq_true rfl), (Nat.le_of_ble_eq_true rfl)⟩ rfl ⟨zcs_0, (Nat.le_of_ble_eq_true rfl)⟩ hL.1.1 dX1_run_189) ?_
        rintro G7 _ _ hV hG
        refine z_aload_n hC zvr_a rfl (hL.at 0 rfl) dX1_run_192 ?_
        refine z_iload_n hC rfl (hL.at 1 rfl) dX1_run_193 ?_
        obtain ⟨J228, eJ228, hV⟩ := zjn_abs hV
        have hJ228 : ∀ (z228_1 : Int) (H228 : ZG), inR z228_1 → J228 z228_1 H228 → ∀ (H : Heap) (locs : List Loc) (ls : Array Slot), zS P s H228 H locs → zL ls 8 [(0, .ref (zA P 0 0 0))] → W p l e rX1_run s m args below meth c H locs 1010 70051 (vx_MQ below (zQi P Q) (zXc P X) args s 1010 70051 (zAr P)) (F0 m 228 ls [.int (zI z228_1), .ref (zA P 0 0 0)]) := by
          intro z228_1 H228 hz228_1 hV H locs ls hG hL
          rw [eJ228] at hV
          refine z_putF hC hG kFX1_75_1 rfl rfl rfl rfl nk_1_11 hz228_1 (Or.inl rfl) hV dX1_run_228 ?_
          intro G8 _ _ hG hV
          refine z_aload_n hC zvr_a rfl (hL.at 0 rfl) dX1_run_231 ?_
          refine z_getO hC hG 1 kFX1_52_1 rfl rfl dX1_run_232 ?_
          refine z_call_v hG (zrunU hC hG (zrecv hC (Nat.le_of_ble_eq_true rfl) (Nat.le_of_ble_eq_true rfl) (zobj hG rfl (Nat.le_of_ble_eq_true rfl) (Nat.le_of_ble_eq_true rfl))) (mX2_clearNamesR l P G8 hV) kUX1_83_Running rfl rfl rfl ⟨(Nat.le_of_ble_eq_true rfl), (Nat.le_of_ble_eq_true rfl)⟩ ⟨(Nat.le_of_ble_eq_true rfl), (Nat.le_of_ble_eq_true rfl)⟩ rfl ⟨zcs_0, (Nat.le_of_ble_eq_true rfl)⟩ hL.1.1 dX1_run_235) ?_
          rintro G9 _ _ hV hG
          refine z_aload_n hC zvr_a rfl (hL.at 0 rfl) dX1_run_238 ?_
          refine z_getF hC hG kFX1_75_1 rfl rfl hV dX1_run_239 ?_
          intro x9 hx9 hV
          refine z_iconst hC dX1_run_242 ?_
          refine z_icmp_ne (tgt := 248) hC hx9 (inR_lit rfl) hV dX1_run_243 (by decide) ?_ ?_
          · intro hV
            refine z_aload_n hC zvr_a rfl (hL.at 0 rfl) dX1_run_248 ?_
            refine z_getO hC hG 10 kFX1_44_1 rfl rfl dX1_run_249 ?_
            refine z_aload_n hC zvr_a rfl (hL.at 0 rfl) dX1_run_252 ?_
            refine z_getF hC hG kFX1_75_1 rfl rfl hV dX1_run_253 ?_
            intro x10 hx10 hV
            refine z_call_r hG (zrunV (ci := 2) hC hG (Nat.le_of_ble_eq_true rfl) (Nat.le_of_ble_eq_true rfl) (zobj hG rfl (Nat.le_of_ble_eq_true rfl) (Nat.le_of_ble_eq_true rfl)) (mJ2_get l P G9 10 rfl x10 hx10 hV) kVX1_95 rfl rfl rfl ⟨(Nat.le_of_ble_eq_true rfl), (Nat.le_of_ble_eq_true rfl)⟩ ⟨(Nat.le_of_ble_eq_true rfl), (Nat.le_of_ble_eq_true rfl)⟩ rfl ⟨zcs_0, (Nat.le_of_ble_eq_true rfl)⟩ hL.1.1 dX1_run_256) ?_
            rintro x11 _ _ _  ⟨rfl, hV⟩ hG
            refine z_cast hC hG (ci := 16) (Nat.le_of_ble_eq_true rfl) (Nat.le_of_ble_eq_true rfl) q971 hV dX1_run_259 (fun hV => ?_)
            refine z_astore (lv' := [(7, zrv P x11), (0, .ref (zA P 0 0 0))]) hC zvr_r hL (by decide) rfl dX1_run_262 (fun ls hL => ?_)
            refine z_aload_n hC zvr_a rfl (hL.at 1 rfl) dX1_run_264 ?_
            refine z_getO hC hG 1 kFX1_52_1 rfl rfl dX1_run_265 ?_
            refine z_aload hC zvr_r (hL.at 0 rfl) dX1_run_268 ?_
            refine z_call_v hG (zrunV (ci := 3) hC hG (Nat.le_of_ble_eq_true rfl) (Nat.le_of_ble_eq_true rfl) (zobj hG rfl (Nat.le_of_ble_eq_true rfl) (Nat.le_of_ble_eq_true rfl)) (mX3_binds l P G9 x11 hV) kVX1_385 rfl rfl rfl ⟨(Nat.le_of_ble_eq_true rfl), (Nat.le_of_ble_eq_true rfl)⟩ ⟨(Nat.le_of_ble_eq_true rfl), (Nat.le_of_ble_eq_true rfl)⟩ rfl ⟨zcs_0, (Nat.le_of_ble_eq_true rfl)⟩ hL.1.1 dX1_run_270) ?_
            rintro G10 _ _ hV hG
            refine z_aload_n hC zvr_a rfl (hL.at 1 rfl) dX1_run_273 ?_
            refine z_getO hC hG 1 kFX1_52_1 rfl rfl dX1_run_274 ?_
            refine z_aload hC zvr_r (hL.at 0 rfl) dX1_run_277 ?_
            refine z_call_i hG (zrunV (ci := 3) hC hG (Nat.le_of_ble_eq_true rfl) (Nat.le_of_ble_eq_true rfl) (zobj hG rfl (Nat.le_of_ble_eq_true rfl) (Nat.le_of_ble_eq_true rfl)) (mX3_guards l P G10 x11 hV) kVX1_354 rfl rfl rfl ⟨(Nat.le_of_ble_eq_true rfl), (Nat.le_of_ble_eq_true rfl)⟩ ⟨(Nat.le_of_ble_eq_true rfl), (Nat.le_of_ble_eq_true rfl)⟩ rfl ⟨zcs_0, (Nat.le_of_ble_eq_true rfl)⟩ hL.1.1 dX1_run_279) ?_
            rintro x12 _ _ _ hx12 ⟨rfl, hV⟩ hG
            refine z_iconst hC dX1_run_282 ?_
            refine z_icmp_ne (tgt := 289) hC hx12 (inR_lit rfl) hV dX1_run_283 (by decide) ?_ ?_
            · intro hV
              refine z_aload hC zvr_r (hL.at 0 rfl) dX1_run_289 ?_
              refine z_dup hC (zrv_cat _ _) dX1_run_291 ?_
              refine z_dI hC hG kFX1_389_16 hV dX1_run_292 ?_
              intro x13 hx13 hV
              refine z_iconst hC dX1_run_295 ?_
              refine z_iadd hC dX1_run_296 ?_
              refine z_dP (v := (.inl (w32 (x13 + 1)))) hC hG kFX1_389_16 rfl nk_16_5 zty_i (zvR_i (inR_w _)) hV dX1_run_297 ?_
              intro G11 _ _ hG hV
              refine z_aload hC zvr_r (hL.at 0 rfl) dX1_run_300 ?_
              refine z_dI hC hG kFX1_334_16 hV dX1_run_302 ?_
              intro x14 hx14 hV
              exact vx_ret (z_iret hC hG hr hk hx14 hV (Nat.le_of_ble_eq_true rfl) (Nat.le_of_ble_eq_true rfl) dX1_run_305)
            · intro hV
              refine z_bipush hC rfl dX1_run_286 ?_
              exact vx_ret (z_iret hC hG hr hk (inR_lit rfl) hV (Nat.le_of_ble_eq_true rfl) (Nat.le_of_ble_eq_true rfl) dX1_run_288)
          · intro hV
            refine z_iconst hC dX1_run_246 ?_
            exact vx_ret (z_iret hC hG hr hk (inR_lit rfl) hV (Nat.le_of_ble_eq_true rfl) (Nat.le_of_ble_eq_true rfl) dX1_run_247)
        refine z_if_ne (tgt := 204) hC hp0 hV dX1_run_194 (by decide) ?_ ?_
        · intro hV
          refine z_iload_n hC rfl (hL.at 1 rfl) dX1_run_204 ?_
          refine z_iconst hC dX1_run_205 ?_
          refine z_icmp_ne (tgt := 219) hC hp0 (inR_lit rfl) hV dX1_run_206 (by decide) ?_ ?_
          · intro hV
            refine z_aload_n hC zvr_a rfl (hL.at 0 rfl) dX1_run_219 ?_
            refine z_aload_n hC zvr_a rfl (hL.at 0 rfl) dX1_run_220 ?_
            refine z_iload_n hC rfl (hL.at 1 rfl) dX1_run_221 ?_
            refine z_call_r hG (zrunV (ci := 1) hC hG (Nat.le_of_ble_eq_true rfl) (Nat.le_of_ble_eq_true rfl) (zobj hG rfl (Nat.le_of_ble_eq_true rfl) (Nat.le_of_ble_eq_true rfl)) (mX1_treeAt l P G7 p0 hp0 hV) kVX1_365 rfl rfl rfl ⟨(Nat.le_of_ble_eq_true rfl), (Nat.le_of_ble_eq_true rfl)⟩ ⟨(Nat.le_of_ble_eq_true rfl), (Nat.le_of_ble_eq_true rfl)⟩ rfl ⟨(zcs_c rfl (zcs_c rfl zcs_0)), (Nat.le_of_ble_eq_true rfl)⟩ hL.1.1 dX1_run_222) ?_
            rintro x15 G12 _ _  hV hG
            refine z_fix hV (fun o16 ho16 hV => ?_)
            refine z_call_i hG (zrunV (ci := 1) hC hG (Nat.le_of_ble_eq_true rfl) (Nat.le_of_ble_eq_true rfl) (zobj hG rfl (Nat.le_of_ble_eq_true rfl) (Nat.le_of_ble_eq_true rfl)) (mX1_tryTree l P G12 o16 ho16 hV) kVX1_381 rfl rfl rfl ⟨(Nat.le_of_ble_eq_true rfl), (Nat.le_of_ble_eq_true rfl)⟩ ⟨(Nat.le_of_ble_eq_true rfl), (Nat.le_of_ble_eq_true rfl)⟩ rfl ⟨(zcs_c rfl zcs_0), (Nat.le_of_ble_eq_true rfl)⟩ hL.1.1 dX1_run_225) ?_
            rintro x17 G13 _ _ hx17 hV hG
            exact hJ228 x17 G13 hx17 hV _ _ _ hG (hL.sub [0] rfl)
          · intro hV
            refine z_aload_n hC zvr_a rfl (hL.at 0 rfl) dX1_run_209 ?_
            refine z_getO hC hG 4 kFX1_71_1 rfl rfl dX1_run_210 ?_
            refine z_call_i hG (zrunV (ci := 5) hC hG (Nat.le_of_ble_eq_true rfl) (Nat.le_of_ble_eq_true rfl) (zobj hG rfl (Nat.le_of_ble_eq_true rfl) (Nat.le_of_ble_eq_true rfl)) (mX5_go l P G7 hV) kVX1_378 rfl rfl rfl ⟨(Nat.le_of_ble_eq_true rfl), (Nat.le_of_ble_eq_true rfl)⟩ ⟨(Nat.le_of_ble_eq_true rfl), (Nat.le_of_ble_eq_true rfl)⟩ rfl ⟨(zcs_c rfl zcs_0), (Nat.le_of_ble_eq_true rfl)⟩ hL.1.1 dX1_run_213) ?_
            rintro x18 G14 _ _ hx18 hV hG
            refine z_goto (tgt := 228) hC dX1_run_216 (by decide) ?_
            exact hJ228 x18 G14 hx18 hV _ _ _ hG (hL.sub [0] rfl)
        · intro hV
          refine z_aload_n hC zvr_a rfl (hL.at 0 rfl) dX1_run_197 ?_
          refine z_call_i hG (zrunV (ci := 1) hC hG (Nat.le_of_ble_eq_true rfl) (Nat.le_of_ble_eq_true rfl) (zobj hG rfl (Nat.le_of_ble_eq_true rfl) (Nat.le_of_ble_eq_true rfl)) (mX1_tryPlain l P G7 hV) kVX1_375 rfl rfl rfl ⟨(Nat.le_of_ble_eq_true rfl), (Nat.le_of_ble_eq_true rfl)⟩ ⟨(Nat.le_of_ble_eq_true rfl), (Nat.le_of_ble_eq_true rfl)⟩ rfl ⟨(zcs_c rfl zcs_0), (Nat.le_of_ble_eq_true rfl)⟩ hL.1.1 dX1_run_198) ?_
          rintro x19 G15 _ _ hx19 hV hG
          refine z_goto (tgt := 228) hC dX1_run_201 (by decide) ?_
          exact hJ228 x19 G15 hx19 hV _ _ _ hG (hL.sub [0] rfl)
      · intro hV
        refine z_aload_n hC zvr_a rfl (hL.at 0 rfl) dX1_run_157 ?_
        refine z_getO hC hG 1 kFX1_52_1 rfl rfl dX1_run_158 ?_
        refine z_getA hC hG kFX1_372_3 rfl rfl dX1_run_161 ?_
        refine z_iload hC (hL.at 3 rfl) dX1_run_164 ?_
        refine z_aload hC zvr_r (hL.at 2 rfl) dX1_run_166 ?_
        refine z_iload hC (hL.at 3 rfl) dX1_run_168 ?_
        refine z_eald hC hG ha148_7 hV dX1_run_170 ?_
        intro x20 hx20 hV
        refine z_iast hC hG rfl (Nat.le_of_ble_eq_true rfl) (Nat.le_of_ble_eq_true rfl) rfl rfl rfl ha148_7 hx20 hV dX1_run_171 ?_
        intro G16 _ _ hG hV
        refine z_iincV (fun x21 => [(7, .int (zI x21)), (0, .ref (zA P 0 0 0)), (1, .int (zI p0)), (5, zrv P x5)]) hC hL (k := 3) rfl (by decide) (fun _ => rfl) hV dX1_run_172 ?_
        intro x21 hx21 hV ls hL
        refine z_goto (tgt := 148) hC dX1_run_175 (by decide) ?_
        exact hP148 x21 G16 hV hx21 _ _ hG _ (hL.sub [1, 2, 3, 0] rfl)
    obtain ⟨J141, eJ141, hV⟩ := zjn_abs hV
    have hJ141 : ∀ (H141 : ZG), J141 H141 → ∀ (H : Heap) (locs : List Loc) (ls : Array Slot), zS P s H141 H locs → zL ls 8 [(0, .ref (zA P 0 0 0)), (1, .int (zI p0)), (5, zrv P x5)] → W p l e rX1_run s m args below meth c H locs 9 45 (vx_MQ below (zQi P Q) (zXc P X) args s 1010 70051 (zAr P)) (F0 m 141 ls []) := by
      intro H141 hV H locs ls hG hL
      rw [eJ141] at hV
      refine z_iconst hC dX1_run_141 ?_
      exact hJ142 0 H141 (Or.inl rfl) hV _ _ _ hG hL
    refine z_if_le (tgt := 141) hC hx7 hV dX1_run_118 (by decide) ?_ ?_
    · intro hV
      exact hJ141 G5 hV _ _ _ hG (hL.sub [0, 1, 2] rfl)
    · intro hV
      refine z_iload_n hC rfl (hL.at 1 rfl) dX1_run_121 ?_
      refine z_iconst hC dX1_run_122 ?_
      obtain ⟨J137, eJ137, hV⟩ := zjn_abs hV
      have hJ137 : ∀ (H137 : ZG), J137 H137 → ∀ (H : Heap) (locs : List Loc) (ls : Array Slot), zS P s H137 H locs → zL ls 8 [(0, .ref (zA P 0 0 0)), (1, .int (zI p0)), (5, zrv P x5)] → W p l e rX1_run s m args below meth c H locs 9 45 (vx_MQ below (zQi P Q) (zXc P X) args s 1010 70051 (zAr P)) (F0 m 137 ls []) := by
        intro H137 hV H locs ls hG hL
        rw [eJ137] at hV
        refine z_iconst hC dX1_run_137 ?_
        refine z_goto (tgt := 142) hC dX1_run_138 (by decide) ?_
        exact hJ142 1 H137 (Or.inr rfl) hV _ _ _ hG hL
      refine z_icmp_lt (tgt := 137) hC hp0 (inR_lit rfl) hV dX1_run_123 (by decide) ?_ ?_
      · intro hV
        exact hJ137 G5 hV _ _ _ hG (hL.sub [0, 1, 2] rfl)
      · intro hV
        refine z_aload_n hC zvr_a rfl (hL.at 0 rfl) dX1_run_126 ?_
        refine z_iload_n hC rfl (hL.at 1 rfl) dX1_run_127 ?_
        refine z_call_r hG (zrunV (ci := 1) hC hG (Nat.le_of_ble_eq_true rfl) (Nat.le_of_ble_eq_true rfl) (zobj hG rfl (Nat.le_of_ble_eq_true rfl) (Nat.le_of_ble_eq_true rfl)) (mX1_treeAt l P G5 p0 hp0 hV) kVX1_365 rfl rfl rfl ⟨(Nat.le_of_ble_eq_true rfl), (Nat.le_of_ble_eq_true rfl)⟩ ⟨(Nat.le_of_ble_eq_true rfl), (Nat.le_of_ble_eq_true rfl)⟩ rfl ⟨zcs_0, (Nat.le_of_ble_eq_true rfl)⟩ hL.1.1 dX1_run_128) ?_
        rintro x22 G17 _ _  hV hG
        refine z_fix hV (fun o23 ho23 hV => ?_)
        refine z_getF hC hG kFX1_369_4 ho23 rfl hV dX1_run_131 ?_
        intro x24 hx24 hV
        refine z_if_ne (tgt := 141) hC hx24 hV dX1_run_134 (by decide) ?_ ?_
        · intro hV
          exact hJ141 G17 hV _ _ _ hG (hL.sub [0, 1, 2] rfl)
        · intro hV
          exact hJ137 G17 hV _ _ _ hG (hL.sub [0, 1, 2] rfl)
  refine z_icmp_ge (tgt := 109) hC ha54_7 hx6 hV dX1_run_60 (by decide) ?_ ?_
  · intro hV
    exact hJ109 hG hV _ (hL.sub [0, 1, 2, 3] rfl)
  · intro hV
    refine z_iload hC (hL.at 3 rfl) dX1_run_63 ?_
    refine z_if_eq (tgt := 109) hC (inR_b ha54_6) hV dX1_run_65 (by decide) ?_ ?_
    · intro hV
      exact hJ109 hG hV _ (hL.sub [0, 1, 2, 3] rfl)
    · intro hV
      refine z_aload_n hC zvr_a rfl (hL.at 0 rfl) dX1_run_68 ?_
      refine z_getO hC hG 8 kFX1_29_1 rfl rfl dX1_run_69 ?_
      refine z_aload hC zvr_r (hL.at 2 rfl) dX1_run_72 ?_
      refine z_iload hC (hL.at 4 rfl) dX1_run_74 ?_
      refine z_eald hC hG ha54_7 hV dX1_run_76 ?_
      intro x25 hx25 hV
      refine z_call_r hG (zrunV (ci := 2) hC hG (Nat.le_of_ble_eq_true rfl) (Nat.le_of_ble_eq_true rfl) (zobj hG rfl (Nat.le_of_ble_eq_true rfl) (Nat.le_of_ble_eq_true rfl)) (mJ2_get l P G5 8 rfl x25 hx25 hV) kVX1_95 rfl rfl rfl ⟨(Nat.le_of_ble_eq_true rfl), (Nat.le_of_ble_eq_true rfl)⟩ ⟨(Nat.le_of_ble_eq_true rfl), (Nat.le_of_ble_eq_true rfl)⟩ rfl ⟨zcs_0, (Nat.le_of_ble_eq_true rfl)⟩ hL.1.1 dX1_run_77) ?_
      rintro x26 _ _ _  ⟨rfl, hV⟩ hG
      refine z_cast hC hG (ci := 7) (Nat.le_of_ble_eq_true rfl) (Nat.le_of_ble_eq_true rfl) q653 hV dX1_run_80 (fun hV => ?_)
      obtain ⟨hO27, hV⟩ := hV
      refine z_call_i hG (zrunVD hC hG hO27 (mX7_kind l P G5 x26 hV) kVX1_150 rfl rfl rfl ⟨(Nat.le_of_ble_eq_true rfl), (Nat.le_of_ble_eq_true rfl)⟩ ⟨(Nat.le_of_ble_eq_true rfl), (Nat.le_of_ble_eq_true rfl)⟩ rfl ⟨zcs_0, (Nat.le_of_ble_eq_true rfl)⟩ hL.1.1 dX1_run_83) ?_
      rintro x28 _ _ _ hx28 ⟨rfl, hV⟩ hG
      refine z_aload_n hC zvr_a rfl (hL.at 0 rfl) dX1_run_86 ?_
      refine z_getA hC hG kFX1_41_1 rfl rfl dX1_run_87 ?_
      refine z_iload hC (hL.at 4 rfl) dX1_run_90 ?_
      refine z_iald hC hG rfl rfl rfl ha54_7 hV dX1_run_92 ?_
      intro x29 hx29 hV
      obtain ⟨J101, eJ101, hV⟩ := zjn_abs hV
      have hJ101 : ∀ {H : Heap} {locs : List Loc}, zS P s G5 H locs → ∀ (z101_0 : Int), (z101_0 = 0 ∨ z101_0 = 1) → J101 z101_0 → ∀ (ls : Array Slot), zL ls 8 [(0, .ref (zA P 0 0 0)), (1, .int (zI p0)), (5, zrv P x5), (7, .int (zI a54_7))] → W p l e rX1_run s m args below meth c H locs 8 39 (vx_MQ below (zQi P Q) (zXc P X) args s 1010 70051 (zAr P)) (F0 m 101 ls [.int (zI z101_0)]) := by
        intro H locs hG z101_0 hz101_0 hV ls hL
        rw [eJ101] at hV
        refine z_istore (lv' := [(6, .int (zI z101_0)), (0, .ref (zA P 0 0 0)), (1, .int (zI p0)), (5, zrv P x5), (7, .int (zI a54_7))]) hC hL (by decide) rfl dX1_run_101 (fun ls hL => ?_)
        refine z_iincV (fun x30 => [(7, .int (zI x30)), (6, .int (zI z101_0)), (0, .ref (zA P 0 0 0)), (1, .int (zI p0)), (5, zrv P x5)]) hC hL (k := 4) rfl (by decide) (fun _ => rfl) hV dX1_run_103 ?_
        intro x30 hx30 hV ls hL
        refine z_goto (tgt := 54) hC dX1_run_106 (by decide) ?_
        exact hP54 z101_0 x30 hV hz101_0 hx30 _ _ hG _ (hL.sub [2, 3, 4, 1, 0] rfl)
      refine z_icmp_ne (tgt := 100) hC hx28 hx29 hV dX1_run_93 (by decide) ?_ ?_
      · intro hV
        refine z_iconst hC dX1_run_100 ?_
        exact hJ101 hG 0 (Or.inl rfl) hV _ (hL.sub [0, 1, 2, 4] rfl)
      · intro hV
        refine z_iconst hC dX1_run_96 ?_
        refine z_goto (tgt := 101) hC dX1_run_97 (by decide) ?_
        exact hJ101 hG 1 (Or.inr rfl) hV _ (hL.sub [0, 1, 2, 4] rfl)
abbrev rX1_viewAt : Room := { frames := 9, cells := 1, slots := 6, locals := 120 }
def vX1_viewAt (p0 : Int) (G : ZG) (X : Nat → ZG → Prop) (Q : Int → Prop) : Prop := zgF G 1 6 fun (x1 : Int) => vX1_inRange p0 0 (w32 (x1 - 1)) fun (x2 : Int) => vX1_requireIndex x2 G X fun (_ : Unit) => zaL G 1 3 600 p0 fun (x3 : Int) => zaL G 1 4 600 p0 fun (x4 : Int) => zaL G 1 5 600 p0 fun (x5 : Int) => Q (w32 ((w32 ((w32 (100000 * x3)) + (w32 (10 * x4)))) + x5))
set_option maxHeartbeats 4000000 in
theorem mX1_viewAt (l : Launch) (P : ZP) (G : ZG) (p0 : Int) (hp0 : inR p0) {X : Nat → ZG → Prop} {Q : Int → Prop} (hst : l.stackTraces = false) (hV : vX1_viewAt p0 G X Q) : vx_Met l yX1_viewAt (ws_ yX1_viewAt cX1_viewAt 2 (some .int)) rX1_viewAt (zPc P G [.ref (zA P 0 0 0), .int (zI p0)]) (zQi P (fun r G2 => G = G2 ∧ Q r)) (zXc P X) 1 6 (zAr P) := by
  refine zMetX (own := RX1) rfl (by decide) (zcs_c rfl (zcs_c rfl zcs_0)) (Nat.le_of_ble_eq_true rfl) (fun p e s m args below meth c ls hC hr hk hn hnt hG hL => ?_)
  unfold vX1_viewAt at hV
  refine z_iload_n hC rfl (hL.at 1 rfl) dX1_viewAt_0 ?_
  refine z_iconst hC dX1_viewAt_1 ?_
  refine z_aload_n hC zvr_a rfl (hL.at 0 rfl) dX1_viewAt_2 ?_
  refine z_getO hC hG 1 kFX1_52_1 rfl rfl dX1_viewAt_3 ?_
  refine z_getF hC hG kFX1_395_3 rfl rfl hV dX1_viewAt_6 ?_
  intro x1 hx1 hV
  refine z_iconst hC dX1_viewAt_9 ?_
  refine z_isub hC dX1_viewAt_10 ?_
  refine z_call_z hG (zrunS hC hG (mX1_inRange l P G p0 hp0 0 (inR_lit rfl) (w32 (x1 - 1)) (inR_w _) hV) kSX1_91 rfl rfl rfl ⟨(Nat.le_of_ble_eq_true rfl), (Nat.le_of_ble_eq_true rfl)⟩ ⟨(Nat.le_of_ble_eq_true rfl), (Nat.le_of_ble_eq_true rfl)⟩ rfl ⟨zcs_0, (Nat.le_of_ble_eq_true rfl)⟩ hL.1.1 dX1_viewAt_11) ?_
  rintro x2 _ _ _ hx2 ⟨rfl, hV⟩ hG
  refine z_xcall_v hG hnt hk (zrunSX hC hG (mX1_requireIndex l P G x2 hx2 hst hV) kSX1_105 rfl rfl rfl ⟨(Nat.le_of_ble_eq_true rfl), (Nat.le_of_ble_eq_true rfl)⟩ ⟨(Nat.le_of_ble_eq_true rfl), (Nat.le_of_ble_eq_true rfl)⟩ rfl ⟨zcs_0, (Nat.le_of_ble_eq_true rfl)⟩ hL.1.1 dX1_viewAt_14) (Nat.le_of_ble_eq_true rfl) (Nat.le_of_ble_eq_true rfl) ?_
  rintro _ _ _ ⟨rfl, hV⟩ hG
  refine z_ldcw (n := 100000) hC q1691 rfl dX1_viewAt_17 ?_
  refine z_aload_n hC zvr_a rfl (hL.at 0 rfl) dX1_viewAt_20 ?_
  refine z_getO hC hG 1 kFX1_52_1 rfl rfl dX1_viewAt_21 ?_
  refine z_getA hC hG kFX1_399_3 rfl rfl dX1_viewAt_24 ?_
  refine z_iload_n hC rfl (hL.at 1 rfl) dX1_viewAt_27 ?_
  refine z_iald hC hG rfl rfl rfl hp0 hV dX1_viewAt_28 ?_
  intro x3 hx3 hV
  refine z_imul hC dX1_viewAt_29 ?_
  refine z_bipush hC rfl dX1_viewAt_30 ?_
  refine z_aload_n hC zvr_a rfl (hL.at 0 rfl) dX1_viewAt_32 ?_
  refine z_getO hC hG 1 kFX1_52_1 rfl rfl dX1_viewAt_33 ?_
  refine z_getA hC hG kFX1_402_3 rfl rfl dX1_viewAt_36 ?_
  refine z_iload_n hC rfl (hL.at 1 rfl) dX1_viewAt_39 ?_
  refine z_iald hC hG rfl rfl rfl hp0 hV dX1_viewAt_40 ?_
  intro x4 hx4 hV
  refine z_imul hC dX1_viewAt_41 ?_
  refine z_iadd hC dX1_viewAt_42 ?_
  refine z_aload_n hC zvr_a rfl (hL.at 0 rfl) dX1_viewAt_43 ?_
  refine z_getO hC hG 1 kFX1_52_1 rfl rfl dX1_viewAt_44 ?_
  refine z_getA hC hG kFX1_405_3 rfl rfl dX1_viewAt_47 ?_
  refine z_iload_n hC rfl (hL.at 1 rfl) dX1_viewAt_50 ?_
  refine z_iald hC hG rfl rfl rfl hp0 hV dX1_viewAt_51 ?_
  intro x5 hx5 hV
  refine z_iadd hC dX1_viewAt_52 ?_
  exact vx_ret (z_iret hC hG hr hk (inR_w _) ⟨rfl, hV⟩ (Nat.le_of_ble_eq_true rfl) (Nat.le_of_ble_eq_true rfl) dX1_viewAt_53)
abbrev rX1_bound : Room := { frames := 9, cells := 1, slots := 6, locals := 120 }
def vX1_bound (p0 : Int) (G : ZG) (X : Nat → ZG → Prop) (Q : Int → Prop) : Prop := vX1_inRange p0 0 5 fun (x1 : Int) => vX1_requireIndex x1 G X fun (_ : Unit) => zgF G 0 11 fun (x2 : Int) => zjn (fun (z30_0 : Int) => Q z30_0) fun J30 => zbr (x2 ≠ (-1)) (zaL G 1 0 6 p0 fun (x3 : Int) => J30 x3) (J30 (-1))
set_option maxHeartbeats 4000000 in
theorem mX1_bound (l : Launch) (P : ZP) (G : ZG) (p0 : Int) (hp0 : inR p0) {X : Nat → ZG → Prop} {Q : Int → Prop} (hst : l.stackTraces = false) (hV : vX1_bound p0 G X Q) : vx_Met l yX1_bound (ws_ yX1_bound cX1_bound 2 (some .int)) rX1_bound (zPc P G [.ref (zA P 0 0 0), .int (zI p0)]) (zQi P (fun r G2 => G = G2 ∧ Q r)) (zXc P X) 1 6 (zAr P) := by
  refine zMetX (own := RX1) rfl (by decide) (zcs_c rfl (zcs_c rfl zcs_0)) (Nat.le_of_ble_eq_true rfl) (fun p e s m args below meth c ls hC hr hk hn hnt hG hL => ?_)
  unfold vX1_bound at hV
  refine z_iload_n hC rfl (hL.at 1 rfl) dX1_bound_0 ?_
  refine z_iconst hC dX1_bound_1 ?_
  refine z_iconst hC dX1_bound_2 ?_
  refine z_call_z hG (zrunS hC hG (mX1_inRange l P G p0 hp0 0 (inR_lit rfl) 5 (inR_lit rfl) hV) kSX1_91 rfl rfl rfl ⟨(Nat.le_of_ble_eq_true rfl), (Nat.le_of_ble_eq_true rfl)⟩ ⟨(Nat.le_of_ble_eq_true rfl), (Nat.le_of_ble_eq_true rfl)⟩ rfl ⟨zcs_0, (Nat.le_of_ble_eq_true rfl)⟩ hL.1.1 dX1_bound_3) ?_
  rintro x1 _ _ _ hx1 ⟨rfl, hV⟩ hG
  refine z_xcall_v hG hnt hk (zrunSX hC hG (mX1_requireIndex l P G x1 hx1 hst hV) kSX1_105 rfl rfl rfl ⟨(Nat.le_of_ble_eq_true rfl), (Nat.le_of_ble_eq_true rfl)⟩ ⟨(Nat.le_of_ble_eq_true rfl), (Nat.le_of_ble_eq_true rfl)⟩ rfl ⟨zcs_0, (Nat.le_of_ble_eq_true rfl)⟩ hL.1.1 dX1_bound_6) (Nat.le_of_ble_eq_true rfl) (Nat.le_of_ble_eq_true rfl) ?_
  rintro _ _ _ ⟨rfl, hV⟩ hG
  refine z_aload_n hC zvr_a rfl (hL.at 0 rfl) dX1_bound_9 ?_
  refine z_getF hC hG kFX1_75_1 rfl rfl hV dX1_bound_10 ?_
  intro x2 hx2 hV
  refine z_iconst hC dX1_bound_13 ?_
  obtain ⟨J30, eJ30, hV⟩ := zjn_abs hV
  have hJ30 : ∀ {H : Heap} {locs : List Loc}, zS P s G H locs → ∀ (z30_0 : Int), inR z30_0 → J30 z30_0 → ∀ (ls : Array Slot), zL ls 2 [] → W p l e rX1_bound s m args below meth c H locs 1 6 (vx_MQ below (zQi P (fun r G2 => G = G2 ∧ Q r)) (zXc P X) args s 1 6 (zAr P)) (F0 m 30 ls [.int (zI z30_0)]) := by
    intro H locs hG z30_0 hz30_0 hV ls hL
    rw [eJ30] at hV
    exact vx_ret (z_iret hC hG hr hk hz30_0 ⟨rfl, hV⟩ (Nat.le_of_ble_eq_true rfl) (Nat.le_of_ble_eq_true rfl) dX1_bound_30)
  refine z_icmp_ne (tgt := 21) hC hx2 (inR_lit rfl) hV dX1_bound_14 (by decide) ?_ ?_
  · intro hV
    refine z_aload_n hC zvr_a rfl (hL.at 0 rfl) dX1_bound_21 ?_
    refine z_getO hC hG 1 kFX1_52_1 rfl rfl dX1_bound_22 ?_
    refine z_getA hC hG kFX1_408_3 rfl rfl dX1_bound_25 ?_
    refine z_iload_n hC rfl (hL.at 1 rfl) dX1_bound_28 ?_
    refine z_iald hC hG rfl rfl rfl hp0 hV dX1_bound_29 ?_
    intro x3 hx3 hV
    exact hJ30 hG x3 hx3 hV _ (hL.sub [] rfl)
  · intro hV
    refine z_iconst hC dX1_bound_17 ?_
    refine z_goto (tgt := 30) hC dX1_bound_18 (by decide) ?_
    exact hJ30 hG (-1) (inR_lit rfl) hV _ (hL.sub [] rfl)
abbrev rX1_taken : Room := { frames := 10, cells := 1, slots := 6, locals := 141 }
def vX1_taken (p0 : Int) (G : ZG) (X : Nat → ZG → Prop) (Q : Int → Prop) : Prop := vX1_caseAt p0 G X fun (x1 : ZR) => zdI G x1 16 5 fun (x2 : Int) => Q x2
set_option maxHeartbeats 4000000 in
theorem mX1_taken (l : Launch) (P : ZP) (G : ZG) (p0 : Int) (hp0 : inR p0) {X : Nat → ZG → Prop} {Q : Int → Prop} (hst : l.stackTraces = false) (hV : vX1_taken p0 G X Q) : vx_Met l yX1_taken (ws_ yX1_taken cX1_taken 2 (some .int)) rX1_taken (zPc P G [.ref (zA P 0 0 0), .int (zI p0)]) (zQi P (fun r G2 => G = G2 ∧ Q r)) (zXc P X) 1 6 (zAr P) := by
  refine zMetX (own := RX1) rfl (by decide) (zcs_c rfl (zcs_c rfl zcs_0)) (Nat.le_of_ble_eq_true rfl) (fun p e s m args below meth c ls hC hr hk hn hnt hG hL => ?_)
  unfold vX1_taken at hV
  refine z_aload_n hC zvr_a rfl (hL.at 0 rfl) dX1_taken_0 ?_
  refine z_iload_n hC rfl (hL.at 1 rfl) dX1_taken_1 ?_
  refine z_xcall_r hG hnt hk (zrunVX (ci := 1) hC hG (Nat.le_of_ble_eq_true rfl) (Nat.le_of_ble_eq_true rfl) (zobj hG rfl (Nat.le_of_ble_eq_true rfl) (Nat.le_of_ble_eq_true rfl)) (mX1_caseAt l P G p0 hp0 hst hV) kVX1_294 rfl rfl rfl ⟨(Nat.le_of_ble_eq_true rfl), (Nat.le_of_ble_eq_true rfl)⟩ ⟨(Nat.le_of_ble_eq_true rfl), (Nat.le_of_ble_eq_true rfl)⟩ rfl ⟨zcs_0, (Nat.le_of_ble_eq_true rfl)⟩ hL.1.1 dX1_taken_2) (Nat.le_of_ble_eq_true rfl) (Nat.le_of_ble_eq_true rfl) ?_
  rintro x1 _ _ _  ⟨rfl, hV⟩ hG
  refine z_dI hC hG kFX1_389_16 hV dX1_taken_5 ?_
  intro x2 hx2 hV
  exact vx_ret (z_iret hC hG hr hk hx2 ⟨rfl, hV⟩ (Nat.le_of_ble_eq_true rfl) (Nat.le_of_ble_eq_true rfl) dX1_taken_8)
abbrev rX1_size : Room := { frames := 1746, cells := 2, slots := 12, locals := 46720 }
def vX1_size (p0 : Int) (p1 : Int) (G : ZG) (X : Nat → ZG → Prop) (Q : Int → ZG → Prop) : Prop := vX1_inRange p0 2 3 fun (x1 : Int) => vX1_requireIndex x1 G X fun (_ : Unit) => zgF G 0 5 fun (x2 : Int) => zjn (fun (z21_0 : Int) => vX1_requireState z21_0 G X fun (_ : Unit) => vX1_treeAt p0 G fun (x3 : ZR) (G1 : ZG) => zcaL x3 4 fun (o4 : Nat) => zgF G1 o4 10 fun (x5 : Int) => zjn (fun (z57_0 : Int) (H57 : ZG) => Q z57_0 H57) fun J57 => zbr (x5 = 0) (zbr (p1 = 0) (zgF G1 o4 9 fun (x6 : Int) => J57 x6 G1) (vX4_shared o4 G1 fun (x7 : Int) (G2 : ZG) => J57 x7 G2)) (J57 (-3) G1)) fun J21 => zbr (x2 ≤ 0) (J21 0) (J21 1)
set_option maxHeartbeats 4000000 in
theorem mX1_size (l : Launch) (P : ZP) (G : ZG) (p0 : Int) (hp0 : inR p0) (p1 : Int) (hp1 : p1 = 0 ∨ p1 = 1) {X : Nat → ZG → Prop} {Q : Int → ZG → Prop} (hst : l.stackTraces = false) (hV : vX1_size p0 p1 G X Q) : vx_Met l yX1_size (ws_ yX1_size cX1_size 4 (some .int)) rX1_size (zPc P G [.ref (zA P 0 0 0), .int (zI p0), .int (zI p1)]) (zQi P Q) (zXc P X) 2 12 (zAr P) := by
  refine zMetX (own := RX1) rfl (by decide) (zcs_c rfl (zcs_c rfl (zcs_c rfl zcs_0))) (Nat.le_of_ble_eq_true rfl) (fun p e s m args below meth c ls hC hr hk hn hnt hG hL => ?_)
  unfold vX1_size at hV
  refine z_iload_n hC rfl (hL.at 1 rfl) dX1_size_0 ?_
  refine z_iconst hC dX1_size_1 ?_
  refine z_iconst hC dX1_size_2 ?_
  refine z_call_z hG (zrunS hC hG (mX1_inRange l P G p0 hp0 2 (inR_lit rfl) 3 (inR_lit rfl) hV) kSX1_91 rfl rfl rfl ⟨(Nat.le_of_ble_eq_true rfl), (Nat.le_of_ble_eq_true rfl)⟩ ⟨(Nat.le_of_ble_eq_true rfl), (Nat.le_of_ble_eq_true rfl)⟩ rfl ⟨zcs_0, (Nat.le_of_ble_eq_true rfl)⟩ hL.1.1 dX1_size_3) ?_
  rintro x1 _ _ _ hx1 ⟨rfl, hV⟩ hG
  refine z_xcall_v hG hnt hk (zrunSX hC hG (mX1_requireIndex l P G x1 hx1 hst hV) kSX1_105 rfl rfl rfl ⟨(Nat.le_of_ble_eq_true rfl), (Nat.le_of_ble_eq_true rfl)⟩ ⟨(Nat.le_of_ble_eq_true rfl), (Nat.le_of_ble_eq_true rfl)⟩ rfl ⟨zcs_0, (Nat.le_of_ble_eq_true rfl)⟩ hL.1.1 dX1_size_6) (Nat.le_of_ble_eq_true rfl) (Nat.le_of_ble_eq_true rfl) ?_
  rintro _ _ _ ⟨rfl, hV⟩ hG
  refine z_aload_n hC zvr_a rfl (hL.at 0 rfl) dX1_size_9 ?_
  refine z_getF hC hG kFX1_255_1 rfl rfl hV dX1_size_10 ?_
  intro x2 hx2 hV
  obtain ⟨J21, eJ21, hV⟩ := zjn_abs hV
  have hJ21 : ∀ {H : Heap} {locs : List Loc}, zS P s G H locs → ∀ (z21_0 : Int), (z21_0 = 0 ∨ z21_0 = 1) → J21 z21_0 → ∀ (ls : Array Slot), zL ls 4 [(0, .ref (zA P 0 0 0)), (1, .int (zI p0)), (2, .int (zI p1))] → W p l e rX1_size s m args below meth c H locs 1 6 (vx_MQ below (zQi P Q) (zXc P X) args s 2 12 (zAr P)) (F0 m 21 ls [.int (zI z21_0)]) := by
    intro H locs hG z21_0 hz21_0 hV ls hL
    rw [eJ21] at hV
    refine z_xcall_v hG hnt hk (zrunSX hC hG (mX1_requireState l P G z21_0 hz21_0 hst hV) kSX1_120 rfl rfl rfl ⟨(Nat.le_of_ble_eq_true rfl), (Nat.le_of_ble_eq_true rfl)⟩ ⟨(Nat.le_of_ble_eq_true rfl), (Nat.le_of_ble_eq_true rfl)⟩ rfl ⟨zcs_0, (Nat.le_of_ble_eq_true rfl)⟩ hL.1.1 dX1_size_21) (Nat.le_of_ble_eq_true rfl) (Nat.le_of_ble_eq_true rfl) ?_
    rintro _ _ _ ⟨rfl, hV⟩ hG
    refine z_aload_n hC zvr_a rfl (hL.at 0 rfl) dX1_size_24 ?_
    refine z_iload_n hC rfl (hL.at 1 rfl) dX1_size_25 ?_
    refine z_call_r hG (zrunV (ci := 1) hC hG (Nat.le_of_ble_eq_true rfl) (Nat.le_of_ble_eq_true rfl) (zobj hG rfl (Nat.le_of_ble_eq_true rfl) (Nat.le_of_ble_eq_true rfl)) (mX1_treeAt l P G p0 hp0 hV) kVX1_365 rfl rfl rfl ⟨(Nat.le_of_ble_eq_true rfl), (Nat.le_of_ble_eq_true rfl)⟩ ⟨(Nat.le_of_ble_eq_true rfl), (Nat.le_of_ble_eq_true rfl)⟩ rfl ⟨zcs_0, (Nat.le_of_ble_eq_true rfl)⟩ hL.1.1 dX1_size_26) ?_
    rintro x3 G1 _ _  hV hG
    refine z_fix hV (fun o4 ho4 hV => ?_)
    refine z_astore_n (lv' := [(3, .ref (zA P o4 0 0)), (0, .ref (zA P 0 0 0)), (1, .int (zI p0)), (2, .int (zI p1))]) hC zvr_a rfl hL (by decide) rfl dX1_size_29 (fun ls hL => ?_)
    refine z_aload_n hC zvr_a rfl (hL.at 0 rfl) dX1_size_30 ?_
    refine z_getF hC hG kFX1_369_4 ho4 rfl hV dX1_size_31 ?_
    intro x5 hx5 hV
    obtain ⟨J57, eJ57, hV⟩ := zjn_abs hV
    have hJ57 : ∀ (z57_0 : Int) (H57 : ZG), inR z57_0 → J57 z57_0 H57 → ∀ (H : Heap) (locs : List Loc) (ls : Array Slot), zS P s H57 H locs → zL ls 4 [] → W p l e rX1_size s m args below meth c H locs 2 12 (vx_MQ below (zQi P Q) (zXc P X) args s 2 12 (zAr P)) (F0 m 57 ls [.int (zI z57_0)]) := by
      intro z57_0 H57 hz57_0 hV H locs ls hG hL
      rw [eJ57] at hV
      exact vx_ret (z_iret hC hG hr hk hz57_0 hV (Nat.le_of_ble_eq_true rfl) (Nat.le_of_ble_eq_true rfl) dX1_size_57)
    refine z_if_eq (tgt := 42) hC hx5 hV dX1_size_34 (by decide) ?_ ?_
    · intro hV
      refine z_iload_n hC rfl (hL.at 3 rfl) dX1_size_42 ?_
      refine z_if_eq (tgt := 53) hC (inR_b hp1) hV dX1_size_43 (by decide) ?_ ?_
      · intro hV
        refine z_aload_n hC zvr_a rfl (hL.at 0 rfl) dX1_size_53 ?_
        refine z_getF hC hG kFX1_416_4 ho4 rfl hV dX1_size_54 ?_
        intro x6 hx6 hV
        exact hJ57 x6 G1 hx6 hV _ _ _ hG (hL.sub [] rfl)
      · intro hV
        refine z_aload_n hC zvr_a rfl (hL.at 0 rfl) dX1_size_46 ?_
        refine z_call_i hG (zrunV (ci := 4) hC hG (Nat.le_of_ble_eq_true rfl) (Nat.le_of_ble_eq_true rfl) (zobj hG ho4 (Nat.le_of_ble_eq_true rfl) (Nat.le_of_ble_eq_true rfl)) (mX4_shared l P G1 o4 ho4 hV) kVX1_413 rfl rfl rfl ⟨(Nat.le_of_ble_eq_true rfl), (Nat.le_of_ble_eq_true rfl)⟩ ⟨(Nat.le_of_ble_eq_true rfl), (Nat.le_of_ble_eq_true rfl)⟩ rfl ⟨zcs_0, (Nat.le_of_ble_eq_true rfl)⟩ hL.1.1 dX1_size_47) ?_
        rintro x7 G2 _ _ hx7 hV hG
        refine z_goto (tgt := 57) hC dX1_size_50 (by decide) ?_
        exact hJ57 x7 G2 hx7 hV _ _ _ hG (hL.sub [] rfl)
    · intro hV
      refine z_bipush hC rfl dX1_size_37 ?_
      refine z_goto (tgt := 57) hC dX1_size_39 (by decide) ?_
      exact hJ57 (-3) G1 (inR_lit rfl) hV _ _ _ hG (hL.sub [] rfl)
  refine z_if_le (tgt := 20) hC hx2 hV dX1_size_13 (by decide) ?_ ?_
  · intro hV
    refine z_iconst hC dX1_size_20 ?_
    exact hJ21 hG 0 (Or.inl rfl) hV _ hL
  · intro hV
    refine z_iconst hC dX1_size_16 ?_
    refine z_goto (tgt := 21) hC dX1_size_17 (by decide) ?_
    exact hJ21 hG 1 (Or.inr rfl) hV _ hL
abbrev rX1_missing : Room := { frames := 1746, cells := 1, slots := 6, locals := 46720 }
def vX1_missing (G : ZG) (X : Nat → ZG → Prop) (Q : Int → ZG → Prop) : Prop := zgF G 0 5 fun (x1 : Int) => zjn (fun (z12_0 : Int) => vX1_requireState z12_0 G X fun (_ : Unit) => vX1_treeAt 2 G fun (x2 : ZR) (G1 : ZG) => zcaL x2 4 fun (o3 : Nat) => zgF G1 o3 10 fun (x4 : Int) => zjn (fun (z38_0 : Int) => Q z38_0 G1) fun J38 => zbr (x4 = 0) (vX4_manyOfKind o3 5 G1 fun (x5 : Int) => J38 x5) (J38 (-3))) fun J12 => zbr (x1 ≤ 0) (J12 0) (J12 1)
set_option maxHeartbeats 4000000 in
theorem mX1_missing (l : Launch) (P : ZP) (G : ZG) {X : Nat → ZG → Prop} {Q : Int → ZG → Prop} (hst : l.stackTraces = false) (hV : vX1_missing G X Q) : vx_Met l yX1_missing (ws_ yX1_missing cX1_missing 2 (some .int)) rX1_missing (zPc P G [.ref (zA P 0 0 0)]) (zQi P Q) (zXc P X) 1 6 (zAr P) := by
  refine zMetX (own := RX1) rfl (by decide) (zcs_c rfl zcs_0) (Nat.le_of_ble_eq_true rfl) (fun p e s m args below meth c ls hC hr hk hn hnt hG hL => ?_)
  unfold vX1_missing at hV
  refine z_aload_n hC zvr_a rfl (hL.at 0 rfl) dX1_missing_0 ?_
  refine z_getF hC hG kFX1_255_1 rfl rfl hV dX1_missing_1 ?_
  intro x1 hx1 hV
  obtain ⟨J12, eJ12, hV⟩ := zjn_abs hV
  have hJ12 : ∀ {H : Heap} {locs : List Loc}, zS P s G H locs → ∀ (z12_0 : Int), (z12_0 = 0 ∨ z12_0 = 1) → J12 z12_0 → ∀ (ls : Array Slot), zL ls 2 [(0, .ref (zA P 0 0 0))] → W p l e rX1_missing s m args below meth c H locs 0 0 (vx_MQ below (zQi P Q) (zXc P X) args s 1 6 (zAr P)) (F0 m 12 ls [.int (zI z12_0)]) := by
    intro H locs hG z12_0 hz12_0 hV ls hL
    rw [eJ12] at hV
    refine z_xcall_v hG hnt hk (zrunSX hC hG (mX1_requireState l P G z12_0 hz12_0 hst hV) kSX1_120 rfl rfl rfl ⟨(Nat.le_of_ble_eq_true rfl), (Nat.le_of_ble_eq_true rfl)⟩ ⟨(Nat.le_of_ble_eq_true rfl), (Nat.le_of_ble_eq_true rfl)⟩ rfl ⟨zcs_0, (Nat.le_of_ble_eq_true rfl)⟩ hL.1.1 dX1_missing_12) (Nat.le_of_ble_eq_true rfl) (Nat.le_of_ble_eq_true rfl) ?_
    rintro _ _ _ ⟨rfl, hV⟩ hG
    refine z_aload_n hC zvr_a rfl (hL.at 0 rfl) dX1_missing_15 ?_
    refine z_iconst hC dX1_missing_16 ?_
    refine z_call_r hG (zrunV (ci := 1) hC hG (Nat.le_of_ble_eq_true rfl) (Nat.le_of_ble_eq_true rfl) (zobj hG rfl (Nat.le_of_ble_eq_true rfl) (Nat.le_of_ble_eq_true rfl)) (mX1_treeAt l P G 2 (inR_lit rfl) hV) kVX1_365 rfl rfl rfl ⟨(Nat.le_of_ble_eq_true rfl), (Nat.le_of_ble_eq_true rfl)⟩ ⟨(Nat.le_of_ble_eq_true rfl), (Nat.le_of_ble_eq_true rfl)⟩ rfl ⟨zcs_0, (Nat.le_of_ble_eq_true rfl)⟩ hL.1.1 dX1_missing_17) ?_
    rintro x2 G1 _ _  hV hG
    refine z_fix hV (fun o3 ho3 hV => ?_)
    refine z_astore_n (lv' := [(1, .ref (zA P o3 0 0)), (0, .ref (zA P 0 0 0))]) hC zvr_a rfl hL (by decide) rfl dX1_missing_20 (fun ls hL => ?_)
    refine z_aload_n hC zvr_a rfl (hL.at 0 rfl) dX1_missing_21 ?_
    refine z_getF hC hG kFX1_369_4 ho3 rfl hV dX1_missing_22 ?_
    intro x4 hx4 hV
    obtain ⟨J38, eJ38, hV⟩ := zjn_abs hV
    have hJ38 : ∀ {H : Heap} {locs : List Loc}, zS P s G1 H locs → ∀ (z38_0 : Int), inR z38_0 → J38 z38_0 → ∀ (ls : Array Slot), zL ls 2 [] → W p l e rX1_missing s m args below meth c H locs 1 6 (vx_MQ below (zQi P Q) (zXc P X) args s 1 6 (zAr P)) (F0 m 38 ls [.int (zI z38_0)]) := by
      intro H locs hG z38_0 hz38_0 hV ls hL
      rw [eJ38] at hV
      exact vx_ret (z_iret hC hG hr hk hz38_0 hV (Nat.le_of_ble_eq_true rfl) (Nat.le_of_ble_eq_true rfl) dX1_missing_38)
    refine z_if_eq (tgt := 33) hC hx4 hV dX1_missing_25 (by decide) ?_ ?_
    · intro hV
      refine z_aload_n hC zvr_a rfl (hL.at 0 rfl) dX1_missing_33 ?_
      refine z_iconst hC dX1_missing_34 ?_
      refine z_call_i hG (zrunV (ci := 4) hC hG (Nat.le_of_ble_eq_true rfl) (Nat.le_of_ble_eq_true rfl) (zobj hG ho3 (Nat.le_of_ble_eq_true rfl) (Nat.le_of_ble_eq_true rfl)) (mX4_manyOfKind l P G1 o3 ho3 5 (inR_lit rfl) hV) kVX1_419 rfl rfl rfl ⟨(Nat.le_of_ble_eq_true rfl), (Nat.le_of_ble_eq_true rfl)⟩ ⟨(Nat.le_of_ble_eq_true rfl), (Nat.le_of_ble_eq_true rfl)⟩ rfl ⟨zcs_0, (Nat.le_of_ble_eq_true rfl)⟩ hL.1.1 dX1_missing_35) ?_
      rintro x5 _ _ _ hx5 ⟨rfl, hV⟩ hG
      exact hJ38 hG x5 hx5 hV _ (hL.sub [] rfl)
    · intro hV
      refine z_bipush hC rfl dX1_missing_28 ?_
      refine z_goto (tgt := 38) hC dX1_missing_30 (by decide) ?_
      exact hJ38 hG (-3) (inR_lit rfl) hV _ (hL.sub [] rfl)
  refine z_if_le (tgt := 11) hC hx1 hV dX1_missing_4 (by decide) ?_ ?_
  · intro hV
    refine z_iconst hC dX1_missing_11 ?_
    exact hJ12 hG 0 (Or.inl rfl) hV _ hL
  · intro hV
    refine z_iconst hC dX1_missing_7 ?_
    refine z_goto (tgt := 12) hC dX1_missing_8 (by decide) ?_
    exact hJ12 hG 1 (Or.inr rfl) hV _ hL
abbrev rX1_example : Room := { frames := 1746, cells := 1, slots := 6, locals := 46720 }
def vX1_example (p0 : Int) (G : ZG) (X : Nat → ZG → Prop) (Q : Int → ZG → Prop) : Prop := zgF G 0 5 fun (x1 : Int) => zjn (fun (z34_0 : Int) (H34 : ZG) => vX1_requireState z34_0 H34 X fun (_ : Unit) => vX4_example 2 p0 H34 fun (x2 : Int) => Q x2 H34) fun J34 => zjn (fun (H33 : ZG) => J34 0 H33) fun J33 => zbr (x1 ≤ 0) (J33 G) (vX1_treeAt 2 G fun (x3 : ZR) (G1 : ZG) => zcaL x3 4 fun (o4 : Nat) => zgF G1 o4 10 fun (x5 : Int) => zbr (x5 ≠ 0) (J33 G1) (vX4_manyOfKind 2 5 G1 fun (x6 : Int) => zbr (x6 ≤ 0) (J33 G1) (J34 1 G1)))
set_option maxHeartbeats 4000000 in
theorem mX1_example (l : Launch) (P : ZP) (G : ZG) (p0 : Int) (hp0 : inR p0) {X : Nat → ZG → Prop} {Q : Int → ZG → Prop} (hst : l.stackTraces = false) (hV : vX1_example p0 G X Q) : vx_Met l yX1_example (ws_ yX1_example cX1_example 2 (some .int)) rX1_example (zPc P G [.ref (zA P 0 0 0), .int (zI p0)]) (zQi P Q) (zXc P X) 1 6 (zAr P) := by
  refine zMetX (own := RX1) rfl (by decide) (zcs_c rfl (zcs_c rfl zcs_0)) (Nat.le_of_ble_eq_true rfl) (fun p e s m args below meth c ls hC hr hk hn hnt hG hL => ?_)
  unfold vX1_example at hV
  refine z_aload_n hC zvr_a rfl (hL.at 0 rfl) dX1_example_0 ?_
  refine z_getF hC hG kFX1_255_1 rfl rfl hV dX1_example_1 ?_
  intro x1 hx1 hV
  obtain ⟨J34, eJ34, hV⟩ := zjn_abs hV
  have hJ34 : ∀ (z34_0 : Int) (H34 : ZG), (z34_0 = 0 ∨ z34_0 = 1) → J34 z34_0 H34 → ∀ (H : Heap) (locs : List Loc) (ls : Array Slot), zS P s H34 H locs → zL ls 2 [(0, .ref (zA P 0 0 0)), (1, .int (zI p0))] → W p l e rX1_example s m args below meth c H locs 0 0 (vx_MQ below (zQi P Q) (zXc P X) args s 1 6 (zAr P)) (F0 m 34 ls [.int (zI z34_0)]) := by
    intro z34_0 H34 hz34_0 hV H locs ls hG hL
    rw [eJ34] at hV
    refine z_xcall_v hG hnt hk (zrunSX hC hG (mX1_requireState l P H34 z34_0 hz34_0 hst hV) kSX1_120 rfl rfl rfl ⟨(Nat.le_of_ble_eq_true rfl), (Nat.le_of_ble_eq_true rfl)⟩ ⟨(Nat.le_of_ble_eq_true rfl), (Nat.le_of_ble_eq_true rfl)⟩ rfl ⟨zcs_0, (Nat.le_of_ble_eq_true rfl)⟩ hL.1.1 dX1_example_34) (Nat.le_of_ble_eq_true rfl) (Nat.le_of_ble_eq_true rfl) ?_
    rintro _ _ _ ⟨rfl, hV⟩ hG
    refine z_aload_n hC zvr_a rfl (hL.at 0 rfl) dX1_example_37 ?_
    refine z_getO hC hG 2 kFX1_61_1 rfl rfl dX1_example_38 ?_
    refine z_iload_n hC rfl (hL.at 1 rfl) dX1_example_41 ?_
    refine z_call_i hG (zrunV (ci := 4) hC hG (Nat.le_of_ble_eq_true rfl) (Nat.le_of_ble_eq_true rfl) (zobj hG rfl (Nat.le_of_ble_eq_true rfl) (Nat.le_of_ble_eq_true rfl)) (mX4_example l P H34 2 rfl p0 hp0 hV) kVX1_423 rfl rfl rfl ⟨(Nat.le_of_ble_eq_true rfl), (Nat.le_of_ble_eq_true rfl)⟩ ⟨(Nat.le_of_ble_eq_true rfl), (Nat.le_of_ble_eq_true rfl)⟩ rfl ⟨zcs_0, (Nat.le_of_ble_eq_true rfl)⟩ hL.1.1 dX1_example_42) ?_
    rintro x2 _ _ _ hx2 ⟨rfl, hV⟩ hG
    exact vx_ret (z_iret hC hG hr hk hx2 hV (Nat.le_of_ble_eq_true rfl) (Nat.le_of_ble_eq_true rfl) dX1_example_45)
  obtain ⟨J33, eJ33, hV⟩ := zjn_abs hV
  have hJ33 : ∀ (H33 : ZG), J33 H33 → ∀ (H : Heap) (locs : List Loc) (ls : Array Slot), zS P s H33 H locs → zL ls 2 [(0, .ref (zA P 0 0 0)), (1, .int (zI p0))] → W p l e rX1_example s m args below meth c H locs 0 0 (vx_MQ below (zQi P Q) (zXc P X) args s 1 6 (zAr P)) (F0 m 33 ls []) := by
    intro H33 hV H locs ls hG hL
    rw [eJ33] at hV
    refine z_iconst hC dX1_example_33 ?_
    exact hJ34 0 H33 (Or.inl rfl) hV _ _ _ hG hL
  refine z_if_le (tgt := 33) hC hx1 hV dX1_example_4 (by decide) ?_ ?_
  · intro hV
    exact hJ33 G hV _ _ _ hG hL
  · intro hV
    refine z_aload_n hC zvr_a rfl (hL.at 0 rfl) dX1_example_7 ?_
    refine z_iconst hC dX1_example_8 ?_
    refine z_call_r hG (zrunV (ci := 1) hC hG (Nat.le_of_ble_eq_true rfl) (Nat.le_of_ble_eq_true rfl) (zobj hG rfl (Nat.le_of_ble_eq_true rfl) (Nat.le_of_ble_eq_true rfl)) (mX1_treeAt l P G 2 (inR_lit rfl) hV) kVX1_365 rfl rfl rfl ⟨(Nat.le_of_ble_eq_true rfl), (Nat.le_of_ble_eq_true rfl)⟩ ⟨(Nat.le_of_ble_eq_true rfl), (Nat.le_of_ble_eq_true rfl)⟩ rfl ⟨zcs_0, (Nat.le_of_ble_eq_true rfl)⟩ hL.1.1 dX1_example_9) ?_
    rintro x3 G1 _ _  hV hG
    refine z_fix hV (fun o4 ho4 hV => ?_)
    refine z_getF hC hG kFX1_369_4 ho4 rfl hV dX1_example_12 ?_
    intro x5 hx5 hV
    refine z_if_ne (tgt := 33) hC hx5 hV dX1_example_15 (by decide) ?_ ?_
    · intro hV
      exact hJ33 G1 hV _ _ _ hG hL
    · intro hV
      refine z_aload_n hC zvr_a rfl (hL.at 0 rfl) dX1_example_18 ?_
      refine z_getO hC hG 2 kFX1_61_1 rfl rfl dX1_example_19 ?_
      refine z_iconst hC dX1_example_22 ?_
      refine z_call_i hG (zrunV (ci := 4) hC hG (Nat.le_of_ble_eq_true rfl) (Nat.le_of_ble_eq_true rfl) (zobj hG rfl (Nat.le_of_ble_eq_true rfl) (Nat.le_of_ble_eq_true rfl)) (mX4_manyOfKind l P G1 2 rfl 5 (inR_lit rfl) hV) kVX1_419 rfl rfl rfl ⟨(Nat.le_of_ble_eq_true rfl), (Nat.le_of_ble_eq_true rfl)⟩ ⟨(Nat.le_of_ble_eq_true rfl), (Nat.le_of_ble_eq_true rfl)⟩ rfl ⟨zcs_0, (Nat.le_of_ble_eq_true rfl)⟩ hL.1.1 dX1_example_23) ?_
      rintro x6 _ _ _ hx6 ⟨rfl, hV⟩ hG
      refine z_if_le (tgt := 33) hC hx6 hV dX1_example_26 (by decide) ?_ ?_
      · intro hV
        exact hJ33 G1 hV _ _ _ hG hL
      · intro hV
        refine z_iconst hC dX1_example_29 ?_
        refine z_goto (tgt := 34) hC dX1_example_30 (by decide) ?_
        exact hJ34 1 G1 (Or.inr rfl) hV _ _ _ hG hL
abbrev rX1_isUsed : Room := { frames := 1746, cells := 2, slots := 12, locals := 46720 }
def vX1_isUsed (p0 : Int) (G : ZG) (X : Nat → ZG → Prop) (Q : Int → ZG → Prop) : Prop := vX1_caseAt p0 G X fun (x1 : ZR) => vX1_treeAt 2 G fun (x2 : ZR) (G1 : ZG) => zcaL x2 4 fun (o3 : Nat) => zgF G1 o3 10 fun (x4 : Int) => zjn (fun (z22_0 : Int) => vX1_requireState z22_0 G1 X fun (_ : Unit) => zl2 (fun (P30 : Int → Int → Prop) (a30_3 : Int) (a30_4 : Int) => zgF G1 2 9 fun (x5 : Int) => zbr (x5 ≤ a30_4) (Q a30_3 G1) (zjn (fun (z93_0 : Int) => zlt1 (w32 (a30_4 + 1)) fun (x6 : Int) => P30 z93_0 x6) fun J93 => zjn (fun (_ : Unit) => J93 1) fun J88 => zbr (a30_3 ≠ 0) (J88 ()) (zaL G1 2 5 500 a30_4 fun (x7 : Int) => zjn (fun (_ : Unit) => J93 0) fun J92 => zbr (x7 ≠ p0) (J92 ()) (zaL G1 2 3 500 a30_4 fun (x8 : Int) => zbr (x8 = 3) (J88 ()) (zaL G1 2 3 500 a30_4 fun (x9 : Int) => zbr (x9 ≠ 4) (J92 ()) (J88 ())))))) 0 0) fun J22 => zbr (x4 ≠ 0) (J22 0) (J22 1)
set_option maxHeartbeats 4000000 in
theorem mX1_isUsed (l : Launch) (P : ZP) (G : ZG) (p0 : Int) (hp0 : inR p0) {X : Nat → ZG → Prop} {Q : Int → ZG → Prop} (hst : l.stackTraces = false) (hV : vX1_isUsed p0 G X Q) : vx_Met l yX1_isUsed (ws_ yX1_isUsed cX1_isUsed 5 (some .boolean)) rX1_isUsed (zPc P G [.ref (zA P 0 0 0), .int (zI p0)]) (zQz P Q) (zXc P X) 2 12 (zAr P) := by
  refine zMetX (own := RX1) rfl (by decide) (zcs_c rfl (zcs_c rfl zcs_0)) (Nat.le_of_ble_eq_true rfl) (fun p e s m args below meth c ls hC hr hk hn hnt hG hL => ?_)
  unfold vX1_isUsed at hV
  refine z_aload_n hC zvr_a rfl (hL.at 0 rfl) dX1_isUsed_0 ?_
  refine z_iload_n hC rfl (hL.at 1 rfl) dX1_isUsed_1 ?_
  refine z_xcall_r hG hnt hk (zrunVX (ci := 1) hC hG (Nat.le_of_ble_eq_true rfl) (Nat.le_of_ble_eq_true rfl) (zobj hG rfl (Nat.le_of_ble_eq_true rfl) (Nat.le_of_ble_eq_true rfl)) (mX1_caseAt l P G p0 hp0 hst hV) kVX1_294 rfl rfl rfl ⟨(Nat.le_of_ble_eq_true rfl), (Nat.le_of_ble_eq_true rfl)⟩ ⟨(Nat.le_of_ble_eq_true rfl), (Nat.le_of_ble_eq_true rfl)⟩ rfl ⟨zcs_0, (Nat.le_of_ble_eq_true rfl)⟩ hL.1.1 dX1_isUsed_2) (Nat.le_of_ble_eq_true rfl) (Nat.le_of_ble_eq_true rfl) ?_
  rintro x1 _ _ _  ⟨rfl, hV⟩ hG
  refine z_astore_n (lv' := [(2, zrv P x1), (0, .ref (zA P 0 0 0)), (1, .int (zI p0))]) hC zvr_r rfl hL (by decide) rfl dX1_isUsed_5 (fun ls hL => ?_)
  refine z_aload_n hC zvr_a rfl (hL.at 1 rfl) dX1_isUsed_6 ?_
  refine z_iconst hC dX1_isUsed_7 ?_
  refine z_call_r hG (zrunV (ci := 1) hC hG (Nat.le_of_ble_eq_true rfl) (Nat.le_of_ble_eq_true rfl) (zobj hG rfl (Nat.le_of_ble_eq_true rfl) (Nat.le_of_ble_eq_true rfl)) (mX1_treeAt l P G 2 (inR_lit rfl) hV) kVX1_365 rfl rfl rfl ⟨(Nat.le_of_ble_eq_true rfl), (Nat.le_of_ble_eq_true rfl)⟩ ⟨(Nat.le_of_ble_eq_true rfl), (Nat.le_of_ble_eq_true rfl)⟩ rfl ⟨zcs_0, (Nat.le_of_ble_eq_true rfl)⟩ hL.1.1 dX1_isUsed_8) ?_
  rintro x2 G1 _ _  hV hG
  refine z_fix hV (fun o3 ho3 hV => ?_)
  refine z_getF hC hG kFX1_369_4 ho3 rfl hV dX1_isUsed_11 ?_
  intro x4 hx4 hV
  obtain ⟨J22, eJ22, hV⟩ := zjn_abs hV
  have hJ22 : ∀ {H : Heap} {locs : List Loc}, zS P s G1 H locs → ∀ (z22_0 : Int), (z22_0 = 0 ∨ z22_0 = 1) → J22 z22_0 → ∀ (ls : Array Slot), zL ls 5 [(0, .ref (zA P 0 0 0)), (1, .int (zI p0))] → W p l e rX1_isUsed s m args below meth c H locs 1 6 (vx_MQ below (zQz P Q) (zXc P X) args s 2 12 (zAr P)) (F0 m 22 ls [.int (zI z22_0)]) := by
    intro H locs hG z22_0 hz22_0 hV ls hL
    rw [eJ22] at hV
    refine z_xcall_v hG hnt hk (zrunSX hC hG (mX1_requireState l P G1 z22_0 hz22_0 hst hV) kSX1_120 rfl rfl rfl ⟨(Nat.le_of_ble_eq_true rfl), (Nat.le_of_ble_eq_true rfl)⟩ ⟨(Nat.le_of_ble_eq_true rfl), (Nat.le_of_ble_eq_true rfl)⟩ rfl ⟨zcs_0, (Nat.le_of_ble_eq_true rfl)⟩ hL.1.1 dX1_isUsed_22) (Nat.le_of_ble_eq_true rfl) (Nat.le_of_ble_eq_true rfl) ?_
    rintro _ _ _ ⟨rfl, hV⟩ hG
    refine z_iconst hC dX1_isUsed_25 ?_
    refine z_istore_n (lv' := [(3, .int (zI 0)), (0, .ref (zA P 0 0 0)), (1, .int (zI p0))]) hC rfl hL (by decide) rfl dX1_isUsed_26 (fun ls hL => ?_)
    refine z_iconst hC dX1_isUsed_27 ?_
    refine z_istore (lv' := [(4, .int (zI 0)), (3, .int (zI 0)), (0, .ref (zA P 0 0 0)), (1, .int (zI p0))]) hC hL (by decide) rfl dX1_isUsed_28 (fun ls hL => ?_)
    refine zl2_use hV (fun (a30_3 : Int) (a30_4 : Int) => (a30_3 = 0 ∨ a30_3 = 1) → inR a30_4 → ∀ (H : Heap) (locs : List Loc), zS P s G1 H locs → ∀ (ls : Array Slot), zL ls 5 [(0, .ref (zA P 0 0 0)), (1, .int (zI p0)), (3, .int (zI a30_3)), (4, .int (zI a30_4))] → W p l e rX1_isUsed s m args below meth c H locs 2 12 (vx_MQ below (zQz P Q) (zXc P X) args s 2 12 (zAr P)) (F0 m 30 ls [])) ?_ (Or.inl rfl) (inR_lit rfl) _ _ hG _ (hL.sub [2, 3, 1, 0] rfl)
    intro P30 a30_3 a30_4 hP30 hV ha30_3 ha30_4 H locs hG ls hL
    refine z_iload hC (hL.at 3 rfl) dX1_isUsed_30 ?_
    refine z_aload_n hC zvr_a rfl (hL.at 0 rfl) dX1_isUsed_32 ?_
    refine z_getO hC hG 2 kFX1_61_1 rfl rfl dX1_isUsed_33 ?_
    refine z_getF hC hG kFX1_416_4 rfl rfl hV dX1_isUsed_36 ?_
    intro x5 hx5 hV
    refine z_icmp_ge (tgt := 100) hC ha30_4 hx5 hV dX1_isUsed_39 (by decide) ?_ ?_
    · intro hV
      refine z_iload_n hC rfl (hL.at 2 rfl) dX1_isUsed_100 ?_
      exact vx_ret (z_zret hC hG hr hk ha30_3 hV (Nat.le_of_ble_eq_true rfl) (Nat.le_of_ble_eq_true rfl) dX1_isUsed_101)
    · intro hV
      refine z_iload_n hC rfl (hL.at 2 rfl) dX1_isUsed_42 ?_
      obtain ⟨J93, eJ93, hV⟩ := zjn_abs hV
      have hJ93 : ∀ {H : Heap} {locs : List Loc}, zS P s G1 H locs → ∀ (z93_0 : Int), (z93_0 = 0 ∨ z93_0 = 1) → J93 z93_0 → ∀ (ls : Array Slot), zL ls 5 [(0, .ref (zA P 0 0 0)), (1, .int (zI p0)), (4, .int (zI a30_4))] → W p l e rX1_isUsed s m args below meth c H locs 2 12 (vx_MQ below (zQz P Q) (zXc P X) args s 2 12 (zAr P)) (F0 m 93 ls [.int (zI z93_0)]) := by
        intro H locs hG z93_0 hz93_0 hV ls hL
        rw [eJ93] at hV
        refine z_istore_n (lv' := [(3, .int (zI z93_0)), (0, .ref (zA P 0 0 0)), (1, .int (zI p0)), (4, .int (zI a30_4))]) hC rfl hL (by decide) rfl dX1_isUsed_93 (fun ls hL => ?_)
        refine z_iincV (fun x6 => [(4, .int (zI x6)), (3, .int (zI z93_0)), (0, .ref (zA P 0 0 0)), (1, .int (zI p0))]) hC hL (k := 3) rfl (by decide) (fun _ => rfl) hV dX1_isUsed_94 ?_
        intro x6 hx6 hV ls hL
        refine z_goto (tgt := 30) hC dX1_isUsed_97 (by decide) ?_
        exact hP30 z93_0 x6 hV hz93_0 hx6 _ _ hG _ (hL.sub [2, 3, 1, 0] rfl)
      obtain ⟨J88, eJ88, hV⟩ := zjn_abs hV
      have hJ88 : ∀ {H : Heap} {locs : List Loc}, zS P s G1 H locs → J88 () → ∀ (ls : Array Slot), zL ls 5 [(0, .ref (zA P 0 0 0)), (1, .int (zI p0)), (4, .int (zI a30_4))] → W p l e rX1_isUsed s m args below meth c H locs 2 12 (vx_MQ below (zQz P Q) (zXc P X) args s 2 12 (zAr P)) (F0 m 88 ls []) := by
        intro H locs hG hV ls hL
        rw [eJ88] at hV
        refine z_iconst hC dX1_isUsed_88 ?_
        refine z_goto (tgt := 93) hC dX1_isUsed_89 (by decide) ?_
        exact hJ93 hG 1 (Or.inr rfl) hV _ hL
      refine z_if_ne (tgt := 88) hC (inR_b ha30_3) hV dX1_isUsed_43 (by decide) ?_ ?_
      · intro hV
        exact hJ88 hG hV _ (hL.sub [0, 1, 3] rfl)
      · intro hV
        refine z_aload_n hC zvr_a rfl (hL.at 0 rfl) dX1_isUsed_46 ?_
        refine z_getO hC hG 2 kFX1_61_1 rfl rfl dX1_isUsed_47 ?_
        refine z_getA hC hG kFX1_363_4 rfl rfl dX1_isUsed_50 ?_
        refine z_iload hC (hL.at 3 rfl) dX1_isUsed_53 ?_
        refine z_iald hC hG rfl rfl rfl ha30_4 hV dX1_isUsed_55 ?_
        intro x7 hx7 hV
        refine z_iload_n hC rfl (hL.at 1 rfl) dX1_isUsed_56 ?_
        obtain ⟨J92, eJ92, hV⟩ := zjn_abs hV
        have hJ92 : ∀ {H : Heap} {locs : List Loc}, zS P s G1 H locs → J92 () → ∀ (ls : Array Slot), zL ls 5 [(0, .ref (zA P 0 0 0)), (1, .int (zI p0)), (4, .int (zI a30_4))] → W p l e rX1_isUsed s m args below meth c H locs 2 12 (vx_MQ below (zQz P Q) (zXc P X) args s 2 12 (zAr P)) (F0 m 92 ls []) := by
          intro H locs hG hV ls hL
          rw [eJ92] at hV
          refine z_iconst hC dX1_isUsed_92 ?_
          exact hJ93 hG 0 (Or.inl rfl) hV _ hL
        refine z_icmp_ne (tgt := 92) hC hx7 hp0 hV dX1_isUsed_57 (by decide) ?_ ?_
        · intro hV
          exact hJ92 hG hV _ (hL.sub [0, 1, 3] rfl)
        · intro hV
          refine z_aload_n hC zvr_a rfl (hL.at 0 rfl) dX1_isUsed_60 ?_
          refine z_getO hC hG 2 kFX1_61_1 rfl rfl dX1_isUsed_61 ?_
          refine z_getA hC hG kFX1_360_4 rfl rfl dX1_isUsed_64 ?_
          refine z_iload hC (hL.at 3 rfl) dX1_isUsed_67 ?_
          refine z_iald hC hG rfl rfl rfl ha30_4 hV dX1_isUsed_69 ?_
          intro x8 hx8 hV
          refine z_iconst hC dX1_isUsed_70 ?_
          refine z_icmp_eq (tgt := 88) hC hx8 (inR_lit rfl) hV dX1_isUsed_71 (by decide) ?_ ?_
          · intro hV
            exact hJ88 hG hV _ (hL.sub [0, 1, 3] rfl)
          · intro hV
            refine z_aload_n hC zvr_a rfl (hL.at 0 rfl) dX1_isUsed_74 ?_
            refine z_getO hC hG 2 kFX1_61_1 rfl rfl dX1_isUsed_75 ?_
            refine z_getA hC hG kFX1_360_4 rfl rfl dX1_isUsed_78 ?_
            refine z_iload hC (hL.at 3 rfl) dX1_isUsed_81 ?_
            refine z_iald hC hG rfl rfl rfl ha30_4 hV dX1_isUsed_83 ?_
            intro x9 hx9 hV
            refine z_iconst hC dX1_isUsed_84 ?_
            refine z_icmp_ne (tgt := 92) hC hx9 (inR_lit rfl) hV dX1_isUsed_85 (by decide) ?_ ?_
            · intro hV
              exact hJ92 hG hV _ (hL.sub [0, 1, 3] rfl)
            · intro hV
              exact hJ88 hG hV _ (hL.sub [0, 1, 3] rfl)
  refine z_if_ne (tgt := 21) hC hx4 hV dX1_isUsed_14 (by decide) ?_ ?_
  · intro hV
    refine z_iconst hC dX1_isUsed_21 ?_
    exact hJ22 hG 0 (Or.inl rfl) hV _ (hL.sub [1, 2] rfl)
  · intro hV
    refine z_iconst hC dX1_isUsed_17 ?_
    refine z_goto (tgt := 22) hC dX1_isUsed_18 (by decide) ?_
    exact hJ22 hG 1 (Or.inr rfl) hV _ (hL.sub [1, 2] rfl)
