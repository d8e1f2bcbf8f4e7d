set_option maxRecDepth 100000
abbrev rJ0_init_d : Room := { frames := 1, cells := 0, slots := 0, locals := 20 }
def vJ0_init_d (r0 : ZR) (Q : Unit → Prop) : Prop := znn r0 ∧ Q ()
set_option maxHeartbeats 4000000 in
theorem mJ0_init_d (l : Launch) (P : ZP) (G : ZG) (r0 : ZR) {Q : Unit → Prop} (hV : vJ0_init_d r0 Q) : Met l yJ0_init (ws_ yJ0_init cJ0_init 1 none) rJ0_init_d (zPc_d P G [zrv P r0]) (zQv_d P (fun G2 => G = G2 ∧ Q ())) 0 0 (zAr P) := by
  refine zMet_d RJ0 (by decide +kernel) rfl (zcs_c (zrv_cat _ _) zcs_0) (Nat.le_of_ble_eq_true rfl) (fun p e s m args below meth c ls hC hr hk hn hG hL => ?_)
  unfold vJ0_init_d at hV
  refine z_aload_n_d hC zvr_r rfl (hL.at 0 rfl) dJ0_init_0 ?_
  refine z_objD_d hC hV hL.1.1 kOJ0_1 ⟨zcs_0, (Nat.le_of_ble_eq_true rfl)⟩ ⟨(Nat.le_of_ble_eq_true rfl), (Nat.le_of_ble_eq_true rfl)⟩ dJ0_init_1 (fun hV => ?_)
  exact z_vret_d hC hG hr hk ⟨rfl, hV⟩ (Nat.le_of_ble_eq_true rfl) (Nat.le_of_ble_eq_true rfl) dJ0_init_4
abbrev rJ1_initD2_d : Room := { frames := 2, cells := 0, slots := 0, locals := 40 }
def vJ1_initD2_d (r0 : ZR) (G : ZG) (Q : ZG → Prop) : Prop := znn r0 ∧ vJ0_init_d r0 fun (_ : Unit) => zdP G r0 2 0 (.inl 0) fun (G1 : ZG) => Q G1
set_option maxHeartbeats 4000000 in
theorem mJ1_initD2_d (l : Launch) (P : ZP) (G : ZG) (r0 : ZR) {Q : ZG → Prop} (hV : vJ1_initD2_d r0 G Q) : Met l yJ1_init (ws_ yJ1_init cJ1_init 1 none) rJ1_initD2_d (zPc_d P G [zrv P r0]) (zQv_d P Q) 0 0 (zAr P) := by
  refine zMet_d RJ1 (by decide +kernel) rfl (zcs_c (zrv_cat _ _) zcs_0) (Nat.le_of_ble_eq_true rfl) (fun p e s m args below meth c ls hC hr hk hn hG hL => ?_)
  unfold vJ1_initD2_d at hV
  refine z_aload_n_d hC zvr_r rfl (hL.at 0 rfl) dJ1_init_0 ?_
  obtain ⟨hO1, hV⟩ := hV
  refine z_call_v_d hG (zrunI_d hC hG hO1 (mJ0_init_d l P G r0 hV) kIJ1_1 rfl rfl rfl ⟨(Nat.le_of_ble_eq_true rfl), (Nat.le_of_ble_eq_true rfl)⟩ ⟨(Nat.le_of_ble_eq_true rfl), (Nat.le_of_ble_eq_true rfl)⟩ rfl ⟨zcs_0, (Nat.le_of_ble_eq_true rfl)⟩ hL.1.1 dJ1_init_1) ?_
  rintro _ _ _ ⟨rfl, hV⟩ hG
  refine z_aload_n_d hC zvr_r rfl (hL.at 0 rfl) dJ1_init_4 ?_
  refine z_iconst_d hC dJ1_init_5 ?_
  refine z_dP_d (v := (.inl 0)) hC hG kFJ1_7_2 rfl nk_2_0 zty_i (zvR_i (inR_lit rfl)) hV dJ1_init_6 ?_
  intro G1 _ _ hG hV
  exact z_vret_d hC hG hr hk hV (Nat.le_of_ble_eq_true rfl) (Nat.le_of_ble_eq_true rfl) dJ1_init_9
abbrev rJ2_initD_d : Room := { frames := 3, cells := 0, slots := 0, locals := 60 }
def vJ2_initD_d (r0 : ZR) (G : ZG) (Q : ZG → Prop) : Prop := znn r0 ∧ vJ1_initD2_d r0 G fun (G1 : ZG) => zdP G1 r0 2 1 (.inr (some (.inr 16))) fun (G2 : ZG) => Q G2
set_option maxHeartbeats 4000000 in
theorem mJ2_initD_d (l : Launch) (P : ZP) (G : ZG) (r0 : ZR) {Q : ZG → Prop} (hV : vJ2_initD_d r0 G Q) : Met l yJ2_init (ws_ yJ2_init cJ2_init 1 none) rJ2_initD_d (zPc_d P G [zrv P r0]) (zQv_d P Q) 0 0 (zAr P) := by
  refine zMet_d RJ2 (by decide +kernel) rfl (zcs_c (zrv_cat _ _) zcs_0) (Nat.le_of_ble_eq_true rfl) (fun p e s m args below meth c ls hC hr hk hn hG hL => ?_)
  unfold vJ2_initD_d at hV
  refine z_aload_n_d hC zvr_r rfl (hL.at 0 rfl) dJ2_init_0 ?_
  obtain ⟨hO1, hV⟩ := hV
  refine z_call_v_d hG (zrunI_d hC hG hO1 (mJ1_initD2_d l P G r0 hV) kIJ2_1 rfl rfl rfl ⟨(Nat.le_of_ble_eq_true rfl), (Nat.le_of_ble_eq_true rfl)⟩ ⟨(Nat.le_of_ble_eq_true rfl), (Nat.le_of_ble_eq_true rfl)⟩ rfl ⟨zcs_0, (Nat.le_of_ble_eq_true rfl)⟩ hL.1.1 dJ2_init_1) ?_
  rintro G1 _ _ hV hG
  refine z_aload_n_d hC zvr_r rfl (hL.at 0 rfl) dJ2_init_4 ?_
  refine z_getsD_d hC hG q157 dJ2_init_5 ?_
  refine z_dP_d (v := (.inr (some (.inr 16)))) hC hG kFJ2_9_2 rfl nk_2_1 zty_a zvR_r hV dJ2_init_8 ?_
  intro G2 _ _ hG hV
  exact z_vret_d hC hG hr hk hV (Nat.le_of_ble_eq_true rfl) (Nat.le_of_ble_eq_true rfl) dJ2_init_11
abbrev rX5_initD_d : Room := { frames := 1, cells := 1, slots := 2000, locals := 20 }
def vX5_initD_d (r0 : ZR) (p0 : ZR) (G : ZG) (Q : ZG → Prop) : Prop := zdP G r0 5 3 (.inr p0) fun (G1 : ZG) => znn r0 ∧ znI0 G1 0 2000 2000 fun (x1 : ZR) (G2 : ZG) => zdP G2 r0 5 0 (.inr x1) fun (G3 : ZG) => Q G3
set_option maxHeartbeats 4000000 in
theorem mX5_initD_d (l : Launch) (P : ZP) (G : ZG) (r0 : ZR) (p0 : ZR) {Q : ZG → Prop} (hV : vX5_initD_d r0 p0 G Q) : Met l yX5_init (ws_ yX5_init cX5_init 2 none) rX5_initD_d (zPc_d P G [zrv P r0, zrv P p0]) (zQv_d P Q) 1 2000 (zAr P) := by
  refine zMet_d RX5 (plainFor_of_name (by decide)) rfl (zcs_c (zrv_cat _ _) (zcs_c (zrv_cat _ _) zcs_0)) (Nat.le_of_ble_eq_true rfl) (fun p e s m args below meth c ls hC hr hk hn hG hL => ?_)
  unfold vX5_initD_d at hV
  refine z_aload_n_d hC zvr_r rfl (hL.at 0 rfl) dX5_init_0 ?_
  refine z_aload_n_d hC zvr_r rfl (hL.at 1 rfl) dX5_init_1 ?_
  refine z_dPF_d (v := (.inr p0)) hC hG kFX5_3_5 rfl hn rfl (znl_use nlX5_3) nk_5_3 zty_o zvR_r hV dX5_init_2 ?_
  intro G1 _ _ hG hV
  refine z_aload_n_d hC zvr_r rfl (hL.at 0 rfl) dX5_init_5 ?_
  refine z_objD_d hC hV hL.1.1 kOX5_9 ⟨zcs_0, (Nat.le_of_ble_eq_true rfl)⟩ ⟨(Nat.le_of_ble_eq_true rfl), (Nat.le_of_ble_eq_true rfl)⟩ dX5_init_6 (fun hV => ?_)
  refine z_aload_n_d hC zvr_r rfl (hL.at 0 rfl) dX5_init_9 ?_
  refine z_sipush_d hC rfl dX5_init_10 ?_
  refine z_newI_d (t := 0) hC hG rfl (Nat.le_of_ble_eq_true rfl) q223 (inR_lit rfl) (Nat.le_of_ble_eq_true rfl) hV (Nat.le_of_ble_eq_true rfl) (Nat.le_of_ble_eq_true rfl) dX5_init_13 ?_
  intro x1 G2 _ hG hV
  refine z_dP_d (v := (.inr x1)) hC hG kFX5_15_5 rfl nk_5_0 zty_a zvR_r hV dX5_init_15 ?_
  intro G3 _ _ hG hV
  exact z_vret_d hC hG hr hk hV (Nat.le_of_ble_eq_true rfl) (Nat.le_of_ble_eq_true rfl) dX5_init_18
abbrev rX2_initD3_d : Room := { frames := 1, cells := 1, slots := 6, locals := 20 }
def vX2_initD3_d (r0 : ZR) (p0 : ZR) (G : ZG) (Q : ZG → Prop) : Prop := zdT G r0 3 1 9 (.inr p0) fun (G1 : ZG) => znn r0 ∧ znI0 G1 0 6 6 fun (x1 : ZR) (G2 : ZG) => zdP G2 r0 3 0 (.inr x1) fun (G3 : ZG) => Q G3
set_option maxHeartbeats 4000000 in
theorem mX2_initD3_d (l : Launch) (P : ZP) (G : ZG) (r0 : ZR) (p0 : ZR) {Q : ZG → Prop} (hV : vX2_initD3_d r0 p0 G Q) : Met l yX2_init (ws_ yX2_init cX2_init 2 none) rX2_initD3_d (zPc_d P G [zrv P r0, zrv P p0]) (zQv_d P Q) 1 6 (zAr P) := by
  refine zMet_d RX2 (plainFor_of_name (by decide)) rfl (zcs_c (zrv_cat _ _) (zcs_c (zrv_cat _ _) zcs_0)) (Nat.le_of_ble_eq_true rfl) (fun p e s m args below meth c ls hC hr hk hn hG hL => ?_)
  unfold vX2_initD3_d at hV
  refine z_aload_n_d hC zvr_r rfl (hL.at 0 rfl) dX2_init_0 ?_
  refine z_aload_n_d hC zvr_r rfl (hL.at 1 rfl) dX2_init_1 ?_
  refine z_dTF_d (v := (.inr p0)) hC hG kFX2_3_3 rfl hn rfl (znl_use nlX2_3) (Nat.le_of_ble_eq_true rfl) (by decide) nk_3_1_9 zty_o zvR_r hV dX2_init_2 ?_
  intro G1 _ _ hG hV
  refine z_aload_n_d hC zvr_r rfl (hL.at 0 rfl) dX2_init_5 ?_
  refine z_objD_d hC hV hL.1.1 kOX2_9 ⟨zcs_0, (Nat.le_of_ble_eq_true rfl)⟩ ⟨(Nat.le_of_ble_eq_true rfl), (Nat.le_of_ble_eq_true rfl)⟩ dX2_init_6 (fun hV => ?_)
  refine z_aload_n_d hC zvr_r rfl (hL.at 0 rfl) dX2_init_9 ?_
  refine z_bipush_d hC rfl dX2_init_10 ?_
  refine z_newI_d (t := 0) hC hG rfl (Nat.le_of_ble_eq_true rfl) q223 (inR_lit rfl) (Nat.le_of_ble_eq_true rfl) hV (Nat.le_of_ble_eq_true rfl) (Nat.le_of_ble_eq_true rfl) dX2_init_12 ?_
  intro x1 G2 _ hG hV
  refine z_dPF_d (v := (.inr x1)) hC hG kFX2_15_3 rfl hn rfl (znl_use nlX2_15) nk_3_0 zty_a zvR_r hV dX2_init_14 ?_
  intro G3 _ _ hG hV
  exact z_vret_d hC hG hr hk hV (Nat.le_of_ble_eq_true rfl) (Nat.le_of_ble_eq_true rfl) dX2_init_17
abbrev rX3_initD_d : Room := { frames := 2, cells := 5, slots := 1809, locals := 41 }
def vX3_initD_d (r0 : ZR) (p0 : ZR) (G : ZG) (Q : ZG → Prop) : Prop := zdT G r0 3 9 1 (.inr p0) fun (G1 : ZG) => znn r0 ∧ vX2_initD3_d r0 p0 G1 fun (G2 : ZG) => znI0 G2 0 3 3 fun (x2 : ZR) (G3 : ZG) => zdP G3 r0 3 2 (.inr x2) fun (G4 : ZG) => znI0 G4 0 600 600 fun (x3 : ZR) (G5 : ZG) => zdP G5 r0 3 3 (.inr x3) fun (G6 : ZG) => znI0 G6 0 600 600 fun (x4 : ZR) (G7 : ZG) => zdP G7 r0 3 4 (.inr x4) fun (G8 : ZG) => znI0 G8 0 600 600 fun (x5 : ZR) (G9 : ZG) => zdP G9 r0 3 5 (.inr x5) fun (G10 : ZG) => Q G10
set_option maxHeartbeats 4000000 in
theorem mX3_initD_d (l : Launch) (P : ZP) (G : ZG) (r0 : ZR) (p0 : ZR) {Q : ZG → Prop} (hV : vX3_initD_d r0 p0 G Q) : Met l yX3_init (ws_ yX3_init cX3_init 2 none) rX3_initD_d (zPc_d P G [zrv P r0, zrv P p0]) (zQv_d P Q) 5 1809 (zAr P) := by
  refine zMet_d RX3 (plainFor_of_name (by decide)) rfl (zcs_c (zrv_cat _ _) (zcs_c (zrv_cat _ _) zcs_0)) (Nat.le_of_ble_eq_true rfl) (fun p e s m args below meth c ls hC hr hk hn hG hL => ?_)
  unfold vX3_initD_d at hV
  refine z_aload_n_d hC zvr_r rfl (hL.at 0 rfl) dX3_init_0 ?_
  refine z_aload_n_d hC zvr_r rfl (hL.at 1 rfl) dX3_init_1 ?_
  refine z_dTF_d (v := (.inr p0)) hC hG kFX3_3_3 rfl hn rfl (znl_use nlX3_3) (Nat.le_of_ble_eq_true rfl) (by decide) nk_3_9_1 zty_o zvR_r hV dX3_init_2 ?_
  intro G1 _ _ hG hV
  refine z_aload_n_d hC zvr_r rfl (hL.at 0 rfl) dX3_init_5 ?_
  refine z_aload_n_d hC zvr_r rfl (hL.at 1 rfl) dX3_init_6 ?_
  obtain ⟨hO1, hV⟩ := hV
  refine z_call_v_d hG (zrunIN_d hC hG hO1 (mX2_initD3_d l P G1 r0 p0 hV) kIX3_9 rfl rfl rfl ⟨(Nat.le_of_ble_eq_true rfl), (Nat.le_of_ble_eq_true rfl)⟩ ⟨(Nat.le_of_ble_eq_true rfl), (Nat.le_of_ble_eq_true rfl)⟩ rfl ⟨zcs_0, (Nat.le_of_ble_eq_true rfl)⟩ hL.1.1 dX3_init_7) ?_
  rintro G2 _ _ hV hG
  refine z_aload_n_d hC zvr_r rfl (hL.at 0 rfl) dX3_init_10 ?_
  refine z_iconst_d hC dX3_init_11 ?_
  refine z_newI_d (t := 0) hC hG rfl (Nat.le_of_ble_eq_true rfl) q223 (inR_lit rfl) (Nat.le_of_ble_eq_true rfl) hV (Nat.le_of_ble_eq_true rfl) (Nat.le_of_ble_eq_true rfl) dX3_init_12 ?_
  intro x2 G3 _ hG hV
  refine z_dPF_d (v := (.inr x2)) hC hG kFX3_15_3 rfl hn rfl (znl_use nlX3_15) nk_3_2 zty_a zvR_r hV dX3_init_14 ?_
  intro G4 _ _ hG hV
  refine z_aload_n_d hC zvr_r rfl (hL.at 0 rfl) dX3_init_17 ?_
  refine z_sipush_d hC rfl dX3_init_18 ?_
  refine z_newI_d (t := 0) hC hG rfl (Nat.le_of_ble_eq_true rfl) q223 (inR_lit rfl) (Nat.le_of_ble_eq_true rfl) hV (Nat.le_of_ble_eq_true rfl) (Nat.le_of_ble_eq_true rfl) dX3_init_21 ?_
  intro x3 G5 _ hG hV
  refine z_dPF_d (v := (.inr x3)) hC hG kFX3_19_3 rfl hn rfl (znl_use nlX3_19) nk_3_3 zty_a zvR_r hV dX3_init_23 ?_
  intro G6 _ _ hG hV
  refine z_aload_n_d hC zvr_r rfl (hL.at 0 rfl) dX3_init_26 ?_
  refine z_sipush_d hC rfl dX3_init_27 ?_
  refine z_newI_d (t := 0) hC hG rfl (Nat.le_of_ble_eq_true rfl) q223 (inR_lit rfl) (Nat.le_of_ble_eq_true rfl) hV (Nat.le_of_ble_eq_true rfl) (Nat.le_of_ble_eq_true rfl) dX3_init_30 ?_
  intro x4 G7 _ hG hV
  refine z_dPF_d (v := (.inr x4)) hC hG kFX3_22_3 rfl hn rfl (znl_use nlX3_22) nk_3_4 zty_a zvR_r hV dX3_init_32 ?_
  intro G8 _ _ hG hV
  refine z_aload_n_d hC zvr_r rfl (hL.at 0 rfl) dX3_init_35 ?_
  refine z_sipush_d hC rfl dX3_init_36 ?_
  refine z_newI_d (t := 0) hC hG rfl (Nat.le_of_ble_eq_true rfl) q223 (inR_lit rfl) (Nat.le_of_ble_eq_true rfl) hV (Nat.le_of_ble_eq_true rfl) (Nat.le_of_ble_eq_true rfl) dX3_init_39 ?_
  intro x5 G9 _ hG hV
  refine z_dPF_d (v := (.inr x5)) hC hG kFX3_25_3 rfl hn rfl (znl_use nlX3_25) nk_3_5 zty_a zvR_r hV dX3_init_41 ?_
  intro G10 _ _ hG hV
  exact z_vret_d hC hG hr hk hV (Nat.le_of_ble_eq_true rfl) (Nat.le_of_ble_eq_true rfl) dX3_init_44
abbrev rX2_initD4_d : Room := { frames := 1, cells := 1, slots := 6, locals := 20 }
def vX2_initD4_d (r0 : ZR) (p0 : ZR) (G : ZG) (Q : ZG → Prop) : Prop := zdT G r0 4 1 24 (.inr p0) fun (G1 : ZG) => znn r0 ∧ znI0 G1 0 6 6 fun (x1 : ZR) (G2 : ZG) => zdP G2 r0 4 0 (.inr x1) fun (G3 : ZG) => Q G3
set_option maxHeartbeats 4000000 in
theorem mX2_initD4_d (l : Launch) (P : ZP) (G : ZG) (r0 : ZR) (p0 : ZR) {Q : ZG → Prop} (hV : vX2_initD4_d r0 p0 G Q) : Met l yX2_init (ws_ yX2_init cX2_init 2 none) rX2_initD4_d (zPc_d P G [zrv P r0, zrv P p0]) (zQv_d P Q) 1 6 (zAr P) := by
  refine zMet_d RX2 (plainFor_of_name (by decide)) rfl (zcs_c (zrv_cat _ _) (zcs_c (zrv_cat _ _) zcs_0)) (Nat.le_of_ble_eq_true rfl) (fun p e s m args below meth c ls hC hr hk hn hG hL => ?_)
  unfold vX2_initD4_d at hV
  refine z_aload_n_d hC zvr_r rfl (hL.at 0 rfl) dX2_init_0 ?_
  refine z_aload_n_d hC zvr_r rfl (hL.at 1 rfl) dX2_init_1 ?_
  refine z_dTF_d (v := (.inr p0)) hC hG kFX2_3_4 rfl hn rfl (znl_use nlX2_3) (Nat.le_of_ble_eq_true rfl) (by decide) nk_4_1_24 zty_o zvR_r hV dX2_init_2 ?_
  intro G1 _ _ hG hV
  refine z_aload_n_d hC zvr_r rfl (hL.at 0 rfl) dX2_init_5 ?_
  refine z_objD_d hC hV hL.1.1 kOX2_9 ⟨zcs_0, (Nat.le_of_ble_eq_true rfl)⟩ ⟨(Nat.le_of_ble_eq_true rfl), (Nat.le_of_ble_eq_true rfl)⟩ dX2_init_6 (fun hV => ?_)
  refine z_aload_n_d hC zvr_r rfl (hL.at 0 rfl) dX2_init_9 ?_
  refine z_bipush_d hC rfl dX2_init_10 ?_
  refine z_newI_d (t := 0) hC hG rfl (Nat.le_of_ble_eq_true rfl) q223 (inR_lit rfl) (Nat.le_of_ble_eq_true rfl) hV (Nat.le_of_ble_eq_true rfl) (Nat.le_of_ble_eq_true rfl) dX2_init_12 ?_
  intro x1 G2 _ hG hV
  refine z_dPF_d (v := (.inr x1)) hC hG kFX2_15_4 rfl hn rfl (znl_use nlX2_15) nk_4_0 zty_a zvR_r hV dX2_init_14 ?_
  intro G3 _ _ hG hV
  exact z_vret_d hC hG hr hk hV (Nat.le_of_ble_eq_true rfl) (Nat.le_of_ble_eq_true rfl) dX2_init_17
abbrev rX4_initD_d : Room := { frames := 2, cells := 513, slots := 11606, locals := 41 }
def vX4_initD_d (r0 : ZR) (p0 : ZR) (p1 : Int) (G : ZG) (Q : ZG → Prop) : Prop := zdT G r0 4 24 1 (.inr p0) fun (G1 : ZG) => znn r0 ∧ vX2_initD4_d r0 p0 G1 fun (G2 : ZG) => znI0 G2 0 500 500 fun (x2 : ZR) (G3 : ZG) => zdP G3 r0 4 3 (.inr x2) fun (G4 : ZG) => znI0 G4 0 500 500 fun (x3 : ZR) (G5 : ZG) => zdP G5 r0 4 4 (.inr x3) fun (G6 : ZG) => znI0 G6 0 500 500 fun (x4 : ZR) (G7 : ZG) => zdP G7 r0 4 5 (.inr x4) fun (G8 : ZG) => znG G8 500 10 fun (x5 : ZR) (G9 : ZG) => zdP G9 r0 4 6 (.inr x5) fun (G10 : ZG) => znI0 G10 0 500 500 fun (x6 : ZR) (G11 : ZG) => zdP G11 r0 4 7 (.inr x6) fun (G12 : ZG) => znI0 G12 0 500 500 fun (x7 : ZR) (G13 : ZG) => zdP G13 r0 4 8 (.inr x7) fun (G14 : ZG) => znI0 G14 0 600 600 fun (x8 : ZR) (G15 : ZG) => zdP G15 r0 4 12 (.inr x8) fun (G16 : ZG) => znI0 G16 0 600 600 fun (x9 : ZR) (G17 : ZG) => zdP G17 r0 4 13 (.inr x9) fun (G18 : ZG) => znI0 G18 0 600 600 fun (x10 : ZR) (G19 : ZG) => zdP G19 r0 4 14 (.inr x10) fun (G20 : ZG) => znI0 G20 0 600 600 fun (x11 : ZR) (G21 : ZG) => zdP G21 r0 4 20 (.inr x11) fun (G22 : ZG) => znI0 G22 0 600 600 fun (x12 : ZR) (G23 : ZG) => zdP G23 r0 4 21 (.inr x12) fun (G24 : ZG) => znI0 G24 0 600 600 fun (x13 : ZR) (G25 : ZG) => zdP G25 r0 4 22 (.inr x13) fun (G26 : ZG) => zdP G26 r0 4 2 (.inl p1) fun (G27 : ZG) => Q G27
set_option maxHeartbeats 4000000 in
theorem mX4_initD_d (l : Launch) (P : ZP) (G : ZG) (r0 : ZR) (p0 : ZR) (p1 : Int) (hp1 : p1 = 0 ∨ p1 = 1) {Q : ZG → Prop} (hV : vX4_initD_d r0 p0 p1 G Q) : Met l yX4_init (ws_ yX4_init cX4_init 3 none) rX4_initD_d (zPc_d P G [zrv P r0, zrv P p0, .int (zI p1)]) (zQv_d P Q) 513 11606 (zAr P) := by
  refine zMet_d RX4 (plainFor_of_name (by decide)) rfl (zcs_c (zrv_cat _ _) (zcs_c (zrv_cat _ _) (zcs_c rfl zcs_0))) (Nat.le_of_ble_eq_true rfl) (fun p e s m args below meth c ls hC hr hk hn hG hL => ?_)
  unfold vX4_initD_d at hV
  refine z_aload_n_d hC zvr_r rfl (hL.at 0 rfl) dX4_init_0 ?_
  refine z_aload_n_d hC zvr_r rfl (hL.at 1 rfl) dX4_init_1 ?_
  refine z_dTF_d (v := (.inr p0)) hC hG kFX4_3_4 rfl hn rfl (znl_use nlX4_3) (Nat.le_of_ble_eq_true rfl) (by decide) nk_4_24_1 zty_o zvR_r hV dX4_init_2 ?_
  intro G1 _ _ hG hV
  refine z_aload_n_d hC zvr_r rfl (hL.at 0 rfl) dX4_init_5 ?_
  refine z_aload_n_d hC zvr_r rfl (hL.at 1 rfl) dX4_init_6 ?_
  obtain ⟨hO1, hV⟩ := hV
  refine z_call_v_d hG (zrunIN_d hC hG hO1 (mX2_initD4_d l P G1 r0 p0 hV) kIX4_9 rfl rfl rfl ⟨(Nat.le_of_ble_eq_true rfl), (Nat.le_of_ble_eq_true rfl)⟩ ⟨(Nat.le_of_ble_eq_true rfl), (Nat.le_of_ble_eq_true rfl)⟩ rfl ⟨zcs_0, (Nat.le_of_ble_eq_true rfl)⟩ hL.1.1 dX4_init_7) ?_
  rintro G2 _ _ hV hG
  refine z_aload_n_d hC zvr_r rfl (hL.at 0 rfl) dX4_init_10 ?_
  refine z_sipush_d hC rfl dX4_init_11 ?_
  refine z_newI_d (t := 0) hC hG rfl (Nat.le_of_ble_eq_true rfl) q223 (inR_lit rfl) (Nat.le_of_ble_eq_true rfl) hV (Nat.le_of_ble_eq_true rfl) (Nat.le_of_ble_eq_true rfl) dX4_init_14 ?_
  intro x2 G3 _ hG hV
  refine z_dPF_d (v := (.inr x2)) hC hG kFX4_15_4 rfl hn rfl (znl_use nlX4_15) nk_4_3 zty_a zvR_r hV dX4_init_16 ?_
  intro G4 _ _ hG hV
  refine z_aload_n_d hC zvr_r rfl (hL.at 0 rfl) dX4_init_19 ?_
  refine z_sipush_d hC rfl dX4_init_20 ?_
  refine z_newI_d (t := 0) hC hG rfl (Nat.le_of_ble_eq_true rfl) q223 (inR_lit rfl) (Nat.le_of_ble_eq_true rfl) hV (Nat.le_of_ble_eq_true rfl) (Nat.le_of_ble_eq_true rfl) dX4_init_23 ?_
  intro x3 G5 _ hG hV
  refine z_dPF_d (v := (.inr x3)) hC hG kFX4_19_4 rfl hn rfl (znl_use nlX4_19) nk_4_4 zty_a zvR_r hV dX4_init_25 ?_
  intro G6 _ _ hG hV
  refine z_aload_n_d hC zvr_r rfl (hL.at 0 rfl) dX4_init_28 ?_
  refine z_sipush_d hC rfl dX4_init_29 ?_
  refine z_newI_d (t := 0) hC hG rfl (Nat.le_of_ble_eq_true rfl) q223 (inR_lit rfl) (Nat.le_of_ble_eq_true rfl) hV (Nat.le_of_ble_eq_true rfl) (Nat.le_of_ble_eq_true rfl) dX4_init_32 ?_
  intro x4 G7 _ hG hV
  refine z_dPF_d (v := (.inr x4)) hC hG kFX4_22_4 rfl hn rfl (znl_use nlX4_22) nk_4_5 zty_a zvR_r hV dX4_init_34 ?_
  intro G8 _ _ hG hV
  refine z_aload_n_d hC zvr_r rfl (hL.at 0 rfl) dX4_init_37 ?_
  refine z_sipush_d hC rfl dX4_init_38 ?_
  refine z_bipush_d hC rfl dX4_init_41 ?_
  refine z_multi_d (n := 500) (k := 10) hC hG q230 xq172 q223 (Nat.le_of_ble_eq_true rfl) (Nat.le_of_ble_eq_true rfl) hV (Nat.le_of_ble_eq_true rfl) (Nat.le_of_ble_eq_true rfl) dX4_init_43 ?_
  intro x5 G9 _ _ hG hV
  refine z_dPF_d (v := (.inr x5)) hC hG kFX4_27_4 rfl hn rfl (znl_use nlX4_27) nk_4_6 zty_a zvR_r hV dX4_init_47 ?_
  intro G10 _ _ hG hV
  refine z_aload_n_d hC zvr_r rfl (hL.at 0 rfl) dX4_init_50 ?_
  refine z_sipush_d hC rfl dX4_init_51 ?_
  refine z_newI_d (t := 0) hC hG rfl (Nat.le_of_ble_eq_true rfl) q223 (inR_lit rfl) (Nat.le_of_ble_eq_true rfl) hV (Nat.le_of_ble_eq_true rfl) (Nat.le_of_ble_eq_true rfl) dX4_init_54 ?_
  intro x6 G11 _ hG hV
  refine z_dPF_d (v := (.inr x6)) hC hG kFX4_30_4 rfl hn rfl (znl_use nlX4_30) nk_4_7 zty_a zvR_r hV dX4_init_56 ?_
  intro G12 _ _ hG hV
  refine z_aload_n_d hC zvr_r rfl (hL.at 0 rfl) dX4_init_59 ?_
  refine z_sipush_d hC rfl dX4_init_60 ?_
  refine z_newI_d (t := 0) hC hG rfl (Nat.le_of_ble_eq_true rfl) q223 (inR_lit rfl) (Nat.le_of_ble_eq_true rfl) hV (Nat.le_of_ble_eq_true rfl) (Nat.le_of_ble_eq_true rfl) dX4_init_63 ?_
  intro x7 G13 _ hG hV
  refine z_dPF_d (v := (.inr x7)) hC hG kFX4_33_4 rfl hn rfl (znl_use nlX4_33) nk_4_8 zty_a zvR_r hV dX4_init_65 ?_
  intro G14 _ _ hG hV
  refine z_aload_n_d hC zvr_r rfl (hL.at 0 rfl) dX4_init_68 ?_
  refine z_sipush_d hC rfl dX4_init_69 ?_
  refine z_newI_d (t := 0) hC hG rfl (Nat.le_of_ble_eq_true rfl) q223 (inR_lit rfl) (Nat.le_of_ble_eq_true rfl) hV (Nat.le_of_ble_eq_true rfl) (Nat.le_of_ble_eq_true rfl) dX4_init_72 ?_
  intro x8 G15 _ hG hV
  refine z_dPF_d (v := (.inr x8)) hC hG kFX4_36_4 rfl hn rfl (znl_use nlX4_36) nk_4_12 zty_a zvR_r hV dX4_init_74 ?_
  intro G16 _ _ hG hV
  refine z_aload_n_d hC zvr_r rfl (hL.at 0 rfl) dX4_init_77 ?_
  refine z_sipush_d hC rfl dX4_init_78 ?_
  refine z_newI_d (t := 0) hC hG rfl (Nat.le_of_ble_eq_true rfl) q223 (inR_lit rfl) (Nat.le_of_ble_eq_true rfl) hV (Nat.le_of_ble_eq_true rfl) (Nat.le_of_ble_eq_true rfl) dX4_init_81 ?_
  intro x9 G17 _ hG hV
  refine z_dPF_d (v := (.inr x9)) hC hG kFX4_39_4 rfl hn rfl (znl_use nlX4_39) nk_4_13 zty_a zvR_r hV dX4_init_83 ?_
  intro G18 _ _ hG hV
  refine z_aload_n_d hC zvr_r rfl (hL.at 0 rfl) dX4_init_86 ?_
  refine z_sipush_d hC rfl dX4_init_87 ?_
  refine z_newI_d (t := 0) hC hG rfl (Nat.le_of_ble_eq_true rfl) q223 (inR_lit rfl) (Nat.le_of_ble_eq_true rfl) hV (Nat.le_of_ble_eq_true rfl) (Nat.le_of_ble_eq_true rfl) dX4_init_90 ?_
  intro x10 G19 _ hG hV
  refine z_dPF_d (v := (.inr x10)) hC hG kFX4_42_4 rfl hn rfl (znl_use nlX4_42) nk_4_14 zty_a zvR_r hV dX4_init_92 ?_
  intro G20 _ _ hG hV
  refine z_aload_n_d hC zvr_r rfl (hL.at 0 rfl) dX4_init_95 ?_
  refine z_sipush_d hC rfl dX4_init_96 ?_
  refine z_newI_d (t := 0) hC hG rfl (Nat.le_of_ble_eq_true rfl) q223 (inR_lit rfl) (Nat.le_of_ble_eq_true rfl) hV (Nat.le_of_ble_eq_true rfl) (Nat.le_of_ble_eq_true rfl) dX4_init_99 ?_
  intro x11 G21 _ hG hV
  refine z_dPF_d (v := (.inr x11)) hC hG kFX4_45_4 rfl hn rfl (znl_use nlX4_45) nk_4_20 zty_a zvR_r hV dX4_init_101 ?_
  intro G22 _ _ hG hV
  refine z_aload_n_d hC zvr_r rfl (hL.at 0 rfl) dX4_init_104 ?_
  refine z_sipush_d hC rfl dX4_init_105 ?_
  refine z_newI_d (t := 0) hC hG rfl (Nat.le_of_ble_eq_true rfl) q223 (inR_lit rfl) (Nat.le_of_ble_eq_true rfl) hV (Nat.le_of_ble_eq_true rfl) (Nat.le_of_ble_eq_true rfl) dX4_init_108 ?_
  intro x12 G23 _ hG hV
  refine z_dPF_d (v := (.inr x12)) hC hG kFX4_48_4 rfl hn rfl (znl_use nlX4_48) nk_4_21 zty_a zvR_r hV dX4_init_110 ?_
  intro G24 _ _ hG hV
  refine z_aload_n_d hC zvr_r rfl (hL.at 0 rfl) dX4_init_113 ?_
  refine z_sipush_d hC rfl dX4_init_114 ?_
  refine z_newI_d (t := 0) hC hG rfl (Nat.le_of_ble_eq_true rfl) q223 (inR_lit rfl) (Nat.le_of_ble_eq_true rfl) hV (Nat.le_of_ble_eq_true rfl) (Nat.le_of_ble_eq_true rfl) dX4_init_117 ?_
  intro x13 G25 _ hG hV
  refine z_dPF_d (v := (.inr x13)) hC hG kFX4_51_4 rfl hn rfl (znl_use nlX4_51) nk_4_22 zty_a zvR_r hV dX4_init_119 ?_
  intro G26 _ _ hG hV
  refine z_aload_n_d hC zvr_r rfl (hL.at 0 rfl) dX4_init_122 ?_
  refine z_iload_n_d hC rfl (hL.at 2 rfl) dX4_init_123 ?_
  refine z_dPF_d (v := (.inl p1)) hC hG kFX4_54_4 rfl hn rfl (znl_use nlX4_54) nk_4_2 (zty_z hp1) (zvR_i (inR_b hp1)) hV dX4_init_124 ?_
  intro G27 _ _ hG hV
  exact z_vret_d hC hG hr hk hV (Nat.le_of_ble_eq_true rfl) (Nat.le_of_ble_eq_true rfl) dX4_init_127
abbrev rJ4_max_d : Room := { frames := 1, cells := 0, slots := 0, locals := 12 }
def vJ4_max_d (p0 : Int) (p1 : Int) (Q : Int → Prop) : Prop := zjn (fun (z10_0 : Int) => Q z10_0) fun J10 => zbr (p0 < p1) (J10 p1) (J10 p0)
set_option maxHeartbeats 4000000 in
theorem mJ4_max_d (l : Launch) (P : ZP) (G : ZG) (p0 : Int) (hp0 : inR p0) (p1 : Int) (hp1 : inR p1) {Q : Int → Prop} (hV : vJ4_max_d p0 p1 Q) : Met l yJ4_max (ws_ yJ4_max cJ4_max 2 (some .int)) rJ4_max_d (zPc_d P G [.int (zI p0), .int (zI p1)]) (zQi_d P (fun r G2 => G = G2 ∧ Q r)) 0 0 (zAr P) := by
  refine zMet_d RJ4 (by decide +kernel) rfl (zcs_c rfl (zcs_c rfl zcs_0)) (Nat.le_of_ble_eq_true rfl) (fun p e s m args below meth c ls hC hr hk hn hG hL => ?_)
  unfold vJ4_max_d at hV
  refine z_iload_n_d hC rfl (hL.at 0 rfl) dJ4_max_0 ?_
  refine z_iload_n_d hC rfl (hL.at 1 rfl) dJ4_max_1 ?_
  obtain ⟨J10, eJ10, hV⟩ := zjn_abs hV
  have hJ10 : ∀ {H : Heap} {locs : List Loc}, zS_d P s G H locs → ∀ (z10_0 : Int), inR z10_0 → J10 z10_0 → ∀ (ls : Array Slot), zL ls 2 [] → W p l e rJ4_max_d s m args below meth c H locs 0 0 (MQ below (zQi_d P (fun r G2 => G = G2 ∧ Q r)) args s 0 0 (zAr P)) (F0 m 10 ls [.int (zI z10_0)]) := by
    intro H locs hG z10_0 hz10_0 hV ls hL
    rw [eJ10] at hV
    exact z_iret_d hC hG hr hk hz10_0 ⟨rfl, hV⟩ (Nat.le_of_ble_eq_true rfl) (Nat.le_of_ble_eq_true rfl) dJ4_max_10
  refine z_icmp_lt_d (tgt := 9) hC hp0 hp1 hV dJ4_max_2 (by decide) ?_ ?_
  · intro hV
    refine z_iload_n_d hC rfl (hL.at 1 rfl) dJ4_max_9 ?_
    exact hJ10 hG p1 hp1 hV _ (hL.sub [] rfl)
  · intro hV
    refine z_iload_n_d hC rfl (hL.at 0 rfl) dJ4_max_5 ?_
    refine z_goto_d (tgt := 10) hC dJ4_max_6 (by decide) ?_
    exact hJ10 hG p0 hp0 hV _ (hL.sub [] rfl)
abbrev rJ3_newLength_d : Room := { frames := 2, cells := 0, slots := 0, locals := 33 }
def vJ3_newLength_d (p0 : Int) (p1 : Int) (p2 : Int) (Q : Int → Prop) : Prop := vJ4_max_d p1 p2 fun (x1 : Int) => zlt1 (w32 (p0 + x1)) fun (x2 : Int) => zjn (fun (_ : Unit) => False) fun J21 => zbr (x2 ≤ 0) (J21 ()) (zbr (2147483639 < x2) (J21 ()) (Q x2))
set_option maxHeartbeats 4000000 in
theorem mJ3_newLength_d (l : Launch) (P : ZP) (G : ZG) (p0 : Int) (hp0 : inR p0) (p1 : Int) (hp1 : inR p1) (p2 : Int) (hp2 : inR p2) {Q : Int → Prop} (hV : vJ3_newLength_d p0 p1 p2 Q) : Met l yJ3_newLength (ws_ yJ3_newLength cJ3_newLength 4 (some .int)) rJ3_newLength_d (zPc_d P G [.int (zI p0), .int (zI p1), .int (zI p2)]) (zQi_d P (fun r G2 => G = G2 ∧ Q r)) 0 0 (zAr P) := by
  refine zMet_d RJ3 (by decide +kernel) rfl (zcs_c rfl (zcs_c rfl (zcs_c rfl zcs_0))) (Nat.le_of_ble_eq_true rfl) (fun p e s m args below meth c ls hC hr hk hn hG hL => ?_)
  unfold vJ3_newLength_d at hV
  refine z_iload_n_d hC rfl (hL.at 0 rfl) dJ3_newLength_0 ?_
  refine z_iload_n_d hC rfl (hL.at 1 rfl) dJ3_newLength_1 ?_
  refine z_iload_n_d hC rfl (hL.at 2 rfl) dJ3_newLength_2 ?_
  refine z_call_i_d hG (zrunS_d hC hG (mJ4_max_d l P G p1 hp1 p2 hp2 hV) kSJ3_194 rfl rfl rfl ⟨(Nat.le_of_ble_eq_true rfl), (Nat.le_of_ble_eq_true rfl)⟩ ⟨(Nat.le_of_ble_eq_true rfl), (Nat.le_of_ble_eq_true rfl)⟩ rfl ⟨(zcs_c rfl zcs_0), (Nat.le_of_ble_eq_true rfl)⟩ hL.1.1 dJ3_newLength_3) ?_
  rintro x1 _ _ _ hx1 ⟨rfl, hV⟩ hG
  refine z_iadd_d hC dJ3_newLength_6 ?_
  refine z_top hV (inR_w _) ?_
  intro x2 hx2 hV
  refine z_istore_n_d (lv' := [(3, .int (zI x2)), (0, .int (zI p0)), (1, .int (zI p1)), (2, .int (zI p2))]) hC rfl hL (by decide) rfl dJ3_newLength_7 (fun ls hL => ?_)
  refine z_iconst_d hC dJ3_newLength_8 ?_
  refine z_iload_n_d hC rfl (hL.at 0 rfl) dJ3_newLength_9 ?_
  obtain ⟨J21, eJ21, hV⟩ := zjn_abs hV
  have hJ21 : ∀ {H : Heap} {locs : List Loc}, zS_d P s G H locs → J21 () → ∀ (ls : Array Slot), zL ls 4 [(0, .int (zI p0)), (1, .int (zI p1))] → W p l e rJ3_newLength_d s m args below meth c H locs 0 0 (MQ below (zQi_d P (fun r G2 => G = G2 ∧ Q r)) args s 0 0 (zAr P)) (F0 m 21 ls []) := by
    intro H locs hG hV ls hL
    rw [eJ21] at hV
    refine z_iload_n_d hC rfl (hL.at 0 rfl) dJ3_newLength_21 ?_
    refine z_iload_n_d hC rfl (hL.at 1 rfl) dJ3_newLength_22 ?_
    exact hV.elim
  refine z_icmp_ge_d (tgt := 21) hC (inR_lit rfl) hx2 hV dJ3_newLength_10 (by decide) ?_ ?_
  · intro hV
    exact hJ21 hG hV _ (hL.sub [1, 2] rfl)
  · intro hV
    refine z_iload_n_d hC rfl (hL.at 0 rfl) dJ3_newLength_13 ?_
    refine z_ldc_d (n := 2147483639) hC q350 rfl dJ3_newLength_14 ?_
    refine z_icmp_gt_d (tgt := 21) hC hx2 (inR_lit rfl) hV dJ3_newLength_16 (by decide) ?_ ?_
    · intro hV
      exact hJ21 hG hV _ (hL.sub [1, 2] rfl)
    · intro hV
      refine z_iload_n_d hC rfl (hL.at 0 rfl) dJ3_newLength_19 ?_
      exact z_iret_d hC hG hr hk hx2 ⟨rfl, hV⟩ (Nat.le_of_ble_eq_true rfl) (Nat.le_of_ble_eq_true rfl) dJ3_newLength_20
abbrev rJ4_min_d : Room := { frames := 1, cells := 0, slots := 0, locals := 12 }
def vJ4_min_d (p0 : Int) (p1 : Int) (Q : Int → Prop) : Prop := zjn (fun (z10_0 : Int) => Q z10_0) fun J10 => zbr (p1 < p0) (J10 p1) (J10 p0)
set_option maxHeartbeats 4000000 in
theorem mJ4_min_d (l : Launch) (P : ZP) (G : ZG) (p0 : Int) (hp0 : inR p0) (p1 : Int) (hp1 : inR p1) {Q : Int → Prop} (hV : vJ4_min_d p0 p1 Q) : Met l yJ4_min (ws_ yJ4_min cJ4_min 2 (some .int)) rJ4_min_d (zPc_d P G [.int (zI p0), .int (zI p1)]) (zQi_d P (fun r G2 => G = G2 ∧ Q r)) 0 0 (zAr P) := by
  refine zMet_d RJ4 (by decide +kernel) rfl (zcs_c rfl (zcs_c rfl zcs_0)) (Nat.le_of_ble_eq_true rfl) (fun p e s m args below meth c ls hC hr hk hn hG hL => ?_)
  unfold vJ4_min_d at hV
  refine z_iload_n_d hC rfl (hL.at 0 rfl) dJ4_min_0 ?_
  refine z_iload_n_d hC rfl (hL.at 1 rfl) dJ4_min_1 ?_
  obtain ⟨J10, eJ10, hV⟩ := zjn_abs hV
  have hJ10 : ∀ {H : Heap} {locs : List Loc}, zS_d P s G H locs → ∀ (z10_0 : Int), inR z10_0 → J10 z10_0 → ∀ (ls : Array Slot), zL ls 2 [] → W p l e rJ4_min_d s m args below meth c H locs 0 0 (MQ below (zQi_d P (fun r G2 => G = G2 ∧ Q r)) args s 0 0 (zAr P)) (F0 m 10 ls [.int (zI z10_0)]) := by
    intro H locs hG z10_0 hz10_0 hV ls hL
    rw [eJ10] at hV
    exact z_iret_d hC hG hr hk hz10_0 ⟨rfl, hV⟩ (Nat.le_of_ble_eq_true rfl) (Nat.le_of_ble_eq_true rfl) dJ4_min_10
  refine z_icmp_gt_d (tgt := 9) hC hp0 hp1 hV dJ4_min_2 (by decide) ?_ ?_
  · intro hV
    refine z_iload_n_d hC rfl (hL.at 1 rfl) dJ4_min_9 ?_
    exact hJ10 hG p1 hp1 hV _ (hL.sub [] rfl)
  · intro hV
    refine z_iload_n_d hC rfl (hL.at 0 rfl) dJ4_min_5 ?_
    refine z_goto_d (tgt := 10) hC dJ4_min_6 (by decide) ?_
    exact hJ10 hG p0 hp0 hV _ (hL.sub [] rfl)
abbrev rJ5_copyOf_2_d : Room := { frames := 2, cells := 1, slots := 100, locals := 68 }
def vJ5_copyOf_2_d (p0 : ZR) (p1 : Int) (p2 : ZR) (G : ZG) (Q : ZR → ZG → Prop) : Prop := zjn (fun (z24_0 : ZR) (H24 : ZG) => zeN H24 p0 fun (x1 : Int) => vJ4_min_d x1 p1 fun (x2 : Int) => zcpR H24 p0 0 z24_0 0 x2 fun (G1 : ZG) => Q z24_0 G1) fun J24 => zok G p2 ∧ zok G (some (.inr 18)) ∧ zfam p2 (some (.inr 18)) ∧ zbr (p2 ≠ (some (.inr 18))) (False) (znR0 G 3 p1 100 fun (x3 : ZR) (G2 : ZG) => J24 x3 G2)
set_option maxHeartbeats 4000000 in
theorem mJ5_copyOf_2_d (l : Launch) (P : ZP) (G : ZG) (p0 : ZR) (p1 : Int) (hp1 : inR p1) (p2 : ZR) {Q : ZR → ZG → Prop} (hV : vJ5_copyOf_2_d p0 p1 p2 G Q) : Met l yJ5_copyOf_2 (ws_ yJ5_copyOf_2 cJ5_copyOf_2 4 (some (.array (.object "java/lang/Object")))) rJ5_copyOf_2_d (zPc_d P G [zrv P p0, .int (zI p1), zrv P p2]) (zQr_d P Q) 1 100 (zAr P) := by
  refine zMet_d RJ5 (by decide +kernel) rfl (zcs_c (zrv_cat _ _) (zcs_c rfl (zcs_c (zrv_cat _ _) zcs_0))) (Nat.le_of_ble_eq_true rfl) (fun p e s m args below meth c ls hC hr hk hn hG hL => ?_)
  unfold vJ5_copyOf_2_d at hV
  refine z_aload_n_d hC zvr_r rfl (hL.at 2 rfl) dJ5_copyOf_2_0 ?_
  refine z_ldcM_d hC q390 dJ5_copyOf_2_1 ?_
  obtain ⟨J24, eJ24, hV⟩ := zjn_abs hV
  have hJ24 : ∀ (z24_0 : ZR) (H24 : ZG), J24 z24_0 H24 → ∀ (H : Heap) (locs : List Loc) (ls : Array Slot), zS_d P s H24 H locs → zL ls 4 [(0, zrv P p0), (1, .int (zI p1))] → W p l e rJ5_copyOf_2_d s m args below meth c H locs 1 100 (MQ below (zQr_d P Q) args s 1 100 (zAr P)) (F0 m 24 ls [zrv P z24_0]) := by
    intro z24_0 H24 hV H locs ls hG hL
    rw [eJ24] at hV
    refine z_astore_n_d (lv' := [(3, zrv P z24_0), (0, zrv P p0), (1, .int (zI p1))]) hC zvr_r rfl hL (by decide) rfl dJ5_copyOf_2_24 (fun ls hL => ?_)
    refine z_aload_n_d hC zvr_r rfl (hL.at 1 rfl) dJ5_copyOf_2_25 ?_
    refine z_iconst_d hC dJ5_copyOf_2_26 ?_
    refine z_aload_n_d hC zvr_r rfl (hL.at 0 rfl) dJ5_copyOf_2_27 ?_
    refine z_iconst_d hC dJ5_copyOf_2_28 ?_
    refine z_aload_n_d hC zvr_r rfl (hL.at 1 rfl) dJ5_copyOf_2_29 ?_
    refine z_alenD_d hC hG hV dJ5_copyOf_2_30 ?_
    intro x1 hx1 hV
    refine z_iload_n_d hC rfl (hL.at 2 rfl) dJ5_copyOf_2_31 ?_
    refine z_call_i_d hG (zrunS_d hC hG (mJ4_min_d l P H24 x1 hx1 p1 hp1 hV) kSJ5_304 rfl rfl rfl ⟨(Nat.le_of_ble_eq_true rfl), (Nat.le_of_ble_eq_true rfl)⟩ ⟨(Nat.le_of_ble_eq_true rfl), (Nat.le_of_ble_eq_true rfl)⟩ rfl ⟨(zcs_c rfl (zcs_c (zrv_cat _ _) (zcs_c rfl (zcs_c (zrv_cat _ _) zcs_0)))), (Nat.le_of_ble_eq_true rfl)⟩ hL.1.1 dJ5_copyOf_2_32) ?_
    rintro x2 _ _ _ hx2 ⟨rfl, hV⟩ hG
    refine z_acpR_d hC hG hL.1.1 kAJ5_150 (inR_lit rfl) (inR_lit rfl) hx2 hV ⟨zcs_0, (Nat.le_of_ble_eq_true rfl)⟩ ⟨(Nat.le_of_ble_eq_true rfl), (Nat.le_of_ble_eq_true rfl)⟩ dJ5_copyOf_2_35 ?_
    intro G1 _ _ hG hV
    refine z_aload_n_d hC zvr_r rfl (hL.at 0 rfl) dJ5_copyOf_2_38 ?_
    exact z_aret_d (r := z24_0) hC hG hr hk (Or.inr ⟨_, rfl⟩) hV (Nat.le_of_ble_eq_true rfl) (Nat.le_of_ble_eq_true rfl) dJ5_copyOf_2_39
  refine z_acmp_ne_d (x := p2) (y := (some (.inr 18))) (tgt := 13) hC hG hV dJ5_copyOf_2_3 (by decide) ?_ ?_
  · intro hV
    refine z_aload_n_d hC zvr_r rfl (hL.at 2 rfl) dJ5_copyOf_2_13 ?_
    exact hV.elim
  · intro hV
    refine z_iload_n_d hC rfl (hL.at 1 rfl) dJ5_copyOf_2_6 ?_
    refine z_anew_d hC hG (k := 3) (Or.inl rfl) q392 xq391 hp1 (Nat.le_of_ble_eq_true rfl) hV (Nat.le_of_ble_eq_true rfl) (Nat.le_of_ble_eq_true rfl) dJ5_copyOf_2_7 ?_
    intro x3 G2 _ hG hV
    refine z_goto_d (tgt := 24) hC dJ5_copyOf_2_10 (by decide) ?_
    exact hJ24 x3 G2 hV _ _ _ hG (hL.sub [0, 1] rfl)
abbrev rJ5_copyOf_d : Room := { frames := 3, cells := 1, slots := 100, locals := 91 }
def vJ5_copyOf_d (p0 : ZR) (p1 : Int) (G : ZG) (Q : ZR → ZG → Prop) : Prop := zcaO G p0 ∧ vJ5_copyOf_2_d p0 p1 (some (.inr 18)) G fun (x1 : ZR) (G1 : ZG) => Q x1 G1
set_option maxHeartbeats 4000000 in
theorem mJ5_copyOf_d (l : Launch) (P : ZP) (G : ZG) (p0 : ZR) (p1 : Int) (hp1 : inR p1) {Q : ZR → ZG → Prop} (hV : vJ5_copyOf_d p0 p1 G Q) : Met l yJ5_copyOf (ws_ yJ5_copyOf cJ5_copyOf 2 (some (.array (.object "java/lang/Object")))) rJ5_copyOf_d (zPc_d P G [zrv P p0, .int (zI p1)]) (zQr_d P Q) 1 100 (zAr P) := by
  refine zMet_d RJ5 (by decide +kernel) rfl (zcs_c (zrv_cat _ _) (zcs_c rfl zcs_0)) (Nat.le_of_ble_eq_true rfl) (fun p e s m args below meth c ls hC hr hk hn hG hL => ?_)
  unfold vJ5_copyOf_d at hV
  refine z_aload_n_d hC zvr_r rfl (hL.at 0 rfl) dJ5_copyOf_0 ?_
  refine z_iload_n_d hC rfl (hL.at 1 rfl) dJ5_copyOf_1 ?_
  refine z_aload_n_d hC zvr_r rfl (hL.at 0 rfl) dJ5_copyOf_2 ?_
  refine z_getC_d hC hG hL.1.1 kGJ5_86 hV ⟨(zcs_c rfl (zcs_c (zrv_cat _ _) zcs_0)), (Nat.le_of_ble_eq_true rfl)⟩ ⟨(Nat.le_of_ble_eq_true rfl), (Nat.le_of_ble_eq_true rfl)⟩ dJ5_copyOf_3 (fun hV => ?_)
  refine z_call_r_d hG (zrunS_d hC hG (mJ5_copyOf_2_d l P G p0 p1 hp1 (some (.inr 18)) hV) kSJ5_300 rfl rfl rfl ⟨(Nat.le_of_ble_eq_true rfl), (Nat.le_of_ble_eq_true rfl)⟩ ⟨(Nat.le_of_ble_eq_true rfl), (Nat.le_of_ble_eq_true rfl)⟩ rfl ⟨zcs_0, (Nat.le_of_ble_eq_true rfl)⟩ hL.1.1 dJ5_copyOf_6) ?_
  rintro x1 G1 _ _  hV hG
  exact z_aret_d (r := x1) hC hG hr hk (Or.inr ⟨_, rfl⟩) hV (Nat.le_of_ble_eq_true rfl) (Nat.le_of_ble_eq_true rfl) dJ5_copyOf_9
abbrev rJ2_grow_2D_d : Room := { frames := 4, cells := 1, slots := 100, locals := 112 }
def vJ2_grow_2D_d (r0 : ZR) (p0 : Int) (G : ZG) (Q : ZR → ZG → Prop) : Prop := zdR G r0 2 1 fun (x1 : ZR) => zeN G x1 fun (x2 : Int) => zjn (fun (_ : Unit) => vJ3_newLength_d x2 (w32 (p0 - x2)) (bShr x2 1) fun (x3 : Int) => zdR G r0 2 1 fun (x4 : ZR) => vJ5_copyOf_d x4 x3 G fun (x5 : ZR) (G1 : ZG) => zdP G1 r0 2 1 (.inr x5) fun (G2 : ZG) => Q x5 G2) fun J20 => zbr (0 < x2) (J20 ()) (zdR G r0 2 1 fun (x6 : ZR) => zok G x6 ∧ zok G (some (.inr 16)) ∧ zfam x6 (some (.inr 16)) ∧ zbr (x6 = (some (.inr 16))) (vJ4_max_d 10 p0 fun (x7 : Int) => znR0 G 3 x7 100 fun (x8 : ZR) (G3 : ZG) => zdP G3 r0 2 1 (.inr x8) fun (G4 : ZG) => Q x8 G4) (J20 ()))
set_option maxHeartbeats 4000000 in
theorem mJ2_grow_2D_d (l : Launch) (P : ZP) (G : ZG) (r0 : ZR) (p0 : Int) (hp0 : inR p0) {Q : ZR → ZG → Prop} (hV : vJ2_grow_2D_d r0 p0 G Q) : Met l yJ2_grow_2 (ws_ yJ2_grow_2 cJ2_grow_2 4 (some (.array (.object "java/lang/Object")))) rJ2_grow_2D_d (zPc_d P G [zrv P r0, .int (zI p0)]) (zQr_d P Q) 1 100 (zAr P) := by
  refine zMet_d RJ2 (by decide +kernel) rfl (zcs_c (zrv_cat _ _) (zcs_c rfl zcs_0)) (Nat.le_of_ble_eq_true rfl) (fun p e s m args below meth c ls hC hr hk hn hG hL => ?_)
  unfold vJ2_grow_2D_d at hV
  refine z_aload_n_d hC zvr_r rfl (hL.at 0 rfl) dJ2_grow_2_0 ?_
  refine z_dR_d hC hG kFJ2_9_2 hV dJ2_grow_2_1 ?_
  intro x1 hV
  refine z_alenD_d hC hG hV dJ2_grow_2_4 ?_
  intro x2 hx2 hV
  refine z_istore_n_d (lv' := [(2, .int (zI x2)), (0, zrv P r0), (1, .int (zI p0))]) hC rfl hL (by decide) rfl dJ2_grow_2_5 (fun ls hL => ?_)
  refine z_iload_n_d hC rfl (hL.at 0 rfl) dJ2_grow_2_6 ?_
  obtain ⟨J20, eJ20, hV⟩ := zjn_abs hV
  have hJ20 : ∀ {H : Heap} {locs : List Loc}, zS_d P s G H locs → J20 () → ∀ (ls : Array Slot), zL ls 4 [(0, zrv P r0), (1, .int (zI p0)), (2, .int (zI x2))] → W p l e rJ2_grow_2D_d s m args below meth c H locs 0 0 (MQ below (zQr_d P Q) args s 1 100 (zAr P)) (F0 m 20 ls []) := by
    intro H locs hG hV ls hL
    rw [eJ20] at hV
    refine z_iload_n_d hC rfl (hL.at 2 rfl) dJ2_grow_2_20 ?_
    refine z_iload_n_d hC rfl (hL.at 1 rfl) dJ2_grow_2_21 ?_
    refine z_iload_n_d hC rfl (hL.at 2 rfl) dJ2_grow_2_22 ?_
    refine z_isub_d hC dJ2_grow_2_23 ?_
    refine z_iload_n_d hC rfl (hL.at 2 rfl) dJ2_grow_2_24 ?_
    refine z_iconst_d hC dJ2_grow_2_25 ?_
    refine z_ishr_d hC dJ2_grow_2_26 ?_
    refine z_call_i_d hG (zrunS_d hC hG (mJ3_newLength_d l P G x2 hx2 (w32 (p0 - x2)) (inR_w _) (bShr x2 1) (inR_toInt _) hV) kSJ2_73 rfl rfl rfl ⟨(Nat.le_of_ble_eq_true rfl), (Nat.le_of_ble_eq_true rfl)⟩ ⟨(Nat.le_of_ble_eq_true rfl), (Nat.le_of_ble_eq_true rfl)⟩ rfl ⟨zcs_0, (Nat.le_of_ble_eq_true rfl)⟩ hL.1.1 dJ2_grow_2_27) ?_
    rintro x3 _ _ _ hx3 ⟨rfl, hV⟩ hG
    refine z_istore_n_d (lv' := [(3, .int (zI x3)), (0, zrv P r0), (1, .int (zI p0)), (2, .int (zI x2))]) hC rfl hL (by decide) rfl dJ2_grow_2_30 (fun ls hL => ?_)
    refine z_aload_n_d hC zvr_r rfl (hL.at 1 rfl) dJ2_grow_2_31 ?_
    refine z_aload_n_d hC zvr_r rfl (hL.at 1 rfl) dJ2_grow_2_32 ?_
    refine z_dR_d hC hG kFJ2_9_2 hV dJ2_grow_2_33 ?_
    intro x4 hV
    refine z_iload_n_d hC rfl (hL.at 0 rfl) dJ2_grow_2_36 ?_
    refine z_call_r_d hG (zrunS_d hC hG (mJ5_copyOf_d l P G x4 x3 hx3 hV) kSJ2_66 rfl rfl rfl ⟨(Nat.le_of_ble_eq_true rfl), (Nat.le_of_ble_eq_true rfl)⟩ ⟨(Nat.le_of_ble_eq_true rfl), (Nat.le_of_ble_eq_true rfl)⟩ rfl ⟨(zcs_c (zrv_cat _ _) zcs_0), (Nat.le_of_ble_eq_true rfl)⟩ hL.1.1 dJ2_grow_2_37) ?_
    rintro x5 G1 _ _  hV hG
    refine z_dup_x1_d hC (zrv_cat _ _) (zrv_cat _ _) dJ2_grow_2_40 ?_
    refine z_dP_d (v := (.inr x5)) hC hG kFJ2_9_2 rfl nk_2_1 zty_a zvR_r hV dJ2_grow_2_41 ?_
    intro G2 _ _ hG hV
    exact z_aret_d (r := x5) hC hG hr hk (Or.inr ⟨_, rfl⟩) hV (Nat.le_of_ble_eq_true rfl) (Nat.le_of_ble_eq_true rfl) dJ2_grow_2_44
  refine z_if_gt_d (tgt := 20) hC hx2 hV dJ2_grow_2_7 (by decide) ?_ ?_
  · intro hV
    exact hJ20 hG hV _ (hL.sub [1, 2, 0] rfl)
  · intro hV
    refine z_aload_n_d hC zvr_r rfl (hL.at 1 rfl) dJ2_grow_2_10 ?_
    refine z_dR_d hC hG kFJ2_9_2 hV dJ2_grow_2_11 ?_
    intro x6 hV
    refine z_getsD_d hC hG q157 dJ2_grow_2_14 ?_
    refine z_acmp_eq_d (x := x6) (y := (some (.inr 16))) (tgt := 45) hC hG hV dJ2_grow_2_17 (by decide) ?_ ?_
    · intro hV
      refine z_aload_n_d hC zvr_r rfl (hL.at 1 rfl) dJ2_grow_2_45 ?_
      refine z_bipush_d hC rfl dJ2_grow_2_46 ?_
      refine z_iload_n_d hC rfl (hL.at 2 rfl) dJ2_grow_2_48 ?_
      refine z_call_i_d hG (zrunS_d hC hG (mJ4_max_d l P G 10 (inR_lit rfl) p0 hp0 hV) kSJ2_79 rfl rfl rfl ⟨(Nat.le_of_ble_eq_true rfl), (Nat.le_of_ble_eq_true rfl)⟩ ⟨(Nat.le_of_ble_eq_true rfl), (Nat.le_of_ble_eq_true rfl)⟩ rfl ⟨(zcs_c (zrv_cat _ _) zcs_0), (Nat.le_of_ble_eq_true rfl)⟩ hL.1.1 dJ2_grow_2_49) ?_
      rintro x7 _ _ _ hx7 ⟨rfl, hV⟩ hG
      refine z_anew_d hC hG (k := 3) (Or.inl rfl) q400 xq391 hx7 (Nat.le_of_ble_eq_true rfl) hV (Nat.le_of_ble_eq_true rfl) (Nat.le_of_ble_eq_true rfl) dJ2_grow_2_52 ?_
      intro x8 G3 _ hG hV
      refine z_dup_x1_d hC (zrv_cat _ _) (zrv_cat _ _) dJ2_grow_2_55 ?_
      refine z_dP_d (v := (.inr x8)) hC hG kFJ2_9_2 rfl nk_2_1 zty_a zvR_r hV dJ2_grow_2_56 ?_
      intro G4 _ _ hG hV
      exact z_aret_d (r := x8) hC hG hr hk (Or.inr ⟨_, rfl⟩) hV (Nat.le_of_ble_eq_true rfl) (Nat.le_of_ble_eq_true rfl) dJ2_grow_2_59
    · intro hV
      exact hJ20 hG hV _ (hL.sub [1, 2, 0] rfl)
abbrev rJ2_growD_d : Room := { frames := 5, cells := 1, slots := 100, locals := 135 }
def vJ2_growD_d (r0 : ZR) (G : ZG) (Q : ZR → ZG → Prop) : Prop := zdI G r0 2 2 fun (x1 : Int) => zisO G r0 2 ∧ vJ2_grow_2D_d r0 (w32 (x1 + 1)) G fun (x3 : ZR) (G1 : ZG) => Q x3 G1
set_option maxHeartbeats 4000000 in
theorem mJ2_growD_d (l : Launch) (P : ZP) (G : ZG) (r0 : ZR) {Q : ZR → ZG → Prop} (hV : vJ2_growD_d r0 G Q) : Met l yJ2_grow (ws_ yJ2_grow cJ2_grow 1 (some (.array (.object "java/lang/Object")))) rJ2_growD_d (zPc_d P G [zrv P r0]) (zQr_d P Q) 1 100 (zAr P) := by
  refine zMet_d RJ2 (by decide +kernel) rfl (zcs_c (zrv_cat _ _) zcs_0) (Nat.le_of_ble_eq_true rfl) (fun p e s m args below meth c ls hC hr hk hn hG hL => ?_)
  unfold vJ2_growD_d at hV
  refine z_aload_n_d hC zvr_r rfl (hL.at 0 rfl) dJ2_grow_0 ?_
  refine z_aload_n_d hC zvr_r rfl (hL.at 0 rfl) dJ2_grow_1 ?_
  refine z_dI_d hC hG kFJ2_48_2 hV dJ2_grow_2 ?_
  intro x1 hx1 hV
  refine z_iconst_d hC dJ2_grow_5 ?_
  refine z_iadd_d hC dJ2_grow_6 ?_
  obtain ⟨hO2, hV⟩ := hV
  refine z_call_r_d hG (zrunVD_d hC hG hO2 (mJ2_grow_2D_d l P G r0 (w32 (x1 + 1)) (inR_w _) hV) kVJ2_69 rfl rfl rfl ⟨(Nat.le_of_ble_eq_true rfl), (Nat.le_of_ble_eq_true rfl)⟩ ⟨(Nat.le_of_ble_eq_true rfl), (Nat.le_of_ble_eq_true rfl)⟩ rfl ⟨zcs_0, (Nat.le_of_ble_eq_true rfl)⟩ hL.1.1 dJ2_grow_7) ?_
  rintro x3 G1 _ _  hV hG
  exact z_aret_d (r := x3) hC hG hr hk (Or.inr ⟨_, rfl⟩) hV (Nat.le_of_ble_eq_true rfl) (Nat.le_of_ble_eq_true rfl) dJ2_grow_10
abbrev rJ2_add_2D_d : Room := { frames := 6, cells := 1, slots := 100, locals := 155 }
def vJ2_add_2D_d (r0 : ZR) (p0 : ZR) (p1 : ZR) (p2 : Int) (G : ZG) (Q : ZG → Prop) : Prop := zeN G p1 fun (x1 : Int) => zjn (fun (y11_2 : ZR) (H11 : ZG) => zeU H11 y11_2 p2 p0 fun (G1 : ZG) => zdP G1 r0 2 2 (.inl (w32 (p2 + 1))) fun (G2 : ZG) => Q G2) fun J11 => zbr (p2 ≠ x1) (J11 p1 G) (zisO G r0 2 ∧ vJ2_growD_d r0 G fun (x3 : ZR) (G3 : ZG) => J11 x3 G3)
set_option maxHeartbeats 4000000 in
theorem mJ2_add_2D_d (l : Launch) (P : ZP) (G : ZG) (r0 : ZR) (p0 : ZR) (p1 : ZR) (p2 : Int) (hp2 : inR p2) {Q : ZG → Prop} (hV : vJ2_add_2D_d r0 p0 p1 p2 G Q) : Met l yJ2_add_2 (ws_ yJ2_add_2 cJ2_add_2 4 none) rJ2_add_2D_d (zPc_d P G [zrv P r0, zrv P p0, zrv P p1, .int (zI p2)]) (zQv_d P Q) 1 100 (zAr P) := by
  refine zMet_d RJ2 (by decide +kernel) rfl (zcs_c (zrv_cat _ _) (zcs_c (zrv_cat _ _) (zcs_c (zrv_cat _ _) (zcs_c rfl zcs_0)))) (Nat.le_of_ble_eq_true rfl) (fun p e s m args below meth c ls hC hr hk hn hG hL => ?_)
  unfold vJ2_add_2D_d at hV
  refine z_iload_n_d hC rfl (hL.at 3 rfl) dJ2_add_2_0 ?_
  refine z_aload_n_d hC zvr_r rfl (hL.at 2 rfl) dJ2_add_2_1 ?_
  refine z_alenD_d hC hG hV dJ2_add_2_2 ?_
  intro x1 hx1 hV
  obtain ⟨J11, eJ11, hV⟩ := zjn_abs hV
  have hJ11 : ∀ (y11_2 : ZR) (H11 : ZG), J11 y11_2 H11 → ∀ (H : Heap) (locs : List Loc) (ls : Array Slot), zS_d P s H11 H locs → zL ls 4 [(0, zrv P r0), (1, zrv P p0), (2, zrv P y11_2), (3, .int (zI p2))] → W p l e rJ2_add_2D_d s m args below meth c H locs 1 100 (MQ below (zQv_d P Q) args s 1 100 (zAr P)) (F0 m 11 ls []) := by
    intro y11_2 H11 hV H locs ls hG hL
    rw [eJ11] at hV
    refine z_aload_n_d hC zvr_r rfl (hL.at 2 rfl) dJ2_add_2_11 ?_
    refine z_iload_n_d hC rfl (hL.at 3 rfl) dJ2_add_2_12 ?_
    refine z_aload_n_d hC zvr_r rfl (hL.at 1 rfl) dJ2_add_2_13 ?_
    refine z_eust_d (x := p0) hC hG hp2 hV dJ2_add_2_14 ?_
    intro G1 _ _ hG hV
    refine z_aload_n_d hC zvr_r rfl (hL.at 0 rfl) dJ2_add_2_15 ?_
    refine z_iload_n_d hC rfl (hL.at 3 rfl) dJ2_add_2_16 ?_
    refine z_iconst_d hC dJ2_add_2_17 ?_
    refine z_iadd_d hC dJ2_add_2_18 ?_
    refine z_dP_d (v := (.inl (w32 (p2 + 1)))) hC hG kFJ2_48_2 rfl nk_2_2 zty_i (zvR_i (inR_w _)) hV dJ2_add_2_19 ?_
    intro G2 _ _ hG hV
    exact z_vret_d hC hG hr hk hV (Nat.le_of_ble_eq_true rfl) (Nat.le_of_ble_eq_true rfl) dJ2_add_2_22
  refine z_icmp_ne_d (tgt := 11) hC hp2 hx1 hV dJ2_add_2_3 (by decide) ?_ ?_
  · intro hV
    refine W.widen (k := 1) (n := 100) (Nat.le_of_ble_eq_true rfl) (Nat.le_of_ble_eq_true rfl) ?_
    exact hJ11 p1 G hV _ _ _ hG hL
  · intro hV
    refine z_aload_n_d hC zvr_r rfl (hL.at 0 rfl) dJ2_add_2_6 ?_
    obtain ⟨hO2, hV⟩ := hV
    refine z_call_r_d hG (zrunVD_d hC hG hO2 (mJ2_growD_d l P G r0 hV) kVJ2_129 rfl rfl rfl ⟨(Nat.le_of_ble_eq_true rfl), (Nat.le_of_ble_eq_true rfl)⟩ ⟨(Nat.le_of_ble_eq_true rfl), (Nat.le_of_ble_eq_true rfl)⟩ rfl ⟨zcs_0, (Nat.le_of_ble_eq_true rfl)⟩ hL.1.1 dJ2_add_2_7) ?_
    rintro x3 G3 _ _  hV hG
    refine z_astore_n_d (lv' := [(2, zrv P x3), (0, zrv P r0), (1, zrv P p0), (3, .int (zI p2))]) hC zvr_r rfl hL (by decide) rfl dJ2_add_2_10 (fun ls hL => ?_)
    exact hJ11 x3 G3 hV _ _ _ hG (hL.sub [1, 2, 0, 3] rfl)
abbrev rJ2_addD_d : Room := { frames := 7, cells := 1, slots := 100, locals := 178 }
def vJ2_addD_d (r0 : ZR) (p0 : ZR) (G : ZG) (Q : Int → ZG → Prop) : Prop := zdI G r0 2 0 fun (x1 : Int) => zdP G r0 2 0 (.inl (w32 (x1 + 1))) fun (G1 : ZG) => zdR G1 r0 2 1 fun (x2 : ZR) => zdI G1 r0 2 2 fun (x3 : Int) => zisO G1 r0 2 ∧ vJ2_add_2D_d r0 p0 x2 x3 G1 fun (G2 : ZG) => Q 1 G2
set_option maxHeartbeats 4000000 in
theorem mJ2_addD_d (l : Launch) (P : ZP) (G : ZG) (r0 : ZR) (p0 : ZR) {Q : Int → ZG → Prop} (hV : vJ2_addD_d r0 p0 G Q) : Met l yJ2_add (ws_ yJ2_add cJ2_add 2 (some .boolean)) rJ2_addD_d (zPc_d P G [zrv P r0, zrv P p0]) (zQz_d P Q) 1 100 (zAr P) := by
  refine zMet_d RJ2 (by decide +kernel) rfl (zcs_c (zrv_cat _ _) (zcs_c (zrv_cat _ _) zcs_0)) (Nat.le_of_ble_eq_true rfl) (fun p e s m args below meth c ls hC hr hk hn hG hL => ?_)
  unfold vJ2_addD_d at hV
  refine z_aload_n_d hC zvr_r rfl (hL.at 0 rfl) dJ2_add_0 ?_
  refine z_dup_d hC (zrv_cat _ _) dJ2_add_1 ?_
  refine z_dI_d hC hG kFJ2_63_2 hV dJ2_add_2 ?_
  intro x1 hx1 hV
  refine z_iconst_d hC dJ2_add_5 ?_
  refine z_iadd_d hC dJ2_add_6 ?_
  refine z_dP_d (v := (.inl (w32 (x1 + 1)))) hC hG kFJ2_63_2 rfl nk_2_0 zty_i (zvR_i (inR_w _)) hV dJ2_add_7 ?_
  intro G1 _ _ hG hV
  refine z_aload_n_d hC zvr_r rfl (hL.at 0 rfl) dJ2_add_10 ?_
  refine z_aload_n_d hC zvr_r rfl (hL.at 1 rfl) dJ2_add_11 ?_
  refine z_aload_n_d hC zvr_r rfl (hL.at 0 rfl) dJ2_add_12 ?_
  refine z_dR_d hC hG kFJ2_9_2 hV dJ2_add_13 ?_
  intro x2 hV
  refine z_aload_n_d hC zvr_r rfl (hL.at 0 rfl) dJ2_add_16 ?_
  refine z_dI_d hC hG kFJ2_48_2 hV dJ2_add_17 ?_
  intro x3 hx3 hV
  obtain ⟨hO4, hV⟩ := hV
  refine z_call_v_d hG (zrunVD_d hC hG hO4 (mJ2_add_2D_d l P G1 r0 p0 x2 x3 hx3 hV) kVJ2_131 rfl rfl rfl ⟨(Nat.le_of_ble_eq_true rfl), (Nat.le_of_ble_eq_true rfl)⟩ ⟨(Nat.le_of_ble_eq_true rfl), (Nat.le_of_ble_eq_true rfl)⟩ rfl ⟨zcs_0, (Nat.le_of_ble_eq_true rfl)⟩ hL.1.1 dJ2_add_20) ?_
  rintro G2 _ _ hV hG
  refine z_iconst_d hC dJ2_add_23 ?_
  exact z_zret_d hC hG hr hk (Or.inr rfl) hV (Nat.le_of_ble_eq_true rfl) (Nat.le_of_ble_eq_true rfl) dJ2_add_24
abbrev rX1_row_d : Room := { frames := 1, cells := 0, slots := 0, locals := 12 }
def vX1_row_d (p0 : ZR) (Q : ZR → Prop) : Prop := Q p0
set_option maxHeartbeats 4000000 in
theorem mX1_row_d (l : Launch) (P : ZP) (G : ZG) (p0 : ZR) {Q : ZR → Prop} (hV : vX1_row_d p0 Q) : Met l yX1_row (ws_ yX1_row cX1_row 1 (some (.array .int))) rX1_row_d (zPc_d P G [zrv P p0]) (zQr_d P (fun r G2 => G = G2 ∧ Q r)) 0 0 (zAr P) := by
  refine zMet_d RX1 (plainFor_of_name (by decide)) rfl (zcs_c (zrv_cat _ _) zcs_0) (Nat.le_of_ble_eq_true rfl) (fun p e s m args below meth c ls hC hr hk hn hG hL => ?_)
  unfold vX1_row_d at hV
  refine z_aload_n_d hC zvr_r rfl (hL.at 0 rfl) dX1_row_0 ?_
  exact z_aret_d (r := p0) hC hG hr hk (Or.inr ⟨_, rfl⟩) ⟨rfl, hV⟩ (Nat.le_of_ble_eq_true rfl) (Nat.le_of_ble_eq_true rfl) dX1_row_1
abbrev rX2_clearNamesD3_d : Room := { frames := 1, cells := 0, slots := 0, locals := 12 }
def vX2_clearNamesD3_d (r0 : ZR) (G : ZG) (Q : ZG → Prop) : Prop := zl2 (fun (P2 : Int → ZG → Prop) (a2_1 : Int) (K2 : ZG) => zbr (6 ≤ a2_1) (Q K2) (zdR K2 r0 3 0 fun (x1 : ZR) => zeS K2 x1 a2_1 (-1) fun (G1 : ZG) => zlt1 (w32 (a2_1 + 1)) fun (x2 : Int) => P2 x2 G1)) 0 G
set_option maxHeartbeats 4000000 in
theorem mX2_clearNamesD3_d (l : Launch) (P : ZP) (G : ZG) (r0 : ZR) {Q : ZG → Prop} (hV : vX2_clearNamesD3_d r0 G Q) : Met l yX2_clearNames (ws_ yX2_clearNames cX2_clearNames 2 none) rX2_clearNamesD3_d (zPc_d P G [zrv P r0]) (zQv_d P Q) 0 0 (zAr P) := by
  refine zMet_d RX2 (plainFor_of_name (by decide)) rfl (zcs_c (zrv_cat _ _) zcs_0) (Nat.le_of_ble_eq_true rfl) (fun p e s m args below meth c ls hC hr hk hn hG hL => ?_)
  unfold vX2_clearNamesD3_d at hV
  refine z_iconst_d hC dX2_clearNames_0 ?_
  refine z_istore_n_d (lv' := [(1, .int (zI 0)), (0, zrv P r0)]) hC rfl hL (by decide) rfl dX2_clearNames_1 (fun ls hL => ?_)
  refine zl2_use hV (fun (a2_1 : Int) (K2 : ZG) => inR a2_1 → ∀ (H : Heap) (locs : List Loc), zS_d P s K2 H locs → ∀ (ls : Array Slot), zL ls 2 [(0, zrv P r0), (1, .int (zI a2_1))] → W p l e rX2_clearNamesD3_d s m args below meth c H locs 0 0 (MQ below (zQv_d P Q) args s 0 0 (zAr P)) (F0 m 2 ls [])) ?_ (inR_lit rfl) _ _ hG _ (hL.sub [1, 0] rfl)
  intro P2 a2_1 K2 hP2 hV ha2_1 H locs hG ls hL
  refine z_iload_n_d hC rfl (hL.at 1 rfl) dX2_clearNames_2 ?_
  refine z_bipush_d hC rfl dX2_clearNames_3 ?_
  refine z_icmp_ge_d (tgt := 21) hC ha2_1 (inR_lit rfl) hV dX2_clearNames_5 (by decide) ?_ ?_
  · intro hV
    exact z_vret_d hC hG hr hk hV (Nat.le_of_ble_eq_true rfl) (Nat.le_of_ble_eq_true rfl) dX2_clearNames_21
  · intro hV
    refine z_aload_n_d hC zvr_r rfl (hL.at 0 rfl) dX2_clearNames_8 ?_
    refine z_dR_d hC hG kFX2_15_3 hV dX2_clearNames_9 ?_
    intro x1 hV
    refine z_iload_n_d hC rfl (hL.at 1 rfl) dX2_clearNames_12 ?_
    refine z_iconst_d hC dX2_clearNames_13 ?_
    refine z_east_d hC hG ha2_1 (inR_lit rfl) hV dX2_clearNames_14 ?_
    intro G1 _ _ hG hV
    refine z_iincV_d (fun x2 => [(1, .int (zI x2)), (0, zrv P r0)]) hC hL (k := 1) rfl (by decide) (fun _ => rfl) hV dX2_clearNames_15 ?_
    intro x2 hx2 hV ls hL
    refine z_goto_d (tgt := 2) hC dX2_clearNames_18 (by decide) ?_
    exact hP2 x2 G1 hV hx2 _ _ hG _ (hL.sub [1, 0] rfl)
abbrev rX1_initD_d (mc ms : Nat) : Room := { frames := 8, cells := mc, slots := ms, locals := 199 }
def vX1_initD_d (r0 : ZR) (mc ms : Nat) (G : ZG) (Q : ZG → Prop) : Prop := znn r0 ∧ (0 + 1 ≤ mc ∧ 0 + 3 ≤ ms) ∧ znw G (.inr (.inr (2, zdf 2))) fun (x1 : ZR) (G1 : ZG) => znn x1 ∧ vJ2_initD_d x1 G1 fun (G2 : ZG) => zdP G2 r0 1 0 (.inr x1) fun (G3 : ZG) => ((0 + 1) + 1 ≤ mc ∧ (0 + 3) + 3 ≤ ms) ∧ znw G3 (.inr (.inr (2, zdf 2))) fun (x3 : ZR) (G4 : ZG) => znn x3 ∧ vJ2_initD_d x3 G4 fun (G5 : ZG) => zdP G5 r0 1 1 (.inr x3) fun (G6 : ZG) => (((0 + 1) + 1) + 1 ≤ mc ∧ ((0 + 3) + 3) + 3 ≤ ms) ∧ znw G6 (.inr (.inr (2, zdf 2))) fun (x5 : ZR) (G7 : ZG) => znn x5 ∧ vJ2_initD_d x5 G7 fun (G8 : ZG) => zdP G8 r0 1 2 (.inr x5) fun (G9 : ZG) => ((((0 + 1) + 1) + 1) + 1 ≤ mc ∧ (((0 + 3) + 3) + 3) + 3 ≤ ms) ∧ znR0 G9 5 3 3 fun (x7 : ZR) (G10 : ZG) => zdP G10 r0 1 3 (.inr x7) fun (G11 : ZG) => (((((0 + 1) + 1) + 1) + 1) + 1 ≤ mc ∧ ((((0 + 3) + 3) + 3) + 3) + 3 ≤ ms) ∧ znI0 G11 0 3 3 fun (x8 : ZR) (G12 : ZG) => zdP G12 r0 1 4 (.inr x8) fun (G13 : ZG) => ((((((0 + 1) + 1) + 1) + 1) + 1) + 1 ≤ mc ∧ (((((0 + 3) + 3) + 3) + 3) + 3) + 3 ≤ ms) ∧ znw G13 (.inr (.inr (2, zdf 2))) fun (x9 : ZR) (G14 : ZG) => znn x9 ∧ vJ2_initD_d x9 G14 fun (G15 : ZG) => zdP G15 r0 1 6 (.inr x9) fun (G16 : ZG) => (((((((0 + 1) + 1) + 1) + 1) + 1) + 1) + 1 ≤ mc ∧ ((((((0 + 3) + 3) + 3) + 3) + 3) + 3) + 10 ≤ ms) ∧ znw G16 (.inr (.inr (3, zdf 3))) fun (x11 : ZR) (G17 : ZG) => znn x11 ∧ ((((((((0 + 1) + 1) + 1) + 1) + 1) + 1) + 1) + 5 ≤ mc ∧ (((((((0 + 3) + 3) + 3) + 3) + 3) + 3) + 10) + 1809 ≤ ms) ∧ vX3_initD_d x11 r0 G17 fun (G18 : ZG) => zdP G18 r0 1 7 (.inr x11) fun (G19 : ZG) => (((((((((0 + 1) + 1) + 1) + 1) + 1) + 1) + 1) + 5) + 1 ≤ mc ∧ ((((((((0 + 3) + 3) + 3) + 3) + 3) + 3) + 10) + 1809) + 25 ≤ ms) ∧ znw G19 (.inr (.inr (4, zdf 4))) fun (x13 : ZR) (G20 : ZG) => znn x13 ∧ ((((((((((0 + 1) + 1) + 1) + 1) + 1) + 1) + 1) + 5) + 1) + 513 ≤ mc ∧ (((((((((0 + 3) + 3) + 3) + 3) + 3) + 3) + 10) + 1809) + 25) + 11606 ≤ ms) ∧ vX4_initD_d x13 r0 0 G20 fun (G21 : ZG) => zdP G21 r0 1 8 (.inr x13) fun (G22 : ZG) => (((((((((((0 + 1) + 1) + 1) + 1) + 1) + 1) + 1) + 5) + 1) + 513) + 1 ≤ mc ∧ ((((((((((0 + 3) + 3) + 3) + 3) + 3) + 3) + 10) + 1809) + 25) + 11606) + 25 ≤ ms) ∧ znw G22 (.inr (.inr (4, zdf 4))) fun (x15 : ZR) (G23 : ZG) => znn x15 ∧ ((((((((((((0 + 1) + 1) + 1) + 1) + 1) + 1) + 1) + 5) + 1) + 513) + 1) + 513 ≤ mc ∧ (((((((((((0 + 3) + 3) + 3) + 3) + 3) + 3) + 10) + 1809) + 25) + 11606) + 25) + 11606 ≤ ms) ∧ vX4_initD_d x15 r0 1 G23 fun (G24 : ZG) => zdP G24 r0 1 9 (.inr x15) fun (G25 : ZG) => (((((((((((((0 + 1) + 1) + 1) + 1) + 1) + 1) + 1) + 5) + 1) + 513) + 1) + 513) + 1 ≤ mc ∧ ((((((((((((0 + 3) + 3) + 3) + 3) + 3) + 3) + 10) + 1809) + 25) + 11606) + 25) + 11606) + 4 ≤ ms) ∧ znw G25 (.inr (.inr (5, zdf 5))) fun (x17 : ZR) (G26 : ZG) => znn x17 ∧ ((((((((((((((0 + 1) + 1) + 1) + 1) + 1) + 1) + 1) + 5) + 1) + 513) + 1) + 513) + 1) + 1 ≤ mc ∧ (((((((((((((0 + 3) + 3) + 3) + 3) + 3) + 3) + 10) + 1809) + 25) + 11606) + 25) + 11606) + 4) + 2000 ≤ ms) ∧ vX5_initD_d x17 r0 G26 fun (G27 : ZG) => zdP G27 r0 1 10 (.inr x17) fun (G28 : ZG) => zdP G28 r0 1 11 (.inl (-1)) fun (G29 : ZG) => zl4 (fun (P120 : Int → ZG → Nat → Nat → Prop) (a120_1 : Int) (K120 : ZG) (kc ks : Nat) => zbr (4 ≤ a120_1) (zl4 (fun (P148 : Int → ZG → Nat → Nat → Prop) (a148_1 : Int) (K148 : ZG) (kc ks : Nat) => zbr (3 ≤ a148_1) (zdR K148 r0 1 7 fun (x19 : ZR) => zisO K148 x19 3 ∧ vX2_clearNamesD3_d x19 K148 fun (G30 : ZG) => Q G30) (zdR K148 r0 1 3 fun (x21 : ZR) => (kc + 1 ≤ mc ∧ ks + 4 ≤ ms) ∧ znI0 K148 0 4 4 fun (x22 : ZR) (G31 : ZG) => zeS G31 x22 0 1 fun (G32 : ZG) => zeS G32 x22 1 0 fun (G33 : ZG) => zeS G33 x22 2 0 fun (G34 : ZG) => zeS G34 x22 3 10 fun (G35 : ZG) => vX1_row_d x22 fun (x23 : ZR) => zeU G35 x21 a148_1 x23 fun (G36 : ZG) => zlt1 (w32 (a148_1 + 1)) fun (x24 : Int) => P148 x24 G36 (kc + 1) (ks + 4))) 0 K120 kc ks) (zdR K120 r0 1 0 fun (x25 : ZR) => (kc + 1 ≤ mc ∧ ks + 3 ≤ ms) ∧ znw K120 (.inr (.inr (2, zdf 2))) fun (x26 : ZR) (G37 : ZG) => znn x26 ∧ vJ2_initD_d x26 G37 fun (G38 : ZG) => zisO G38 x25 2 ∧ ((kc + 1) + 1 ≤ mc ∧ (ks + 3) + 100 ≤ ms) ∧ vJ2_addD_d x25 x26 G38 fun (x29 : Int) (G39 : ZG) => zlt1 (w32 (a120_1 + 1)) fun (x30 : Int) => P120 x30 G39 ((kc + 1) + 1) ((ks + 3) + 100))) 0 G29 ((((((((((((((0 + 1) + 1) + 1) + 1) + 1) + 1) + 1) + 5) + 1) + 513) + 1) + 513) + 1) + 1) ((((((((((((((0 + 3) + 3) + 3) + 3) + 3) + 3) + 10) + 1809) + 25) + 11606) + 25) + 11606) + 4) + 2000)
set_option maxHeartbeats 4000000 in
theorem mX1_initD_d (l : Launch) (P : ZP) (G : ZG) (mc ms : Nat) (r0 : ZR) {Q : ZG → Prop} (hV : vX1_initD_d r0 mc ms G Q) : Met l yX1_init (ws_ yX1_init cX1_init 2 none) (rX1_initD_d mc ms) (zPc_d P G [zrv P r0]) (zQv_d P Q) mc ms (zAr P) := by
  refine zMet_d RX1 (plainFor_of_name (by decide)) rfl (zcs_c (zrv_cat _ _) zcs_0) (Nat.le_of_ble_eq_true rfl) (fun p e s m args below meth c ls hC hr hk hn hG hL => ?_)
  unfold vX1_initD_d at hV
  have hB : 0 ≤ mc ∧ 0 ≤ ms := ⟨Nat.zero_le _, Nat.zero_le _⟩
  refine z_aload_n_d hC zvr_r rfl (hL.at 0 rfl) dX1_init_0 ?_
  refine z_objD_d hC hV hL.1.1 kOX1_19 ⟨zcs_0, (Nat.le_of_ble_eq_true rfl)⟩ ⟨(Nat.le_of_ble_eq_true rfl), (Nat.le_of_ble_eq_true rfl)⟩ dX1_init_1 (fun hV => ?_)
  refine z_aload_n_d hC zvr_r rfl (hL.at 0 rfl) dX1_init_4 ?_
  obtain ⟨hB, hV⟩ := hV
  refine z_new_d (ci := 2) (n := 3) hC hG (Nat.le_of_ble_eq_true rfl) (Nat.le_of_ble_eq_true rfl) rfl q145 q146 q99 hV hB.1 hB.2 dX1_init_5 ?_
  intro x1 G1 _ hG hV
  refine z_dup_d hC (zrv_cat _ _) dX1_init_8 ?_
  obtain ⟨hO2, hV⟩ := hV
  refine z_call_v_d hG (zrunI_d hC hG hO2 (mJ2_initD_d l P G1 x1 hV) kIX1_24 rfl rfl rfl ⟨(Nat.le_of_ble_eq_true rfl), (Nat.le_of_ble_eq_true rfl)⟩ ⟨hB.1, hB.2⟩ rfl ⟨(zcs_c (zrv_cat _ _) (zcs_c (zrv_cat _ _) zcs_0)), (Nat.le_of_ble_eq_true rfl)⟩ hL.1.1 dX1_init_9) ?_
  rintro G2 _ _ hV hG
  refine z_dPF_d (v := (.inr x1)) hC hG kFX1_25_1 rfl hn rfl (znl_use nlX1_25) nk_1_0 zty_o zvR_r hV dX1_init_12 ?_
  intro G3 _ _ hG hV
  refine z_aload_n_d hC zvr_r rfl (hL.at 0 rfl) dX1_init_15 ?_
  obtain ⟨hB, hV⟩ := hV
  refine z_new_d (ci := 2) (n := 3) hC hG (Nat.le_of_ble_eq_true rfl) (Nat.le_of_ble_eq_true rfl) rfl q145 q146 q99 hV hB.1 hB.2 dX1_init_16 ?_
  intro x3 G4 _ hG hV
  refine z_dup_d hC (zrv_cat _ _) dX1_init_19 ?_
  obtain ⟨hO4, hV⟩ := hV
  refine z_call_v_d hG (zrunI_d hC hG hO4 (mJ2_initD_d l P G4 x3 hV) kIX1_24 rfl rfl rfl ⟨(Nat.le_of_ble_eq_true rfl), (Nat.le_of_ble_eq_true rfl)⟩ ⟨hB.1, hB.2⟩ rfl ⟨(zcs_c (zrv_cat _ _) (zcs_c (zrv_cat _ _) zcs_0)), (Nat.le_of_ble_eq_true rfl)⟩ hL.1.1 dX1_init_20) ?_
  rintro G5 _ _ hV hG
  refine z_dPF_d (v := (.inr x3)) hC hG kFX1_29_1 rfl hn rfl (znl_use nlX1_29) nk_1_1 zty_o zvR_r hV dX1_init_23 ?_
  intro G6 _ _ hG hV
  refine z_aload_n_d hC zvr_r rfl (hL.at 0 rfl) dX1_init_26 ?_
  obtain ⟨hB, hV⟩ := hV
  refine z_new_d (ci := 2) (n := 3) hC hG (Nat.le_of_ble_eq_true rfl) (Nat.le_of_ble_eq_true rfl) rfl q145 q146 q99 hV hB.1 hB.2 dX1_init_27 ?_
  intro x5 G7 _ hG hV
  refine z_dup_d hC (zrv_cat _ _) dX1_init_30 ?_
  obtain ⟨hO6, hV⟩ := hV
  refine z_call_v_d hG (zrunI_d hC hG hO6 (mJ2_initD_d l P G7 x5 hV) kIX1_24 rfl rfl rfl ⟨(Nat.le_of_ble_eq_true rfl), (Nat.le_of_ble_eq_true rfl)⟩ ⟨hB.1, hB.2⟩ rfl ⟨(zcs_c (zrv_cat _ _) (zcs_c (zrv_cat _ _) zcs_0)), (Nat.le_of_ble_eq_true rfl)⟩ hL.1.1 dX1_init_31) ?_
  rintro G8 _ _ hV hG
  refine z_dPF_d (v := (.inr x5)) hC hG kFX1_32_1 rfl hn rfl (znl_use nlX1_32) nk_1_2 zty_o zvR_r hV dX1_init_34 ?_
  intro G9 _ _ hG hV
  refine z_aload_n_d hC zvr_r rfl (hL.at 0 rfl) dX1_init_37 ?_
  refine z_iconst_d hC dX1_init_38 ?_
  obtain ⟨hB, hV⟩ := hV
  refine z_anewI_d hC hG q171 xq172 (inR_lit rfl) (Nat.le_of_ble_eq_true rfl) hV hB.1 hB.2 dX1_init_39 ?_
  intro x7 G10 _ hG hV
  refine z_dPF_d (v := (.inr x7)) hC hG kFX1_37_1 rfl hn rfl (znl_use nlX1_37) nk_1_3 zty_a zvR_r hV dX1_init_42 ?_
  intro G11 _ _ hG hV
  refine z_aload_n_d hC zvr_r rfl (hL.at 0 rfl) dX1_init_45 ?_
  refine z_iconst_d hC dX1_init_46 ?_
  obtain ⟨hB, hV⟩ := hV
  refine z_newI_d (t := 0) hC hG rfl (Nat.le_of_ble_eq_true rfl) q223 (inR_lit rfl) (Nat.le_of_ble_eq_true rfl) hV hB.1 hB.2 dX1_init_47 ?_
  intro x8 G12 _ hG hV
  refine z_dPF_d (v := (.inr x8)) hC hG kFX1_41_1 rfl hn rfl (znl_use nlX1_41) nk_1_4 zty_a zvR_r hV dX1_init_49 ?_
  intro G13 _ _ hG hV
  refine z_aload_n_d hC zvr_r rfl (hL.at 0 rfl) dX1_init_52 ?_
  obtain ⟨hB, hV⟩ := hV
  refine z_new_d (ci := 2) (n := 3) hC hG (Nat.le_of_ble_eq_true rfl) (Nat.le_of_ble_eq_true rfl) rfl q145 q146 q99 hV hB.1 hB.2 dX1_init_53 ?_
  intro x9 G14 _ hG hV
  refine z_dup_d hC (zrv_cat _ _) dX1_init_56 ?_
  obtain ⟨hO10, hV⟩ := hV
  refine z_call_v_d hG (zrunI_d hC hG hO10 (mJ2_initD_d l P G14 x9 hV) kIX1_24 rfl rfl rfl ⟨(Nat.le_of_ble_eq_true rfl), (Nat.le_of_ble_eq_true rfl)⟩ ⟨hB.1, hB.2⟩ rfl ⟨(zcs_c (zrv_cat _ _) (zcs_c (zrv_cat _ _) zcs_0)), (Nat.le_of_ble_eq_true rfl)⟩ hL.1.1 dX1_init_57) ?_
  rintro G15 _ _ hV hG
  refine z_dPF_d (v := (.inr x9)) hC hG kFX1_44_1 rfl hn rfl (znl_use nlX1_44) nk_1_6 zty_o zvR_r hV dX1_init_60 ?_
  intro G16 _ _ hG hV
  refine z_aload_n_d hC zvr_r rfl (hL.at 0 rfl) dX1_init_63 ?_
  obtain ⟨hB, hV⟩ := hV
  refine z_new_d (ci := 3) (n := 10) hC hG (Nat.le_of_ble_eq_true rfl) (Nat.le_of_ble_eq_true rfl) rfl q173 q174 q101 hV hB.1 hB.2 dX1_init_64 ?_
  intro x11 G17 _ hG hV
  refine z_dup_d hC (zrv_cat _ _) dX1_init_67 ?_
  refine z_aload_n_d hC zvr_r rfl (hL.at 0 rfl) dX1_init_68 ?_
  obtain ⟨hO12, hV⟩ := hV
  obtain ⟨hB, hV⟩ := hV
  refine z_call_v_d hG (zrunIN_d hC hG hO12 (mX3_initD_d l P G17 x11 r0 hV) kIX1_49 rfl rfl rfl ⟨(Nat.le_of_ble_eq_true rfl), (Nat.le_of_ble_eq_true rfl)⟩ ⟨hB.1, hB.2⟩ rfl ⟨(zcs_c (zrv_cat _ _) (zcs_c (zrv_cat _ _) zcs_0)), (Nat.le_of_ble_eq_true rfl)⟩ hL.1.1 dX1_init_69) ?_
  rintro G18 _ _ hV hG
  refine z_dPF_d (v := (.inr x11)) hC hG kFX1_52_1 rfl hn rfl (znl_use nlX1_52) nk_1_7 zty_o zvR_r hV dX1_init_72 ?_
  intro G19 _ _ hG hV
  refine z_aload_n_d hC zvr_r rfl (hL.at 0 rfl) dX1_init_75 ?_
  obtain ⟨hB, hV⟩ := hV
  refine z_new_d (ci := 4) (n := 25) hC hG (Nat.le_of_ble_eq_true rfl) (Nat.le_of_ble_eq_true rfl) rfl q224 q225 q102 hV hB.1 hB.2 dX1_init_76 ?_
  intro x13 G20 _ hG hV
  refine z_dup_d hC (zrv_cat _ _) dX1_init_79 ?_
  refine z_aload_n_d hC zvr_r rfl (hL.at 0 rfl) dX1_init_80 ?_
  refine z_iconst_d hC dX1_init_81 ?_
  obtain ⟨hO14, hV⟩ := hV
  obtain ⟨hB, hV⟩ := hV
  refine z_call_v_d hG (zrunI_d hC hG hO14 (mX4_initD_d l P G20 x13 r0 0 (Or.inl rfl) hV) kIX1_58 rfl rfl rfl ⟨(Nat.le_of_ble_eq_true rfl), (Nat.le_of_ble_eq_true rfl)⟩ ⟨hB.1, hB.2⟩ rfl ⟨(zcs_c (zrv_cat _ _) (zcs_c (zrv_cat _ _) zcs_0)), (Nat.le_of_ble_eq_true rfl)⟩ hL.1.1 dX1_init_82) ?_
  rintro G21 _ _ hV hG
  refine z_dPF_d (v := (.inr x13)) hC hG kFX1_61_1 rfl hn rfl (znl_use nlX1_61) nk_1_8 zty_o zvR_r hV dX1_init_85 ?_
  intro G22 _ _ hG hV
  refine z_aload_n_d hC zvr_r rfl (hL.at 0 rfl) dX1_init_88 ?_
  obtain ⟨hB, hV⟩ := hV
  refine z_new_d (ci := 4) (n := 25) hC hG (Nat.le_of_ble_eq_true rfl) (Nat.le_of_ble_eq_true rfl) rfl q224 q225 q102 hV hB.1 hB.2 dX1_init_89 ?_
  intro x15 G23 _ hG hV
  refine z_dup_d hC (zrv_cat _ _) dX1_init_92 ?_
  refine z_aload_n_d hC zvr_r rfl (hL.at 0 rfl) dX1_init_93 ?_
  refine z_iconst_d hC dX1_init_94 ?_
  obtain ⟨hO16, hV⟩ := hV
  obtain ⟨hB, hV⟩ := hV
  refine z_call_v_d hG (zrunI_d hC hG hO16 (mX4_initD_d l P G23 x15 r0 1 (Or.inr rfl) hV) kIX1_58 rfl rfl rfl ⟨(Nat.le_of_ble_eq_true rfl), (Nat.le_of_ble_eq_true rfl)⟩ ⟨hB.1, hB.2⟩ rfl ⟨(zcs_c (zrv_cat _ _) (zcs_c (zrv_cat _ _) zcs_0)), (Nat.le_of_ble_eq_true rfl)⟩ hL.1.1 dX1_init_95) ?_
  rintro G24 _ _ hV hG
  refine z_dPF_d (v := (.inr x15)) hC hG kFX1_65_1 rfl hn rfl (znl_use nlX1_65) nk_1_9 zty_o zvR_r hV dX1_init_98 ?_
  intro G25 _ _ hG hV
  refine z_aload_n_d hC zvr_r rfl (hL.at 0 rfl) dX1_init_101 ?_
  obtain ⟨hB, hV⟩ := hV
  refine z_new_d (ci := 5) (n := 4) hC hG (Nat.le_of_ble_eq_true rfl) (Nat.le_of_ble_eq_true rfl) rfl q308 q309 q103 hV hB.1 hB.2 dX1_init_102 ?_
  intro x17 G26 _ hG hV
  refine z_dup_d hC (zrv_cat _ _) dX1_init_105 ?_
  refine z_aload_n_d hC zvr_r rfl (hL.at 0 rfl) dX1_init_106 ?_
  obtain ⟨hO18, hV⟩ := hV
  obtain ⟨hB, hV⟩ := hV
  refine z_call_v_d hG (zrunIN_d hC hG hO18 (mX5_initD_d l P G26 x17 r0 hV) kIX1_70 rfl rfl rfl ⟨(Nat.le_of_ble_eq_true rfl), (Nat.le_of_ble_eq_true rfl)⟩ ⟨hB.1, hB.2⟩ rfl ⟨(zcs_c (zrv_cat _ _) (zcs_c (zrv_cat _ _) zcs_0)), (Nat.le_of_ble_eq_true rfl)⟩ hL.1.1 dX1_init_107) ?_
  rintro G27 _ _ hV hG
  refine z_dPF_d (v := (.inr x17)) hC hG kFX1_71_1 rfl hn rfl (znl_use nlX1_71) nk_1_10 zty_o zvR_r hV dX1_init_110 ?_
  intro G28 _ _ hG hV
  refine z_aload_n_d hC zvr_r rfl (hL.at 0 rfl) dX1_init_113 ?_
  refine z_iconst_d hC dX1_init_114 ?_
  refine z_dP_d (v := (.inl (-1))) hC hG kFX1_75_1 rfl nk_1_11 zty_i (zvR_i (inR_lit rfl)) hV dX1_init_115 ?_
  intro G29 _ _ hG hV
  refine z_iconst_d hC dX1_init_118 ?_
  refine z_istore_n_d (lv' := [(1, .int (zI 0)), (0, zrv P r0)]) hC rfl hL (by decide) rfl dX1_init_119 (fun ls hL => ?_)
  refine zl4_use hV (fun (a120_1 : Int) (K120 : ZG) (kc ks : Nat) => inR a120_1 → (kc ≤ mc ∧ ks ≤ ms) → ∀ (H : Heap) (locs : List Loc), zS_d P s K120 H locs → ∀ (ls : Array Slot), zL ls 2 [(0, zrv P r0), (1, .int (zI a120_1))] → W p l e (rX1_initD_d mc ms) s m args below meth c H locs kc ks (MQ below (zQv_d P Q) args s mc ms (zAr P)) (F0 m 120 ls [])) ?_ (inR_lit rfl) hB _ _ hG _ (hL.sub [1, 0] rfl)
  intro P120 a120_1 K120 kc ks hP120 hV ha120_1 hB H locs hG ls hL
  refine z_iload_n_d hC rfl (hL.at 1 rfl) dX1_init_120 ?_
  refine z_iconst_d hC dX1_init_121 ?_
  refine z_icmp_ge_d (tgt := 146) hC ha120_1 (inR_lit rfl) hV dX1_init_122 (by decide) ?_ ?_
  · intro hV
    refine z_iconst_d hC dX1_init_146 ?_
    refine z_istore_n_d (lv' := [(1, .int (zI 0)), (0, zrv P r0)]) hC rfl hL (by decide) rfl dX1_init_147 (fun ls hL => ?_)
    refine zl4_use hV (fun (a148_1 : Int) (K148 : ZG) (kc ks : Nat) => inR a148_1 → (kc ≤ mc ∧ ks ≤ ms) → ∀ (H : Heap) (locs : List Loc), zS_d P s K148 H locs → ∀ (ls : Array Slot), zL ls 2 [(0, zrv P r0), (1, .int (zI a148_1))] → W p l e (rX1_initD_d mc ms) s m args below meth c H locs kc ks (MQ below (zQv_d P Q) args s mc ms (zAr P)) (F0 m 148 ls [])) ?_ (inR_lit rfl) hB _ _ hG _ (hL.sub [1, 0] rfl)
    intro P148 a148_1 K148 kc ks hP148 hV ha148_1 hB H locs hG ls hL
    refine z_iload_n_d hC rfl (hL.at 1 rfl) dX1_init_148 ?_
    refine z_iconst_d hC dX1_init_149 ?_
    refine z_icmp_ge_d (tgt := 188) hC ha148_1 (inR_lit rfl) hV dX1_init_150 (by decide) ?_ ?_
    · intro hV
      refine z_aload_n_d hC zvr_r rfl (hL.at 0 rfl) dX1_init_188 ?_
      refine z_dR_d hC hG kFX1_52_1 hV dX1_init_189 ?_
      intro x19 hV
      obtain ⟨hO20, hV⟩ := hV
      refine z_call_v_d hG (zrunUD_d (ci := 3) hC hG hO20 (mX2_clearNamesD3_d l P K148 x19 hV) kUX1_83_Running rfl rfl rfl ⟨(Nat.le_of_ble_eq_true rfl), (Nat.le_of_ble_eq_true rfl)⟩ ⟨hB.1, hB.2⟩ rfl ⟨zcs_0, (Nat.le_of_ble_eq_true rfl)⟩ hL.1.1 dX1_init_192) ?_
      rintro G30 _ _ hV hG
      exact z_vret_d hC hG hr hk hV hB.1 hB.2 dX1_init_195
    · intro hV
      refine z_aload_n_d hC zvr_r rfl (hL.at 0 rfl) dX1_init_153 ?_
      refine z_dR_d hC hG kFX1_37_1 hV dX1_init_154 ?_
      intro x21 hV
      refine z_iload_n_d hC rfl (hL.at 1 rfl) dX1_init_157 ?_
      refine z_iconst_d hC dX1_init_158 ?_
      obtain ⟨hB, hV⟩ := hV
      refine z_newI_d (t := 0) hC hG rfl (Nat.le_of_ble_eq_true rfl) q223 (inR_lit rfl) (Nat.le_of_ble_eq_true rfl) hV hB.1 hB.2 dX1_init_159 ?_
      intro x22 G31 _ hG hV
      refine z_dup_d hC (zrv_cat _ _) dX1_init_161 ?_
      refine z_iconst_d hC dX1_init_162 ?_
      refine z_iconst_d hC dX1_init_163 ?_
      refine z_east_d hC hG (inR_lit rfl) (inR_lit rfl) hV dX1_init_164 ?_
      intro G32 _ _ hG hV
      refine z_dup_d hC (zrv_cat _ _) dX1_init_165 ?_
      refine z_iconst_d hC dX1_init_166 ?_
      refine z_iconst_d hC dX1_init_167 ?_
      refine z_east_d hC hG (inR_lit rfl) (inR_lit rfl) hV dX1_init_168 ?_
      intro G33 _ _ hG hV
      refine z_dup_d hC (zrv_cat _ _) dX1_init_169 ?_
      refine z_iconst_d hC dX1_init_170 ?_
      refine z_iconst_d hC dX1_init_171 ?_
      refine z_east_d hC hG (inR_lit rfl) (inR_lit rfl) hV dX1_init_172 ?_
      intro G34 _ _ hG hV
      refine z_dup_d hC (zrv_cat _ _) dX1_init_173 ?_
      refine z_iconst_d hC dX1_init_174 ?_
      refine z_bipush_d hC rfl dX1_init_175 ?_
      refine z_east_d hC hG (inR_lit rfl) (inR_lit rfl) hV dX1_init_177 ?_
      intro G35 _ _ hG hV
      refine z_call_r_d hG (zrunS_d hC hG (mX1_row_d l P G35 x22 hV) kSX1_15 rfl rfl rfl ⟨(Nat.le_of_ble_eq_true rfl), (Nat.le_of_ble_eq_true rfl)⟩ ⟨hB.1, hB.2⟩ rfl ⟨(zcs_c rfl (zcs_c (zrv_cat _ _) zcs_0)), (Nat.le_of_ble_eq_true rfl)⟩ hL.1.1 dX1_init_178) ?_
      rintro x23 _ _ _  ⟨rfl, hV⟩ hG
      refine z_eust_d (x := x23) hC hG ha148_1 hV dX1_init_181 ?_
      intro G36 _ _ hG hV
      refine z_iincV_d (fun x24 => [(1, .int (zI x24)), (0, zrv P r0)]) hC hL (k := 1) rfl (by decide) (fun _ => rfl) hV dX1_init_182 ?_
      intro x24 hx24 hV ls hL
      refine z_goto_d (tgt := 148) hC dX1_init_185 (by decide) ?_
      exact hP148 x24 G36 (kc + 1) (ks + 4) hV hx24 hB _ _ hG _ (hL.sub [1, 0] rfl)
  · intro hV
    refine z_aload_n_d hC zvr_r rfl (hL.at 0 rfl) dX1_init_125 ?_
    refine z_dR_d hC hG kFX1_25_1 hV dX1_init_126 ?_
    intro x25 hV
    obtain ⟨hB, hV⟩ := hV
    refine z_new_d (ci := 2) (n := 3) hC hG (Nat.le_of_ble_eq_true rfl) (Nat.le_of_ble_eq_true rfl) rfl q145 q146 q99 hV hB.1 hB.2 dX1_init_129 ?_
    intro x26 G37 _ hG hV
    refine z_dup_d hC (zrv_cat _ _) dX1_init_132 ?_
    obtain ⟨hO27, hV⟩ := hV
    refine z_call_v_d hG (zrunI_d hC hG hO27 (mJ2_initD_d l P G37 x26 hV) kIX1_24 rfl rfl rfl ⟨(Nat.le_of_ble_eq_true rfl), (Nat.le_of_ble_eq_true rfl)⟩ ⟨hB.1, hB.2⟩ rfl ⟨(zcs_c (zrv_cat _ _) (zcs_c (zrv_cat _ _) zcs_0)), (Nat.le_of_ble_eq_true rfl)⟩ hL.1.1 dX1_init_133) ?_
    rintro G38 _ _ hV hG
    obtain ⟨hO28, hV⟩ := hV
    obtain ⟨hB, hV⟩ := hV
    refine z_call_z_d hG (zrunVD_d hC hG hO28 (mJ2_addD_d l P G38 x25 x26 hV) kVX1_79 rfl rfl rfl ⟨(Nat.le_of_ble_eq_true rfl), (Nat.le_of_ble_eq_true rfl)⟩ ⟨hB.1, hB.2⟩ rfl ⟨zcs_0, (Nat.le_of_ble_eq_true rfl)⟩ hL.1.1 dX1_init_136) ?_
    rintro x29 G39 _ _ hx29 hV hG
    refine z_pop_d hC rfl dX1_init_139 ?_
    refine z_iincV_d (fun x30 => [(1, .int (zI x30)), (0, zrv P r0)]) hC hL (k := 1) rfl (by decide) (fun _ => rfl) hV dX1_init_140 ?_
    intro x30 hx30 hV ls hL
    refine z_goto_d (tgt := 120) hC dX1_init_143 (by decide) ?_
    exact hP120 x30 G39 ((kc + 1) + 1) ((ks + 3) + 100) hV hx30 hB _ _ hG _ (hL.sub [1, 0] rfl)
abbrev rX6_initD_d : Room := { frames := 1, cells := 50, slots := 12222, locals := 20 }
def vX6_initD_d (r0 : ZR) (G : ZG) (Q : ZG → Prop) : Prop := znn r0 ∧ znI0 G 0 4 4 fun (x1 : ZR) (G1 : ZG) => zdP G1 r0 6 1 (.inr x1) fun (G2 : ZG) => znI0 G2 0 16 16 fun (x2 : ZR) (G3 : ZG) => zdP G3 r0 6 2 (.inr x2) fun (G4 : ZG) => znI0 G4 0 48 48 fun (x3 : ZR) (G5 : ZG) => zdP G5 r0 6 3 (.inr x3) fun (G6 : ZG) => znI0 G6 0 40 40 fun (x4 : ZR) (G7 : ZG) => zdP G7 r0 6 5 (.inr x4) fun (G8 : ZG) => znI0 G8 0 40 40 fun (x5 : ZR) (G9 : ZG) => zdP G9 r0 6 6 (.inr x5) fun (G10 : ZG) => znI0 G10 0 120 120 fun (x6 : ZR) (G11 : ZG) => zdP G11 r0 6 7 (.inr x6) fun (G12 : ZG) => znI0 G12 0 40 40 fun (x7 : ZR) (G13 : ZG) => zdP G13 r0 6 8 (.inr x7) fun (G14 : ZG) => znI0 G14 0 60 60 fun (x8 : ZR) (G15 : ZG) => zdP G15 r0 6 10 (.inr x8) fun (G16 : ZG) => znI0 G16 0 60 60 fun (x9 : ZR) (G17 : ZG) => zdP G17 r0 6 11 (.inr x9) fun (G18 : ZG) => znI0 G18 0 60 60 fun (x10 : ZR) (G19 : ZG) => zdP G19 r0 6 12 (.inr x10) fun (G20 : ZG) => znI0 G20 0 180 180 fun (x11 : ZR) (G21 : ZG) => zdP G21 r0 6 13 (.inr x11) fun (G22 : ZG) => znI0 G22 0 60 60 fun (x12 : ZR) (G23 : ZG) => zdP G23 r0 6 14 (.inr x12) fun (G24 : ZG) => znI0 G24 0 60 60 fun (x13 : ZR) (G25 : ZG) => zdP G25 r0 6 15 (.inr x13) fun (G26 : ZG) => znI0 G26 0 60 60 fun (x14 : ZR) (G27 : ZG) => zdP G27 r0 6 16 (.inr x14) fun (G28 : ZG) => znI0 G28 0 60 60 fun (x15 : ZR) (G29 : ZG) => zdP G29 r0 6 17 (.inr x15) fun (G30 : ZG) => znI0 G30 1 60 60 fun (x16 : ZR) (G31 : ZG) => zdP G31 r0 6 18 (.inr x16) fun (G32 : ZG) => znI0 G32 1 60 60 fun (x17 : ZR) (G33 : ZG) => zdP G33 r0 6 19 (.inr x17) fun (G34 : ZG) => znI0 G34 0 12 12 fun (x18 : ZR) (G35 : ZG) => zdP G35 r0 6 20 (.inr x18) fun (G36 : ZG) => znI0 G36 0 3 3 fun (x19 : ZR) (G37 : ZG) => zdP G37 r0 6 22 (.inr x19) fun (G38 : ZG) => znI0 G38 0 24 24 fun (x20 : ZR) (G39 : ZG) => zdP G39 r0 6 24 (.inr x20) fun (G40 : ZG) => znI0 G40 0 8 8 fun (x21 : ZR) (G41 : ZG) => zdP G41 r0 6 25 (.inr x21) fun (G42 : ZG) => znI0 G42 0 8 8 fun (x22 : ZR) (G43 : ZG) => zdP G43 r0 6 26 (.inr x22) fun (G44 : ZG) => znI0 G44 0 8 8 fun (x23 : ZR) (G45 : ZG) => zdP G45 r0 6 27 (.inr x23) fun (G46 : ZG) => znI0 G46 0 8 8 fun (x24 : ZR) (G47 : ZG) => zdP G47 r0 6 28 (.inr x24) fun (G48 : ZG) => znI0 G48 0 8 8 fun (x25 : ZR) (G49 : ZG) => zdP G49 r0 6 29 (.inr x25) fun (G50 : ZG) => znI0 G50 0 256 256 fun (x26 : ZR) (G51 : ZG) => zdP G51 r0 6 30 (.inr x26) fun (G52 : ZG) => znI0 G52 0 256 256 fun (x27 : ZR) (G53 : ZG) => zdP G53 r0 6 31 (.inr x27) fun (G54 : ZG) => znI0 G54 0 256 256 fun (x28 : ZR) (G55 : ZG) => zdP G55 r0 6 32 (.inr x28) fun (G56 : ZG) => znI0 G56 0 256 256 fun (x29 : ZR) (G57 : ZG) => zdP G57 r0 6 33 (.inr x29) fun (G58 : ZG) => znI0 G58 0 64 64 fun (x30 : ZR) (G59 : ZG) => zdP G59 r0 6 35 (.inr x30) fun (G60 : ZG) => znI0 G60 0 64 64 fun (x31 : ZR) (G61 : ZG) => zdP G61 r0 6 36 (.inr x31) fun (G62 : ZG) => znI0 G62 0 64 64 fun (x32 : ZR) (G63 : ZG) => zdP G63 r0 6 37 (.inr x32) fun (G64 : ZG) => znI0 G64 0 6 6 fun (x33 : ZR) (G65 : ZG) => zdP G65 r0 6 39 (.inr x33) fun (G66 : ZG) => znI0 G66 0 8 8 fun (x34 : ZR) (G67 : ZG) => zdP G67 r0 6 45 (.inr x34) fun (G68 : ZG) => znI0 G68 0 3 3 fun (x35 : ZR) (G69 : ZG) => zdP G69 r0 6 46 (.inr x35) fun (G70 : ZG) => znI0 G70 0 1500 1500 fun (x36 : ZR) (G71 : ZG) => zdP G71 r0 6 49 (.inr x36) fun (G72 : ZG) => znI0 G72 0 1500 1500 fun (x37 : ZR) (G73 : ZG) => zdP G73 r0 6 50 (.inr x37) fun (G74 : ZG) => znI0 G74 0 1500 1500 fun (x38 : ZR) (G75 : ZG) => zdP G75 r0 6 51 (.inr x38) fun (G76 : ZG) => znI0 G76 0 6 6 fun (x39 : ZR) (G77 : ZG) => zdP G77 r0 6 53 (.inr x39) fun (G78 : ZG) => znI0 G78 0 512 512 fun (x40 : ZR) (G79 : ZG) => zdP G79 r0 6 57 (.inr x40) fun (G80 : ZG) => znI0 G80 0 512 512 fun (x41 : ZR) (G81 : ZG) => zdP G81 r0 6 58 (.inr x41) fun (G82 : ZG) => znI0 G82 0 512 512 fun (x42 : ZR) (G83 : ZG) => zdP G83 r0 6 59 (.inr x42) fun (G84 : ZG) => znI0 G84 0 512 512 fun (x43 : ZR) (G85 : ZG) => zdP G85 r0 6 60 (.inr x43) fun (G86 : ZG) => znI0 G86 0 512 512 fun (x44 : ZR) (G87 : ZG) => zdP G87 r0 6 61 (.inr x44) fun (G88 : ZG) => znI0 G88 0 512 512 fun (x45 : ZR) (G89 : ZG) => zdP G89 r0 6 62 (.inr x45) fun (G90 : ZG) => znI0 G90 0 512 512 fun (x46 : ZR) (G91 : ZG) => zdP G91 r0 6 63 (.inr x46) fun (G92 : ZG) => znI0 G92 0 512 512 fun (x47 : ZR) (G93 : ZG) => zdP G93 r0 6 64 (.inr x47) fun (G94 : ZG) => znI0 G94 0 512 512 fun (x48 : ZR) (G95 : ZG) => zdP G95 r0 6 65 (.inr x48) fun (G96 : ZG) => znI0 G96 0 512 512 fun (x49 : ZR) (G97 : ZG) => zdP G97 r0 6 66 (.inr x49) fun (G98 : ZG) => znI0 G98 0 256 256 fun (x50 : ZR) (G99 : ZG) => zdP G99 r0 6 68 (.inr x50) fun (G100 : ZG) => zl2 (fun (P422 : Int → ZG → Prop) (a422_1 : Int) (K422 : ZG) => zbr (3 ≤ a422_1) (zdP K422 r0 6 54 (.inl (-1)) fun (G101 : ZG) => zdP G101 r0 6 52 (.inl (-1)) fun (G102 : ZG) => Q G102) (zdR K422 r0 6 20 fun (x51 : ZR) => zeS K422 x51 (w32 (4 * a422_1)) 1 fun (G103 : ZG) => zdR G103 r0 6 20 fun (x52 : ZR) => zeS G103 x52 (w32 ((w32 (4 * a422_1)) + 3)) 10 fun (G104 : ZG) => zlt1 (w32 (a422_1 + 1)) fun (x53 : Int) => P422 x53 G104)) 0 G100
set_option maxHeartbeats 4000000 in
theorem mX6_initD_d (l : Launch) (P : ZP) (G : ZG) (r0 : ZR) {Q : ZG → Prop} (hV : vX6_initD_d r0 G Q) : Met l yX6_init (ws_ yX6_init cX6_init 2 none) rX6_initD_d (zPc_d P G [zrv P r0]) (zQv_d P Q) 50 12222 (zAr P) := by
  refine zMet_d RX6 (plainFor_of_name (by decide)) rfl (zcs_c (zrv_cat _ _) zcs_0) (Nat.le_of_ble_eq_true rfl) (fun p e s m args below meth c ls hC hr hk hn hG hL => ?_)
  unfold vX6_initD_d at hV
  refine z_aload_n_d hC zvr_r rfl (hL.at 0 rfl) dX6_init_0 ?_
  refine z_objD_d hC hV hL.1.1 kOX6_1 ⟨zcs_0, (Nat.le_of_ble_eq_true rfl)⟩ ⟨(Nat.le_of_ble_eq_true rfl), (Nat.le_of_ble_eq_true rfl)⟩ dX6_init_1 (fun hV => ?_)
  refine z_aload_n_d hC zvr_r rfl (hL.at 0 rfl) dX6_init_4 ?_
  refine z_iconst_d hC dX6_init_5 ?_
  refine z_newI_d (t := 0) hC hG rfl (Nat.le_of_ble_eq_true rfl) q223 (inR_lit rfl) (Nat.le_of_ble_eq_true rfl) hV (Nat.le_of_ble_eq_true rfl) (Nat.le_of_ble_eq_true rfl) dX6_init_6 ?_
  intro x1 G1 _ hG hV
  refine z_dPF_d (v := (.inr x1)) hC hG kFX6_7_6 rfl hn rfl (znl_use nlX6_7) nk_6_1 zty_a zvR_r hV dX6_init_8 ?_
  intro G2 _ _ hG hV
  refine z_aload_n_d hC zvr_r rfl (hL.at 0 rfl) dX6_init_11 ?_
  refine z_bipush_d hC rfl dX6_init_12 ?_
  refine z_newI_d (t := 0) hC hG rfl (Nat.le_of_ble_eq_true rfl) q223 (inR_lit rfl) (Nat.le_of_ble_eq_true rfl) hV (Nat.le_of_ble_eq_true rfl) (Nat.le_of_ble_eq_true rfl) dX6_init_14 ?_
  intro x2 G3 _ hG hV
  refine z_dPF_d (v := (.inr x2)) hC hG kFX6_13_6 rfl hn rfl (znl_use nlX6_13) nk_6_2 zty_a zvR_r hV dX6_init_16 ?_
  intro G4 _ _ hG hV
  refine z_aload_n_d hC zvr_r rfl (hL.at 0 rfl) dX6_init_19 ?_
  refine z_bipush_d hC rfl dX6_init_20 ?_
  refine z_newI_d (t := 0) hC hG rfl (Nat.le_of_ble_eq_true rfl) q223 (inR_lit rfl) (Nat.le_of_ble_eq_true rfl) hV (Nat.le_of_ble_eq_true rfl) (Nat.le_of_ble_eq_true rfl) dX6_init_22 ?_
  intro x3 G5 _ hG hV
  refine z_dPF_d (v := (.inr x3)) hC hG kFX6_16_6 rfl hn rfl (znl_use nlX6_16) nk_6_3 zty_a zvR_r hV dX6_init_24 ?_
  intro G6 _ _ hG hV
  refine z_aload_n_d hC zvr_r rfl (hL.at 0 rfl) dX6_init_27 ?_
  refine z_bipush_d hC rfl dX6_init_28 ?_
  refine z_newI_d (t := 0) hC hG rfl (Nat.le_of_ble_eq_true rfl) q223 (inR_lit rfl) (Nat.le_of_ble_eq_true rfl) hV (Nat.le_of_ble_eq_true rfl) (Nat.le_of_ble_eq_true rfl) dX6_init_30 ?_
  intro x4 G7 _ hG hV
  refine z_dPF_d (v := (.inr x4)) hC hG kFX6_19_6 rfl hn rfl (znl_use nlX6_19) nk_6_5 zty_a zvR_r hV dX6_init_32 ?_
  intro G8 _ _ hG hV
  refine z_aload_n_d hC zvr_r rfl (hL.at 0 rfl) dX6_init_35 ?_
  refine z_bipush_d hC rfl dX6_init_36 ?_
  refine z_newI_d (t := 0) hC hG rfl (Nat.le_of_ble_eq_true rfl) q223 (inR_lit rfl) (Nat.le_of_ble_eq_true rfl) hV (Nat.le_of_ble_eq_true rfl) (Nat.le_of_ble_eq_true rfl) dX6_init_38 ?_
  intro x5 G9 _ hG hV
  refine z_dPF_d (v := (.inr x5)) hC hG kFX6_22_6 rfl hn rfl (znl_use nlX6_22) nk_6_6 zty_a zvR_r hV dX6_init_40 ?_
  intro G10 _ _ hG hV
  refine z_aload_n_d hC zvr_r rfl (hL.at 0 rfl) dX6_init_43 ?_
  refine z_bipush_d hC rfl dX6_init_44 ?_
  refine z_newI_d (t := 0) hC hG rfl (Nat.le_of_ble_eq_true rfl) q223 (inR_lit rfl) (Nat.le_of_ble_eq_true rfl) hV (Nat.le_of_ble_eq_true rfl) (Nat.le_of_ble_eq_true rfl) dX6_init_46 ?_
  intro x6 G11 _ hG hV
  refine z_dPF_d (v := (.inr x6)) hC hG kFX6_25_6 rfl hn rfl (znl_use nlX6_25) nk_6_7 zty_a zvR_r hV dX6_init_48 ?_
  intro G12 _ _ hG hV
  refine z_aload_n_d hC zvr_r rfl (hL.at 0 rfl) dX6_init_51 ?_
  refine z_bipush_d hC rfl dX6_init_52 ?_
  refine z_newI_d (t := 0) hC hG rfl (Nat.le_of_ble_eq_true rfl) q223 (inR_lit rfl) (Nat.le_of_ble_eq_true rfl) hV (Nat.le_of_ble_eq_true rfl) (Nat.le_of_ble_eq_true rfl) dX6_init_54 ?_
  intro x7 G13 _ hG hV
  refine z_dPF_d (v := (.inr x7)) hC hG kFX6_28_6 rfl hn rfl (znl_use nlX6_28) nk_6_8 zty_a zvR_r hV dX6_init_56 ?_
  intro G14 _ _ hG hV
  refine z_aload_n_d hC zvr_r rfl (hL.at 0 rfl) dX6_init_59 ?_
  refine z_bipush_d hC rfl dX6_init_60 ?_
  refine z_newI_d (t := 0) hC hG rfl (Nat.le_of_ble_eq_true rfl) q223 (inR_lit rfl) (Nat.le_of_ble_eq_true rfl) hV (Nat.le_of_ble_eq_true rfl) (Nat.le_of_ble_eq_true rfl) dX6_init_62 ?_
  intro x8 G15 _ hG hV
  refine z_dPF_d (v := (.inr x8)) hC hG kFX6_31_6 rfl hn rfl (znl_use nlX6_31) nk_6_10 zty_a zvR_r hV dX6_init_64 ?_
  intro G16 _ _ hG hV
  refine z_aload_n_d hC zvr_r rfl (hL.at 0 rfl) dX6_init_67 ?_
  refine z_bipush_d hC rfl dX6_init_68 ?_
  refine z_newI_d (t := 0) hC hG rfl (Nat.le_of_ble_eq_true rfl) q223 (inR_lit rfl) (Nat.le_of_ble_eq_true rfl) hV (Nat.le_of_ble_eq_true rfl) (Nat.le_of_ble_eq_true rfl) dX6_init_70 ?_
  intro x9 G17 _ hG hV
  refine z_dPF_d (v := (.inr x9)) hC hG kFX6_34_6 rfl hn rfl (znl_use nlX6_34) nk_6_11 zty_a zvR_r hV dX6_init_72 ?_
  intro G18 _ _ hG hV
  refine z_aload_n_d hC zvr_r rfl (hL.at 0 rfl) dX6_init_75 ?_
  refine z_bipush_d hC rfl dX6_init_76 ?_
  refine z_newI_d (t := 0) hC hG rfl (Nat.le_of_ble_eq_true rfl) q223 (inR_lit rfl) (Nat.le_of_ble_eq_true rfl) hV (Nat.le_of_ble_eq_true rfl) (Nat.le_of_ble_eq_true rfl) dX6_init_78 ?_
  intro x10 G19 _ hG hV
  refine z_dPF_d (v := (.inr x10)) hC hG kFX6_37_6 rfl hn rfl (znl_use nlX6_37) nk_6_12 zty_a zvR_r hV dX6_init_80 ?_
  intro G20 _ _ hG hV
  refine z_aload_n_d hC zvr_r rfl (hL.at 0 rfl) dX6_init_83 ?_
  refine z_sipush_d hC rfl dX6_init_84 ?_
  refine z_newI_d (t := 0) hC hG rfl (Nat.le_of_ble_eq_true rfl) q223 (inR_lit rfl) (Nat.le_of_ble_eq_true rfl) hV (Nat.le_of_ble_eq_true rfl) (Nat.le_of_ble_eq_true rfl) dX6_init_87 ?_
  intro x11 G21 _ hG hV
  refine z_dPF_d (v := (.inr x11)) hC hG kFX6_40_6 rfl hn rfl (znl_use nlX6_40) nk_6_13 zty_a zvR_r hV dX6_init_89 ?_
  intro G22 _ _ hG hV
  refine z_aload_n_d hC zvr_r rfl (hL.at 0 rfl) dX6_init_92 ?_
  refine z_bipush_d hC rfl dX6_init_93 ?_
  refine z_newI_d (t := 0) hC hG rfl (Nat.le_of_ble_eq_true rfl) q223 (inR_lit rfl) (Nat.le_of_ble_eq_true rfl) hV (Nat.le_of_ble_eq_true rfl) (Nat.le_of_ble_eq_true rfl) dX6_init_95 ?_
  intro x12 G23 _ hG hV
  refine z_dPF_d (v := (.inr x12)) hC hG kFX6_43_6 rfl hn rfl (znl_use nlX6_43) nk_6_14 zty_a zvR_r hV dX6_init_97 ?_
  intro G24 _ _ hG hV
  refine z_aload_n_d hC zvr_r rfl (hL.at 0 rfl) dX6_init_100 ?_
  refine z_bipush_d hC rfl dX6_init_101 ?_
  refine z_newI_d (t := 0) hC hG rfl (Nat.le_of_ble_eq_true rfl) q223 (inR_lit rfl) (Nat.le_of_ble_eq_true rfl) hV (Nat.le_of_ble_eq_true rfl) (Nat.le_of_ble_eq_true rfl) dX6_init_103 ?_
  intro x13 G25 _ hG hV
  refine z_dPF_d (v := (.inr x13)) hC hG kFX6_46_6 rfl hn rfl (znl_use nlX6_46) nk_6_15 zty_a zvR_r hV dX6_init_105 ?_
  intro G26 _ _ hG hV
  refine z_aload_n_d hC zvr_r rfl (hL.at 0 rfl) dX6_init_108 ?_
  refine z_bipush_d hC rfl dX6_init_109 ?_
  refine z_newI_d (t := 0) hC hG rfl (Nat.le_of_ble_eq_true rfl) q223 (inR_lit rfl) (Nat.le_of_ble_eq_true rfl) hV (Nat.le_of_ble_eq_true rfl) (Nat.le_of_ble_eq_true rfl) dX6_init_111 ?_
  intro x14 G27 _ hG hV
  refine z_dPF_d (v := (.inr x14)) hC hG kFX6_49_6 rfl hn rfl (znl_use nlX6_49) nk_6_16 zty_a zvR_r hV dX6_init_113 ?_
  intro G28 _ _ hG hV
  refine z_aload_n_d hC zvr_r rfl (hL.at 0 rfl) dX6_init_116 ?_
  refine z_bipush_d hC rfl dX6_init_117 ?_
  refine z_newI_d (t := 0) hC hG rfl (Nat.le_of_ble_eq_true rfl) q223 (inR_lit rfl) (Nat.le_of_ble_eq_true rfl) hV (Nat.le_of_ble_eq_true rfl) (Nat.le_of_ble_eq_true rfl) dX6_init_119 ?_
  intro x15 G29 _ hG hV
  refine z_dPF_d (v := (.inr x15)) hC hG kFX6_52_6 rfl hn rfl (znl_use nlX6_52) nk_6_17 zty_a zvR_r hV dX6_init_121 ?_
  intro G30 _ _ hG hV
  refine z_aload_n_d hC zvr_r rfl (hL.at 0 rfl) dX6_init_124 ?_
  refine z_bipush_d hC rfl dX6_init_125 ?_
  refine z_newI_d (t := 1) hC hG rfl (Nat.le_of_ble_eq_true rfl) q1972 (inR_lit rfl) (Nat.le_of_ble_eq_true rfl) hV (Nat.le_of_ble_eq_true rfl) (Nat.le_of_ble_eq_true rfl) dX6_init_127 ?_
  intro x16 G31 _ hG hV
  refine z_dPF_d (v := (.inr x16)) hC hG kFX6_55_6 rfl hn rfl (znl_use nlX6_55) nk_6_18 zty_a zvR_r hV dX6_init_129 ?_
  intro G32 _ _ hG hV
  refine z_aload_n_d hC zvr_r rfl (hL.at 0 rfl) dX6_init_132 ?_
  refine z_bipush_d hC rfl dX6_init_133 ?_
  refine z_newI_d (t := 1) hC hG rfl (Nat.le_of_ble_eq_true rfl) q1972 (inR_lit rfl) (Nat.le_of_ble_eq_true rfl) hV (Nat.le_of_ble_eq_true rfl) (Nat.le_of_ble_eq_true rfl) dX6_init_135 ?_
  intro x17 G33 _ hG hV
  refine z_dPF_d (v := (.inr x17)) hC hG kFX6_59_6 rfl hn rfl (znl_use nlX6_59) nk_6_19 zty_a zvR_r hV dX6_init_137 ?_
  intro G34 _ _ hG hV
  refine z_aload_n_d hC zvr_r rfl (hL.at 0 rfl) dX6_init_140 ?_
  refine z_bipush_d hC rfl dX6_init_141 ?_
  refine z_newI_d (t := 0) hC hG rfl (Nat.le_of_ble_eq_true rfl) q223 (inR_lit rfl) (Nat.le_of_ble_eq_true rfl) hV (Nat.le_of_ble_eq_true rfl) (Nat.le_of_ble_eq_true rfl) dX6_init_143 ?_
  intro x18 G35 _ hG hV
  refine z_dPF_d (v := (.inr x18)) hC hG kFX6_62_6 rfl hn rfl (znl_use nlX6_62) nk_6_20 zty_a zvR_r hV dX6_init_145 ?_
  intro G36 _ _ hG hV
  refine z_aload_n_d hC zvr_r rfl (hL.at 0 rfl) dX6_init_148 ?_
  refine z_iconst_d hC dX6_init_149 ?_
  refine z_newI_d (t := 0) hC hG rfl (Nat.le_of_ble_eq_true rfl) q223 (inR_lit rfl) (Nat.le_of_ble_eq_true rfl) hV (Nat.le_of_ble_eq_true rfl) (Nat.le_of_ble_eq_true rfl) dX6_init_150 ?_
  intro x19 G37 _ hG hV
  refine z_dPF_d (v := (.inr x19)) hC hG kFX6_65_6 rfl hn rfl (znl_use nlX6_65) nk_6_22 zty_a zvR_r hV dX6_init_152 ?_
  intro G38 _ _ hG hV
  refine z_aload_n_d hC zvr_r rfl (hL.at 0 rfl) dX6_init_155 ?_
  refine z_bipush_d hC rfl dX6_init_156 ?_
  refine z_newI_d (t := 0) hC hG rfl (Nat.le_of_ble_eq_true rfl) q223 (inR_lit rfl) (Nat.le_of_ble_eq_true rfl) hV (Nat.le_of_ble_eq_true rfl) (Nat.le_of_ble_eq_true rfl) dX6_init_158 ?_
  intro x20 G39 _ hG hV
  refine z_dPF_d (v := (.inr x20)) hC hG kFX6_68_6 rfl hn rfl (znl_use nlX6_68) nk_6_24 zty_a zvR_r hV dX6_init_160 ?_
  intro G40 _ _ hG hV
  refine z_aload_n_d hC zvr_r rfl (hL.at 0 rfl) dX6_init_163 ?_
  refine z_bipush_d hC rfl dX6_init_164 ?_
  refine z_newI_d (t := 0) hC hG rfl (Nat.le_of_ble_eq_true rfl) q223 (inR_lit rfl) (Nat.le_of_ble_eq_true rfl) hV (Nat.le_of_ble_eq_true rfl) (Nat.le_of_ble_eq_true rfl) dX6_init_166 ?_
  intro x21 G41 _ hG hV
  refine z_dPF_d (v := (.inr x21)) hC hG kFX6_71_6 rfl hn rfl (znl_use nlX6_71) nk_6_25 zty_a zvR_r hV dX6_init_168 ?_
  intro G42 _ _ hG hV
  refine z_aload_n_d hC zvr_r rfl (hL.at 0 rfl) dX6_init_171 ?_
  refine z_bipush_d hC rfl dX6_init_172 ?_
  refine z_newI_d (t := 0) hC hG rfl (Nat.le_of_ble_eq_true rfl) q223 (inR_lit rfl) (Nat.le_of_ble_eq_true rfl) hV (Nat.le_of_ble_eq_true rfl) (Nat.le_of_ble_eq_true rfl) dX6_init_174 ?_
  intro x22 G43 _ hG hV
  refine z_dPF_d (v := (.inr x22)) hC hG kFX6_74_6 rfl hn rfl (znl_use nlX6_74) nk_6_26 zty_a zvR_r hV dX6_init_176 ?_
  intro G44 _ _ hG hV
  refine z_aload_n_d hC zvr_r rfl (hL.at 0 rfl) dX6_init_179 ?_
  refine z_bipush_d hC rfl dX6_init_180 ?_
  refine z_newI_d (t := 0) hC hG rfl (Nat.le_of_ble_eq_true rfl) q223 (inR_lit rfl) (Nat.le_of_ble_eq_true rfl) hV (Nat.le_of_ble_eq_true rfl) (Nat.le_of_ble_eq_true rfl) dX6_init_182 ?_
  intro x23 G45 _ hG hV
  refine z_dPF_d (v := (.inr x23)) hC hG kFX6_77_6 rfl hn rfl (znl_use nlX6_77) nk_6_27 zty_a zvR_r hV dX6_init_184 ?_
  intro G46 _ _ hG hV
  refine z_aload_n_d hC zvr_r rfl (hL.at 0 rfl) dX6_init_187 ?_
  refine z_bipush_d hC rfl dX6_init_188 ?_
  refine z_newI_d (t := 0) hC hG rfl (Nat.le_of_ble_eq_true rfl) q223 (inR_lit rfl) (Nat.le_of_ble_eq_true rfl) hV (Nat.le_of_ble_eq_true rfl) (Nat.le_of_ble_eq_true rfl) dX6_init_190 ?_
  intro x24 G47 _ hG hV
  refine z_dPF_d (v := (.inr x24)) hC hG kFX6_80_6 rfl hn rfl (znl_use nlX6_80) nk_6_28 zty_a zvR_r hV dX6_init_192 ?_
  intro G48 _ _ hG hV
  refine z_aload_n_d hC zvr_r rfl (hL.at 0 rfl) dX6_init_195 ?_
  refine z_bipush_d hC rfl dX6_init_196 ?_
  refine z_newI_d (t := 0) hC hG rfl (Nat.le_of_ble_eq_true rfl) q223 (inR_lit rfl) (Nat.le_of_ble_eq_true rfl) hV (Nat.le_of_ble_eq_true rfl) (Nat.le_of_ble_eq_true rfl) dX6_init_198 ?_
  intro x25 G49 _ hG hV
  refine z_dPF_d (v := (.inr x25)) hC hG kFX6_83_6 rfl hn rfl (znl_use nlX6_83) nk_6_29 zty_a zvR_r hV dX6_init_200 ?_
  intro G50 _ _ hG hV
  refine z_aload_n_d hC zvr_r rfl (hL.at 0 rfl) dX6_init_203 ?_
  refine z_sipush_d hC rfl dX6_init_204 ?_
  refine z_newI_d (t := 0) hC hG rfl (Nat.le_of_ble_eq_true rfl) q223 (inR_lit rfl) (Nat.le_of_ble_eq_true rfl) hV (Nat.le_of_ble_eq_true rfl) (Nat.le_of_ble_eq_true rfl) dX6_init_207 ?_
  intro x26 G51 _ hG hV
  refine z_dPF_d (v := (.inr x26)) hC hG kFX6_86_6 rfl hn rfl (znl_use nlX6_86) nk_6_30 zty_a zvR_r hV dX6_init_209 ?_
  intro G52 _ _ hG hV
  refine z_aload_n_d hC zvr_r rfl (hL.at 0 rfl) dX6_init_212 ?_
  refine z_sipush_d hC rfl dX6_init_213 ?_
  refine z_newI_d (t := 0) hC hG rfl (Nat.le_of_ble_eq_true rfl) q223 (inR_lit rfl) (Nat.le_of_ble_eq_true rfl) hV (Nat.le_of_ble_eq_true rfl) (Nat.le_of_ble_eq_true rfl) dX6_init_216 ?_
  intro x27 G53 _ hG hV
  refine z_dPF_d (v := (.inr x27)) hC hG kFX6_89_6 rfl hn rfl (znl_use nlX6_89) nk_6_31 zty_a zvR_r hV dX6_init_218 ?_
  intro G54 _ _ hG hV
  refine z_aload_n_d hC zvr_r rfl (hL.at 0 rfl) dX6_init_221 ?_
  refine z_sipush_d hC rfl dX6_init_222 ?_
  refine z_newI_d (t := 0) hC hG rfl (Nat.le_of_ble_eq_true rfl) q223 (inR_lit rfl) (Nat.le_of_ble_eq_true rfl) hV (Nat.le_of_ble_eq_true rfl) (Nat.le_of_ble_eq_true rfl) dX6_init_225 ?_
  intro x28 G55 _ hG hV
  refine z_dPF_d (v := (.inr x28)) hC hG kFX6_92_6 rfl hn rfl (znl_use nlX6_92) nk_6_32 zty_a zvR_r hV dX6_init_227 ?_
  intro G56 _ _ hG hV
  refine z_aload_n_d hC zvr_r rfl (hL.at 0 rfl) dX6_init_230 ?_
  refine z_sipush_d hC rfl dX6_init_231 ?_
  refine z_newI_d (t := 0) hC hG rfl (Nat.le_of_ble_eq_true rfl) q223 (inR_lit rfl) (Nat.le_of_ble_eq_true rfl) hV (Nat.le_of_ble_eq_true rfl) (Nat.le_of_ble_eq_true rfl) dX6_init_234 ?_
  intro x29 G57 _ hG hV
  refine z_dPF_d (v := (.inr x29)) hC hG kFX6_95_6 rfl hn rfl (znl_use nlX6_95) nk_6_33 zty_a zvR_r hV dX6_init_236 ?_
  intro G58 _ _ hG hV
  refine z_aload_n_d hC zvr_r rfl (hL.at 0 rfl) dX6_init_239 ?_
  refine z_bipush_d hC rfl dX6_init_240 ?_
  refine z_newI_d (t := 0) hC hG rfl (Nat.le_of_ble_eq_true rfl) q223 (inR_lit rfl) (Nat.le_of_ble_eq_true rfl) hV (Nat.le_of_ble_eq_true rfl) (Nat.le_of_ble_eq_true rfl) dX6_init_242 ?_
  intro x30 G59 _ hG hV
  refine z_dPF_d (v := (.inr x30)) hC hG kFX6_98_6 rfl hn rfl (znl_use nlX6_98) nk_6_35 zty_a zvR_r hV dX6_init_244 ?_
  intro G60 _ _ hG hV
  refine z_aload_n_d hC zvr_r rfl (hL.at 0 rfl) dX6_init_247 ?_
  refine z_bipush_d hC rfl dX6_init_248 ?_
  refine z_newI_d (t := 0) hC hG rfl (Nat.le_of_ble_eq_true rfl) q223 (inR_lit rfl) (Nat.le_of_ble_eq_true rfl) hV (Nat.le_of_ble_eq_true rfl) (Nat.le_of_ble_eq_true rfl) dX6_init_250 ?_
  intro x31 G61 _ hG hV
  refine z_dPF_d (v := (.inr x31)) hC hG kFX6_101_6 rfl hn rfl (znl_use nlX6_101) nk_6_36 zty_a zvR_r hV dX6_init_252 ?_
  intro G62 _ _ hG hV
  refine z_aload_n_d hC zvr_r rfl (hL.at 0 rfl) dX6_init_255 ?_
  refine z_bipush_d hC rfl dX6_init_256 ?_
  refine z_newI_d (t := 0) hC hG rfl (Nat.le_of_ble_eq_true rfl) q223 (inR_lit rfl) (Nat.le_of_ble_eq_true rfl) hV (Nat.le_of_ble_eq_true rfl) (Nat.le_of_ble_eq_true rfl) dX6_init_258 ?_
  intro x32 G63 _ hG hV
  refine z_dPF_d (v := (.inr x32)) hC hG kFX6_104_6 rfl hn rfl (znl_use nlX6_104) nk_6_37 zty_a zvR_r hV dX6_init_260 ?_
  intro G64 _ _ hG hV
  refine z_aload_n_d hC zvr_r rfl (hL.at 0 rfl) dX6_init_263 ?_
  refine z_bipush_d hC rfl dX6_init_264 ?_
  refine z_newI_d (t := 0) hC hG rfl (Nat.le_of_ble_eq_true rfl) q223 (inR_lit rfl) (Nat.le_of_ble_eq_true rfl) hV (Nat.le_of_ble_eq_true rfl) (Nat.le_of_ble_eq_true rfl) dX6_init_266 ?_
  intro x33 G65 _ hG hV
  refine z_dPF_d (v := (.inr x33)) hC hG kFX6_107_6 rfl hn rfl (znl_use nlX6_107) nk_6_39 zty_a zvR_r hV dX6_init_268 ?_
  intro G66 _ _ hG hV
  refine z_aload_n_d hC zvr_r rfl (hL.at 0 rfl) dX6_init_271 ?_
  refine z_bipush_d hC rfl dX6_init_272 ?_
  refine z_newI_d (t := 0) hC hG rfl (Nat.le_of_ble_eq_true rfl) q223 (inR_lit rfl) (Nat.le_of_ble_eq_true rfl) hV (Nat.le_of_ble_eq_true rfl) (Nat.le_of_ble_eq_true rfl) dX6_init_274 ?_
  intro x34 G67 _ hG hV
  refine z_dPF_d (v := (.inr x34)) hC hG kFX6_110_6 rfl hn rfl (znl_use nlX6_110) nk_6_45 zty_a zvR_r hV dX6_init_276 ?_
  intro G68 _ _ hG hV
  refine z_aload_n_d hC zvr_r rfl (hL.at 0 rfl) dX6_init_279 ?_
  refine z_iconst_d hC dX6_init_280 ?_
  refine z_newI_d (t := 0) hC hG rfl (Nat.le_of_ble_eq_true rfl) q223 (inR_lit rfl) (Nat.le_of_ble_eq_true rfl) hV (Nat.le_of_ble_eq_true rfl) (Nat.le_of_ble_eq_true rfl) dX6_init_281 ?_
  intro x35 G69 _ hG hV
  refine z_dPF_d (v := (.inr x35)) hC hG kFX6_113_6 rfl hn rfl (znl_use nlX6_113) nk_6_46 zty_a zvR_r hV dX6_init_283 ?_
  intro G70 _ _ hG hV
  refine z_aload_n_d hC zvr_r rfl (hL.at 0 rfl) dX6_init_286 ?_
  refine z_sipush_d hC rfl dX6_init_287 ?_
  refine z_newI_d (t := 0) hC hG rfl (Nat.le_of_ble_eq_true rfl) q223 (inR_lit rfl) (Nat.le_of_ble_eq_true rfl) hV (Nat.le_of_ble_eq_true rfl) (Nat.le_of_ble_eq_true rfl) dX6_init_290 ?_
  intro x36 G71 _ hG hV
  refine z_dPF_d (v := (.inr x36)) hC hG kFX6_116_6 rfl hn rfl (znl_use nlX6_116) nk_6_49 zty_a zvR_r hV dX6_init_292 ?_
  intro G72 _ _ hG hV
  refine z_aload_n_d hC zvr_r rfl (hL.at 0 rfl) dX6_init_295 ?_
  refine z_sipush_d hC rfl dX6_init_296 ?_
  refine z_newI_d (t := 0) hC hG rfl (Nat.le_of_ble_eq_true rfl) q223 (inR_lit rfl) (Nat.le_of_ble_eq_true rfl) hV (Nat.le_of_ble_eq_true rfl) (Nat.le_of_ble_eq_true rfl) dX6_init_299 ?_
  intro x37 G73 _ hG hV
  refine z_dPF_d (v := (.inr x37)) hC hG kFX6_119_6 rfl hn rfl (znl_use nlX6_119) nk_6_50 zty_a zvR_r hV dX6_init_301 ?_
  intro G74 _ _ hG hV
  refine z_aload_n_d hC zvr_r rfl (hL.at 0 rfl) dX6_init_304 ?_
  refine z_sipush_d hC rfl dX6_init_305 ?_
  refine z_newI_d (t := 0) hC hG rfl (Nat.le_of_ble_eq_true rfl) q223 (inR_lit rfl) (Nat.le_of_ble_eq_true rfl) hV (Nat.le_of_ble_eq_true rfl) (Nat.le_of_ble_eq_true rfl) dX6_init_308 ?_
  intro x38 G75 _ hG hV
  refine z_dPF_d (v := (.inr x38)) hC hG kFX6_122_6 rfl hn rfl (znl_use nlX6_122) nk_6_51 zty_a zvR_r hV dX6_init_310 ?_
  intro G76 _ _ hG hV
  refine z_aload_n_d hC zvr_r rfl (hL.at 0 rfl) dX6_init_313 ?_
  refine z_bipush_d hC rfl dX6_init_314 ?_
  refine z_newI_d (t := 0) hC hG rfl (Nat.le_of_ble_eq_true rfl) q223 (inR_lit rfl) (Nat.le_of_ble_eq_true rfl) hV (Nat.le_of_ble_eq_true rfl) (Nat.le_of_ble_eq_true rfl) dX6_init_316 ?_
  intro x39 G77 _ hG hV
  refine z_dPF_d (v := (.inr x39)) hC hG kFX6_125_6 rfl hn rfl (znl_use nlX6_125) nk_6_53 zty_a zvR_r hV dX6_init_318 ?_
  intro G78 _ _ hG hV
  refine z_aload_n_d hC zvr_r rfl (hL.at 0 rfl) dX6_init_321 ?_
  refine z_sipush_d hC rfl dX6_init_322 ?_
  refine z_newI_d (t := 0) hC hG rfl (Nat.le_of_ble_eq_true rfl) q223 (inR_lit rfl) (Nat.le_of_ble_eq_true rfl) hV (Nat.le_of_ble_eq_true rfl) (Nat.le_of_ble_eq_true rfl) dX6_init_325 ?_
  intro x40 G79 _ hG hV
  refine z_dPF_d (v := (.inr x40)) hC hG kFX6_128_6 rfl hn rfl (znl_use nlX6_128) nk_6_57 zty_a zvR_r hV dX6_init_327 ?_
  intro G80 _ _ hG hV
  refine z_aload_n_d hC zvr_r rfl (hL.at 0 rfl) dX6_init_330 ?_
  refine z_sipush_d hC rfl dX6_init_331 ?_
  refine z_newI_d (t := 0) hC hG rfl (Nat.le_of_ble_eq_true rfl) q223 (inR_lit rfl) (Nat.le_of_ble_eq_true rfl) hV (Nat.le_of_ble_eq_true rfl) (Nat.le_of_ble_eq_true rfl) dX6_init_334 ?_
  intro x41 G81 _ hG hV
  refine z_dPF_d (v := (.inr x41)) hC hG kFX6_131_6 rfl hn rfl (znl_use nlX6_131) nk_6_58 zty_a zvR_r hV dX6_init_336 ?_
  intro G82 _ _ hG hV
  refine z_aload_n_d hC zvr_r rfl (hL.at 0 rfl) dX6_init_339 ?_
  refine z_sipush_d hC rfl dX6_init_340 ?_
  refine z_newI_d (t := 0) hC hG rfl (Nat.le_of_ble_eq_true rfl) q223 (inR_lit rfl) (Nat.le_of_ble_eq_true rfl) hV (Nat.le_of_ble_eq_true rfl) (Nat.le_of_ble_eq_true rfl) dX6_init_343 ?_
  intro x42 G83 _ hG hV
  refine z_dPF_d (v := (.inr x42)) hC hG kFX6_134_6 rfl hn rfl (znl_use nlX6_134) nk_6_59 zty_a zvR_r hV dX6_init_345 ?_
  intro G84 _ _ hG hV
  refine z_aload_n_d hC zvr_r rfl (hL.at 0 rfl) dX6_init_348 ?_
  refine z_sipush_d hC rfl dX6_init_349 ?_
  refine z_newI_d (t := 0) hC hG rfl (Nat.le_of_ble_eq_true rfl) q223 (inR_lit rfl) (Nat.le_of_ble_eq_true rfl) hV (Nat.le_of_ble_eq_true rfl) (Nat.le_of_ble_eq_true rfl) dX6_init_352 ?_
  intro x43 G85 _ hG hV
  refine z_dPF_d (v := (.inr x43)) hC hG kFX6_137_6 rfl hn rfl (znl_use nlX6_137) nk_6_60 zty_a zvR_r hV dX6_init_354 ?_
  intro G86 _ _ hG hV
  refine z_aload_n_d hC zvr_r rfl (hL.at 0 rfl) dX6_init_357 ?_
  refine z_sipush_d hC rfl dX6_init_358 ?_
  refine z_newI_d (t := 0) hC hG rfl (Nat.le_of_ble_eq_true rfl) q223 (inR_lit rfl) (Nat.le_of_ble_eq_true rfl) hV (Nat.le_of_ble_eq_true rfl) (Nat.le_of_ble_eq_true rfl) dX6_init_361 ?_
  intro x44 G87 _ hG hV
  refine z_dPF_d (v := (.inr x44)) hC hG kFX6_140_6 rfl hn rfl (znl_use nlX6_140) nk_6_61 zty_a zvR_r hV dX6_init_363 ?_
  intro G88 _ _ hG hV
  refine z_aload_n_d hC zvr_r rfl (hL.at 0 rfl) dX6_init_366 ?_
  refine z_sipush_d hC rfl dX6_init_367 ?_
  refine z_newI_d (t := 0) hC hG rfl (Nat.le_of_ble_eq_true rfl) q223 (inR_lit rfl) (Nat.le_of_ble_eq_true rfl) hV (Nat.le_of_ble_eq_true rfl) (Nat.le_of_ble_eq_true rfl) dX6_init_370 ?_
  intro x45 G89 _ hG hV
  refine z_dPF_d (v := (.inr x45)) hC hG kFX6_143_6 rfl hn rfl (znl_use nlX6_143) nk_6_62 zty_a zvR_r hV dX6_init_372 ?_
  intro G90 _ _ hG hV
  refine z_aload_n_d hC zvr_r rfl (hL.at 0 rfl) dX6_init_375 ?_
  refine z_sipush_d hC rfl dX6_init_376 ?_
  refine z_newI_d (t := 0) hC hG rfl (Nat.le_of_ble_eq_true rfl) q223 (inR_lit rfl) (Nat.le_of_ble_eq_true rfl) hV (Nat.le_of_ble_eq_true rfl) (Nat.le_of_ble_eq_true rfl) dX6_init_379 ?_
  intro x46 G91 _ hG hV
  refine z_dPF_d (v := (.inr x46)) hC hG kFX6_146_6 rfl hn rfl (znl_use nlX6_146) nk_6_63 zty_a zvR_r hV dX6_init_381 ?_
  intro G92 _ _ hG hV
  refine z_aload_n_d hC zvr_r rfl (hL.at 0 rfl) dX6_init_384 ?_
  refine z_sipush_d hC rfl dX6_init_385 ?_
  refine z_newI_d (t := 0) hC hG rfl (Nat.le_of_ble_eq_true rfl) q223 (inR_lit rfl) (Nat.le_of_ble_eq_true rfl) hV (Nat.le_of_ble_eq_true rfl) (Nat.le_of_ble_eq_true rfl) dX6_init_388 ?_
  intro x47 G93 _ hG hV
  refine z_dPF_d (v := (.inr x47)) hC hG kFX6_149_6 rfl hn rfl (znl_use nlX6_149) nk_6_64 zty_a zvR_r hV dX6_init_390 ?_
  intro G94 _ _ hG hV
  refine z_aload_n_d hC zvr_r rfl (hL.at 0 rfl) dX6_init_393 ?_
  refine z_sipush_d hC rfl dX6_init_394 ?_
  refine z_newI_d (t := 0) hC hG rfl (Nat.le_of_ble_eq_true rfl) q223 (inR_lit rfl) (Nat.le_of_ble_eq_true rfl) hV (Nat.le_of_ble_eq_true rfl) (Nat.le_of_ble_eq_true rfl) dX6_init_397 ?_
  intro x48 G95 _ hG hV
  refine z_dPF_d (v := (.inr x48)) hC hG kFX6_152_6 rfl hn rfl (znl_use nlX6_152) nk_6_65 zty_a zvR_r hV dX6_init_399 ?_
  intro G96 _ _ hG hV
  refine z_aload_n_d hC zvr_r rfl (hL.at 0 rfl) dX6_init_402 ?_
  refine z_sipush_d hC rfl dX6_init_403 ?_
  refine z_newI_d (t := 0) hC hG rfl (Nat.le_of_ble_eq_true rfl) q223 (inR_lit rfl) (Nat.le_of_ble_eq_true rfl) hV (Nat.le_of_ble_eq_true rfl) (Nat.le_of_ble_eq_true rfl) dX6_init_406 ?_
  intro x49 G97 _ hG hV
  refine z_dPF_d (v := (.inr x49)) hC hG kFX6_155_6 rfl hn rfl (znl_use nlX6_155) nk_6_66 zty_a zvR_r hV dX6_init_408 ?_
  intro G98 _ _ hG hV
  refine z_aload_n_d hC zvr_r rfl (hL.at 0 rfl) dX6_init_411 ?_
  refine z_sipush_d hC rfl dX6_init_412 ?_
  refine z_newI_d (t := 0) hC hG rfl (Nat.le_of_ble_eq_true rfl) q223 (inR_lit rfl) (Nat.le_of_ble_eq_true rfl) hV (Nat.le_of_ble_eq_true rfl) (Nat.le_of_ble_eq_true rfl) dX6_init_415 ?_
  intro x50 G99 _ hG hV
  refine z_dPF_d (v := (.inr x50)) hC hG kFX6_158_6 rfl hn rfl (znl_use nlX6_158) nk_6_68 zty_a zvR_r hV dX6_init_417 ?_
  intro G100 _ _ hG hV
  refine z_iconst_d hC dX6_init_420 ?_
  refine z_istore_n_d (lv' := [(1, .int (zI 0)), (0, zrv P r0)]) hC rfl hL (by decide) rfl dX6_init_421 (fun ls hL => ?_)
  refine zl2_use hV (fun (a422_1 : Int) (K422 : ZG) => inR a422_1 → ∀ (H : Heap) (locs : List Loc), zS_d P s K422 H locs → ∀ (ls : Array Slot), zL ls 2 [(0, zrv P r0), (1, .int (zI a422_1))] → W p l e rX6_initD_d s m args below meth c H locs 50 12222 (MQ below (zQv_d P Q) args s 50 12222 (zAr P)) (F0 m 422 ls [])) ?_ (inR_lit rfl) _ _ hG _ (hL.sub [1, 0] rfl)
  intro P422 a422_1 K422 hP422 hV ha422_1 H locs hG ls hL
  refine z_iload_n_d hC rfl (hL.at 1 rfl) dX6_init_422 ?_
  refine z_iconst_d hC dX6_init_423 ?_
  refine z_icmp_ge_d (tgt := 454) hC ha422_1 (inR_lit rfl) hV dX6_init_424 (by decide) ?_ ?_
  · intro hV
    refine z_aload_n_d hC zvr_r rfl (hL.at 0 rfl) dX6_init_454 ?_
    refine z_iconst_d hC dX6_init_455 ?_
    refine z_dP_d (v := (.inl (-1))) hC hG kFX6_161_6 rfl nk_6_54 zty_i (zvR_i (inR_lit rfl)) hV dX6_init_456 ?_
    intro G101 _ _ hG hV
    refine z_aload_n_d hC zvr_r rfl (hL.at 0 rfl) dX6_init_459 ?_
    refine z_iconst_d hC dX6_init_460 ?_
    refine z_dP_d (v := (.inl (-1))) hC hG kFX6_165_6 rfl nk_6_52 zty_i (zvR_i (inR_lit rfl)) hV dX6_init_461 ?_
    intro G102 _ _ hG hV
    exact z_vret_d hC hG hr hk hV (Nat.le_of_ble_eq_true rfl) (Nat.le_of_ble_eq_true rfl) dX6_init_464
  · intro hV
    refine z_aload_n_d hC zvr_r rfl (hL.at 0 rfl) dX6_init_427 ?_
    refine z_dR_d hC hG kFX6_62_6 hV dX6_init_428 ?_
    intro x51 hV
    refine z_iconst_d hC dX6_init_431 ?_
    refine z_iload_n_d hC rfl (hL.at 1 rfl) dX6_init_432 ?_
    refine z_imul_d hC dX6_init_433 ?_
    refine z_iconst_d hC dX6_init_434 ?_
    refine z_east_d hC hG (inR_w _) (inR_lit rfl) hV dX6_init_435 ?_
    intro G103 _ _ hG hV
    refine z_aload_n_d hC zvr_r rfl (hL.at 0 rfl) dX6_init_436 ?_
    refine z_dR_d hC hG kFX6_62_6 hV dX6_init_437 ?_
    intro x52 hV
    refine z_iconst_d hC dX6_init_440 ?_
    refine z_iload_n_d hC rfl (hL.at 1 rfl) dX6_init_441 ?_
    refine z_imul_d hC dX6_init_442 ?_
    refine z_iconst_d hC dX6_init_443 ?_
    refine z_iadd_d hC dX6_init_444 ?_
    refine z_bipush_d hC rfl dX6_init_445 ?_
    refine z_east_d hC hG (inR_w _) (inR_lit rfl) hV dX6_init_447 ?_
    intro G104 _ _ hG hV
    refine z_iincV_d (fun x53 => [(1, .int (zI x53)), (0, zrv P r0)]) hC hL (k := 1) rfl (by decide) (fun _ => rfl) hV dX6_init_448 ?_
    intro x53 hx53 hV ls hL
    refine z_goto_d (tgt := 422) hC dX6_init_451 (by decide) ?_
    exact hP422 x53 G104 hV hx53 _ _ hG _ (hL.sub [1, 0] rfl)
def vLaw0_d (G : ZG) (Q : ZR → ZR → ZR → ZG → Prop) : Prop := znw G (.inr (.inr (1, zdf 1))) fun (x1 : ZR) (G1 : ZG) => znn x1 ∧ vX1_initD_d x1 1400 40000 G1 fun (G2 : ZG) => znw G2 (.inr (.inr (6, zdf 6))) fun (x3 : ZR) (G3 : ZG) => znn x3 ∧ vX6_initD_d x3 G3 fun (G4 : ZG) => znI0 G4 2 1 1 fun (x5 : ZR) (G5 : ZG) => Q x1 x3 x5 G5
set_option maxHeartbeats 16000000 in
theorem mLaw0_d {p : Program} {l : Launch} {e : Env} {s : State} {m : MethodId} {args : Array Value} {below : List Frame} {meth : Method} {c : Code} {P : ZP} {Z : State → Prop} {b : Nat} {Q : ZR → ZR → ZR → ZG → Prop} (hC : zCx_d P p m c cL_law 7 s args RX0)
    (hnext : ∀ (r1 r2 r3 : ZR) (G1 : ZG) (H1 : Heap) (locs1 : List Loc) (ls : Array Slot), zS_d P s G1 H1 locs1 → zL ls 7 [(0, .ref b), (1, zrv P r1), (2, zrv P r2), (3, zrv P r3), (4, .int (zI 0))] → Q r1 r2 r3 G1 → W p l e ({ frames := 8192, cells := 1200384, slots := 5486762, locals := 104096 } : Room) s m args below meth c H1 locs1 1453 52304 Z (F0 m 23 ls []))
    {G : ZG} {H : Heap} {locs : List Loc} {ls : Array Slot} (hG : zS_d P s G H locs) (hL : zL ls 7 [(0, .ref b)]) (hV : vLaw0_d G Q) : W p l e ({ frames := 8192, cells := 1200384, slots := 5486762, locals := 104096 } : Room) s m args below meth c H locs 0 0 Z (F0 m 0 ls []) := by
  unfold vLaw0_d at hV
  refine z_new_d (ci := 1) (n := 12) hC hG (Nat.le_of_ble_eq_true rfl) (Nat.le_of_ble_eq_true rfl) rfl q137 q138 q96 hV (Nat.le_of_ble_eq_true rfl) (Nat.le_of_ble_eq_true rfl) dL_law_0 ?_
  intro x1 G1 _ hG hV
  refine z_dup_d hC (zrv_cat _ _) dL_law_3 ?_
  obtain ⟨hO2, hV⟩ := hV
  refine z_call_v_d hG (zrunI_d hC hG hO2 (mX1_initD_d l P G1 1400 40000 x1 hV) kIX0_97 rfl rfl rfl ⟨(Nat.le_of_ble_eq_true rfl), (Nat.le_of_ble_eq_true rfl)⟩ ⟨(Nat.le_of_ble_eq_true rfl), (Nat.le_of_ble_eq_true rfl)⟩ rfl ⟨(zcs_c (zrv_cat _ _) zcs_0), (Nat.le_of_ble_eq_true rfl)⟩ hL.1.1 dL_law_4) ?_
  rintro G2 _ _ hV hG
  refine z_astore_n_d (lv' := [(1, zrv P x1), (0, .ref b)]) hC zvr_r rfl hL (by decide) rfl dL_law_7 (fun ls hL => ?_)
  refine z_new_d (ci := 6) (n := 69) hC hG (Nat.le_of_ble_eq_true rfl) (Nat.le_of_ble_eq_true rfl) rfl q1758 q1759 q108 hV (Nat.le_of_ble_eq_true rfl) (Nat.le_of_ble_eq_true rfl) dL_law_8 ?_
  intro x3 G3 _ hG hV
  refine z_dup_d hC (zrv_cat _ _) dL_law_11 ?_
  obtain ⟨hO4, hV⟩ := hV
  refine z_call_v_d hG (zrunI_d hC hG hO4 (mX6_initD_d l P G3 x3 hV) kIX0_100 rfl rfl rfl ⟨(Nat.le_of_ble_eq_true rfl), (Nat.le_of_ble_eq_true rfl)⟩ ⟨(Nat.le_of_ble_eq_true rfl), (Nat.le_of_ble_eq_true rfl)⟩ rfl ⟨(zcs_c (zrv_cat _ _) zcs_0), (Nat.le_of_ble_eq_true rfl)⟩ hL.1.1 dL_law_12) ?_
  rintro G4 _ _ hV hG
  refine z_astore_n_d (lv' := [(2, zrv P x3), (1, zrv P x1), (0, .ref b)]) hC zvr_r rfl hL (by decide) rfl dL_law_15 (fun ls hL => ?_)
  refine z_iconst_d hC dL_law_16 ?_
  refine z_newI_d (t := 2) hC hG rfl (Nat.le_of_ble_eq_true rfl) q2283 (inR_lit rfl) (Nat.le_of_ble_eq_true rfl) hV (Nat.le_of_ble_eq_true rfl) (Nat.le_of_ble_eq_true rfl) dL_law_17 ?_
  intro x5 G5 _ hG hV
  refine z_astore_n_d (lv' := [(3, zrv P x5), (2, zrv P x3), (1, zrv P x1), (0, .ref b)]) hC zvr_r rfl hL (by decide) rfl dL_law_19 (fun ls hL => ?_)
  refine z_iconst_d hC dL_law_20 ?_
  refine z_istore_d (lv' := [(4, .int (zI 0)), (3, zrv P x5), (2, zrv P x3), (1, zrv P x1), (0, .ref b)]) hC hL (by decide) rfl dL_law_21 (fun ls hL => ?_)
  exact hnext _ _ _ _ _ _ _ hG (hL.sub [4, 3, 2, 1, 0] rfl) hV
