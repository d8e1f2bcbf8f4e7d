set_option maxRecDepth 100000
abbrev rX0_constructor : Room := { frames := 10, cells := 5, slots := 121, locals := 224 }
def vX0_constructor (p0 : Int) (p1 : Int) (p2 : Int) (p3 : Int) (p4 : Int) (G : ZG) (Q : Int → ZG → Prop) : Prop := vX1_constructor p0 p1 p2 p3 p4 G (fun k G1 => (k = 0 ∧ Q 1 G1) ∨ (k = 1 ∧ Q 2 G1) ∨ (k = 2 ∧ Q 3 G1)) (fun r G1 => Q 0 (zss G1 6 0 0 r))
set_option maxHeartbeats 4000000 in
theorem mX0_constructor (l : Launch) (P : ZP) (G : ZG) (p0 : Int) (hp0 : inR p0) (p1 : Int) (hp1 : inR p1) (p2 : Int) (hp2 : inR p2) (p3 : Int) (hp3 : inR p3) (p4 : Int) (hp4 : inR p4) {Q : Int → ZG → Prop} (hst : l.stackTraces = false) (hV : vX0_constructor p0 p1 p2 p3 p4 G Q) : Met l yX0_constructor (wsW_ yX0_constructor cX0_constructor 8 (some .int) [(0, 16, 19, 13), (0, 16, 23, 15), (0, 16, 27, 17)]) rX0_constructor (zPc P G [.ref (zA P 0 0 0), .int (zI p0), .int (zI p1), .int (zI p2), .int (zI p3), .int (zI p4), .ref (zA P 6 1 0)]) (zQi P Q) 5 121 (zAr P) := by
  refine zMetW RX0 (by decide) rfl (zcs_c rfl (zcs_c rfl (zcs_c rfl (zcs_c rfl (zcs_c rfl (zcs_c rfl (zcs_c rfl zcs_0))))))) (Nat.le_of_ble_eq_true rfl) (fun p e s m args below meth c ls hC hr hk htb hG hL => ?_)
  unfold vX0_constructor at hV
  refine z_aload hC zvr_a  (hL.at 6 rfl) dX0_constructor_0 ?_
  refine z_iconst hC dX0_constructor_2 ?_
  refine z_aload_n hC zvr_a rfl (hL.at 0 rfl) dX0_constructor_3 ?_
  refine z_iload_n hC rfl (hL.at 1 rfl) dX0_constructor_4 ?_
  refine z_iload_n hC rfl (hL.at 2 rfl) dX0_constructor_5 ?_
  refine z_iload_n hC rfl (hL.at 3 rfl) dX0_constructor_6 ?_
  refine z_iload hC  (hL.at 4 rfl) dX0_constructor_7 ?_
  refine z_iload hC  (hL.at 5 rfl) dX0_constructor_9 ?_
  refine z_lcall_i hG (zrunVX (ci := 1) hC hG (Nat.le_of_ble_eq_true rfl) (Nat.le_of_ble_eq_true rfl) (zobj hG rfl (Nat.le_of_ble_eq_true rfl) (Nat.le_of_ble_eq_true rfl)) (mX1_constructor l P G p0 hp0 p1 hp1 p2 hp2 p3 hp3 p4 hp4 hst hV) kVX0_7 rfl rfl rfl ⟨(Nat.le_of_ble_eq_true rfl), (Nat.le_of_ble_eq_true rfl)⟩ ⟨(Nat.le_of_ble_eq_true rfl), (Nat.le_of_ble_eq_true rfl)⟩ rfl ⟨(zcs_c rfl (zcs_c rfl zcs_0)), (Nat.le_of_ble_eq_true rfl)⟩ hL.1.1 dX0_constructor_11) ?_ ?_
  · intro k G1 H1 locs1 ce q9 hX hG1 hc1 hc2 hc3
    rcases hX with ⟨rfl, hX⟩ | ⟨rfl, hX⟩ | ⟨rfl, hX⟩
    · refine z_catch (k := 0) (hpc := 19) hC [] [(0, 16, 23, 15), (0, 16, 27, 17)] (0, 16, 19, 13) htb (by decide) (fun _ h => nomatch h) rfl (by decide) q469 rfl hc1 hc2 hc3 ?_
      refine z_astore (lv' := [(7, .ref q9), (0, .ref (zA P 0 0 0)), (1, .int (zI p0)), (2, .int (zI p1)), (3, .int (zI p2)), (4, .int (zI p3)), (5, .int (zI p4)), (6, .ref (zA P 6 1 0))]) hC zvr_a hL (by decide) rfl dX0_constructor_19 (fun ls hL => ?_)
      refine z_iconst hC dX0_constructor_21 ?_
      exact z_iret hC hG1 hr hk (inR_lit rfl) hX (Nat.le_of_ble_eq_true rfl) (Nat.le_of_ble_eq_true rfl) dX0_constructor_22
    · refine z_catch (k := 1) (hpc := 23) hC [(0, 16, 19, 13)] [(0, 16, 27, 17)] (0, 16, 23, 15) htb (by decide) (List.forall_mem_cons.mpr ⟨⟨by decide, 0, by decide, by decide, q469⟩, (fun _ h => nomatch h)⟩) rfl (by decide) q546 rfl hc1 hc2 hc3 ?_
      refine z_astore (lv' := [(7, .ref q9), (0, .ref (zA P 0 0 0)), (1, .int (zI p0)), (2, .int (zI p1)), (3, .int (zI p2)), (4, .int (zI p3)), (5, .int (zI p4)), (6, .ref (zA P 6 1 0))]) hC zvr_a hL (by decide) rfl dX0_constructor_23 (fun ls hL => ?_)
      refine z_iconst hC dX0_constructor_25 ?_
      exact z_iret hC hG1 hr hk (inR_lit rfl) hX (Nat.le_of_ble_eq_true rfl) (Nat.le_of_ble_eq_true rfl) dX0_constructor_26
    · refine z_catch (k := 2) (hpc := 27) hC [(0, 16, 19, 13), (0, 16, 23, 15)] [] (0, 16, 27, 17) htb (by decide) (List.forall_mem_cons.mpr ⟨⟨by decide, 0, by decide, by decide, q469⟩, (List.forall_mem_cons.mpr ⟨⟨by decide, 1, by decide, by decide, q546⟩, (fun _ h => nomatch h)⟩)⟩) rfl (by decide) q547 rfl hc1 hc2 hc3 ?_
      refine z_astore (lv' := [(7, .ref q9), (0, .ref (zA P 0 0 0)), (1, .int (zI p0)), (2, .int (zI p1)), (3, .int (zI p2)), (4, .int (zI p3)), (5, .int (zI p4)), (6, .ref (zA P 6 1 0))]) hC zvr_a hL (by decide) rfl dX0_constructor_27 (fun ls hL => ?_)
      refine z_iconst hC dX0_constructor_29 ?_
      exact z_iret hC hG1 hr hk (inR_lit rfl) hX (Nat.le_of_ble_eq_true rfl) (Nat.le_of_ble_eq_true rfl) dX0_constructor_30
  · rintro x G1 H1 locs1 hx hV hG1
    refine z_i2l hC hx dX0_constructor_14 ?_
    refine z_outS hC hG1 hx rfl dX0_constructor_15 (fun H1 locs1 hG2 => ?_)
    refine z_goto (tgt := 31) hC dX0_constructor_16 (by decide) ?_
    refine z_iconst hC dX0_constructor_31 ?_
    exact z_iret hC hG2 hr hk (inR_lit rfl) hV (Nat.le_of_ble_eq_true rfl) (Nat.le_of_ble_eq_true rfl) dX0_constructor_32
abbrev rX0_num : Room := { frames := 11, cells := 5, slots := 116, locals := 241 }
def vX0_num (p0 : Int) (G : ZG) (Q : Int → ZG → Prop) : Prop := vX1_num p0 G (fun k G1 => (k = 1 ∧ Q 1 G1) ∨ (k = 2 ∧ Q 2 G1)) (fun r G1 => Q 0 (zss G1 6 0 0 r))
set_option maxHeartbeats 4000000 in
theorem mX0_num (l : Launch) (P : ZP) (G : ZG) (p0 : Int) (hp0 : inR p0) {Q : Int → ZG → Prop} (hst : l.stackTraces = false) (hV : vX0_num p0 G Q) : Met l yX0_num (wsW_ yX0_num cX0_num 4 (some .int) [(0, 9, 12, 15), (0, 9, 15, 17)]) rX0_num (zPc P G [.ref (zA P 0 0 0), .int (zI p0), .ref (zA P 6 1 0)]) (zQi P Q) 5 116 (zAr P) := by
  refine zMetW RX0 (by decide) rfl (zcs_c rfl (zcs_c rfl (zcs_c rfl zcs_0))) (Nat.le_of_ble_eq_true rfl) (fun p e s m args below meth c ls hC hr hk htb hG hL => ?_)
  unfold vX0_num at hV
  refine z_aload_n hC zvr_a rfl (hL.at 2 rfl) dX0_num_0 ?_
  refine z_iconst hC dX0_num_1 ?_
  refine z_aload_n hC zvr_a rfl (hL.at 0 rfl) dX0_num_2 ?_
  refine z_iload_n hC rfl (hL.at 1 rfl) dX0_num_3 ?_
  refine z_lcall_i hG (zrunVX (ci := 1) hC hG (Nat.le_of_ble_eq_true rfl) (Nat.le_of_ble_eq_true rfl) (zobj hG rfl (Nat.le_of_ble_eq_true rfl) (Nat.le_of_ble_eq_true rfl)) (mX1_num l P G p0 hp0 hst hV) kVX0_19 rfl rfl rfl ⟨(Nat.le_of_ble_eq_true rfl), (Nat.le_of_ble_eq_true rfl)⟩ ⟨(Nat.le_of_ble_eq_true rfl), (Nat.le_of_ble_eq_true rfl)⟩ rfl ⟨(zcs_c rfl (zcs_c rfl zcs_0)), (Nat.le_of_ble_eq_true rfl)⟩ hL.1.1 dX0_num_4) ?_ ?_
  · intro k G1 H1 locs1 ce q9 hX hG1 hc1 hc2 hc3
    rcases hX with ⟨rfl, hX⟩ | ⟨rfl, hX⟩
    · refine z_catch (k := 1) (hpc := 12) hC [] [(0, 9, 15, 17)] (0, 9, 12, 15) htb (by decide) (fun _ h => nomatch h) rfl (by decide) q546 rfl hc1 hc2 hc3 ?_
      refine z_astore_n (lv' := [(3, .ref q9), (0, .ref (zA P 0 0 0)), (1, .int (zI p0)), (2, .ref (zA P 6 1 0))]) hC zvr_a rfl hL (by decide) rfl dX0_num_12 (fun ls hL => ?_)
      refine z_iconst hC dX0_num_13 ?_
      exact z_iret hC hG1 hr hk (inR_lit rfl) hX (Nat.le_of_ble_eq_true rfl) (Nat.le_of_ble_eq_true rfl) dX0_num_14
    · refine z_catch (k := 2) (hpc := 15) hC [(0, 9, 12, 15)] [] (0, 9, 15, 17) htb (by decide) (List.forall_mem_cons.mpr ⟨⟨by decide, 1, by decide, by decide, q546⟩, (fun _ h => nomatch h)⟩) rfl (by decide) q547 rfl hc1 hc2 hc3 ?_
      refine z_astore_n (lv' := [(3, .ref q9), (0, .ref (zA P 0 0 0)), (1, .int (zI p0)), (2, .ref (zA P 6 1 0))]) hC zvr_a rfl hL (by decide) rfl dX0_num_15 (fun ls hL => ?_)
      refine z_iconst hC dX0_num_16 ?_
      exact z_iret hC hG1 hr hk (inR_lit rfl) hX (Nat.le_of_ble_eq_true rfl) (Nat.le_of_ble_eq_true rfl) dX0_num_17
  · rintro x G1 H1 locs1 hx hV hG1
    refine z_i2l hC hx dX0_num_7 ?_
    refine z_outS hC hG1 hx rfl dX0_num_8 (fun H1 locs1 hG2 => ?_)
    refine z_goto (tgt := 18) hC dX0_num_9 (by decide) ?_
    refine z_iconst hC dX0_num_18 ?_
    exact z_iret hC hG2 hr hk (inR_lit rfl) hV (Nat.le_of_ble_eq_true rfl) (Nat.le_of_ble_eq_true rfl) dX0_num_19
abbrev rX0_seq : Room := { frames := 11, cells := 5, slots := 119, locals := 244 }
def vX0_seq (p0 : Int) (p1 : Int) (p2 : Int) (p3 : Int) (G : ZG) (Q : Int → ZG → Prop) : Prop := vX1_seq p0 p1 p2 p3 G (fun k G1 => (k = 1 ∧ Q 1 G1) ∨ (k = 2 ∧ Q 2 G1)) (fun r G1 => Q 0 (zss G1 6 0 0 r))
set_option maxHeartbeats 4000000 in
theorem mX0_seq (l : Launch) (P : ZP) (G : ZG) (p0 : Int) (hp0 : inR p0) (p1 : Int) (hp1 : inR p1) (p2 : Int) (hp2 : inR p2) (p3 : Int) (hp3 : inR p3) {Q : Int → ZG → Prop} (hst : l.stackTraces = false) (hV : vX0_seq p0 p1 p2 p3 G Q) : Met l yX0_seq (wsW_ yX0_seq cX0_seq 7 (some .int) [(0, 14, 17, 15), (0, 14, 21, 17)]) rX0_seq (zPc P G [.ref (zA P 0 0 0), .int (zI p0), .int (zI p1), .int (zI p2), .int (zI p3), .ref (zA P 6 1 0)]) (zQi P Q) 5 119 (zAr P) := by
  refine zMetW RX0 (by decide) rfl (zcs_c rfl (zcs_c rfl (zcs_c rfl (zcs_c rfl (zcs_c rfl (zcs_c rfl zcs_0)))))) (Nat.le_of_ble_eq_true rfl) (fun p e s m args below meth c ls hC hr hk htb hG hL => ?_)
  unfold vX0_seq at hV
  refine z_aload hC zvr_a  (hL.at 5 rfl) dX0_seq_0 ?_
  refine z_iconst hC dX0_seq_2 ?_
  refine z_aload_n hC zvr_a rfl (hL.at 0 rfl) dX0_seq_3 ?_
  refine z_iload_n hC rfl (hL.at 1 rfl) dX0_seq_4 ?_
  refine z_iload_n hC rfl (hL.at 2 rfl) dX0_seq_5 ?_
  refine z_iload_n hC rfl (hL.at 3 rfl) dX0_seq_6 ?_
  refine z_iload hC  (hL.at 4 rfl) dX0_seq_7 ?_
  refine z_lcall_i hG (zrunVX (ci := 1) hC hG (Nat.le_of_ble_eq_true rfl) (Nat.le_of_ble_eq_true rfl) (zobj hG rfl (Nat.le_of_ble_eq_true rfl) (Nat.le_of_ble_eq_true rfl)) (mX1_seq l P G p0 hp0 p1 hp1 p2 hp2 p3 hp3 hst hV) kVX0_23 rfl rfl rfl ⟨(Nat.le_of_ble_eq_true rfl), (Nat.le_of_ble_eq_true rfl)⟩ ⟨(Nat.le_of_ble_eq_true rfl), (Nat.le_of_ble_eq_true rfl)⟩ rfl ⟨(zcs_c rfl (zcs_c rfl zcs_0)), (Nat.le_of_ble_eq_true rfl)⟩ hL.1.1 dX0_seq_9) ?_ ?_
  · intro k G1 H1 locs1 ce q9 hX hG1 hc1 hc2 hc3
    rcases hX with ⟨rfl, hX⟩ | ⟨rfl, hX⟩
    · refine z_catch (k := 1) (hpc := 17) hC [] [(0, 14, 21, 17)] (0, 14, 17, 15) htb (by decide) (fun _ h => nomatch h) rfl (by decide) q546 rfl hc1 hc2 hc3 ?_
      refine z_astore (lv' := [(6, .ref q9), (0, .ref (zA P 0 0 0)), (1, .int (zI p0)), (2, .int (zI p1)), (3, .int (zI p2)), (4, .int (zI p3)), (5, .ref (zA P 6 1 0))]) hC zvr_a hL (by decide) rfl dX0_seq_17 (fun ls hL => ?_)
      refine z_iconst hC dX0_seq_19 ?_
      exact z_iret hC hG1 hr hk (inR_lit rfl) hX (Nat.le_of_ble_eq_true rfl) (Nat.le_of_ble_eq_true rfl) dX0_seq_20
    · refine z_catch (k := 2) (hpc := 21) hC [(0, 14, 17, 15)] [] (0, 14, 21, 17) htb (by decide) (List.forall_mem_cons.mpr ⟨⟨by decide, 1, by decide, by decide, q546⟩, (fun _ h => nomatch h)⟩) rfl (by decide) q547 rfl hc1 hc2 hc3 ?_
      refine z_astore (lv' := [(6, .ref q9), (0, .ref (zA P 0 0 0)), (1, .int (zI p0)), (2, .int (zI p1)), (3, .int (zI p2)), (4, .int (zI p3)), (5, .ref (zA P 6 1 0))]) hC zvr_a hL (by decide) rfl dX0_seq_21 (fun ls hL => ?_)
      refine z_iconst hC dX0_seq_23 ?_
      exact z_iret hC hG1 hr hk (inR_lit rfl) hX (Nat.le_of_ble_eq_true rfl) (Nat.le_of_ble_eq_true rfl) dX0_seq_24
  · rintro x G1 H1 locs1 hx hV hG1
    refine z_i2l hC hx dX0_seq_12 ?_
    refine z_outS hC hG1 hx rfl dX0_seq_13 (fun H1 locs1 hG2 => ?_)
    refine z_goto (tgt := 25) hC dX0_seq_14 (by decide) ?_
    refine z_iconst hC dX0_seq_25 ?_
    exact z_iret hC hG2 hr hk (inR_lit rfl) hV (Nat.le_of_ble_eq_true rfl) (Nat.le_of_ble_eq_true rfl) dX0_seq_26
abbrev rX0_data : Room := { frames := 11, cells := 60, slots := 600, locals := 249 }
def vX0_data (p0 : Int) (p1 : Int) (p2 : Int) (p3 : Int) (p4 : Int) (G : ZG) (Q : Int → ZG → Prop) : Prop := vX1_data p0 p1 p2 p3 p4 60 600 G (fun k G1 => (k = 0 ∧ Q 1 G1) ∨ (k = 1 ∧ Q 2 G1) ∨ (k = 2 ∧ Q 3 G1)) (fun r G1 => Q 0 (zss G1 6 0 0 r))
set_option maxHeartbeats 4000000 in
theorem mX0_data (l : Launch) (P : ZP) (G : ZG) (p0 : Int) (hp0 : inR p0) (p1 : Int) (hp1 : inR p1) (p2 : Int) (hp2 : inR p2) (p3 : Int) (hp3 : inR p3) (p4 : Int) (hp4 : inR p4) {Q : Int → ZG → Prop} (hst : l.stackTraces = false) (hV : vX0_data p0 p1 p2 p3 p4 G Q) : Met l yX0_data (wsW_ yX0_data cX0_data 8 (some .int) [(0, 16, 19, 13), (0, 16, 23, 15), (0, 16, 27, 17)]) rX0_data (zPc P G [.ref (zA P 0 0 0), .int (zI p0), .int (zI p1), .int (zI p2), .int (zI p3), .int (zI p4), .ref (zA P 6 1 0)]) (zQi P Q) 60 600 (zAr P) := by
  refine zMetW RX0 (by decide) rfl (zcs_c rfl (zcs_c rfl (zcs_c rfl (zcs_c rfl (zcs_c rfl (zcs_c rfl (zcs_c rfl zcs_0))))))) (Nat.le_of_ble_eq_true rfl) (fun p e s m args below meth c ls hC hr hk htb hG hL => ?_)
  unfold vX0_data at hV
  refine z_aload hC zvr_a  (hL.at 6 rfl) dX0_data_0 ?_
  refine z_iconst hC dX0_data_2 ?_
  refine z_aload_n hC zvr_a rfl (hL.at 0 rfl) dX0_data_3 ?_
  refine z_iload_n hC rfl (hL.at 1 rfl) dX0_data_4 ?_
  refine z_iload_n hC rfl (hL.at 2 rfl) dX0_data_5 ?_
  refine z_iload_n hC rfl (hL.at 3 rfl) dX0_data_6 ?_
  refine z_iload hC  (hL.at 4 rfl) dX0_data_7 ?_
  refine z_iload hC  (hL.at 5 rfl) dX0_data_9 ?_
  refine z_lcall_i hG (zrunVX (ci := 1) hC hG (Nat.le_of_ble_eq_true rfl) (Nat.le_of_ble_eq_true rfl) (zobj hG rfl (Nat.le_of_ble_eq_true rfl) (Nat.le_of_ble_eq_true rfl)) (mX1_data l P G 60 600 p0 hp0 p1 hp1 p2 hp2 p3 hp3 p4 hp4 hst hV) kVX0_27 rfl rfl rfl ⟨(Nat.le_of_ble_eq_true rfl), (Nat.le_of_ble_eq_true rfl)⟩ ⟨(Nat.le_of_ble_eq_true rfl), (Nat.le_of_ble_eq_true rfl)⟩ rfl ⟨(zcs_c rfl (zcs_c rfl zcs_0)), (Nat.le_of_ble_eq_true rfl)⟩ hL.1.1 dX0_data_11) ?_ ?_
  · intro k G1 H1 locs1 ce q9 hX hG1 hc1 hc2 hc3
    rcases hX with ⟨rfl, hX⟩ | ⟨rfl, hX⟩ | ⟨rfl, hX⟩
    · refine z_catch (k := 0) (hpc := 19) hC [] [(0, 16, 23, 15), (0, 16, 27, 17)] (0, 16, 19, 13) htb (by decide) (fun _ h => nomatch h) rfl (by decide) q469 rfl hc1 hc2 hc3 ?_
      refine z_astore (lv' := [(7, .ref q9), (0, .ref (zA P 0 0 0)), (1, .int (zI p0)), (2, .int (zI p1)), (3, .int (zI p2)), (4, .int (zI p3)), (5, .int (zI p4)), (6, .ref (zA P 6 1 0))]) hC zvr_a hL (by decide) rfl dX0_data_19 (fun ls hL => ?_)
      refine z_iconst hC dX0_data_21 ?_
      exact z_iret hC hG1 hr hk (inR_lit rfl) hX (Nat.le_of_ble_eq_true rfl) (Nat.le_of_ble_eq_true rfl) dX0_data_22
    · refine z_catch (k := 1) (hpc := 23) hC [(0, 16, 19, 13)] [(0, 16, 27, 17)] (0, 16, 23, 15) htb (by decide) (List.forall_mem_cons.mpr ⟨⟨by decide, 0, by decide, by decide, q469⟩, (fun _ h => nomatch h)⟩) rfl (by decide) q546 rfl hc1 hc2 hc3 ?_
      refine z_astore (lv' := [(7, .ref q9), (0, .ref (zA P 0 0 0)), (1, .int (zI p0)), (2, .int (zI p1)), (3, .int (zI p2)), (4, .int (zI p3)), (5, .int (zI p4)), (6, .ref (zA P 6 1 0))]) hC zvr_a hL (by decide) rfl dX0_data_23 (fun ls hL => ?_)
      refine z_iconst hC dX0_data_25 ?_
      exact z_iret hC hG1 hr hk (inR_lit rfl) hX (Nat.le_of_ble_eq_true rfl) (Nat.le_of_ble_eq_true rfl) dX0_data_26
    · refine z_catch (k := 2) (hpc := 27) hC [(0, 16, 19, 13), (0, 16, 23, 15)] [] (0, 16, 27, 17) htb (by decide) (List.forall_mem_cons.mpr ⟨⟨by decide, 0, by decide, by decide, q469⟩, (List.forall_mem_cons.mpr ⟨⟨by decide, 1, by decide, by decide, q546⟩, (fun _ h => nomatch h)⟩)⟩) rfl (by decide) q547 rfl hc1 hc2 hc3 ?_
      refine z_astore (lv' := [(7, .ref q9), (0, .ref (zA P 0 0 0)), (1, .int (zI p0)), (2, .int (zI p1)), (3, .int (zI p2)), (4, .int (zI p3)), (5, .int (zI p4)), (6, .ref (zA P 6 1 0))]) hC zvr_a hL (by decide) rfl dX0_data_27 (fun ls hL => ?_)
      refine z_iconst hC dX0_data_29 ?_
      exact z_iret hC hG1 hr hk (inR_lit rfl) hX (Nat.le_of_ble_eq_true rfl) (Nat.le_of_ble_eq_true rfl) dX0_data_30
  · rintro x G1 H1 locs1 hx hV hG1
    refine z_i2l hC hx dX0_data_14 ?_
    refine z_outS hC hG1 hx rfl dX0_data_15 (fun H1 locs1 hG2 => ?_)
    refine z_goto (tgt := 31) hC dX0_data_16 (by decide) ?_
    refine z_iconst hC dX0_data_31 ?_
    exact z_iret hC hG2 hr hk (inR_lit rfl) hV (Nat.le_of_ble_eq_true rfl) (Nat.le_of_ble_eq_true rfl) dX0_data_32
abbrev rX0_any : Room := { frames := 11, cells := 5, slots := 119, locals := 246 }
def vX0_any (G : ZG) (Q : Int → ZG → Prop) : Prop := vX1_any G (fun k G1 => (k = 2 ∧ Q 1 G1)) (fun r G1 => Q 0 (zss G1 6 0 0 r))
set_option maxHeartbeats 4000000 in
theorem mX0_any (l : Launch) (P : ZP) (G : ZG) {Q : Int → ZG → Prop} (hst : l.stackTraces = false) (hV : vX0_any G Q) : Met l yX0_any (wsW_ yX0_any cX0_any 3 (some .int) [(0, 8, 11, 17)]) rX0_any (zPc P G [.ref (zA P 0 0 0), .ref (zA P 6 1 0)]) (zQi P Q) 5 119 (zAr P) := by
  refine zMetW RX0 (by decide) rfl (zcs_c rfl (zcs_c rfl zcs_0)) (Nat.le_of_ble_eq_true rfl) (fun p e s m args below meth c ls hC hr hk htb hG hL => ?_)
  unfold vX0_any at hV
  refine z_aload_n hC zvr_a rfl (hL.at 1 rfl) dX0_any_0 ?_
  refine z_iconst hC dX0_any_1 ?_
  refine z_aload_n hC zvr_a rfl (hL.at 0 rfl) dX0_any_2 ?_
  refine z_lcall_i hG (zrunVX (ci := 1) hC hG (Nat.le_of_ble_eq_true rfl) (Nat.le_of_ble_eq_true rfl) (zobj hG rfl (Nat.le_of_ble_eq_true rfl) (Nat.le_of_ble_eq_true rfl)) (mX1_any l P G hst hV) kVX0_30 rfl rfl rfl ⟨(Nat.le_of_ble_eq_true rfl), (Nat.le_of_ble_eq_true rfl)⟩ ⟨(Nat.le_of_ble_eq_true rfl), (Nat.le_of_ble_eq_true rfl)⟩ rfl ⟨(zcs_c rfl (zcs_c rfl zcs_0)), (Nat.le_of_ble_eq_true rfl)⟩ hL.1.1 dX0_any_3) ?_ ?_
  · intro k G1 H1 locs1 ce q9 hX hG1 hc1 hc2 hc3
    rcases hX with ⟨rfl, hX⟩
    · refine z_catch (k := 2) (hpc := 11) hC [] [] (0, 8, 11, 17) htb (by decide) (fun _ h => nomatch h) rfl (by decide) q547 rfl hc1 hc2 hc3 ?_
      refine z_astore_n (lv' := [(2, .ref q9), (0, .ref (zA P 0 0 0)), (1, .ref (zA P 6 1 0))]) hC zvr_a rfl hL (by decide) rfl dX0_any_11 (fun ls hL => ?_)
      refine z_iconst hC dX0_any_12 ?_
      exact z_iret hC hG1 hr hk (inR_lit rfl) hX (Nat.le_of_ble_eq_true rfl) (Nat.le_of_ble_eq_true rfl) dX0_any_13
  · rintro x G1 H1 locs1 hx hV hG1
    refine z_i2l hC hx dX0_any_6 ?_
    refine z_outS hC hG1 hx rfl dX0_any_7 (fun H1 locs1 hG2 => ?_)
    refine z_goto (tgt := 14) hC dX0_any_8 (by decide) ?_
    refine z_iconst hC dX0_any_14 ?_
    exact z_iret hC hG2 hr hk (inR_lit rfl) hV (Nat.le_of_ble_eq_true rfl) (Nat.le_of_ble_eq_true rfl) dX0_any_15
abbrev rX0_name : Room := { frames := 11, cells := 8, slots := 139, locals := 249 }
def vX0_name (p0 : Int) (p1 : Int) (G : ZG) (Q : Int → ZG → Prop) : Prop := vX1_name p0 p1 G (fun k G1 => (k = 0 ∧ Q 1 G1) ∨ (k = 1 ∧ Q 2 G1) ∨ (k = 2 ∧ Q 3 G1)) (fun r G1 => Q 0 (zss G1 6 0 0 r))
set_option maxHeartbeats 4000000 in
theorem mX0_name (l : Launch) (P : ZP) (G : ZG) (p0 : Int) (hp0 : inR p0) (p1 : Int) (hp1 : inR p1) {Q : Int → ZG → Prop} (hst : l.stackTraces = false) (hV : vX0_name p0 p1 G Q) : Met l yX0_name (wsW_ yX0_name cX0_name 5 (some .int) [(0, 10, 13, 13), (0, 10, 17, 15), (0, 10, 21, 17)]) rX0_name (zPc P G [.ref (zA P 0 0 0), .int (zI p0), .int (zI p1), .ref (zA P 6 1 0)]) (zQi P Q) 8 139 (zAr P) := by
  refine zMetW RX0 (by decide) rfl (zcs_c rfl (zcs_c rfl (zcs_c rfl (zcs_c rfl zcs_0)))) (Nat.le_of_ble_eq_true rfl) (fun p e s m args below meth c ls hC hr hk htb hG hL => ?_)
  unfold vX0_name at hV
  refine z_aload_n hC zvr_a rfl (hL.at 3 rfl) dX0_name_0 ?_
  refine z_iconst hC dX0_name_1 ?_
  refine z_aload_n hC zvr_a rfl (hL.at 0 rfl) dX0_name_2 ?_
  refine z_iload_n hC rfl (hL.at 1 rfl) dX0_name_3 ?_
  refine z_iload_n hC rfl (hL.at 2 rfl) dX0_name_4 ?_
  refine z_lcall_i hG (zrunVX (ci := 1) hC hG (Nat.le_of_ble_eq_true rfl) (Nat.le_of_ble_eq_true rfl) (zobj hG rfl (Nat.le_of_ble_eq_true rfl) (Nat.le_of_ble_eq_true rfl)) (mX1_name l P G p0 hp0 p1 hp1 hst hV) kVX0_34 rfl rfl rfl ⟨(Nat.le_of_ble_eq_true rfl), (Nat.le_of_ble_eq_true rfl)⟩ ⟨(Nat.le_of_ble_eq_true rfl), (Nat.le_of_ble_eq_true rfl)⟩ rfl ⟨(zcs_c rfl (zcs_c rfl zcs_0)), (Nat.le_of_ble_eq_true rfl)⟩ hL.1.1 dX0_name_5) ?_ ?_
  · intro k G1 H1 locs1 ce q9 hX hG1 hc1 hc2 hc3
    rcases hX with ⟨rfl, hX⟩ | ⟨rfl, hX⟩ | ⟨rfl, hX⟩
    · refine z_catch (k := 0) (hpc := 13) hC [] [(0, 10, 17, 15), (0, 10, 21, 17)] (0, 10, 13, 13) htb (by decide) (fun _ h => nomatch h) rfl (by decide) q469 rfl hc1 hc2 hc3 ?_
      refine z_astore (lv' := [(4, .ref q9), (0, .ref (zA P 0 0 0)), (1, .int (zI p0)), (2, .int (zI p1)), (3, .ref (zA P 6 1 0))]) hC zvr_a hL (by decide) rfl dX0_name_13 (fun ls hL => ?_)
      refine z_iconst hC dX0_name_15 ?_
      exact z_iret hC hG1 hr hk (inR_lit rfl) hX (Nat.le_of_ble_eq_true rfl) (Nat.le_of_ble_eq_true rfl) dX0_name_16
    · refine z_catch (k := 1) (hpc := 17) hC [(0, 10, 13, 13)] [(0, 10, 21, 17)] (0, 10, 17, 15) htb (by decide) (List.forall_mem_cons.mpr ⟨⟨by decide, 0, by decide, by decide, q469⟩, (fun _ h => nomatch h)⟩) rfl (by decide) q546 rfl hc1 hc2 hc3 ?_
      refine z_astore (lv' := [(4, .ref q9), (0, .ref (zA P 0 0 0)), (1, .int (zI p0)), (2, .int (zI p1)), (3, .ref (zA P 6 1 0))]) hC zvr_a hL (by decide) rfl dX0_name_17 (fun ls hL => ?_)
      refine z_iconst hC dX0_name_19 ?_
      exact z_iret hC hG1 hr hk (inR_lit rfl) hX (Nat.le_of_ble_eq_true rfl) (Nat.le_of_ble_eq_true rfl) dX0_name_20
    · refine z_catch (k := 2) (hpc := 21) hC [(0, 10, 13, 13), (0, 10, 17, 15)] [] (0, 10, 21, 17) htb (by decide) (List.forall_mem_cons.mpr ⟨⟨by decide, 0, by decide, by decide, q469⟩, (List.forall_mem_cons.mpr ⟨⟨by decide, 1, by decide, by decide, q546⟩, (fun _ h => nomatch h)⟩)⟩) rfl (by decide) q547 rfl hc1 hc2 hc3 ?_
      refine z_astore (lv' := [(4, .ref q9), (0, .ref (zA P 0 0 0)), (1, .int (zI p0)), (2, .int (zI p1)), (3, .ref (zA P 6 1 0))]) hC zvr_a hL (by decide) rfl dX0_name_21 (fun ls hL => ?_)
      refine z_iconst hC dX0_name_23 ?_
      exact z_iret hC hG1 hr hk (inR_lit rfl) hX (Nat.le_of_ble_eq_true rfl) (Nat.le_of_ble_eq_true rfl) dX0_name_24
  · rintro x G1 H1 locs1 hx hV hG1
    refine z_i2l hC hx dX0_name_8 ?_
    refine z_outS hC hG1 hx rfl dX0_name_9 (fun H1 locs1 hG2 => ?_)
    refine z_goto (tgt := 25) hC dX0_name_10 (by decide) ?_
    refine z_iconst hC dX0_name_25 ?_
    exact z_iret hC hG2 hr hk (inR_lit rfl) hV (Nat.le_of_ble_eq_true rfl) (Nat.le_of_ble_eq_true rfl) dX0_name_26
abbrev rX0_range : Room := { frames := 11, cells := 6, slots := 127, locals := 248 }
def vX0_range (p0 : Int) (p1 : Int) (G : ZG) (Q : Int → ZG → Prop) : Prop := vX1_range p0 p1 G (fun k G1 => (k = 1 ∧ Q 1 G1) ∨ (k = 2 ∧ Q 2 G1)) (fun r G1 => Q 0 (zss G1 6 0 0 r))
set_option maxHeartbeats 4000000 in
theorem mX0_range (l : Launch) (P : ZP) (G : ZG) (p0 : Int) (hp0 : inR p0) (p1 : Int) (hp1 : inR p1) {Q : Int → ZG → Prop} (hst : l.stackTraces = false) (hV : vX0_range p0 p1 G Q) : Met l yX0_range (wsW_ yX0_range cX0_range 5 (some .int) [(0, 10, 13, 15), (0, 10, 17, 17)]) rX0_range (zPc P G [.ref (zA P 0 0 0), .int (zI p0), .int (zI p1), .ref (zA P 6 1 0)]) (zQi P Q) 6 127 (zAr P) := by
  refine zMetW RX0 (by decide) rfl (zcs_c rfl (zcs_c rfl (zcs_c rfl (zcs_c rfl zcs_0)))) (Nat.le_of_ble_eq_true rfl) (fun p e s m args below meth c ls hC hr hk htb hG hL => ?_)
  unfold vX0_range at hV
  refine z_aload_n hC zvr_a rfl (hL.at 3 rfl) dX0_range_0 ?_
  refine z_iconst hC dX0_range_1 ?_
  refine z_aload_n hC zvr_a rfl (hL.at 0 rfl) dX0_range_2 ?_
  refine z_iload_n hC rfl (hL.at 1 rfl) dX0_range_3 ?_
  refine z_iload_n hC rfl (hL.at 2 rfl) dX0_range_4 ?_
  refine z_lcall_i hG (zrunVX (ci := 1) hC hG (Nat.le_of_ble_eq_true rfl) (Nat.le_of_ble_eq_true rfl) (zobj hG rfl (Nat.le_of_ble_eq_true rfl) (Nat.le_of_ble_eq_true rfl)) (mX1_range l P G p0 hp0 p1 hp1 hst hV) kVX0_38 rfl rfl rfl ⟨(Nat.le_of_ble_eq_true rfl), (Nat.le_of_ble_eq_true rfl)⟩ ⟨(Nat.le_of_ble_eq_true rfl), (Nat.le_of_ble_eq_true rfl)⟩ rfl ⟨(zcs_c rfl (zcs_c rfl zcs_0)), (Nat.le_of_ble_eq_true rfl)⟩ hL.1.1 dX0_range_5) ?_ ?_
  · intro k G1 H1 locs1 ce q9 hX hG1 hc1 hc2 hc3
    rcases hX with ⟨rfl, hX⟩ | ⟨rfl, hX⟩
    · refine z_catch (k := 1) (hpc := 13) hC [] [(0, 10, 17, 17)] (0, 10, 13, 15) htb (by decide) (fun _ h => nomatch h) rfl (by decide) q546 rfl hc1 hc2 hc3 ?_
      refine z_astore (lv' := [(4, .ref q9), (0, .ref (zA P 0 0 0)), (1, .int (zI p0)), (2, .int (zI p1)), (3, .ref (zA P 6 1 0))]) hC zvr_a hL (by decide) rfl dX0_range_13 (fun ls hL => ?_)
      refine z_iconst hC dX0_range_15 ?_
      exact z_iret hC hG1 hr hk (inR_lit rfl) hX (Nat.le_of_ble_eq_true rfl) (Nat.le_of_ble_eq_true rfl) dX0_range_16
    · refine z_catch (k := 2) (hpc := 17) hC [(0, 10, 13, 15)] [] (0, 10, 17, 17) htb (by decide) (List.forall_mem_cons.mpr ⟨⟨by decide, 1, by decide, by decide, q546⟩, (fun _ h => nomatch h)⟩) rfl (by decide) q547 rfl hc1 hc2 hc3 ?_
      refine z_astore (lv' := [(4, .ref q9), (0, .ref (zA P 0 0 0)), (1, .int (zI p0)), (2, .int (zI p1)), (3, .ref (zA P 6 1 0))]) hC zvr_a hL (by decide) rfl dX0_range_17 (fun ls hL => ?_)
      refine z_iconst hC dX0_range_19 ?_
      exact z_iret hC hG1 hr hk (inR_lit rfl) hX (Nat.le_of_ble_eq_true rfl) (Nat.le_of_ble_eq_true rfl) dX0_range_20
  · rintro x G1 H1 locs1 hx hV hG1
    refine z_i2l hC hx dX0_range_8 ?_
    refine z_outS hC hG1 hx rfl dX0_range_9 (fun H1 locs1 hG2 => ?_)
    refine z_goto (tgt := 21) hC dX0_range_10 (by decide) ?_
    refine z_iconst hC dX0_range_21 ?_
    exact z_iret hC hG2 hr hk (inR_lit rfl) hV (Nat.le_of_ble_eq_true rfl) (Nat.le_of_ble_eq_true rfl) dX0_range_22
abbrev rX0_make : Room := { frames := 12, cells := 20, slots := 297, locals := 285 }
def vX0_make (p0 : Int) (p1 : Int) (p2 : Int) (p3 : Int) (p4 : Int) (G : ZG) (Q : Int → ZG → Prop) : Prop := vX1_make p0 p1 p2 p3 p4 G (fun k G1 => (k = 0 ∧ Q 1 G1) ∨ (k = 1 ∧ Q 2 G1) ∨ (k = 2 ∧ Q 3 G1)) (fun r G1 => Q 0 (zss G1 6 0 0 r))
set_option maxHeartbeats 4000000 in
theorem mX0_make (l : Launch) (P : ZP) (G : ZG) (p0 : Int) (hp0 : inR p0) (p1 : Int) (hp1 : inR p1) (p2 : Int) (hp2 : inR p2) (p3 : Int) (hp3 : inR p3) (p4 : Int) (hp4 : inR p4) {Q : Int → ZG → Prop} (hst : l.stackTraces = false) (hV : vX0_make p0 p1 p2 p3 p4 G Q) : Met l yX0_make (wsW_ yX0_make cX0_make 8 (some .int) [(0, 16, 19, 13), (0, 16, 23, 15), (0, 16, 27, 17)]) rX0_make (zPc P G [.ref (zA P 0 0 0), .int (zI p0), .int (zI p1), .int (zI p2), .int (zI p3), .int (zI p4), .ref (zA P 6 1 0)]) (zQi P Q) 20 297 (zAr P) := by
  refine zMetW RX0 (by decide) rfl (zcs_c rfl (zcs_c rfl (zcs_c rfl (zcs_c rfl (zcs_c rfl (zcs_c rfl (zcs_c rfl zcs_0))))))) (Nat.le_of_ble_eq_true rfl) (fun p e s m args below meth c ls hC hr hk htb hG hL => ?_)
  unfold vX0_make at hV
  refine z_aload hC zvr_a  (hL.at 6 rfl) dX0_make_0 ?_
  refine z_iconst hC dX0_make_2 ?_
  refine z_aload_n hC zvr_a rfl (hL.at 0 rfl) dX0_make_3 ?_
  refine z_iload_n hC rfl (hL.at 1 rfl) dX0_make_4 ?_
  refine z_iload_n hC rfl (hL.at 2 rfl) dX0_make_5 ?_
  refine z_iload_n hC rfl (hL.at 3 rfl) dX0_make_6 ?_
  refine z_iload hC  (hL.at 4 rfl) dX0_make_7 ?_
  refine z_iload hC  (hL.at 5 rfl) dX0_make_9 ?_
  refine z_lcall_i hG (zrunVX (ci := 1) hC hG (Nat.le_of_ble_eq_true rfl) (Nat.le_of_ble_eq_true rfl) (zobj hG rfl (Nat.le_of_ble_eq_true rfl) (Nat.le_of_ble_eq_true rfl)) (mX1_make l P G p0 hp0 p1 hp1 p2 hp2 p3 hp3 p4 hp4 hst hV) kVX0_41 rfl rfl rfl ⟨(Nat.le_of_ble_eq_true rfl), (Nat.le_of_ble_eq_true rfl)⟩ ⟨(Nat.le_of_ble_eq_true rfl), (Nat.le_of_ble_eq_true rfl)⟩ rfl ⟨(zcs_c rfl (zcs_c rfl zcs_0)), (Nat.le_of_ble_eq_true rfl)⟩ hL.1.1 dX0_make_11) ?_ ?_
  · intro k G1 H1 locs1 ce q9 hX hG1 hc1 hc2 hc3
    rcases hX with ⟨rfl, hX⟩ | ⟨rfl, hX⟩ | ⟨rfl, hX⟩
    · refine z_catch (k := 0) (hpc := 19) hC [] [(0, 16, 23, 15), (0, 16, 27, 17)] (0, 16, 19, 13) htb (by decide) (fun _ h => nomatch h) rfl (by decide) q469 rfl hc1 hc2 hc3 ?_
      refine z_astore (lv' := [(7, .ref q9), (0, .ref (zA P 0 0 0)), (1, .int (zI p0)), (2, .int (zI p1)), (3, .int (zI p2)), (4, .int (zI p3)), (5, .int (zI p4)), (6, .ref (zA P 6 1 0))]) hC zvr_a hL (by decide) rfl dX0_make_19 (fun ls hL => ?_)
      refine z_iconst hC dX0_make_21 ?_
      exact z_iret hC hG1 hr hk (inR_lit rfl) hX (Nat.le_of_ble_eq_true rfl) (Nat.le_of_ble_eq_true rfl) dX0_make_22
    · refine z_catch (k := 1) (hpc := 23) hC [(0, 16, 19, 13)] [(0, 16, 27, 17)] (0, 16, 23, 15) htb (by decide) (List.forall_mem_cons.mpr ⟨⟨by decide, 0, by decide, by decide, q469⟩, (fun _ h => nomatch h)⟩) rfl (by decide) q546 rfl hc1 hc2 hc3 ?_
      refine z_astore (lv' := [(7, .ref q9), (0, .ref (zA P 0 0 0)), (1, .int (zI p0)), (2, .int (zI p1)), (3, .int (zI p2)), (4, .int (zI p3)), (5, .int (zI p4)), (6, .ref (zA P 6 1 0))]) hC zvr_a hL (by decide) rfl dX0_make_23 (fun ls hL => ?_)
      refine z_iconst hC dX0_make_25 ?_
      exact z_iret hC hG1 hr hk (inR_lit rfl) hX (Nat.le_of_ble_eq_true rfl) (Nat.le_of_ble_eq_true rfl) dX0_make_26
    · refine z_catch (k := 2) (hpc := 27) hC [(0, 16, 19, 13), (0, 16, 23, 15)] [] (0, 16, 27, 17) htb (by decide) (List.forall_mem_cons.mpr ⟨⟨by decide, 0, by decide, by decide, q469⟩, (List.forall_mem_cons.mpr ⟨⟨by decide, 1, by decide, by decide, q546⟩, (fun _ h => nomatch h)⟩)⟩) rfl (by decide) q547 rfl hc1 hc2 hc3 ?_
      refine z_astore (lv' := [(7, .ref q9), (0, .ref (zA P 0 0 0)), (1, .int (zI p0)), (2, .int (zI p1)), (3, .int (zI p2)), (4, .int (zI p3)), (5, .int (zI p4)), (6, .ref (zA P 6 1 0))]) hC zvr_a hL (by decide) rfl dX0_make_27 (fun ls hL => ?_)
      refine z_iconst hC dX0_make_29 ?_
      exact z_iret hC hG1 hr hk (inR_lit rfl) hX (Nat.le_of_ble_eq_true rfl) (Nat.le_of_ble_eq_true rfl) dX0_make_30
  · rintro x G1 H1 locs1 hx hV hG1
    refine z_i2l hC hx dX0_make_14 ?_
    refine z_outS hC hG1 hx rfl dX0_make_15 (fun H1 locs1 hG2 => ?_)
    refine z_goto (tgt := 31) hC dX0_make_16 (by decide) ?_
    refine z_iconst hC dX0_make_31 ?_
    exact z_iret hC hG2 hr hk (inR_lit rfl) hV (Nat.le_of_ble_eq_true rfl) (Nat.le_of_ble_eq_true rfl) dX0_make_32
abbrev rX0_either : Room := { frames := 12, cells := 8, slots := 139, locals := 271 }
def vX0_either (p0 : Int) (p1 : Int) (G : ZG) (Q : Int → ZG → Prop) : Prop := vX1_either p0 p1 G (fun k G1 => (k = 0 ∧ Q 1 G1) ∨ (k = 1 ∧ Q 2 G1) ∨ (k = 2 ∧ Q 3 G1)) (fun r G1 => Q 0 (zss G1 6 0 0 r))
set_option maxHeartbeats 4000000 in
theorem mX0_either (l : Launch) (P : ZP) (G : ZG) (p0 : Int) (hp0 : inR p0) (p1 : Int) (hp1 : inR p1) {Q : Int → ZG → Prop} (hst : l.stackTraces = false) (hV : vX0_either p0 p1 G Q) : Met l yX0_either (wsW_ yX0_either cX0_either 5 (some .int) [(0, 10, 13, 13), (0, 10, 17, 15), (0, 10, 21, 17)]) rX0_either (zPc P G [.ref (zA P 0 0 0), .int (zI p0), .int (zI p1), .ref (zA P 6 1 0)]) (zQi P Q) 8 139 (zAr P) := by
  refine zMetW RX0 (by decide) rfl (zcs_c rfl (zcs_c rfl (zcs_c rfl (zcs_c rfl zcs_0)))) (Nat.le_of_ble_eq_true rfl) (fun p e s m args below meth c ls hC hr hk htb hG hL => ?_)
  unfold vX0_either at hV
  refine z_aload_n hC zvr_a rfl (hL.at 3 rfl) dX0_either_0 ?_
  refine z_iconst hC dX0_either_1 ?_
  refine z_aload_n hC zvr_a rfl (hL.at 0 rfl) dX0_either_2 ?_
  refine z_iload_n hC rfl (hL.at 1 rfl) dX0_either_3 ?_
  refine z_iload_n hC rfl (hL.at 2 rfl) dX0_either_4 ?_
  refine z_lcall_i hG (zrunVX (ci := 1) hC hG (Nat.le_of_ble_eq_true rfl) (Nat.le_of_ble_eq_true rfl) (zobj hG rfl (Nat.le_of_ble_eq_true rfl) (Nat.le_of_ble_eq_true rfl)) (mX1_either l P G p0 hp0 p1 hp1 hst hV) kVX0_44 rfl rfl rfl ⟨(Nat.le_of_ble_eq_true rfl), (Nat.le_of_ble_eq_true rfl)⟩ ⟨(Nat.le_of_ble_eq_true rfl), (Nat.le_of_ble_eq_true rfl)⟩ rfl ⟨(zcs_c rfl (zcs_c rfl zcs_0)), (Nat.le_of_ble_eq_true rfl)⟩ hL.1.1 dX0_either_5) ?_ ?_
  · intro k G1 H1 locs1 ce q9 hX hG1 hc1 hc2 hc3
    rcases hX with ⟨rfl, hX⟩ | ⟨rfl, hX⟩ | ⟨rfl, hX⟩
    · refine z_catch (k := 0) (hpc := 13) hC [] [(0, 10, 17, 15), (0, 10, 21, 17)] (0, 10, 13, 13) htb (by decide) (fun _ h => nomatch h) rfl (by decide) q469 rfl hc1 hc2 hc3 ?_
      refine z_astore (lv' := [(4, .ref q9), (0, .ref (zA P 0 0 0)), (1, .int (zI p0)), (2, .int (zI p1)), (3, .ref (zA P 6 1 0))]) hC zvr_a hL (by decide) rfl dX0_either_13 (fun ls hL => ?_)
      refine z_iconst hC dX0_either_15 ?_
      exact z_iret hC hG1 hr hk (inR_lit rfl) hX (Nat.le_of_ble_eq_true rfl) (Nat.le_of_ble_eq_true rfl) dX0_either_16
    · refine z_catch (k := 1) (hpc := 17) hC [(0, 10, 13, 13)] [(0, 10, 21, 17)] (0, 10, 17, 15) htb (by decide) (List.forall_mem_cons.mpr ⟨⟨by decide, 0, by decide, by decide, q469⟩, (fun _ h => nomatch h)⟩) rfl (by decide) q546 rfl hc1 hc2 hc3 ?_
      refine z_astore (lv' := [(4, .ref q9), (0, .ref (zA P 0 0 0)), (1, .int (zI p0)), (2, .int (zI p1)), (3, .ref (zA P 6 1 0))]) hC zvr_a hL (by decide) rfl dX0_either_17 (fun ls hL => ?_)
      refine z_iconst hC dX0_either_19 ?_
      exact z_iret hC hG1 hr hk (inR_lit rfl) hX (Nat.le_of_ble_eq_true rfl) (Nat.le_of_ble_eq_true rfl) dX0_either_20
    · refine z_catch (k := 2) (hpc := 21) hC [(0, 10, 13, 13), (0, 10, 17, 15)] [] (0, 10, 21, 17) htb (by decide) (List.forall_mem_cons.mpr ⟨⟨by decide, 0, by decide, by decide, q469⟩, (List.forall_mem_cons.mpr ⟨⟨by decide, 1, by decide, by decide, q546⟩, (fun _ h => nomatch h)⟩)⟩) rfl (by decide) q547 rfl hc1 hc2 hc3 ?_
      refine z_astore (lv' := [(4, .ref q9), (0, .ref (zA P 0 0 0)), (1, .int (zI p0)), (2, .int (zI p1)), (3, .ref (zA P 6 1 0))]) hC zvr_a hL (by decide) rfl dX0_either_21 (fun ls hL => ?_)
      refine z_iconst hC dX0_either_23 ?_
      exact z_iret hC hG1 hr hk (inR_lit rfl) hX (Nat.le_of_ble_eq_true rfl) (Nat.le_of_ble_eq_true rfl) dX0_either_24
  · rintro x G1 H1 locs1 hx hV hG1
    refine z_i2l hC hx dX0_either_8 ?_
    refine z_outS hC hG1 hx rfl dX0_either_9 (fun H1 locs1 hG2 => ?_)
    refine z_goto (tgt := 25) hC dX0_either_10 (by decide) ?_
    refine z_iconst hC dX0_either_25 ?_
    exact z_iret hC hG2 hr hk (inR_lit rfl) hV (Nat.le_of_ble_eq_true rfl) (Nat.le_of_ble_eq_true rfl) dX0_either_26
abbrev rX0_view : Room := { frames := 11, cells := 8, slots := 139, locals := 249 }
def vX0_view (p0 : Int) (p1 : Int) (G : ZG) (Q : Int → ZG → Prop) : Prop := vX1_view p0 p1 G (fun k G1 => (k = 0 ∧ Q 1 G1) ∨ (k = 1 ∧ Q 2 G1) ∨ (k = 2 ∧ Q 3 G1)) (fun r G1 => Q 0 (zss G1 6 0 0 r))
set_option maxHeartbeats 4000000 in
theorem mX0_view (l : Launch) (P : ZP) (G : ZG) (p0 : Int) (hp0 : inR p0) (p1 : Int) (hp1 : inR p1) {Q : Int → ZG → Prop} (hst : l.stackTraces = false) (hV : vX0_view p0 p1 G Q) : Met l yX0_view (wsW_ yX0_view cX0_view 5 (some .int) [(0, 10, 13, 13), (0, 10, 17, 15), (0, 10, 21, 17)]) rX0_view (zPc P G [.ref (zA P 0 0 0), .int (zI p0), .int (zI p1), .ref (zA P 6 1 0)]) (zQi P Q) 8 139 (zAr P) := by
  refine zMetW RX0 (by decide) rfl (zcs_c rfl (zcs_c rfl (zcs_c rfl (zcs_c rfl zcs_0)))) (Nat.le_of_ble_eq_true rfl) (fun p e s m args below meth c ls hC hr hk htb hG hL => ?_)
  unfold vX0_view at hV
  refine z_aload_n hC zvr_a rfl (hL.at 3 rfl) dX0_view_0 ?_
  refine z_iconst hC dX0_view_1 ?_
  refine z_aload_n hC zvr_a rfl (hL.at 0 rfl) dX0_view_2 ?_
  refine z_iload_n hC rfl (hL.at 1 rfl) dX0_view_3 ?_
  refine z_iload_n hC rfl (hL.at 2 rfl) dX0_view_4 ?_
  refine z_lcall_i hG (zrunVX (ci := 1) hC hG (Nat.le_of_ble_eq_true rfl) (Nat.le_of_ble_eq_true rfl) (zobj hG rfl (Nat.le_of_ble_eq_true rfl) (Nat.le_of_ble_eq_true rfl)) (mX1_view l P G p0 hp0 p1 hp1 hst hV) kVX0_47 rfl rfl rfl ⟨(Nat.le_of_ble_eq_true rfl), (Nat.le_of_ble_eq_true rfl)⟩ ⟨(Nat.le_of_ble_eq_true rfl), (Nat.le_of_ble_eq_true rfl)⟩ rfl ⟨(zcs_c rfl (zcs_c rfl zcs_0)), (Nat.le_of_ble_eq_true rfl)⟩ hL.1.1 dX0_view_5) ?_ ?_
  · intro k G1 H1 locs1 ce q9 hX hG1 hc1 hc2 hc3
    rcases hX with ⟨rfl, hX⟩ | ⟨rfl, hX⟩ | ⟨rfl, hX⟩
    · refine z_catch (k := 0) (hpc := 13) hC [] [(0, 10, 17, 15), (0, 10, 21, 17)] (0, 10, 13, 13) htb (by decide) (fun _ h => nomatch h) rfl (by decide) q469 rfl hc1 hc2 hc3 ?_
      refine z_astore (lv' := [(4, .ref q9), (0, .ref (zA P 0 0 0)), (1, .int (zI p0)), (2, .int (zI p1)), (3, .ref (zA P 6 1 0))]) hC zvr_a hL (by decide) rfl dX0_view_13 (fun ls hL => ?_)
      refine z_iconst hC dX0_view_15 ?_
      exact z_iret hC hG1 hr hk (inR_lit rfl) hX (Nat.le_of_ble_eq_true rfl) (Nat.le_of_ble_eq_true rfl) dX0_view_16
    · refine z_catch (k := 1) (hpc := 17) hC [(0, 10, 13, 13)] [(0, 10, 21, 17)] (0, 10, 17, 15) htb (by decide) (List.forall_mem_cons.mpr ⟨⟨by decide, 0, by decide, by decide, q469⟩, (fun _ h => nomatch h)⟩) rfl (by decide) q546 rfl hc1 hc2 hc3 ?_
      refine z_astore (lv' := [(4, .ref q9), (0, .ref (zA P 0 0 0)), (1, .int (zI p0)), (2, .int (zI p1)), (3, .ref (zA P 6 1 0))]) hC zvr_a hL (by decide) rfl dX0_view_17 (fun ls hL => ?_)
      refine z_iconst hC dX0_view_19 ?_
      exact z_iret hC hG1 hr hk (inR_lit rfl) hX (Nat.le_of_ble_eq_true rfl) (Nat.le_of_ble_eq_true rfl) dX0_view_20
    · refine z_catch (k := 2) (hpc := 21) hC [(0, 10, 13, 13), (0, 10, 17, 15)] [] (0, 10, 21, 17) htb (by decide) (List.forall_mem_cons.mpr ⟨⟨by decide, 0, by decide, by decide, q469⟩, (List.forall_mem_cons.mpr ⟨⟨by decide, 1, by decide, by decide, q546⟩, (fun _ h => nomatch h)⟩)⟩) rfl (by decide) q547 rfl hc1 hc2 hc3 ?_
      refine z_astore (lv' := [(4, .ref q9), (0, .ref (zA P 0 0 0)), (1, .int (zI p0)), (2, .int (zI p1)), (3, .ref (zA P 6 1 0))]) hC zvr_a hL (by decide) rfl dX0_view_21 (fun ls hL => ?_)
      refine z_iconst hC dX0_view_23 ?_
      exact z_iret hC hG1 hr hk (inR_lit rfl) hX (Nat.le_of_ble_eq_true rfl) (Nat.le_of_ble_eq_true rfl) dX0_view_24
  · rintro x G1 H1 locs1 hx hV hG1
    refine z_i2l hC hx dX0_view_8 ?_
    refine z_outS hC hG1 hx rfl dX0_view_9 (fun H1 locs1 hG2 => ?_)
    refine z_goto (tgt := 25) hC dX0_view_10 (by decide) ?_
    refine z_iconst hC dX0_view_25 ?_
    exact z_iret hC hG2 hr hk (inR_lit rfl) hV (Nat.le_of_ble_eq_true rfl) (Nat.le_of_ble_eq_true rfl) dX0_view_26
abbrev rX0_list : Room := { frames := 12, cells := 21, slots := 298, locals := 283 }
def vX0_list (p0 : Int) (p1 : Int) (p2 : Int) (p3 : Int) (G : ZG) (Q : Int → ZG → Prop) : Prop := vX1_list p0 p1 p2 p3 G (fun k G1 => (k = 0 ∧ Q 1 G1) ∨ (k = 1 ∧ Q 2 G1) ∨ (k = 2 ∧ Q 3 G1)) (fun r G1 => Q 0 (zss G1 6 0 0 r))
set_option maxHeartbeats 4000000 in
theorem mX0_list (l : Launch) (P : ZP) (G : ZG) (p0 : Int) (hp0 : inR p0) (p1 : Int) (hp1 : inR p1) (p2 : Int) (hp2 : inR p2) (p3 : Int) (hp3 : inR p3) {Q : Int → ZG → Prop} (hst : l.stackTraces = false) (hV : vX0_list p0 p1 p2 p3 G Q) : Met l yX0_list (wsW_ yX0_list cX0_list 7 (some .int) [(0, 14, 17, 13), (0, 14, 21, 15), (0, 14, 25, 17)]) rX0_list (zPc P G [.ref (zA P 0 0 0), .int (zI p0), .int (zI p1), .int (zI p2), .int (zI p3), .ref (zA P 6 1 0)]) (zQi P Q) 21 298 (zAr P) := by
  refine zMetW RX0 (by decide) rfl (zcs_c rfl (zcs_c rfl (zcs_c rfl (zcs_c rfl (zcs_c rfl (zcs_c rfl zcs_0)))))) (Nat.le_of_ble_eq_true rfl) (fun p e s m args below meth c ls hC hr hk htb hG hL => ?_)
  unfold vX0_list at hV
  refine z_aload hC zvr_a  (hL.at 5 rfl) dX0_list_0 ?_
  refine z_iconst hC dX0_list_2 ?_
  refine z_aload_n hC zvr_a rfl (hL.at 0 rfl) dX0_list_3 ?_
  refine z_iload_n hC rfl (hL.at 1 rfl) dX0_list_4 ?_
  refine z_iload_n hC rfl (hL.at 2 rfl) dX0_list_5 ?_
  refine z_iload_n hC rfl (hL.at 3 rfl) dX0_list_6 ?_
  refine z_iload hC  (hL.at 4 rfl) dX0_list_7 ?_
  refine z_lcall_i hG (zrunVX (ci := 1) hC hG (Nat.le_of_ble_eq_true rfl) (Nat.le_of_ble_eq_true rfl) (zobj hG rfl (Nat.le_of_ble_eq_true rfl) (Nat.le_of_ble_eq_true rfl)) (mX1_list l P G p0 hp0 p1 hp1 p2 hp2 p3 hp3 hst hV) kVX0_50 rfl rfl rfl ⟨(Nat.le_of_ble_eq_true rfl), (Nat.le_of_ble_eq_true rfl)⟩ ⟨(Nat.le_of_ble_eq_true rfl), (Nat.le_of_ble_eq_true rfl)⟩ rfl ⟨(zcs_c rfl (zcs_c rfl zcs_0)), (Nat.le_of_ble_eq_true rfl)⟩ hL.1.1 dX0_list_9) ?_ ?_
  · intro k G1 H1 locs1 ce q9 hX hG1 hc1 hc2 hc3
    rcases hX with ⟨rfl, hX⟩ | ⟨rfl, hX⟩ | ⟨rfl, hX⟩
    · refine z_catch (k := 0) (hpc := 17) hC [] [(0, 14, 21, 15), (0, 14, 25, 17)] (0, 14, 17, 13) htb (by decide) (fun _ h => nomatch h) rfl (by decide) q469 rfl hc1 hc2 hc3 ?_
      refine z_astore (lv' := [(6, .ref q9), (0, .ref (zA P 0 0 0)), (1, .int (zI p0)), (2, .int (zI p1)), (3, .int (zI p2)), (4, .int (zI p3)), (5, .ref (zA P 6 1 0))]) hC zvr_a hL (by decide) rfl dX0_list_17 (fun ls hL => ?_)
      refine z_iconst hC dX0_list_19 ?_
      exact z_iret hC hG1 hr hk (inR_lit rfl) hX (Nat.le_of_ble_eq_true rfl) (Nat.le_of_ble_eq_true rfl) dX0_list_20
    · refine z_catch (k := 1) (hpc := 21) hC [(0, 14, 17, 13)] [(0, 14, 25, 17)] (0, 14, 21, 15) htb (by decide) (List.forall_mem_cons.mpr ⟨⟨by decide, 0, by decide, by decide, q469⟩, (fun _ h => nomatch h)⟩) rfl (by decide) q546 rfl hc1 hc2 hc3 ?_
      refine z_astore (lv' := [(6, .ref q9), (0, .ref (zA P 0 0 0)), (1, .int (zI p0)), (2, .int (zI p1)), (3, .int (zI p2)), (4, .int (zI p3)), (5, .ref (zA P 6 1 0))]) hC zvr_a hL (by decide) rfl dX0_list_21 (fun ls hL => ?_)
      refine z_iconst hC dX0_list_23 ?_
      exact z_iret hC hG1 hr hk (inR_lit rfl) hX (Nat.le_of_ble_eq_true rfl) (Nat.le_of_ble_eq_true rfl) dX0_list_24
    · refine z_catch (k := 2) (hpc := 25) hC [(0, 14, 17, 13), (0, 14, 21, 15)] [] (0, 14, 25, 17) htb (by decide) (List.forall_mem_cons.mpr ⟨⟨by decide, 0, by decide, by decide, q469⟩, (List.forall_mem_cons.mpr ⟨⟨by decide, 1, by decide, by decide, q546⟩, (fun _ h => nomatch h)⟩)⟩) rfl (by decide) q547 rfl hc1 hc2 hc3 ?_
      refine z_astore (lv' := [(6, .ref q9), (0, .ref (zA P 0 0 0)), (1, .int (zI p0)), (2, .int (zI p1)), (3, .int (zI p2)), (4, .int (zI p3)), (5, .ref (zA P 6 1 0))]) hC zvr_a hL (by decide) rfl dX0_list_25 (fun ls hL => ?_)
      refine z_iconst hC dX0_list_27 ?_
      exact z_iret hC hG1 hr hk (inR_lit rfl) hX (Nat.le_of_ble_eq_true rfl) (Nat.le_of_ble_eq_true rfl) dX0_list_28
  · rintro x G1 H1 locs1 hx hV hG1
    refine z_i2l hC hx dX0_list_12 ?_
    refine z_outS hC hG1 hx rfl dX0_list_13 (fun H1 locs1 hG2 => ?_)
    refine z_goto (tgt := 29) hC dX0_list_14 (by decide) ?_
    refine z_iconst hC dX0_list_29 ?_
    exact z_iret hC hG2 hr hk (inR_lit rfl) hV (Nat.le_of_ble_eq_true rfl) (Nat.le_of_ble_eq_true rfl) dX0_list_30
abbrev rX0_setView : Room := { frames := 10, cells := 3, slots := 16, locals := 146 }
def vX0_setView (p0 : Int) (p1 : Int) (p2 : Int) (p3 : Int) (p4 : Int) (G : ZG) (Q : Int → ZG → Prop) : Prop := vX1_setView p0 p1 p2 p3 p4 G (fun k G1 => (k = 0 ∧ Q 1 G1) ∨ (k = 1 ∧ Q 2 G1)) (fun r G1 => Q 0 (zss G1 6 0 0 r))
set_option maxHeartbeats 4000000 in
theorem mX0_setView (l : Launch) (P : ZP) (G : ZG) (p0 : Int) (hp0 : inR p0) (p1 : Int) (hp1 : inR p1) (p2 : Int) (hp2 : inR p2) (p3 : Int) (hp3 : inR p3) (p4 : Int) (hp4 : inR p4) {Q : Int → ZG → Prop} (hst : l.stackTraces = false) (hV : vX0_setView p0 p1 p2 p3 p4 G Q) : Met l yX0_setView (wsW_ yX0_setView cX0_setView 8 (some .int) [(0, 16, 19, 13), (0, 16, 23, 15)]) rX0_setView (zPc P G [.ref (zA P 0 0 0), .int (zI p0), .int (zI p1), .int (zI p2), .int (zI p3), .int (zI p4), .ref (zA P 6 1 0)]) (zQi P Q) 3 16 (zAr P) := by
  refine zMetW RX0 (by decide) rfl (zcs_c rfl (zcs_c rfl (zcs_c rfl (zcs_c rfl (zcs_c rfl (zcs_c rfl (zcs_c rfl zcs_0))))))) (Nat.le_of_ble_eq_true rfl) (fun p e s m args below meth c ls hC hr hk htb hG hL => ?_)
  unfold vX0_setView at hV
  refine z_aload hC zvr_a  (hL.at 6 rfl) dX0_setView_0 ?_
  refine z_iconst hC dX0_setView_2 ?_
  refine z_aload_n hC zvr_a rfl (hL.at 0 rfl) dX0_setView_3 ?_
  refine z_iload_n hC rfl (hL.at 1 rfl) dX0_setView_4 ?_
  refine z_iload_n hC rfl (hL.at 2 rfl) dX0_setView_5 ?_
  refine z_iload_n hC rfl (hL.at 3 rfl) dX0_setView_6 ?_
  refine z_iload hC  (hL.at 4 rfl) dX0_setView_7 ?_
  refine z_iload hC  (hL.at 5 rfl) dX0_setView_9 ?_
  refine z_lcall_i hG (zrunVX (ci := 1) hC hG (Nat.le_of_ble_eq_true rfl) (Nat.le_of_ble_eq_true rfl) (zobj hG rfl (Nat.le_of_ble_eq_true rfl) (Nat.le_of_ble_eq_true rfl)) (mX1_setView l P G p0 hp0 p1 hp1 p2 hp2 p3 hp3 p4 hp4 hst hV) kVX0_53 rfl rfl rfl ⟨(Nat.le_of_ble_eq_true rfl), (Nat.le_of_ble_eq_true rfl)⟩ ⟨(Nat.le_of_ble_eq_true rfl), (Nat.le_of_ble_eq_true rfl)⟩ rfl ⟨(zcs_c rfl (zcs_c rfl zcs_0)), (Nat.le_of_ble_eq_true rfl)⟩ hL.1.1 dX0_setView_11) ?_ ?_
  · intro k G1 H1 locs1 ce q9 hX hG1 hc1 hc2 hc3
    rcases hX with ⟨rfl, hX⟩ | ⟨rfl, hX⟩
    · refine z_catch (k := 0) (hpc := 19) hC [] [(0, 16, 23, 15)] (0, 16, 19, 13) htb (by decide) (fun _ h => nomatch h) rfl (by decide) q469 rfl hc1 hc2 hc3 ?_
      refine z_astore (lv' := [(7, .ref q9), (0, .ref (zA P 0 0 0)), (1, .int (zI p0)), (2, .int (zI p1)), (3, .int (zI p2)), (4, .int (zI p3)), (5, .int (zI p4)), (6, .ref (zA P 6 1 0))]) hC zvr_a hL (by decide) rfl dX0_setView_19 (fun ls hL => ?_)
      refine z_iconst hC dX0_setView_21 ?_
      exact z_iret hC hG1 hr hk (inR_lit rfl) hX (Nat.le_of_ble_eq_true rfl) (Nat.le_of_ble_eq_true rfl) dX0_setView_22
    · refine z_catch (k := 1) (hpc := 23) hC [(0, 16, 19, 13)] [] (0, 16, 23, 15) htb (by decide) (List.forall_mem_cons.mpr ⟨⟨by decide, 0, by decide, by decide, q469⟩, (fun _ h => nomatch h)⟩) rfl (by decide) q546 rfl hc1 hc2 hc3 ?_
      refine z_astore (lv' := [(7, .ref q9), (0, .ref (zA P 0 0 0)), (1, .int (zI p0)), (2, .int (zI p1)), (3, .int (zI p2)), (4, .int (zI p3)), (5, .int (zI p4)), (6, .ref (zA P 6 1 0))]) hC zvr_a hL (by decide) rfl dX0_setView_23 (fun ls hL => ?_)
      refine z_iconst hC dX0_setView_25 ?_
      exact z_iret hC hG1 hr hk (inR_lit rfl) hX (Nat.le_of_ble_eq_true rfl) (Nat.le_of_ble_eq_true rfl) dX0_setView_26
  · rintro x G1 H1 locs1 hx hV hG1
    refine z_i2l hC hx dX0_setView_14 ?_
    refine z_outS hC hG1 hx rfl dX0_setView_15 (fun H1 locs1 hG2 => ?_)
    refine z_goto (tgt := 27) hC dX0_setView_16 (by decide) ?_
    refine z_iconst hC dX0_setView_27 ?_
    exact z_iret hC hG2 hr hk (inR_lit rfl) hV (Nat.le_of_ble_eq_true rfl) (Nat.le_of_ble_eq_true rfl) dX0_setView_28
abbrev rX0_begin : Room := { frames := 10, cells := 1, slots := 6, locals := 145 }
def vX0_begin (p0 : Int) (p1 : Int) (p2 : Int) (p3 : Int) (G : ZG) (Q : Int → ZG → Prop) : Prop := vX1_begin p0 p1 p2 p3 G (fun k G1 => (k = 1 ∧ Q 1 G1)) (fun r G1 => Q 0 (zss G1 6 0 0 r))
set_option maxHeartbeats 4000000 in
theorem mX0_begin (l : Launch) (P : ZP) (G : ZG) (p0 : Int) (hp0 : inR p0) (p1 : Int) (hp1 : inR p1) (p2 : Int) (hp2 : inR p2) (p3 : Int) (hp3 : inR p3) {Q : Int → ZG → Prop} (hst : l.stackTraces = false) (hV : vX0_begin p0 p1 p2 p3 G Q) : Met l yX0_begin (wsW_ yX0_begin cX0_begin 7 (some .int) [(0, 14, 17, 15)]) rX0_begin (zPc P G [.ref (zA P 0 0 0), .int (zI p0), .int (zI p1), .int (zI p2), .int (zI p3), .ref (zA P 6 1 0)]) (zQi P Q) 1 6 (zAr P) := by
  refine zMetW RX0 (by decide) rfl (zcs_c rfl (zcs_c rfl (zcs_c rfl (zcs_c rfl (zcs_c rfl (zcs_c rfl zcs_0)))))) (Nat.le_of_ble_eq_true rfl) (fun p e s m args below meth c ls hC hr hk htb hG hL => ?_)
  unfold vX0_begin at hV
  refine z_aload hC zvr_a  (hL.at 5 rfl) dX0_begin_0 ?_
  refine z_iconst hC dX0_begin_2 ?_
  refine z_aload_n hC zvr_a rfl (hL.at 0 rfl) dX0_begin_3 ?_
  refine z_iload_n hC rfl (hL.at 1 rfl) dX0_begin_4 ?_
  refine z_iload_n hC rfl (hL.at 2 rfl) dX0_begin_5 ?_
  refine z_iload_n hC rfl (hL.at 3 rfl) dX0_begin_6 ?_
  refine z_iload hC  (hL.at 4 rfl) dX0_begin_7 ?_
  refine z_lcall_i hG (zrunVX (ci := 1) hC hG (Nat.le_of_ble_eq_true rfl) (Nat.le_of_ble_eq_true rfl) (zobj hG rfl (Nat.le_of_ble_eq_true rfl) (Nat.le_of_ble_eq_true rfl)) (mX1_begin l P G p0 hp0 p1 hp1 p2 hp2 p3 hp3 hst hV) kVX0_56 rfl rfl rfl ⟨(Nat.le_of_ble_eq_true rfl), (Nat.le_of_ble_eq_true rfl)⟩ ⟨(Nat.le_of_ble_eq_true rfl), (Nat.le_of_ble_eq_true rfl)⟩ rfl ⟨(zcs_c rfl (zcs_c rfl zcs_0)), (Nat.le_of_ble_eq_true rfl)⟩ hL.1.1 dX0_begin_9) ?_ ?_
  · intro k G1 H1 locs1 ce q9 hX hG1 hc1 hc2 hc3
    rcases hX with ⟨rfl, hX⟩
    · refine z_catch (k := 1) (hpc := 17) hC [] [] (0, 14, 17, 15) htb (by decide) (fun _ h => nomatch h) rfl (by decide) q546 rfl hc1 hc2 hc3 ?_
      refine z_astore (lv' := [(6, .ref q9), (0, .ref (zA P 0 0 0)), (1, .int (zI p0)), (2, .int (zI p1)), (3, .int (zI p2)), (4, .int (zI p3)), (5, .ref (zA P 6 1 0))]) hC zvr_a hL (by decide) rfl dX0_begin_17 (fun ls hL => ?_)
      refine z_iconst hC dX0_begin_19 ?_
      exact z_iret hC hG1 hr hk (inR_lit rfl) hX (Nat.le_of_ble_eq_true rfl) (Nat.le_of_ble_eq_true rfl) dX0_begin_20
  · rintro x G1 H1 locs1 hx hV hG1
    refine z_i2l hC hx dX0_begin_12 ?_
    refine z_outS hC hG1 hx rfl dX0_begin_13 (fun H1 locs1 hG2 => ?_)
    refine z_goto (tgt := 21) hC dX0_begin_14 (by decide) ?_
    refine z_iconst hC dX0_begin_21 ?_
    exact z_iret hC hG2 hr hk (inR_lit rfl) hV (Nat.le_of_ble_eq_true rfl) (Nat.le_of_ble_eq_true rfl) dX0_begin_22
abbrev rX0_add : Room := { frames := 11, cells := 11, slots := 151, locals := 227 }
def vX0_add (p0 : Int) (p1 : Int) (p2 : Int) (p3 : Int) (G : ZG) (Q : Int → ZG → Prop) : Prop := vX1_add p0 p1 p2 p3 G (fun k G1 => (k = 0 ∧ Q 1 G1) ∨ (k = 1 ∧ Q 2 G1) ∨ (k = 2 ∧ Q 3 G1)) (fun r G1 => Q 0 (zss G1 6 0 0 r))
set_option maxHeartbeats 4000000 in
theorem mX0_add (l : Launch) (P : ZP) (G : ZG) (p0 : Int) (hp0 : inR p0) (p1 : Int) (hp1 : inR p1) (p2 : Int) (hp2 : inR p2) (p3 : Int) (hp3 : inR p3) {Q : Int → ZG → Prop} (hst : l.stackTraces = false) (hV : vX0_add p0 p1 p2 p3 G Q) : Met l yX0_add (wsW_ yX0_add cX0_add 7 (some .int) [(0, 14, 17, 13), (0, 14, 21, 15), (0, 14, 25, 17)]) rX0_add (zPc P G [.ref (zA P 0 0 0), .int (zI p0), .int (zI p1), .int (zI p2), .int (zI p3), .ref (zA P 6 1 0)]) (zQi P Q) 11 151 (zAr P) := by
  refine zMetW RX0 (by decide) rfl (zcs_c rfl (zcs_c rfl (zcs_c rfl (zcs_c rfl (zcs_c rfl (zcs_c rfl zcs_0)))))) (Nat.le_of_ble_eq_true rfl) (fun p e s m args below meth c ls hC hr hk htb hG hL => ?_)
  unfold vX0_add at hV
  refine z_aload hC zvr_a  (hL.at 5 rfl) dX0_add_0 ?_
  refine z_iconst hC dX0_add_2 ?_
  refine z_aload_n hC zvr_a rfl (hL.at 0 rfl) dX0_add_3 ?_
  refine z_iload_n hC rfl (hL.at 1 rfl) dX0_add_4 ?_
  refine z_iload_n hC rfl (hL.at 2 rfl) dX0_add_5 ?_
  refine z_iload_n hC rfl (hL.at 3 rfl) dX0_add_6 ?_
  refine z_iload hC  (hL.at 4 rfl) dX0_add_7 ?_
  refine z_lcall_i hG (zrunVX (ci := 1) hC hG (Nat.le_of_ble_eq_true rfl) (Nat.le_of_ble_eq_true rfl) (zobj hG rfl (Nat.le_of_ble_eq_true rfl) (Nat.le_of_ble_eq_true rfl)) (mX1_add l P G p0 hp0 p1 hp1 p2 hp2 p3 hp3 hst hV) kVX0_59 rfl rfl rfl ⟨(Nat.le_of_ble_eq_true rfl), (Nat.le_of_ble_eq_true rfl)⟩ ⟨(Nat.le_of_ble_eq_true rfl), (Nat.le_of_ble_eq_true rfl)⟩ rfl ⟨(zcs_c rfl (zcs_c rfl zcs_0)), (Nat.le_of_ble_eq_true rfl)⟩ hL.1.1 dX0_add_9) ?_ ?_
  · intro k G1 H1 locs1 ce q9 hX hG1 hc1 hc2 hc3
    rcases hX with ⟨rfl, hX⟩ | ⟨rfl, hX⟩ | ⟨rfl, hX⟩
    · refine z_catch (k := 0) (hpc := 17) hC [] [(0, 14, 21, 15), (0, 14, 25, 17)] (0, 14, 17, 13) htb (by decide) (fun _ h => nomatch h) rfl (by decide) q469 rfl hc1 hc2 hc3 ?_
      refine z_astore (lv' := [(6, .ref q9), (0, .ref (zA P 0 0 0)), (1, .int (zI p0)), (2, .int (zI p1)), (3, .int (zI p2)), (4, .int (zI p3)), (5, .ref (zA P 6 1 0))]) hC zvr_a hL (by decide) rfl dX0_add_17 (fun ls hL => ?_)
      refine z_iconst hC dX0_add_19 ?_
      exact z_iret hC hG1 hr hk (inR_lit rfl) hX (Nat.le_of_ble_eq_true rfl) (Nat.le_of_ble_eq_true rfl) dX0_add_20
    · refine z_catch (k := 1) (hpc := 21) hC [(0, 14, 17, 13)] [(0, 14, 25, 17)] (0, 14, 21, 15) htb (by decide) (List.forall_mem_cons.mpr ⟨⟨by decide, 0, by decide, by decide, q469⟩, (fun _ h => nomatch h)⟩) rfl (by decide) q546 rfl hc1 hc2 hc3 ?_
      refine z_astore (lv' := [(6, .ref q9), (0, .ref (zA P 0 0 0)), (1, .int (zI p0)), (2, .int (zI p1)), (3, .int (zI p2)), (4, .int (zI p3)), (5, .ref (zA P 6 1 0))]) hC zvr_a hL (by decide) rfl dX0_add_21 (fun ls hL => ?_)
      refine z_iconst hC dX0_add_23 ?_
      exact z_iret hC hG1 hr hk (inR_lit rfl) hX (Nat.le_of_ble_eq_true rfl) (Nat.le_of_ble_eq_true rfl) dX0_add_24
    · refine z_catch (k := 2) (hpc := 25) hC [(0, 14, 17, 13), (0, 14, 21, 15)] [] (0, 14, 25, 17) htb (by decide) (List.forall_mem_cons.mpr ⟨⟨by decide, 0, by decide, by decide, q469⟩, (List.forall_mem_cons.mpr ⟨⟨by decide, 1, by decide, by decide, q546⟩, (fun _ h => nomatch h)⟩)⟩) rfl (by decide) q547 rfl hc1 hc2 hc3 ?_
      refine z_astore (lv' := [(6, .ref q9), (0, .ref (zA P 0 0 0)), (1, .int (zI p0)), (2, .int (zI p1)), (3, .int (zI p2)), (4, .int (zI p3)), (5, .ref (zA P 6 1 0))]) hC zvr_a hL (by decide) rfl dX0_add_25 (fun ls hL => ?_)
      refine z_iconst hC dX0_add_27 ?_
      exact z_iret hC hG1 hr hk (inR_lit rfl) hX (Nat.le_of_ble_eq_true rfl) (Nat.le_of_ble_eq_true rfl) dX0_add_28
  · rintro x G1 H1 locs1 hx hV hG1
    refine z_i2l hC hx dX0_add_12 ?_
    refine z_outS hC hG1 hx rfl dX0_add_13 (fun H1 locs1 hG2 => ?_)
    refine z_goto (tgt := 29) hC dX0_add_14 (by decide) ?_
    refine z_iconst hC dX0_add_29 ?_
    exact z_iret hC hG2 hr hk (inR_lit rfl) hV (Nat.le_of_ble_eq_true rfl) (Nat.le_of_ble_eq_true rfl) dX0_add_30
abbrev rX0_guard : Room := { frames := 52, cells := 4, slots := 22, locals := 1369 }
def vX0_guard (p0 : Int) (p1 : Int) (p2 : Int) (p3 : Int) (G : ZG) (Q : Int → ZG → Prop) : Prop := vX1_guard p0 p1 p2 p3 G (fun k G1 => (k = 0 ∧ Q 1 G1) ∨ (k = 1 ∧ Q 2 G1)) (fun r G1 => Q 0 (zss G1 6 0 0 r))
set_option maxHeartbeats 4000000 in
theorem mX0_guard (l : Launch) (P : ZP) (G : ZG) (p0 : Int) (hp0 : inR p0) (p1 : Int) (hp1 : inR p1) (p2 : Int) (hp2 : inR p2) (p3 : Int) (hp3 : inR p3) {Q : Int → ZG → Prop} (hst : l.stackTraces = false) (hV : vX0_guard p0 p1 p2 p3 G Q) : Met l yX0_guard (wsW_ yX0_guard cX0_guard 7 (some .int) [(0, 14, 17, 13), (0, 14, 21, 15)]) rX0_guard (zPc P G [.ref (zA P 0 0 0), .int (zI p0), .int (zI p1), .int (zI p2), .int (zI p3), .ref (zA P 6 1 0)]) (zQi P Q) 4 22 (zAr P) := by
  refine zMetW RX0 (by decide) rfl (zcs_c rfl (zcs_c rfl (zcs_c rfl (zcs_c rfl (zcs_c rfl (zcs_c rfl zcs_0)))))) (Nat.le_of_ble_eq_true rfl) (fun p e s m args below meth c ls hC hr hk htb hG hL => ?_)
  unfold vX0_guard at hV
  refine z_aload hC zvr_a  (hL.at 5 rfl) dX0_guard_0 ?_
  refine z_iconst hC dX0_guard_2 ?_
  refine z_aload_n hC zvr_a rfl (hL.at 0 rfl) dX0_guard_3 ?_
  refine z_iload_n hC rfl (hL.at 1 rfl) dX0_guard_4 ?_
  refine z_iload_n hC rfl (hL.at 2 rfl) dX0_guard_5 ?_
  refine z_iload_n hC rfl (hL.at 3 rfl) dX0_guard_6 ?_
  refine z_iload hC  (hL.at 4 rfl) dX0_guard_7 ?_
  refine z_lcall_i hG (zrunVX (ci := 1) hC hG (Nat.le_of_ble_eq_true rfl) (Nat.le_of_ble_eq_true rfl) (zobj hG rfl (Nat.le_of_ble_eq_true rfl) (Nat.le_of_ble_eq_true rfl)) (mX1_guard l P G p0 hp0 p1 hp1 p2 hp2 p3 hp3 hst hV) kVX0_62 rfl rfl rfl ⟨(Nat.le_of_ble_eq_true rfl), (Nat.le_of_ble_eq_true rfl)⟩ ⟨(Nat.le_of_ble_eq_true rfl), (Nat.le_of_ble_eq_true rfl)⟩ rfl ⟨(zcs_c rfl (zcs_c rfl zcs_0)), (Nat.le_of_ble_eq_true rfl)⟩ hL.1.1 dX0_guard_9) ?_ ?_
  · intro k G1 H1 locs1 ce q9 hX hG1 hc1 hc2 hc3
    rcases hX with ⟨rfl, hX⟩ | ⟨rfl, hX⟩
    · refine z_catch (k := 0) (hpc := 17) hC [] [(0, 14, 21, 15)] (0, 14, 17, 13) htb (by decide) (fun _ h => nomatch h) rfl (by decide) q469 rfl hc1 hc2 hc3 ?_
      refine z_astore (lv' := [(6, .ref q9), (0, .ref (zA P 0 0 0)), (1, .int (zI p0)), (2, .int (zI p1)), (3, .int (zI p2)), (4, .int (zI p3)), (5, .ref (zA P 6 1 0))]) hC zvr_a hL (by decide) rfl dX0_guard_17 (fun ls hL => ?_)
      refine z_iconst hC dX0_guard_19 ?_
      exact z_iret hC hG1 hr hk (inR_lit rfl) hX (Nat.le_of_ble_eq_true rfl) (Nat.le_of_ble_eq_true rfl) dX0_guard_20
    · refine z_catch (k := 1) (hpc := 21) hC [(0, 14, 17, 13)] [] (0, 14, 21, 15) htb (by decide) (List.forall_mem_cons.mpr ⟨⟨by decide, 0, by decide, by decide, q469⟩, (fun _ h => nomatch h)⟩) rfl (by decide) q546 rfl hc1 hc2 hc3 ?_
      refine z_astore (lv' := [(6, .ref q9), (0, .ref (zA P 0 0 0)), (1, .int (zI p0)), (2, .int (zI p1)), (3, .int (zI p2)), (4, .int (zI p3)), (5, .ref (zA P 6 1 0))]) hC zvr_a hL (by decide) rfl dX0_guard_21 (fun ls hL => ?_)
      refine z_iconst hC dX0_guard_23 ?_
      exact z_iret hC hG1 hr hk (inR_lit rfl) hX (Nat.le_of_ble_eq_true rfl) (Nat.le_of_ble_eq_true rfl) dX0_guard_24
  · rintro x G1 H1 locs1 hx hV hG1
    refine z_i2l hC hx dX0_guard_12 ?_
    refine z_outS hC hG1 hx rfl dX0_guard_13 (fun H1 locs1 hG2 => ?_)
    refine z_goto (tgt := 25) hC dX0_guard_14 (by decide) ?_
    refine z_iconst hC dX0_guard_25 ?_
    exact z_iret hC hG2 hr hk (inR_lit rfl) hV (Nat.le_of_ble_eq_true rfl) (Nat.le_of_ble_eq_true rfl) dX0_guard_26
abbrev rX0_split : Room := { frames := 11, cells := 8, slots := 136, locals := 204 }
def vX0_split (p0 : Int) (p1 : Int) (G : ZG) (Q : Int → ZG → Prop) : Prop := vX1_split p0 p1 G (fun k G1 => (k = 0 ∧ Q 1 G1) ∨ (k = 2 ∧ Q 2 G1)) (fun r G1 => Q 0 (zss G1 6 0 0 r))
set_option maxHeartbeats 4000000 in
theorem mX0_split (l : Launch) (P : ZP) (G : ZG) (p0 : Int) (hp0 : inR p0) (p1 : Int) (hp1 : inR p1) {Q : Int → ZG → Prop} (hst : l.stackTraces = false) (hV : vX0_split p0 p1 G Q) : Met l yX0_split (wsW_ yX0_split cX0_split 5 (some .int) [(0, 10, 13, 13), (0, 10, 17, 17)]) rX0_split (zPc P G [.ref (zA P 0 0 0), .int (zI p0), .int (zI p1), .ref (zA P 6 1 0)]) (zQi P Q) 8 136 (zAr P) := by
  refine zMetW RX0 (by decide) rfl (zcs_c rfl (zcs_c rfl (zcs_c rfl (zcs_c rfl zcs_0)))) (Nat.le_of_ble_eq_true rfl) (fun p e s m args below meth c ls hC hr hk htb hG hL => ?_)
  unfold vX0_split at hV
  refine z_aload_n hC zvr_a rfl (hL.at 3 rfl) dX0_split_0 ?_
  refine z_iconst hC dX0_split_1 ?_
  refine z_aload_n hC zvr_a rfl (hL.at 0 rfl) dX0_split_2 ?_
  refine z_iload_n hC rfl (hL.at 1 rfl) dX0_split_3 ?_
  refine z_iload_n hC rfl (hL.at 2 rfl) dX0_split_4 ?_
  refine z_lcall_i hG (zrunVX (ci := 1) hC hG (Nat.le_of_ble_eq_true rfl) (Nat.le_of_ble_eq_true rfl) (zobj hG rfl (Nat.le_of_ble_eq_true rfl) (Nat.le_of_ble_eq_true rfl)) (mX1_split l P G p0 hp0 p1 hp1 hst hV) kVX0_65 rfl rfl rfl ⟨(Nat.le_of_ble_eq_true rfl), (Nat.le_of_ble_eq_true rfl)⟩ ⟨(Nat.le_of_ble_eq_true rfl), (Nat.le_of_ble_eq_true rfl)⟩ rfl ⟨(zcs_c rfl (zcs_c rfl zcs_0)), (Nat.le_of_ble_eq_true rfl)⟩ hL.1.1 dX0_split_5) ?_ ?_
  · intro k G1 H1 locs1 ce q9 hX hG1 hc1 hc2 hc3
    rcases hX with ⟨rfl, hX⟩ | ⟨rfl, hX⟩
    · refine z_catch (k := 0) (hpc := 13) hC [] [(0, 10, 17, 17)] (0, 10, 13, 13) htb (by decide) (fun _ h => nomatch h) rfl (by decide) q469 rfl hc1 hc2 hc3 ?_
      refine z_astore (lv' := [(4, .ref q9), (0, .ref (zA P 0 0 0)), (1, .int (zI p0)), (2, .int (zI p1)), (3, .ref (zA P 6 1 0))]) hC zvr_a hL (by decide) rfl dX0_split_13 (fun ls hL => ?_)
      refine z_iconst hC dX0_split_15 ?_
      exact z_iret hC hG1 hr hk (inR_lit rfl) hX (Nat.le_of_ble_eq_true rfl) (Nat.le_of_ble_eq_true rfl) dX0_split_16
    · refine z_catch (k := 2) (hpc := 17) hC [(0, 10, 13, 13)] [] (0, 10, 17, 17) htb (by decide) (List.forall_mem_cons.mpr ⟨⟨by decide, 0, by decide, by decide, q469⟩, (fun _ h => nomatch h)⟩) rfl (by decide) q547 rfl hc1 hc2 hc3 ?_
      refine z_astore (lv' := [(4, .ref q9), (0, .ref (zA P 0 0 0)), (1, .int (zI p0)), (2, .int (zI p1)), (3, .ref (zA P 6 1 0))]) hC zvr_a hL (by decide) rfl dX0_split_17 (fun ls hL => ?_)
      refine z_iconst hC dX0_split_19 ?_
      exact z_iret hC hG1 hr hk (inR_lit rfl) hX (Nat.le_of_ble_eq_true rfl) (Nat.le_of_ble_eq_true rfl) dX0_split_20
  · rintro x G1 H1 locs1 hx hV hG1
    refine z_i2l hC hx dX0_split_8 ?_
    refine z_outS hC hG1 hx rfl dX0_split_9 (fun H1 locs1 hG2 => ?_)
    refine z_goto (tgt := 21) hC dX0_split_10 (by decide) ?_
    refine z_iconst hC dX0_split_21 ?_
    exact z_iret hC hG2 hr hk (inR_lit rfl) hV (Nat.le_of_ble_eq_true rfl) (Nat.le_of_ble_eq_true rfl) dX0_split_22
abbrev rX0_merge : Room := { frames := 12, cells := 10, slots := 148, locals := 277 }
def vX0_merge (p0 : Int) (p1 : Int) (G : ZG) (Q : Int → ZG → Prop) : Prop := vX1_merge p0 p1 G (fun k G1 => (k = 0 ∧ Q 1 G1) ∨ (k = 2 ∧ Q 2 G1)) (fun r G1 => Q 0 (zss G1 6 0 0 r))
set_option maxHeartbeats 4000000 in
theorem mX0_merge (l : Launch) (P : ZP) (G : ZG) (p0 : Int) (hp0 : inR p0) (p1 : Int) (hp1 : inR p1) {Q : Int → ZG → Prop} (hst : l.stackTraces = false) (hV : vX0_merge p0 p1 G Q) : Met l yX0_merge (wsW_ yX0_merge cX0_merge 5 (some .int) [(0, 10, 13, 13), (0, 10, 17, 17)]) rX0_merge (zPc P G [.ref (zA P 0 0 0), .int (zI p0), .int (zI p1), .ref (zA P 6 1 0)]) (zQi P Q) 10 148 (zAr P) := by
  refine zMetW RX0 (by decide) rfl (zcs_c rfl (zcs_c rfl (zcs_c rfl (zcs_c rfl zcs_0)))) (Nat.le_of_ble_eq_true rfl) (fun p e s m args below meth c ls hC hr hk htb hG hL => ?_)
  unfold vX0_merge at hV
  refine z_aload_n hC zvr_a rfl (hL.at 3 rfl) dX0_merge_0 ?_
  refine z_iconst hC dX0_merge_1 ?_
  refine z_aload_n hC zvr_a rfl (hL.at 0 rfl) dX0_merge_2 ?_
  refine z_iload_n hC rfl (hL.at 1 rfl) dX0_merge_3 ?_
  refine z_iload_n hC rfl (hL.at 2 rfl) dX0_merge_4 ?_
  refine z_lcall_i hG (zrunVX (ci := 1) hC hG (Nat.le_of_ble_eq_true rfl) (Nat.le_of_ble_eq_true rfl) (zobj hG rfl (Nat.le_of_ble_eq_true rfl) (Nat.le_of_ble_eq_true rfl)) (mX1_merge l P G p0 hp0 p1 hp1 hst hV) kVX0_68 rfl rfl rfl ⟨(Nat.le_of_ble_eq_true rfl), (Nat.le_of_ble_eq_true rfl)⟩ ⟨(Nat.le_of_ble_eq_true rfl), (Nat.le_of_ble_eq_true rfl)⟩ rfl ⟨(zcs_c rfl (zcs_c rfl zcs_0)), (Nat.le_of_ble_eq_true rfl)⟩ hL.1.1 dX0_merge_5) ?_ ?_
  · intro k G1 H1 locs1 ce q9 hX hG1 hc1 hc2 hc3
    rcases hX with ⟨rfl, hX⟩ | ⟨rfl, hX⟩
    · refine z_catch (k := 0) (hpc := 13) hC [] [(0, 10, 17, 17)] (0, 10, 13, 13) htb (by decide) (fun _ h => nomatch h) rfl (by decide) q469 rfl hc1 hc2 hc3 ?_
      refine z_astore (lv' := [(4, .ref q9), (0, .ref (zA P 0 0 0)), (1, .int (zI p0)), (2, .int (zI p1)), (3, .ref (zA P 6 1 0))]) hC zvr_a hL (by decide) rfl dX0_merge_13 (fun ls hL => ?_)
      refine z_iconst hC dX0_merge_15 ?_
      exact z_iret hC hG1 hr hk (inR_lit rfl) hX (Nat.le_of_ble_eq_true rfl) (Nat.le_of_ble_eq_true rfl) dX0_merge_16
    · refine z_catch (k := 2) (hpc := 17) hC [(0, 10, 13, 13)] [] (0, 10, 17, 17) htb (by decide) (List.forall_mem_cons.mpr ⟨⟨by decide, 0, by decide, by decide, q469⟩, (fun _ h => nomatch h)⟩) rfl (by decide) q547 rfl hc1 hc2 hc3 ?_
      refine z_astore (lv' := [(4, .ref q9), (0, .ref (zA P 0 0 0)), (1, .int (zI p0)), (2, .int (zI p1)), (3, .ref (zA P 6 1 0))]) hC zvr_a hL (by decide) rfl dX0_merge_17 (fun ls hL => ?_)
      refine z_iconst hC dX0_merge_19 ?_
      exact z_iret hC hG1 hr hk (inR_lit rfl) hX (Nat.le_of_ble_eq_true rfl) (Nat.le_of_ble_eq_true rfl) dX0_merge_20
  · rintro x G1 H1 locs1 hx hV hG1
    refine z_i2l hC hx dX0_merge_8 ?_
    refine z_outS hC hG1 hx rfl dX0_merge_9 (fun H1 locs1 hG2 => ?_)
    refine z_goto (tgt := 21) hC dX0_merge_10 (by decide) ?_
    refine z_iconst hC dX0_merge_21 ?_
    exact z_iret hC hG2 hr hk (inR_lit rfl) hV (Nat.le_of_ble_eq_true rfl) (Nat.le_of_ble_eq_true rfl) dX0_merge_22
abbrev rX0_run : Room := { frames := 1747, cells := 1010, slots := 70051, locals := 46747 }
def vX0_run (p0 : Int) (p1 : Int) (p2 : Int) (p3 : Int) (G : ZG) (Q : Int → ZG → Prop) : Prop := vX1_run p0 p1 p2 p3 G (fun k G1 => (k = 0 ∧ Q 1 G1) ∨ (k = 1 ∧ Q 2 G1) ∨ (k = 2 ∧ Q 3 G1)) (fun r G1 => Q 0 (zss G1 6 0 0 r))
set_option maxHeartbeats 4000000 in
theorem mX0_run (l : Launch) (P : ZP) (G : ZG) (p0 : Int) (hp0 : inR p0) (p1 : Int) (hp1 : inR p1) (p2 : Int) (hp2 : inR p2) (p3 : Int) (hp3 : inR p3) {Q : Int → ZG → Prop} (hst : l.stackTraces = false) (hV : vX0_run p0 p1 p2 p3 G Q) : Met l yX0_run (wsW_ yX0_run cX0_run 7 (some .int) [(0, 14, 17, 13), (0, 14, 21, 15), (0, 14, 25, 17)]) rX0_run (zPc P G [.ref (zA P 0 0 0), .int (zI p0), .int (zI p1), .int (zI p2), .int (zI p3), .ref (zA P 6 1 0)]) (zQi P Q) 1010 70051 (zAr P) := by
  refine zMetW RX0 (by decide) rfl (zcs_c rfl (zcs_c rfl (zcs_c rfl (zcs_c rfl (zcs_c rfl (zcs_c rfl zcs_0)))))) (Nat.le_of_ble_eq_true rfl) (fun p e s m args below meth c ls hC hr hk htb hG hL => ?_)
  unfold vX0_run at hV
  refine z_aload hC zvr_a  (hL.at 5 rfl) dX0_run_0 ?_
  refine z_iconst hC dX0_run_2 ?_
  refine z_aload_n hC zvr_a rfl (hL.at 0 rfl) dX0_run_3 ?_
  refine z_iload_n hC rfl (hL.at 1 rfl) dX0_run_4 ?_
  refine z_iload_n hC rfl (hL.at 2 rfl) dX0_run_5 ?_
  refine z_iload_n hC rfl (hL.at 3 rfl) dX0_run_6 ?_
  refine z_iload hC  (hL.at 4 rfl) dX0_run_7 ?_
  refine z_lcall_i hG (zrunVX (ci := 1) hC hG (Nat.le_of_ble_eq_true rfl) (Nat.le_of_ble_eq_true rfl) (zobj hG rfl (Nat.le_of_ble_eq_true rfl) (Nat.le_of_ble_eq_true rfl)) (mX1_run l P G p0 hp0 p1 hp1 p2 hp2 p3 hp3 hst hV) kVX0_71 rfl rfl rfl ⟨(Nat.le_of_ble_eq_true rfl), (Nat.le_of_ble_eq_true rfl)⟩ ⟨(Nat.le_of_ble_eq_true rfl), (Nat.le_of_ble_eq_true rfl)⟩ rfl ⟨(zcs_c rfl (zcs_c rfl zcs_0)), (Nat.le_of_ble_eq_true rfl)⟩ hL.1.1 dX0_run_9) ?_ ?_
  · intro k G1 H1 locs1 ce q9 hX hG1 hc1 hc2 hc3
    rcases hX with ⟨rfl, hX⟩ | ⟨rfl, hX⟩ | ⟨rfl, hX⟩
    · refine z_catch (k := 0) (hpc := 17) hC [] [(0, 14, 21, 15), (0, 14, 25, 17)] (0, 14, 17, 13) htb (by decide) (fun _ h => nomatch h) rfl (by decide) q469 rfl hc1 hc2 hc3 ?_
      refine z_astore (lv' := [(6, .ref q9), (0, .ref (zA P 0 0 0)), (1, .int (zI p0)), (2, .int (zI p1)), (3, .int (zI p2)), (4, .int (zI p3)), (5, .ref (zA P 6 1 0))]) hC zvr_a hL (by decide) rfl dX0_run_17 (fun ls hL => ?_)
      refine z_iconst hC dX0_run_19 ?_
      exact z_iret hC hG1 hr hk (inR_lit rfl) hX (Nat.le_of_ble_eq_true rfl) (Nat.le_of_ble_eq_true rfl) dX0_run_20
    · refine z_catch (k := 1) (hpc := 21) hC [(0, 14, 17, 13)] [(0, 14, 25, 17)] (0, 14, 21, 15) htb (by decide) (List.forall_mem_cons.mpr ⟨⟨by decide, 0, by decide, by decide, q469⟩, (fun _ h => nomatch h)⟩) rfl (by decide) q546 rfl hc1 hc2 hc3 ?_
      refine z_astore (lv' := [(6, .ref q9), (0, .ref (zA P 0 0 0)), (1, .int (zI p0)), (2, .int (zI p1)), (3, .int (zI p2)), (4, .int (zI p3)), (5, .ref (zA P 6 1 0))]) hC zvr_a hL (by decide) rfl dX0_run_21 (fun ls hL => ?_)
      refine z_iconst hC dX0_run_23 ?_
      exact z_iret hC hG1 hr hk (inR_lit rfl) hX (Nat.le_of_ble_eq_true rfl) (Nat.le_of_ble_eq_true rfl) dX0_run_24
    · refine z_catch (k := 2) (hpc := 25) hC [(0, 14, 17, 13), (0, 14, 21, 15)] [] (0, 14, 25, 17) htb (by decide) (List.forall_mem_cons.mpr ⟨⟨by decide, 0, by decide, by decide, q469⟩, (List.forall_mem_cons.mpr ⟨⟨by decide, 1, by decide, by decide, q546⟩, (fun _ h => nomatch h)⟩)⟩) rfl (by decide) q547 rfl hc1 hc2 hc3 ?_
      refine z_astore (lv' := [(6, .ref q9), (0, .ref (zA P 0 0 0)), (1, .int (zI p0)), (2, .int (zI p1)), (3, .int (zI p2)), (4, .int (zI p3)), (5, .ref (zA P 6 1 0))]) hC zvr_a hL (by decide) rfl dX0_run_25 (fun ls hL => ?_)
      refine z_iconst hC dX0_run_27 ?_
      exact z_iret hC hG1 hr hk (inR_lit rfl) hX (Nat.le_of_ble_eq_true rfl) (Nat.le_of_ble_eq_true rfl) dX0_run_28
  · rintro x G1 H1 locs1 hx hV hG1
    refine z_i2l hC hx dX0_run_12 ?_
    refine z_outS hC hG1 hx rfl dX0_run_13 (fun H1 locs1 hG2 => ?_)
    refine z_goto (tgt := 29) hC dX0_run_14 (by decide) ?_
    refine z_iconst hC dX0_run_29 ?_
    exact z_iret hC hG2 hr hk (inR_lit rfl) hV (Nat.le_of_ble_eq_true rfl) (Nat.le_of_ble_eq_true rfl) dX0_run_30
abbrev rX0_viewAt : Room := { frames := 10, cells := 1, slots := 6, locals := 141 }
def vX0_viewAt (p0 : Int) (G : ZG) (Q : Int → ZG → Prop) : Prop := vX1_viewAt p0 G (fun k G1 => (k = 0 ∧ Q 1 G1)) (fun r => Q 0 (zss G 6 0 0 r))
set_option maxHeartbeats 4000000 in
theorem mX0_viewAt (l : Launch) (P : ZP) (G : ZG) (p0 : Int) (hp0 : inR p0) {Q : Int → ZG → Prop} (hst : l.stackTraces = false) (hV : vX0_viewAt p0 G Q) : Met l yX0_viewAt (wsW_ yX0_viewAt cX0_viewAt 4 (some .int) [(0, 9, 12, 13)]) rX0_viewAt (zPc P G [.ref (zA P 0 0 0), .int (zI p0), .ref (zA P 6 1 0)]) (zQi P Q) 1 6 (zAr P) := by
  refine zMetW RX0 (by decide) rfl (zcs_c rfl (zcs_c rfl (zcs_c rfl zcs_0))) (Nat.le_of_ble_eq_true rfl) (fun p e s m args below meth c ls hC hr hk htb hG hL => ?_)
  unfold vX0_viewAt at hV
  refine z_aload_n hC zvr_a rfl (hL.at 2 rfl) dX0_viewAt_0 ?_
  refine z_iconst hC dX0_viewAt_1 ?_
  refine z_aload_n hC zvr_a rfl (hL.at 0 rfl) dX0_viewAt_2 ?_
  refine z_iload_n hC rfl (hL.at 1 rfl) dX0_viewAt_3 ?_
  refine z_lcall_i hG (zrunVX (ci := 1) hC hG (Nat.le_of_ble_eq_true rfl) (Nat.le_of_ble_eq_true rfl) (zobj hG rfl (Nat.le_of_ble_eq_true rfl) (Nat.le_of_ble_eq_true rfl)) (mX1_viewAt l P G p0 hp0 hst hV) kVX0_74 rfl rfl rfl ⟨(Nat.le_of_ble_eq_true rfl), (Nat.le_of_ble_eq_true rfl)⟩ ⟨(Nat.le_of_ble_eq_true rfl), (Nat.le_of_ble_eq_true rfl)⟩ rfl ⟨(zcs_c rfl (zcs_c rfl zcs_0)), (Nat.le_of_ble_eq_true rfl)⟩ hL.1.1 dX0_viewAt_4) ?_ ?_
  · intro k G1 H1 locs1 ce q9 hX hG1 hc1 hc2 hc3
    rcases hX with ⟨rfl, hX⟩
    · refine z_catch (k := 0) (hpc := 12) hC [] [] (0, 9, 12, 13) htb (by decide) (fun _ h => nomatch h) rfl (by decide) q469 rfl hc1 hc2 hc3 ?_
      refine z_astore_n (lv' := [(3, .ref q9), (0, .ref (zA P 0 0 0)), (1, .int (zI p0)), (2, .ref (zA P 6 1 0))]) hC zvr_a rfl hL (by decide) rfl dX0_viewAt_12 (fun ls hL => ?_)
      refine z_iconst hC dX0_viewAt_13 ?_
      exact z_iret hC hG1 hr hk (inR_lit rfl) hX (Nat.le_of_ble_eq_true rfl) (Nat.le_of_ble_eq_true rfl) dX0_viewAt_14
  · rintro x G1 H1 locs1 hx ⟨rfl, hV⟩ hG1
    refine z_i2l hC hx dX0_viewAt_7 ?_
    refine z_outS hC hG1 hx rfl dX0_viewAt_8 (fun H1 locs1 hG2 => ?_)
    refine z_goto (tgt := 15) hC dX0_viewAt_9 (by decide) ?_
    refine z_iconst hC dX0_viewAt_15 ?_
    exact z_iret hC hG2 hr hk (inR_lit rfl) hV (Nat.le_of_ble_eq_true rfl) (Nat.le_of_ble_eq_true rfl) dX0_viewAt_16
abbrev rX0_bound : Room := { frames := 10, cells := 1, slots := 6, locals := 141 }
def vX0_bound (p0 : Int) (G : ZG) (Q : Int → ZG → Prop) : Prop := vX1_bound p0 G (fun k G1 => (k = 0 ∧ Q 1 G1)) (fun r => Q 0 (zss G 6 0 0 r))
set_option maxHeartbeats 4000000 in
theorem mX0_bound (l : Launch) (P : ZP) (G : ZG) (p0 : Int) (hp0 : inR p0) {Q : Int → ZG → Prop} (hst : l.stackTraces = false) (hV : vX0_bound p0 G Q) : Met l yX0_bound (wsW_ yX0_bound cX0_bound 4 (some .int) [(0, 9, 12, 13)]) rX0_bound (zPc P G [.ref (zA P 0 0 0), .int (zI p0), .ref (zA P 6 1 0)]) (zQi P Q) 1 6 (zAr P) := by
  refine zMetW RX0 (by decide) rfl (zcs_c rfl (zcs_c rfl (zcs_c rfl zcs_0))) (Nat.le_of_ble_eq_true rfl) (fun p e s m args below meth c ls hC hr hk htb hG hL => ?_)
  unfold vX0_bound at hV
  refine z_aload_n hC zvr_a rfl (hL.at 2 rfl) dX0_bound_0 ?_
  refine z_iconst hC dX0_bound_1 ?_
  refine z_aload_n hC zvr_a rfl (hL.at 0 rfl) dX0_bound_2 ?_
  refine z_iload_n hC rfl (hL.at 1 rfl) dX0_bound_3 ?_
  refine z_lcall_i hG (zrunVX (ci := 1) hC hG (Nat.le_of_ble_eq_true rfl) (Nat.le_of_ble_eq_true rfl) (zobj hG rfl (Nat.le_of_ble_eq_true rfl) (Nat.le_of_ble_eq_true rfl)) (mX1_bound l P G p0 hp0 hst hV) kVX0_77 rfl rfl rfl ⟨(Nat.le_of_ble_eq_true rfl), (Nat.le_of_ble_eq_true rfl)⟩ ⟨(Nat.le_of_ble_eq_true rfl), (Nat.le_of_ble_eq_true rfl)⟩ rfl ⟨(zcs_c rfl (zcs_c rfl zcs_0)), (Nat.le_of_ble_eq_true rfl)⟩ hL.1.1 dX0_bound_4) ?_ ?_
  · intro k G1 H1 locs1 ce q9 hX hG1 hc1 hc2 hc3
    rcases hX with ⟨rfl, hX⟩
    · refine z_catch (k := 0) (hpc := 12) hC [] [] (0, 9, 12, 13) htb (by decide) (fun _ h => nomatch h) rfl (by decide) q469 rfl hc1 hc2 hc3 ?_
      refine z_astore_n (lv' := [(3, .ref q9), (0, .ref (zA P 0 0 0)), (1, .int (zI p0)), (2, .ref (zA P 6 1 0))]) hC zvr_a rfl hL (by decide) rfl dX0_bound_12 (fun ls hL => ?_)
      refine z_iconst hC dX0_bound_13 ?_
      exact z_iret hC hG1 hr hk (inR_lit rfl) hX (Nat.le_of_ble_eq_true rfl) (Nat.le_of_ble_eq_true rfl) dX0_bound_14
  · rintro x G1 H1 locs1 hx ⟨rfl, hV⟩ hG1
    refine z_i2l hC hx dX0_bound_7 ?_
    refine z_outS hC hG1 hx rfl dX0_bound_8 (fun H1 locs1 hG2 => ?_)
    refine z_goto (tgt := 15) hC dX0_bound_9 (by decide) ?_
    refine z_iconst hC dX0_bound_15 ?_
    exact z_iret hC hG2 hr hk (inR_lit rfl) hV (Nat.le_of_ble_eq_true rfl) (Nat.le_of_ble_eq_true rfl) dX0_bound_16
abbrev rX0_taken : Room := { frames := 11, cells := 1, slots := 6, locals := 162 }
def vX0_taken (p0 : Int) (G : ZG) (Q : Int → ZG → Prop) : Prop := vX1_taken p0 G (fun k G1 => (k = 0 ∧ Q 1 G1)) (fun r => Q 0 (zss G 6 0 0 r))
set_option maxHeartbeats 4000000 in
theorem mX0_taken (l : Launch) (P : ZP) (G : ZG) (p0 : Int) (hp0 : inR p0) {Q : Int → ZG → Prop} (hst : l.stackTraces = false) (hV : vX0_taken p0 G Q) : Met l yX0_taken (wsW_ yX0_taken cX0_taken 4 (some .int) [(0, 9, 12, 13)]) rX0_taken (zPc P G [.ref (zA P 0 0 0), .int (zI p0), .ref (zA P 6 1 0)]) (zQi P Q) 1 6 (zAr P) := by
  refine zMetW RX0 (by decide) rfl (zcs_c rfl (zcs_c rfl (zcs_c rfl zcs_0))) (Nat.le_of_ble_eq_true rfl) (fun p e s m args below meth c ls hC hr hk htb hG hL => ?_)
  unfold vX0_taken at hV
  refine z_aload_n hC zvr_a rfl (hL.at 2 rfl) dX0_taken_0 ?_
  refine z_iconst hC dX0_taken_1 ?_
  refine z_aload_n hC zvr_a rfl (hL.at 0 rfl) dX0_taken_2 ?_
  refine z_iload_n hC rfl (hL.at 1 rfl) dX0_taken_3 ?_
  refine z_lcall_i hG (zrunVX (ci := 1) hC hG (Nat.le_of_ble_eq_true rfl) (Nat.le_of_ble_eq_true rfl) (zobj hG rfl (Nat.le_of_ble_eq_true rfl) (Nat.le_of_ble_eq_true rfl)) (mX1_taken l P G p0 hp0 hst hV) kVX0_80 rfl rfl rfl ⟨(Nat.le_of_ble_eq_true rfl), (Nat.le_of_ble_eq_true rfl)⟩ ⟨(Nat.le_of_ble_eq_true rfl), (Nat.le_of_ble_eq_true rfl)⟩ rfl ⟨(zcs_c rfl (zcs_c rfl zcs_0)), (Nat.le_of_ble_eq_true rfl)⟩ hL.1.1 dX0_taken_4) ?_ ?_
  · intro k G1 H1 locs1 ce q9 hX hG1 hc1 hc2 hc3
    rcases hX with ⟨rfl, hX⟩
    · refine z_catch (k := 0) (hpc := 12) hC [] [] (0, 9, 12, 13) htb (by decide) (fun _ h => nomatch h) rfl (by decide) q469 rfl hc1 hc2 hc3 ?_
      refine z_astore_n (lv' := [(3, .ref q9), (0, .ref (zA P 0 0 0)), (1, .int (zI p0)), (2, .ref (zA P 6 1 0))]) hC zvr_a rfl hL (by decide) rfl dX0_taken_12 (fun ls hL => ?_)
      refine z_iconst hC dX0_taken_13 ?_
      exact z_iret hC hG1 hr hk (inR_lit rfl) hX (Nat.le_of_ble_eq_true rfl) (Nat.le_of_ble_eq_true rfl) dX0_taken_14
  · rintro x G1 H1 locs1 hx ⟨rfl, hV⟩ hG1
    refine z_i2l hC hx dX0_taken_7 ?_
    refine z_outS hC hG1 hx rfl dX0_taken_8 (fun H1 locs1 hG2 => ?_)
    refine z_goto (tgt := 15) hC dX0_taken_9 (by decide) ?_
    refine z_iconst hC dX0_taken_15 ?_
    exact z_iret hC hG2 hr hk (inR_lit rfl) hV (Nat.le_of_ble_eq_true rfl) (Nat.le_of_ble_eq_true rfl) dX0_taken_16
abbrev rX0_size : Room := { frames := 1747, cells := 2, slots := 12, locals := 46743 }
def vX0_size (p0 : Int) (p1 : Int) (G : ZG) (Q : Int → ZG → Prop) : Prop := vX1_size p0 p1 G (fun k G1 => (k = 0 ∧ Q 1 G1) ∨ (k = 2 ∧ Q 2 G1)) (fun r G1 => Q 0 (zss G1 6 0 0 r))
set_option maxHeartbeats 4000000 in
theorem mX0_size (l : Launch) (P : ZP) (G : ZG) (p0 : Int) (hp0 : inR p0) (p1 : Int) (hp1 : p1 = 0 ∨ p1 = 1) {Q : Int → ZG → Prop} (hst : l.stackTraces = false) (hV : vX0_size p0 p1 G Q) : Met l yX0_size (wsW_ yX0_size cX0_size 5 (some .int) [(0, 10, 13, 13), (0, 10, 17, 17)]) rX0_size (zPc P G [.ref (zA P 0 0 0), .int (zI p0), .int (zI p1), .ref (zA P 6 1 0)]) (zQi P Q) 2 12 (zAr P) := by
  refine zMetW RX0 (by decide) rfl (zcs_c rfl (zcs_c rfl (zcs_c rfl (zcs_c rfl zcs_0)))) (Nat.le_of_ble_eq_true rfl) (fun p e s m args below meth c ls hC hr hk htb hG hL => ?_)
  unfold vX0_size at hV
  refine z_aload_n hC zvr_a rfl (hL.at 3 rfl) dX0_size_0 ?_
  refine z_iconst hC dX0_size_1 ?_
  refine z_aload_n hC zvr_a rfl (hL.at 0 rfl) dX0_size_2 ?_
  refine z_iload_n hC rfl (hL.at 1 rfl) dX0_size_3 ?_
  refine z_iload_n hC rfl (hL.at 2 rfl) dX0_size_4 ?_
  refine z_lcall_i hG (zrunVX (ci := 1) hC hG (Nat.le_of_ble_eq_true rfl) (Nat.le_of_ble_eq_true rfl) (zobj hG rfl (Nat.le_of_ble_eq_true rfl) (Nat.le_of_ble_eq_true rfl)) (mX1_size l P G p0 hp0 p1 hp1 hst hV) kVX0_83 rfl rfl rfl ⟨(Nat.le_of_ble_eq_true rfl), (Nat.le_of_ble_eq_true rfl)⟩ ⟨(Nat.le_of_ble_eq_true rfl), (Nat.le_of_ble_eq_true rfl)⟩ rfl ⟨(zcs_c rfl (zcs_c rfl zcs_0)), (Nat.le_of_ble_eq_true rfl)⟩ hL.1.1 dX0_size_5) ?_ ?_
  · intro k G1 H1 locs1 ce q9 hX hG1 hc1 hc2 hc3
    rcases hX with ⟨rfl, hX⟩ | ⟨rfl, hX⟩
    · refine z_catch (k := 0) (hpc := 13) hC [] [(0, 10, 17, 17)] (0, 10, 13, 13) htb (by decide) (fun _ h => nomatch h) rfl (by decide) q469 rfl hc1 hc2 hc3 ?_
      refine z_astore (lv' := [(4, .ref q9), (0, .ref (zA P 0 0 0)), (1, .int (zI p0)), (2, .int (zI p1)), (3, .ref (zA P 6 1 0))]) hC zvr_a hL (by decide) rfl dX0_size_13 (fun ls hL => ?_)
      refine z_iconst hC dX0_size_15 ?_
      exact z_iret hC hG1 hr hk (inR_lit rfl) hX (Nat.le_of_ble_eq_true rfl) (Nat.le_of_ble_eq_true rfl) dX0_size_16
    · refine z_catch (k := 2) (hpc := 17) hC [(0, 10, 13, 13)] [] (0, 10, 17, 17) htb (by decide) (List.forall_mem_cons.mpr ⟨⟨by decide, 0, by decide, by decide, q469⟩, (fun _ h => nomatch h)⟩) rfl (by decide) q547 rfl hc1 hc2 hc3 ?_
      refine z_astore (lv' := [(4, .ref q9), (0, .ref (zA P 0 0 0)), (1, .int (zI p0)), (2, .int (zI p1)), (3, .ref (zA P 6 1 0))]) hC zvr_a hL (by decide) rfl dX0_size_17 (fun ls hL => ?_)
      refine z_iconst hC dX0_size_19 ?_
      exact z_iret hC hG1 hr hk (inR_lit rfl) hX (Nat.le_of_ble_eq_true rfl) (Nat.le_of_ble_eq_true rfl) dX0_size_20
  · rintro x G1 H1 locs1 hx hV hG1
    refine z_i2l hC hx dX0_size_8 ?_
    refine z_outS hC hG1 hx rfl dX0_size_9 (fun H1 locs1 hG2 => ?_)
    refine z_goto (tgt := 21) hC dX0_size_10 (by decide) ?_
    refine z_iconst hC dX0_size_21 ?_
    exact z_iret hC hG2 hr hk (inR_lit rfl) hV (Nat.le_of_ble_eq_true rfl) (Nat.le_of_ble_eq_true rfl) dX0_size_22
abbrev rX0_missing : Room := { frames := 1747, cells := 1, slots := 6, locals := 46741 }
def vX0_missing (G : ZG) (Q : Int → ZG → Prop) : Prop := vX1_missing G (fun k G1 => (k = 2 ∧ Q 1 G1)) (fun r G1 => Q 0 (zss G1 6 0 0 r))
set_option maxHeartbeats 4000000 in
theorem mX0_missing (l : Launch) (P : ZP) (G : ZG) {Q : Int → ZG → Prop} (hst : l.stackTraces = false) (hV : vX0_missing G Q) : Met l yX0_missing (wsW_ yX0_missing cX0_missing 3 (some .int) [(0, 8, 11, 17)]) rX0_missing (zPc P G [.ref (zA P 0 0 0), .ref (zA P 6 1 0)]) (zQi P Q) 1 6 (zAr P) := by
  refine zMetW RX0 (by decide) rfl (zcs_c rfl (zcs_c rfl zcs_0)) (Nat.le_of_ble_eq_true rfl) (fun p e s m args below meth c ls hC hr hk htb hG hL => ?_)
  unfold vX0_missing at hV
  refine z_aload_n hC zvr_a rfl (hL.at 1 rfl) dX0_missing_0 ?_
  refine z_iconst hC dX0_missing_1 ?_
  refine z_aload_n hC zvr_a rfl (hL.at 0 rfl) dX0_missing_2 ?_
  refine z_lcall_i hG (zrunVX (ci := 1) hC hG (Nat.le_of_ble_eq_true rfl) (Nat.le_of_ble_eq_true rfl) (zobj hG rfl (Nat.le_of_ble_eq_true rfl) (Nat.le_of_ble_eq_true rfl)) (mX1_missing l P G hst hV) kVX0_87 rfl rfl rfl ⟨(Nat.le_of_ble_eq_true rfl), (Nat.le_of_ble_eq_true rfl)⟩ ⟨(Nat.le_of_ble_eq_true rfl), (Nat.le_of_ble_eq_true rfl)⟩ rfl ⟨(zcs_c rfl (zcs_c rfl zcs_0)), (Nat.le_of_ble_eq_true rfl)⟩ hL.1.1 dX0_missing_3) ?_ ?_
  · intro k G1 H1 locs1 ce q9 hX hG1 hc1 hc2 hc3
    rcases hX with ⟨rfl, hX⟩
    · refine z_catch (k := 2) (hpc := 11) hC [] [] (0, 8, 11, 17) htb (by decide) (fun _ h => nomatch h) rfl (by decide) q547 rfl hc1 hc2 hc3 ?_
      refine z_astore_n (lv' := [(2, .ref q9), (0, .ref (zA P 0 0 0)), (1, .ref (zA P 6 1 0))]) hC zvr_a rfl hL (by decide) rfl dX0_missing_11 (fun ls hL => ?_)
      refine z_iconst hC dX0_missing_12 ?_
      exact z_iret hC hG1 hr hk (inR_lit rfl) hX (Nat.le_of_ble_eq_true rfl) (Nat.le_of_ble_eq_true rfl) dX0_missing_13
  · rintro x G1 H1 locs1 hx hV hG1
    refine z_i2l hC hx dX0_missing_6 ?_
    refine z_outS hC hG1 hx rfl dX0_missing_7 (fun H1 locs1 hG2 => ?_)
    refine z_goto (tgt := 14) hC dX0_missing_8 (by decide) ?_
    refine z_iconst hC dX0_missing_14 ?_
    exact z_iret hC hG2 hr hk (inR_lit rfl) hV (Nat.le_of_ble_eq_true rfl) (Nat.le_of_ble_eq_true rfl) dX0_missing_15
abbrev rX0_example : Room := { frames := 1747, cells := 1, slots := 6, locals := 46741 }
def vX0_example (p0 : Int) (G : ZG) (Q : Int → ZG → Prop) : Prop := vX1_example p0 G (fun k G1 => (k = 2 ∧ Q 1 G1)) (fun r G1 => Q 0 (zss G1 6 0 0 r))
set_option maxHeartbeats 4000000 in
theorem mX0_example (l : Launch) (P : ZP) (G : ZG) (p0 : Int) (hp0 : inR p0) {Q : Int → ZG → Prop} (hst : l.stackTraces = false) (hV : vX0_example p0 G Q) : Met l yX0_example (wsW_ yX0_example cX0_example 4 (some .int) [(0, 9, 12, 17)]) rX0_example (zPc P G [.ref (zA P 0 0 0), .int (zI p0), .ref (zA P 6 1 0)]) (zQi P Q) 1 6 (zAr P) := by
  refine zMetW RX0 (by decide) rfl (zcs_c rfl (zcs_c rfl (zcs_c rfl zcs_0))) (Nat.le_of_ble_eq_true rfl) (fun p e s m args below meth c ls hC hr hk htb hG hL => ?_)
  unfold vX0_example at hV
  refine z_aload_n hC zvr_a rfl (hL.at 2 rfl) dX0_example_0 ?_
  refine z_iconst hC dX0_example_1 ?_
  refine z_aload_n hC zvr_a rfl (hL.at 0 rfl) dX0_example_2 ?_
  refine z_iload_n hC rfl (hL.at 1 rfl) dX0_example_3 ?_
  refine z_lcall_i hG (zrunVX (ci := 1) hC hG (Nat.le_of_ble_eq_true rfl) (Nat.le_of_ble_eq_true rfl) (zobj hG rfl (Nat.le_of_ble_eq_true rfl) (Nat.le_of_ble_eq_true rfl)) (mX1_example l P G p0 hp0 hst hV) kVX0_90 rfl rfl rfl ⟨(Nat.le_of_ble_eq_true rfl), (Nat.le_of_ble_eq_true rfl)⟩ ⟨(Nat.le_of_ble_eq_true rfl), (Nat.le_of_ble_eq_true rfl)⟩ rfl ⟨(zcs_c rfl (zcs_c rfl zcs_0)), (Nat.le_of_ble_eq_true rfl)⟩ hL.1.1 dX0_example_4) ?_ ?_
  · intro k G1 H1 locs1 ce q9 hX hG1 hc1 hc2 hc3
    rcases hX with ⟨rfl, hX⟩
    · refine z_catch (k := 2) (hpc := 12) hC [] [] (0, 9, 12, 17) htb (by decide) (fun _ h => nomatch h) rfl (by decide) q547 rfl hc1 hc2 hc3 ?_
      refine z_astore_n (lv' := [(3, .ref q9), (0, .ref (zA P 0 0 0)), (1, .int (zI p0)), (2, .ref (zA P 6 1 0))]) hC zvr_a rfl hL (by decide) rfl dX0_example_12 (fun ls hL => ?_)
      refine z_iconst hC dX0_example_13 ?_
      exact z_iret hC hG1 hr hk (inR_lit rfl) hX (Nat.le_of_ble_eq_true rfl) (Nat.le_of_ble_eq_true rfl) dX0_example_14
  · rintro x G1 H1 locs1 hx hV hG1
    refine z_i2l hC hx dX0_example_7 ?_
    refine z_outS hC hG1 hx rfl dX0_example_8 (fun H1 locs1 hG2 => ?_)
    refine z_goto (tgt := 15) hC dX0_example_9 (by decide) ?_
    refine z_iconst hC dX0_example_15 ?_
    exact z_iret hC hG2 hr hk (inR_lit rfl) hV (Nat.le_of_ble_eq_true rfl) (Nat.le_of_ble_eq_true rfl) dX0_example_16
abbrev rX0_isUsed : Room := { frames := 1747, cells := 2, slots := 12, locals := 46744 }
def vX0_isUsed (p0 : Int) (G : ZG) (Q : Int → ZG → Prop) : Prop := vX1_isUsed p0 G (fun k G1 => (k = 0 ∧ Q 1 G1) ∨ (k = 2 ∧ Q 2 G1)) (fun r G1 => Q 0 (zss G1 6 0 0 r))
set_option maxHeartbeats 4000000 in
theorem mX0_isUsed (l : Launch) (P : ZP) (G : ZG) (p0 : Int) (hp0 : inR p0) {Q : Int → ZG → Prop} (hst : l.stackTraces = false) (hV : vX0_isUsed p0 G Q) : Met l yX0_isUsed (wsW_ yX0_isUsed cX0_isUsed 4 (some .int) [(0, 16, 19, 13), (0, 16, 22, 17)]) rX0_isUsed (zPc P G [.ref (zA P 0 0 0), .int (zI p0), .ref (zA P 6 1 0)]) (zQi P Q) 2 12 (zAr P) := by
  refine zMetW RX0 (by decide) rfl (zcs_c rfl (zcs_c rfl (zcs_c rfl zcs_0))) (Nat.le_of_ble_eq_true rfl) (fun p e s m args below meth c ls hC hr hk htb hG hL => ?_)
  unfold vX0_isUsed at hV
  refine z_aload_n hC zvr_a rfl (hL.at 2 rfl) dX0_isUsed_0 ?_
  refine z_iconst hC dX0_isUsed_1 ?_
  refine z_aload_n hC zvr_a rfl (hL.at 0 rfl) dX0_isUsed_2 ?_
  refine z_iload_n hC rfl (hL.at 1 rfl) dX0_isUsed_3 ?_
  refine z_lcall_z hG (zrunVX (ci := 1) hC hG (Nat.le_of_ble_eq_true rfl) (Nat.le_of_ble_eq_true rfl) (zobj hG rfl (Nat.le_of_ble_eq_true rfl) (Nat.le_of_ble_eq_true rfl)) (mX1_isUsed l P G p0 hp0 hst hV) kVX0_93 rfl rfl rfl ⟨(Nat.le_of_ble_eq_true rfl), (Nat.le_of_ble_eq_true rfl)⟩ ⟨(Nat.le_of_ble_eq_true rfl), (Nat.le_of_ble_eq_true rfl)⟩ rfl ⟨(zcs_c rfl (zcs_c rfl zcs_0)), (Nat.le_of_ble_eq_true rfl)⟩ hL.1.1 dX0_isUsed_4) ?_ ?_
  · intro k G1 H1 locs1 ce q9 hX hG1 hc1 hc2 hc3
    rcases hX with ⟨rfl, hX⟩ | ⟨rfl, hX⟩
    · refine z_catch (k := 0) (hpc := 19) hC [] [(0, 16, 22, 17)] (0, 16, 19, 13) htb (by decide) (fun _ h => nomatch h) rfl (by decide) q469 rfl hc1 hc2 hc3 ?_
      refine z_astore_n (lv' := [(3, .ref q9), (0, .ref (zA P 0 0 0)), (1, .int (zI p0)), (2, .ref (zA P 6 1 0))]) hC zvr_a rfl hL (by decide) rfl dX0_isUsed_19 (fun ls hL => ?_)
      refine z_iconst hC dX0_isUsed_20 ?_
      exact z_iret hC hG1 hr hk (inR_lit rfl) hX (Nat.le_of_ble_eq_true rfl) (Nat.le_of_ble_eq_true rfl) dX0_isUsed_21
    · refine z_catch (k := 2) (hpc := 22) hC [(0, 16, 19, 13)] [] (0, 16, 22, 17) htb (by decide) (List.forall_mem_cons.mpr ⟨⟨by decide, 0, by decide, by decide, q469⟩, (fun _ h => nomatch h)⟩) rfl (by decide) q547 rfl hc1 hc2 hc3 ?_
      refine z_astore_n (lv' := [(3, .ref q9), (0, .ref (zA P 0 0 0)), (1, .int (zI p0)), (2, .ref (zA P 6 1 0))]) hC zvr_a rfl hL (by decide) rfl dX0_isUsed_22 (fun ls hL => ?_)
      refine z_iconst hC dX0_isUsed_23 ?_
      exact z_iret hC hG1 hr hk (inR_lit rfl) hX (Nat.le_of_ble_eq_true rfl) (Nat.le_of_ble_eq_true rfl) dX0_isUsed_24
  · rintro x G1 H1 locs1 hx hV hG1
    refine z_if_eq (tgt := 14) hC (inR_b hx) (⟨fun h => h, fun h => h⟩ : zbr (x = 0) (x = 0) (¬ x = 0)) dX0_isUsed_7 (by decide) ?_ ?_
    · intro h0
      subst h0
      refine z_lconst (x := 0) hC (by decide) dX0_isUsed_14 ?_
      refine z_outS hC hG1 inR_0 rfl dX0_isUsed_15 (fun H1 locs1 hG2 => ?_)
      refine z_goto (tgt := 25) hC dX0_isUsed_16 (by decide) ?_
      refine z_iconst hC dX0_isUsed_25 ?_
      exact z_iret hC hG2 hr hk (inR_lit rfl) hV (Nat.le_of_ble_eq_true rfl) (Nat.le_of_ble_eq_true rfl) dX0_isUsed_26
    · intro h0
      have h1 : x = 1 := hx.resolve_left h0
      subst h1
      refine z_lconst (x := 1) hC (by decide) dX0_isUsed_10 ?_
      refine z_goto (tgt := 15) hC dX0_isUsed_11 (by decide) ?_
      refine z_outS hC hG1 inR_1 rfl dX0_isUsed_15 (fun H1 locs1 hG2 => ?_)
      refine z_goto (tgt := 25) hC dX0_isUsed_16 (by decide) ?_
      refine z_iconst hC dX0_isUsed_25 ?_
      exact z_iret hC hG2 hr hk (inR_lit rfl) hV (Nat.le_of_ble_eq_true rfl) (Nat.le_of_ble_eq_true rfl) dX0_isUsed_26
