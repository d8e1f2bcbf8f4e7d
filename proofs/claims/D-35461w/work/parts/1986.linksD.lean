set_option maxRecDepth 100000
theorem kOJ0_1 : Cond.methodLink RJ0 1 Lib.objectInit ∈ lw_all ∧ Cond.instanceMethod Lib.objectInit ∈ lw_all ∧ Cond.code Lib.objectInit ⟨#[0xb1]⟩ 1 none ∈ lw_all := ⟨q156, q143, q144⟩
theorem pdJ0_init : zPd yJ0_init 0 := ⟨by decide +kernel, by decide +kernel, by decide +kernel⟩
theorem kIJ1_1 : zLI RJ1 1 yJ0_init cJ0_init 1 0 := ⟨q153, q155, q97, pdJ0_init, rfl, q154⟩
theorem kFJ1_7_2 : zFL RJ1 7 2 0 := ⟨(Nat.le_of_ble_eq_true rfl), (Nat.le_of_ble_eq_true rfl), (Nat.le_of_ble_eq_true rfl), _, Or.inl q161, Or.inl rfl⟩
theorem pdJ1_init : zPd yJ1_init 0 := ⟨by decide +kernel, by decide +kernel, by decide +kernel⟩
theorem kIJ2_1 : zLI RJ2 1 yJ1_init cJ1_init 1 0 := ⟨q150, q152, q98, pdJ1_init, rfl, q151⟩
theorem nlX5_3 : znl RX5 3 = true := by decide +kernel
theorem nk_5_3 : ∀ q, q < cN 5 → q ≠ 3 → (cT 5 q).2.1 ≠ (cT 5 3).2.1 := by decide +kernel
theorem kOX5_9 : Cond.methodLink RX5 9 Lib.objectInit ∈ lw_all ∧ Cond.instanceMethod Lib.objectInit ∈ lw_all ∧ Cond.code Lib.objectInit ⟨#[0xb1]⟩ 1 none ∈ lw_all := ⟨q313, q143, q144⟩
theorem nlX3_3 : znl RX3 3 = true := by decide +kernel
theorem nk_3_9_1 : ∀ q, q < cN 3 → q ≠ 9 → q ≠ 1 → (cT 3 q).2.1 ≠ (cT 3 9).2.1 := by decide +kernel
theorem nlX2_3 : znl RX2 3 = true := by decide +kernel
theorem nk_3_1_9 : ∀ q, q < cN 3 → q ≠ 1 → q ≠ 9 → (cT 3 q).2.1 ≠ (cT 3 1).2.1 := by decide +kernel
theorem kOX2_9 : Cond.methodLink RX2 9 Lib.objectInit ∈ lw_all ∧ Cond.instanceMethod Lib.objectInit ∈ lw_all ∧ Cond.code Lib.objectInit ⟨#[0xb1]⟩ 1 none ∈ lw_all := ⟨q181, q143, q144⟩
theorem nlX2_15 : znl RX2 15 = true := by decide +kernel
theorem nk_3_0 : ∀ q, q < cN 3 → q ≠ 0 → (cT 3 q).2.1 ≠ (cT 3 0).2.1 := by decide +kernel
theorem pdX2_init : zPd yX2_init 1 := ⟨by decide +kernel, by decide +kernel, by decide +kernel⟩
theorem kIX3_9 : zLN RX3 9 "Patternforge" yX2_init cX2_init 2 none 1 ∧ yX2_init.name = "<init>" ∧ Cond.instanceMethod yX2_init ∈ lw_all := ⟨⟨xq178, q180, q100, pdX2_init⟩, rfl, q179⟩
theorem nlX3_15 : znl RX3 15 = true := by decide +kernel
theorem nk_3_2 : ∀ q, q < cN 3 → q ≠ 2 → (cT 3 q).2.1 ≠ (cT 3 2).2.1 := by decide +kernel
theorem nlX3_19 : znl RX3 19 = true := by decide +kernel
theorem nk_3_3 : ∀ q, q < cN 3 → q ≠ 3 → (cT 3 q).2.1 ≠ (cT 3 3).2.1 := by decide +kernel
theorem nlX3_22 : znl RX3 22 = true := by decide +kernel
theorem nk_3_4 : ∀ q, q < cN 3 → q ≠ 4 → (cT 3 q).2.1 ≠ (cT 3 4).2.1 := by decide +kernel
theorem nlX3_25 : znl RX3 25 = true := by decide +kernel
theorem nk_3_5 : ∀ q, q < cN 3 → q ≠ 5 → (cT 3 q).2.1 ≠ (cT 3 5).2.1 := by decide +kernel
theorem nlX4_3 : znl RX4 3 = true := by decide +kernel
theorem nk_4_24_1 : ∀ q, q < cN 4 → q ≠ 24 → q ≠ 1 → (cT 4 q).2.1 ≠ (cT 4 24).2.1 := by decide +kernel
theorem nk_4_1_24 : ∀ q, q < cN 4 → q ≠ 1 → q ≠ 24 → (cT 4 q).2.1 ≠ (cT 4 1).2.1 := by decide +kernel
theorem nk_4_0 : ∀ q, q < cN 4 → q ≠ 0 → (cT 4 q).2.1 ≠ (cT 4 0).2.1 := by decide +kernel
theorem kIX4_9 : zLN RX4 9 "Patternforge" yX2_init cX2_init 2 none 1 ∧ yX2_init.name = "<init>" ∧ Cond.instanceMethod yX2_init ∈ lw_all := ⟨⟨xq229, q180, q100, pdX2_init⟩, rfl, q179⟩
theorem nlX4_15 : znl RX4 15 = true := by decide +kernel
theorem nk_4_3 : ∀ q, q < cN 4 → q ≠ 3 → (cT 4 q).2.1 ≠ (cT 4 3).2.1 := by decide +kernel
theorem nlX4_19 : znl RX4 19 = true := by decide +kernel
theorem nk_4_4 : ∀ q, q < cN 4 → q ≠ 4 → (cT 4 q).2.1 ≠ (cT 4 4).2.1 := by decide +kernel
theorem nlX4_22 : znl RX4 22 = true := by decide +kernel
theorem nk_4_5 : ∀ q, q < cN 4 → q ≠ 5 → (cT 4 q).2.1 ≠ (cT 4 5).2.1 := by decide +kernel
theorem nlX4_27 : znl RX4 27 = true := by decide +kernel
theorem nk_4_6 : ∀ q, q < cN 4 → q ≠ 6 → (cT 4 q).2.1 ≠ (cT 4 6).2.1 := by decide +kernel
theorem nlX4_30 : znl RX4 30 = true := by decide +kernel
theorem nk_4_7 : ∀ q, q < cN 4 → q ≠ 7 → (cT 4 q).2.1 ≠ (cT 4 7).2.1 := by decide +kernel
theorem nlX4_33 : znl RX4 33 = true := by decide +kernel
theorem nk_4_8 : ∀ q, q < cN 4 → q ≠ 8 → (cT 4 q).2.1 ≠ (cT 4 8).2.1 := by decide +kernel
theorem nlX4_36 : znl RX4 36 = true := by decide +kernel
theorem nk_4_12 : ∀ q, q < cN 4 → q ≠ 12 → (cT 4 q).2.1 ≠ (cT 4 12).2.1 := by decide +kernel
theorem nlX4_39 : znl RX4 39 = true := by decide +kernel
theorem nk_4_13 : ∀ q, q < cN 4 → q ≠ 13 → (cT 4 q).2.1 ≠ (cT 4 13).2.1 := by decide +kernel
theorem nlX4_42 : znl RX4 42 = true := by decide +kernel
theorem nk_4_14 : ∀ q, q < cN 4 → q ≠ 14 → (cT 4 q).2.1 ≠ (cT 4 14).2.1 := by decide +kernel
theorem nlX4_45 : znl RX4 45 = true := by decide +kernel
theorem nk_4_20 : ∀ q, q < cN 4 → q ≠ 20 → (cT 4 q).2.1 ≠ (cT 4 20).2.1 := by decide +kernel
theorem nlX4_48 : znl RX4 48 = true := by decide +kernel
theorem nk_4_21 : ∀ q, q < cN 4 → q ≠ 21 → (cT 4 q).2.1 ≠ (cT 4 21).2.1 := by decide +kernel
theorem nlX4_51 : znl RX4 51 = true := by decide +kernel
theorem nk_4_22 : ∀ q, q < cN 4 → q ≠ 22 → (cT 4 q).2.1 ≠ (cT 4 22).2.1 := by decide +kernel
theorem nlX4_54 : znl RX4 54 = true := by decide +kernel
theorem nk_4_2 : ∀ q, q < cN 4 → q ≠ 2 → (cT 4 q).2.1 ≠ (cT 4 2).2.1 := by decide +kernel
theorem kOX1_19 : Cond.methodLink RX1 19 Lib.objectInit ∈ lw_all ∧ Cond.instanceMethod Lib.objectInit ∈ lw_all ∧ Cond.code Lib.objectInit ⟨#[0xb1]⟩ 1 none ∈ lw_all := ⟨q142, q143, q144⟩
theorem pdJ2_init : zPd yJ2_init 0 := ⟨by decide +kernel, by decide +kernel, by decide +kernel⟩
theorem kIX1_24 : zLI RX1 24 yJ2_init cJ2_init 1 0 := ⟨q147, q149, q99, pdJ2_init, rfl, q148⟩
theorem nlX1_25 : znl RX1 25 = true := by decide +kernel
theorem nk_1_0 : ∀ q, q < cN 1 → q ≠ 0 → (cT 1 q).2.1 ≠ (cT 1 0).2.1 := by decide +kernel
theorem nlX1_29 : znl RX1 29 = true := by decide +kernel
theorem nk_1_1 : ∀ q, q < cN 1 → q ≠ 1 → (cT 1 q).2.1 ≠ (cT 1 1).2.1 := by decide +kernel
theorem nlX1_32 : znl RX1 32 = true := by decide +kernel
theorem nk_1_2 : ∀ q, q < cN 1 → q ≠ 2 → (cT 1 q).2.1 ≠ (cT 1 2).2.1 := by decide +kernel
theorem nlX1_37 : znl RX1 37 = true := by decide +kernel
theorem nk_1_3 : ∀ q, q < cN 1 → q ≠ 3 → (cT 1 q).2.1 ≠ (cT 1 3).2.1 := by decide +kernel
theorem nlX1_41 : znl RX1 41 = true := by decide +kernel
theorem nk_1_4 : ∀ q, q < cN 1 → q ≠ 4 → (cT 1 q).2.1 ≠ (cT 1 4).2.1 := by decide +kernel
theorem nlX1_44 : znl RX1 44 = true := by decide +kernel
theorem nk_1_6 : ∀ q, q < cN 1 → q ≠ 6 → (cT 1 q).2.1 ≠ (cT 1 6).2.1 := by decide +kernel
theorem pdX3_init : zPd yX3_init 1 := ⟨by decide +kernel, by decide +kernel, by decide +kernel⟩
theorem kIX1_49 : zLN RX1 49 "Patternforge" yX3_init cX3_init 2 none 1 ∧ yX3_init.name = "<init>" ∧ Cond.instanceMethod yX3_init ∈ lw_all := ⟨⟨xq175, q177, q101, pdX3_init⟩, rfl, q176⟩
theorem nlX1_52 : znl RX1 52 = true := by decide +kernel
theorem nk_1_7 : ∀ q, q < cN 1 → q ≠ 7 → (cT 1 q).2.1 ≠ (cT 1 7).2.1 := by decide +kernel
theorem pdX4_init : zPd yX4_init 2 := ⟨by decide +kernel, by decide +kernel, by decide +kernel⟩
theorem kIX1_58 : zLI RX1 58 yX4_init cX4_init 3 2 := ⟨q226, q228, q102, pdX4_init, rfl, q227⟩
theorem nlX1_61 : znl RX1 61 = true := by decide +kernel
theorem nk_1_8 : ∀ q, q < cN 1 → q ≠ 8 → (cT 1 q).2.1 ≠ (cT 1 8).2.1 := by decide +kernel
theorem nlX1_65 : znl RX1 65 = true := by decide +kernel
theorem nk_1_9 : ∀ q, q < cN 1 → q ≠ 9 → (cT 1 q).2.1 ≠ (cT 1 9).2.1 := by decide +kernel
theorem pdX5_init : zPd yX5_init 1 := ⟨by decide +kernel, by decide +kernel, by decide +kernel⟩
theorem kIX1_70 : zLN RX1 70 "Patternforge" yX5_init cX5_init 2 none 1 ∧ yX5_init.name = "<init>" ∧ Cond.instanceMethod yX5_init ∈ lw_all := ⟨⟨xq310, q312, q103, pdX5_init⟩, rfl, q311⟩
theorem nlX1_71 : znl RX1 71 = true := by decide +kernel
theorem nk_1_10 : ∀ q, q < cN 1 → q ≠ 10 → (cT 1 q).2.1 ≠ (cT 1 10).2.1 := by decide +kernel
theorem kOX6_1 : Cond.methodLink RX6 1 Lib.objectInit ∈ lw_all ∧ Cond.instanceMethod Lib.objectInit ∈ lw_all ∧ Cond.code Lib.objectInit ⟨#[0xb1]⟩ 1 none ∈ lw_all := ⟨q1763, q143, q144⟩
theorem nlX6_7 : znl RX6 7 = true := by decide +kernel
theorem nk_6_1 : ∀ q, q < cN 6 → q ≠ 1 → (cT 6 q).2.1 ≠ (cT 6 1).2.1 := by decide +kernel
theorem nlX6_13 : znl RX6 13 = true := by decide +kernel
theorem nk_6_2 : ∀ q, q < cN 6 → q ≠ 2 → (cT 6 q).2.1 ≠ (cT 6 2).2.1 := by decide +kernel
theorem nlX6_16 : znl RX6 16 = true := by decide +kernel
theorem nk_6_3 : ∀ q, q < cN 6 → q ≠ 3 → (cT 6 q).2.1 ≠ (cT 6 3).2.1 := by decide +kernel
theorem nlX6_19 : znl RX6 19 = true := by decide +kernel
theorem nk_6_5 : ∀ q, q < cN 6 → q ≠ 5 → (cT 6 q).2.1 ≠ (cT 6 5).2.1 := by decide +kernel
theorem nlX6_22 : znl RX6 22 = true := by decide +kernel
theorem nk_6_6 : ∀ q, q < cN 6 → q ≠ 6 → (cT 6 q).2.1 ≠ (cT 6 6).2.1 := by decide +kernel
theorem nlX6_25 : znl RX6 25 = true := by decide +kernel
theorem nk_6_7 : ∀ q, q < cN 6 → q ≠ 7 → (cT 6 q).2.1 ≠ (cT 6 7).2.1 := by decide +kernel
theorem nlX6_28 : znl RX6 28 = true := by decide +kernel
theorem nk_6_8 : ∀ q, q < cN 6 → q ≠ 8 → (cT 6 q).2.1 ≠ (cT 6 8).2.1 := by decide +kernel
theorem nlX6_31 : znl RX6 31 = true := by decide +kernel
theorem nk_6_10 : ∀ q, q < cN 6 → q ≠ 10 → (cT 6 q).2.1 ≠ (cT 6 10).2.1 := by decide +kernel
theorem nlX6_34 : znl RX6 34 = true := by decide +kernel
theorem nk_6_11 : ∀ q, q < cN 6 → q ≠ 11 → (cT 6 q).2.1 ≠ (cT 6 11).2.1 := by decide +kernel
theorem nlX6_37 : znl RX6 37 = true := by decide +kernel
theorem nk_6_12 : ∀ q, q < cN 6 → q ≠ 12 → (cT 6 q).2.1 ≠ (cT 6 12).2.1 := by decide +kernel
theorem nlX6_40 : znl RX6 40 = true := by decide +kernel
theorem nk_6_13 : ∀ q, q < cN 6 → q ≠ 13 → (cT 6 q).2.1 ≠ (cT 6 13).2.1 := by decide +kernel
theorem nlX6_43 : znl RX6 43 = true := by decide +kernel
theorem nk_6_14 : ∀ q, q < cN 6 → q ≠ 14 → (cT 6 q).2.1 ≠ (cT 6 14).2.1 := by decide +kernel
theorem nlX6_46 : znl RX6 46 = true := by decide +kernel
theorem nk_6_15 : ∀ q, q < cN 6 → q ≠ 15 → (cT 6 q).2.1 ≠ (cT 6 15).2.1 := by decide +kernel
theorem nlX6_49 : znl RX6 49 = true := by decide +kernel
theorem nk_6_16 : ∀ q, q < cN 6 → q ≠ 16 → (cT 6 q).2.1 ≠ (cT 6 16).2.1 := by decide +kernel
theorem nlX6_52 : znl RX6 52 = true := by decide +kernel
theorem nk_6_17 : ∀ q, q < cN 6 → q ≠ 17 → (cT 6 q).2.1 ≠ (cT 6 17).2.1 := by decide +kernel
theorem nlX6_55 : znl RX6 55 = true := by decide +kernel
theorem nk_6_18 : ∀ q, q < cN 6 → q ≠ 18 → (cT 6 q).2.1 ≠ (cT 6 18).2.1 := by decide +kernel
theorem nlX6_59 : znl RX6 59 = true := by decide +kernel
theorem nk_6_19 : ∀ q, q < cN 6 → q ≠ 19 → (cT 6 q).2.1 ≠ (cT 6 19).2.1 := by decide +kernel
theorem nlX6_62 : znl RX6 62 = true := by decide +kernel
theorem nk_6_20 : ∀ q, q < cN 6 → q ≠ 20 → (cT 6 q).2.1 ≠ (cT 6 20).2.1 := by decide +kernel
theorem nlX6_65 : znl RX6 65 = true := by decide +kernel
theorem nk_6_22 : ∀ q, q < cN 6 → q ≠ 22 → (cT 6 q).2.1 ≠ (cT 6 22).2.1 := by decide +kernel
theorem nlX6_68 : znl RX6 68 = true := by decide +kernel
theorem nk_6_24 : ∀ q, q < cN 6 → q ≠ 24 → (cT 6 q).2.1 ≠ (cT 6 24).2.1 := by decide +kernel
theorem nlX6_71 : znl RX6 71 = true := by decide +kernel
theorem nk_6_25 : ∀ q, q < cN 6 → q ≠ 25 → (cT 6 q).2.1 ≠ (cT 6 25).2.1 := by decide +kernel
theorem nlX6_74 : znl RX6 74 = true := by decide +kernel
theorem nk_6_26 : ∀ q, q < cN 6 → q ≠ 26 → (cT 6 q).2.1 ≠ (cT 6 26).2.1 := by decide +kernel
theorem nlX6_77 : znl RX6 77 = true := by decide +kernel
theorem nk_6_27 : ∀ q, q < cN 6 → q ≠ 27 → (cT 6 q).2.1 ≠ (cT 6 27).2.1 := by decide +kernel
theorem nlX6_80 : znl RX6 80 = true := by decide +kernel
theorem nk_6_28 : ∀ q, q < cN 6 → q ≠ 28 → (cT 6 q).2.1 ≠ (cT 6 28).2.1 := by decide +kernel
theorem nlX6_83 : znl RX6 83 = true := by decide +kernel
theorem nk_6_29 : ∀ q, q < cN 6 → q ≠ 29 → (cT 6 q).2.1 ≠ (cT 6 29).2.1 := by decide +kernel
theorem nlX6_86 : znl RX6 86 = true := by decide +kernel
theorem nk_6_30 : ∀ q, q < cN 6 → q ≠ 30 → (cT 6 q).2.1 ≠ (cT 6 30).2.1 := by decide +kernel
theorem nlX6_89 : znl RX6 89 = true := by decide +kernel
theorem nk_6_31 : ∀ q, q < cN 6 → q ≠ 31 → (cT 6 q).2.1 ≠ (cT 6 31).2.1 := by decide +kernel
theorem nlX6_92 : znl RX6 92 = true := by decide +kernel
theorem nk_6_32 : ∀ q, q < cN 6 → q ≠ 32 → (cT 6 q).2.1 ≠ (cT 6 32).2.1 := by decide +kernel
theorem nlX6_95 : znl RX6 95 = true := by decide +kernel
theorem nk_6_33 : ∀ q, q < cN 6 → q ≠ 33 → (cT 6 q).2.1 ≠ (cT 6 33).2.1 := by decide +kernel
theorem nlX6_98 : znl RX6 98 = true := by decide +kernel
theorem nk_6_35 : ∀ q, q < cN 6 → q ≠ 35 → (cT 6 q).2.1 ≠ (cT 6 35).2.1 := by decide +kernel
theorem nlX6_101 : znl RX6 101 = true := by decide +kernel
theorem nk_6_36 : ∀ q, q < cN 6 → q ≠ 36 → (cT 6 q).2.1 ≠ (cT 6 36).2.1 := by decide +kernel
theorem nlX6_104 : znl RX6 104 = true := by decide +kernel
theorem nk_6_37 : ∀ q, q < cN 6 → q ≠ 37 → (cT 6 q).2.1 ≠ (cT 6 37).2.1 := by decide +kernel
theorem nlX6_107 : znl RX6 107 = true := by decide +kernel
theorem nk_6_39 : ∀ q, q < cN 6 → q ≠ 39 → (cT 6 q).2.1 ≠ (cT 6 39).2.1 := by decide +kernel
theorem nlX6_110 : znl RX6 110 = true := by decide +kernel
theorem nk_6_45 : ∀ q, q < cN 6 → q ≠ 45 → (cT 6 q).2.1 ≠ (cT 6 45).2.1 := by decide +kernel
theorem nlX6_113 : znl RX6 113 = true := by decide +kernel
theorem nk_6_46 : ∀ q, q < cN 6 → q ≠ 46 → (cT 6 q).2.1 ≠ (cT 6 46).2.1 := by decide +kernel
theorem nlX6_116 : znl RX6 116 = true := by decide +kernel
theorem nk_6_49 : ∀ q, q < cN 6 → q ≠ 49 → (cT 6 q).2.1 ≠ (cT 6 49).2.1 := by decide +kernel
theorem nlX6_119 : znl RX6 119 = true := by decide +kernel
theorem nk_6_50 : ∀ q, q < cN 6 → q ≠ 50 → (cT 6 q).2.1 ≠ (cT 6 50).2.1 := by decide +kernel
theorem nlX6_122 : znl RX6 122 = true := by decide +kernel
theorem nk_6_51 : ∀ q, q < cN 6 → q ≠ 51 → (cT 6 q).2.1 ≠ (cT 6 51).2.1 := by decide +kernel
theorem nlX6_125 : znl RX6 125 = true := by decide +kernel
theorem nk_6_53 : ∀ q, q < cN 6 → q ≠ 53 → (cT 6 q).2.1 ≠ (cT 6 53).2.1 := by decide +kernel
theorem nlX6_128 : znl RX6 128 = true := by decide +kernel
theorem nk_6_57 : ∀ q, q < cN 6 → q ≠ 57 → (cT 6 q).2.1 ≠ (cT 6 57).2.1 := by decide +kernel
theorem nlX6_131 : znl RX6 131 = true := by decide +kernel
theorem nk_6_58 : ∀ q, q < cN 6 → q ≠ 58 → (cT 6 q).2.1 ≠ (cT 6 58).2.1 := by decide +kernel
theorem nlX6_134 : znl RX6 134 = true := by decide +kernel
theorem nk_6_59 : ∀ q, q < cN 6 → q ≠ 59 → (cT 6 q).2.1 ≠ (cT 6 59).2.1 := by decide +kernel
theorem nlX6_137 : znl RX6 137 = true := by decide +kernel
theorem nk_6_60 : ∀ q, q < cN 6 → q ≠ 60 → (cT 6 q).2.1 ≠ (cT 6 60).2.1 := by decide +kernel
theorem nlX6_140 : znl RX6 140 = true := by decide +kernel
theorem nk_6_61 : ∀ q, q < cN 6 → q ≠ 61 → (cT 6 q).2.1 ≠ (cT 6 61).2.1 := by decide +kernel
theorem nlX6_143 : znl RX6 143 = true := by decide +kernel
theorem nk_6_62 : ∀ q, q < cN 6 → q ≠ 62 → (cT 6 q).2.1 ≠ (cT 6 62).2.1 := by decide +kernel
theorem nlX6_146 : znl RX6 146 = true := by decide +kernel
theorem nk_6_63 : ∀ q, q < cN 6 → q ≠ 63 → (cT 6 q).2.1 ≠ (cT 6 63).2.1 := by decide +kernel
theorem nlX6_149 : znl RX6 149 = true := by decide +kernel
theorem nk_6_64 : ∀ q, q < cN 6 → q ≠ 64 → (cT 6 q).2.1 ≠ (cT 6 64).2.1 := by decide +kernel
theorem nlX6_152 : znl RX6 152 = true := by decide +kernel
theorem nk_6_65 : ∀ q, q < cN 6 → q ≠ 65 → (cT 6 q).2.1 ≠ (cT 6 65).2.1 := by decide +kernel
theorem nlX6_155 : znl RX6 155 = true := by decide +kernel
theorem nk_6_66 : ∀ q, q < cN 6 → q ≠ 66 → (cT 6 q).2.1 ≠ (cT 6 66).2.1 := by decide +kernel
theorem nlX6_158 : znl RX6 158 = true := by decide +kernel
theorem nk_6_68 : ∀ q, q < cN 6 → q ≠ 68 → (cT 6 q).2.1 ≠ (cT 6 68).2.1 := by decide +kernel
theorem pdX1_init : zPd yX1_init 0 := ⟨by decide +kernel, by decide +kernel, by decide +kernel⟩
theorem kIX0_97 : zLI RX0 97 yX1_init cX1_init 2 0 := ⟨q139, q141, q96, pdX1_init, rfl, q140⟩
theorem pdX6_init : zPd yX6_init 0 := ⟨by decide +kernel, by decide +kernel, by decide +kernel⟩
theorem kIX0_100 : zLI RX0 100 yX6_init cX6_init 2 0 := ⟨q1760, q1762, q108, pdX6_init, rfl, q1761⟩
