/-! TimberHouseLaw -/
def lkC0 : lk_T := ([(229, 1384), (273, 1), (442, 67), (506, 70), (570, 71), (615, 1025), (657, 25), (711, 25601), (739, 25), (901, 25640), (933, 25617), (1061, 1043), (1189, 25843), (1221, 1106), (1349, 25858), (1381, 1139), (1477, 25875), (1509, 1205), (1637, 25925), (1669, 1219), (1765, 25939), (1797, 1297), (1893, 26017), (1925, 1331), (2021, 26051), (2053, 1346), (2149, 26066), (2181, 1362), (2277, 26082)], [], [])
theorem lf0_7_5 : lk_ok "TimberHouseLaw" 7 5 1384 := ⟨(lw_g (lw_at lw_m9 34 rfl) rfl), rfl, rfl, gd86⟩
theorem lf0_8_17 : lk_ok "TimberHouseLaw" 8 17 1 := ⟨by decide, Or.inl (by decide +kernel), (lw_g (lw_at lw_m1 79 rfl) rfl), (lw_g (lw_at lw_m1 80 rfl) rfl), (lw_g (lw_at lw_m1 1 rfl) rfl), rfl⟩
theorem lf0_13_26 : lk_ok "TimberHouseLaw" 13 26 67 := ⟨(lw_g (lw_at lw_m9 31 rfl) rfl), by decide, by decide⟩
theorem lf0_15_26 : lk_ok "TimberHouseLaw" 15 26 70 := ⟨(lw_g (lw_at lw_m9 32 rfl) rfl), by decide, by decide⟩
theorem lf0_17_26 : lk_ok "TimberHouseLaw" 17 26 71 := ⟨(lw_g (lw_at lw_m9 33 rfl) rfl), by decide, by decide⟩
theorem lf0_19_7 : lk_ok "TimberHouseLaw" 19 7 1025 := ⟨(lw_g (lw_at lw_m1 81 rfl) rfl), rfl, rfl, gd64, rfl⟩
theorem lf0_20_17 : lk_ok "TimberHouseLaw" 20 17 25 := ⟨by decide, Or.inl (by decide +kernel), (lw_g (lw_at lw_m16 205 rfl) rfl), (lw_g (lw_at lw_m16 206 rfl) rfl), (lw_g (lw_at lw_m1 29 rfl) rfl), rfl⟩
theorem lf0_22_7 : lk_ok "TimberHouseLaw" 22 7 25601 := ⟨(lw_g (lw_at lw_m16 207 rfl) rfl), rfl, rfl, gd1600, rfl⟩
theorem lf0_23_3 : lk_ok "TimberHouseLaw" 23 3 25 := ⟨(lw_g (lw_at lw_m9 28 rfl) rfl), rfl, rfl, gd1⟩
theorem lf0_28_5 : lk_ok "TimberHouseLaw" 28 5 25640 := ⟨(lw_g (lw_at lw_m21 43 rfl) rfl), rfl, rfl, gd1602⟩
theorem lf0_29_5 : lk_ok "TimberHouseLaw" 29 5 25617 := ⟨(lw_g (lw_at lw_m21 39 rfl) rfl), rfl, rfl, gd1601⟩
theorem lf0_33_5 : lk_ok "TimberHouseLaw" 33 5 1043 := ⟨(lw_g (lw_at lw_m5 217 rfl) rfl), rfl, rfl, gd65⟩
theorem lf0_37_5 : lk_ok "TimberHouseLaw" 37 5 25843 := ⟨(lw_g (lw_at lw_m27 162 rfl) rfl), rfl, rfl, gd1615⟩
theorem lf0_38_5 : lk_ok "TimberHouseLaw" 38 5 1106 := ⟨(lw_g (lw_at lw_m6 135 rfl) rfl), rfl, rfl, gd69⟩
theorem lf0_42_5 : lk_ok "TimberHouseLaw" 42 5 25858 := ⟨(lw_g (lw_at lw_m27 166 rfl) rfl), rfl, rfl, gd1616⟩
theorem lf0_43_5 : lk_ok "TimberHouseLaw" 43 5 1139 := ⟨(lw_g (lw_at lw_m6 203 rfl) rfl), rfl, rfl, gd71⟩
theorem lf0_46_5 : lk_ok "TimberHouseLaw" 46 5 25875 := ⟨(lw_g (lw_at lw_m27 170 rfl) rfl), rfl, rfl, gd1617⟩
theorem lf0_47_5 : lk_ok "TimberHouseLaw" 47 5 1205 := ⟨(lw_g (lw_at lw_m7 178 rfl) rfl), rfl, rfl, gd75⟩
theorem lf0_51_5 : lk_ok "TimberHouseLaw" 51 5 25925 := ⟨(lw_g (lw_at lw_m27 182 rfl) rfl), rfl, rfl, gd1620⟩
theorem lf0_52_5 : lk_ok "TimberHouseLaw" 52 5 1219 := ⟨(lw_g (lw_at lw_m8 9 rfl) rfl), rfl, rfl, gd76⟩
theorem lf0_55_5 : lk_ok "TimberHouseLaw" 55 5 25939 := ⟨(lw_g (lw_at lw_m27 186 rfl) rfl), rfl, rfl, gd1621⟩
theorem lf0_56_5 : lk_ok "TimberHouseLaw" 56 5 1297 := ⟨(lw_g (lw_at lw_m8 40 rfl) rfl), rfl, rfl, gd81⟩
theorem lf0_59_5 : lk_ok "TimberHouseLaw" 59 5 26017 := ⟨(lw_g (lw_at lw_m28 17 rfl) rfl), rfl, rfl, gd1626⟩
theorem lf0_60_5 : lk_ok "TimberHouseLaw" 60 5 1331 := ⟨(lw_g (lw_at lw_m8 127 rfl) rfl), rfl, rfl, gd83⟩
theorem lf0_63_5 : lk_ok "TimberHouseLaw" 63 5 26051 := ⟨(lw_g (lw_at lw_m28 27 rfl) rfl), rfl, rfl, gd1628⟩
theorem lf0_64_5 : lk_ok "TimberHouseLaw" 64 5 1346 := ⟨(lw_g (lw_at lw_m8 220 rfl) rfl), rfl, rfl, gd84⟩
theorem lf0_67_5 : lk_ok "TimberHouseLaw" 67 5 26066 := ⟨(lw_g (lw_at lw_m28 33 rfl) rfl), rfl, rfl, gd1629⟩
theorem lf0_68_5 : lk_ok "TimberHouseLaw" 68 5 1362 := ⟨(lw_g (lw_at lw_m9 24 rfl) rfl), rfl, rfl, gd85⟩
theorem lf0_71_5 : lk_ok "TimberHouseLaw" 71 5 26082 := ⟨(lw_g (lw_at lw_m28 37 rfl) rfl), rfl, rfl, gd1630⟩
theorem lf0 : lk_sem "TimberHouseLaw" lkC0 := ⟨List.forall_mem_cons.mpr ⟨lf0_7_5, List.forall_mem_cons.mpr ⟨lf0_8_17, List.forall_mem_cons.mpr ⟨lf0_13_26, List.forall_mem_cons.mpr ⟨lf0_15_26, List.forall_mem_cons.mpr ⟨lf0_17_26, List.forall_mem_cons.mpr ⟨lf0_19_7, List.forall_mem_cons.mpr ⟨lf0_20_17, List.forall_mem_cons.mpr ⟨lf0_22_7, List.forall_mem_cons.mpr ⟨lf0_23_3, List.forall_mem_cons.mpr ⟨lf0_28_5, List.forall_mem_cons.mpr ⟨lf0_29_5, List.forall_mem_cons.mpr ⟨lf0_33_5, List.forall_mem_cons.mpr ⟨lf0_37_5, List.forall_mem_cons.mpr ⟨lf0_38_5, List.forall_mem_cons.mpr ⟨lf0_42_5, List.forall_mem_cons.mpr ⟨lf0_43_5, List.forall_mem_cons.mpr ⟨lf0_46_5, List.forall_mem_cons.mpr ⟨lf0_47_5, List.forall_mem_cons.mpr ⟨lf0_51_5, List.forall_mem_cons.mpr ⟨lf0_52_5, List.forall_mem_cons.mpr ⟨lf0_55_5, List.forall_mem_cons.mpr ⟨lf0_56_5, List.forall_mem_cons.mpr ⟨lf0_59_5, List.forall_mem_cons.mpr ⟨lf0_60_5, List.forall_mem_cons.mpr ⟨lf0_63_5, List.forall_mem_cons.mpr ⟨lf0_64_5, List.forall_mem_cons.mpr ⟨lf0_67_5, List.forall_mem_cons.mpr ⟨lf0_68_5, List.forall_mem_cons.mpr ⟨lf0_71_5, List.forall_mem_nil _⟩⟩⟩⟩⟩⟩⟩⟩⟩⟩⟩⟩⟩⟩⟩⟩⟩⟩⟩⟩⟩⟩⟩⟩⟩⟩⟩⟩⟩, List.forall_mem_nil _, List.forall_mem_nil _⟩
theorem ck0 : trm lkC0 [0, 23, 96, 208, 224, 227, 264, 289, 326, 387, 424, 437, 474, 499, 524, 530] 2 false [(40, .tableswitch 484 0 9 #[56, 187, 224, 249, 286, 347, 384, 397, 434, 459], 56)] (sn_b 0).2.2.2 ((sn_b 0).1.data.toList.map UInt8.toNat) (pm_prog.2 0) 16 = true := by decide +kernel
theorem ch0 : sn_chk 0 := sn_mk (lk := lkC0) (B := [0, 23, 96, 208, 224, 227, 264, 289, 326, 387, 424, 437, 474, 499, 524, 530]) (rt := 2) (ini := false) (ov := [(40, .tableswitch 484 0 9 #[56, 187, 224, 249, 286, 347, 384, 397, 434, 459], 56)]) [b0_0, b0_1, b0_2, b0_3, b0_4, b0_5, b0_6, b0_7, b0_8, b0_9, b0_10, b0_11, b0_12, b0_13, b0_14, b0_15] lf0 ck0 rfl rfl (by decide +kernel) (List.forall_mem_cons.mpr ⟨by decide +kernel, List.forall_mem_nil _⟩) (fun _ _ => rfl) (sn_hq0 rfl)
theorem ck1 : trm lkC0 [0, 19, 24, 28, 32, 34] 0 false [] (sn_b 1).2.2.2 ((sn_b 1).1.data.toList.map UInt8.toNat) (pm_prog.2 1) 6 = true := by decide +kernel
theorem ch1 : sn_chk 1 := sn_mk (lk := lkC0) (B := [0, 19, 24, 28, 32, 34]) (rt := 0) (ini := false) (ov := []) [b1_0, b1_1, b1_2, b1_3, b1_4, b1_5] lf0 ck1 rfl rfl (by decide +kernel) (List.forall_mem_nil _) (fun e => by cases e) (sn_hq1 _ rfl (by decide +kernel))
/-! TimberHouse$SawGrids$View -/
def lkC3 : lk_T := ([(107, 0), (288, 3072), (290, 3072), (480, 3080), (482, 3080), (597, 7), (640, 3091), (642, 3091), (736, 3099), (738, 3099), (832, 3107), (834, 3107), (960, 3115), (962, 3115), (1056, 3123), (1058, 3123), (1184, 3131), (1186, 3131), (1280, 3139), (1282, 3139), (1376, 3147), (1378, 3147), (1472, 36872), (1632, 36864), (1731, 3109), (1861, 3124), (1984, 36888), (2080, 36880), (2179, 61458), (2371, 61442), (2469, 3188), (2597, 3202), (2725, 3092), (2789, 3173)], [], [])
theorem lf3_3_11 : lk_ok "TimberHouse$SawGrids$View" 3 11 0 := (lw_g (lw_at lw_m1 112 rfl) rfl)
theorem lf3_9_0 : lk_ok "TimberHouse$SawGrids$View" 9 0 3072 := lk0 (ci := 3) (k := 0) rfl rfl rfl ⟨"TimberHouse$SawGrids$View", Or.inl (lw_g (lw_at lw_m1 114 rfl) rfl), Or.inl rfl⟩
theorem lf3_9_2 : lk_ok "TimberHouse$SawGrids$View" 9 2 3072 := lk2 (ci := 3) (k := 0) rfl rfl rfl ⟨rfl, rfl, rfl, "TimberHouse$SawGrids$View", (lw_g (lw_at lw_m1 114 rfl) rfl), rfl⟩
theorem lf3_15_0 : lk_ok "TimberHouse$SawGrids$View" 15 0 3080 := lk0 (ci := 3) (k := 1) rfl rfl rfl ⟨"TimberHouse$SawGrids$View", Or.inl (lw_g (lw_at lw_m1 115 rfl) rfl), Or.inl rfl⟩
theorem lf3_15_2 : lk_ok "TimberHouse$SawGrids$View" 15 2 3080 := lk2 (ci := 3) (k := 1) rfl rfl rfl ⟨rfl, rfl, rfl, "TimberHouse$SawGrids$View", (lw_g (lw_at lw_m1 115 rfl) rfl), rfl⟩
theorem lf3_18_21 : lk_ok "TimberHouse$SawGrids$View" 18 21 7 := ⟨(lw_g (lw_at lw_m1 113 rfl) rfl), (lw_at lw_m1 106 rfl), (lw_g (lw_at lw_m1 150 rfl) rfl), by decide +kernel, by decide +kernel⟩
theorem lf3_20_0 : lk_ok "TimberHouse$SawGrids$View" 20 0 3091 := lk0 (ci := 3) (k := 2) rfl rfl rfl ⟨"TimberHouse$SawGrids$View", Or.inl (lw_g (lw_at lw_m1 116 rfl) rfl), Or.inl rfl⟩
theorem lf3_20_2 : lk_ok "TimberHouse$SawGrids$View" 20 2 3091 := lk2 (ci := 3) (k := 2) rfl rfl rfl ⟨rfl, rfl, rfl, "TimberHouse$SawGrids$View", (lw_g (lw_at lw_m1 116 rfl) rfl), rfl⟩
theorem lf3_23_0 : lk_ok "TimberHouse$SawGrids$View" 23 0 3099 := lk0 (ci := 3) (k := 3) rfl rfl rfl ⟨"TimberHouse$SawGrids$View", Or.inl (lw_g (lw_at lw_m1 117 rfl) rfl), Or.inl rfl⟩
theorem lf3_23_2 : lk_ok "TimberHouse$SawGrids$View" 23 2 3099 := lk2 (ci := 3) (k := 3) rfl rfl rfl ⟨rfl, rfl, rfl, "TimberHouse$SawGrids$View", (lw_g (lw_at lw_m1 117 rfl) rfl), rfl⟩
theorem lf3_26_0 : lk_ok "TimberHouse$SawGrids$View" 26 0 3107 := lk0 (ci := 3) (k := 4) rfl rfl rfl ⟨"TimberHouse$SawGrids$View", Or.inl (lw_g (lw_at lw_m1 118 rfl) rfl), Or.inl rfl⟩
theorem lf3_26_2 : lk_ok "TimberHouse$SawGrids$View" 26 2 3107 := lk2 (ci := 3) (k := 4) rfl rfl rfl ⟨rfl, rfl, rfl, "TimberHouse$SawGrids$View", (lw_g (lw_at lw_m1 118 rfl) rfl), rfl⟩
theorem lf3_30_0 : lk_ok "TimberHouse$SawGrids$View" 30 0 3115 := lk0 (ci := 3) (k := 5) rfl rfl rfl ⟨"TimberHouse$SawGrids$View", Or.inl (lw_g (lw_at lw_m1 119 rfl) rfl), Or.inl rfl⟩
theorem lf3_30_2 : lk_ok "TimberHouse$SawGrids$View" 30 2 3115 := lk2 (ci := 3) (k := 5) rfl rfl rfl ⟨rfl, rfl, rfl, "TimberHouse$SawGrids$View", (lw_g (lw_at lw_m1 119 rfl) rfl), rfl⟩
theorem lf3_33_0 : lk_ok "TimberHouse$SawGrids$View" 33 0 3123 := lk0 (ci := 3) (k := 6) rfl rfl rfl ⟨"TimberHouse$SawGrids$View", Or.inl (lw_g (lw_at lw_m1 120 rfl) rfl), Or.inl rfl⟩
theorem lf3_33_2 : lk_ok "TimberHouse$SawGrids$View" 33 2 3123 := lk2 (ci := 3) (k := 6) rfl rfl rfl ⟨rfl, rfl, rfl, "TimberHouse$SawGrids$View", (lw_g (lw_at lw_m1 120 rfl) rfl), rfl⟩
theorem lf3_37_0 : lk_ok "TimberHouse$SawGrids$View" 37 0 3131 := lk0 (ci := 3) (k := 7) rfl rfl rfl ⟨"TimberHouse$SawGrids$View", Or.inl (lw_g (lw_at lw_m1 122 rfl) rfl), Or.inl rfl⟩
theorem lf3_37_2 : lk_ok "TimberHouse$SawGrids$View" 37 2 3131 := lk2 (ci := 3) (k := 7) rfl rfl rfl ⟨rfl, rfl, rfl, "TimberHouse$SawGrids$View", (lw_g (lw_at lw_m1 122 rfl) rfl), rfl⟩
theorem lf3_40_0 : lk_ok "TimberHouse$SawGrids$View" 40 0 3139 := lk0 (ci := 3) (k := 8) rfl rfl rfl ⟨"TimberHouse$SawGrids$View", Or.inl (lw_g (lw_at lw_m1 124 rfl) rfl), Or.inl rfl⟩
theorem lf3_40_2 : lk_ok "TimberHouse$SawGrids$View" 40 2 3139 := lk2 (ci := 3) (k := 8) rfl rfl rfl ⟨rfl, rfl, rfl, "TimberHouse$SawGrids$View", (lw_g (lw_at lw_m1 124 rfl) rfl), rfl⟩
theorem lf3_43_0 : lk_ok "TimberHouse$SawGrids$View" 43 0 3147 := lk0 (ci := 3) (k := 9) rfl rfl rfl ⟨"TimberHouse$SawGrids$View", Or.inl (lw_g (lw_at lw_m1 126 rfl) rfl), Or.inl rfl⟩
theorem lf3_43_2 : lk_ok "TimberHouse$SawGrids$View" 43 2 3147 := lk2 (ci := 3) (k := 9) rfl rfl rfl ⟨rfl, rfl, rfl, "TimberHouse$SawGrids$View", (lw_g (lw_at lw_m1 126 rfl) rfl), rfl⟩
theorem lf3_46_0 : lk_ok "TimberHouse$SawGrids$View" 46 0 36872 := lk0 (ci := 36) (k := 1) rfl rfl rfl ⟨"TimberHouse$SawGrids$Size", Or.inr ⟨"TimberHouse", (lw_at lw_m9 82 rfl)⟩, Or.inl rfl⟩
theorem lf3_51_0 : lk_ok "TimberHouse$SawGrids$View" 51 0 36864 := lk0 (ci := 36) (k := 0) rfl rfl rfl ⟨"TimberHouse$SawGrids$Size", Or.inr ⟨"TimberHouse", (lw_at lw_m9 79 rfl)⟩, Or.inl rfl⟩
theorem lf3_54_3 : lk_ok "TimberHouse$SawGrids$View" 54 3 3109 := ⟨(lw_g (lw_at lw_m6 115 rfl) rfl), rfl, rfl, gd194⟩
theorem lf3_58_5 : lk_ok "TimberHouse$SawGrids$View" 58 5 3124 := ⟨(lw_g (lw_at lw_m9 121 rfl) rfl), rfl, rfl, gd195⟩
theorem lf3_62_0 : lk_ok "TimberHouse$SawGrids$View" 62 0 36888 := lk0 (ci := 36) (k := 3) rfl rfl rfl ⟨"TimberHouse$SawGrids$Size", Or.inr ⟨"TimberHouse", (lw_at lw_m9 87 rfl)⟩, Or.inl rfl⟩
theorem lf3_65_0 : lk_ok "TimberHouse$SawGrids$View" 65 0 36880 := lk0 (ci := 36) (k := 2) rfl rfl rfl ⟨"TimberHouse$SawGrids$Size", Or.inr ⟨"TimberHouse", (lw_at lw_m9 85 rfl)⟩, Or.inl rfl⟩
theorem lf3_68_3 : lk_ok "TimberHouse$SawGrids$View" 68 3 61458 := ⟨(lw_g (lw_at lw_m6 118 rfl) rfl), rfl, rfl, gd3841⟩
theorem lf3_74_3 : lk_ok "TimberHouse$SawGrids$View" 74 3 61442 := ⟨(lw_g (lw_at lw_m9 126 rfl) rfl), rfl, rfl, gd3840⟩
theorem lf3_77_5 : lk_ok "TimberHouse$SawGrids$View" 77 5 3188 := ⟨(lw_g (lw_at lw_m9 117 rfl) rfl), rfl, rfl, gd199⟩
theorem lf3_81_5 : lk_ok "TimberHouse$SawGrids$View" 81 5 3202 := ⟨(lw_g (lw_at lw_m9 122 rfl) rfl), rfl, rfl, gd200⟩
theorem lf3_85_5 : lk_ok "TimberHouse$SawGrids$View" 85 5 3092 := ⟨(lw_g (lw_at lw_m9 127 rfl) rfl), rfl, rfl, gd193⟩
theorem lf3_87_5 : lk_ok "TimberHouse$SawGrids$View" 87 5 3173 := ⟨(lw_g (lw_at lw_m9 113 rfl) rfl), rfl, rfl, gd198⟩
theorem lf3 : lk_sem "TimberHouse$SawGrids$View" lkC3 := ⟨List.forall_mem_cons.mpr ⟨lf3_3_11, List.forall_mem_cons.mpr ⟨lf3_9_0, List.forall_mem_cons.mpr ⟨lf3_9_2, List.forall_mem_cons.mpr ⟨lf3_15_0, List.forall_mem_cons.mpr ⟨lf3_15_2, List.forall_mem_cons.mpr ⟨lf3_18_21, List.forall_mem_cons.mpr ⟨lf3_20_0, List.forall_mem_cons.mpr ⟨lf3_20_2, List.forall_mem_cons.mpr ⟨lf3_23_0, List.forall_mem_cons.mpr ⟨lf3_23_2, List.forall_mem_cons.mpr ⟨lf3_26_0, List.forall_mem_cons.mpr ⟨lf3_26_2, List.forall_mem_cons.mpr ⟨lf3_30_0, List.forall_mem_cons.mpr ⟨lf3_30_2, List.forall_mem_cons.mpr ⟨lf3_33_0, List.forall_mem_cons.mpr ⟨lf3_33_2, List.forall_mem_cons.mpr ⟨lf3_37_0, List.forall_mem_cons.mpr ⟨lf3_37_2, List.forall_mem_cons.mpr ⟨lf3_40_0, List.forall_mem_cons.mpr ⟨lf3_40_2, List.forall_mem_cons.mpr ⟨lf3_43_0, List.forall_mem_cons.mpr ⟨lf3_43_2, List.forall_mem_cons.mpr ⟨lf3_46_0, List.forall_mem_cons.mpr ⟨lf3_51_0, List.forall_mem_cons.mpr ⟨lf3_54_3, List.forall_mem_cons.mpr ⟨lf3_58_5, List.forall_mem_cons.mpr ⟨lf3_62_0, List.forall_mem_cons.mpr ⟨lf3_65_0, List.forall_mem_cons.mpr ⟨lf3_68_3, List.forall_mem_cons.mpr ⟨lf3_74_3, List.forall_mem_cons.mpr ⟨lf3_77_5, List.forall_mem_cons.mpr ⟨lf3_81_5, List.forall_mem_cons.mpr ⟨lf3_85_5, List.forall_mem_cons.mpr ⟨lf3_87_5, List.forall_mem_nil _⟩⟩⟩⟩⟩⟩⟩⟩⟩⟩⟩⟩⟩⟩⟩⟩⟩⟩⟩⟩⟩⟩⟩⟩⟩⟩⟩⟩⟩⟩⟩⟩⟩⟩, List.forall_mem_nil _, List.forall_mem_nil _⟩
theorem ck192 : trm lkC3 [0] 9 true [(21, .multianewarray 18 2, 4), (35, .multianewarray 18 2, 4)] (sn_b 192).2.2.2 ((sn_b 192).1.data.toList.map UInt8.toNat) (pm_prog.2 192) 1 = true := by decide +kernel
theorem ch192 : sn_chk 192 := sn_mk (lk := lkC3) (B := [0]) (rt := 9) (ini := true) (ov := [(21, .multianewarray 18 2, 4), (35, .multianewarray 18 2, 4)]) [b192_0] lf3 ck192 rfl rfl (by decide +kernel) (List.forall_mem_cons.mpr ⟨by decide +kernel, List.forall_mem_cons.mpr ⟨by decide +kernel, List.forall_mem_nil _⟩⟩) (fun _ _ => rfl) (sn_hq0 rfl)
theorem ck193 : trm lkC3 [0] 0 false [] (sn_b 193).2.2.2 ((sn_b 193).1.data.toList.map UInt8.toNat) (pm_prog.2 193) 1 = true := by decide +kernel
theorem ch193 : sn_chk 193 := sn_mk (lk := lkC3) (B := [0]) (rt := 0) (ini := false) (ov := []) [b193_0] lf3 ck193 rfl rfl (by decide +kernel) (List.forall_mem_nil _) (fun _ _ => rfl) (sn_hq0 rfl)
theorem ck194 : trm lkC3 [0] 0 false [] (sn_b 194).2.2.2 ((sn_b 194).1.data.toList.map UInt8.toNat) (pm_prog.2 194) 1 = true := by decide +kernel
theorem ch194 : sn_chk 194 := sn_mk (lk := lkC3) (B := [0]) (rt := 0) (ini := false) (ov := []) [b194_0] lf3 ck194 rfl rfl (by decide +kernel) (List.forall_mem_nil _) (fun _ _ => rfl) (sn_hq0 rfl)
theorem ck195 : trm lkC3 [0] 0 false [] (sn_b 195).2.2.2 ((sn_b 195).1.data.toList.map UInt8.toNat) (pm_prog.2 195) 1 = true := by decide +kernel
theorem ch195 : sn_chk 195 := sn_mk (lk := lkC3) (B := [0]) (rt := 0) (ini := false) (ov := []) [b195_0] lf3 ck195 rfl rfl (by decide +kernel) (List.forall_mem_nil _) (fun _ _ => rfl) (sn_hq0 rfl)
theorem ck196 : trm lkC3 [0, 3, 15, 38, 45, 61, 68, 128, 129, 190, 196] 9 false [] (sn_b 196).2.2.2 ((sn_b 196).1.data.toList.map UInt8.toNat) (pm_prog.2 196) 11 = true := by decide +kernel
theorem ch196 : sn_chk 196 := sn_mk (lk := lkC3) (B := [0, 3, 15, 38, 45, 61, 68, 128, 129, 190, 196]) (rt := 9) (ini := false) (ov := []) [b196_0, b196_1, b196_2, b196_3, b196_4, b196_5, b196_6, b196_7, b196_8, b196_9, b196_10] lf3 ck196 rfl rfl (by decide +kernel) (List.forall_mem_nil _) (fun _ _ => rfl) (sn_hq0 rfl)
theorem ck197 : trm lkC3 [0, 27, 74, 100, 175, 200, 206, 212] 9 false [] (sn_b 197).2.2.2 ((sn_b 197).1.data.toList.map UInt8.toNat) (pm_prog.2 197) 8 = true := by decide +kernel
theorem ch197 : sn_chk 197 := sn_mk (lk := lkC3) (B := [0, 27, 74, 100, 175, 200, 206, 212]) (rt := 9) (ini := false) (ov := []) [b197_0, b197_1, b197_2, b197_3, b197_4, b197_5, b197_6, b197_7] lf3 ck197 rfl rfl (by decide +kernel) (List.forall_mem_nil _) (fun _ _ => rfl) (sn_hq0 rfl)
theorem ck198 : trm lkC3 [0, 28, 78, 114, 194, 222, 228, 234] 9 false [] (sn_b 198).2.2.2 ((sn_b 198).1.data.toList.map UInt8.toNat) (pm_prog.2 198) 8 = true := by decide +kernel
theorem ch198 : sn_chk 198 := sn_mk (lk := lkC3) (B := [0, 28, 78, 114, 194, 222, 228, 234]) (rt := 9) (ini := false) (ov := []) [b198_0, b198_1, b198_2, b198_3, b198_4, b198_5, b198_6, b198_7] lf3 ck198 rfl rfl (by decide +kernel) (List.forall_mem_nil _) (fun _ _ => rfl) (sn_hq0 rfl)
theorem ck199 : trm lkC3 [0, 52, 53] 2 false [] (sn_b 199).2.2.2 ((sn_b 199).1.data.toList.map UInt8.toNat) (pm_prog.2 199) 3 = true := by decide +kernel
theorem ch199 : sn_chk 199 := sn_mk (lk := lkC3) (B := [0, 52, 53]) (rt := 2) (ini := false) (ov := []) [b199_0, b199_1, b199_2] lf3 ck199 rfl rfl (by decide +kernel) (List.forall_mem_nil _) (fun _ _ => rfl) (sn_hq0 rfl)
theorem ck200 : trm lkC3 [0] 0 false [] (sn_b 200).2.2.2 ((sn_b 200).1.data.toList.map UInt8.toNat) (pm_prog.2 200) 1 = true := by decide +kernel
theorem ch200 : sn_chk 200 := sn_mk (lk := lkC3) (B := [0]) (rt := 0) (ini := false) (ov := []) [b200_0] lf3 ck200 rfl rfl (by decide +kernel) (List.forall_mem_nil _) (fun _ _ => rfl) (sn_hq0 rfl)
/-! TimberHouse$FaultRips$Planner -/
def lkC5 : lk_T := ([(107, 0), (320, 5147), (322, 5147), (529, 6), (532, 18), (576, 5155), (578, 5155), (704, 5123), (706, 5123), (832, 5131), (834, 5131), (968, 6145), (992, 38937), (1184, 38961), (1283, 5140), (1413, 5171), (1504, 5160), (1505, 5160), (1637, 5208), (1760, 6155), (1888, 6147), (2021, 5192), (2144, 5138), (2277, 5220), (2405, 5241), (2533, 7190), (2725, 5274), (2853, 5257), (2979, 61458)], [(9, 75625)], [])
theorem lf5_3_11 : lk_ok "TimberHouse$FaultRips$Planner" 3 11 0 := (lw_g (lw_at lw_m1 216 rfl) rfl)
theorem lf5_10_0 : lk_ok "TimberHouse$FaultRips$Planner" 10 0 5147 := lk0 (ci := 5) (k := 3) rfl rfl rfl ⟨"TimberHouse$FaultRips$Planner", Or.inl (lw_g (lw_at lw_m1 239 rfl) rfl), Or.inl rfl⟩
theorem lf5_10_2 : lk_ok "TimberHouse$FaultRips$Planner" 10 2 5147 := lk2 (ci := 5) (k := 3) rfl rfl rfl ⟨rfl, rfl, rfl, "TimberHouse$FaultRips$Planner", (lw_g (lw_at lw_m1 239 rfl) rfl), rfl⟩
theorem lf5_16_17 : lk_ok "TimberHouse$FaultRips$Planner" 16 17 6 := ⟨by decide, Or.inl (by decide +kernel), (lw_g (lw_at lw_m1 218 rfl) rfl), (lw_g (lw_at lw_m1 220 rfl) rfl), (lw_g (lw_at lw_m1 7 rfl) rfl), rfl⟩
theorem lf5_16_20 : lk_ok "TimberHouse$FaultRips$Planner" 16 20 18 := Or.inl ⟨_, rfl, by decide +kernel, (lw_g (lw_at lw_m1 218 rfl) rfl), (lw_at lw_m1 219 rfl)⟩
theorem lf5_18_0 : lk_ok "TimberHouse$FaultRips$Planner" 18 0 5155 := lk0 (ci := 5) (k := 4) rfl rfl rfl ⟨"TimberHouse$FaultRips$Planner", Or.inl (lw_g (lw_at lw_m2 0 rfl) rfl), Or.inl rfl⟩
theorem lf5_18_2 : lk_ok "TimberHouse$FaultRips$Planner" 18 2 5155 := lk2 (ci := 5) (k := 4) rfl rfl rfl ⟨rfl, rfl, rfl, "TimberHouse$FaultRips$Planner", (lw_g (lw_at lw_m2 0 rfl) rfl), rfl⟩
theorem lf5_22_0 : lk_ok "TimberHouse$FaultRips$Planner" 22 0 5123 := lk0 (ci := 5) (k := 0) rfl rfl rfl ⟨"TimberHouse$FaultRips$Planner", Or.inl (lw_g (lw_at lw_m1 235 rfl) rfl), Or.inl rfl⟩
theorem lf5_22_2 : lk_ok "TimberHouse$FaultRips$Planner" 22 2 5123 := lk2 (ci := 5) (k := 0) rfl rfl rfl ⟨rfl, rfl, rfl, "TimberHouse$FaultRips$Planner", (lw_g (lw_at lw_m1 235 rfl) rfl), rfl⟩
theorem lf5_26_0 : lk_ok "TimberHouse$FaultRips$Planner" 26 0 5131 := lk0 (ci := 5) (k := 1) rfl rfl rfl ⟨"TimberHouse$FaultRips$Planner", Or.inl (lw_g (lw_at lw_m1 236 rfl) rfl), Or.inl rfl⟩
theorem lf5_26_2 : lk_ok "TimberHouse$FaultRips$Planner" 26 2 5131 := lk2 (ci := 5) (k := 1) rfl rfl rfl ⟨rfl, rfl, rfl, "TimberHouse$FaultRips$Planner", (lw_g (lw_at lw_m1 236 rfl) rfl), rfl⟩
theorem lf5_30_8 : lk_ok "TimberHouse$FaultRips$Planner" 30 8 6145 := ⟨⟨"TimberHouse", (lw_at lw_m1 221 rfl)⟩, rfl, rfl, gd384, rfl⟩
theorem lf5_31_0 : lk_ok "TimberHouse$FaultRips$Planner" 31 0 38937 := lk0 (ci := 38) (k := 3) rfl rfl rfl ⟨"TimberHouse$FaultRips$Piece", Or.inr ⟨"TimberHouse", (lw_at lw_m9 216 rfl)⟩, Or.inl rfl⟩
theorem lf5_37_0 : lk_ok "TimberHouse$FaultRips$Planner" 37 0 38961 := lk0 (ci := 38) (k := 6) rfl rfl rfl ⟨"TimberHouse$FaultRips$Piece", Or.inr ⟨"TimberHouse", (lw_at lw_m9 222 rfl)⟩, Or.inl rfl⟩
theorem lf5_40_3 : lk_ok "TimberHouse$FaultRips$Planner" 40 3 5140 := ⟨(lw_g (lw_at lw_m10 62 rfl) rfl), rfl, rfl, gd321⟩
theorem lf5_44_5 : lk_ok "TimberHouse$FaultRips$Planner" 44 5 5171 := ⟨(lw_g (lw_at lw_m10 63 rfl) rfl), rfl, rfl, gd323⟩
theorem lf5_47_0 : lk_ok "TimberHouse$FaultRips$Planner" 47 0 5160 := lk0 (ci := 5) (k := 5) rfl rfl rfl ⟨"TimberHouse$FaultRips$Planner", Or.inl (lw_g (lw_at lw_m2 1 rfl) rfl), Or.inl rfl⟩
theorem lf5_47_1 : lk_ok "TimberHouse$FaultRips$Planner" 47 1 5160 := lk1 (ci := 5) (k := 5) rfl rfl rfl ⟨rfl, rfl, ⟨"TimberHouse$FaultRips$Planner", Or.inl (lw_g (lw_at lw_m2 1 rfl) rfl), Or.inl rfl⟩⟩
theorem lf5_51_5 : lk_ok "TimberHouse$FaultRips$Planner" 51 5 5208 := ⟨(lw_g (lw_at lw_m10 71 rfl) rfl), rfl, rfl, gd325⟩
theorem lf5_55_0 : lk_ok "TimberHouse$FaultRips$Planner" 55 0 6155 := lk0 (ci := 6) (k := 1) rfl rfl rfl ⟨"TimberHouse$FaultRips$Table", Or.inr ⟨"TimberHouse", (lw_at lw_m1 228 rfl)⟩, Or.inl rfl⟩
theorem lf5_59_0 : lk_ok "TimberHouse$FaultRips$Planner" 59 0 6147 := lk0 (ci := 6) (k := 0) rfl rfl rfl ⟨"TimberHouse$FaultRips$Table", Or.inr ⟨"TimberHouse", (lw_at lw_m1 226 rfl)⟩, Or.inl rfl⟩
theorem lf5_63_5 : lk_ok "TimberHouse$FaultRips$Planner" 63 5 5192 := ⟨(lw_g (lw_at lw_m10 83 rfl) rfl), rfl, rfl, gd324⟩
theorem lf5_67_0 : lk_ok "TimberHouse$FaultRips$Planner" 67 0 5138 := lk0 (ci := 5) (k := 2) rfl rfl rfl ⟨"TimberHouse$FaultRips$Planner", Or.inl (lw_g (lw_at lw_m1 237 rfl) rfl), Or.inl rfl⟩
theorem lf5_71_5 : lk_ok "TimberHouse$FaultRips$Planner" 71 5 5220 := ⟨(lw_g (lw_at lw_m10 75 rfl) rfl), rfl, rfl, gd326⟩
theorem lf5_75_5 : lk_ok "TimberHouse$FaultRips$Planner" 75 5 5241 := ⟨(lw_g (lw_at lw_m10 79 rfl) rfl), rfl, rfl, gd327⟩
theorem lf5_79_5 : lk_ok "TimberHouse$FaultRips$Planner" 79 5 7190 := ⟨(lw_g (lw_at lw_m10 88 rfl) rfl), rfl, rfl, gd449⟩
theorem lf5_85_5 : lk_ok "TimberHouse$FaultRips$Planner" 85 5 5274 := ⟨(lw_g (lw_at lw_m10 92 rfl) rfl), rfl, rfl, gd329⟩
theorem lf5_89_5 : lk_ok "TimberHouse$FaultRips$Planner" 89 5 5257 := ⟨(lw_g (lw_at lw_m10 96 rfl) rfl), rfl, rfl, gd328⟩
theorem lf5_93_3 : lk_ok "TimberHouse$FaultRips$Planner" 93 3 61458 := ⟨(lw_g (lw_at lw_m10 97 rfl) rfl), rfl, rfl, gd3841⟩
theorem lf5 : lk_sem "TimberHouse$FaultRips$Planner" lkC5 := ⟨List.forall_mem_cons.mpr ⟨lf5_3_11, List.forall_mem_cons.mpr ⟨lf5_10_0, List.forall_mem_cons.mpr ⟨lf5_10_2, List.forall_mem_cons.mpr ⟨lf5_16_17, List.forall_mem_cons.mpr ⟨lf5_16_20, List.forall_mem_cons.mpr ⟨lf5_18_0, List.forall_mem_cons.mpr ⟨lf5_18_2, List.forall_mem_cons.mpr ⟨lf5_22_0, List.forall_mem_cons.mpr ⟨lf5_22_2, List.forall_mem_cons.mpr ⟨lf5_26_0, List.forall_mem_cons.mpr ⟨lf5_26_2, List.forall_mem_cons.mpr ⟨lf5_30_8, List.forall_mem_cons.mpr ⟨lf5_31_0, List.forall_mem_cons.mpr ⟨lf5_37_0, List.forall_mem_cons.mpr ⟨lf5_40_3, List.forall_mem_cons.mpr ⟨lf5_44_5, List.forall_mem_cons.mpr ⟨lf5_47_0, List.forall_mem_cons.mpr ⟨lf5_47_1, List.forall_mem_cons.mpr ⟨lf5_51_5, List.forall_mem_cons.mpr ⟨lf5_55_0, List.forall_mem_cons.mpr ⟨lf5_59_0, List.forall_mem_cons.mpr ⟨lf5_63_5, List.forall_mem_cons.mpr ⟨lf5_67_0, List.forall_mem_cons.mpr ⟨lf5_71_5, List.forall_mem_cons.mpr ⟨lf5_75_5, List.forall_mem_cons.mpr ⟨lf5_79_5, List.forall_mem_cons.mpr ⟨lf5_85_5, List.forall_mem_cons.mpr ⟨lf5_89_5, List.forall_mem_cons.mpr ⟨lf5_93_3, List.forall_mem_nil _⟩⟩⟩⟩⟩⟩⟩⟩⟩⟩⟩⟩⟩⟩⟩⟩⟩⟩⟩⟩⟩⟩⟩⟩⟩⟩⟩⟩⟩, List.forall_mem_cons.mpr ⟨(lw_g (lw_at lw_m1 217 rfl) rfl), List.forall_mem_nil _⟩, List.forall_mem_nil _⟩
theorem ck320 : trm lkC5 [0, 32, 60] 9 true [] (sn_b 320).2.2.2 ((sn_b 320).1.data.toList.map UInt8.toNat) (pm_prog.2 320) 3 = true := by decide +kernel
theorem ch320 : sn_chk 320 := sn_mk (lk := lkC5) (B := [0, 32, 60]) (rt := 9) (ini := true) (ov := []) [b320_0, b320_1, b320_2] lf5 ck320 rfl rfl (by decide +kernel) (List.forall_mem_nil _) (fun _ _ => rfl) (sn_hq0 rfl)
theorem ck321 : trm lkC5 [0] 0 false [] (sn_b 321).2.2.2 ((sn_b 321).1.data.toList.map UInt8.toNat) (pm_prog.2 321) 1 = true := by decide +kernel
theorem ch321 : sn_chk 321 := sn_mk (lk := lkC5) (B := [0]) (rt := 0) (ini := false) (ov := []) [b321_0] lf5 ck321 rfl rfl (by decide +kernel) (List.forall_mem_nil _) (fun _ _ => rfl) (sn_hq0 rfl)
theorem ck322 : trm lkC5 [0, 3, 12, 24, 34, 63, 108, 112, 118, 134, 140, 146, 152] 9 false [] (sn_b 322).2.2.2 ((sn_b 322).1.data.toList.map UInt8.toNat) (pm_prog.2 322) 13 = true := by decide +kernel
theorem ch322 : sn_chk 322 := sn_mk (lk := lkC5) (B := [0, 3, 12, 24, 34, 63, 108, 112, 118, 134, 140, 146, 152]) (rt := 9) (ini := false) (ov := []) [b322_0, b322_1, b322_2, b322_3, b322_4, b322_5, b322_6, b322_7, b322_8, b322_9, b322_10, b322_11, b322_12] lf5 ck322 rfl rfl (by decide +kernel) (List.forall_mem_nil _) (fun _ _ => rfl) (sn_hq0 rfl)
theorem ck323 : trm lkC5 [0] 1 false [] (sn_b 323).2.2.2 ((sn_b 323).1.data.toList.map UInt8.toNat) (pm_prog.2 323) 1 = true := by decide +kernel
theorem ch323 : sn_chk 323 := sn_mk (lk := lkC5) (B := [0]) (rt := 1) (ini := false) (ov := []) [b323_0] lf5 ck323 rfl rfl (by decide +kernel) (List.forall_mem_nil _) (fun _ _ => rfl) (sn_hq0 rfl)
theorem ck324 : trm lkC5 [0, 33, 34, 47, 55, 56] 1 false [] (sn_b 324).2.2.2 ((sn_b 324).1.data.toList.map UInt8.toNat) (pm_prog.2 324) 6 = true := by decide +kernel
theorem ch324 : sn_chk 324 := sn_mk (lk := lkC5) (B := [0, 33, 34, 47, 55, 56]) (rt := 1) (ini := false) (ov := []) [b324_0, b324_1, b324_2, b324_3, b324_4, b324_5] lf5 ck324 rfl rfl (by decide +kernel) (List.forall_mem_nil _) (fun _ _ => rfl) (sn_hq0 rfl)
theorem ck325 : trm lkC5 [0, 17, 19, 45, 77, 101, 135, 190, 198, 204, 230] 9 false [] (sn_b 325).2.2.2 ((sn_b 325).1.data.toList.map UInt8.toNat) (pm_prog.2 325) 11 = true := by decide +kernel
theorem ch325 : sn_chk 325 := sn_mk (lk := lkC5) (B := [0, 17, 19, 45, 77, 101, 135, 190, 198, 204, 230]) (rt := 9) (ini := false) (ov := []) [b325_0, b325_1, b325_2, b325_3, b325_4, b325_5, b325_6, b325_7, b325_8, b325_9, b325_10] lf5 ck325 rfl rfl (by decide +kernel) (List.forall_mem_nil _) (fun _ _ => rfl) (sn_hq0 rfl)
theorem ck326 : trm lkC5 [0, 24, 28, 29] 2 false [] (sn_b 326).2.2.2 ((sn_b 326).1.data.toList.map UInt8.toNat) (pm_prog.2 326) 4 = true := by decide +kernel
theorem ch326 : sn_chk 326 := sn_mk (lk := lkC5) (B := [0, 24, 28, 29]) (rt := 2) (ini := false) (ov := []) [b326_0, b326_1, b326_2, b326_3] lf5 ck326 rfl rfl (by decide +kernel) (List.forall_mem_nil _) (fun _ _ => rfl) (sn_hq0 rfl)
theorem ck327 : trm lkC5 [0, 26, 45] 1 false [] (sn_b 327).2.2.2 ((sn_b 327).1.data.toList.map UInt8.toNat) (pm_prog.2 327) 3 = true := by decide +kernel
theorem ch327 : sn_chk 327 := sn_mk (lk := lkC5) (B := [0, 26, 45]) (rt := 1) (ini := false) (ov := []) [b327_0, b327_1, b327_2] lf5 ck327 rfl rfl (by decide +kernel) (List.forall_mem_nil _) (fun _ _ => rfl) (sn_hq0 rfl)
theorem ck328 : trm lkC5 [0, 34, 66, 68, 73, 87, 120, 154, 181, 195] 9 false [] (sn_b 328).2.2.2 ((sn_b 328).1.data.toList.map UInt8.toNat) (pm_prog.2 328) 10 = true := by decide +kernel
theorem ch328 : sn_chk 328 := sn_mk (lk := lkC5) (B := [0, 34, 66, 68, 73, 87, 120, 154, 181, 195]) (rt := 9) (ini := false) (ov := []) [b328_0, b328_1, b328_2, b328_3, b328_4, b328_5, b328_6, b328_7, b328_8, b328_9] lf5 ck328 rfl rfl (by decide +kernel) (List.forall_mem_nil _) (fun _ _ => rfl) (sn_hq0 rfl)
theorem ck329 : trm lkC5 [0, 13, 105, 106] 2 false [] (sn_b 329).2.2.2 ((sn_b 329).1.data.toList.map UInt8.toNat) (pm_prog.2 329) 4 = true := by decide +kernel
theorem ch329 : sn_chk 329 := sn_mk (lk := lkC5) (B := [0, 13, 105, 106]) (rt := 2) (ini := false) (ov := []) [b329_0, b329_1, b329_2, b329_3] lf5 ck329 rfl rfl (by decide +kernel) (List.forall_mem_nil _) (fun _ _ => rfl) (sn_hq0 rfl)
/-! TimberHouse$FaultRips$Table -/
def lkC6 : lk_T := ([(43, 0), (226, 6147), (418, 6155)], [], [])
theorem lf6_1_11 : lk_ok "TimberHouse$FaultRips$Table" 1 11 0 := (lw_g (lw_at lw_m1 224 rfl) rfl)
theorem lf6_7_2 : lk_ok "TimberHouse$FaultRips$Table" 7 2 6147 := lk2 (ci := 6) (k := 0) rfl rfl rfl ⟨rfl, rfl, rfl, "TimberHouse$FaultRips$Table", (lw_g (lw_at lw_m1 225 rfl) rfl), rfl⟩
theorem lf6_13_2 : lk_ok "TimberHouse$FaultRips$Table" 13 2 6155 := lk2 (ci := 6) (k := 1) rfl rfl rfl ⟨rfl, rfl, rfl, "TimberHouse$FaultRips$Table", (lw_g (lw_at lw_m1 227 rfl) rfl), rfl⟩
theorem lf6 : lk_sem "TimberHouse$FaultRips$Table" lkC6 := ⟨List.forall_mem_cons.mpr ⟨lf6_1_11, List.forall_mem_cons.mpr ⟨lf6_7_2, List.forall_mem_cons.mpr ⟨lf6_13_2, List.forall_mem_nil _⟩⟩⟩, List.forall_mem_nil _, List.forall_mem_nil _⟩
theorem ck384 : trm lkC6 [0] 9 true [] (sn_b 384).2.2.2 ((sn_b 384).1.data.toList.map UInt8.toNat) (pm_prog.2 384) 1 = true := by decide +kernel
theorem ch384 : sn_chk 384 := sn_mk (lk := lkC6) (B := [0]) (rt := 9) (ini := true) (ov := []) [b384_0] lf6 ck384 rfl rfl (by decide +kernel) (List.forall_mem_nil _) (fun _ _ => rfl) (sn_hq0 rfl)
/-! TimberHouse$FaultRips$Plan -/
def lkC7 : lk_T := ([(43, 0), (224, 7171), (226, 7171), (416, 7179), (418, 7179), (512, 7187), (514, 7187), (608, 7195), (610, 7195), (704, 7203), (706, 7203), (800, 7208), (801, 7208), (928, 7217), (929, 7217), (1061, 7236)], [], [])
theorem lf7_1_11 : lk_ok "TimberHouse$FaultRips$Plan" 1 11 0 := (lw_g (lw_at lw_m2 20 rfl) rfl)
theorem lf7_7_0 : lk_ok "TimberHouse$FaultRips$Plan" 7 0 7171 := lk0 (ci := 7) (k := 0) rfl rfl rfl ⟨"TimberHouse$FaultRips$Plan", Or.inl (lw_g (lw_at lw_m2 21 rfl) rfl), Or.inl rfl⟩
theorem lf7_7_2 : lk_ok "TimberHouse$FaultRips$Plan" 7 2 7171 := lk2 (ci := 7) (k := 0) rfl rfl rfl ⟨rfl, rfl, rfl, "TimberHouse$FaultRips$Plan", (lw_g (lw_at lw_m2 21 rfl) rfl), rfl⟩
theorem lf7_13_0 : lk_ok "TimberHouse$FaultRips$Plan" 13 0 7179 := lk0 (ci := 7) (k := 1) rfl rfl rfl ⟨"TimberHouse$FaultRips$Plan", Or.inl (lw_g (lw_at lw_m2 23 rfl) rfl), Or.inl rfl⟩
theorem lf7_13_2 : lk_ok "TimberHouse$FaultRips$Plan" 13 2 7179 := lk2 (ci := 7) (k := 1) rfl rfl rfl ⟨rfl, rfl, rfl, "TimberHouse$FaultRips$Plan", (lw_g (lw_at lw_m2 23 rfl) rfl), rfl⟩
theorem lf7_16_0 : lk_ok "TimberHouse$FaultRips$Plan" 16 0 7187 := lk0 (ci := 7) (k := 2) rfl rfl rfl ⟨"TimberHouse$FaultRips$Plan", Or.inl (lw_g (lw_at lw_m2 25 rfl) rfl), Or.inl rfl⟩
theorem lf7_16_2 : lk_ok "TimberHouse$FaultRips$Plan" 16 2 7187 := lk2 (ci := 7) (k := 2) rfl rfl rfl ⟨rfl, rfl, rfl, "TimberHouse$FaultRips$Plan", (lw_g (lw_at lw_m2 25 rfl) rfl), rfl⟩
theorem lf7_19_0 : lk_ok "TimberHouse$FaultRips$Plan" 19 0 7195 := lk0 (ci := 7) (k := 3) rfl rfl rfl ⟨"TimberHouse$FaultRips$Plan", Or.inl (lw_g (lw_at lw_m2 27 rfl) rfl), Or.inl rfl⟩
theorem lf7_19_2 : lk_ok "TimberHouse$FaultRips$Plan" 19 2 7195 := lk2 (ci := 7) (k := 3) rfl rfl rfl ⟨rfl, rfl, rfl, "TimberHouse$FaultRips$Plan", (lw_g (lw_at lw_m2 27 rfl) rfl), rfl⟩
theorem lf7_22_0 : lk_ok "TimberHouse$FaultRips$Plan" 22 0 7203 := lk0 (ci := 7) (k := 4) rfl rfl rfl ⟨"TimberHouse$FaultRips$Plan", Or.inl (lw_g (lw_at lw_m2 29 rfl) rfl), Or.inl rfl⟩
theorem lf7_22_2 : lk_ok "TimberHouse$FaultRips$Plan" 22 2 7203 := lk2 (ci := 7) (k := 4) rfl rfl rfl ⟨rfl, rfl, rfl, "TimberHouse$FaultRips$Plan", (lw_g (lw_at lw_m2 29 rfl) rfl), rfl⟩
theorem lf7_25_0 : lk_ok "TimberHouse$FaultRips$Plan" 25 0 7208 := lk0 (ci := 7) (k := 5) rfl rfl rfl ⟨"TimberHouse$FaultRips$Plan", Or.inl (lw_g (lw_at lw_m2 31 rfl) rfl), Or.inl rfl⟩
theorem lf7_25_1 : lk_ok "TimberHouse$FaultRips$Plan" 25 1 7208 := lk1 (ci := 7) (k := 5) rfl rfl rfl ⟨rfl, rfl, ⟨"TimberHouse$FaultRips$Plan", Or.inl (lw_g (lw_at lw_m2 31 rfl) rfl), Or.inl rfl⟩⟩
theorem lf7_29_0 : lk_ok "TimberHouse$FaultRips$Plan" 29 0 7217 := lk0 (ci := 7) (k := 6) rfl rfl rfl ⟨"TimberHouse$FaultRips$Plan", Or.inl (lw_g (lw_at lw_m2 33 rfl) rfl), Or.inl rfl⟩
theorem lf7_29_1 : lk_ok "TimberHouse$FaultRips$Plan" 29 1 7217 := lk1 (ci := 7) (k := 6) rfl rfl rfl ⟨rfl, rfl, ⟨"TimberHouse$FaultRips$Plan", Or.inl (lw_g (lw_at lw_m2 33 rfl) rfl), Or.inl rfl⟩⟩
theorem lf7_33_5 : lk_ok "TimberHouse$FaultRips$Plan" 33 5 7236 := ⟨(lw_g (lw_at lw_m10 126 rfl) rfl), rfl, rfl, gd452⟩
theorem lf7 : lk_sem "TimberHouse$FaultRips$Plan" lkC7 := ⟨List.forall_mem_cons.mpr ⟨lf7_1_11, List.forall_mem_cons.mpr ⟨lf7_7_0, List.forall_mem_cons.mpr ⟨lf7_7_2, List.forall_mem_cons.mpr ⟨lf7_13_0, List.forall_mem_cons.mpr ⟨lf7_13_2, List.forall_mem_cons.mpr ⟨lf7_16_0, List.forall_mem_cons.mpr ⟨lf7_16_2, List.forall_mem_cons.mpr ⟨lf7_19_0, List.forall_mem_cons.mpr ⟨lf7_19_2, List.forall_mem_cons.mpr ⟨lf7_22_0, List.forall_mem_cons.mpr ⟨lf7_22_2, List.forall_mem_cons.mpr ⟨lf7_25_0, List.forall_mem_cons.mpr ⟨lf7_25_1, List.forall_mem_cons.mpr ⟨lf7_29_0, List.forall_mem_cons.mpr ⟨lf7_29_1, List.forall_mem_cons.mpr ⟨lf7_33_5, List.forall_mem_nil _⟩⟩⟩⟩⟩⟩⟩⟩⟩⟩⟩⟩⟩⟩⟩⟩, List.forall_mem_nil _, List.forall_mem_nil _⟩
theorem ck448 : trm lkC7 [0] 9 true [] (sn_b 448).2.2.2 ((sn_b 448).1.data.toList.map UInt8.toNat) (pm_prog.2 448) 1 = true := by decide +kernel
theorem ch448 : sn_chk 448 := sn_mk (lk := lkC7) (B := [0]) (rt := 9) (ini := true) (ov := []) [b448_0] lf7 ck448 rfl rfl (by decide +kernel) (List.forall_mem_nil _) (fun _ _ => rfl) (sn_hq0 rfl)
theorem ck449 : trm lkC7 [0] 9 false [] (sn_b 449).2.2.2 ((sn_b 449).1.data.toList.map UInt8.toNat) (pm_prog.2 449) 1 = true := by decide +kernel
theorem ch449 : sn_chk 449 := sn_mk (lk := lkC7) (B := [0]) (rt := 9) (ini := false) (ov := []) [b449_0] lf7 ck449 rfl rfl (by decide +kernel) (List.forall_mem_nil _) (fun _ _ => rfl) (sn_hq0 rfl)
theorem ck450 : trm lkC7 [0, 4, 27, 28, 36] 0 false [] (sn_b 450).2.2.2 ((sn_b 450).1.data.toList.map UInt8.toNat) (pm_prog.2 450) 5 = true := by decide +kernel
theorem ch450 : sn_chk 450 := sn_mk (lk := lkC7) (B := [0, 4, 27, 28, 36]) (rt := 0) (ini := false) (ov := []) [b450_0, b450_1, b450_2, b450_3, b450_4] lf7 ck450 rfl rfl (by decide +kernel) (List.forall_mem_nil _) (fun _ _ => rfl) (sn_hq0 rfl)
theorem ck451 : trm lkC7 [0, 18, 39] 9 false [] (sn_b 451).2.2.2 ((sn_b 451).1.data.toList.map UInt8.toNat) (pm_prog.2 451) 3 = true := by decide +kernel
theorem ch451 : sn_chk 451 := sn_mk (lk := lkC7) (B := [0, 18, 39]) (rt := 9) (ini := false) (ov := []) [b451_0, b451_1, b451_2] lf7 ck451 rfl rfl (by decide +kernel) (List.forall_mem_nil _) (fun _ _ => rfl) (sn_hq0 rfl)
theorem ck452 : trm lkC7 [0] 9 false [] (sn_b 452).2.2.2 ((sn_b 452).1.data.toList.map UInt8.toNat) (pm_prog.2 452) 1 = true := by decide +kernel
theorem ch452 : sn_chk 452 := sn_mk (lk := lkC7) (B := [0]) (rt := 9) (ini := false) (ov := []) [b452_0] lf7 ck452 rfl rfl (by decide +kernel) (List.forall_mem_nil _) (fun _ _ => rfl) (sn_hq0 rfl)
theorem ck453 : trm lkC7 [0, 7, 23, 35, 58] 9 false [] (sn_b 453).2.2.2 ((sn_b 453).1.data.toList.map UInt8.toNat) (pm_prog.2 453) 5 = true := by decide +kernel
theorem ch453 : sn_chk 453 := sn_mk (lk := lkC7) (B := [0, 7, 23, 35, 58]) (rt := 9) (ini := false) (ov := []) [b453_0, b453_1, b453_2, b453_3, b453_4] lf7 ck453 rfl rfl (by decide +kernel) (List.forall_mem_nil _) (fun _ _ => rfl) (sn_hq0 rfl)
/-! TimberHouse$FingerLengths$Score -/
def lkC9 : lk_T := ([(43, 0), (224, 9217), (225, 9217), (416, 9224), (417, 9224), (544, 9232), (545, 9232), (645, 9236)], [], [])
theorem lf9_1_11 : lk_ok "TimberHouse$FingerLengths$Score" 1 11 0 := (lw_g (lw_at lw_m2 132 rfl) rfl)
theorem lf9_7_0 : lk_ok "TimberHouse$FingerLengths$Score" 7 0 9217 := lk0 (ci := 9) (k := 0) rfl rfl rfl ⟨"TimberHouse$FingerLengths$Score", Or.inl (lw_g (lw_at lw_m2 133 rfl) rfl), Or.inl rfl⟩
theorem lf9_7_1 : lk_ok "TimberHouse$FingerLengths$Score" 7 1 9217 := lk1 (ci := 9) (k := 0) rfl rfl rfl ⟨rfl, rfl, ⟨"TimberHouse$FingerLengths$Score", Or.inl (lw_g (lw_at lw_m2 133 rfl) rfl), Or.inl rfl⟩⟩
theorem lf9_13_0 : lk_ok "TimberHouse$FingerLengths$Score" 13 0 9224 := lk0 (ci := 9) (k := 1) rfl rfl rfl ⟨"TimberHouse$FingerLengths$Score", Or.inl (lw_g (lw_at lw_m2 135 rfl) rfl), Or.inl rfl⟩
theorem lf9_13_1 : lk_ok "TimberHouse$FingerLengths$Score" 13 1 9224 := lk1 (ci := 9) (k := 1) rfl rfl rfl ⟨rfl, rfl, ⟨"TimberHouse$FingerLengths$Score", Or.inl (lw_g (lw_at lw_m2 135 rfl) rfl), Or.inl rfl⟩⟩
theorem lf9_17_0 : lk_ok "TimberHouse$FingerLengths$Score" 17 0 9232 := lk0 (ci := 9) (k := 2) rfl rfl rfl ⟨"TimberHouse$FingerLengths$Score", Or.inl (lw_g (lw_at lw_m2 137 rfl) rfl), Or.inl rfl⟩
theorem lf9_17_1 : lk_ok "TimberHouse$FingerLengths$Score" 17 1 9232 := lk1 (ci := 9) (k := 2) rfl rfl rfl ⟨rfl, rfl, ⟨"TimberHouse$FingerLengths$Score", Or.inl (lw_g (lw_at lw_m2 137 rfl) rfl), Or.inl rfl⟩⟩
theorem lf9_20_5 : lk_ok "TimberHouse$FingerLengths$Score" 20 5 9236 := ⟨(lw_g (lw_at lw_m10 221 rfl) rfl), rfl, rfl, gd577⟩
theorem lf9 : lk_sem "TimberHouse$FingerLengths$Score" lkC9 := ⟨List.forall_mem_cons.mpr ⟨lf9_1_11, List.forall_mem_cons.mpr ⟨lf9_7_0, List.forall_mem_cons.mpr ⟨lf9_7_1, List.forall_mem_cons.mpr ⟨lf9_13_0, List.forall_mem_cons.mpr ⟨lf9_13_1, List.forall_mem_cons.mpr ⟨lf9_17_0, List.forall_mem_cons.mpr ⟨lf9_17_1, List.forall_mem_cons.mpr ⟨lf9_20_5, List.forall_mem_nil _⟩⟩⟩⟩⟩⟩⟩⟩, List.forall_mem_nil _, List.forall_mem_nil _⟩
theorem ck576 : trm lkC9 [0] 9 true [] (sn_b 576).2.2.2 ((sn_b 576).1.data.toList.map UInt8.toNat) (pm_prog.2 576) 1 = true := by decide +kernel
theorem ch576 : sn_chk 576 := sn_mk (lk := lkC9) (B := [0]) (rt := 9) (ini := true) (ov := []) [b576_0] lf9 ck576 rfl rfl (by decide +kernel) (List.forall_mem_nil _) (fun _ _ => rfl) (sn_hq0 rfl)
theorem ck577 : trm lkC9 [0] 9 false [] (sn_b 577).2.2.2 ((sn_b 577).1.data.toList.map UInt8.toNat) (pm_prog.2 577) 1 = true := by decide +kernel
theorem ch577 : sn_chk 577 := sn_mk (lk := lkC9) (B := [0]) (rt := 9) (ini := false) (ov := []) [b577_0] lf9 ck577 rfl rfl (by decide +kernel) (List.forall_mem_nil _) (fun _ _ => rfl) (sn_hq0 rfl)
theorem ck578 : trm lkC9 [0] 9 false [] (sn_b 578).2.2.2 ((sn_b 578).1.data.toList.map UInt8.toNat) (pm_prog.2 578) 1 = true := by decide +kernel
theorem ch578 : sn_chk 578 := sn_mk (lk := lkC9) (B := [0]) (rt := 9) (ini := false) (ov := []) [b578_0] lf9 ck578 rfl rfl (by decide +kernel) (List.forall_mem_nil _) (fun _ _ => rfl) (sn_hq0 rfl)
theorem ck579 : trm lkC9 [0, 28, 32, 58, 62, 77, 78] 2 false [] (sn_b 579).2.2.2 ((sn_b 579).1.data.toList.map UInt8.toNat) (pm_prog.2 579) 7 = true := by decide +kernel
theorem ch579 : sn_chk 579 := sn_mk (lk := lkC9) (B := [0, 28, 32, 58, 62, 77, 78]) (rt := 2) (ini := false) (ov := []) [b579_0, b579_1, b579_2, b579_3, b579_4, b579_5, b579_6] lf9 ck579 rfl rfl (by decide +kernel) (List.forall_mem_nil _) (fun _ _ => rfl) (sn_hq0 rfl)
theorem ck580 : trm lkC9 [0, 38, 39] 2 false [] (sn_b 580).2.2.2 ((sn_b 580).1.data.toList.map UInt8.toNat) (pm_prog.2 580) 3 = true := by decide +kernel
theorem ch580 : sn_chk 580 := sn_mk (lk := lkC9) (B := [0, 38, 39]) (rt := 2) (ini := false) (ov := []) [b580_0, b580_1, b580_2] lf9 ck580 rfl rfl (by decide +kernel) (List.forall_mem_nil _) (fun _ _ => rfl) (sn_hq0 rfl)
/-! TimberHouse$NailRules$Rule -/
def lkC12 : lk_T := ([(43, 0), (224, 12291), (226, 12291), (421, 12321)], [], [(17, 2), (19, 4)])
theorem lf12_1_11 : lk_ok "TimberHouse$NailRules$Rule" 1 11 0 := (lw_g (lw_at lw_m3 92 rfl) rfl)
theorem lf12_7_0 : lk_ok "TimberHouse$NailRules$Rule" 7 0 12291 := lk0 (ci := 12) (k := 0) rfl rfl rfl ⟨"TimberHouse$NailRules$Rule", Or.inl (lw_g (lw_at lw_m3 93 rfl) rfl), Or.inl rfl⟩
theorem lf12_7_2 : lk_ok "TimberHouse$NailRules$Rule" 7 2 12291 := lk2 (ci := 12) (k := 0) rfl rfl rfl ⟨rfl, rfl, rfl, "TimberHouse$NailRules$Rule", (lw_g (lw_at lw_m3 93 rfl) rfl), rfl⟩
theorem lf12_13_5 : lk_ok "TimberHouse$NailRules$Rule" 13 5 12321 := ⟨(lw_g (lw_at lw_m12 215 rfl) rfl), rfl, rfl, gd770⟩
theorem lf12 : lk_sem "TimberHouse$NailRules$Rule" lkC12 := ⟨List.forall_mem_cons.mpr ⟨lf12_1_11, List.forall_mem_cons.mpr ⟨lf12_7_0, List.forall_mem_cons.mpr ⟨lf12_7_2, List.forall_mem_cons.mpr ⟨lf12_13_5, List.forall_mem_nil _⟩⟩⟩⟩, List.forall_mem_nil _, List.forall_mem_cons.mpr ⟨(lw_g (lw_at lw_m12 219 rfl) rfl), List.forall_mem_cons.mpr ⟨(lw_g (lw_at lw_m12 220 rfl) rfl), List.forall_mem_nil _⟩⟩⟩
theorem ck768 : trm lkC12 [0] 9 true [] (sn_b 768).2.2.2 ((sn_b 768).1.data.toList.map UInt8.toNat) (pm_prog.2 768) 1 = true := by decide +kernel
theorem ch768 : sn_chk 768 := sn_mk (lk := lkC12) (B := [0]) (rt := 9) (ini := true) (ov := []) [b768_0] lf12 ck768 rfl rfl (by decide +kernel) (List.forall_mem_nil _) (fun _ _ => rfl) (sn_hq0 rfl)
theorem ck769 : trm lkC12 [0, 36, 49, 63, 83, 101] 1 false [(10, .tableswitch 73 0 2 #[26, 39, 53], 26)] (sn_b 769).2.2.2 ((sn_b 769).1.data.toList.map UInt8.toNat) (pm_prog.2 769) 6 = true := by decide +kernel
theorem ch769 : sn_chk 769 := sn_mk (lk := lkC12) (B := [0, 36, 49, 63, 83, 101]) (rt := 1) (ini := false) (ov := [(10, .tableswitch 73 0 2 #[26, 39, 53], 26)]) [b769_0, b769_1, b769_2, b769_3, b769_4, b769_5] lf12 ck769 rfl rfl (by decide +kernel) (List.forall_mem_cons.mpr ⟨by decide +kernel, List.forall_mem_nil _⟩) (fun _ _ => rfl) (sn_hq0 rfl)
theorem ck770 : trm lkC12 [0] 0 false [] (sn_b 770).2.2.2 ((sn_b 770).1.data.toList.map UInt8.toNat) (pm_prog.2 770) 1 = true := by decide +kernel
theorem ch770 : sn_chk 770 := sn_mk (lk := lkC12) (B := [0]) (rt := 0) (ini := false) (ov := []) [b770_0] lf12 ck770 rfl rfl (by decide +kernel) (List.forall_mem_nil _) (fun _ _ => rfl) (sn_hq0 rfl)
theorem ck771 : trm lkC12 [0] 0 false [] (sn_b 771).2.2.2 ((sn_b 771).1.data.toList.map UInt8.toNat) (pm_prog.2 771) 1 = true := by decide +kernel
theorem ch771 : sn_chk 771 := sn_mk (lk := lkC12) (B := [0]) (rt := 0) (ini := false) (ov := []) [b771_0] lf12 ck771 rfl rfl (by decide +kernel) (List.forall_mem_nil _) (fun _ _ => rfl) (sn_hq0 rfl)
/-! TimberHouse$RouterPaths$Tool -/
def lkC17 : lk_T := ([(43, 0), (225, 17416), (416, 17408)], [], [])
theorem lf17_1_11 : lk_ok "TimberHouse$RouterPaths$Tool" 1 11 0 := (lw_g (lw_at lw_m4 40 rfl) rfl)
theorem lf17_7_1 : lk_ok "TimberHouse$RouterPaths$Tool" 7 1 17416 := lk1 (ci := 17) (k := 1) rfl rfl rfl ⟨rfl, rfl, ⟨"TimberHouse$RouterPaths$Tool", Or.inl (lw_g (lw_at lw_m4 45 rfl) rfl), Or.inl rfl⟩⟩
theorem lf17_13_0 : lk_ok "TimberHouse$RouterPaths$Tool" 13 0 17408 := lk0 (ci := 17) (k := 0) rfl rfl rfl ⟨"TimberHouse$RouterPaths$Tool", Or.inl (lw_g (lw_at lw_m4 41 rfl) rfl), Or.inl rfl⟩
theorem lf17 : lk_sem "TimberHouse$RouterPaths$Tool" lkC17 := ⟨List.forall_mem_cons.mpr ⟨lf17_1_11, List.forall_mem_cons.mpr ⟨lf17_7_1, List.forall_mem_cons.mpr ⟨lf17_13_0, List.forall_mem_nil _⟩⟩⟩, List.forall_mem_nil _, List.forall_mem_nil _⟩
theorem ck1088 : trm lkC17 [0] 9 true [] (sn_b 1088).2.2.2 ((sn_b 1088).1.data.toList.map UInt8.toNat) (pm_prog.2 1088) 1 = true := by decide +kernel
theorem ch1088 : sn_chk 1088 := sn_mk (lk := lkC17) (B := [0]) (rt := 9) (ini := true) (ov := []) [b1088_0] lf17 ck1088 rfl rfl (by decide +kernel) (List.forall_mem_nil _) (fun _ _ => rfl) (sn_hq0 rfl)
theorem ck1089 : trm lkC17 [0, 23, 24] 2 false [] (sn_b 1089).2.2.2 ((sn_b 1089).1.data.toList.map UInt8.toNat) (pm_prog.2 1089) 3 = true := by decide +kernel
theorem ch1089 : sn_chk 1089 := sn_mk (lk := lkC17) (B := [0, 23, 24]) (rt := 2) (ini := false) (ov := []) [b1089_0, b1089_1, b1089_2] lf17 ck1089 rfl rfl (by decide +kernel) (List.forall_mem_nil _) (fun _ _ => rfl) (sn_hq0 rfl)
/-! TimberHouse$SawGrids$Size -/
def lkC36 : lk_T := ([(43, 0), (226, 36864), (418, 36872), (514, 36880), (610, 36888)], [], [])
theorem lf36_1_11 : lk_ok "TimberHouse$SawGrids$Size" 1 11 0 := (lw_g (lw_at lw_m9 77 rfl) rfl)
theorem lf36_7_2 : lk_ok "TimberHouse$SawGrids$Size" 7 2 36864 := lk2 (ci := 36) (k := 0) rfl rfl rfl ⟨rfl, rfl, rfl, "TimberHouse$SawGrids$Size", (lw_g (lw_at lw_m9 78 rfl) rfl), rfl⟩
theorem lf36_13_2 : lk_ok "TimberHouse$SawGrids$Size" 13 2 36872 := lk2 (ci := 36) (k := 1) rfl rfl rfl ⟨rfl, rfl, rfl, "TimberHouse$SawGrids$Size", (lw_g (lw_at lw_m9 81 rfl) rfl), rfl⟩
theorem lf36_16_2 : lk_ok "TimberHouse$SawGrids$Size" 16 2 36880 := lk2 (ci := 36) (k := 2) rfl rfl rfl ⟨rfl, rfl, rfl, "TimberHouse$SawGrids$Size", (lw_g (lw_at lw_m9 84 rfl) rfl), rfl⟩
theorem lf36_19_2 : lk_ok "TimberHouse$SawGrids$Size" 19 2 36888 := lk2 (ci := 36) (k := 3) rfl rfl rfl ⟨rfl, rfl, rfl, "TimberHouse$SawGrids$Size", (lw_g (lw_at lw_m9 86 rfl) rfl), rfl⟩
theorem lf36 : lk_sem "TimberHouse$SawGrids$Size" lkC36 := ⟨List.forall_mem_cons.mpr ⟨lf36_1_11, List.forall_mem_cons.mpr ⟨lf36_7_2, List.forall_mem_cons.mpr ⟨lf36_13_2, List.forall_mem_cons.mpr ⟨lf36_16_2, List.forall_mem_cons.mpr ⟨lf36_19_2, List.forall_mem_nil _⟩⟩⟩⟩⟩, List.forall_mem_nil _, List.forall_mem_nil _⟩
theorem ck2304 : trm lkC36 [0] 9 true [] (sn_b 2304).2.2.2 ((sn_b 2304).1.data.toList.map UInt8.toNat) (pm_prog.2 2304) 1 = true := by decide +kernel
theorem ch2304 : sn_chk 2304 := sn_mk (lk := lkC36) (B := [0]) (rt := 9) (ini := true) (ov := []) [b2304_0] lf36 ck2304 rfl rfl (by decide +kernel) (List.forall_mem_nil _) (fun _ _ => rfl) (sn_hq0 rfl)
/-! TimberHouse$FaultRips$Fault -/
def lkC37 : lk_T := ([(107, 0), (288, 37888), (290, 37888), (480, 37896), (482, 37896), (576, 37904), (578, 37904), (672, 37912), (674, 37912), (768, 37920), (770, 37920), (864, 37928), (866, 37928)], [], [])
theorem lf37_3_11 : lk_ok "TimberHouse$FaultRips$Fault" 3 11 0 := (lw_g (lw_at lw_m9 174 rfl) rfl)
theorem lf37_9_0 : lk_ok "TimberHouse$FaultRips$Fault" 9 0 37888 := lk0 (ci := 37) (k := 0) rfl rfl rfl ⟨"TimberHouse$FaultRips$Fault", Or.inl (lw_g (lw_at lw_m9 175 rfl) rfl), Or.inl rfl⟩
theorem lf37_9_2 : lk_ok "TimberHouse$FaultRips$Fault" 9 2 37888 := lk2 (ci := 37) (k := 0) rfl rfl rfl ⟨rfl, rfl, rfl, "TimberHouse$FaultRips$Fault", (lw_g (lw_at lw_m9 175 rfl) rfl), rfl⟩
theorem lf37_15_0 : lk_ok "TimberHouse$FaultRips$Fault" 15 0 37896 := lk0 (ci := 37) (k := 1) rfl rfl rfl ⟨"TimberHouse$FaultRips$Fault", Or.inl (lw_g (lw_at lw_m9 176 rfl) rfl), Or.inl rfl⟩
theorem lf37_15_2 : lk_ok "TimberHouse$FaultRips$Fault" 15 2 37896 := lk2 (ci := 37) (k := 1) rfl rfl rfl ⟨rfl, rfl, rfl, "TimberHouse$FaultRips$Fault", (lw_g (lw_at lw_m9 176 rfl) rfl), rfl⟩
theorem lf37_18_0 : lk_ok "TimberHouse$FaultRips$Fault" 18 0 37904 := lk0 (ci := 37) (k := 2) rfl rfl rfl ⟨"TimberHouse$FaultRips$Fault", Or.inl (lw_g (lw_at lw_m9 177 rfl) rfl), Or.inl rfl⟩
theorem lf37_18_2 : lk_ok "TimberHouse$FaultRips$Fault" 18 2 37904 := lk2 (ci := 37) (k := 2) rfl rfl rfl ⟨rfl, rfl, rfl, "TimberHouse$FaultRips$Fault", (lw_g (lw_at lw_m9 177 rfl) rfl), rfl⟩
theorem lf37_21_0 : lk_ok "TimberHouse$FaultRips$Fault" 21 0 37912 := lk0 (ci := 37) (k := 3) rfl rfl rfl ⟨"TimberHouse$FaultRips$Fault", Or.inl (lw_g (lw_at lw_m9 178 rfl) rfl), Or.inl rfl⟩
theorem lf37_21_2 : lk_ok "TimberHouse$FaultRips$Fault" 21 2 37912 := lk2 (ci := 37) (k := 3) rfl rfl rfl ⟨rfl, rfl, rfl, "TimberHouse$FaultRips$Fault", (lw_g (lw_at lw_m9 178 rfl) rfl), rfl⟩
theorem lf37_24_0 : lk_ok "TimberHouse$FaultRips$Fault" 24 0 37920 := lk0 (ci := 37) (k := 4) rfl rfl rfl ⟨"TimberHouse$FaultRips$Fault", Or.inl (lw_g (lw_at lw_m9 179 rfl) rfl), Or.inl rfl⟩
theorem lf37_24_2 : lk_ok "TimberHouse$FaultRips$Fault" 24 2 37920 := lk2 (ci := 37) (k := 4) rfl rfl rfl ⟨rfl, rfl, rfl, "TimberHouse$FaultRips$Fault", (lw_g (lw_at lw_m9 179 rfl) rfl), rfl⟩
theorem lf37_27_0 : lk_ok "TimberHouse$FaultRips$Fault" 27 0 37928 := lk0 (ci := 37) (k := 5) rfl rfl rfl ⟨"TimberHouse$FaultRips$Fault", Or.inl (lw_g (lw_at lw_m9 180 rfl) rfl), Or.inl rfl⟩
theorem lf37_27_2 : lk_ok "TimberHouse$FaultRips$Fault" 27 2 37928 := lk2 (ci := 37) (k := 5) rfl rfl rfl ⟨rfl, rfl, rfl, "TimberHouse$FaultRips$Fault", (lw_g (lw_at lw_m9 180 rfl) rfl), rfl⟩
theorem lf37 : lk_sem "TimberHouse$FaultRips$Fault" lkC37 := ⟨List.forall_mem_cons.mpr ⟨lf37_3_11, List.forall_mem_cons.mpr ⟨lf37_9_0, List.forall_mem_cons.mpr ⟨lf37_9_2, List.forall_mem_cons.mpr ⟨lf37_15_0, List.forall_mem_cons.mpr ⟨lf37_15_2, List.forall_mem_cons.mpr ⟨lf37_18_0, List.forall_mem_cons.mpr ⟨lf37_18_2, List.forall_mem_cons.mpr ⟨lf37_21_0, List.forall_mem_cons.mpr ⟨lf37_21_2, List.forall_mem_cons.mpr ⟨lf37_24_0, List.forall_mem_cons.mpr ⟨lf37_24_2, List.forall_mem_cons.mpr ⟨lf37_27_0, List.forall_mem_cons.mpr ⟨lf37_27_2, List.forall_mem_nil _⟩⟩⟩⟩⟩⟩⟩⟩⟩⟩⟩⟩⟩, List.forall_mem_nil _, List.forall_mem_nil _⟩
theorem ck2368 : trm lkC37 [0] 9 true [] (sn_b 2368).2.2.2 ((sn_b 2368).1.data.toList.map UInt8.toNat) (pm_prog.2 2368) 1 = true := by decide +kernel
theorem ch2368 : sn_chk 2368 := sn_mk (lk := lkC37) (B := [0]) (rt := 9) (ini := true) (ov := []) [b2368_0] lf37 ck2368 rfl rfl (by decide +kernel) (List.forall_mem_nil _) (fun _ _ => rfl) (sn_hq0 rfl)
theorem ck2369 : trm lkC37 [0, 59, 60] 2 false [] (sn_b 2369).2.2.2 ((sn_b 2369).1.data.toList.map UInt8.toNat) (pm_prog.2 2369) 3 = true := by decide +kernel
theorem ch2369 : sn_chk 2369 := sn_mk (lk := lkC37) (B := [0, 59, 60]) (rt := 2) (ini := false) (ov := []) [b2369_0, b2369_1, b2369_2] lf37 ck2369 rfl rfl (by decide +kernel) (List.forall_mem_nil _) (fun _ _ => rfl) (sn_hq0 rfl)
theorem ck2370 : trm lkC37 [0] 0 false [] (sn_b 2370).2.2.2 ((sn_b 2370).1.data.toList.map UInt8.toNat) (pm_prog.2 2370) 1 = true := by decide +kernel
theorem ch2370 : sn_chk 2370 := sn_mk (lk := lkC37) (B := [0]) (rt := 0) (ini := false) (ov := []) [b2370_0] lf37 ck2370 rfl rfl (by decide +kernel) (List.forall_mem_nil _) (fun _ _ => rfl) (sn_hq0 rfl)
/-! TimberHouse$FaultRips$Piece -/
def lkC38 : lk_T := ([(107, 0), (289, 38952), (480, 38912), (482, 38912), (576, 38920), (578, 38920), (672, 38928), (674, 38928), (770, 38937), (899, 61442), (1088, 38944)], [], [])
theorem lf38_3_11 : lk_ok "TimberHouse$FaultRips$Piece" 3 11 0 := (lw_g (lw_at lw_m9 211 rfl) rfl)
theorem lf38_9_1 : lk_ok "TimberHouse$FaultRips$Piece" 9 1 38952 := lk1 (ci := 38) (k := 5) rfl rfl rfl ⟨rfl, rfl, ⟨"TimberHouse$FaultRips$Piece", Or.inl (lw_g (lw_at lw_m9 220 rfl) rfl), Or.inl rfl⟩⟩
theorem lf38_15_0 : lk_ok "TimberHouse$FaultRips$Piece" 15 0 38912 := lk0 (ci := 38) (k := 0) rfl rfl rfl ⟨"TimberHouse$FaultRips$Piece", Or.inl (lw_g (lw_at lw_m9 212 rfl) rfl), Or.inl rfl⟩
theorem lf38_15_2 : lk_ok "TimberHouse$FaultRips$Piece" 15 2 38912 := lk2 (ci := 38) (k := 0) rfl rfl rfl ⟨rfl, rfl, rfl, "TimberHouse$FaultRips$Piece", (lw_g (lw_at lw_m9 212 rfl) rfl), rfl⟩
theorem lf38_18_0 : lk_ok "TimberHouse$FaultRips$Piece" 18 0 38920 := lk0 (ci := 38) (k := 1) rfl rfl rfl ⟨"TimberHouse$FaultRips$Piece", Or.inl (lw_g (lw_at lw_m9 213 rfl) rfl), Or.inl rfl⟩
theorem lf38_18_2 : lk_ok "TimberHouse$FaultRips$Piece" 18 2 38920 := lk2 (ci := 38) (k := 1) rfl rfl rfl ⟨rfl, rfl, rfl, "TimberHouse$FaultRips$Piece", (lw_g (lw_at lw_m9 213 rfl) rfl), rfl⟩
theorem lf38_21_0 : lk_ok "TimberHouse$FaultRips$Piece" 21 0 38928 := lk0 (ci := 38) (k := 2) rfl rfl rfl ⟨"TimberHouse$FaultRips$Piece", Or.inl (lw_g (lw_at lw_m9 214 rfl) rfl), Or.inl rfl⟩
theorem lf38_21_2 : lk_ok "TimberHouse$FaultRips$Piece" 21 2 38928 := lk2 (ci := 38) (k := 2) rfl rfl rfl ⟨rfl, rfl, rfl, "TimberHouse$FaultRips$Piece", (lw_g (lw_at lw_m9 214 rfl) rfl), rfl⟩
theorem lf38_24_2 : lk_ok "TimberHouse$FaultRips$Piece" 24 2 38937 := lk2 (ci := 38) (k := 3) rfl rfl rfl ⟨rfl, rfl, rfl, "TimberHouse$FaultRips$Piece", (lw_g (lw_at lw_m9 215 rfl) rfl), rfl⟩
theorem lf38_28_3 : lk_ok "TimberHouse$FaultRips$Piece" 28 3 61442 := ⟨(lw_g (lw_at lw_m10 50 rfl) rfl), rfl, rfl, gd3840⟩
theorem lf38_34_0 : lk_ok "TimberHouse$FaultRips$Piece" 34 0 38944 := lk0 (ci := 38) (k := 4) rfl rfl rfl ⟨"TimberHouse$FaultRips$Piece", Or.inl (lw_g (lw_at lw_m9 218 rfl) rfl), Or.inl rfl⟩
theorem lf38 : lk_sem "TimberHouse$FaultRips$Piece" lkC38 := ⟨List.forall_mem_cons.mpr ⟨lf38_3_11, List.forall_mem_cons.mpr ⟨lf38_9_1, List.forall_mem_cons.mpr ⟨lf38_15_0, List.forall_mem_cons.mpr ⟨lf38_15_2, List.forall_mem_cons.mpr ⟨lf38_18_0, List.forall_mem_cons.mpr ⟨lf38_18_2, List.forall_mem_cons.mpr ⟨lf38_21_0, List.forall_mem_cons.mpr ⟨lf38_21_2, List.forall_mem_cons.mpr ⟨lf38_24_2, List.forall_mem_cons.mpr ⟨lf38_28_3, List.forall_mem_cons.mpr ⟨lf38_34_0, List.forall_mem_nil _⟩⟩⟩⟩⟩⟩⟩⟩⟩⟩⟩, List.forall_mem_nil _, List.forall_mem_nil _⟩
theorem ck2432 : trm lkC38 [0] 9 true [] (sn_b 2432).2.2.2 ((sn_b 2432).1.data.toList.map UInt8.toNat) (pm_prog.2 2432) 1 = true := by decide +kernel
theorem ch2432 : sn_chk 2432 := sn_mk (lk := lkC38) (B := [0]) (rt := 9) (ini := true) (ov := []) [b2432_0] lf38 ck2432 rfl rfl (by decide +kernel) (List.forall_mem_nil _) (fun _ _ => rfl) (sn_hq0 rfl)
theorem ck2433 : trm lkC38 [0, 44, 45] 2 false [] (sn_b 2433).2.2.2 ((sn_b 2433).1.data.toList.map UInt8.toNat) (pm_prog.2 2433) 3 = true := by decide +kernel
theorem ch2433 : sn_chk 2433 := sn_mk (lk := lkC38) (B := [0, 44, 45]) (rt := 2) (ini := false) (ov := []) [b2433_0, b2433_1, b2433_2] lf38 ck2433 rfl rfl (by decide +kernel) (List.forall_mem_nil _) (fun _ _ => rfl) (sn_hq0 rfl)
/-! TimberHouse$LathePieces$Profile -/
def lkC39 : lk_T := ([(43, 0), (241, 63), (295, 64513), (320, 39939), (322, 39939), (513, 39952), (645, 64578), (768, 40968), (929, 39944)], [], [])
theorem lf39_1_11 : lk_ok "TimberHouse$LathePieces$Profile" 1 11 0 := (lw_g (lw_at lw_m11 86 rfl) rfl)
theorem lf39_7_17 : lk_ok "TimberHouse$LathePieces$Profile" 7 17 63 := ⟨by decide, Or.inl (by decide +kernel), (lw_g (lw_at lw_m11 87 rfl) rfl), (lw_g (lw_at lw_m3 25 rfl) rfl), (lw_g (lw_at lw_m1 14 rfl) rfl), rfl⟩
theorem lf39_9_7 : lk_ok "TimberHouse$LathePieces$Profile" 9 7 64513 := ⟨(lw_g (lw_at lw_m11 88 rfl) rfl), rfl, rfl, gd4032, rfl⟩
theorem lf39_10_0 : lk_ok "TimberHouse$LathePieces$Profile" 10 0 39939 := lk0 (ci := 39) (k := 0) rfl rfl rfl ⟨"TimberHouse$LathePieces$Profile", Or.inl (lw_g (lw_at lw_m11 89 rfl) rfl), Or.inl rfl⟩
theorem lf39_10_2 : lk_ok "TimberHouse$LathePieces$Profile" 10 2 39939 := lk2 (ci := 39) (k := 0) rfl rfl rfl ⟨rfl, rfl, rfl, "TimberHouse$LathePieces$Profile", (lw_g (lw_at lw_m11 89 rfl) rfl), rfl⟩
theorem lf39_16_1 : lk_ok "TimberHouse$LathePieces$Profile" 16 1 39952 := lk1 (ci := 39) (k := 2) rfl rfl rfl ⟨rfl, rfl, ⟨"TimberHouse$LathePieces$Profile", Or.inl (lw_g (lw_at lw_m11 95 rfl) rfl), Or.inl rfl⟩⟩
theorem lf39_20_5 : lk_ok "TimberHouse$LathePieces$Profile" 20 5 64578 := ⟨(lw_g (lw_at lw_m11 149 rfl) rfl), rfl, rfl, gd4036⟩
theorem lf39_24_0 : lk_ok "TimberHouse$LathePieces$Profile" 24 0 40968 := lk0w rfl (k := 1) rfl ⟨"TimberHouse$LathePieces$Way", Or.inl (lw_g (lw_at lw_m11 133 rfl) rfl), Or.inl rfl⟩ ⟨"TimberHouse$LathePieces$Way", Or.inl (lw_g (lw_at lw_m11 133 rfl) rfl), Or.inl rfl⟩
theorem lf39_29_1 : lk_ok "TimberHouse$LathePieces$Profile" 29 1 39944 := lk1 (ci := 39) (k := 1) rfl rfl rfl ⟨rfl, rfl, ⟨"TimberHouse$LathePieces$Profile", Or.inl (lw_g (lw_at lw_m11 93 rfl) rfl), Or.inl rfl⟩⟩
theorem lf39 : lk_sem "TimberHouse$LathePieces$Profile" lkC39 := ⟨List.forall_mem_cons.mpr ⟨lf39_1_11, List.forall_mem_cons.mpr ⟨lf39_7_17, List.forall_mem_cons.mpr ⟨lf39_9_7, List.forall_mem_cons.mpr ⟨lf39_10_0, List.forall_mem_cons.mpr ⟨lf39_10_2, List.forall_mem_cons.mpr ⟨lf39_16_1, List.forall_mem_cons.mpr ⟨lf39_20_5, List.forall_mem_cons.mpr ⟨lf39_24_0, List.forall_mem_cons.mpr ⟨lf39_29_1, List.forall_mem_nil _⟩⟩⟩⟩⟩⟩⟩⟩⟩, List.forall_mem_nil _, List.forall_mem_nil _⟩
theorem ck2496 : trm lkC39 [0] 9 true [] (sn_b 2496).2.2.2 ((sn_b 2496).1.data.toList.map UInt8.toNat) (pm_prog.2 2496) 1 = true := by decide +kernel
theorem ch2496 : sn_chk 2496 := sn_mk (lk := lkC39) (B := [0]) (rt := 9) (ini := true) (ov := []) [b2496_0] lf39 ck2496 rfl rfl (by decide +kernel) (List.forall_mem_nil _) (fun _ _ => rfl) (sn_hq0 rfl)
theorem ck2497 : trm lkC39 [0] 9 false [] (sn_b 2497).2.2.2 ((sn_b 2497).1.data.toList.map UInt8.toNat) (pm_prog.2 2497) 1 = true := by decide +kernel
theorem ch2497 : sn_chk 2497 := sn_mk (lk := lkC39) (B := [0]) (rt := 9) (ini := false) (ov := []) [b2497_0] lf39 ck2497 rfl rfl (by decide +kernel) (List.forall_mem_nil _) (fun _ _ => rfl) (sn_hq0 rfl)
/-! TimberHouse$LathePieces$Way -/
def lkC40 : lk_T := ([(43, 0), (226, 40960), (418, 40968)], [], [])
theorem lf40_1_11 : lk_ok "TimberHouse$LathePieces$Way" 1 11 0 := (lw_g (lw_at lw_m11 125 rfl) rfl)
theorem lf40_7_2 : lk_ok "TimberHouse$LathePieces$Way" 7 2 40960 := lk2w rfl (k := 0) rfl ⟨rfl, rfl, rfl, "TimberHouse$LathePieces$Way", (lw_g (lw_at lw_m11 128 rfl) rfl), rfl⟩ ⟨rfl, rfl, rfl, "TimberHouse$LathePieces$Way", (lw_g (lw_at lw_m11 128 rfl) rfl), rfl⟩
theorem lf40_13_2 : lk_ok "TimberHouse$LathePieces$Way" 13 2 40968 := lk2w rfl (k := 1) rfl ⟨rfl, rfl, rfl, "TimberHouse$LathePieces$Way", (lw_g (lw_at lw_m11 131 rfl) rfl), rfl⟩ ⟨rfl, rfl, rfl, "TimberHouse$LathePieces$Way", (lw_g (lw_at lw_m11 131 rfl) rfl), rfl⟩
theorem lf40 : lk_sem "TimberHouse$LathePieces$Way" lkC40 := ⟨List.forall_mem_cons.mpr ⟨lf40_1_11, List.forall_mem_cons.mpr ⟨lf40_7_2, List.forall_mem_cons.mpr ⟨lf40_13_2, List.forall_mem_nil _⟩⟩⟩, List.forall_mem_nil _, List.forall_mem_nil _⟩
theorem ck2560 : trm lkC40 [0] 9 true [] (sn_b 2560).2.2.2 ((sn_b 2560).1.data.toList.map UInt8.toNat) (pm_prog.2 2560) 1 = true := by decide +kernel
theorem ch2560 : sn_chk 2560 := sn_mk (lk := lkC40) (B := [0]) (rt := 9) (ini := true) (ov := []) [b2560_0] lf40 ck2560 rfl rfl (by decide +kernel) (List.forall_mem_nil _) (fun _ _ => rfl) (sn_hq0 rfl)
/-! TimberHouse$LathePieces$Line -/
def lkC41 : lk_T := ([(39, 40963), (224, 42000), (226, 42000), (416, 42008), (418, 42008), (512, 41984), (608, 41992)], [], [])
theorem lf41_1_7 : lk_ok "TimberHouse$LathePieces$Line" 1 7 40963 := ⟨(lw_g (lw_at lw_m11 122 rfl) rfl), rfl, rfl, gd2560, rfl⟩
theorem lf41_7_0 : lk_ok "TimberHouse$LathePieces$Line" 7 0 42000 := lk0 (ci := 41) (k := 2) rfl rfl rfl ⟨"TimberHouse$LathePieces$Line", Or.inl (lw_g (lw_at lw_m11 126 rfl) rfl), Or.inl rfl⟩
theorem lf41_7_2 : lk_ok "TimberHouse$LathePieces$Line" 7 2 42000 := lk2 (ci := 41) (k := 2) rfl rfl rfl ⟨rfl, rfl, rfl, "TimberHouse$LathePieces$Line", (lw_g (lw_at lw_m11 126 rfl) rfl), rfl⟩
theorem lf41_13_0 : lk_ok "TimberHouse$LathePieces$Line" 13 0 42008 := lk0 (ci := 41) (k := 3) rfl rfl rfl ⟨"TimberHouse$LathePieces$Line", Or.inl (lw_g (lw_at lw_m11 127 rfl) rfl), Or.inl rfl⟩
theorem lf41_13_2 : lk_ok "TimberHouse$LathePieces$Line" 13 2 42008 := lk2 (ci := 41) (k := 3) rfl rfl rfl ⟨rfl, rfl, rfl, "TimberHouse$LathePieces$Line", (lw_g (lw_at lw_m11 127 rfl) rfl), rfl⟩
theorem lf41_16_0 : lk_ok "TimberHouse$LathePieces$Line" 16 0 41984 := lk0 (ci := 41) (k := 0) rfl rfl rfl ⟨"TimberHouse$LathePieces$Line", Or.inl (lw_g (lw_at lw_m11 129 rfl) rfl), Or.inr (lw_g (lw_at lw_m11 130 rfl) rfl)⟩
theorem lf41_19_0 : lk_ok "TimberHouse$LathePieces$Line" 19 0 41992 := lk0 (ci := 41) (k := 1) rfl rfl rfl ⟨"TimberHouse$LathePieces$Line", Or.inl (lw_g (lw_at lw_m11 134 rfl) rfl), Or.inr (lw_g (lw_at lw_m11 135 rfl) rfl)⟩
theorem lf41 : lk_sem "TimberHouse$LathePieces$Line" lkC41 := ⟨List.forall_mem_cons.mpr ⟨lf41_1_7, List.forall_mem_cons.mpr ⟨lf41_7_0, List.forall_mem_cons.mpr ⟨lf41_7_2, List.forall_mem_cons.mpr ⟨lf41_13_0, List.forall_mem_cons.mpr ⟨lf41_13_2, List.forall_mem_cons.mpr ⟨lf41_16_0, List.forall_mem_cons.mpr ⟨lf41_19_0, List.forall_mem_nil _⟩⟩⟩⟩⟩⟩⟩, List.forall_mem_nil _, List.forall_mem_nil _⟩
theorem ck2624 : trm lkC41 [0] 9 true [] (sn_b 2624).2.2.2 ((sn_b 2624).1.data.toList.map UInt8.toNat) (pm_prog.2 2624) 1 = true := by decide +kernel
theorem ch2624 : sn_chk 2624 := sn_mk (lk := lkC41) (B := [0]) (rt := 9) (ini := true) (ov := []) [b2624_0] lf41 ck2624 rfl rfl (by decide +kernel) (List.forall_mem_nil _) (fun _ _ => rfl) (sn_hq0 rfl)
theorem ck2625 : trm lkC41 [0, 41, 44] 0 false [] (sn_b 2625).2.2.2 ((sn_b 2625).1.data.toList.map UInt8.toNat) (pm_prog.2 2625) 3 = true := by decide +kernel
theorem ch2625 : sn_chk 2625 := sn_mk (lk := lkC41) (B := [0, 41, 44]) (rt := 0) (ini := false) (ov := []) [b2625_0, b2625_1, b2625_2] lf41 ck2625 rfl rfl (by decide +kernel) (List.forall_mem_nil _) (fun _ _ => rfl) (sn_hq0 rfl)
/-! TimberHouse$LathePieces$Arc -/
def lkC42 : lk_T := ([(103, 40963), (288, 43024), (290, 43024), (480, 43032), (482, 43032), (576, 43040), (578, 43040), (672, 43050), (674, 43050), (804, 10449), (932, 10481), (1027, 61442), (1219, 61458)], [], [])
theorem lf42_3_7 : lk_ok "TimberHouse$LathePieces$Arc" 3 7 40963 := ⟨(lw_g (lw_at lw_m11 162 rfl) rfl), rfl, rfl, gd2560, rfl⟩
theorem lf42_9_0 : lk_ok "TimberHouse$LathePieces$Arc" 9 0 43024 := lk0 (ci := 42) (k := 2) rfl rfl rfl ⟨"TimberHouse$LathePieces$Arc", Or.inl (lw_g (lw_at lw_m11 163 rfl) rfl), Or.inl rfl⟩
theorem lf42_9_2 : lk_ok "TimberHouse$LathePieces$Arc" 9 2 43024 := lk2 (ci := 42) (k := 2) rfl rfl rfl ⟨rfl, rfl, rfl, "TimberHouse$LathePieces$Arc", (lw_g (lw_at lw_m11 163 rfl) rfl), rfl⟩
theorem lf42_15_0 : lk_ok "TimberHouse$LathePieces$Arc" 15 0 43032 := lk0 (ci := 42) (k := 3) rfl rfl rfl ⟨"TimberHouse$LathePieces$Arc", Or.inl (lw_g (lw_at lw_m11 164 rfl) rfl), Or.inl rfl⟩
theorem lf42_15_2 : lk_ok "TimberHouse$LathePieces$Arc" 15 2 43032 := lk2 (ci := 42) (k := 3) rfl rfl rfl ⟨rfl, rfl, rfl, "TimberHouse$LathePieces$Arc", (lw_g (lw_at lw_m11 164 rfl) rfl), rfl⟩
theorem lf42_18_0 : lk_ok "TimberHouse$LathePieces$Arc" 18 0 43040 := lk0 (ci := 42) (k := 4) rfl rfl rfl ⟨"TimberHouse$LathePieces$Arc", Or.inl (lw_g (lw_at lw_m11 165 rfl) rfl), Or.inl rfl⟩
theorem lf42_18_2 : lk_ok "TimberHouse$LathePieces$Arc" 18 2 43040 := lk2 (ci := 42) (k := 4) rfl rfl rfl ⟨rfl, rfl, rfl, "TimberHouse$LathePieces$Arc", (lw_g (lw_at lw_m11 165 rfl) rfl), rfl⟩
theorem lf42_21_0 : lk_ok "TimberHouse$LathePieces$Arc" 21 0 43050 := lk0 (ci := 42) (k := 5) rfl rfl rfl ⟨"TimberHouse$LathePieces$Arc", Or.inl (lw_g (lw_at lw_m11 166 rfl) rfl), Or.inl rfl⟩
theorem lf42_21_2 : lk_ok "TimberHouse$LathePieces$Arc" 21 2 43050 := lk2 (ci := 42) (k := 5) rfl rfl rfl ⟨rfl, rfl, rfl, "TimberHouse$LathePieces$Arc", (lw_g (lw_at lw_m11 166 rfl) rfl), rfl⟩
theorem lf42_25_4 : lk_ok "TimberHouse$LathePieces$Arc" 25 4 10449 := ⟨⟨"TimberHouse", (lw_at lw_m11 200 rfl)⟩, rfl, rfl, gd653, rfl⟩
theorem lf42_29_4 : lk_ok "TimberHouse$LathePieces$Arc" 29 4 10481 := ⟨⟨"TimberHouse", (lw_at lw_m11 201 rfl)⟩, rfl, rfl, gd655, rfl⟩
theorem lf42_32_3 : lk_ok "TimberHouse$LathePieces$Arc" 32 3 61442 := ⟨(lw_g (lw_at lw_m11 204 rfl) rfl), rfl, rfl, gd3840⟩
theorem lf42_38_3 : lk_ok "TimberHouse$LathePieces$Arc" 38 3 61458 := ⟨(lw_g (lw_at lw_m11 205 rfl) rfl), rfl, rfl, gd3841⟩
theorem lf42 : lk_sem "TimberHouse$LathePieces$Arc" lkC42 := ⟨List.forall_mem_cons.mpr ⟨lf42_3_7, List.forall_mem_cons.mpr ⟨lf42_9_0, List.forall_mem_cons.mpr ⟨lf42_9_2, List.forall_mem_cons.mpr ⟨lf42_15_0, List.forall_mem_cons.mpr ⟨lf42_15_2, List.forall_mem_cons.mpr ⟨lf42_18_0, List.forall_mem_cons.mpr ⟨lf42_18_2, List.forall_mem_cons.mpr ⟨lf42_21_0, List.forall_mem_cons.mpr ⟨lf42_21_2, List.forall_mem_cons.mpr ⟨lf42_25_4, List.forall_mem_cons.mpr ⟨lf42_29_4, List.forall_mem_cons.mpr ⟨lf42_32_3, List.forall_mem_cons.mpr ⟨lf42_38_3, List.forall_mem_nil _⟩⟩⟩⟩⟩⟩⟩⟩⟩⟩⟩⟩⟩, List.forall_mem_nil _, List.forall_mem_nil _⟩
theorem ck2688 : trm lkC42 [0] 9 true [] (sn_b 2688).2.2.2 ((sn_b 2688).1.data.toList.map UInt8.toNat) (pm_prog.2 2688) 1 = true := by decide +kernel
theorem ch2688 : sn_chk 2688 := sn_mk (lk := lkC42) (B := [0]) (rt := 9) (ini := true) (ov := []) [b2688_0] lf42 ck2688 rfl rfl (by decide +kernel) (List.forall_mem_nil _) (fun _ _ => rfl) (sn_hq0 rfl)
theorem ck2689 : trm lkC42 [0, 34, 40] 0 false [] (sn_b 2689).2.2.2 ((sn_b 2689).1.data.toList.map UInt8.toNat) (pm_prog.2 2689) 3 = true := by decide +kernel
theorem ch2689 : sn_chk 2689 := sn_mk (lk := lkC42) (B := [0, 34, 40]) (rt := 0) (ini := false) (ov := []) [b2689_0, b2689_1, b2689_2] lf42 ck2689 rfl rfl (by decide +kernel) (List.forall_mem_nil _) (fun _ _ => rfl) (sn_hq0 rfl)
/-! TimberHouse$LathePieces$Piece -/
def lkC43 : lk_T := ([(107, 0), (288, 39944), (480, 44035), (482, 44035), (672, 39939), (805, 64529), (994, 44040), (1061, 64546), (1206, 40), (1248, 40968), (1360, 2), (1475, 61458), (1669, 44033), (1763, 61442), (1860, 10449)], [], [])
theorem lf43_3_11 : lk_ok "TimberHouse$LathePieces$Piece" 3 11 0 := (lw_g (lw_at lw_m11 190 rfl) rfl)
theorem lf43_9_0 : lk_ok "TimberHouse$LathePieces$Piece" 9 0 39944 := lk0 (ci := 39) (k := 1) rfl rfl rfl ⟨"TimberHouse$LathePieces$Profile", Or.inr ⟨"TimberHouse", (lw_at lw_m11 92 rfl)⟩, Or.inl rfl⟩
theorem lf43_15_0 : lk_ok "TimberHouse$LathePieces$Piece" 15 0 44035 := lk0 (ci := 43) (k := 0) rfl rfl rfl ⟨"TimberHouse$LathePieces$Piece", Or.inl (lw_g (lw_at lw_m11 209 rfl) rfl), Or.inl rfl⟩
theorem lf43_15_2 : lk_ok "TimberHouse$LathePieces$Piece" 15 2 44035 := lk2 (ci := 43) (k := 0) rfl rfl rfl ⟨rfl, rfl, rfl, "TimberHouse$LathePieces$Piece", (lw_g (lw_at lw_m11 209 rfl) rfl), rfl⟩
theorem lf43_21_0 : lk_ok "TimberHouse$LathePieces$Piece" 21 0 39939 := lk0 (ci := 39) (k := 0) rfl rfl rfl ⟨"TimberHouse$LathePieces$Profile", Or.inr ⟨"TimberHouse", (lw_at lw_m11 90 rfl)⟩, Or.inl rfl⟩
theorem lf43_25_5 : lk_ok "TimberHouse$LathePieces$Piece" 25 5 64529 := ⟨(lw_g (lw_at lw_m11 191 rfl) rfl), rfl, rfl, gd4033⟩
theorem lf43_31_2 : lk_ok "TimberHouse$LathePieces$Piece" 31 2 44040 := lk2 (ci := 43) (k := 1) rfl rfl rfl ⟨rfl, rfl, rfl, "TimberHouse$LathePieces$Piece", (lw_g (lw_at lw_m11 212 rfl) rfl), rfl⟩
theorem lf43_33_5 : lk_ok "TimberHouse$LathePieces$Piece" 33 5 64546 := ⟨(lw_g (lw_at lw_m11 192 rfl) rfl), rfl, rfl, gd4034⟩
theorem lf43_37_22 : lk_ok "TimberHouse$LathePieces$Piece" 37 22 40 := lk22w (lw_g (lw_at lw_m11 193 rfl) rfl) (lw_at lw_m28 45 rfl) (lw_at lw_m28 44 rfl)
theorem lf43_39_0 : lk_ok "TimberHouse$LathePieces$Piece" 39 0 40968 := lk0w rfl (k := 1) rfl ⟨"TimberHouse$LathePieces$Way", Or.inl (lw_g (lw_at lw_m11 132 rfl) rfl), Or.inl rfl⟩ ⟨"TimberHouse$LathePieces$Way", Or.inl (lw_g (lw_at lw_m11 132 rfl) rfl), Or.inl rfl⟩
theorem lf43_42_16 : lk_ok "TimberHouse$LathePieces$Piece" 42 16 2 := Or.inl ⟨rfl, (lw_g (lw_at lw_m11 194 rfl) rfl)⟩
theorem lf43_46_3 : lk_ok "TimberHouse$LathePieces$Piece" 46 3 61458 := ⟨(lw_g (lw_at lw_m7 222 rfl) rfl), rfl, rfl, gd3841⟩
theorem lf43_52_5 : lk_ok "TimberHouse$LathePieces$Piece" 52 5 44033 := ⟨(lw_g (lw_at lw_m12 25 rfl) rfl), rfl, rfl, gd2752⟩
theorem lf43_55_3 : lk_ok "TimberHouse$LathePieces$Piece" 55 3 61442 := ⟨(lw_g (lw_at lw_m12 26 rfl) rfl), rfl, rfl, gd3840⟩
theorem lf43_58_4 : lk_ok "TimberHouse$LathePieces$Piece" 58 4 10449 := ⟨⟨"TimberHouse", (lw_at lw_m12 35 rfl)⟩, rfl, rfl, gd653, rfl⟩
theorem lf43 : lk_sem "TimberHouse$LathePieces$Piece" lkC43 := ⟨List.forall_mem_cons.mpr ⟨lf43_3_11, List.forall_mem_cons.mpr ⟨lf43_9_0, List.forall_mem_cons.mpr ⟨lf43_15_0, List.forall_mem_cons.mpr ⟨lf43_15_2, List.forall_mem_cons.mpr ⟨lf43_21_0, List.forall_mem_cons.mpr ⟨lf43_25_5, List.forall_mem_cons.mpr ⟨lf43_31_2, List.forall_mem_cons.mpr ⟨lf43_33_5, List.forall_mem_cons.mpr ⟨lf43_37_22, List.forall_mem_cons.mpr ⟨lf43_39_0, List.forall_mem_cons.mpr ⟨lf43_42_16, List.forall_mem_cons.mpr ⟨lf43_46_3, List.forall_mem_cons.mpr ⟨lf43_52_5, List.forall_mem_cons.mpr ⟨lf43_55_3, List.forall_mem_cons.mpr ⟨lf43_58_4, List.forall_mem_nil _⟩⟩⟩⟩⟩⟩⟩⟩⟩⟩⟩⟩⟩⟩⟩, List.forall_mem_nil _, List.forall_mem_nil _⟩
theorem ck2752 : trm lkC43 [0] 0 false [] (sn_b 2752).2.2.2 ((sn_b 2752).1.data.toList.map UInt8.toNat) (pm_prog.2 2752) 1 = true := by decide +kernel
theorem ch2752 : sn_chk 2752 := sn_mk (lk := lkC43) (B := [0]) (rt := 0) (ini := false) (ov := []) [b2752_0] lf43 ck2752 rfl rfl (by decide +kernel) (List.forall_mem_nil _) (fun _ _ => rfl) (sn_hq0 rfl)
theorem ck2753 : trm lkC43 [0, 13, 38] 0 false [] (sn_b 2753).2.2.2 ((sn_b 2753).1.data.toList.map UInt8.toNat) (pm_prog.2 2753) 3 = true := by decide +kernel
theorem ch2753 : sn_chk 2753 := sn_mk (lk := lkC43) (B := [0, 13, 38]) (rt := 0) (ini := false) (ov := []) [b2753_0, b2753_1, b2753_2] lf43 ck2753 rfl rfl (by decide +kernel) (List.forall_mem_nil _) (fun _ _ => rfl) (sn_hq0 rfl)
theorem ck2754 : trm lkC43 [0, 31, 40, 64, 91] 9 true [] (sn_b 2754).2.2.2 ((sn_b 2754).1.data.toList.map UInt8.toNat) (pm_prog.2 2754) 5 = true := by decide +kernel
theorem ch2754 : sn_chk 2754 := sn_mk (lk := lkC43) (B := [0, 31, 40, 64, 91]) (rt := 9) (ini := true) (ov := []) [b2754_0, b2754_1, b2754_2, b2754_3, b2754_4] lf43 ck2754 rfl rfl (by decide +kernel) (List.forall_mem_nil _) (fun _ _ => rfl) (sn_hq0 rfl)
theorem ck2755 : trm lkC43 [0, 17, 52, 58] 0 false [] (sn_b 2755).2.2.2 ((sn_b 2755).1.data.toList.map UInt8.toNat) (pm_prog.2 2755) 4 = true := by decide +kernel
theorem ch2755 : sn_chk 2755 := sn_mk (lk := lkC43) (B := [0, 17, 52, 58]) (rt := 0) (ini := false) (ov := []) [b2755_0, b2755_1, b2755_2, b2755_3] lf43 ck2755 rfl rfl (by decide +kernel) (List.forall_mem_nil _) (fun _ _ => rfl) (sn_hq0 rfl)
theorem ck2756 : trm lkC43 [0, 5, 47, 48, 56, 58, 70] 1 false [] (sn_b 2756).2.2.2 ((sn_b 2756).1.data.toList.map UInt8.toNat) (pm_prog.2 2756) 7 = true := by decide +kernel
theorem ch2756 : sn_chk 2756 := sn_mk (lk := lkC43) (B := [0, 5, 47, 48, 56, 58, 70]) (rt := 1) (ini := false) (ov := []) [b2756_0, b2756_1, b2756_2, b2756_3, b2756_4, b2756_5, b2756_6] lf43 ck2756 rfl rfl (by decide +kernel) (List.forall_mem_nil _) (fun _ _ => rfl) (sn_hq0 rfl)
/-! TimberHouse$LathePieces$Tool -/
def lkC44 : lk_T := ([(43, 0), (224, 45056), (226, 45056), (416, 45067), (418, 45067), (548, 10449), (740, 10481), (837, 45074), (933, 44033), (1125, 45091), (1248, 44035), (1349, 45123), (1443, 61458), (1701, 45107), (1827, 61442)], [(52, 2147483647)], [])
theorem lf44_1_11 : lk_ok "TimberHouse$LathePieces$Tool" 1 11 0 := (lw_g (lw_at lw_m11 235 rfl) rfl)
theorem lf44_7_0 : lk_ok "TimberHouse$LathePieces$Tool" 7 0 45056 := lk0 (ci := 44) (k := 0) rfl rfl rfl ⟨"TimberHouse$LathePieces$Tool", Or.inl (lw_g (lw_at lw_m11 238 rfl) rfl), Or.inl rfl⟩
theorem lf44_7_2 : lk_ok "TimberHouse$LathePieces$Tool" 7 2 45056 := lk2 (ci := 44) (k := 0) rfl rfl rfl ⟨rfl, rfl, rfl, "TimberHouse$LathePieces$Tool", (lw_g (lw_at lw_m11 238 rfl) rfl), rfl⟩
theorem lf44_13_0 : lk_ok "TimberHouse$LathePieces$Tool" 13 0 45067 := lk0 (ci := 44) (k := 1) rfl rfl rfl ⟨"TimberHouse$LathePieces$Tool", Or.inl (lw_g (lw_at lw_m11 239 rfl) rfl), Or.inl rfl⟩
theorem lf44_13_2 : lk_ok "TimberHouse$LathePieces$Tool" 13 2 45067 := lk2 (ci := 44) (k := 1) rfl rfl rfl ⟨rfl, rfl, rfl, "TimberHouse$LathePieces$Tool", (lw_g (lw_at lw_m11 239 rfl) rfl), rfl⟩
theorem lf44_17_4 : lk_ok "TimberHouse$LathePieces$Tool" 17 4 10449 := ⟨⟨"TimberHouse", (lw_at lw_m11 236 rfl)⟩, rfl, rfl, gd653, rfl⟩
theorem lf44_23_4 : lk_ok "TimberHouse$LathePieces$Tool" 23 4 10481 := ⟨⟨"TimberHouse", (lw_at lw_m11 237 rfl)⟩, rfl, rfl, gd655, rfl⟩
theorem lf44_26_5 : lk_ok "TimberHouse$LathePieces$Tool" 26 5 45074 := ⟨(lw_g (lw_at lw_m7 228 rfl) rfl), rfl, rfl, gd2817⟩
theorem lf44_29_5 : lk_ok "TimberHouse$LathePieces$Tool" 29 5 44033 := ⟨(lw_g (lw_at lw_m7 233 rfl) rfl), rfl, rfl, gd2752⟩
theorem lf44_35_5 : lk_ok "TimberHouse$LathePieces$Tool" 35 5 45091 := ⟨(lw_g (lw_at lw_m7 234 rfl) rfl), rfl, rfl, gd2818⟩
theorem lf44_39_0 : lk_ok "TimberHouse$LathePieces$Tool" 39 0 44035 := lk0 (ci := 43) (k := 0) rfl rfl rfl ⟨"TimberHouse$LathePieces$Piece", Or.inr ⟨"TimberHouse", (lw_at lw_m11 210 rfl)⟩, Or.inl rfl⟩
theorem lf44_42_5 : lk_ok "TimberHouse$LathePieces$Tool" 42 5 45123 := ⟨(lw_g (lw_at lw_m8 2 rfl) rfl), rfl, rfl, gd2820⟩
theorem lf44_45_3 : lk_ok "TimberHouse$LathePieces$Tool" 45 3 61458 := ⟨(lw_g (lw_at lw_m8 6 rfl) rfl), rfl, rfl, gd3841⟩
theorem lf44_53_5 : lk_ok "TimberHouse$LathePieces$Tool" 53 5 45107 := ⟨(lw_g (lw_at lw_m7 238 rfl) rfl), rfl, rfl, gd2819⟩
theorem lf44_57_3 : lk_ok "TimberHouse$LathePieces$Tool" 57 3 61442 := ⟨(lw_g (lw_at lw_m8 7 rfl) rfl), rfl, rfl, gd3840⟩
theorem lf44 : lk_sem "TimberHouse$LathePieces$Tool" lkC44 := ⟨List.forall_mem_cons.mpr ⟨lf44_1_11, List.forall_mem_cons.mpr ⟨lf44_7_0, List.forall_mem_cons.mpr ⟨lf44_7_2, List.forall_mem_cons.mpr ⟨lf44_13_0, List.forall_mem_cons.mpr ⟨lf44_13_2, List.forall_mem_cons.mpr ⟨lf44_17_4, List.forall_mem_cons.mpr ⟨lf44_23_4, List.forall_mem_cons.mpr ⟨lf44_26_5, List.forall_mem_cons.mpr ⟨lf44_29_5, List.forall_mem_cons.mpr ⟨lf44_35_5, List.forall_mem_cons.mpr ⟨lf44_39_0, List.forall_mem_cons.mpr ⟨lf44_42_5, List.forall_mem_cons.mpr ⟨lf44_45_3, List.forall_mem_cons.mpr ⟨lf44_53_5, List.forall_mem_cons.mpr ⟨lf44_57_3, List.forall_mem_nil _⟩⟩⟩⟩⟩⟩⟩⟩⟩⟩⟩⟩⟩⟩⟩, List.forall_mem_cons.mpr ⟨(lw_g (lw_at lw_m7 227 rfl) rfl), List.forall_mem_nil _⟩, List.forall_mem_nil _⟩
theorem ck2816 : trm lkC44 [0, 10, 50] 0 false [] (sn_b 2816).2.2.2 ((sn_b 2816).1.data.toList.map UInt8.toNat) (pm_prog.2 2816) 3 = true := by decide +kernel
theorem ch2816 : sn_chk 2816 := sn_mk (lk := lkC44) (B := [0, 10, 50]) (rt := 0) (ini := false) (ov := []) [b2816_0, b2816_1, b2816_2] lf44 ck2816 rfl rfl (by decide +kernel) (List.forall_mem_nil _) (fun _ _ => rfl) (sn_hq0 rfl)
theorem ck2817 : trm lkC44 [0, 12, 18] 0 false [] (sn_b 2817).2.2.2 ((sn_b 2817).1.data.toList.map UInt8.toNat) (pm_prog.2 2817) 3 = true := by decide +kernel
theorem ch2817 : sn_chk 2817 := sn_mk (lk := lkC44) (B := [0, 12, 18]) (rt := 0) (ini := false) (ov := []) [b2817_0, b2817_1, b2817_2] lf44 ck2817 rfl rfl (by decide +kernel) (List.forall_mem_nil _) (fun _ _ => rfl) (sn_hq0 rfl)
theorem ck2818 : trm lkC44 [0, 14, 20] 0 false [] (sn_b 2818).2.2.2 ((sn_b 2818).1.data.toList.map UInt8.toNat) (pm_prog.2 2818) 3 = true := by decide +kernel
theorem ch2818 : sn_chk 2818 := sn_mk (lk := lkC44) (B := [0, 14, 20]) (rt := 0) (ini := false) (ov := []) [b2818_0, b2818_1, b2818_2] lf44 ck2818 rfl rfl (by decide +kernel) (List.forall_mem_nil _) (fun _ _ => rfl) (sn_hq0 rfl)
theorem ck2819 : trm lkC44 [0, 9, 49] 0 false [] (sn_b 2819).2.2.2 ((sn_b 2819).1.data.toList.map UInt8.toNat) (pm_prog.2 2819) 3 = true := by decide +kernel
theorem ch2819 : sn_chk 2819 := sn_mk (lk := lkC44) (B := [0, 9, 49]) (rt := 0) (ini := false) (ov := []) [b2819_0, b2819_1, b2819_2] lf44 ck2819 rfl rfl (by decide +kernel) (List.forall_mem_nil _) (fun _ _ => rfl) (sn_hq0 rfl)
theorem ck2820 : trm lkC44 [0, 15, 18] 0 false [] (sn_b 2820).2.2.2 ((sn_b 2820).1.data.toList.map UInt8.toNat) (pm_prog.2 2820) 3 = true := by decide +kernel
theorem ch2820 : sn_chk 2820 := sn_mk (lk := lkC44) (B := [0, 15, 18]) (rt := 0) (ini := false) (ov := []) [b2820_0, b2820_1, b2820_2] lf44 ck2820 rfl rfl (by decide +kernel) (List.forall_mem_nil _) (fun _ _ => rfl) (sn_hq0 rfl)
theorem ck2821 : trm lkC44 [0, 20, 49] 9 true [] (sn_b 2821).2.2.2 ((sn_b 2821).1.data.toList.map UInt8.toNat) (pm_prog.2 2821) 3 = true := by decide +kernel
theorem ch2821 : sn_chk 2821 := sn_mk (lk := lkC44) (B := [0, 20, 49]) (rt := 9) (ini := true) (ov := []) [b2821_0, b2821_1, b2821_2] lf44 ck2821 rfl rfl (by decide +kernel) (List.forall_mem_nil _) (fun _ _ => rfl) (sn_hq0 rfl)
/-! TimberHouse$LathePieces$Fraction -/
def lkC45 : lk_T := ([(43, 0), (227, 46098), (273, 45), (416, 46081), (418, 46081), (544, 46089), (546, 46089), (647, 46083)], [], [(23, 2)])
theorem lf45_1_11 : lk_ok "TimberHouse$LathePieces$Fraction" 1 11 0 := (lw_g (lw_at lw_m12 67 rfl) rfl)
theorem lf45_7_3 : lk_ok "TimberHouse$LathePieces$Fraction" 7 3 46098 := ⟨(lw_g (lw_at lw_m12 68 rfl) rfl), rfl, rfl, gd2881⟩
theorem lf45_8_17 : lk_ok "TimberHouse$LathePieces$Fraction" 8 17 45 := ⟨by decide, Or.inl (by decide +kernel), (lw_g (lw_at lw_m12 88 rfl) rfl), (lw_g (lw_at lw_m12 63 rfl) rfl), (lw_g (lw_at lw_m1 62 rfl) rfl), rfl⟩
theorem lf45_13_0 : lk_ok "TimberHouse$LathePieces$Fraction" 13 0 46081 := lk0 (ci := 45) (k := 0) rfl rfl rfl ⟨"TimberHouse$LathePieces$Fraction", Or.inl (lw_g (lw_at lw_m12 71 rfl) rfl), Or.inl rfl⟩
theorem lf45_13_2 : lk_ok "TimberHouse$LathePieces$Fraction" 13 2 46081 := lk2 (ci := 45) (k := 0) rfl rfl rfl ⟨rfl, rfl, rfl, "TimberHouse$LathePieces$Fraction", (lw_g (lw_at lw_m12 71 rfl) rfl), rfl⟩
theorem lf45_17_0 : lk_ok "TimberHouse$LathePieces$Fraction" 17 0 46089 := lk0 (ci := 45) (k := 1) rfl rfl rfl ⟨"TimberHouse$LathePieces$Fraction", Or.inl (lw_g (lw_at lw_m12 73 rfl) rfl), Or.inl rfl⟩
theorem lf45_17_2 : lk_ok "TimberHouse$LathePieces$Fraction" 17 2 46089 := lk2 (ci := 45) (k := 1) rfl rfl rfl ⟨rfl, rfl, rfl, "TimberHouse$LathePieces$Fraction", (lw_g (lw_at lw_m12 73 rfl) rfl), rfl⟩
theorem lf45_20_7 : lk_ok "TimberHouse$LathePieces$Fraction" 20 7 46083 := ⟨(lw_g (lw_at lw_m12 90 rfl) rfl), rfl, rfl, gd2880, rfl⟩
theorem lf45 : lk_sem "TimberHouse$LathePieces$Fraction" lkC45 := ⟨List.forall_mem_cons.mpr ⟨lf45_1_11, List.forall_mem_cons.mpr ⟨lf45_7_3, List.forall_mem_cons.mpr ⟨lf45_8_17, List.forall_mem_cons.mpr ⟨lf45_13_0, List.forall_mem_cons.mpr ⟨lf45_13_2, List.forall_mem_cons.mpr ⟨lf45_17_0, List.forall_mem_cons.mpr ⟨lf45_17_2, List.forall_mem_cons.mpr ⟨lf45_20_7, List.forall_mem_nil _⟩⟩⟩⟩⟩⟩⟩⟩, List.forall_mem_nil _, List.forall_mem_cons.mpr ⟨(lw_g (lw_at lw_m12 89 rfl) rfl), List.forall_mem_nil _⟩⟩
theorem ck2880 : trm lkC45 [0, 15, 16] 9 true [] (sn_b 2880).2.2.2 ((sn_b 2880).1.data.toList.map UInt8.toNat) (pm_prog.2 2880) 3 = true := by decide +kernel
theorem ch2880 : sn_chk 2880 := sn_mk (lk := lkC45) (B := [0, 15, 16]) (rt := 9) (ini := true) (ov := []) [b2880_0, b2880_1, b2880_2] lf45 ck2880 rfl rfl (by decide +kernel) (List.forall_mem_nil _) (fun _ _ => rfl) (sn_hq0 rfl)
theorem ck2881 : trm lkC45 [0, 6, 31] 1 false [] (sn_b 2881).2.2.2 ((sn_b 2881).1.data.toList.map UInt8.toNat) (pm_prog.2 2881) 3 = true := by decide +kernel
theorem ch2881 : sn_chk 2881 := sn_mk (lk := lkC45) (B := [0, 6, 31]) (rt := 1) (ini := false) (ov := []) [b2881_0, b2881_1, b2881_2] lf45 ck2881 rfl rfl (by decide +kernel) (List.forall_mem_nil _) (fun _ _ => rfl) (sn_hq0 rfl)
theorem ck2882 : trm lkC45 [0] 3 false [] (sn_b 2882).2.2.2 ((sn_b 2882).1.data.toList.map UInt8.toNat) (pm_prog.2 2882) 1 = true := by decide +kernel
theorem ch2882 : sn_chk 2882 := sn_mk (lk := lkC45) (B := [0]) (rt := 3) (ini := false) (ov := []) [b2882_0] lf45 ck2882 rfl rfl (by decide +kernel) (List.forall_mem_nil _) (fun _ _ => rfl) (sn_hq0 rfl)
theorem ck2883 : trm lkC45 [0, 11, 15] 1 false [] (sn_b 2883).2.2.2 ((sn_b 2883).1.data.toList.map UInt8.toNat) (pm_prog.2 2883) 3 = true := by decide +kernel
theorem ch2883 : sn_chk 2883 := sn_mk (lk := lkC45) (B := [0, 11, 15]) (rt := 1) (ini := false) (ov := []) [b2883_0, b2883_1, b2883_2] lf45 ck2883 rfl rfl (by decide +kernel) (List.forall_mem_nil _) (fun _ _ => rfl) (sn_hq0 rfl)
theorem ck2884 : trm lkC45 [0] 3 false [] (sn_b 2884).2.2.2 ((sn_b 2884).1.data.toList.map UInt8.toNat) (pm_prog.2 2884) 1 = true := by decide +kernel
theorem ch2884 : sn_chk 2884 := sn_mk (lk := lkC45) (B := [0]) (rt := 3) (ini := false) (ov := []) [b2884_0] lf45 ck2884 rfl rfl (by decide +kernel) (List.forall_mem_nil _) (fun _ _ => rfl) (sn_hq0 rfl)
/-! TimberHouse$NailRules$Member -/
def lkC46 : lk_T := ([(43, 0), (224, 47105), (226, 47105), (416, 47113), (418, 47113), (512, 47121), (514, 47121), (608, 47129), (610, 47129), (704, 47137), (706, 47137)], [], [(25, 2)])
theorem lf46_1_11 : lk_ok "TimberHouse$NailRules$Member" 1 11 0 := (lw_g (lw_at lw_m13 43 rfl) rfl)
theorem lf46_7_0 : lk_ok "TimberHouse$NailRules$Member" 7 0 47105 := lk0 (ci := 46) (k := 0) rfl rfl rfl ⟨"TimberHouse$NailRules$Member", Or.inl (lw_g (lw_at lw_m13 44 rfl) rfl), Or.inl rfl⟩
theorem lf46_7_2 : lk_ok "TimberHouse$NailRules$Member" 7 2 47105 := lk2 (ci := 46) (k := 0) rfl rfl rfl ⟨rfl, rfl, rfl, "TimberHouse$NailRules$Member", (lw_g (lw_at lw_m13 44 rfl) rfl), rfl⟩
theorem lf46_13_0 : lk_ok "TimberHouse$NailRules$Member" 13 0 47113 := lk0 (ci := 46) (k := 1) rfl rfl rfl ⟨"TimberHouse$NailRules$Member", Or.inl (lw_g (lw_at lw_m13 45 rfl) rfl), Or.inl rfl⟩
theorem lf46_13_2 : lk_ok "TimberHouse$NailRules$Member" 13 2 47113 := lk2 (ci := 46) (k := 1) rfl rfl rfl ⟨rfl, rfl, rfl, "TimberHouse$NailRules$Member", (lw_g (lw_at lw_m13 45 rfl) rfl), rfl⟩
theorem lf46_16_0 : lk_ok "TimberHouse$NailRules$Member" 16 0 47121 := lk0 (ci := 46) (k := 2) rfl rfl rfl ⟨"TimberHouse$NailRules$Member", Or.inl (lw_g (lw_at lw_m13 46 rfl) rfl), Or.inl rfl⟩
theorem lf46_16_2 : lk_ok "TimberHouse$NailRules$Member" 16 2 47121 := lk2 (ci := 46) (k := 2) rfl rfl rfl ⟨rfl, rfl, rfl, "TimberHouse$NailRules$Member", (lw_g (lw_at lw_m13 46 rfl) rfl), rfl⟩
theorem lf46_19_0 : lk_ok "TimberHouse$NailRules$Member" 19 0 47129 := lk0 (ci := 46) (k := 3) rfl rfl rfl ⟨"TimberHouse$NailRules$Member", Or.inl (lw_g (lw_at lw_m13 47 rfl) rfl), Or.inl rfl⟩
theorem lf46_19_2 : lk_ok "TimberHouse$NailRules$Member" 19 2 47129 := lk2 (ci := 46) (k := 3) rfl rfl rfl ⟨rfl, rfl, rfl, "TimberHouse$NailRules$Member", (lw_g (lw_at lw_m13 47 rfl) rfl), rfl⟩
theorem lf46_22_0 : lk_ok "TimberHouse$NailRules$Member" 22 0 47137 := lk0 (ci := 46) (k := 4) rfl rfl rfl ⟨"TimberHouse$NailRules$Member", Or.inl (lw_g (lw_at lw_m13 48 rfl) rfl), Or.inl rfl⟩
theorem lf46_22_2 : lk_ok "TimberHouse$NailRules$Member" 22 2 47137 := lk2 (ci := 46) (k := 4) rfl rfl rfl ⟨rfl, rfl, rfl, "TimberHouse$NailRules$Member", (lw_g (lw_at lw_m13 48 rfl) rfl), rfl⟩
theorem lf46 : lk_sem "TimberHouse$NailRules$Member" lkC46 := ⟨List.forall_mem_cons.mpr ⟨lf46_1_11, List.forall_mem_cons.mpr ⟨lf46_7_0, List.forall_mem_cons.mpr ⟨lf46_7_2, List.forall_mem_cons.mpr ⟨lf46_13_0, List.forall_mem_cons.mpr ⟨lf46_13_2, List.forall_mem_cons.mpr ⟨lf46_16_0, List.forall_mem_cons.mpr ⟨lf46_16_2, List.forall_mem_cons.mpr ⟨lf46_19_0, List.forall_mem_cons.mpr ⟨lf46_19_2, List.forall_mem_cons.mpr ⟨lf46_22_0, List.forall_mem_cons.mpr ⟨lf46_22_2, List.forall_mem_nil _⟩⟩⟩⟩⟩⟩⟩⟩⟩⟩⟩, List.forall_mem_nil _, List.forall_mem_cons.mpr ⟨(lw_g (lw_at lw_m13 72 rfl) rfl), List.forall_mem_nil _⟩⟩
theorem ck2944 : trm lkC46 [0] 9 true [] (sn_b 2944).2.2.2 ((sn_b 2944).1.data.toList.map UInt8.toNat) (pm_prog.2 2944) 1 = true := by decide +kernel
theorem ch2944 : sn_chk 2944 := sn_mk (lk := lkC46) (B := [0]) (rt := 9) (ini := true) (ov := []) [b2944_0] lf46 ck2944 rfl rfl (by decide +kernel) (List.forall_mem_nil _) (fun _ _ => rfl) (sn_hq0 rfl)
theorem ck2945 : trm lkC46 [0, 115, 116] 2 false [] (sn_b 2945).2.2.2 ((sn_b 2945).1.data.toList.map UInt8.toNat) (pm_prog.2 2945) 3 = true := by decide +kernel
theorem ch2945 : sn_chk 2945 := sn_mk (lk := lkC46) (B := [0, 115, 116]) (rt := 2) (ini := false) (ov := []) [b2945_0, b2945_1, b2945_2] lf46 ck2945 rfl rfl (by decide +kernel) (List.forall_mem_nil _) (fun _ _ => rfl) (sn_hq0 rfl)
/-! TimberHouse$SheetTrees$Sheet -/
def lkC47 : lk_T := ([(43, 0), (224, 48128), (226, 48128), (416, 48136), (418, 48136), (514, 48144), (610, 48152)], [], [])
theorem lf47_1_11 : lk_ok "TimberHouse$SheetTrees$Sheet" 1 11 0 := (lw_g (lw_at lw_m13 111 rfl) rfl)
theorem lf47_7_0 : lk_ok "TimberHouse$SheetTrees$Sheet" 7 0 48128 := lk0 (ci := 47) (k := 0) rfl rfl rfl ⟨"TimberHouse$SheetTrees$Sheet", Or.inl (lw_g (lw_at lw_m13 112 rfl) rfl), Or.inl rfl⟩
theorem lf47_7_2 : lk_ok "TimberHouse$SheetTrees$Sheet" 7 2 48128 := lk2 (ci := 47) (k := 0) rfl rfl rfl ⟨rfl, rfl, rfl, "TimberHouse$SheetTrees$Sheet", (lw_g (lw_at lw_m13 112 rfl) rfl), rfl⟩
theorem lf47_13_0 : lk_ok "TimberHouse$SheetTrees$Sheet" 13 0 48136 := lk0 (ci := 47) (k := 1) rfl rfl rfl ⟨"TimberHouse$SheetTrees$Sheet", Or.inl (lw_g (lw_at lw_m13 114 rfl) rfl), Or.inl rfl⟩
theorem lf47_13_2 : lk_ok "TimberHouse$SheetTrees$Sheet" 13 2 48136 := lk2 (ci := 47) (k := 1) rfl rfl rfl ⟨rfl, rfl, rfl, "TimberHouse$SheetTrees$Sheet", (lw_g (lw_at lw_m13 114 rfl) rfl), rfl⟩
theorem lf47_16_2 : lk_ok "TimberHouse$SheetTrees$Sheet" 16 2 48144 := lk2 (ci := 47) (k := 2) rfl rfl rfl ⟨rfl, rfl, rfl, "TimberHouse$SheetTrees$Sheet", (lw_g (lw_at lw_m13 116 rfl) rfl), rfl⟩
theorem lf47_19_2 : lk_ok "TimberHouse$SheetTrees$Sheet" 19 2 48152 := lk2 (ci := 47) (k := 3) rfl rfl rfl ⟨rfl, rfl, rfl, "TimberHouse$SheetTrees$Sheet", (lw_g (lw_at lw_m13 118 rfl) rfl), rfl⟩
theorem lf47 : lk_sem "TimberHouse$SheetTrees$Sheet" lkC47 := ⟨List.forall_mem_cons.mpr ⟨lf47_1_11, List.forall_mem_cons.mpr ⟨lf47_7_0, List.forall_mem_cons.mpr ⟨lf47_7_2, List.forall_mem_cons.mpr ⟨lf47_13_0, List.forall_mem_cons.mpr ⟨lf47_13_2, List.forall_mem_cons.mpr ⟨lf47_16_2, List.forall_mem_cons.mpr ⟨lf47_19_2, List.forall_mem_nil _⟩⟩⟩⟩⟩⟩⟩, List.forall_mem_nil _, List.forall_mem_nil _⟩
theorem ck3008 : trm lkC47 [0] 0 false [] (sn_b 3008).2.2.2 ((sn_b 3008).1.data.toList.map UInt8.toNat) (pm_prog.2 3008) 1 = true := by decide +kernel
theorem ch3008 : sn_chk 3008 := sn_mk (lk := lkC47) (B := [0]) (rt := 0) (ini := false) (ov := []) [b3008_0] lf47 ck3008 rfl rfl (by decide +kernel) (List.forall_mem_nil _) (fun _ _ => rfl) (sn_hq0 rfl)
theorem ck3009 : trm lkC47 [0] 9 true [] (sn_b 3009).2.2.2 ((sn_b 3009).1.data.toList.map UInt8.toNat) (pm_prog.2 3009) 1 = true := by decide +kernel
theorem ch3009 : sn_chk 3009 := sn_mk (lk := lkC47) (B := [0]) (rt := 9) (ini := true) (ov := []) [b3009_0] lf47 ck3009 rfl rfl (by decide +kernel) (List.forall_mem_nil _) (fun _ _ => rfl) (sn_hq0 rfl)
/-! TimberHouse$SheetTrees$Part -/
def lkC48 : lk_T := ([(43, 0), (224, 49152), (226, 49152), (416, 49160), (418, 49160), (513, 49176), (608, 49170), (610, 49170)], [], [])
theorem lf48_1_11 : lk_ok "TimberHouse$SheetTrees$Part" 1 11 0 := (lw_g (lw_at lw_m13 142 rfl) rfl)
theorem lf48_7_0 : lk_ok "TimberHouse$SheetTrees$Part" 7 0 49152 := lk0 (ci := 48) (k := 0) rfl rfl rfl ⟨"TimberHouse$SheetTrees$Part", Or.inl (lw_g (lw_at lw_m13 143 rfl) rfl), Or.inl rfl⟩
theorem lf48_7_2 : lk_ok "TimberHouse$SheetTrees$Part" 7 2 49152 := lk2 (ci := 48) (k := 0) rfl rfl rfl ⟨rfl, rfl, rfl, "TimberHouse$SheetTrees$Part", (lw_g (lw_at lw_m13 143 rfl) rfl), rfl⟩
theorem lf48_13_0 : lk_ok "TimberHouse$SheetTrees$Part" 13 0 49160 := lk0 (ci := 48) (k := 1) rfl rfl rfl ⟨"TimberHouse$SheetTrees$Part", Or.inl (lw_g (lw_at lw_m13 144 rfl) rfl), Or.inl rfl⟩
theorem lf48_13_2 : lk_ok "TimberHouse$SheetTrees$Part" 13 2 49160 := lk2 (ci := 48) (k := 1) rfl rfl rfl ⟨rfl, rfl, rfl, "TimberHouse$SheetTrees$Part", (lw_g (lw_at lw_m13 144 rfl) rfl), rfl⟩
theorem lf48_16_1 : lk_ok "TimberHouse$SheetTrees$Part" 16 1 49176 := lk1 (ci := 48) (k := 3) rfl rfl rfl ⟨rfl, rfl, ⟨"TimberHouse$SheetTrees$Part", Or.inl (lw_g (lw_at lw_m13 146 rfl) rfl), Or.inl rfl⟩⟩
theorem lf48_19_0 : lk_ok "TimberHouse$SheetTrees$Part" 19 0 49170 := lk0 (ci := 48) (k := 2) rfl rfl rfl ⟨"TimberHouse$SheetTrees$Part", Or.inl (lw_g (lw_at lw_m13 145 rfl) rfl), Or.inl rfl⟩
theorem lf48_19_2 : lk_ok "TimberHouse$SheetTrees$Part" 19 2 49170 := lk2 (ci := 48) (k := 2) rfl rfl rfl ⟨rfl, rfl, rfl, "TimberHouse$SheetTrees$Part", (lw_g (lw_at lw_m13 145 rfl) rfl), rfl⟩
theorem lf48 : lk_sem "TimberHouse$SheetTrees$Part" lkC48 := ⟨List.forall_mem_cons.mpr ⟨lf48_1_11, List.forall_mem_cons.mpr ⟨lf48_7_0, List.forall_mem_cons.mpr ⟨lf48_7_2, List.forall_mem_cons.mpr ⟨lf48_13_0, List.forall_mem_cons.mpr ⟨lf48_13_2, List.forall_mem_cons.mpr ⟨lf48_16_1, List.forall_mem_cons.mpr ⟨lf48_19_0, List.forall_mem_cons.mpr ⟨lf48_19_2, List.forall_mem_nil _⟩⟩⟩⟩⟩⟩⟩⟩, List.forall_mem_nil _, List.forall_mem_nil _⟩
theorem ck3072 : trm lkC48 [0] 9 true [] (sn_b 3072).2.2.2 ((sn_b 3072).1.data.toList.map UInt8.toNat) (pm_prog.2 3072) 1 = true := by decide +kernel
theorem ch3072 : sn_chk 3072 := sn_mk (lk := lkC48) (B := [0]) (rt := 9) (ini := true) (ov := []) [b3072_0] lf48 ck3072 rfl rfl (by decide +kernel) (List.forall_mem_nil _) (fun _ _ => rfl) (sn_hq0 rfl)
theorem ck3073 : trm lkC48 [0, 16, 39, 43, 44] 2 false [] (sn_b 3073).2.2.2 ((sn_b 3073).1.data.toList.map UInt8.toNat) (pm_prog.2 3073) 5 = true := by decide +kernel
theorem ch3073 : sn_chk 3073 := sn_mk (lk := lkC48) (B := [0, 16, 39, 43, 44]) (rt := 2) (ini := false) (ov := []) [b3073_0, b3073_1, b3073_2, b3073_3, b3073_4] lf48 ck3073 rfl rfl (by decide +kernel) (List.forall_mem_nil _) (fun _ _ => rfl) (sn_hq0 rfl)
theorem ck3074 : trm lkC48 [0] 0 false [] (sn_b 3074).2.2.2 ((sn_b 3074).1.data.toList.map UInt8.toNat) (pm_prog.2 3074) 1 = true := by decide +kernel
theorem ch3074 : sn_chk 3074 := sn_mk (lk := lkC48) (B := [0]) (rt := 0) (ini := false) (ov := []) [b3074_0] lf48 ck3074 rfl rfl (by decide +kernel) (List.forall_mem_nil _) (fun _ _ => rfl) (sn_hq0 rfl)
/-! TimberHouse$RouterPaths$Statement -/
def lkC49 : lk_T := ([(43, 0)], [], [])
theorem lf49_1_11 : lk_ok "TimberHouse$RouterPaths$Statement" 1 11 0 := (lw_g (lw_at lw_m14 71 rfl) rfl)
theorem lf49 : lk_sem "TimberHouse$RouterPaths$Statement" lkC49 := ⟨List.forall_mem_cons.mpr ⟨lf49_1_11, List.forall_mem_nil _⟩, List.forall_mem_nil _, List.forall_mem_nil _⟩
theorem ck3136 : trm lkC49 [0] 9 true [] (sn_b 3136).2.2.2 ((sn_b 3136).1.data.toList.map UInt8.toNat) (pm_prog.2 3136) 1 = true := by decide +kernel
theorem ch3136 : sn_chk 3136 := sn_mk (lk := lkC49) (B := [0]) (rt := 9) (ini := true) (ov := []) [b3136_0] lf49 ck3136 rfl rfl (by decide +kernel) (List.forall_mem_nil _) (fun _ _ => rfl) (sn_hq0 rfl)
/-! TimberHouse$RouterPaths$Change -/
def lkC50 : lk_T := ([(40, 50177), (224, 51200), (226, 51200), (421, 19490)], [], [])
theorem lf50_1_8 : lk_ok "TimberHouse$RouterPaths$Change" 1 8 50177 := ⟨⟨"TimberHouse", (lw_at lw_m14 68 rfl)⟩, rfl, rfl, gd3136, rfl⟩
theorem lf50_7_0 : lk_ok "TimberHouse$RouterPaths$Change" 7 0 51200 := lk0 (ci := 50) (k := 0) rfl rfl rfl ⟨"TimberHouse$RouterPaths$Change", Or.inl (lw_g (lw_at lw_m14 72 rfl) rfl), Or.inl rfl⟩
theorem lf50_7_2 : lk_ok "TimberHouse$RouterPaths$Change" 7 2 51200 := lk2 (ci := 50) (k := 0) rfl rfl rfl ⟨rfl, rfl, rfl, "TimberHouse$RouterPaths$Change", (lw_g (lw_at lw_m14 72 rfl) rfl), rfl⟩
theorem lf50_13_5 : lk_ok "TimberHouse$RouterPaths$Change" 13 5 19490 := ⟨(lw_g (lw_at lw_m14 111 rfl) rfl), rfl, rfl, gd1218⟩
theorem lf50 : lk_sem "TimberHouse$RouterPaths$Change" lkC50 := ⟨List.forall_mem_cons.mpr ⟨lf50_1_8, List.forall_mem_cons.mpr ⟨lf50_7_0, List.forall_mem_cons.mpr ⟨lf50_7_2, List.forall_mem_cons.mpr ⟨lf50_13_5, List.forall_mem_nil _⟩⟩⟩⟩, List.forall_mem_nil _, List.forall_mem_nil _⟩
theorem ck3200 : trm lkC50 [0] 9 true [] (sn_b 3200).2.2.2 ((sn_b 3200).1.data.toList.map UInt8.toNat) (pm_prog.2 3200) 1 = true := by decide +kernel
theorem ch3200 : sn_chk 3200 := sn_mk (lk := lkC50) (B := [0]) (rt := 9) (ini := true) (ov := []) [b3200_0] lf50 ck3200 rfl rfl (by decide +kernel) (List.forall_mem_nil _) (fun _ _ => rfl) (sn_hq0 rfl)
theorem ck3201 : trm lkC50 [0] 9 false [] (sn_b 3201).2.2.2 ((sn_b 3201).1.data.toList.map UInt8.toNat) (pm_prog.2 3201) 1 = true := by decide +kernel
theorem ch3201 : sn_chk 3201 := sn_mk (lk := lkC50) (B := [0]) (rt := 9) (ini := false) (ov := []) [b3201_0] lf50 ck3201 rfl rfl (by decide +kernel) (List.forall_mem_nil _) (fun _ _ => rfl) (sn_hq0 rfl)
/-! TimberHouse$RouterPaths$Move -/
def lkC51 : lk_T := ([(104, 50177), (288, 52235), (290, 52235), (480, 52226), (482, 52226), (613, 19509)], [], [])
theorem lf51_3_8 : lk_ok "TimberHouse$RouterPaths$Move" 3 8 50177 := ⟨⟨"TimberHouse", (lw_at lw_m14 81 rfl)⟩, rfl, rfl, gd3136, rfl⟩
theorem lf51_9_0 : lk_ok "TimberHouse$RouterPaths$Move" 9 0 52235 := lk0 (ci := 51) (k := 1) rfl rfl rfl ⟨"TimberHouse$RouterPaths$Move", Or.inl (lw_g (lw_at lw_m14 83 rfl) rfl), Or.inl rfl⟩
theorem lf51_9_2 : lk_ok "TimberHouse$RouterPaths$Move" 9 2 52235 := lk2 (ci := 51) (k := 1) rfl rfl rfl ⟨rfl, rfl, rfl, "TimberHouse$RouterPaths$Move", (lw_g (lw_at lw_m14 83 rfl) rfl), rfl⟩
theorem lf51_15_0 : lk_ok "TimberHouse$RouterPaths$Move" 15 0 52226 := lk0 (ci := 51) (k := 0) rfl rfl rfl ⟨"TimberHouse$RouterPaths$Move", Or.inl (lw_g (lw_at lw_m14 82 rfl) rfl), Or.inl rfl⟩
theorem lf51_15_2 : lk_ok "TimberHouse$RouterPaths$Move" 15 2 52226 := lk2 (ci := 51) (k := 0) rfl rfl rfl ⟨rfl, rfl, rfl, "TimberHouse$RouterPaths$Move", (lw_g (lw_at lw_m14 82 rfl) rfl), rfl⟩
theorem lf51_19_5 : lk_ok "TimberHouse$RouterPaths$Move" 19 5 19509 := ⟨(lw_g (lw_at lw_m14 118 rfl) rfl), rfl, rfl, gd1219⟩
theorem lf51 : lk_sem "TimberHouse$RouterPaths$Move" lkC51 := ⟨List.forall_mem_cons.mpr ⟨lf51_3_8, List.forall_mem_cons.mpr ⟨lf51_9_0, List.forall_mem_cons.mpr ⟨lf51_9_2, List.forall_mem_cons.mpr ⟨lf51_15_0, List.forall_mem_cons.mpr ⟨lf51_15_2, List.forall_mem_cons.mpr ⟨lf51_19_5, List.forall_mem_nil _⟩⟩⟩⟩⟩⟩, List.forall_mem_nil _, List.forall_mem_nil _⟩
theorem ck3264 : trm lkC51 [0] 9 true [] (sn_b 3264).2.2.2 ((sn_b 3264).1.data.toList.map UInt8.toNat) (pm_prog.2 3264) 1 = true := by decide +kernel
theorem ch3264 : sn_chk 3264 := sn_mk (lk := lkC51) (B := [0]) (rt := 9) (ini := true) (ov := []) [b3264_0] lf51 ck3264 rfl rfl (by decide +kernel) (List.forall_mem_nil _) (fun _ _ => rfl) (sn_hq0 rfl)
theorem ck3265 : trm lkC51 [0] 9 false [] (sn_b 3265).2.2.2 ((sn_b 3265).1.data.toList.map UInt8.toNat) (pm_prog.2 3265) 1 = true := by decide +kernel
theorem ch3265 : sn_chk 3265 := sn_mk (lk := lkC51) (B := [0]) (rt := 9) (ini := false) (ov := []) [b3265_0] lf51 ck3265 rfl rfl (by decide +kernel) (List.forall_mem_nil _) (fun _ _ => rfl) (sn_hq0 rfl)
/-! TimberHouse$WorkPlans$Machine -/
def lkC52 : lk_T := ([(107, 0), (305, 63), (359, 64513), (384, 53259), (386, 53259), (578, 53248), (709, 64529), (837, 64546), (982, 53), (1029, 54291), (1152, 54280)], [], [])
theorem lf52_3_11 : lk_ok "TimberHouse$WorkPlans$Machine" 3 11 0 := (lw_g (lw_at lw_m14 206 rfl) rfl)
theorem lf52_9_17 : lk_ok "TimberHouse$WorkPlans$Machine" 9 17 63 := ⟨by decide, Or.inl (by decide +kernel), (lw_g (lw_at lw_m14 207 rfl) rfl), (lw_g (lw_at lw_m3 25 rfl) rfl), (lw_g (lw_at lw_m1 14 rfl) rfl), rfl⟩
theorem lf52_11_7 : lk_ok "TimberHouse$WorkPlans$Machine" 11 7 64513 := ⟨(lw_g (lw_at lw_m14 208 rfl) rfl), rfl, rfl, gd4032, rfl⟩
theorem lf52_12_0 : lk_ok "TimberHouse$WorkPlans$Machine" 12 0 53259 := lk0 (ci := 52) (k := 1) rfl rfl rfl ⟨"TimberHouse$WorkPlans$Machine", Or.inl (lw_g (lw_at lw_m14 212 rfl) rfl), Or.inl rfl⟩
theorem lf52_12_2 : lk_ok "TimberHouse$WorkPlans$Machine" 12 2 53259 := lk2 (ci := 52) (k := 1) rfl rfl rfl ⟨rfl, rfl, rfl, "TimberHouse$WorkPlans$Machine", (lw_g (lw_at lw_m14 212 rfl) rfl), rfl⟩
theorem lf52_18_2 : lk_ok "TimberHouse$WorkPlans$Machine" 18 2 53248 := lk2 (ci := 52) (k := 0) rfl rfl rfl ⟨rfl, rfl, rfl, "TimberHouse$WorkPlans$Machine", (lw_g (lw_at lw_m14 209 rfl) rfl), rfl⟩
theorem lf52_22_5 : lk_ok "TimberHouse$WorkPlans$Machine" 22 5 64529 := ⟨(lw_g (lw_at lw_m15 64 rfl) rfl), rfl, rfl, gd4033⟩
theorem lf52_26_5 : lk_ok "TimberHouse$WorkPlans$Machine" 26 5 64546 := ⟨(lw_g (lw_at lw_m15 65 rfl) rfl), rfl, rfl, gd4034⟩
theorem lf52_30_22 : lk_ok "TimberHouse$WorkPlans$Machine" 30 22 53 := lk22 rfl (lw_g (lw_at lw_m15 66 rfl) rfl)
theorem lf52_32_5 : lk_ok "TimberHouse$WorkPlans$Machine" 32 5 54291 := ⟨(lw_g (lw_at lw_m15 67 rfl) rfl), rfl, rfl, gd3393⟩
theorem lf52_36_0 : lk_ok "TimberHouse$WorkPlans$Machine" 36 0 54280 := lk0 (ci := 53) (k := 1) rfl rfl rfl ⟨"TimberHouse$WorkPlans$Span", Or.inr ⟨"TimberHouse", (lw_at lw_m14 231 rfl)⟩, Or.inl rfl⟩
theorem lf52 : lk_sem "TimberHouse$WorkPlans$Machine" lkC52 := ⟨List.forall_mem_cons.mpr ⟨lf52_3_11, List.forall_mem_cons.mpr ⟨lf52_9_17, List.forall_mem_cons.mpr ⟨lf52_11_7, List.forall_mem_cons.mpr ⟨lf52_12_0, List.forall_mem_cons.mpr ⟨lf52_12_2, List.forall_mem_cons.mpr ⟨lf52_18_2, List.forall_mem_cons.mpr ⟨lf52_22_5, List.forall_mem_cons.mpr ⟨lf52_26_5, List.forall_mem_cons.mpr ⟨lf52_30_22, List.forall_mem_cons.mpr ⟨lf52_32_5, List.forall_mem_cons.mpr ⟨lf52_36_0, List.forall_mem_nil _⟩⟩⟩⟩⟩⟩⟩⟩⟩⟩⟩, List.forall_mem_nil _, List.forall_mem_nil _⟩
theorem ck3328 : trm lkC52 [0] 9 true [] (sn_b 3328).2.2.2 ((sn_b 3328).1.data.toList.map UInt8.toNat) (pm_prog.2 3328) 1 = true := by decide +kernel
theorem ch3328 : sn_chk 3328 := sn_mk (lk := lkC52) (B := [0]) (rt := 9) (ini := true) (ov := []) [b3328_0] lf52 ck3328 rfl rfl (by decide +kernel) (List.forall_mem_nil _) (fun _ _ => rfl) (sn_hq0 rfl)
theorem ck3329 : trm lkC52 [0, 2, 47, 53] 0 false [] (sn_b 3329).2.2.2 ((sn_b 3329).1.data.toList.map UInt8.toNat) (pm_prog.2 3329) 4 = true := by decide +kernel
theorem ch3329 : sn_chk 3329 := sn_mk (lk := lkC52) (B := [0, 2, 47, 53]) (rt := 0) (ini := false) (ov := []) [b3329_0, b3329_1, b3329_2, b3329_3] lf52 ck3329 rfl rfl (by decide +kernel) (List.forall_mem_nil _) (fun _ _ => rfl) (sn_hq0 rfl)
/-! TimberHouse$WorkPlans$Span -/
def lkC53 : lk_T := ([(43, 0), (224, 54272), (226, 54272), (416, 54280), (418, 54280)], [], [])
theorem lf53_1_11 : lk_ok "TimberHouse$WorkPlans$Span" 1 11 0 := (lw_g (lw_at lw_m14 228 rfl) rfl)
theorem lf53_7_0 : lk_ok "TimberHouse$WorkPlans$Span" 7 0 54272 := lk0 (ci := 53) (k := 0) rfl rfl rfl ⟨"TimberHouse$WorkPlans$Span", Or.inl (lw_g (lw_at lw_m14 229 rfl) rfl), Or.inl rfl⟩
theorem lf53_7_2 : lk_ok "TimberHouse$WorkPlans$Span" 7 2 54272 := lk2 (ci := 53) (k := 0) rfl rfl rfl ⟨rfl, rfl, rfl, "TimberHouse$WorkPlans$Span", (lw_g (lw_at lw_m14 229 rfl) rfl), rfl⟩
theorem lf53_13_0 : lk_ok "TimberHouse$WorkPlans$Span" 13 0 54280 := lk0 (ci := 53) (k := 1) rfl rfl rfl ⟨"TimberHouse$WorkPlans$Span", Or.inl (lw_g (lw_at lw_m14 230 rfl) rfl), Or.inl rfl⟩
theorem lf53_13_2 : lk_ok "TimberHouse$WorkPlans$Span" 13 2 54280 := lk2 (ci := 53) (k := 1) rfl rfl rfl ⟨rfl, rfl, rfl, "TimberHouse$WorkPlans$Span", (lw_g (lw_at lw_m14 230 rfl) rfl), rfl⟩
theorem lf53 : lk_sem "TimberHouse$WorkPlans$Span" lkC53 := ⟨List.forall_mem_cons.mpr ⟨lf53_1_11, List.forall_mem_cons.mpr ⟨lf53_7_0, List.forall_mem_cons.mpr ⟨lf53_7_2, List.forall_mem_cons.mpr ⟨lf53_13_0, List.forall_mem_cons.mpr ⟨lf53_13_2, List.forall_mem_nil _⟩⟩⟩⟩⟩, List.forall_mem_nil _, List.forall_mem_nil _⟩
theorem ck3392 : trm lkC53 [0] 9 true [] (sn_b 3392).2.2.2 ((sn_b 3392).1.data.toList.map UInt8.toNat) (pm_prog.2 3392) 1 = true := by decide +kernel
theorem ch3392 : sn_chk 3392 := sn_mk (lk := lkC53) (B := [0]) (rt := 9) (ini := true) (ov := []) [b3392_0] lf53 ck3392 rfl rfl (by decide +kernel) (List.forall_mem_nil _) (fun _ _ => rfl) (sn_hq0 rfl)
theorem ck3393 : trm lkC53 [0, 22, 23] 2 false [] (sn_b 3393).2.2.2 ((sn_b 3393).1.data.toList.map UInt8.toNat) (pm_prog.2 3393) 3 = true := by decide +kernel
theorem ch3393 : sn_chk 3393 := sn_mk (lk := lkC53) (B := [0, 22, 23]) (rt := 2) (ini := false) (ov := []) [b3393_0, b3393_1, b3393_2] lf53 ck3393 rfl rfl (by decide +kernel) (List.forall_mem_nil _) (fun _ _ => rfl) (sn_hq0 rfl)
/-! TimberHouse$WorkPlans$Job -/
def lkC54 : lk_T := ([(43, 0), (241, 63), (295, 64513), (322, 55315), (512, 55296), (513, 55296), (640, 55304), (642, 55304)], [], [])
theorem lf54_1_11 : lk_ok "TimberHouse$WorkPlans$Job" 1 11 0 := (lw_g (lw_at lw_m15 5 rfl) rfl)
theorem lf54_7_17 : lk_ok "TimberHouse$WorkPlans$Job" 7 17 63 := ⟨by decide, Or.inl (by decide +kernel), (lw_g (lw_at lw_m15 6 rfl) rfl), (lw_g (lw_at lw_m3 25 rfl) rfl), (lw_g (lw_at lw_m1 14 rfl) rfl), rfl⟩
theorem lf54_9_7 : lk_ok "TimberHouse$WorkPlans$Job" 9 7 64513 := ⟨(lw_g (lw_at lw_m15 7 rfl) rfl), rfl, rfl, gd4032, rfl⟩
theorem lf54_10_2 : lk_ok "TimberHouse$WorkPlans$Job" 10 2 55315 := lk2 (ci := 54) (k := 2) rfl rfl rfl ⟨rfl, rfl, rfl, "TimberHouse$WorkPlans$Job", (lw_g (lw_at lw_m15 11 rfl) rfl), rfl⟩
theorem lf54_16_0 : lk_ok "TimberHouse$WorkPlans$Job" 16 0 55296 := lk0 (ci := 54) (k := 0) rfl rfl rfl ⟨"TimberHouse$WorkPlans$Job", Or.inl (lw_g (lw_at lw_m15 8 rfl) rfl), Or.inl rfl⟩
theorem lf54_16_1 : lk_ok "TimberHouse$WorkPlans$Job" 16 1 55296 := lk1 (ci := 54) (k := 0) rfl rfl rfl ⟨rfl, rfl, ⟨"TimberHouse$WorkPlans$Job", Or.inl (lw_g (lw_at lw_m15 8 rfl) rfl), Or.inl rfl⟩⟩
theorem lf54_20_0 : lk_ok "TimberHouse$WorkPlans$Job" 20 0 55304 := lk0 (ci := 54) (k := 1) rfl rfl rfl ⟨"TimberHouse$WorkPlans$Job", Or.inl (lw_g (lw_at lw_m15 10 rfl) rfl), Or.inl rfl⟩
theorem lf54_20_2 : lk_ok "TimberHouse$WorkPlans$Job" 20 2 55304 := lk2 (ci := 54) (k := 1) rfl rfl rfl ⟨rfl, rfl, rfl, "TimberHouse$WorkPlans$Job", (lw_g (lw_at lw_m15 10 rfl) rfl), rfl⟩
theorem lf54 : lk_sem "TimberHouse$WorkPlans$Job" lkC54 := ⟨List.forall_mem_cons.mpr ⟨lf54_1_11, List.forall_mem_cons.mpr ⟨lf54_7_17, List.forall_mem_cons.mpr ⟨lf54_9_7, List.forall_mem_cons.mpr ⟨lf54_10_2, List.forall_mem_cons.mpr ⟨lf54_16_0, List.forall_mem_cons.mpr ⟨lf54_16_1, List.forall_mem_cons.mpr ⟨lf54_20_0, List.forall_mem_cons.mpr ⟨lf54_20_2, List.forall_mem_nil _⟩⟩⟩⟩⟩⟩⟩⟩, List.forall_mem_nil _, List.forall_mem_nil _⟩
theorem ck3456 : trm lkC54 [0] 9 true [] (sn_b 3456).2.2.2 ((sn_b 3456).1.data.toList.map UInt8.toNat) (pm_prog.2 3456) 1 = true := by decide +kernel
theorem ch3456 : sn_chk 3456 := sn_mk (lk := lkC54) (B := [0]) (rt := 9) (ini := true) (ov := []) [b3456_0] lf54 ck3456 rfl rfl (by decide +kernel) (List.forall_mem_nil _) (fun _ _ => rfl) (sn_hq0 rfl)
theorem ck3457 : trm lkC54 [0, 22, 23] 0 false [] (sn_b 3457).2.2.2 ((sn_b 3457).1.data.toList.map UInt8.toNat) (pm_prog.2 3457) 3 = true := by decide +kernel
theorem ch3457 : sn_chk 3457 := sn_mk (lk := lkC54) (B := [0, 22, 23]) (rt := 0) (ini := false) (ov := []) [b3457_0, b3457_1, b3457_2] lf54 ck3457 rfl rfl (by decide +kernel) (List.forall_mem_nil _) (fun _ _ => rfl) (sn_hq0 rfl)
/-! TimberHouse$WorkPlans$Step -/
def lkC55 : lk_T := ([(43, 0), (226, 56320), (418, 56328), (514, 56336), (610, 56344)], [], [])
theorem lf55_1_11 : lk_ok "TimberHouse$WorkPlans$Step" 1 11 0 := (lw_g (lw_at lw_m7 51 rfl) rfl)
theorem lf55_7_2 : lk_ok "TimberHouse$WorkPlans$Step" 7 2 56320 := lk2 (ci := 55) (k := 0) rfl rfl rfl ⟨rfl, rfl, rfl, "TimberHouse$WorkPlans$Step", (lw_g (lw_at lw_m7 52 rfl) rfl), rfl⟩
theorem lf55_13_2 : lk_ok "TimberHouse$WorkPlans$Step" 13 2 56328 := lk2 (ci := 55) (k := 1) rfl rfl rfl ⟨rfl, rfl, rfl, "TimberHouse$WorkPlans$Step", (lw_g (lw_at lw_m7 55 rfl) rfl), rfl⟩
theorem lf55_16_2 : lk_ok "TimberHouse$WorkPlans$Step" 16 2 56336 := lk2 (ci := 55) (k := 2) rfl rfl rfl ⟨rfl, rfl, rfl, "TimberHouse$WorkPlans$Step", (lw_g (lw_at lw_m7 58 rfl) rfl), rfl⟩
theorem lf55_19_2 : lk_ok "TimberHouse$WorkPlans$Step" 19 2 56344 := lk2 (ci := 55) (k := 3) rfl rfl rfl ⟨rfl, rfl, rfl, "TimberHouse$WorkPlans$Step", (lw_g (lw_at lw_m7 61 rfl) rfl), rfl⟩
theorem lf55 : lk_sem "TimberHouse$WorkPlans$Step" lkC55 := ⟨List.forall_mem_cons.mpr ⟨lf55_1_11, List.forall_mem_cons.mpr ⟨lf55_7_2, List.forall_mem_cons.mpr ⟨lf55_13_2, List.forall_mem_cons.mpr ⟨lf55_16_2, List.forall_mem_cons.mpr ⟨lf55_19_2, List.forall_mem_nil _⟩⟩⟩⟩⟩, List.forall_mem_nil _, List.forall_mem_nil _⟩
theorem ck3520 : trm lkC55 [0] 9 true [] (sn_b 3520).2.2.2 ((sn_b 3520).1.data.toList.map UInt8.toNat) (pm_prog.2 3520) 1 = true := by decide +kernel
theorem ch3520 : sn_chk 3520 := sn_mk (lk := lkC55) (B := [0]) (rt := 9) (ini := true) (ov := []) [b3520_0] lf55 ck3520 rfl rfl (by decide +kernel) (List.forall_mem_nil _) (fun _ _ => rfl) (sn_hq0 rfl)
/-! TimberHouse$PriceLines$Line -/
def lkC56 : lk_T := ([(43, 0), (224, 57347), (226, 57347), (418, 57356)], [], [])
theorem lf56_1_11 : lk_ok "TimberHouse$PriceLines$Line" 1 11 0 := (lw_g (lw_at lw_m15 190 rfl) rfl)
theorem lf56_7_0 : lk_ok "TimberHouse$PriceLines$Line" 7 0 57347 := lk0 (ci := 56) (k := 0) rfl rfl rfl ⟨"TimberHouse$PriceLines$Line", Or.inl (lw_g (lw_at lw_m15 191 rfl) rfl), Or.inl rfl⟩
theorem lf56_7_2 : lk_ok "TimberHouse$PriceLines$Line" 7 2 57347 := lk2 (ci := 56) (k := 0) rfl rfl rfl ⟨rfl, rfl, rfl, "TimberHouse$PriceLines$Line", (lw_g (lw_at lw_m15 191 rfl) rfl), rfl⟩
theorem lf56_13_2 : lk_ok "TimberHouse$PriceLines$Line" 13 2 57356 := lk2 (ci := 56) (k := 1) rfl rfl rfl ⟨rfl, rfl, rfl, "TimberHouse$PriceLines$Line", (lw_g (lw_at lw_m15 193 rfl) rfl), rfl⟩
theorem lf56 : lk_sem "TimberHouse$PriceLines$Line" lkC56 := ⟨List.forall_mem_cons.mpr ⟨lf56_1_11, List.forall_mem_cons.mpr ⟨lf56_7_0, List.forall_mem_cons.mpr ⟨lf56_7_2, List.forall_mem_cons.mpr ⟨lf56_13_2, List.forall_mem_nil _⟩⟩⟩⟩, List.forall_mem_nil _, List.forall_mem_nil _⟩
theorem ck3584 : trm lkC56 [0, 14, 37] 9 true [] (sn_b 3584).2.2.2 ((sn_b 3584).1.data.toList.map UInt8.toNat) (pm_prog.2 3584) 3 = true := by decide +kernel
theorem ch3584 : sn_chk 3584 := sn_mk (lk := lkC56) (B := [0, 14, 37]) (rt := 9) (ini := true) (ov := []) [b3584_0, b3584_1, b3584_2] lf56 ck3584 rfl rfl (by decide +kernel) (List.forall_mem_nil _) (fun _ _ => rfl) (sn_hq0 rfl)
/-! TimberHouse$ShopDesks$Telling -/
def lkC57 : lk_T := ([(43, 0), (224, 58368), (226, 58368), (416, 58377), (418, 58377), (546, 58384), (642, 58392), (738, 58401), (832, 58409), (834, 58409)], [], [])
theorem lf57_1_11 : lk_ok "TimberHouse$ShopDesks$Telling" 1 11 0 := (lw_g (lw_at lw_m8 237 rfl) rfl)
theorem lf57_7_0 : lk_ok "TimberHouse$ShopDesks$Telling" 7 0 58368 := lk0 (ci := 57) (k := 0) rfl rfl rfl ⟨"TimberHouse$ShopDesks$Telling", Or.inl (lw_g (lw_at lw_m8 238 rfl) rfl), Or.inl rfl⟩
theorem lf57_7_2 : lk_ok "TimberHouse$ShopDesks$Telling" 7 2 58368 := lk2 (ci := 57) (k := 0) rfl rfl rfl ⟨rfl, rfl, rfl, "TimberHouse$ShopDesks$Telling", (lw_g (lw_at lw_m8 238 rfl) rfl), rfl⟩
theorem lf57_13_0 : lk_ok "TimberHouse$ShopDesks$Telling" 13 0 58377 := lk0 (ci := 57) (k := 1) rfl rfl rfl ⟨"TimberHouse$ShopDesks$Telling", Or.inl (lw_g (lw_at lw_m9 0 rfl) rfl), Or.inl rfl⟩
theorem lf57_13_2 : lk_ok "TimberHouse$ShopDesks$Telling" 13 2 58377 := lk2 (ci := 57) (k := 1) rfl rfl rfl ⟨rfl, rfl, rfl, "TimberHouse$ShopDesks$Telling", (lw_g (lw_at lw_m9 0 rfl) rfl), rfl⟩
theorem lf57_17_2 : lk_ok "TimberHouse$ShopDesks$Telling" 17 2 58384 := lk2 (ci := 57) (k := 2) rfl rfl rfl ⟨rfl, rfl, rfl, "TimberHouse$ShopDesks$Telling", (lw_g (lw_at lw_m9 2 rfl) rfl), rfl⟩
theorem lf57_20_2 : lk_ok "TimberHouse$ShopDesks$Telling" 20 2 58392 := lk2 (ci := 57) (k := 3) rfl rfl rfl ⟨rfl, rfl, rfl, "TimberHouse$ShopDesks$Telling", (lw_g (lw_at lw_m9 4 rfl) rfl), rfl⟩
theorem lf57_23_2 : lk_ok "TimberHouse$ShopDesks$Telling" 23 2 58401 := lk2 (ci := 57) (k := 4) rfl rfl rfl ⟨rfl, rfl, rfl, "TimberHouse$ShopDesks$Telling", (lw_g (lw_at lw_m9 6 rfl) rfl), rfl⟩
theorem lf57_26_0 : lk_ok "TimberHouse$ShopDesks$Telling" 26 0 58409 := lk0 (ci := 57) (k := 5) rfl rfl rfl ⟨"TimberHouse$ShopDesks$Telling", Or.inl (lw_g (lw_at lw_m9 9 rfl) rfl), Or.inl rfl⟩
theorem lf57_26_2 : lk_ok "TimberHouse$ShopDesks$Telling" 26 2 58409 := lk2 (ci := 57) (k := 5) rfl rfl rfl ⟨rfl, rfl, rfl, "TimberHouse$ShopDesks$Telling", (lw_g (lw_at lw_m9 9 rfl) rfl), rfl⟩
theorem lf57 : lk_sem "TimberHouse$ShopDesks$Telling" lkC57 := ⟨List.forall_mem_cons.mpr ⟨lf57_1_11, List.forall_mem_cons.mpr ⟨lf57_7_0, List.forall_mem_cons.mpr ⟨lf57_7_2, List.forall_mem_cons.mpr ⟨lf57_13_0, List.forall_mem_cons.mpr ⟨lf57_13_2, List.forall_mem_cons.mpr ⟨lf57_17_2, List.forall_mem_cons.mpr ⟨lf57_20_2, List.forall_mem_cons.mpr ⟨lf57_23_2, List.forall_mem_cons.mpr ⟨lf57_26_0, List.forall_mem_cons.mpr ⟨lf57_26_2, List.forall_mem_nil _⟩⟩⟩⟩⟩⟩⟩⟩⟩⟩, List.forall_mem_nil _, List.forall_mem_nil _⟩
theorem ck3648 : trm lkC57 [0] 9 true [] (sn_b 3648).2.2.2 ((sn_b 3648).1.data.toList.map UInt8.toNat) (pm_prog.2 3648) 1 = true := by decide +kernel
theorem ch3648 : sn_chk 3648 := sn_mk (lk := lkC57) (B := [0]) (rt := 9) (ini := true) (ov := []) [b3648_0] lf57 ck3648 rfl rfl (by decide +kernel) (List.forall_mem_nil _) (fun _ _ => rfl) (sn_hq0 rfl)
theorem ck3649 : trm lkC57 [0, 28, 32, 58, 62, 78, 79] 2 false [] (sn_b 3649).2.2.2 ((sn_b 3649).1.data.toList.map UInt8.toNat) (pm_prog.2 3649) 7 = true := by decide +kernel
theorem ch3649 : sn_chk 3649 := sn_mk (lk := lkC57) (B := [0, 28, 32, 58, 62, 78, 79]) (rt := 2) (ini := false) (ov := []) [b3649_0, b3649_1, b3649_2, b3649_3, b3649_4, b3649_5, b3649_6] lf57 ck3649 rfl rfl (by decide +kernel) (List.forall_mem_nil _) (fun _ _ => rfl) (sn_hq0 rfl)
/-! TimberHouse$ShopDesks$Bag -/
def lkC58 : lk_T := ([(107, 0), (288, 59403), (290, 59403), (480, 59411), (482, 59411), (609, 59424), (736, 59395), (738, 59395), (869, 59410), (992, 59416), (993, 59416), (1088, 58384), (1248, 58392), (1344, 58409), (1477, 58386), (1600, 58401), (1701, 59509), (1829, 59492), (1957, 59524), (2053, 59460), (2181, 59476)], [], [])
theorem lf58_3_11 : lk_ok "TimberHouse$ShopDesks$Bag" 3 11 0 := (lw_g (lw_at lw_m16 85 rfl) rfl)
theorem lf58_9_0 : lk_ok "TimberHouse$ShopDesks$Bag" 9 0 59403 := lk0 (ci := 58) (k := 1) rfl rfl rfl ⟨"TimberHouse$ShopDesks$Bag", Or.inl (lw_g (lw_at lw_m16 87 rfl) rfl), Or.inl rfl⟩
theorem lf58_9_2 : lk_ok "TimberHouse$ShopDesks$Bag" 9 2 59403 := lk2 (ci := 58) (k := 1) rfl rfl rfl ⟨rfl, rfl, rfl, "TimberHouse$ShopDesks$Bag", (lw_g (lw_at lw_m16 87 rfl) rfl), rfl⟩
theorem lf58_15_0 : lk_ok "TimberHouse$ShopDesks$Bag" 15 0 59411 := lk0 (ci := 58) (k := 2) rfl rfl rfl ⟨"TimberHouse$ShopDesks$Bag", Or.inl (lw_g (lw_at lw_m16 89 rfl) rfl), Or.inl rfl⟩
theorem lf58_15_2 : lk_ok "TimberHouse$ShopDesks$Bag" 15 2 59411 := lk2 (ci := 58) (k := 2) rfl rfl rfl ⟨rfl, rfl, rfl, "TimberHouse$ShopDesks$Bag", (lw_g (lw_at lw_m16 89 rfl) rfl), rfl⟩
theorem lf58_19_1 : lk_ok "TimberHouse$ShopDesks$Bag" 19 1 59424 := lk1 (ci := 58) (k := 4) rfl rfl rfl ⟨rfl, rfl, ⟨"TimberHouse$ShopDesks$Bag", Or.inl (lw_g (lw_at lw_m16 93 rfl) rfl), Or.inl rfl⟩⟩
theorem lf58_23_0 : lk_ok "TimberHouse$ShopDesks$Bag" 23 0 59395 := lk0 (ci := 58) (k := 0) rfl rfl rfl ⟨"TimberHouse$ShopDesks$Bag", Or.inl (lw_g (lw_at lw_m16 86 rfl) rfl), Or.inl rfl⟩
theorem lf58_23_2 : lk_ok "TimberHouse$ShopDesks$Bag" 23 2 59395 := lk2 (ci := 58) (k := 0) rfl rfl rfl ⟨rfl, rfl, rfl, "TimberHouse$ShopDesks$Bag", (lw_g (lw_at lw_m16 86 rfl) rfl), rfl⟩
theorem lf58_27_5 : lk_ok "TimberHouse$ShopDesks$Bag" 27 5 59410 := ⟨(lw_g (lw_at lw_m16 119 rfl) rfl), rfl, rfl, gd3713⟩
theorem lf58_31_0 : lk_ok "TimberHouse$ShopDesks$Bag" 31 0 59416 := lk0 (ci := 58) (k := 3) rfl rfl rfl ⟨"TimberHouse$ShopDesks$Bag", Or.inl (lw_g (lw_at lw_m16 91 rfl) rfl), Or.inl rfl⟩
theorem lf58_31_1 : lk_ok "TimberHouse$ShopDesks$Bag" 31 1 59416 := lk1 (ci := 58) (k := 3) rfl rfl rfl ⟨rfl, rfl, ⟨"TimberHouse$ShopDesks$Bag", Or.inl (lw_g (lw_at lw_m16 91 rfl) rfl), Or.inl rfl⟩⟩
theorem lf58_34_0 : lk_ok "TimberHouse$ShopDesks$Bag" 34 0 58384 := lk0 (ci := 57) (k := 2) rfl rfl rfl ⟨"TimberHouse$ShopDesks$Telling", Or.inr ⟨"TimberHouse", (lw_at lw_m9 3 rfl)⟩, Or.inl rfl⟩
theorem lf58_39_0 : lk_ok "TimberHouse$ShopDesks$Bag" 39 0 58392 := lk0 (ci := 57) (k := 3) rfl rfl rfl ⟨"TimberHouse$ShopDesks$Telling", Or.inr ⟨"TimberHouse", (lw_at lw_m9 5 rfl)⟩, Or.inl rfl⟩
theorem lf58_42_0 : lk_ok "TimberHouse$ShopDesks$Bag" 42 0 58409 := lk0 (ci := 57) (k := 5) rfl rfl rfl ⟨"TimberHouse$ShopDesks$Telling", Or.inr ⟨"TimberHouse", (lw_at lw_m9 10 rfl)⟩, Or.inl rfl⟩
theorem lf58_46_5 : lk_ok "TimberHouse$ShopDesks$Bag" 46 5 58386 := ⟨(lw_g (lw_at lw_m16 156 rfl) rfl), rfl, rfl, gd3649⟩
theorem lf58_50_0 : lk_ok "TimberHouse$ShopDesks$Bag" 50 0 58401 := lk0 (ci := 57) (k := 4) rfl rfl rfl ⟨"TimberHouse$ShopDesks$Telling", Or.inr ⟨"TimberHouse", (lw_at lw_m9 7 rfl)⟩, Or.inl rfl⟩
theorem lf58_53_5 : lk_ok "TimberHouse$ShopDesks$Bag" 53 5 59509 := ⟨(lw_g (lw_at lw_m16 152 rfl) rfl), rfl, rfl, gd3719⟩
theorem lf58_57_5 : lk_ok "TimberHouse$ShopDesks$Bag" 57 5 59492 := ⟨(lw_g (lw_at lw_m16 148 rfl) rfl), rfl, rfl, gd3718⟩
theorem lf58_61_5 : lk_ok "TimberHouse$ShopDesks$Bag" 61 5 59524 := ⟨(lw_g (lw_at lw_m16 160 rfl) rfl), rfl, rfl, gd3720⟩
theorem lf58_64_5 : lk_ok "TimberHouse$ShopDesks$Bag" 64 5 59460 := ⟨(lw_g (lw_at lw_m16 140 rfl) rfl), rfl, rfl, gd3716⟩
theorem lf58_68_5 : lk_ok "TimberHouse$ShopDesks$Bag" 68 5 59476 := ⟨(lw_g (lw_at lw_m16 144 rfl) rfl), rfl, rfl, gd3717⟩
theorem lf58 : lk_sem "TimberHouse$ShopDesks$Bag" lkC58 := ⟨List.forall_mem_cons.mpr ⟨lf58_3_11, List.forall_mem_cons.mpr ⟨lf58_9_0, List.forall_mem_cons.mpr ⟨lf58_9_2, List.forall_mem_cons.mpr ⟨lf58_15_0, List.forall_mem_cons.mpr ⟨lf58_15_2, List.forall_mem_cons.mpr ⟨lf58_19_1, List.forall_mem_cons.mpr ⟨lf58_23_0, List.forall_mem_cons.mpr ⟨lf58_23_2, List.forall_mem_cons.mpr ⟨lf58_27_5, List.forall_mem_cons.mpr ⟨lf58_31_0, List.forall_mem_cons.mpr ⟨lf58_31_1, List.forall_mem_cons.mpr ⟨lf58_34_0, List.forall_mem_cons.mpr ⟨lf58_39_0, List.forall_mem_cons.mpr ⟨lf58_42_0, List.forall_mem_cons.mpr ⟨lf58_46_5, List.forall_mem_cons.mpr ⟨lf58_50_0, List.forall_mem_cons.mpr ⟨lf58_53_5, List.forall_mem_cons.mpr ⟨lf58_57_5, List.forall_mem_cons.mpr ⟨lf58_61_5, List.forall_mem_cons.mpr ⟨lf58_64_5, List.forall_mem_cons.mpr ⟨lf58_68_5, List.forall_mem_nil _⟩⟩⟩⟩⟩⟩⟩⟩⟩⟩⟩⟩⟩⟩⟩⟩⟩⟩⟩⟩⟩, List.forall_mem_nil _, List.forall_mem_nil _⟩
theorem ck3712 : trm lkC58 [0] 9 true [] (sn_b 3712).2.2.2 ((sn_b 3712).1.data.toList.map UInt8.toNat) (pm_prog.2 3712) 1 = true := by decide +kernel
theorem ch3712 : sn_chk 3712 := sn_mk (lk := lkC58) (B := [0]) (rt := 9) (ini := true) (ov := []) [b3712_0] lf58 ck3712 rfl rfl (by decide +kernel) (List.forall_mem_nil _) (fun _ _ => rfl) (sn_hq0 rfl)
theorem ck3713 : trm lkC58 [0, 22, 23] 2 false [] (sn_b 3713).2.2.2 ((sn_b 3713).1.data.toList.map UInt8.toNat) (pm_prog.2 3713) 3 = true := by decide +kernel
theorem ch3713 : sn_chk 3713 := sn_mk (lk := lkC58) (B := [0, 22, 23]) (rt := 2) (ini := false) (ov := []) [b3713_0, b3713_1, b3713_2] lf58 ck3713 rfl rfl (by decide +kernel) (List.forall_mem_nil _) (fun _ _ => rfl) (sn_hq0 rfl)
theorem ck3714 : trm lkC58 [0, 12, 13, 51] 2 false [] (sn_b 3714).2.2.2 ((sn_b 3714).1.data.toList.map UInt8.toNat) (pm_prog.2 3714) 4 = true := by decide +kernel
theorem ch3714 : sn_chk 3714 := sn_mk (lk := lkC58) (B := [0, 12, 13, 51]) (rt := 2) (ini := false) (ov := []) [b3714_0, b3714_1, b3714_2, b3714_3] lf58 ck3714 rfl rfl (by decide +kernel) (List.forall_mem_nil _) (fun _ _ => rfl) (sn_hq0 rfl)
theorem ck3715 : trm lkC58 [0, 13, 31, 51, 52, 66, 67, 83, 88] 1 false [] (sn_b 3715).2.2.2 ((sn_b 3715).1.data.toList.map UInt8.toNat) (pm_prog.2 3715) 9 = true := by decide +kernel
theorem ch3715 : sn_chk 3715 := sn_mk (lk := lkC58) (B := [0, 13, 31, 51, 52, 66, 67, 83, 88]) (rt := 1) (ini := false) (ov := []) [b3715_0, b3715_1, b3715_2, b3715_3, b3715_4, b3715_5, b3715_6, b3715_7, b3715_8] lf58 ck3715 rfl rfl (by decide +kernel) (List.forall_mem_nil _) (fun _ _ => rfl) (sn_hq0 rfl)
theorem ck3716 : trm lkC58 [0, 6, 63, 64, 73] 1 false [] (sn_b 3716).2.2.2 ((sn_b 3716).1.data.toList.map UInt8.toNat) (pm_prog.2 3716) 5 = true := by decide +kernel
theorem ch3716 : sn_chk 3716 := sn_mk (lk := lkC58) (B := [0, 6, 63, 64, 73]) (rt := 1) (ini := false) (ov := []) [b3716_0, b3716_1, b3716_2, b3716_3, b3716_4] lf58 ck3716 rfl rfl (by decide +kernel) (List.forall_mem_nil _) (fun _ _ => rfl) (sn_hq0 rfl)
theorem ck3717 : trm lkC58 [0, 24, 25] 2 false [] (sn_b 3717).2.2.2 ((sn_b 3717).1.data.toList.map UInt8.toNat) (pm_prog.2 3717) 3 = true := by decide +kernel
theorem ch3717 : sn_chk 3717 := sn_mk (lk := lkC58) (B := [0, 24, 25]) (rt := 2) (ini := false) (ov := []) [b3717_0, b3717_1, b3717_2] lf58 ck3717 rfl rfl (by decide +kernel) (List.forall_mem_nil _) (fun _ _ => rfl) (sn_hq0 rfl)
theorem ck3718 : trm lkC58 [0, 16, 89, 90, 99] 2 false [] (sn_b 3718).2.2.2 ((sn_b 3718).1.data.toList.map UInt8.toNat) (pm_prog.2 3718) 5 = true := by decide +kernel
theorem ch3718 : sn_chk 3718 := sn_mk (lk := lkC58) (B := [0, 16, 89, 90, 99]) (rt := 2) (ini := false) (ov := []) [b3718_0, b3718_1, b3718_2, b3718_3, b3718_4] lf58 ck3718 rfl rfl (by decide +kernel) (List.forall_mem_nil _) (fun _ _ => rfl) (sn_hq0 rfl)
theorem ck3719 : trm lkC58 [0, 6, 70, 74, 80] 3 false [] (sn_b 3719).2.2.2 ((sn_b 3719).1.data.toList.map UInt8.toNat) (pm_prog.2 3719) 5 = true := by decide +kernel
theorem ch3719 : sn_chk 3719 := sn_mk (lk := lkC58) (B := [0, 6, 70, 74, 80]) (rt := 3) (ini := false) (ov := []) [b3719_0, b3719_1, b3719_2, b3719_3, b3719_4] lf58 ck3719 rfl rfl (by decide +kernel) (List.forall_mem_nil _) (fun _ _ => rfl) (sn_hq0 rfl)
theorem ck3720 : trm lkC58 [0, 44, 48, 49] 2 false [] (sn_b 3720).2.2.2 ((sn_b 3720).1.data.toList.map UInt8.toNat) (pm_prog.2 3720) 4 = true := by decide +kernel
theorem ch3720 : sn_chk 3720 := sn_mk (lk := lkC58) (B := [0, 44, 48, 49]) (rt := 2) (ini := false) (ov := []) [b3720_0, b3720_1, b3720_2, b3720_3] lf58 ck3720 rfl rfl (by decide +kernel) (List.forall_mem_nil _) (fun _ _ => rfl) (sn_hq0 rfl)
/-! TimberHouse$ShopDesks$Entry -/
def lkC59 : lk_T := ([(43, 0), (224, 60427), (226, 60427), (416, 60435), (418, 60435), (546, 60416), (672, 60440), (673, 60440)], [], [])
theorem lf59_1_11 : lk_ok "TimberHouse$ShopDesks$Entry" 1 11 0 := (lw_g (lw_at lw_m8 164 rfl) rfl)
theorem lf59_7_0 : lk_ok "TimberHouse$ShopDesks$Entry" 7 0 60427 := lk0 (ci := 59) (k := 1) rfl rfl rfl ⟨"TimberHouse$ShopDesks$Entry", Or.inl (lw_g (lw_at lw_m8 167 rfl) rfl), Or.inl rfl⟩
theorem lf59_7_2 : lk_ok "TimberHouse$ShopDesks$Entry" 7 2 60427 := lk2 (ci := 59) (k := 1) rfl rfl rfl ⟨rfl, rfl, rfl, "TimberHouse$ShopDesks$Entry", (lw_g (lw_at lw_m8 167 rfl) rfl), rfl⟩
theorem lf59_13_0 : lk_ok "TimberHouse$ShopDesks$Entry" 13 0 60435 := lk0 (ci := 59) (k := 2) rfl rfl rfl ⟨"TimberHouse$ShopDesks$Entry", Or.inl (lw_g (lw_at lw_m8 169 rfl) rfl), Or.inl rfl⟩
theorem lf59_13_2 : lk_ok "TimberHouse$ShopDesks$Entry" 13 2 60435 := lk2 (ci := 59) (k := 2) rfl rfl rfl ⟨rfl, rfl, rfl, "TimberHouse$ShopDesks$Entry", (lw_g (lw_at lw_m8 169 rfl) rfl), rfl⟩
theorem lf59_17_2 : lk_ok "TimberHouse$ShopDesks$Entry" 17 2 60416 := lk2 (ci := 59) (k := 0) rfl rfl rfl ⟨rfl, rfl, rfl, "TimberHouse$ShopDesks$Entry", (lw_g (lw_at lw_m8 165 rfl) rfl), rfl⟩
theorem lf59_21_0 : lk_ok "TimberHouse$ShopDesks$Entry" 21 0 60440 := lk0 (ci := 59) (k := 3) rfl rfl rfl ⟨"TimberHouse$ShopDesks$Entry", Or.inl (lw_g (lw_at lw_m8 171 rfl) rfl), Or.inl rfl⟩
theorem lf59_21_1 : lk_ok "TimberHouse$ShopDesks$Entry" 21 1 60440 := lk1 (ci := 59) (k := 3) rfl rfl rfl ⟨rfl, rfl, ⟨"TimberHouse$ShopDesks$Entry", Or.inl (lw_g (lw_at lw_m8 171 rfl) rfl), Or.inl rfl⟩⟩
theorem lf59 : lk_sem "TimberHouse$ShopDesks$Entry" lkC59 := ⟨List.forall_mem_cons.mpr ⟨lf59_1_11, List.forall_mem_cons.mpr ⟨lf59_7_0, List.forall_mem_cons.mpr ⟨lf59_7_2, List.forall_mem_cons.mpr ⟨lf59_13_0, List.forall_mem_cons.mpr ⟨lf59_13_2, List.forall_mem_cons.mpr ⟨lf59_17_2, List.forall_mem_cons.mpr ⟨lf59_21_0, List.forall_mem_cons.mpr ⟨lf59_21_1, List.forall_mem_nil _⟩⟩⟩⟩⟩⟩⟩⟩, List.forall_mem_nil _, List.forall_mem_nil _⟩
theorem ck3776 : trm lkC59 [0] 9 true [] (sn_b 3776).2.2.2 ((sn_b 3776).1.data.toList.map UInt8.toNat) (pm_prog.2 3776) 1 = true := by decide +kernel
theorem ch3776 : sn_chk 3776 := sn_mk (lk := lkC59) (B := [0]) (rt := 9) (ini := true) (ov := []) [b3776_0] lf59 ck3776 rfl rfl (by decide +kernel) (List.forall_mem_nil _) (fun _ _ => rfl) (sn_hq0 rfl)
theorem ck3777 : trm lkC59 [0] 9 false [] (sn_b 3777).2.2.2 ((sn_b 3777).1.data.toList.map UInt8.toNat) (pm_prog.2 3777) 1 = true := by decide +kernel
theorem ch3777 : sn_chk 3777 := sn_mk (lk := lkC59) (B := [0]) (rt := 9) (ini := false) (ov := []) [b3777_0] lf59 ck3777 rfl rfl (by decide +kernel) (List.forall_mem_nil _) (fun _ _ => rfl) (sn_hq0 rfl)
theorem ck3778 : trm lkC59 [0, 4, 27] 1 false [] (sn_b 3778).2.2.2 ((sn_b 3778).1.data.toList.map UInt8.toNat) (pm_prog.2 3778) 3 = true := by decide +kernel
theorem ch3778 : sn_chk 3778 := sn_mk (lk := lkC59) (B := [0, 4, 27]) (rt := 1) (ini := false) (ov := []) [b3778_0, b3778_1, b3778_2] lf59 ck3778 rfl rfl (by decide +kernel) (List.forall_mem_nil _) (fun _ _ => rfl) (sn_hq0 rfl)
/-! java/lang/Math -/
def lkC60 : lk_T := ([], [], [])
theorem lf60 : lk_sem "java/lang/Math" lkC60 := ⟨List.forall_mem_nil _, List.forall_mem_nil _, List.forall_mem_nil _⟩
theorem ck3840 : trm lkC60 [0, 9, 10] 0 false [] (sn_b 3840).2.2.2 ((sn_b 3840).1.data.toList.map UInt8.toNat) (pm_prog.2 3840) 3 = true := by decide +kernel
theorem ch3840 : sn_chk 3840 := sn_mk (lk := lkC60) (B := [0, 9, 10]) (rt := 0) (ini := false) (ov := []) [b3840_0, b3840_1, b3840_2] lf60 ck3840 rfl rfl (by decide +kernel) (List.forall_mem_nil _) (fun _ _ => rfl) (sn_hq0 rfl)
theorem ck3841 : trm lkC60 [0, 9, 10] 0 false [] (sn_b 3841).2.2.2 ((sn_b 3841).1.data.toList.map UInt8.toNat) (pm_prog.2 3841) 3 = true := by decide +kernel
theorem ch3841 : sn_chk 3841 := sn_mk (lk := lkC60) (B := [0, 9, 10]) (rt := 0) (ini := false) (ov := []) [b3841_0, b3841_1, b3841_2] lf60 ck3841 rfl rfl (by decide +kernel) (List.forall_mem_nil _) (fun _ _ => rfl) (sn_hq0 rfl)
theorem ck3842 : trm lkC60 [0, 10, 11] 1 false [] (sn_b 3842).2.2.2 ((sn_b 3842).1.data.toList.map UInt8.toNat) (pm_prog.2 3842) 3 = true := by decide +kernel
theorem ch3842 : sn_chk 3842 := sn_mk (lk := lkC60) (B := [0, 10, 11]) (rt := 1) (ini := false) (ov := []) [b3842_0, b3842_1, b3842_2] lf60 ck3842 rfl rfl (by decide +kernel) (List.forall_mem_nil _) (fun _ _ => rfl) (sn_hq0 rfl)
theorem ck3843 : trm lkC60 [0, 10, 11] 1 false [] (sn_b 3843).2.2.2 ((sn_b 3843).1.data.toList.map UInt8.toNat) (pm_prog.2 3843) 3 = true := by decide +kernel
theorem ch3843 : sn_chk 3843 := sn_mk (lk := lkC60) (B := [0, 10, 11]) (rt := 1) (ini := false) (ov := []) [b3843_0, b3843_1, b3843_2] lf60 ck3843 rfl rfl (by decide +kernel) (List.forall_mem_nil _) (fun _ _ => rfl) (sn_hq0 rfl)
theorem ck3844 : trm lkC60 [0, 9, 10] 0 false [] (sn_b 3844).2.2.2 ((sn_b 3844).1.data.toList.map UInt8.toNat) (pm_prog.2 3844) 3 = true := by decide +kernel
theorem ch3844 : sn_chk 3844 := sn_mk (lk := lkC60) (B := [0, 9, 10]) (rt := 0) (ini := false) (ov := []) [b3844_0, b3844_1, b3844_2] lf60 ck3844 rfl rfl (by decide +kernel) (List.forall_mem_nil _) (fun _ _ => rfl) (sn_hq0 rfl)
theorem ck3845 : trm lkC60 [0, 21] 0 false [] (sn_b 3845).2.2.2 ((sn_b 3845).1.data.toList.map UInt8.toNat) (pm_prog.2 3845) 2 = true := by decide +kernel
theorem ch3845 : sn_chk 3845 := sn_mk (lk := lkC60) (B := [0, 21]) (rt := 0) (ini := false) (ov := []) [b3845_0, b3845_1] lf60 ck3845 rfl rfl (by decide +kernel) (List.forall_mem_nil _) (fun _ _ => rfl) (sn_hq0 rfl)
theorem ck3846 : trm lkC60 [0, 27] 1 false [] (sn_b 3846).2.2.2 ((sn_b 3846).1.data.toList.map UInt8.toNat) (pm_prog.2 3846) 2 = true := by decide +kernel
theorem ch3846 : sn_chk 3846 := sn_mk (lk := lkC60) (B := [0, 27]) (rt := 1) (ini := false) (ov := []) [b3846_0, b3846_1] lf60 ck3846 rfl rfl (by decide +kernel) (List.forall_mem_nil _) (fun _ _ => rfl) (sn_hq0 rfl)
/-! java/util/AbstractCollection -/
def lkC61 : lk_T := ([(43, 0)], [], [])
theorem lf61_1_11 : lk_ok "java/util/AbstractCollection" 1 11 0 := (lw_g (lw_at lw_m3 35 rfl) rfl)
theorem lf61 : lk_sem "java/util/AbstractCollection" lkC61 := ⟨List.forall_mem_cons.mpr ⟨lf61_1_11, List.forall_mem_nil _⟩, List.forall_mem_nil _, List.forall_mem_nil _⟩
theorem ck3904 : trm lkC61 [0] 9 true [] (sn_b 3904).2.2.2 ((sn_b 3904).1.data.toList.map UInt8.toNat) (pm_prog.2 3904) 1 = true := by decide +kernel
theorem ch3904 : sn_chk 3904 := sn_mk (lk := lkC61) (B := [0]) (rt := 9) (ini := true) (ov := []) [b3904_0] lf61 ck3904 rfl rfl (by decide +kernel) (List.forall_mem_nil _) (fun _ _ => rfl) (sn_hq0 rfl)
/-! java/util/AbstractList -/
def lkC62 : lk_T := ([(39, 62465), (225, 63488)], [], [])
theorem lf62_1_7 : lk_ok "java/util/AbstractList" 1 7 62465 := ⟨(lw_g (lw_at lw_m3 32 rfl) rfl), rfl, rfl, gd3904, rfl⟩
theorem lf62_7_1 : lk_ok "java/util/AbstractList" 7 1 63488 := lk1a rfl (k := 0) rfl ⟨rfl, rfl, ⟨"java/util/AbstractList", Or.inl (lw_g (lw_at lw_m3 40 rfl) rfl), Or.inl rfl⟩⟩
theorem lf62 : lk_sem "java/util/AbstractList" lkC62 := ⟨List.forall_mem_cons.mpr ⟨lf62_1_7, List.forall_mem_cons.mpr ⟨lf62_7_1, List.forall_mem_nil _⟩⟩, List.forall_mem_nil _, List.forall_mem_nil _⟩
theorem ck3968 : trm lkC62 [0] 9 true [] (sn_b 3968).2.2.2 ((sn_b 3968).1.data.toList.map UInt8.toNat) (pm_prog.2 3968) 1 = true := by decide +kernel
theorem ch3968 : sn_chk 3968 := sn_mk (lk := lkC62) (B := [0]) (rt := 9) (ini := true) (ov := []) [b3968_0] lf62 ck3968 rfl rfl (by decide +kernel) (List.forall_mem_nil _) (fun _ _ => rfl) (sn_hq0 rfl)
/-! java/util/ArrayList -/
def lkC63 : lk_T := ([(39, 63489), (244, 0), (288, 64523), (289, 64523), (1271, 0), (1536, 64528), (1537, 64528), (2016, 64512), (2017, 64512), (2125, 0), (2213, 64626), (2339, 73731), (2531, 61458), (3779, 75778), (3941, 64562), (4133, 64609), (4197, 64596)], [], [])
theorem lf63_1_7 : lk_ok "java/util/ArrayList" 1 7 63489 := ⟨(lw_g (lw_at lw_m3 29 rfl) rfl), rfl, rfl, gd3968, rfl⟩
theorem lf63_7_20 : lk_ok "java/util/ArrayList" 7 20 0 := Or.inl ⟨_, rfl, by decide +kernel, (lw_g (lw_at lw_m7 177 rfl) rfl), (lw_at lw_m7 170 rfl)⟩
theorem lf63_9_0 : lk_ok "java/util/ArrayList" 9 0 64523 := lk0 (ci := 63) (k := 1) rfl rfl rfl ⟨"java/util/ArrayList", Or.inl (lw_g (lw_at lw_m3 38 rfl) rfl), Or.inl rfl⟩
theorem lf63_9_1 : lk_ok "java/util/ArrayList" 9 1 64523 := lk1 (ci := 63) (k := 1) rfl rfl rfl ⟨rfl, rfl, ⟨"java/util/ArrayList", Or.inl (lw_g (lw_at lw_m3 38 rfl) rfl), Or.inl rfl⟩⟩
theorem lf63_39_23 : lk_ok "java/util/ArrayList" 39 23 0 := Or.inl ⟨rfl, (lw_g (lw_at lw_m3 36 rfl) rfl)⟩
theorem lf63_48_0 : lk_ok "java/util/ArrayList" 48 0 64528 := lk0 (ci := 63) (k := 2) rfl rfl rfl ⟨"java/util/ArrayList", Or.inl (lw_g (lw_at lw_m3 39 rfl) rfl), Or.inl rfl⟩
theorem lf63_48_1 : lk_ok "java/util/ArrayList" 48 1 64528 := lk1 (ci := 63) (k := 2) rfl rfl rfl ⟨rfl, rfl, ⟨"java/util/ArrayList", Or.inl (lw_g (lw_at lw_m3 39 rfl) rfl), Or.inl rfl⟩⟩
theorem lf63_63_0 : lk_ok "java/util/ArrayList" 63 0 64512 := lk0 (ci := 63) (k := 0) rfl rfl rfl ⟨"java/util/ArrayList", Or.inl (lw_g (lw_at lw_m3 41 rfl) rfl), Or.inr (lw_g (lw_at lw_m3 42 rfl) rfl)⟩
theorem lf63_63_1 : lk_ok "java/util/ArrayList" 63 1 64512 := lk1 (ci := 63) (k := 0) rfl rfl rfl ⟨rfl, rfl, ⟨"java/util/ArrayList", Or.inl (lw_g (lw_at lw_m3 41 rfl) rfl), Or.inr (lw_g (lw_at lw_m3 42 rfl) rfl)⟩⟩
theorem lf63_66_13 : lk_ok "java/util/ArrayList" 66 13 0 := (lw_g (lw_at lw_m7 97 rfl) rfl)
theorem lf63_69_5 : lk_ok "java/util/ArrayList" 69 5 64626 := ⟨(lw_g (lw_at lw_m7 85 rfl) rfl), rfl, rfl, gd4039⟩
theorem lf63_73_3 : lk_ok "java/util/ArrayList" 73 3 73731 := ⟨(lw_g (lw_at lw_m7 89 rfl) rfl), rfl, rfl, gd4608⟩
theorem lf63_79_3 : lk_ok "java/util/ArrayList" 79 3 61458 := ⟨(lw_g (lw_at lw_m7 176 rfl) rfl), rfl, rfl, gd3841⟩
theorem lf63_118_3 : lk_ok "java/util/ArrayList" 118 3 75778 := ⟨(lw_g (lw_at lw_m7 30 rfl) rfl), rfl, rfl, gd4736⟩
theorem lf63_123_5 : lk_ok "java/util/ArrayList" 123 5 64562 := ⟨(lw_g (lw_at lw_m7 36 rfl) rfl), rfl, rfl, gd4035⟩
theorem lf63_129_5 : lk_ok "java/util/ArrayList" 129 5 64609 := ⟨(lw_g (lw_at lw_m7 81 rfl) rfl), rfl, rfl, gd4038⟩
theorem lf63_131_5 : lk_ok "java/util/ArrayList" 131 5 64596 := ⟨(lw_g (lw_at lw_m7 77 rfl) rfl), rfl, rfl, gd4037⟩
theorem lf63 : lk_sem "java/util/ArrayList" lkC63 := ⟨List.forall_mem_cons.mpr ⟨lf63_1_7, List.forall_mem_cons.mpr ⟨lf63_7_20, List.forall_mem_cons.mpr ⟨lf63_9_0, List.forall_mem_cons.mpr ⟨lf63_9_1, List.forall_mem_cons.mpr ⟨lf63_39_23, List.forall_mem_cons.mpr ⟨lf63_48_0, List.forall_mem_cons.mpr ⟨lf63_48_1, List.forall_mem_cons.mpr ⟨lf63_63_0, List.forall_mem_cons.mpr ⟨lf63_63_1, List.forall_mem_cons.mpr ⟨lf63_66_13, List.forall_mem_cons.mpr ⟨lf63_69_5, List.forall_mem_cons.mpr ⟨lf63_73_3, List.forall_mem_cons.mpr ⟨lf63_79_3, List.forall_mem_cons.mpr ⟨lf63_118_3, List.forall_mem_cons.mpr ⟨lf63_123_5, List.forall_mem_cons.mpr ⟨lf63_129_5, List.forall_mem_cons.mpr ⟨lf63_131_5, List.forall_mem_nil _⟩⟩⟩⟩⟩⟩⟩⟩⟩⟩⟩⟩⟩⟩⟩⟩⟩, List.forall_mem_nil _, List.forall_mem_nil _⟩
theorem ck4032 : trm lkC63 [0] 9 true [] (sn_b 4032).2.2.2 ((sn_b 4032).1.data.toList.map UInt8.toNat) (pm_prog.2 4032) 1 = true := by decide +kernel
theorem ch4032 : sn_chk 4032 := sn_mk (lk := lkC63) (B := [0]) (rt := 9) (ini := true) (ov := []) [b4032_0] lf63 ck4032 rfl rfl (by decide +kernel) (List.forall_mem_nil _) (fun _ _ => rfl) (sn_hq0 rfl)
theorem ck4033 : trm lkC63 [0] 0 false [] (sn_b 4033).2.2.2 ((sn_b 4033).1.data.toList.map UInt8.toNat) (pm_prog.2 4033) 1 = true := by decide +kernel
theorem ch4033 : sn_chk 4033 := sn_mk (lk := lkC63) (B := [0]) (rt := 0) (ini := false) (ov := []) [b4033_0] lf63 ck4033 rfl rfl (by decide +kernel) (List.forall_mem_nil _) (fun _ _ => rfl) (sn_hq0 rfl)
theorem ck4034 : trm lkC63 [0] 3 false [] (sn_b 4034).2.2.2 ((sn_b 4034).1.data.toList.map UInt8.toNat) (pm_prog.2 4034) 1 = true := by decide +kernel
theorem ch4034 : sn_chk 4034 := sn_mk (lk := lkC63) (B := [0]) (rt := 3) (ini := false) (ov := []) [b4034_0] lf63 ck4034 rfl rfl (by decide +kernel) (List.forall_mem_nil _) (fun _ _ => rfl) (sn_hq0 rfl)
theorem ck4035 : trm lkC63 [0] 3 false [] (sn_b 4035).2.2.2 ((sn_b 4035).1.data.toList.map UInt8.toNat) (pm_prog.2 4035) 1 = true := by decide +kernel
theorem ch4035 : sn_chk 4035 := sn_mk (lk := lkC63) (B := [0]) (rt := 3) (ini := false) (ov := []) [b4035_0] lf63 ck4035 rfl rfl (by decide +kernel) (List.forall_mem_nil _) (fun _ _ => rfl) (sn_hq0 rfl)
theorem ck4036 : trm lkC63 [0] 2 false [] (sn_b 4036).2.2.2 ((sn_b 4036).1.data.toList.map UInt8.toNat) (pm_prog.2 4036) 1 = true := by decide +kernel
theorem ch4036 : sn_chk 4036 := sn_mk (lk := lkC63) (B := [0]) (rt := 2) (ini := false) (ov := []) [b4036_0] lf63 ck4036 rfl rfl (by decide +kernel) (List.forall_mem_nil _) (fun _ _ => rfl) (sn_hq0 rfl)
theorem ck4037 : trm lkC63 [0, 11] 9 false [] (sn_b 4037).2.2.2 ((sn_b 4037).1.data.toList.map UInt8.toNat) (pm_prog.2 4037) 2 = true := by decide +kernel
theorem ch4037 : sn_chk 4037 := sn_mk (lk := lkC63) (B := [0, 11]) (rt := 9) (ini := false) (ov := []) [b4037_0, b4037_1] lf63 ck4037 rfl rfl (by decide +kernel) (List.forall_mem_nil _) (fun _ _ => rfl) (sn_hq0 rfl)
theorem ck4038 : trm lkC63 [0] 3 false [] (sn_b 4038).2.2.2 ((sn_b 4038).1.data.toList.map UInt8.toNat) (pm_prog.2 4038) 1 = true := by decide +kernel
theorem ch4038 : sn_chk 4038 := sn_mk (lk := lkC63) (B := [0]) (rt := 3) (ini := false) (ov := []) [b4038_0] lf63 ck4038 rfl rfl (by decide +kernel) (List.forall_mem_nil _) (fun _ _ => rfl) (sn_hq0 rfl)
theorem ck4039 : trm lkC63 [0, 20, 45] 3 false [] (sn_b 4039).2.2.2 ((sn_b 4039).1.data.toList.map UInt8.toNat) (pm_prog.2 4039) 3 = true := by decide +kernel
theorem ch4039 : sn_chk 4039 := sn_mk (lk := lkC63) (B := [0, 20, 45]) (rt := 3) (ini := false) (ov := []) [b4039_0, b4039_1, b4039_2] lf63 ck4039 rfl rfl (by decide +kernel) (List.forall_mem_nil _) (fun _ _ => rfl) (sn_hq0 rfl)
theorem ck4040 : trm lkC63 [0, 11, 12] 2 false [] (sn_b 4040).2.2.2 ((sn_b 4040).1.data.toList.map UInt8.toNat) (pm_prog.2 4040) 3 = true := by decide +kernel
theorem ch4040 : sn_chk 4040 := sn_mk (lk := lkC63) (B := [0, 11, 12]) (rt := 2) (ini := false) (ov := []) [b4040_0, b4040_1, b4040_2] lf63 ck4040 rfl rfl (by decide +kernel) (List.forall_mem_nil _) (fun _ _ => rfl) (sn_hq0 rfl)
/-! jdk/internal/util/ArraysSupport -/
def lkC72 : lk_T := ([(6211, 61458), (6435, 73746)], [(200, 2147483639)], [])
theorem lf72_194_3 : lk_ok "jdk/internal/util/ArraysSupport" 194 3 61458 := ⟨(lw_g (lw_at lw_m7 92 rfl) rfl), rfl, rfl, gd3841⟩
theorem lf72_201_3 : lk_ok "jdk/internal/util/ArraysSupport" 201 3 73746 := ⟨(lw_g (lw_at lw_m7 94 rfl) rfl), rfl, rfl, gd4609⟩
theorem lf72 : lk_sem "jdk/internal/util/ArraysSupport" lkC72 := ⟨List.forall_mem_cons.mpr ⟨lf72_194_3, List.forall_mem_cons.mpr ⟨lf72_201_3, List.forall_mem_nil _⟩⟩, List.forall_mem_cons.mpr ⟨(lw_g (lw_at lw_m7 93 rfl) rfl), List.forall_mem_nil _⟩, List.forall_mem_nil _⟩
theorem ck4608 : trm lkC72 [0, 21] 0 false [] (sn_b 4608).2.2.2 ((sn_b 4608).1.data.toList.map UInt8.toNat) (pm_prog.2 4608) 2 = true := by decide +kernel
theorem ch4608 : sn_chk 4608 := sn_mk (lk := lkC72) (B := [0, 21]) (rt := 0) (ini := false) (ov := []) [b4608_0, b4608_1] lf72 ck4608 rfl rfl (by decide +kernel) (List.forall_mem_nil _) (fun _ _ => rfl) (sn_hq0 rfl)
theorem ck4609 : trm lkC72 [0, 49, 58] 0 false [] (sn_b 4609).2.2.2 ((sn_b 4609).1.data.toList.map UInt8.toNat) (pm_prog.2 4609) 3 = true := by decide +kernel
theorem ch4609 : sn_chk 4609 := sn_mk (lk := lkC72) (B := [0, 49, 58]) (rt := 0) (ini := false) (ov := []) [b4609_0, b4609_1, b4609_2] lf72 ck4609 rfl rfl (by decide +kernel) (List.forall_mem_nil _) (fun _ _ => rfl) (sn_hq0 rfl)
/-! java/util/Objects -/
def lkC74 : lk_T := ([(3363, 76803)], [], [])
theorem lf74_105_3 : lk_ok "java/util/Objects" 105 3 76803 := ⟨(lw_g (lw_at lw_m7 33 rfl) rfl), rfl, rfl, gd4800⟩
theorem lf74 : lk_sem "java/util/Objects" lkC74 := ⟨List.forall_mem_cons.mpr ⟨lf74_105_3, List.forall_mem_nil _⟩, List.forall_mem_nil _, List.forall_mem_nil _⟩
theorem ck4736 : trm lkC74 [0] 0 false [] (sn_b 4736).2.2.2 ((sn_b 4736).1.data.toList.map UInt8.toNat) (pm_prog.2 4736) 1 = true := by decide +kernel
theorem ch4736 : sn_chk 4736 := sn_mk (lk := lkC74) (B := [0]) (rt := 0) (ini := false) (ov := []) [b4736_0] lf74 ck4736 rfl rfl (by decide +kernel) (List.forall_mem_nil _) (fun _ _ => rfl) (sn_hq0 rfl)
/-! jdk/internal/util/Preconditions -/
def lkC75 : lk_T := ([], [], [])
theorem lf75 : lk_sem "jdk/internal/util/Preconditions" lkC75 := ⟨List.forall_mem_nil _, List.forall_mem_nil _, List.forall_mem_nil _⟩
theorem ck4800 : trm lkC75 [0, 9, 16] 0 false [] (sn_b 4800).2.2.2 ((sn_b 4800).1.data.toList.map UInt8.toNat) (pm_prog.2 4800) 3 = true := by decide +kernel
theorem ch4800 : sn_chk 4800 := sn_mk (lk := lkC75) (B := [0, 9, 16]) (rt := 0) (ini := false) (ov := []) [b4800_0, b4800_1, b4800_2] lf75 ck4800 rfl rfl (by decide +kernel) (List.forall_mem_nil _) (fun _ _ => rfl) (sn_hq0 rfl)
