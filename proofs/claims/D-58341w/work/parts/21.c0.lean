/-! the component and the JDK, decompiled: written by gen/dec.py -/
set_option maxRecDepth 100000
theorem gf_J23_205 : GFR RJ23 205 18 0 := ⟨RJ23, TJ23, 1, "java/lang/Integer", ci_18, by decide, q1731, Or.inl rfl⟩
theorem gw_J23_205 : GF RJ23 205 18 0 true := ⟨RJ23, TJ23, 1, "java/lang/Integer", ci_18, by decide, q1731, Or.inl rfl, rfl, (fun _ => rfl)⟩
theorem gw_J35_1 : GF RJ35 1 10 3 true := ⟨RJ35, TJ35, 4, "java/util/ArrayList$Itr", ci_10, by decide, q795, Or.inl rfl, rfl, (fun _ => rfl)⟩
theorem gw_J35_13 : GF RJ35 13 10 1 false := ⟨RJ35, TJ35, 4, "java/util/ArrayList$Itr", ci_10, by decide, q793, Or.inl rfl, rfl, (fun h => by cases h)⟩
theorem gf_J35_1 : GFR RJ35 1 10 3 := ⟨RJ35, TJ35, 4, "java/util/ArrayList$Itr", ci_10, by decide, q795, Or.inl rfl⟩
theorem gf_J35_17 : GFR RJ35 17 9 0 := ⟨RJ2, TJ2, 3, "java/util/ArrayList", ci_9, by decide, q158, Or.inr q159⟩
theorem gw_J35_22 : GF RJ35 22 10 2 false := ⟨RJ35, TJ35, 4, "java/util/ArrayList$Itr", ci_10, by decide, q794, Or.inl rfl, rfl, (fun h => by cases h)⟩
theorem gf_J35_25 : GFR RJ35 25 10 0 := ⟨RJ35, TJ35, 4, "java/util/ArrayList$Itr", ci_10, by decide, q792, Or.inl rfl⟩
theorem gf_J35_28 : GFN RJ35 28 9 2 := ⟨RJ2, TJ2, 3, "java/util/ArrayList", ci_9, by decide, by decide +kernel⟩
theorem gf_J35_22 : GFR RJ35 22 10 2 := ⟨RJ35, TJ35, 4, "java/util/ArrayList$Itr", ci_10, by decide, q794, Or.inl rfl⟩
theorem gf_J35_37 : GFR RJ35 37 9 1 := ⟨RJ2, TJ2, 3, "java/util/ArrayList", ci_9, by decide, q154, Or.inl rfl⟩
theorem gw_J35_25 : GF RJ35 25 10 0 false := ⟨RJ35, TJ35, 4, "java/util/ArrayList$Itr", ci_10, by decide, q792, Or.inl rfl, rfl, (fun h => by cases h)⟩
theorem gf_X4_18 : GFR RX4 18 2 1 := ⟨RX4, TX4, 6, "GaugeBlocks$Block", ci_2, by decide, q964, Or.inl rfl⟩
theorem gf_X4_24 : GFR RX4 24 2 2 := ⟨RX4, TX4, 6, "GaugeBlocks$Block", ci_2, by decide, q965, Or.inl rfl⟩
theorem gw_X4_9 : GF RX4 9 2 5 false := ⟨RX4, TX4, 6, "GaugeBlocks$Block", ci_2, by decide, q975, Or.inl rfl, rfl, (fun h => by cases h)⟩
theorem gw_X4_15 : GF RX4 15 2 0 true := ⟨RX4, TX4, 6, "GaugeBlocks$Block", ci_2, by decide, q959, Or.inl rfl, rfl, (fun _ => rfl)⟩
theorem gw_X4_18 : GF RX4 18 2 1 false := ⟨RX4, TX4, 6, "GaugeBlocks$Block", ci_2, by decide, q964, Or.inl rfl, rfl, (fun h => by cases h)⟩
theorem gf_X4_15 : GFR RX4 15 2 0 := ⟨RX4, TX4, 6, "GaugeBlocks$Block", ci_2, by decide, q959, Or.inl rfl⟩
theorem gw_X4_24 : GF RX4 24 2 2 false := ⟨RX4, TX4, 6, "GaugeBlocks$Block", ci_2, by decide, q965, Or.inl rfl, rfl, (fun h => by cases h)⟩
theorem gf_X4_27 : GFR RX4 27 2 3 := ⟨RX4, TX4, 6, "GaugeBlocks$Block", ci_2, by decide, q969, Or.inl rfl⟩
theorem gw_X4_27 : GF RX4 27 2 3 false := ⟨RX4, TX4, 6, "GaugeBlocks$Block", ci_2, by decide, q969, Or.inl rfl, rfl, (fun h => by cases h)⟩
theorem gf_X4_30 : GFR RX4 30 2 4 := ⟨RX4, TX4, 6, "GaugeBlocks$Block", ci_2, by decide, q972, Or.inl rfl⟩
theorem gw_X4_30 : GF RX4 30 2 4 false := ⟨RX4, TX4, 6, "GaugeBlocks$Block", ci_2, by decide, q972, Or.inl rfl, rfl, (fun h => by cases h)⟩
theorem gf_X4_9 : GFR RX4 9 2 5 := ⟨RX4, TX4, 6, "GaugeBlocks$Block", ci_2, by decide, q975, Or.inl rfl⟩
theorem gw_J30_9 : GF RJ30 9 15 5 false := ⟨RJ30, TJ30, 6, "java/util/TreeMap$Entry", ci_15, by decide, q1795, Or.inl rfl, rfl, (fun h => by cases h)⟩
theorem gw_J30_15 : GF RJ30 15 15 0 false := ⟨RJ30, TJ30, 6, "java/util/TreeMap$Entry", ci_15, by decide, q1786, Or.inl rfl, rfl, (fun h => by cases h)⟩
theorem gw_J30_19 : GF RJ30 19 15 1 false := ⟨RJ30, TJ30, 6, "java/util/TreeMap$Entry", ci_15, by decide, q1789, Or.inl rfl, rfl, (fun h => by cases h)⟩
theorem gw_J30_22 : GF RJ30 22 15 4 false := ⟨RJ30, TJ30, 6, "java/util/TreeMap$Entry", ci_15, by decide, q1793, Or.inl rfl, rfl, (fun h => by cases h)⟩
theorem gf_J2_48 : GFR RJ2 48 9 2 := ⟨RJ2, TJ2, 3, "java/util/ArrayList", ci_9, by decide, q156, Or.inl rfl⟩
theorem gf_J2_9 : GFR RJ2 9 9 1 := ⟨RJ2, TJ2, 3, "java/util/ArrayList", ci_9, by decide, q153, Or.inl rfl⟩
theorem gf_X2_12 : GFR RX2 12 1 0 := ⟨RX2, TX2, 7, "GaugeBlocks$State", ci_1, by decide, q242, Or.inl rfl⟩
theorem gw_X5_9 : GF RX5 9 3 4 false := ⟨RX5, TX5, 5, "GaugeBlocks$Finder", ci_3, by decide, q1196, Or.inl rfl, rfl, (fun h => by cases h)⟩
theorem gw_X5_15 : GF RX5 15 3 1 true := ⟨RX5, TX5, 5, "GaugeBlocks$Finder", ci_3, by decide, q1193, Or.inl rfl, rfl, (fun _ => rfl)⟩
theorem gw_X5_24 : GF RX5 24 3 2 true := ⟨RX5, TX5, 5, "GaugeBlocks$Finder", ci_3, by decide, q1194, Or.inl rfl, rfl, (fun _ => rfl)⟩
theorem gf_X5_26 : GFR RX5 26 1 0 := ⟨RX2, TX2, 7, "GaugeBlocks$State", ci_1, by decide, q243, Or.inl rfl⟩
theorem gw_X5_35 : GF RX5 35 3 0 true := ⟨RX5, TX5, 5, "GaugeBlocks$Finder", ci_3, by decide, q1192, Or.inl rfl, rfl, (fun _ => rfl)⟩
theorem gf_X5_35 : GFR RX5 35 3 0 := ⟨RX5, TX5, 5, "GaugeBlocks$Finder", ci_3, by decide, q1192, Or.inl rfl⟩
theorem gf_X5_45 : GFR RX5 45 2 0 := ⟨RX4, TX4, 6, "GaugeBlocks$Block", ci_2, by decide, q960, Or.inl rfl⟩
theorem gf_X5_9 : GFR RX5 9 3 4 := ⟨RX5, TX5, 5, "GaugeBlocks$Finder", ci_3, by decide, q1196, Or.inl rfl⟩
theorem gf_X5_24 : GFR RX5 24 3 2 := ⟨RX5, TX5, 5, "GaugeBlocks$Finder", ci_3, by decide, q1194, Or.inl rfl⟩
theorem gf_X5_52 : GFR RX5 52 3 3 := ⟨RX5, TX5, 5, "GaugeBlocks$Finder", ci_3, by decide, q1195, Or.inl rfl⟩
theorem gw_X5_52 : GF RX5 52 3 3 false := ⟨RX5, TX5, 5, "GaugeBlocks$Finder", ci_3, by decide, q1195, Or.inl rfl, rfl, (fun h => by cases h)⟩
theorem gf_X5_15 : GFR RX5 15 3 1 := ⟨RX5, TX5, 5, "GaugeBlocks$Finder", ci_3, by decide, q1193, Or.inl rfl⟩
theorem gf_J32_7 : GFR RJ32 7 16 0 := ⟨RJ32, TJ32, 1, "java/util/TreeMap$KeySet", ci_16, by decide, q1859, Or.inl rfl⟩
theorem gw_J32_7 : GF RJ32 7 16 0 true := ⟨RJ32, TJ32, 1, "java/util/TreeMap$KeySet", ci_16, by decide, q1859, Or.inl rfl, rfl, (fun _ => rfl)⟩
theorem gf_J29_101 : GFR RJ29 101 14 3 := ⟨RJ29, TJ29, 9, "java/util/TreeMap", ci_14, by decide, q1692, Or.inl rfl⟩
theorem gf_J29_111 : GFR RJ29 111 15 2 := ⟨RJ30, TJ30, 6, "java/util/TreeMap$Entry", ci_15, by decide, q1791, Or.inl rfl⟩
theorem gw_J33_1 : GF RJ33 1 17 3 true := ⟨RJ34, TJ34, 4, "java/util/TreeMap$PrivateEntryIterator", ci_17, by decide, q1894, Or.inl rfl, rfl, (fun _ => rfl)⟩
theorem gf_J33_13 : GFN RJ33 13 14 5 := ⟨RJ29, TJ29, 9, "java/util/TreeMap", ci_14, by decide, by decide +kernel⟩
theorem gw_J33_19 : GF RJ33 19 17 2 false := ⟨RJ34, TJ34, 4, "java/util/TreeMap$PrivateEntryIterator", ci_17, by decide, q1893, Or.inl rfl, rfl, (fun h => by cases h)⟩
theorem gw_J33_22 : GF RJ33 22 17 1 false := ⟨RJ34, TJ34, 4, "java/util/TreeMap$PrivateEntryIterator", ci_17, by decide, q1892, Or.inl rfl, rfl, (fun h => by cases h)⟩
theorem gw_J33_26 : GF RJ33 26 17 0 false := ⟨RJ34, TJ34, 4, "java/util/TreeMap$PrivateEntryIterator", ci_17, by decide, q1891, Or.inl rfl, rfl, (fun h => by cases h)⟩
theorem gf_J29_114 : GFR RJ29 114 15 3 := ⟨RJ30, TJ30, 6, "java/util/TreeMap$Entry", ci_15, by decide, q1792, Or.inl rfl⟩
theorem gf_J29_124 : GFR RJ29 124 15 4 := ⟨RJ30, TJ30, 6, "java/util/TreeMap$Entry", ci_15, by decide, q1794, Or.inl rfl⟩
theorem gf_J33_26 : GFR RJ33 26 17 0 := ⟨RJ34, TJ34, 4, "java/util/TreeMap$PrivateEntryIterator", ci_17, by decide, q1891, Or.inl rfl⟩
theorem gf_J33_1 : GFR RJ33 1 17 3 := ⟨RJ34, TJ34, 4, "java/util/TreeMap$PrivateEntryIterator", ci_17, by decide, q1894, Or.inl rfl⟩
theorem gf_J33_19 : GFR RJ33 19 17 2 := ⟨RJ34, TJ34, 4, "java/util/TreeMap$PrivateEntryIterator", ci_17, by decide, q1893, Or.inl rfl⟩
theorem gf_J34_13 : GFR RJ34 13 15 0 := ⟨RJ30, TJ30, 6, "java/util/TreeMap$Entry", ci_15, by decide, q1787, Or.inl rfl⟩
theorem gw_J1_7 : GF RJ1 7 9 0 false := ⟨RJ2, TJ2, 3, "java/util/AbstractList", ci_9, by decide, q157, Or.inl rfl, rfl, (fun h => by cases h)⟩
theorem gw_J2_9 : GF RJ2 9 9 1 false := ⟨RJ2, TJ2, 3, "java/util/ArrayList", ci_9, by decide, q153, Or.inl rfl, rfl, (fun h => by cases h)⟩
theorem gw_J2_48 : GF RJ2 48 9 2 false := ⟨RJ2, TJ2, 3, "java/util/ArrayList", ci_9, by decide, q156, Or.inl rfl, rfl, (fun h => by cases h)⟩
theorem gf_J2_63 : GFR RJ2 63 9 0 := ⟨RJ2, TJ2, 3, "java/util/ArrayList", ci_9, by decide, q160, Or.inr q159⟩
theorem gw_J2_63 : GF RJ2 63 9 0 false := ⟨RJ2, TJ2, 3, "java/util/ArrayList", ci_9, by decide, q160, Or.inr q159, rfl, (fun h => by cases h)⟩
theorem gw_X2_12 : GF RX2 12 1 0 true := ⟨RX2, TX2, 7, "GaugeBlocks$State", ci_1, by decide, q242, Or.inl rfl, rfl, (fun _ => rfl)⟩
theorem gw_X2_18 : GF RX2 18 1 1 true := ⟨RX2, TX2, 7, "GaugeBlocks$State", ci_1, by decide, q245, Or.inl rfl, rfl, (fun _ => rfl)⟩
theorem gw_X2_21 : GF RX2 21 1 2 true := ⟨RX2, TX2, 7, "GaugeBlocks$State", ci_1, by decide, q247, Or.inl rfl, rfl, (fun _ => rfl)⟩
theorem gf_X2_18 : GFR RX2 18 1 1 := ⟨RX2, TX2, 7, "GaugeBlocks$State", ci_1, by decide, q245, Or.inl rfl⟩
theorem gf_X2_48 : GFR RX2 48 1 3 := ⟨RX2, TX2, 7, "GaugeBlocks$State", ci_1, by decide, q249, Or.inl rfl⟩
theorem gw_X2_48 : GF RX2 48 1 3 false := ⟨RX2, TX2, 7, "GaugeBlocks$State", ci_1, by decide, q249, Or.inl rfl, rfl, (fun h => by cases h)⟩
theorem gf_X2_52 : GFR RX2 52 1 4 := ⟨RX2, TX2, 7, "GaugeBlocks$State", ci_1, by decide, q251, Or.inl rfl⟩
theorem gw_X2_52 : GF RX2 52 1 4 false := ⟨RX2, TX2, 7, "GaugeBlocks$State", ci_1, by decide, q251, Or.inl rfl, rfl, (fun h => by cases h)⟩
theorem gf_X2_55 : GFR RX2 55 1 5 := ⟨RX2, TX2, 7, "GaugeBlocks$State", ci_1, by decide, q253, Or.inl rfl⟩
theorem gw_X2_55 : GF RX2 55 1 5 false := ⟨RX2, TX2, 7, "GaugeBlocks$State", ci_1, by decide, q253, Or.inl rfl, rfl, (fun h => by cases h)⟩
theorem gf_X2_58 : GFR RX2 58 1 6 := ⟨RX2, TX2, 7, "GaugeBlocks$State", ci_1, by decide, q255, Or.inl rfl⟩
theorem gw_X2_58 : GF RX2 58 1 6 false := ⟨RX2, TX2, 7, "GaugeBlocks$State", ci_1, by decide, q255, Or.inl rfl, rfl, (fun h => by cases h)⟩
theorem gf_X2_21 : GFR RX2 21 1 2 := ⟨RX2, TX2, 7, "GaugeBlocks$State", ci_1, by decide, q247, Or.inl rfl⟩
theorem gf_X2_71 : GFR RX2 71 2 3 := ⟨RX4, TX4, 6, "GaugeBlocks$Block", ci_2, by decide, q970, Or.inl rfl⟩
theorem gw_X2_71 : GF RX2 71 2 3 false := ⟨RX4, TX4, 6, "GaugeBlocks$Block", ci_2, by decide, q970, Or.inl rfl, rfl, (fun h => by cases h)⟩
theorem gf_X2_81 : GFR RX2 81 2 2 := ⟨RX4, TX4, 6, "GaugeBlocks$Block", ci_2, by decide, q966, Or.inl rfl⟩
theorem gw_X2_81 : GF RX2 81 2 2 false := ⟨RX4, TX4, 6, "GaugeBlocks$Block", ci_2, by decide, q966, Or.inl rfl, rfl, (fun h => by cases h)⟩
theorem gw_X2_96 : GF RX2 96 2 5 false := ⟨RX4, TX4, 6, "GaugeBlocks$Block", ci_2, by decide, q976, Or.inl rfl, rfl, (fun h => by cases h)⟩
theorem gf_X2_99 : GFR RX2 99 2 4 := ⟨RX4, TX4, 6, "GaugeBlocks$Block", ci_2, by decide, q973, Or.inl rfl⟩
theorem gw_X2_99 : GF RX2 99 2 4 false := ⟨RX4, TX4, 6, "GaugeBlocks$Block", ci_2, by decide, q973, Or.inl rfl, rfl, (fun h => by cases h)⟩
theorem gf_X2_129 : GFR RX2 129 2 0 := ⟨RX4, TX4, 6, "GaugeBlocks$Block", ci_2, by decide, q962, Or.inl rfl⟩
theorem gf_X2_96 : GFR RX2 96 2 5 := ⟨RX4, TX4, 6, "GaugeBlocks$Block", ci_2, by decide, q976, Or.inl rfl⟩
theorem gw_X9_7 : GF RX9 7 7 0 true := ⟨RX9, TX9, 1, "GaugeBlocks$Order", ci_7, by decide, q1345, Or.inl rfl, rfl, (fun _ => rfl)⟩
theorem gw_J25_17 : GF RJ25 17 13 0 false := ⟨RJ25, TJ25, 4, "java/util/PriorityQueue", ci_13, by decide, q1362, Or.inl rfl, rfl, (fun h => by cases h)⟩
theorem gw_J25_21 : GF RJ25 21 13 2 true := ⟨RJ25, TJ25, 4, "java/util/PriorityQueue", ci_13, by decide, q1364, Or.inl rfl, rfl, (fun _ => rfl)⟩
theorem gw_X10_7 : GF RX10 7 8 0 true := ⟨RX10, TX10, 2, "GaugeBlocks$Numbered", ci_8, by decide, q1381, Or.inl rfl, rfl, (fun _ => rfl)⟩
theorem gw_X10_13 : GF RX10 13 8 1 true := ⟨RX10, TX10, 2, "GaugeBlocks$Numbered", ci_8, by decide, q1384, Or.inl rfl, rfl, (fun _ => rfl)⟩
theorem gf_J25_17 : GFR RJ25 17 13 0 := ⟨RJ25, TJ25, 4, "java/util/PriorityQueue", ci_13, by decide, q1362, Or.inl rfl⟩
theorem gf_X9_7 : GFR RX9 7 7 0 := ⟨RX9, TX9, 1, "GaugeBlocks$Order", ci_7, by decide, q1345, Or.inl rfl⟩
theorem gf_X9_18 : GFR RX9 18 2 3 := ⟨RX4, TX4, 6, "GaugeBlocks$Block", ci_2, by decide, q968, Or.inl rfl⟩
theorem gf_X9_13 : GFR RX9 13 2 0 := ⟨RX4, TX4, 6, "GaugeBlocks$Block", ci_2, by decide, q961, Or.inl rfl⟩
theorem gf_X9_31 : GFR RX9 31 8 1 := ⟨RX10, TX10, 2, "GaugeBlocks$Numbered", ci_8, by decide, q1385, Or.inl rfl⟩
theorem gf_X9_47 : GFR RX9 47 8 0 := ⟨RX10, TX10, 2, "GaugeBlocks$Numbered", ci_8, by decide, q1382, Or.inl rfl⟩
theorem gf_J25_21 : GFR RJ25 21 13 2 := ⟨RJ25, TJ25, 4, "java/util/PriorityQueue", ci_13, by decide, q1364, Or.inl rfl⟩
theorem gf_J25_93 : GFR RJ25 93 13 3 := ⟨RJ25, TJ25, 4, "java/util/PriorityQueue", ci_13, by decide, q1365, Or.inl rfl⟩
theorem gw_J25_93 : GF RJ25 93 13 3 false := ⟨RJ25, TJ25, 4, "java/util/PriorityQueue", ci_13, by decide, q1365, Or.inl rfl, rfl, (fun h => by cases h)⟩
theorem gf_J25_58 : GFR RJ25 58 13 1 := ⟨RJ25, TJ25, 4, "java/util/PriorityQueue", ci_13, by decide, q1363, Or.inl rfl⟩
theorem gw_J25_58 : GF RJ25 58 13 1 false := ⟨RJ25, TJ25, 4, "java/util/PriorityQueue", ci_13, by decide, q1363, Or.inl rfl, rfl, (fun h => by cases h)⟩
theorem gf_X2_174 : GFR RX2 174 8 0 := ⟨RX10, TX10, 2, "GaugeBlocks$Numbered", ci_8, by decide, q1383, Or.inl rfl⟩
theorem gw_J29_7 : GF RJ29 7 14 4 false := ⟨RJ29, TJ29, 9, "java/util/TreeMap", ci_14, by decide, q1693, Or.inl rfl, rfl, (fun h => by cases h)⟩
theorem gw_J29_13 : GF RJ29 13 14 5 false := ⟨RJ29, TJ29, 9, "java/util/TreeMap", ci_14, by decide, q1694, Or.inl rfl, rfl, (fun h => by cases h)⟩
theorem gw_J29_16 : GF RJ29 16 14 2 true := ⟨RJ29, TJ29, 9, "java/util/TreeMap", ci_14, by decide, q1691, Or.inl rfl, rfl, (fun _ => rfl)⟩
theorem gf_J29_16 : GFR RJ29 16 14 2 := ⟨RJ29, TJ29, 9, "java/util/TreeMap", ci_14, by decide, q1691, Or.inl rfl⟩
theorem gf_J29_105 : GFR RJ29 105 15 0 := ⟨RJ30, TJ30, 6, "java/util/TreeMap$Entry", ci_15, by decide, q1788, Or.inl rfl⟩
theorem gf_J29_58 : GFR RJ29 58 15 1 := ⟨RJ30, TJ30, 6, "java/util/TreeMap$Entry", ci_15, by decide, q1790, Or.inl rfl⟩
theorem gw_J29_101 : GF RJ29 101 14 3 false := ⟨RJ29, TJ29, 9, "java/util/TreeMap", ci_14, by decide, q1692, Or.inl rfl, rfl, (fun h => by cases h)⟩
theorem gf_J29_13 : GFR RJ29 13 14 5 := ⟨RJ29, TJ29, 9, "java/util/TreeMap", ci_14, by decide, q1694, Or.inl rfl⟩
theorem gf_J29_290 : GFR RJ29 290 15 5 := ⟨RJ30, TJ30, 6, "java/util/TreeMap$Entry", ci_15, by decide, q1796, Or.inl rfl⟩
theorem gw_J29_290 : GF RJ29 290 15 5 false := ⟨RJ30, TJ30, 6, "java/util/TreeMap$Entry", ci_15, by decide, q1796, Or.inl rfl, rfl, (fun h => by cases h)⟩
theorem gw_J29_114 : GF RJ29 114 15 3 false := ⟨RJ30, TJ30, 6, "java/util/TreeMap$Entry", ci_15, by decide, q1792, Or.inl rfl, rfl, (fun h => by cases h)⟩
theorem gw_J29_124 : GF RJ29 124 15 4 false := ⟨RJ30, TJ30, 6, "java/util/TreeMap$Entry", ci_15, by decide, q1794, Or.inl rfl, rfl, (fun h => by cases h)⟩
theorem gw_J29_111 : GF RJ29 111 15 2 false := ⟨RJ30, TJ30, 6, "java/util/TreeMap$Entry", ci_15, by decide, q1791, Or.inl rfl, rfl, (fun h => by cases h)⟩
theorem gf_J29_7 : GFR RJ29 7 14 4 := ⟨RJ29, TJ29, 9, "java/util/TreeMap", ci_14, by decide, q1693, Or.inl rfl⟩
theorem gw_J29_58 : GF RJ29 58 15 1 false := ⟨RJ30, TJ30, 6, "java/util/TreeMap$Entry", ci_15, by decide, q1790, Or.inl rfl, rfl, (fun h => by cases h)⟩
theorem gw_J7_15 : GF RJ7 15 12 0 false := ⟨RJ8, TJ8, 4, "java/lang/AbstractStringBuilder", ci_12, by decide, q309, Or.inl rfl, rfl, (fun h => by cases h)⟩
theorem gw_J7_22 : GF RJ7 22 12 1 false := ⟨RJ8, TJ8, 4, "java/lang/AbstractStringBuilder", ci_12, by decide, q310, Or.inl rfl, rfl, (fun h => by cases h)⟩
theorem gf_J7_79 : GFR RJ7 79 12 3 := ⟨RJ8, TJ8, 4, "java/lang/AbstractStringBuilder", ci_12, by decide, q313, Or.inl rfl⟩
theorem gf_J7_15 : GFR RJ7 15 12 0 := ⟨RJ8, TJ8, 4, "java/lang/AbstractStringBuilder", ci_12, by decide, q309, Or.inl rfl⟩
theorem gf_J7_22 : GFR RJ7 22 12 1 := ⟨RJ8, TJ8, 4, "java/lang/AbstractStringBuilder", ci_12, by decide, q310, Or.inl rfl⟩
theorem gw_J7_79 : GF RJ7 79 12 3 false := ⟨RJ8, TJ8, 4, "java/lang/AbstractStringBuilder", ci_12, by decide, q313, Or.inl rfl, rfl, (fun h => by cases h)⟩
theorem gw_J7_73 : GF RJ7 73 12 2 false := ⟨RJ8, TJ8, 4, "java/lang/AbstractStringBuilder", ci_12, by decide, q311, Or.inl rfl, rfl, (fun h => by cases h)⟩
theorem gw_X6_3 : GF RX6 3 4 1 true := ⟨RX6, TX6, 2, "GaugeBlocks$Reader", ci_4, by decide, q684, Or.inl rfl, rfl, (fun _ => rfl)⟩
theorem gf_X6_15 : GFR RX6 15 4 0 := ⟨RX6, TX6, 2, "GaugeBlocks$Reader", ci_4, by decide, q683, Or.inl rfl⟩
theorem gf_X6_3 : GFR RX6 3 4 1 := ⟨RX6, TX6, 2, "GaugeBlocks$Reader", ci_4, by decide, q684, Or.inl rfl⟩
theorem gf_X6_19 : GFN RX6 19 0 3 := ⟨RX1, TX1, 4, "GaugeBlocks", ci_0, by decide, by decide +kernel⟩
theorem gw_X6_15 : GF RX6 15 4 0 false := ⟨RX6, TX6, 2, "GaugeBlocks$Reader", ci_4, by decide, q683, Or.inl rfl, rfl, (fun h => by cases h)⟩
theorem gw_X8_7 : GF RX8 7 6 0 true := ⟨RX8, TX8, 2, "GaugeBlocks$Command", ci_6, by decide, q764, Or.inl rfl, rfl, (fun _ => rfl)⟩
theorem gw_X8_13 : GF RX8 13 6 1 true := ⟨RX8, TX8, 2, "GaugeBlocks$Command", ci_6, by decide, q766, Or.inl rfl, rfl, (fun _ => rfl)⟩
theorem gf_J29_191 : GFR RJ29 191 14 7 := ⟨RJ29, TJ29, 9, "java/util/TreeMap", ci_14, by decide, q1696, Or.inl rfl⟩
theorem gw_J29_191 : GF RJ29 191 14 7 false := ⟨RJ29, TJ29, 9, "java/util/TreeMap", ci_14, by decide, q1696, Or.inl rfl, rfl, (fun h => by cases h)⟩
theorem gw_J6_3 : GF RJ6 3 11 0 false := ⟨RJ6, TJ6, 3, "java/util/ArrayDeque", ci_11, by decide, q280, Or.inl rfl, rfl, (fun h => by cases h)⟩
theorem gf_J6_20 : GFR RJ6 20 11 2 := ⟨RJ6, TJ6, 3, "java/util/ArrayDeque", ci_11, by decide, q282, Or.inl rfl⟩
theorem gf_J6_24 : GFR RJ6 24 11 1 := ⟨RJ6, TJ6, 3, "java/util/ArrayDeque", ci_11, by decide, q281, Or.inl rfl⟩
theorem gf_J6_3 : GFR RJ6 3 11 0 := ⟨RJ6, TJ6, 3, "java/util/ArrayDeque", ci_11, by decide, q280, Or.inl rfl⟩
theorem gw_J6_24 : GF RJ6 24 11 1 false := ⟨RJ6, TJ6, 3, "java/util/ArrayDeque", ci_11, by decide, q281, Or.inl rfl, rfl, (fun h => by cases h)⟩
theorem gw_J6_20 : GF RJ6 20 11 2 false := ⟨RJ6, TJ6, 3, "java/util/ArrayDeque", ci_11, by decide, q282, Or.inl rfl, rfl, (fun h => by cases h)⟩
theorem gf_X1_19 : GFR RX1 19 0 1 := ⟨RX1, TX1, 4, "GaugeBlocks", ci_0, by decide, q325, Or.inl rfl⟩
theorem gf_X1_10 : GFR RX1 10 0 0 := ⟨RX1, TX1, 4, "GaugeBlocks", ci_0, by decide, q324, Or.inl rfl⟩
theorem gf_X1_59 : GFR RX1 59 1 0 := ⟨RX2, TX2, 7, "GaugeBlocks$State", ci_1, by decide, q244, Or.inl rfl⟩
theorem gf_X1_115 : GFR RX1 115 2 3 := ⟨RX4, TX4, 6, "GaugeBlocks$Block", ci_2, by decide, q971, Or.inl rfl⟩
theorem gf_X1_123 : GFR RX1 123 1 2 := ⟨RX2, TX2, 7, "GaugeBlocks$State", ci_1, by decide, q248, Or.inl rfl⟩
theorem gf_X1_133 : GFR RX1 133 1 1 := ⟨RX2, TX2, 7, "GaugeBlocks$State", ci_1, by decide, q246, Or.inl rfl⟩
theorem gf_X1_30 : GFR RX1 30 0 3 := ⟨RX1, TX1, 4, "GaugeBlocks", ci_0, by decide, q328, Or.inl rfl⟩
theorem gf_X1_176 : GFR RX1 176 6 1 := ⟨RX8, TX8, 2, "GaugeBlocks$Command", ci_6, by decide, q767, Or.inl rfl⟩
theorem gf_X1_179 : GFR RX1 179 6 0 := ⟨RX8, TX8, 2, "GaugeBlocks$Command", ci_6, by decide, q765, Or.inl rfl⟩
theorem gw_X1_10 : GF RX1 10 0 0 false := ⟨RX1, TX1, 4, "GaugeBlocks", ci_0, by decide, q324, Or.inl rfl, rfl, (fun h => by cases h)⟩
theorem gf_X1_23 : GFR RX1 23 0 2 := ⟨RX1, TX1, 4, "GaugeBlocks", ci_0, by decide, q326, Or.inl rfl⟩
theorem gf_X1_187 : GFR RX1 187 2 0 := ⟨RX4, TX4, 6, "GaugeBlocks$Block", ci_2, by decide, q963, Or.inl rfl⟩
theorem gf_X1_193 : GFR RX1 193 2 2 := ⟨RX4, TX4, 6, "GaugeBlocks$Block", ci_2, by decide, q967, Or.inl rfl⟩
theorem gf_X1_199 : GFR RX1 199 2 5 := ⟨RX4, TX4, 6, "GaugeBlocks$Block", ci_2, by decide, q977, Or.inl rfl⟩
theorem gf_X1_202 : GFR RX1 202 2 4 := ⟨RX4, TX4, 6, "GaugeBlocks$Block", ci_2, by decide, q974, Or.inl rfl⟩
theorem gf_X1_264 : GFR RX1 264 1 3 := ⟨RX2, TX2, 7, "GaugeBlocks$State", ci_1, by decide, q250, Or.inl rfl⟩
theorem gf_X1_267 : GFR RX1 267 1 4 := ⟨RX2, TX2, 7, "GaugeBlocks$State", ci_1, by decide, q252, Or.inl rfl⟩
theorem gf_X1_268 : GFR RX1 268 1 5 := ⟨RX2, TX2, 7, "GaugeBlocks$State", ci_1, by decide, q254, Or.inl rfl⟩
theorem gf_X1_272 : GFR RX1 272 1 6 := ⟨RX2, TX2, 7, "GaugeBlocks$State", ci_1, by decide, q256, Or.inl rfl⟩
theorem gw_X1_19 : GF RX1 19 0 1 true := ⟨RX1, TX1, 4, "GaugeBlocks", ci_0, by decide, q325, Or.inl rfl, rfl, (fun _ => rfl)⟩
theorem gw_X1_23 : GF RX1 23 0 2 true := ⟨RX1, TX1, 4, "GaugeBlocks", ci_0, by decide, q326, Or.inl rfl, rfl, (fun _ => rfl)⟩
theorem gw_X1_30 : GF RX1 30 0 3 true := ⟨RX1, TX1, 4, "GaugeBlocks", ci_0, by decide, q328, Or.inl rfl, rfl, (fun _ => rfl)⟩
theorem gf_X1_167 : GFR RX1 167 5 0 := ⟨RX7, TSF, 1, "GaugeBlocks$SyntaxFault", ci_5, by decide, q741, Or.inl rfl⟩
theorem gw_X3_7 : GF RX3 7 19 0 true := ⟨RX3, TX3, 18, "GaugeBlocksModel", ci_19, by decide, q1998, Or.inl rfl, rfl, (fun _ => rfl)⟩
theorem gw_X3_13 : GF RX3 13 19 1 true := ⟨RX3, TX3, 18, "GaugeBlocksModel", ci_19, by decide, q1999, Or.inl rfl, rfl, (fun _ => rfl)⟩
theorem gw_X3_16 : GF RX3 16 19 3 true := ⟨RX3, TX3, 18, "GaugeBlocksModel", ci_19, by decide, q2001, Or.inl rfl, rfl, (fun _ => rfl)⟩
theorem gw_X3_19 : GF RX3 19 19 4 true := ⟨RX3, TX3, 18, "GaugeBlocksModel", ci_19, by decide, q2002, Or.inl rfl, rfl, (fun _ => rfl)⟩
theorem gw_X3_23 : GF RX3 23 19 6 true := ⟨RX3, TX3, 18, "GaugeBlocksModel", ci_19, by decide, q2004, Or.inl rfl, rfl, (fun _ => rfl)⟩
theorem gw_X3_26 : GF RX3 26 19 8 true := ⟨RX3, TX3, 18, "GaugeBlocksModel", ci_19, by decide, q2006, Or.inl rfl, rfl, (fun _ => rfl)⟩
theorem gw_X3_29 : GF RX3 29 19 13 true := ⟨RX3, TX3, 18, "GaugeBlocksModel", ci_19, by decide, q2011, Or.inl rfl, rfl, (fun _ => rfl)⟩
theorem gw_X3_32 : GF RX3 32 19 14 true := ⟨RX3, TX3, 18, "GaugeBlocksModel", ci_19, by decide, q2012, Or.inl rfl, rfl, (fun _ => rfl)⟩
theorem gw_X3_35 : GF RX3 35 19 15 true := ⟨RX3, TX3, 18, "GaugeBlocksModel", ci_19, by decide, q2013, Or.inl rfl, rfl, (fun _ => rfl)⟩
abbrev VV_J23_compare (l : Launch) (G : Gx) (σ0 : Hp) (o : Oc) (σe : Hp) (Se : Ms) := V l G RJ23 cJ23_compare 2 (some .int) [] false 1 30 σ0 o σe Se
def f_J23_compare_19 (s0 : Int32) : Option Int32 :=
  some s0
set_option maxHeartbeats 4000000 in
theorem v_J23_compare_19 {l : Launch} {G : Gx} (hst : l.stackTraces = false) {σ0 σe : Hp} {Se : Ms} {r : Int32} {s0 : Int32} (h : f_J23_compare_19 s0 = some r) : VV_J23_compare l G σ0 (.inl (some (pI r))) σe Se 19 [] [pI s0] σe Se := by
  unfold f_J23_compare_19 at h
  cases h
  exact V_iret rfl dJ23_compare_19
def f_J23_compare (x0 : Int32) (x1 : Int32) : Option Int32 :=
  if x1 ≤ x0 then (if x0 = x1 then (f_J23_compare_19 (0 : Int32)) else (f_J23_compare_19 (1 : Int32))) else (f_J23_compare_19 (-1 : Int32))
set_option maxHeartbeats 4000000 in
theorem v_J23_compare (l : Launch) (G : Gx) (hst : l.stackTraces = false) (σ : Hp) (S : Ms) {x0 : Int32} {x1 : Int32} {r : Int32} (h : f_J23_compare x0 x1 = some r) : MT l G yJ23_compare (ws_ yJ23_compare cJ23_compare 2 (some .int)) 1 30 [pI x0, pI x1] σ S (.inl (some (pI r))) σ S := by
  refine MT_of (own := RJ23) (nL := 2) (ini := false) (by decide +kernel) rfl (Nat.le_of_ble_eq_true rfl) (fun h => by cases h) hst ?_
  show VV_J23_compare l G σ (.inl (some (pI r))) σ S 0 [(0, pI x0), (1, pI x1)] [] σ S
  unfold f_J23_compare at h
  refine V_iload_n (i := 0) 0 dJ23_compare_0 rfl rfl ?_
  refine V_iload_n (i := 1) 1 dJ23_compare_1 rfl rfl ?_
  refine V_icmp_ge 9 dJ23_compare_2 (by decide) (fun c1 => ?_) (fun c1 => ?_)
  · replace h := it_t c1 h
    refine V_iload_n (i := 0) 0 dJ23_compare_9 rfl rfl ?_
    refine V_iload_n (i := 1) 1 dJ23_compare_10 rfl rfl ?_
    refine V_icmp_ne 18 dJ23_compare_11 (by decide) (fun c2 => ?_) (fun c2 => ?_)
    · replace h := it_f c2 h
      refine V_iconst (v := 1) dJ23_compare_18 (by decide) ?_
      refine V_sub [] rfl ?_
      exact v_J23_compare_19 hst h
    · replace h := it_t c2 h
      refine V_iconst (v := 0) dJ23_compare_14 (by decide) ?_
      refine V_goto 19 dJ23_compare_15 (by decide) ?_
      refine V_sub [] rfl ?_
      exact v_J23_compare_19 hst h
  · replace h := it_f c1 h
    refine V_iconst (v := (-1)) dJ23_compare_5 (by decide) ?_
    refine V_goto 19 dJ23_compare_6 (by decide) ?_
    refine V_sub [] rfl ?_
    exact v_J23_compare_19 hst h

abbrev VV_J23_compareTo_2 (l : Launch) (G : Gx) (σ0 : Hp) (o : Oc) (σe : Hp) (Se : Ms) := V l G RJ23 cJ23_compareTo_2 2 (some .int) [] false 2 51 σ0 o σe Se
def f_J23_compareTo_2 (σ : Hp) (a0 : Nat) (a1 : Nat) : Option (Int32 × Hp) :=
  bd (rdN σ a0) fun y1 => bd (rdN σ a1) fun y3 => bd (f_J23_compare y1 y3) fun y5 => some (y5, σ)
set_option maxHeartbeats 4000000 in
theorem v_J23_compareTo_2 (l : Launch) (G : Gx) (hst : l.stackTraces = false) (S : Ms) {σ σe : Hp} {a0 : Nat} {a1 : Nat} {r : Int32} (h : f_J23_compareTo_2 σ a0 a1 = some (r, σe)) : MT l G yJ23_compareTo_2 (ws_ yJ23_compareTo_2 cJ23_compareTo_2 2 (some .int)) 2 51 [pR a0, pR a1] σ S (.inl (some (pI r))) σe S := by
  refine MT_of (own := RJ23) (nL := 2) (ini := false) (by decide +kernel) rfl (Nat.le_of_ble_eq_true rfl) (fun h => by cases h) hst ?_
  show VV_J23_compareTo_2 l G σ (.inl (some (pI r))) σe S 0 [(0, pR a0), (1, pR a1)] [] σ S
  unfold f_J23_compareTo_2 at h
  refine V_aload_n (i := 0) 0 dJ23_compareTo_2_0 rfl rfl ?_
  obtain ⟨y1, e2, h⟩ := bd_s h
  refine V_rdN gf_J23_205 q1731 e2 dJ23_compareTo_2_1 ?_
  refine V_aload_n (i := 1) 1 dJ23_compareTo_2_4 rfl rfl ?_
  obtain ⟨y3, e4, h⟩ := bd_s h
  refine V_rdN gf_J23_205 q1731 e4 dJ23_compareTo_2_5 ?_
  obtain ⟨y5, e6, h⟩ := bd_s h
  refine V_callS_v (n9 := 2) [] (v_J23_compare l G hst _ _ e6) rfl rfl (lw_S q1455 q1434 q105 q1435) (by decide +kernel) (by decide) (Nat.le_of_ble_eq_true rfl) dJ23_compareTo_2_8 ?_
  cases h
  exact V_iret rfl dJ23_compareTo_2_11

abbrev VV_J23_compareTo (l : Launch) (G : Gx) (σ0 : Hp) (o : Oc) (σe : Hp) (Se : Ms) := V l G RJ23 cJ23_compareTo 2 (some .int) [] false 3 72 σ0 o σe Se
def f_J23_compareTo (σ : Hp) (a0 : Nat) (a1 : Nat) : Option (Int32 × Hp) :=
  bd (ckC σ 19 a1) fun e1 => bd (gk σ 19 a0) fun e3 => bp (f_J23_compareTo_2 σ a0 a1) fun y5 σ6 => some (y5, σ6)
set_option maxHeartbeats 4000000 in
theorem v_J23_compareTo (l : Launch) (G : Gx) (hst : l.stackTraces = false) (S : Ms) {σ σe : Hp} {a0 : Nat} {a1 : Nat} {r : Int32} (h : f_J23_compareTo σ a0 a1 = some (r, σe)) : MT l G yJ23_compareTo (ws_ yJ23_compareTo cJ23_compareTo 2 (some .int)) 3 72 [pR a0, pR a1] σ S (.inl (some (pI r))) σe S := by
  refine MT_of (own := RJ23) (nL := 2) (ini := false) (by decide +kernel) rfl (Nat.le_of_ble_eq_true rfl) (fun h => by cases h) hst ?_
  show VV_J23_compareTo l G σ (.inl (some (pI r))) σe S 0 [(0, pR a0), (1, pR a1)] [] σ S
  unfold f_J23_compareTo at h
  refine V_aload_n (i := 0) 0 dJ23_compareTo_0 rfl rfl ?_
  refine V_aload_n (i := 1) 1 dJ23_compareTo_1 rfl rfl ?_
  obtain ⟨e1, e2, h⟩ := bd_s h
  refine V_ckC (c := 18) e2 q1450 rfl (Or.inl rfl) dJ23_compareTo_2 ?_
  obtain ⟨e3, e4, h⟩ := bd_s h
  obtain ⟨y5, σ6, e7, h⟩ := bp_s h
  refine V_callV_v (n9 := 1) (c := 18) (r := (RJ23, TJ23, 1)) [] (v_J23_compareTo_2 l G hst _ e7) rfl rfl (lw_V q1451 q1452 q1453 q105 q1454) (by decide +kernel) (by decide) (Nat.le_of_ble_eq_true rfl) (gk_k e4 rfl) rfl dJ23_compareTo_5 ?_
  cases h
  exact V_iret rfl dJ23_compareTo_8

abbrev VV_J22_init (l : Launch) (G : Gx) (σ0 : Hp) (o : Oc) (σe : Hp) (Se : Ms) := V l G RJ22 cJ22_init 1 none [] true 1 30 σ0 o σe Se
def f_J22_init (σ : Hp) (a0 : Nat) : Option (Unit × Hp) :=
  bd (gz σ a0) fun e1 => some ((), σ)
set_option maxHeartbeats 4000000 in
theorem v_J22_init (l : Launch) (G : Gx) (hst : l.stackTraces = false) (S : Ms) {σ σe : Hp} {a0 : Nat} {r : Unit} (h : f_J22_init σ a0 = some (r, σe)) : MT l G yJ22_init (ws_ yJ22_init cJ22_init 1 none) 1 30 [pR a0] σ S (.inl none) σe S := by
  refine MT_of (own := RJ22) (nL := 1) (ini := true) (by decide +kernel) rfl (Nat.le_of_ble_eq_true rfl) (fun h => rfl) hst ?_
  show VV_J22_init l G σ (.inl none) σe S 0 [(0, pR a0)] [] σ S
  unfold f_J22_init at h
  refine V_aload_n (i := 0) 0 dJ22_init_0 rfl rfl ?_
  obtain ⟨e1, e2, h⟩ := bd_s h
  refine V_objInit (gz_n e2) q1730 q131 q132 (by decide) (Nat.le_of_ble_eq_true rfl) dJ22_init_1 ?_
  cases h
  exact V_vret rfl dJ22_init_4

abbrev VV_J23_init (l : Launch) (G : Gx) (σ0 : Hp) (o : Oc) (σe : Hp) (Se : Ms) := V l G RJ23 cJ23_init 2 none [] true 2 50 σ0 o σe Se
def f_J23_init (σ : Hp) (a0 : Nat) (x1 : Int32) : Option (Unit × Hp) :=
  bd (gz σ a0) fun e1 => bp (f_J22_init σ a0) fun e3 σ4 => bd (wrI σ4 19 a0 190 x1) fun σ6 => some ((), σ6)
set_option maxHeartbeats 4000000 in
theorem v_J23_init (l : Launch) (G : Gx) (hst : l.stackTraces = false) (S : Ms) {σ σe : Hp} {a0 : Nat} {x1 : Int32} {r : Unit} (h : f_J23_init σ a0 x1 = some (r, σe)) : MT l G yJ23_init (ws_ yJ23_init cJ23_init 2 none) 2 50 [pR a0, pI x1] σ S (.inl none) σe S := by
  refine MT_of (own := RJ23) (nL := 2) (ini := true) (by decide +kernel) rfl (Nat.le_of_ble_eq_true rfl) (fun h => rfl) hst ?_
  show VV_J23_init l G σ (.inl none) σe S 0 [(0, pR a0), (1, pI x1)] [] σ S
  unfold f_J23_init at h
  refine V_aload_n (i := 0) 0 dJ23_init_0 rfl rfl ?_
  obtain ⟨e1, e2, h⟩ := bd_s h
  obtain ⟨e3, σ4, e5, h⟩ := bp_s h
  refine V_callI_0 (n9 := 0) [] (v_J22_init l G hst _ e5) rfl rfl q1729 q104 q1727 q1728 rfl (by decide +kernel) (by decide) (Nat.le_of_ble_eq_true rfl) (gz_n e2) dJ23_init_1 ?_
  refine V_aload_n (i := 0) 0 dJ23_init_4 rfl rfl ?_
  refine V_iload_n (i := 1) 1 dJ23_init_5 rfl rfl ?_
  obtain ⟨σ6, e7, h⟩ := bd_s h
  refine V_wrIF gw_J23_205 rfl rfl rfl rfl e7 dJ23_init_6 ?_
  cases h
  exact V_vret rfl dJ23_init_9

abbrev VV_J23_valueOf (l : Launch) (G : Gx) (σ0 : Hp) (o : Oc) (σe : Hp) (Se : Ms) := V l G RJ23 cJ23_valueOf 1 (some (.object "java/lang/Integer")) [] false 3 71 σ0 o σe Se
def f_J23_valueOf_23 (σ : Hp) (x0 : Int32) : Option (Nat × Hp) :=
  bd (gz (nC σ 19 1) (hN σ)) fun e1 => bp (f_J23_init (nC σ 19 1) (hN σ) x0) fun e3 σ4 => some ((hN σ), σ4)
set_option maxHeartbeats 4000000 in
theorem v_J23_valueOf_23 {l : Launch} {G : Gx} (hst : l.stackTraces = false) {σ0 σe : Hp} {Se : Ms} {r : Nat} {σ : Hp} {x0 : Int32} (h : f_J23_valueOf_23 σ x0 = some (r, σe)) : VV_J23_valueOf l G σ0 (.inl (some (pR r))) σe Se 23 [(0, pI x0)] [] σ Se := by
  unfold f_J23_valueOf_23 at h
  refine V_new (n := 1) ci_18 (by decide +kernel) q1450 q1723 q105 dJ23_valueOf_23 ?_
  refine V_dup dJ23_valueOf_26 rfl ?_
  refine V_iload_n (i := 0) 0 dJ23_valueOf_27 rfl rfl ?_
  obtain ⟨e1, e2, h⟩ := bd_s h
  obtain ⟨e3, σ4, e5, h⟩ := bp_s h
  refine V_callI_0 (n9 := 1) [pR (hN σ)] (v_J23_init l G hst _ e5) rfl rfl q1726 q105 q1724 q1725 rfl (by decide +kernel) (by decide) (Nat.le_of_ble_eq_true rfl) (gz_n e2) dJ23_valueOf_28 ?_
  cases h
  exact V_aret rfl (Or.inl ⟨_, rfl⟩) dJ23_valueOf_31
def f_J23_valueOf (σ : Hp) (x0 : Int32) : Option (Nat × Hp) :=
  if x0 < (-128 : Int32) then (f_J23_valueOf_23 σ x0) else (if (127 : Int32) < x0 then (f_J23_valueOf_23 σ x0) else (bd (okI (x0 + (128 : Int32)) 256) fun e4 => some ((hQ σ (10 + (x0 + (128 : Int32)).toNatClampNeg)), σ)))
set_option maxHeartbeats 4000000 in
theorem v_J23_valueOf (l : Launch) (G : Gx) (hst : l.stackTraces = false) (S : Ms) {σ σe : Hp} {x0 : Int32} {r : Nat} (h : f_J23_valueOf σ x0 = some (r, σe)) : MT l G yJ23_valueOf (ws_ yJ23_valueOf cJ23_valueOf 1 (some (.object "java/lang/Integer"))) 3 71 [pI x0] σ S (.inl (some (pR r))) σe S := by
  refine MT_of (own := RJ23) (nL := 1) (ini := false) (by decide +kernel) rfl (Nat.le_of_ble_eq_true rfl) (fun h => by cases h) hst ?_
  show VV_J23_valueOf l G σ (.inl (some (pR r))) σe S 0 [(0, pI x0)] [] σ S
  unfold f_J23_valueOf at h
  refine V_iload_n (i := 0) 0 dJ23_valueOf_0 rfl rfl ?_
  refine V_bipush (v := (-128)) dJ23_valueOf_1 (by decide) ?_
  refine V_icmp_lt 23 dJ23_valueOf_3 (by decide) (fun c1 => ?_) (fun c1 => ?_)
  · replace h := it_t c1 h
    refine V_sub [0] rfl ?_
    exact v_J23_valueOf_23 hst h
  · replace h := it_f c1 h
    refine V_iload_n (i := 0) 0 dJ23_valueOf_6 rfl rfl ?_
    refine V_gets (v := pI 127) (fun _ _ h => h.2.2.2.1) q1719 rfl dJ23_valueOf_7 ?_
    refine V_icmp_gt 23 dJ23_valueOf_10 (by decide) (fun c2 => ?_) (fun c2 => ?_)
    · replace h := it_t c2 h
      refine V_sub [0] rfl ?_
      exact v_J23_valueOf_23 hst h
    · replace h := it_f c2 h
      obtain ⟨e4, e3, h⟩ := bd_s h
      refine V_icGet (i9 := (x0 + (128 : Int32))) 0 q1721 (gd_s e3).1 dJ23_valueOf_13 (j := 0) dJ23_valueOf_16 rfl dJ23_valueOf_17 (by decide) dJ23_valueOf_20 dJ23_valueOf_21 rfl ?_
      cases h
      exact V_aret rfl (Or.inl ⟨_, rfl⟩) dJ23_valueOf_22

abbrev VV_J23_intValue (l : Launch) (G : Gx) (σ0 : Hp) (o : Oc) (σe : Hp) (Se : Ms) := V l G RJ23 cJ23_intValue 1 (some .int) [] false 1 30 σ0 o σe Se
def f_J23_intValue (σ : Hp) (a0 : Nat) : Option (Int32 × Hp) :=
  bd (rdN σ a0) fun y1 => some (y1, σ)
set_option maxHeartbeats 4000000 in
theorem v_J23_intValue (l : Launch) (G : Gx) (hst : l.stackTraces = false) (S : Ms) {σ σe : Hp} {a0 : Nat} {r : Int32} (h : f_J23_intValue σ a0 = some (r, σe)) : MT l G yJ23_intValue (ws_ yJ23_intValue cJ23_intValue 1 (some .int)) 1 30 [pR a0] σ S (.inl (some (pI r))) σe S := by
  refine MT_of (own := RJ23) (nL := 1) (ini := false) (by decide +kernel) rfl (Nat.le_of_ble_eq_true rfl) (fun h => by cases h) hst ?_
  show VV_J23_intValue l G σ (.inl (some (pI r))) σe S 0 [(0, pR a0)] [] σ S
  unfold f_J23_intValue at h
  refine V_aload_n (i := 0) 0 dJ23_intValue_0 rfl rfl ?_
  obtain ⟨y1, e2, h⟩ := bd_s h
  refine V_rdN gf_J23_205 q1731 e2 dJ23_intValue_1 ?_
  cases h
  exact V_iret rfl dJ23_intValue_4

abbrev VV_J23_bitCount (l : Launch) (G : Gx) (σ0 : Hp) (o : Oc) (σe : Hp) (Se : Ms) := V l G RJ23 cJ23_bitCount 1 (some .int) [] false 1 30 σ0 o σe Se
def f_J23_bitCount (x0 : Int32) : Option Int32 :=
  some ((((((((x0 - (((x0.toUInt32 >>> ((1 : Int32).toUInt32 &&& Int32.toUInt32 31)).toInt32) &&& (1431655765 : Int32))) &&& (858993459 : Int32)) + ((((x0 - (((x0.toUInt32 >>> ((1 : Int32).toUInt32 &&& Int32.toUInt32 31)).toInt32) &&& (1431655765 : Int32))).toUInt32 >>> ((2 : Int32).toUInt32 &&& Int32.toUInt32 31)).toInt32) &&& (858993459 : Int32))) + (((((x0 - (((x0.toUInt32 >>> ((1 : Int32).toUInt32 &&& Int32.toUInt32 31)).toInt32) &&& (1431655765 : Int32))) &&& (858993459 : Int32)) + ((((x0 - (((x0.toUInt32 >>> ((1 : Int32).toUInt32 &&& Int32.toUInt32 31)).toInt32) &&& (1431655765 : Int32))).toUInt32 >>> ((2 : Int32).toUInt32 &&& Int32.toUInt32 31)).toInt32) &&& (858993459 : Int32))).toUInt32 >>> ((4 : Int32).toUInt32 &&& Int32.toUInt32 31)).toInt32)) &&& (252645135 : Int32)) + (((((((x0 - (((x0.toUInt32 >>> ((1 : Int32).toUInt32 &&& Int32.toUInt32 31)).toInt32) &&& (1431655765 : Int32))) &&& (858993459 : Int32)) + ((((x0 - (((x0.toUInt32 >>> ((1 : Int32).toUInt32 &&& Int32.toUInt32 31)).toInt32) &&& (1431655765 : Int32))).toUInt32 >>> ((2 : Int32).toUInt32 &&& Int32.toUInt32 31)).toInt32) &&& (858993459 : Int32))) + (((((x0 - (((x0.toUInt32 >>> ((1 : Int32).toUInt32 &&& Int32.toUInt32 31)).toInt32) &&& (1431655765 : Int32))) &&& (858993459 : Int32)) + ((((x0 - (((x0.toUInt32 >>> ((1 : Int32).toUInt32 &&& Int32.toUInt32 31)).toInt32) &&& (1431655765 : Int32))).toUInt32 >>> ((2 : Int32).toUInt32 &&& Int32.toUInt32 31)).toInt32) &&& (858993459 : Int32))).toUInt32 >>> ((4 : Int32).toUInt32 &&& Int32.toUInt32 31)).toInt32)) &&& (252645135 : Int32)).toUInt32 >>> ((8 : Int32).toUInt32 &&& Int32.toUInt32 31)).toInt32)) + ((((((((x0 - (((x0.toUInt32 >>> ((1 : Int32).toUInt32 &&& Int32.toUInt32 31)).toInt32) &&& (1431655765 : Int32))) &&& (858993459 : Int32)) + ((((x0 - (((x0.toUInt32 >>> ((1 : Int32).toUInt32 &&& Int32.toUInt32 31)).toInt32) &&& (1431655765 : Int32))).toUInt32 >>> ((2 : Int32).toUInt32 &&& Int32.toUInt32 31)).toInt32) &&& (858993459 : Int32))) + (((((x0 - (((x0.toUInt32 >>> ((1 : Int32).toUInt32 &&& Int32.toUInt32 31)).toInt32) &&& (1431655765 : Int32))) &&& (858993459 : Int32)) + ((((x0 - (((x0.toUInt32 >>> ((1 : Int32).toUInt32 &&& Int32.toUInt32 31)).toInt32) &&& (1431655765 : Int32))).toUInt32 >>> ((2 : Int32).toUInt32 &&& Int32.toUInt32 31)).toInt32) &&& (858993459 : Int32))).toUInt32 >>> ((4 : Int32).toUInt32 &&& Int32.toUInt32 31)).toInt32)) &&& (252645135 : Int32)) + (((((((x0 - (((x0.toUInt32 >>> ((1 : Int32).toUInt32 &&& Int32.toUInt32 31)).toInt32) &&& (1431655765 : Int32))) &&& (858993459 : Int32)) + ((((x0 - (((x0.toUInt32 >>> ((1 : Int32).toUInt32 &&& Int32.toUInt32 31)).toInt32) &&& (1431655765 : Int32))).toUInt32 >>> ((2 : Int32).toUInt32 &&& Int32.toUInt32 31)).toInt32) &&& (858993459 : Int32))) + (((((x0 - (((x0.toUInt32 >>> ((1 : Int32).toUInt32 &&& Int32.toUInt32 31)).toInt32) &&& (1431655765 : Int32))) &&& (858993459 : Int32)) + ((((x0 - (((x0.toUInt32 >>> ((1 : Int32).toUInt32 &&& Int32.toUInt32 31)).toInt32) &&& (1431655765 : Int32))).toUInt32 >>> ((2 : Int32).toUInt32 &&& Int32.toUInt32 31)).toInt32) &&& (858993459 : Int32))).toUInt32 >>> ((4 : Int32).toUInt32 &&& Int32.toUInt32 31)).toInt32)) &&& (252645135 : Int32)).toUInt32 >>> ((8 : Int32).toUInt32 &&& Int32.toUInt32 31)).toInt32)).toUInt32 >>> ((16 : Int32).toUInt32 &&& Int32.toUInt32 31)).toInt32)) &&& (63 : Int32))
set_option maxHeartbeats 4000000 in
theorem v_J23_bitCount (l : Launch) (G : Gx) (hst : l.stackTraces = false) (σ : Hp) (S : Ms) {x0 : Int32} {r : Int32} (h : f_J23_bitCount x0 = some r) : MT l G yJ23_bitCount (ws_ yJ23_bitCount cJ23_bitCount 1 (some .int)) 1 30 [pI x0] σ S (.inl (some (pI r))) σ S := by
  refine MT_of (own := RJ23) (nL := 1) (ini := false) (by decide +kernel) rfl (Nat.le_of_ble_eq_true rfl) (fun h => by cases h) hst ?_
  show VV_J23_bitCount l G σ (.inl (some (pI r))) σ S 0 [(0, pI x0)] [] σ S
  unfold f_J23_bitCount at h
  refine V_iload_n (i := 0) 0 dJ23_bitCount_0 rfl rfl ?_
  refine V_iload_n (i := 0) 0 dJ23_bitCount_1 rfl rfl ?_
  refine V_iconst (v := 1) dJ23_bitCount_2 (by decide) ?_
  refine V_iushr dJ23_bitCount_3 ?_
  refine V_ldcw dJ23_bitCount_4 q1946 ?_
  refine V_iand dJ23_bitCount_7 ?_
  refine V_isub dJ23_bitCount_8 ?_
  refine V_istore_n (i := 0) (L' := [(0, pI (x0 - (((x0.toUInt32 >>> ((1 : Int32).toUInt32 &&& Int32.toUInt32 31)).toInt32) &&& (1431655765 : Int32))))]) dJ23_bitCount_9 rfl (by decide) rfl ?_
  refine V_iload_n (i := 0) 0 dJ23_bitCount_10 rfl rfl ?_
  refine V_ldcw dJ23_bitCount_11 q1947 ?_
  refine V_iand dJ23_bitCount_14 ?_
  refine V_iload_n (i := 0) 0 dJ23_bitCount_15 rfl rfl ?_
  refine V_iconst (v := 2) dJ23_bitCount_16 (by decide) ?_
  refine V_iushr dJ23_bitCount_17 ?_
  refine V_ldcw dJ23_bitCount_18 q1947 ?_
  refine V_iand dJ23_bitCount_21 ?_
  refine V_iadd dJ23_bitCount_22 ?_
  refine V_istore_n (i := 0) (L' := [(0, pI (((x0 - (((x0.toUInt32 >>> ((1 : Int32).toUInt32 &&& Int32.toUInt32 31)).toInt32) &&& (1431655765 : Int32))) &&& (858993459 : Int32)) + ((((x0 - (((x0.toUInt32 >>> ((1 : Int32).toUInt32 &&& Int32.toUInt32 31)).toInt32) &&& (1431655765 : Int32))).toUInt32 >>> ((2 : Int32).toUInt32 &&& Int32.toUInt32 31)).toInt32) &&& (858993459 : Int32))))]) dJ23_bitCount_23 rfl (by decide) rfl ?_
  refine V_iload_n (i := 0) 0 dJ23_bitCount_24 rfl rfl ?_
  refine V_iload_n (i := 0) 0 dJ23_bitCount_25 rfl rfl ?_
  refine V_iconst (v := 4) dJ23_bitCount_26 (by decide) ?_
  refine V_iushr dJ23_bitCount_27 ?_
  refine V_iadd dJ23_bitCount_28 ?_
  refine V_ldcw dJ23_bitCount_29 q1948 ?_
  refine V_iand dJ23_bitCount_32 ?_
  refine V_istore_n (i := 0) (L' := [(0, pI (((((x0 - (((x0.toUInt32 >>> ((1 : Int32).toUInt32 &&& Int32.toUInt32 31)).toInt32) &&& (1431655765 : Int32))) &&& (858993459 : Int32)) + ((((x0 - (((x0.toUInt32 >>> ((1 : Int32).toUInt32 &&& Int32.toUInt32 31)).toInt32) &&& (1431655765 : Int32))).toUInt32 >>> ((2 : Int32).toUInt32 &&& Int32.toUInt32 31)).toInt32) &&& (858993459 : Int32))) + (((((x0 - (((x0.toUInt32 >>> ((1 : Int32).toUInt32 &&& Int32.toUInt32 31)).toInt32) &&& (1431655765 : Int32))) &&& (858993459 : Int32)) + ((((x0 - (((x0.toUInt32 >>> ((1 : Int32).toUInt32 &&& Int32.toUInt32 31)).toInt32) &&& (1431655765 : Int32))).toUInt32 >>> ((2 : Int32).toUInt32 &&& Int32.toUInt32 31)).toInt32) &&& (858993459 : Int32))).toUInt32 >>> ((4 : Int32).toUInt32 &&& Int32.toUInt32 31)).toInt32)) &&& (252645135 : Int32)))]) dJ23_bitCount_33 rfl (by decide) rfl ?_
  refine V_iload_n (i := 0) 0 dJ23_bitCount_34 rfl rfl ?_
  refine V_iload_n (i := 0) 0 dJ23_bitCount_35 rfl rfl ?_
  refine V_bipush (v := 8) dJ23_bitCount_36 (by decide) ?_
  refine V_iushr dJ23_bitCount_38 ?_
  refine V_iadd dJ23_bitCount_39 ?_
  refine V_istore_n (i := 0) (L' := [(0, pI ((((((x0 - (((x0.toUInt32 >>> ((1 : Int32).toUInt32 &&& Int32.toUInt32 31)).toInt32) &&& (1431655765 : Int32))) &&& (858993459 : Int32)) + ((((x0 - (((x0.toUInt32 >>> ((1 : Int32).toUInt32 &&& Int32.toUInt32 31)).toInt32) &&& (1431655765 : Int32))).toUInt32 >>> ((2 : Int32).toUInt32 &&& Int32.toUInt32 31)).toInt32) &&& (858993459 : Int32))) + (((((x0 - (((x0.toUInt32 >>> ((1 : Int32).toUInt32 &&& Int32.toUInt32 31)).toInt32) &&& (1431655765 : Int32))) &&& (858993459 : Int32)) + ((((x0 - (((x0.toUInt32 >>> ((1 : Int32).toUInt32 &&& Int32.toUInt32 31)).toInt32) &&& (1431655765 : Int32))).toUInt32 >>> ((2 : Int32).toUInt32 &&& Int32.toUInt32 31)).toInt32) &&& (858993459 : Int32))).toUInt32 >>> ((4 : Int32).toUInt32 &&& Int32.toUInt32 31)).toInt32)) &&& (252645135 : Int32)) + (((((((x0 - (((x0.toUInt32 >>> ((1 : Int32).toUInt32 &&& Int32.toUInt32 31)).toInt32) &&& (1431655765 : Int32))) &&& (858993459 : Int32)) + ((((x0 - (((x0.toUInt32 >>> ((1 : Int32).toUInt32 &&& Int32.toUInt32 31)).toInt32) &&& (1431655765 : Int32))).toUInt32 >>> ((2 : Int32).toUInt32 &&& Int32.toUInt32 31)).toInt32) &&& (858993459 : Int32))) + (((((x0 - (((x0.toUInt32 >>> ((1 : Int32).toUInt32 &&& Int32.toUInt32 31)).toInt32) &&& (1431655765 : Int32))) &&& (858993459 : Int32)) + ((((x0 - (((x0.toUInt32 >>> ((1 : Int32).toUInt32 &&& Int32.toUInt32 31)).toInt32) &&& (1431655765 : Int32))).toUInt32 >>> ((2 : Int32).toUInt32 &&& Int32.toUInt32 31)).toInt32) &&& (858993459 : Int32))).toUInt32 >>> ((4 : Int32).toUInt32 &&& Int32.toUInt32 31)).toInt32)) &&& (252645135 : Int32)).toUInt32 >>> ((8 : Int32).toUInt32 &&& Int32.toUInt32 31)).toInt32)))]) dJ23_bitCount_40 rfl (by decide) rfl ?_
  refine V_iload_n (i := 0) 0 dJ23_bitCount_41 rfl rfl ?_
  refine V_iload_n (i := 0) 0 dJ23_bitCount_42 rfl rfl ?_
  refine V_bipush (v := 16) dJ23_bitCount_43 (by decide) ?_
  refine V_iushr dJ23_bitCount_45 ?_
  refine V_iadd dJ23_bitCount_46 ?_
  refine V_istore_n (i := 0) (L' := [(0, pI (((((((x0 - (((x0.toUInt32 >>> ((1 : Int32).toUInt32 &&& Int32.toUInt32 31)).toInt32) &&& (1431655765 : Int32))) &&& (858993459 : Int32)) + ((((x0 - (((x0.toUInt32 >>> ((1 : Int32).toUInt32 &&& Int32.toUInt32 31)).toInt32) &&& (1431655765 : Int32))).toUInt32 >>> ((2 : Int32).toUInt32 &&& Int32.toUInt32 31)).toInt32) &&& (858993459 : Int32))) + (((((x0 - (((x0.toUInt32 >>> ((1 : Int32).toUInt32 &&& Int32.toUInt32 31)).toInt32) &&& (1431655765 : Int32))) &&& (858993459 : Int32)) + ((((x0 - (((x0.toUInt32 >>> ((1 : Int32).toUInt32 &&& Int32.toUInt32 31)).toInt32) &&& (1431655765 : Int32))).toUInt32 >>> ((2 : Int32).toUInt32 &&& Int32.toUInt32 31)).toInt32) &&& (858993459 : Int32))).toUInt32 >>> ((4 : Int32).toUInt32 &&& Int32.toUInt32 31)).toInt32)) &&& (252645135 : Int32)) + (((((((x0 - (((x0.toUInt32 >>> ((1 : Int32).toUInt32 &&& Int32.toUInt32 31)).toInt32) &&& (1431655765 : Int32))) &&& (858993459 : Int32)) + ((((x0 - (((x0.toUInt32 >>> ((1 : Int32).toUInt32 &&& Int32.toUInt32 31)).toInt32) &&& (1431655765 : Int32))).toUInt32 >>> ((2 : Int32).toUInt32 &&& Int32.toUInt32 31)).toInt32) &&& (858993459 : Int32))) + (((((x0 - (((x0.toUInt32 >>> ((1 : Int32).toUInt32 &&& Int32.toUInt32 31)).toInt32) &&& (1431655765 : Int32))) &&& (858993459 : Int32)) + ((((x0 - (((x0.toUInt32 >>> ((1 : Int32).toUInt32 &&& Int32.toUInt32 31)).toInt32) &&& (1431655765 : Int32))).toUInt32 >>> ((2 : Int32).toUInt32 &&& Int32.toUInt32 31)).toInt32) &&& (858993459 : Int32))).toUInt32 >>> ((4 : Int32).toUInt32 &&& Int32.toUInt32 31)).toInt32)) &&& (252645135 : Int32)).toUInt32 >>> ((8 : Int32).toUInt32 &&& Int32.toUInt32 31)).toInt32)) + ((((((((x0 - (((x0.toUInt32 >>> ((1 : Int32).toUInt32 &&& Int32.toUInt32 31)).toInt32) &&& (1431655765 : Int32))) &&& (858993459 : Int32)) + ((((x0 - (((x0.toUInt32 >>> ((1 : Int32).toUInt32 &&& Int32.toUInt32 31)).toInt32) &&& (1431655765 : Int32))).toUInt32 >>> ((2 : Int32).toUInt32 &&& Int32.toUInt32 31)).toInt32) &&& (858993459 : Int32))) + (((((x0 - (((x0.toUInt32 >>> ((1 : Int32).toUInt32 &&& Int32.toUInt32 31)).toInt32) &&& (1431655765 : Int32))) &&& (858993459 : Int32)) + ((((x0 - (((x0.toUInt32 >>> ((1 : Int32).toUInt32 &&& Int32.toUInt32 31)).toInt32) &&& (1431655765 : Int32))).toUInt32 >>> ((2 : Int32).toUInt32 &&& Int32.toUInt32 31)).toInt32) &&& (858993459 : Int32))).toUInt32 >>> ((4 : Int32).toUInt32 &&& Int32.toUInt32 31)).toInt32)) &&& (252645135 : Int32)) + (((((((x0 - (((x0.toUInt32 >>> ((1 : Int32).toUInt32 &&& Int32.toUInt32 31)).toInt32) &&& (1431655765 : Int32))) &&& (858993459 : Int32)) + ((((x0 - (((x0.toUInt32 >>> ((1 : Int32).toUInt32 &&& Int32.toUInt32 31)).toInt32) &&& (1431655765 : Int32))).toUInt32 >>> ((2 : Int32).toUInt32 &&& Int32.toUInt32 31)).toInt32) &&& (858993459 : Int32))) + (((((x0 - (((x0.toUInt32 >>> ((1 : Int32).toUInt32 &&& Int32.toUInt32 31)).toInt32) &&& (1431655765 : Int32))) &&& (858993459 : Int32)) + ((((x0 - (((x0.toUInt32 >>> ((1 : Int32).toUInt32 &&& Int32.toUInt32 31)).toInt32) &&& (1431655765 : Int32))).toUInt32 >>> ((2 : Int32).toUInt32 &&& Int32.toUInt32 31)).toInt32) &&& (858993459 : Int32))).toUInt32 >>> ((4 : Int32).toUInt32 &&& Int32.toUInt32 31)).toInt32)) &&& (252645135 : Int32)).toUInt32 >>> ((8 : Int32).toUInt32 &&& Int32.toUInt32 31)).toInt32)).toUInt32 >>> ((16 : Int32).toUInt32 &&& Int32.toUInt32 31)).toInt32)))]) dJ23_bitCount_47 rfl (by decide) rfl ?_
  refine V_iload_n (i := 0) 0 dJ23_bitCount_48 rfl rfl ?_
  refine V_bipush (v := 63) dJ23_bitCount_49 (by decide) ?_
  refine V_iand dJ23_bitCount_51 ?_
  cases h
  exact V_iret rfl dJ23_bitCount_52

abbrev VV_J35_init (l : Launch) (G : Gx) (σ0 : Hp) (o : Oc) (σe : Hp) (Se : Ms) := V l G RJ35 cJ35_init 2 none [] true 1 30 σ0 o σe Se
def f_J35_init (σ : Hp) (a0 : Nat) (a1 : Nat) : Option (Unit × Hp) :=
  bd (wrR σ 11 a0 113 a1) fun σ1 => bd (gz σ1 a0) fun e3 => bd (wrI σ1 11 a0 111 (-1 : Int32)) fun σ5 => bd (rdR σ5 11 a0 113) fun b7 => bd (rdI σ5 10 b7 100) fun y9 => bd (wrI σ5 11 a0 112 y9) fun σ11 => some ((), σ11)
set_option maxHeartbeats 4000000 in
theorem v_J35_init (l : Launch) (G : Gx) (hst : l.stackTraces = false) (S : Ms) {σ σe : Hp} {a0 : Nat} {a1 : Nat} {r : Unit} (h : f_J35_init σ a0 a1 = some (r, σe)) : MT l G yJ35_init (ws_ yJ35_init cJ35_init 2 none) 1 30 [pR a0, pR a1] σ S (.inl none) σe S := by
  refine MT_of (own := RJ35) (nL := 2) (ini := true) (by decide +kernel) rfl (Nat.le_of_ble_eq_true rfl) (fun h => rfl) hst ?_
  show VV_J35_init l G σ (.inl none) σe S 0 [(0, pR a0), (1, pR a1)] [] σ S
  unfold f_J35_init at h
  refine V_aload_n (i := 0) 0 dJ35_init_0 rfl rfl ?_
  refine V_aload_n (i := 1) 1 dJ35_init_1 rfl rfl ?_
  obtain ⟨σ1, e2, h⟩ := bd_s h
  refine V_wrRF gw_J35_1 rfl (okF_obj _ rfl) rfl rfl e2 dJ35_init_2 ?_
  refine V_aload_n (i := 0) 0 dJ35_init_5 rfl rfl ?_
  obtain ⟨e3, e4, h⟩ := bd_s h
  refine V_objInit (gz_n e4) q791 q131 q132 (by decide) (Nat.le_of_ble_eq_true rfl) dJ35_init_6 ?_
  refine V_aload_n (i := 0) 0 dJ35_init_9 rfl rfl ?_
  refine V_iconst (v := (-1)) dJ35_init_10 (by decide) ?_
  obtain ⟨σ5, e6, h⟩ := bd_s h
  refine V_wrI gw_J35_13 rfl rfl rfl e6 dJ35_init_11 ?_
  refine V_aload_n (i := 0) 0 dJ35_init_14 rfl rfl ?_
  refine V_aload_n (i := 0) 0 dJ35_init_15 rfl rfl ?_
  obtain ⟨b7, e8, h⟩ := bd_s h
  refine V_rdR gf_J35_1 rfl rfl rfl e8 dJ35_init_16 ?_
  obtain ⟨y9, e10, h⟩ := bd_s h
  refine V_rdI gf_J35_17 rfl rfl rfl e10 dJ35_init_19 ?_
  obtain ⟨σ11, e12, h⟩ := bd_s h
  refine V_wrI gw_J35_22 rfl rfl rfl e12 dJ35_init_22 ?_
  cases h
  exact V_vret rfl dJ35_init_25

abbrev VV_J35_hasNext (l : Launch) (G : Gx) (σ0 : Hp) (o : Oc) (σe : Hp) (Se : Ms) := V l G RJ35 cJ35_hasNext 1 (some .boolean) [] false 1 30 σ0 o σe Se
def f_J35_hasNext_19 (σ : Hp) (s0 : Int32) : Option (Int32 × Hp) :=
  bd (okZ s0) fun e1 => some (s0, σ)
set_option maxHeartbeats 4000000 in
theorem v_J35_hasNext_19 {l : Launch} {G : Gx} (hst : l.stackTraces = false) {σ0 σe : Hp} {Se : Ms} {r : Int32} {σ : Hp} {s0 : Int32} (h : f_J35_hasNext_19 σ s0 = some (r, σe)) : VV_J35_hasNext l G σ0 (.inl (some (pI r))) σe Se 19 [] [pI s0] σ Se := by
  unfold f_J35_hasNext_19 at h
  obtain ⟨e1, e2, h⟩ := bd_s h
  cases h
  exact V_retZ e2 rfl dJ35_hasNext_19
def f_J35_hasNext (σ : Hp) (a0 : Nat) : Option (Int32 × Hp) :=
  bd (rdI σ 11 a0 110) fun y1 => bd (rdR σ 11 a0 113) fun b3 => bd (rdI σ 10 b3 102) fun y5 => if y1 = y5 then (f_J35_hasNext_19 σ (0 : Int32)) else (f_J35_hasNext_19 σ (1 : Int32))
set_option maxHeartbeats 4000000 in
theorem v_J35_hasNext (l : Launch) (G : Gx) (hst : l.stackTraces = false) (S : Ms) {σ σe : Hp} {a0 : Nat} {r : Int32} (h : f_J35_hasNext σ a0 = some (r, σe)) : MT l G yJ35_hasNext (ws_ yJ35_hasNext cJ35_hasNext 1 (some .boolean)) 1 30 [pR a0] σ S (.inl (some (pI r))) σe S := by
  refine MT_of (own := RJ35) (nL := 1) (ini := false) (by decide +kernel) rfl (Nat.le_of_ble_eq_true rfl) (fun h => by cases h) hst ?_
  show VV_J35_hasNext l G σ (.inl (some (pI r))) σe S 0 [(0, pR a0)] [] σ S
  unfold f_J35_hasNext at h
  refine V_aload_n (i := 0) 0 dJ35_hasNext_0 rfl rfl ?_
  obtain ⟨y1, e2, h⟩ := bd_s h
  refine V_rdI gf_J35_25 rfl rfl rfl e2 dJ35_hasNext_1 ?_
  refine V_aload_n (i := 0) 0 dJ35_hasNext_4 rfl rfl ?_
  obtain ⟨b3, e4, h⟩ := bd_s h
  refine V_rdR gf_J35_1 rfl rfl rfl e4 dJ35_hasNext_5 ?_
  obtain ⟨y5, e6, h⟩ := bd_s h
  refine V_rdIN gf_J35_28 rfl rfl rfl e6 dJ35_hasNext_8 ?_
  refine V_icmp_eq 18 dJ35_hasNext_11 (by decide) (fun c7 => ?_) (fun c7 => ?_)
  · replace h := it_t c7 h
    refine V_iconst (v := 0) dJ35_hasNext_18 (by decide) ?_
    refine V_sub [] rfl ?_
    exact v_J35_hasNext_19 hst h
  · replace h := it_f c7 h
    refine V_iconst (v := 1) dJ35_hasNext_14 (by decide) ?_
    refine V_goto 19 dJ35_hasNext_15 (by decide) ?_
    refine V_sub [] rfl ?_
    exact v_J35_hasNext_19 hst h

abbrev VV_J35_checkForComodification (l : Launch) (G : Gx) (σ0 : Hp) (o : Oc) (σe : Hp) (Se : Ms) := V l G RJ35 cJ35_checkForComodification 1 none [] false 1 30 σ0 o σe Se
def f_J35_checkForComodification (σ : Hp) (a0 : Nat) : Option (Unit × Hp) :=
  bd (rdR σ 11 a0 113) fun b1 => bd (rdI σ 10 b1 100) fun y3 => bd (rdI σ 11 a0 112) fun y5 => if y3 = y5 then (some ((), σ)) else (none)
set_option maxHeartbeats 4000000 in
theorem v_J35_checkForComodification (l : Launch) (G : Gx) (hst : l.stackTraces = false) (S : Ms) {σ σe : Hp} {a0 : Nat} {r : Unit} (h : f_J35_checkForComodification σ a0 = some (r, σe)) : MT l G yJ35_checkForComodification (ws_ yJ35_checkForComodification cJ35_checkForComodification 1 none) 1 30 [pR a0] σ S (.inl none) σe S := by
  refine MT_of (own := RJ35) (nL := 1) (ini := false) (by decide +kernel) rfl (Nat.le_of_ble_eq_true rfl) (fun h => by cases h) hst ?_
  show VV_J35_checkForComodification l G σ (.inl none) σe S 0 [(0, pR a0)] [] σ S
  unfold f_J35_checkForComodification at h
  refine V_aload_n (i := 0) 0 dJ35_checkForComodification_0 rfl rfl ?_
  obtain ⟨b1, e2, h⟩ := bd_s h
  refine V_rdR gf_J35_1 rfl rfl rfl e2 dJ35_checkForComodification_1 ?_
  obtain ⟨y3, e4, h⟩ := bd_s h
  refine V_rdI gf_J35_17 rfl rfl rfl e4 dJ35_checkForComodification_4 ?_
  refine V_aload_n (i := 0) 0 dJ35_checkForComodification_7 rfl rfl ?_
  obtain ⟨y5, e6, h⟩ := bd_s h
  refine V_rdI gf_J35_22 rfl rfl rfl e6 dJ35_checkForComodification_8 ?_
  refine V_icmp_eq 22 dJ35_checkForComodification_11 (by decide) (fun c7 => ?_) (fun c7 => ?_)
  · replace h := it_t c7 h
    cases h
    exact V_vret rfl dJ35_checkForComodification_22
  · replace h := it_f c7 h
    cases h

abbrev VV_J35_next (l : Launch) (G : Gx) (σ0 : Hp) (o : Oc) (σe : Hp) (Se : Ms) := V l G RJ35 cJ35_next 3 (some (.object "java/lang/Object")) [] false 2 50 σ0 o σe Se
def f_J35_next (σ : Hp) (a0 : Nat) : Option (Nat × Hp) :=
  bd (gk σ 11 a0) fun e1 => bp (f_J35_checkForComodification σ a0) fun e3 σ4 => bd (rdI σ4 11 a0 110) fun y6 => bd (rdR σ4 11 a0 113) fun b8 => bd (rdI σ4 10 b8 102) fun y10 => if y6 < y10 then (bd (rdR σ4 11 a0 113) fun b13 => bd (rdR σ4 10 b13 101) fun b15 => bd (elN σ4 b15) fun y17 => if y6 < y17 then (bd (wrI σ4 11 a0 110 (y6 + (1 : Int32))) fun σ20 => bd (wrI σ20 11 a0 111 y6) fun σ22 => bd (elR σ22 105 b15 y6) fun b24 => some (b24, σ22)) else (none)) else (none)
set_option maxHeartbeats 4000000 in
theorem v_J35_next (l : Launch) (G : Gx) (hst : l.stackTraces = false) (S : Ms) {σ σe : Hp} {a0 : Nat} {r : Nat} (h : f_J35_next σ a0 = some (r, σe)) : MT l G yJ35_next (ws_ yJ35_next cJ35_next 3 (some (.object "java/lang/Object"))) 2 50 [pR a0] σ S (.inl (some (pR r))) σe S := by
  refine MT_of (own := RJ35) (nL := 3) (ini := false) (by decide +kernel) rfl (Nat.le_of_ble_eq_true rfl) (fun h => by cases h) hst ?_
  show VV_J35_next l G σ (.inl (some (pR r))) σe S 0 [(0, pR a0)] [] σ S
  unfold f_J35_next at h
  refine V_aload_n (i := 0) 0 dJ35_next_0 rfl rfl ?_
  obtain ⟨e1, e2, h⟩ := bd_s h
  obtain ⟨e3, σ4, e5, h⟩ := bp_s h
  refine V_callV_0 (n9 := 0) (c := 10) (r := (RJ35, TJ35, 4)) [] (v_J35_checkForComodification l G hst _ e5) rfl rfl (lw_V q830 q831 q832 q124 q833) (by decide +kernel) (by decide) (Nat.le_of_ble_eq_true rfl) (gk_k e2 rfl) rfl dJ35_next_1 ?_
  refine V_aload_n (i := 0) 0 dJ35_next_4 rfl rfl ?_
  obtain ⟨y6, e7, h⟩ := bd_s h
  refine V_rdI gf_J35_25 rfl rfl rfl e7 dJ35_next_5 ?_
  refine V_istore_n (i := 1) (L' := [(1, pI y6), (0, pR a0)]) dJ35_next_8 rfl (by decide) rfl ?_
  refine V_iload_n (i := 1) 0 dJ35_next_9 rfl rfl ?_
  refine V_aload_n (i := 0) 1 dJ35_next_10 rfl rfl ?_
  obtain ⟨b8, e9, h⟩ := bd_s h
  refine V_rdR gf_J35_1 rfl rfl rfl e9 dJ35_next_11 ?_
  obtain ⟨y10, e11, h⟩ := bd_s h
  refine V_rdIN gf_J35_28 rfl rfl rfl e11 dJ35_next_14 ?_
  refine V_icmp_lt 28 dJ35_next_17 (by decide) (fun c12 => ?_) (fun c12 => ?_)
  · replace h := it_t c12 h
    refine V_aload_n (i := 0) 1 dJ35_next_28 rfl rfl ?_
    obtain ⟨b13, e14, h⟩ := bd_s h
    refine V_rdR gf_J35_1 rfl rfl rfl e14 dJ35_next_29 ?_
    obtain ⟨b15, e16, h⟩ := bd_s h
    refine V_rdR gf_J35_37 rfl rfl rfl e16 dJ35_next_32 ?_
    refine V_astore_n (i := 2) (L' := [(2, pR b15), (1, pI y6), (0, pR a0)]) dJ35_next_35 rfl (by decide) rfl ?_
    refine V_iload_n (i := 1) 1 dJ35_next_36 rfl rfl ?_
    refine V_aload_n (i := 2) 0 dJ35_next_37 rfl rfl ?_
    obtain ⟨y17, e18, h⟩ := bd_s h
    refine V_elN e18 dJ35_next_38 ?_
    refine V_icmp_lt 50 dJ35_next_39 (by decide) (fun c19 => ?_) (fun c19 => ?_)
    · replace h := it_t c19 h
      refine V_aload_n (i := 0) 2 dJ35_next_50 rfl rfl ?_
      refine V_iload_n (i := 1) 1 dJ35_next_51 rfl rfl ?_
      refine V_iconst (v := 1) dJ35_next_52 (by decide) ?_
      refine V_iadd dJ35_next_53 ?_
      obtain ⟨σ20, e21, h⟩ := bd_s h
      refine V_wrI gw_J35_25 rfl rfl rfl e21 dJ35_next_54 ?_
      refine V_aload_n (i := 2) 0 dJ35_next_57 rfl rfl ?_
      refine V_aload_n (i := 0) 2 dJ35_next_58 rfl rfl ?_
      refine V_iload_n (i := 1) 1 dJ35_next_59 rfl rfl ?_
      refine V_dup_x1 dJ35_next_60 rfl rfl ?_
      obtain ⟨σ22, e23, h⟩ := bd_s h
      refine V_wrI gw_J35_13 rfl rfl rfl e23 dJ35_next_61 ?_
      obtain ⟨b24, e25, h⟩ := bd_s h
      refine V_elR5 e25 dJ35_next_64 ?_
      cases h
      exact V_aret rfl (Or.inl ⟨_, rfl⟩) dJ35_next_65
    · replace h := it_f c19 h
      cases h
  · replace h := it_f c12 h
    cases h

abbrev VV_X4_error (l : Launch) (G : Gx) (σ0 : Hp) (o : Oc) (σe : Hp) (Se : Ms) := V l G RX4 cX4_error 1 (some .int) [] false 1 30 σ0 o σe Se
def f_X4_error (σ : Hp) (a0 : Nat) : Option (Int32 × Hp) :=
  bd (rdI σ 3 a0 31) fun y1 => bd (rdI σ 3 a0 32) fun y3 => some ((y1 - y3), σ)
set_option maxHeartbeats 4000000 in
theorem v_X4_error (l : Launch) (G : Gx) (hst : l.stackTraces = false) (S : Ms) {σ σe : Hp} {a0 : Nat} {r : Int32} (h : f_X4_error σ a0 = some (r, σe)) : MT l G yX4_error (ws_ yX4_error cX4_error 1 (some .int)) 1 30 [pR a0] σ S (.inl (some (pI r))) σe S := by
  refine MT_of (own := RX4) (nL := 1) (ini := false) (by decide +kernel) rfl (Nat.le_of_ble_eq_true rfl) (fun h => by cases h) hst ?_
  show VV_X4_error l G σ (.inl (some (pI r))) σe S 0 [(0, pR a0)] [] σ S
  unfold f_X4_error at h
  refine V_aload_n (i := 0) 0 dX4_error_0 rfl rfl ?_
  obtain ⟨y1, e2, h⟩ := bd_s h
  refine V_rdI gf_X4_18 rfl rfl rfl e2 dX4_error_1 ?_
  refine V_aload_n (i := 0) 0 dX4_error_4 rfl rfl ?_
  obtain ⟨y3, e4, h⟩ := bd_s h
  refine V_rdI gf_X4_24 rfl rfl rfl e4 dX4_error_5 ?_
  refine V_isub dX4_error_8 ?_
  cases h
  exact V_iret rfl dX4_error_9

abbrev VV_X4_init (l : Launch) (G : Gx) (σ0 : Hp) (o : Oc) (σe : Hp) (Se : Ms) := V l G RX4 cX4_init 3 none [] true 1 30 σ0 o σe Se
def f_X4_init (σ : Hp) (a0 : Nat) (x1 : Int32) (x2 : Int32) : Option (Unit × Hp) :=
  bd (gz σ a0) fun e1 => bd (wrI σ 3 a0 35 (-1 : Int32)) fun σ3 => bd (wrI σ3 3 a0 30 x1) fun σ5 => bd (wrI σ5 3 a0 31 x2) fun σ7 => some ((), σ7)
set_option maxHeartbeats 4000000 in
theorem v_X4_init (l : Launch) (G : Gx) (hst : l.stackTraces = false) (S : Ms) {σ σe : Hp} {a0 : Nat} {x1 : Int32} {x2 : Int32} {r : Unit} (h : f_X4_init σ a0 x1 x2 = some (r, σe)) : MT l G yX4_init (ws_ yX4_init cX4_init 3 none) 1 30 [pR a0, pI x1, pI x2] σ S (.inl none) σe S := by
  refine MT_of (own := RX4) (nL := 3) (ini := true) (by decide +kernel) rfl (Nat.le_of_ble_eq_true rfl) (fun h => rfl) hst ?_
  show VV_X4_init l G σ (.inl none) σe S 0 [(0, pR a0), (1, pI x1), (2, pI x2)] [] σ S
  unfold f_X4_init at h
  refine V_aload_n (i := 0) 0 dX4_init_0 rfl rfl ?_
  obtain ⟨e1, e2, h⟩ := bd_s h
  refine V_objInit (gz_n e2) q958 q131 q132 (by decide) (Nat.le_of_ble_eq_true rfl) dX4_init_1 ?_
  refine V_aload_n (i := 0) 0 dX4_init_4 rfl rfl ?_
  refine V_iconst (v := (-1)) dX4_init_5 (by decide) ?_
  obtain ⟨σ3, e4, h⟩ := bd_s h
  refine V_wrI gw_X4_9 rfl rfl rfl e4 dX4_init_6 ?_
  refine V_aload_n (i := 0) 0 dX4_init_9 rfl rfl ?_
  refine V_iload_n (i := 1) 1 dX4_init_10 rfl rfl ?_
  obtain ⟨σ5, e6, h⟩ := bd_s h
  refine V_wrIF gw_X4_15 rfl rfl rfl rfl e6 dX4_init_11 ?_
  refine V_aload_n (i := 0) 0 dX4_init_14 rfl rfl ?_
  refine V_iload_n (i := 2) 2 dX4_init_15 rfl rfl ?_
  obtain ⟨σ7, e8, h⟩ := bd_s h
  refine V_wrI gw_X4_18 rfl rfl rfl e8 dX4_init_16 ?_
  cases h
  exact V_vret rfl dX4_init_19

abbrev VV_X4_copy (l : Launch) (G : Gx) (σ0 : Hp) (o : Oc) (σe : Hp) (Se : Ms) := V l G RX4 cX4_copy 2 (some (.object "GaugeBlocks$Block")) [] false 2 52 σ0 o σe Se
def f_X4_copy (σ : Hp) (a0 : Nat) : Option (Nat × Hp) :=
  bd (rdI (nC σ 3 6) 3 a0 30) fun y1 => bd (rdI (nC σ 3 6) 3 a0 31) fun y3 => bd (gz (nC σ 3 6) (hN σ)) fun e5 => bp (f_X4_init (nC σ 3 6) (hN σ) y1 y3) fun e7 σ8 => bd (rdI σ8 3 a0 32) fun y10 => bd (wrI σ8 3 (hN σ) 32 y10) fun σ12 => bd (rdI σ12 3 a0 33) fun y14 => bd (wrI σ12 3 (hN σ) 33 y14) fun σ16 => bd (rdI σ16 3 a0 34) fun y18 => bd (wrI σ16 3 (hN σ) 34 y18) fun σ20 => bd (rdI σ20 3 a0 35) fun y22 => bd (wrI σ20 3 (hN σ) 35 y22) fun σ24 => some ((hN σ), σ24)
set_option maxHeartbeats 4000000 in
theorem v_X4_copy (l : Launch) (G : Gx) (hst : l.stackTraces = false) (S : Ms) {σ σe : Hp} {a0 : Nat} {r : Nat} (h : f_X4_copy σ a0 = some (r, σe)) : MT l G yX4_copy (ws_ yX4_copy cX4_copy 2 (some (.object "GaugeBlocks$Block"))) 2 52 [pR a0] σ S (.inl (some (pR r))) σe S := by
  refine MT_of (own := RX4) (nL := 2) (ini := false) (by decide +kernel) rfl (Nat.le_of_ble_eq_true rfl) (fun h => by cases h) hst ?_
  show VV_X4_copy l G σ (.inl (some (pR r))) σe S 0 [(0, pR a0)] [] σ S
  unfold f_X4_copy at h
  refine V_new (n := 6) ci_2 (by decide +kernel) q953 q954 q98 dX4_copy_0 ?_
  refine V_dup dX4_copy_3 rfl ?_
  refine V_aload_n (i := 0) 0 dX4_copy_4 rfl rfl ?_
  obtain ⟨y1, e2, h⟩ := bd_s h
  refine V_rdI gf_X4_15 rfl rfl rfl e2 dX4_copy_5 ?_
  refine V_aload_n (i := 0) 0 dX4_copy_8 rfl rfl ?_
  obtain ⟨y3, e4, h⟩ := bd_s h
  refine V_rdI gf_X4_18 rfl rfl rfl e4 dX4_copy_9 ?_
  obtain ⟨e5, e6, h⟩ := bd_s h
  obtain ⟨e7, σ8, e9, h⟩ := bp_s h
  refine V_callI_0 (n9 := 2) [pR (hN σ)] (v_X4_init l G hst _ e9) rfl rfl q957 q98 q955 q956 rfl (by decide +kernel) (by decide) (Nat.le_of_ble_eq_true rfl) (gz_n e6) dX4_copy_12 ?_
  refine V_astore_n (i := 1) (L' := [(1, pR (hN σ)), (0, pR a0)]) dX4_copy_15 rfl (by decide) rfl ?_
  refine V_aload_n (i := 1) 0 dX4_copy_16 rfl rfl ?_
  refine V_aload_n (i := 0) 1 dX4_copy_17 rfl rfl ?_
  obtain ⟨y10, e11, h⟩ := bd_s h
  refine V_rdI gf_X4_24 rfl rfl rfl e11 dX4_copy_18 ?_
  obtain ⟨σ12, e13, h⟩ := bd_s h
  refine V_wrI gw_X4_24 rfl rfl rfl e13 dX4_copy_21 ?_
  refine V_aload_n (i := 1) 0 dX4_copy_24 rfl rfl ?_
  refine V_aload_n (i := 0) 1 dX4_copy_25 rfl rfl ?_
  obtain ⟨y14, e15, h⟩ := bd_s h
  refine V_rdI gf_X4_27 rfl rfl rfl e15 dX4_copy_26 ?_
  obtain ⟨σ16, e17, h⟩ := bd_s h
  refine V_wrI gw_X4_27 rfl rfl rfl e17 dX4_copy_29 ?_
  refine V_aload_n (i := 1) 0 dX4_copy_32 rfl rfl ?_
  refine V_aload_n (i := 0) 1 dX4_copy_33 rfl rfl ?_
  obtain ⟨y18, e19, h⟩ := bd_s h
  refine V_rdI gf_X4_30 rfl rfl rfl e19 dX4_copy_34 ?_
  obtain ⟨σ20, e21, h⟩ := bd_s h
  refine V_wrI gw_X4_30 rfl rfl rfl e21 dX4_copy_37 ?_
  refine V_aload_n (i := 1) 0 dX4_copy_40 rfl rfl ?_
  refine V_aload_n (i := 0) 1 dX4_copy_41 rfl rfl ?_
  obtain ⟨y22, e23, h⟩ := bd_s h
  refine V_rdI gf_X4_9 rfl rfl rfl e23 dX4_copy_42 ?_
  obtain ⟨σ24, e25, h⟩ := bd_s h
  refine V_wrI gw_X4_9 rfl rfl rfl e25 dX4_copy_45 ?_
  refine V_aload_n (i := 1) 0 dX4_copy_48 rfl rfl ?_
  cases h
  exact V_aret rfl (Or.inl ⟨_, rfl⟩) dX4_copy_49

abbrev VV_X4_isFree (l : Launch) (G : Gx) (σ0 : Hp) (o : Oc) (σe : Hp) (Se : Ms) := V l G RX4 cX4_isFree 1 (some .boolean) [] false 1 30 σ0 o σe Se
def f_X4_isFree_13 (σ : Hp) (s0 : Int32) : Option (Int32 × Hp) :=
  bd (okZ s0) fun e1 => some (s0, σ)
set_option maxHeartbeats 4000000 in
theorem v_X4_isFree_13 {l : Launch} {G : Gx} (hst : l.stackTraces = false) {σ0 σe : Hp} {Se : Ms} {r : Int32} {σ : Hp} {s0 : Int32} (h : f_X4_isFree_13 σ s0 = some (r, σe)) : VV_X4_isFree l G σ0 (.inl (some (pI r))) σe Se 13 [] [pI s0] σ Se := by
  unfold f_X4_isFree_13 at h
  obtain ⟨e1, e2, h⟩ := bd_s h
  cases h
  exact V_retZ e2 rfl dX4_isFree_13
def f_X4_isFree (σ : Hp) (a0 : Nat) : Option (Int32 × Hp) :=
  bd (rdI σ 3 a0 35) fun y1 => if y1 = (-1 : Int32) then (f_X4_isFree_13 σ (1 : Int32)) else (f_X4_isFree_13 σ (0 : Int32))
set_option maxHeartbeats 4000000 in
theorem v_X4_isFree (l : Launch) (G : Gx) (hst : l.stackTraces = false) (S : Ms) {σ σe : Hp} {a0 : Nat} {r : Int32} (h : f_X4_isFree σ a0 = some (r, σe)) : MT l G yX4_isFree (ws_ yX4_isFree cX4_isFree 1 (some .boolean)) 1 30 [pR a0] σ S (.inl (some (pI r))) σe S := by
  refine MT_of (own := RX4) (nL := 1) (ini := false) (by decide +kernel) rfl (Nat.le_of_ble_eq_true rfl) (fun h => by cases h) hst ?_
  show VV_X4_isFree l G σ (.inl (some (pI r))) σe S 0 [(0, pR a0)] [] σ S
  unfold f_X4_isFree at h
  refine V_aload_n (i := 0) 0 dX4_isFree_0 rfl rfl ?_
  obtain ⟨y1, e2, h⟩ := bd_s h
  refine V_rdI gf_X4_9 rfl rfl rfl e2 dX4_isFree_1 ?_
  refine V_iconst (v := (-1)) dX4_isFree_4 (by decide) ?_
  refine V_icmp_ne 12 dX4_isFree_5 (by decide) (fun c3 => ?_) (fun c3 => ?_)
  · replace h := it_f c3 h
    refine V_iconst (v := 0) dX4_isFree_12 (by decide) ?_
    refine V_sub [] rfl ?_
    exact v_X4_isFree_13 hst h
  · replace h := it_t c3 h
    refine V_iconst (v := 1) dX4_isFree_8 (by decide) ?_
    refine V_goto 13 dX4_isFree_9 (by decide) ?_
    refine V_sub [] rfl ?_
    exact v_X4_isFree_13 hst h

abbrev VV_X4_calibrate (l : Launch) (G : Gx) (σ0 : Hp) (o : Oc) (σe : Hp) (Se : Ms) := V l G RX4 cX4_calibrate 1 none [] false 2 50 σ0 o σe Se
def f_X4_calibrate (σ : Hp) (a0 : Nat) : Option (Unit × Hp) :=
  bd (gk σ 3 a0) fun e1 => bp (f_X4_error σ a0) fun y3 σ4 => bd (wrI σ4 3 a0 31 (if (-900 : Int32) < y3 then y3 else (-900 : Int32))) fun σ6 => bd (wrI σ6 3 a0 32 (0 : Int32)) fun σ8 => some ((), σ8)
set_option maxHeartbeats 4000000 in
theorem v_X4_calibrate (l : Launch) (G : Gx) (hst : l.stackTraces = false) (S : Ms) {σ σe : Hp} {a0 : Nat} {r : Unit} (h : f_X4_calibrate σ a0 = some (r, σe)) : MT l G yX4_calibrate (ws_ yX4_calibrate cX4_calibrate 1 none) 2 50 [pR a0] σ S (.inl none) σe S := by
  refine MT_of (own := RX4) (nL := 1) (ini := false) (by decide +kernel) rfl (Nat.le_of_ble_eq_true rfl) (fun h => by cases h) hst ?_
  show VV_X4_calibrate l G σ (.inl none) σe S 0 [(0, pR a0)] [] σ S
  unfold f_X4_calibrate at h
  refine V_aload_n (i := 0) 0 dX4_calibrate_0 rfl rfl ?_
  refine V_sipush (v := (-900)) dX4_calibrate_1 (by decide) ?_
  refine V_aload_n (i := 0) 0 dX4_calibrate_4 rfl rfl ?_
  obtain ⟨e1, e2, h⟩ := bd_s h
  obtain ⟨y3, σ4, e5, h⟩ := bp_s h
  refine V_callV_v (n9 := 0) (c := 2) (r := (RX4, TX4, 6)) [pI (-900 : Int32), pR a0] (v_X4_error l G hst _ e5) rfl rfl (lw_V q1079 q850 q851 q98 q852) (by decide +kernel) (by decide) (Nat.le_of_ble_eq_true rfl) (gk_k e2 rfl) rfl dX4_calibrate_5 ?_
  refine V_mmax q1080 q188 q82 q189 (by decide) (Nat.le_of_ble_eq_true rfl) dX4_calibrate_8 ?_
  obtain ⟨σ6, e7, h⟩ := bd_s h
  refine V_wrI gw_X4_18 rfl rfl rfl e7 dX4_calibrate_11 ?_
  refine V_aload_n (i := 0) 0 dX4_calibrate_14 rfl rfl ?_
  refine V_iconst (v := 0) dX4_calibrate_15 (by decide) ?_
  obtain ⟨σ8, e9, h⟩ := bd_s h
  refine V_wrI gw_X4_24 rfl rfl rfl e9 dX4_calibrate_16 ?_
  cases h
  exact V_vret rfl dX4_calibrate_19

abbrev VV_X4_grade (l : Launch) (G : Gx) (σ0 : Hp) (o : Oc) (σe : Hp) (Se : Ms) := V l G RX4 cX4_grade 2 (some .int) [] false 2 50 σ0 o σe Se
def f_X4_grade_41 (σ : Hp) (s0 : Int32) : Option (Int32 × Hp) :=
  some (s0, σ)
set_option maxHeartbeats 4000000 in
theorem v_X4_grade_41 {l : Launch} {G : Gx} (hst : l.stackTraces = false) {σ0 σe : Hp} {Se : Ms} {r : Int32} {σ : Hp} {s0 : Int32} (h : f_X4_grade_41 σ s0 = some (r, σe)) : VV_X4_grade l G σ0 (.inl (some (pI r))) σe Se 41 [] [pI s0] σ Se := by
  unfold f_X4_grade_41 at h
  cases h
  exact V_iret rfl dX4_grade_41
def f_X4_grade (σ : Hp) (a0 : Nat) : Option (Int32 × Hp) :=
  bd (gk σ 3 a0) fun e1 => bp (f_X4_error σ a0) fun y3 σ4 => if (100 : Int32) < (if 0 ≤ y3 then y3 else 0 - y3) then (if (250 : Int32) < (if 0 ≤ y3 then y3 else 0 - y3) then (if (500 : Int32) < (if 0 ≤ y3 then y3 else 0 - y3) then (f_X4_grade_41 σ4 (3 : Int32)) else (f_X4_grade_41 σ4 (2 : Int32))) else (f_X4_grade_41 σ4 (1 : Int32))) else (f_X4_grade_41 σ4 (0 : Int32))
set_option maxHeartbeats 4000000 in
theorem v_X4_grade (l : Launch) (G : Gx) (hst : l.stackTraces = false) (S : Ms) {σ σe : Hp} {a0 : Nat} {r : Int32} (h : f_X4_grade σ a0 = some (r, σe)) : MT l G yX4_grade (ws_ yX4_grade cX4_grade 2 (some .int)) 2 50 [pR a0] σ S (.inl (some (pI r))) σe S := by
  refine MT_of (own := RX4) (nL := 2) (ini := false) (by decide +kernel) rfl (Nat.le_of_ble_eq_true rfl) (fun h => by cases h) hst ?_
  show VV_X4_grade l G σ (.inl (some (pI r))) σe S 0 [(0, pR a0)] [] σ S
  unfold f_X4_grade at h
  refine V_aload_n (i := 0) 0 dX4_grade_0 rfl rfl ?_
  obtain ⟨e1, e2, h⟩ := bd_s h
  obtain ⟨y3, σ4, e5, h⟩ := bp_s h
  refine V_callV_v (n9 := 0) (c := 2) (r := (RX4, TX4, 6)) [] (v_X4_error l G hst _ e5) rfl rfl (lw_V q1079 q850 q851 q98 q852) (by decide +kernel) (by decide) (Nat.le_of_ble_eq_true rfl) (gk_k e2 rfl) rfl dX4_grade_1 ?_
  refine V_mabs q1085 q854 q82 q855 (by decide) (Nat.le_of_ble_eq_true rfl) dX4_grade_4 ?_
  refine V_istore_n (i := 1) (L' := [(1, pI (if 0 ≤ y3 then y3 else 0 - y3)), (0, pR a0)]) dX4_grade_7 rfl (by decide) rfl ?_
  refine V_iload_n (i := 1) 0 dX4_grade_8 rfl rfl ?_
  refine V_bipush (v := 100) dX4_grade_9 (by decide) ?_
  refine V_icmp_gt 18 dX4_grade_11 (by decide) (fun c6 => ?_) (fun c6 => ?_)
  · replace h := it_t c6 h
    refine V_iload_n (i := 1) 0 dX4_grade_18 rfl rfl ?_
    refine V_sipush (v := 250) dX4_grade_19 (by decide) ?_
    refine V_icmp_gt 29 dX4_grade_22 (by decide) (fun c7 => ?_) (fun c7 => ?_)
    · replace h := it_t c7 h
      refine V_iload_n (i := 1) 0 dX4_grade_29 rfl rfl ?_
      refine V_sipush (v := 500) dX4_grade_30 (by decide) ?_
      refine V_icmp_gt 40 dX4_grade_33 (by decide) (fun c8 => ?_) (fun c8 => ?_)
      · replace h := it_t c8 h
        refine V_iconst (v := 3) dX4_grade_40 (by decide) ?_
        refine V_sub [] rfl ?_
        exact v_X4_grade_41 hst h
      · replace h := it_f c8 h
        refine V_iconst (v := 2) dX4_grade_36 (by decide) ?_
        refine V_goto 41 dX4_grade_37 (by decide) ?_
        refine V_sub [] rfl ?_
        exact v_X4_grade_41 hst h
    · replace h := it_f c7 h
      refine V_iconst (v := 1) dX4_grade_25 (by decide) ?_
      refine V_goto 41 dX4_grade_26 (by decide) ?_
      refine V_sub [] rfl ?_
      exact v_X4_grade_41 hst h
  · replace h := it_f c6 h
    refine V_iconst (v := 0) dX4_grade_14 (by decide) ?_
    refine V_goto 41 dX4_grade_15 (by decide) ?_
    refine V_sub [] rfl ?_
    exact v_X4_grade_41 hst h

abbrev VV_X4_warm (l : Launch) (G : Gx) (σ0 : Hp) (o : Oc) (σe : Hp) (Se : Ms) := V l G RX4 cX4_warm 2 none [] false 1 30 σ0 o σe Se
def f_X4_warm (σ : Hp) (a0 : Nat) (x1 : Int32) : Option (Unit × Hp) :=
  bd (rdI σ 3 a0 33) fun y1 => bd (wrI σ 3 a0 33 (if (y1 + x1) < (1000 : Int32) then (y1 + x1) else (1000 : Int32))) fun σ3 => some ((), σ3)
set_option maxHeartbeats 4000000 in
theorem v_X4_warm (l : Launch) (G : Gx) (hst : l.stackTraces = false) (S : Ms) {σ σe : Hp} {a0 : Nat} {x1 : Int32} {r : Unit} (h : f_X4_warm σ a0 x1 = some (r, σe)) : MT l G yX4_warm (ws_ yX4_warm cX4_warm 2 none) 1 30 [pR a0, pI x1] σ S (.inl none) σe S := by
  refine MT_of (own := RX4) (nL := 2) (ini := false) (by decide +kernel) rfl (Nat.le_of_ble_eq_true rfl) (fun h => by cases h) hst ?_
  show VV_X4_warm l G σ (.inl none) σe S 0 [(0, pR a0), (1, pI x1)] [] σ S
  unfold f_X4_warm at h
  refine V_aload_n (i := 0) 0 dX4_warm_0 rfl rfl ?_
  refine V_sipush (v := 1000) dX4_warm_1 (by decide) ?_
  refine V_aload_n (i := 0) 0 dX4_warm_4 rfl rfl ?_
  obtain ⟨y1, e2, h⟩ := bd_s h
  refine V_rdI gf_X4_27 rfl rfl rfl e2 dX4_warm_5 ?_
  refine V_iload_n (i := 1) 1 dX4_warm_8 rfl rfl ?_
  refine V_iadd dX4_warm_9 ?_
  refine V_mmin q1097 q235 q82 q236 (by decide) (Nat.le_of_ble_eq_true rfl) dX4_warm_10 ?_
  obtain ⟨σ3, e4, h⟩ := bd_s h
  refine V_wrI gw_X4_27 rfl rfl rfl e4 dX4_warm_13 ?_
  cases h
  exact V_vret rfl dX4_warm_16

abbrev VV_X4_lengthAt (l : Launch) (G : Gx) (σ0 : Hp) (o : Oc) (σe : Hp) (Se : Ms) := V l G RX4 cX4_lengthAt 2 (some .int) [] false 2 50 σ0 o σe Se
def f_X4_lengthAt (σ : Hp) (a0 : Nat) (x1 : Int32) : Option (Int32 × Hp) :=
  bd (rdI σ 3 a0 30) fun y1 => bd (gk σ 3 a0) fun e3 => bp (f_X4_error σ a0) fun y5 σ6 => bd (rdI σ6 3 a0 30) fun y8 => bd (dvI (y8 * x1) (1000 : Int32)) fun y10 => bd (dvI (y10 * (115 : Int32)) (1000 : Int32)) fun y12 => some (((((1000 : Int32) * y1) + y5) + y12), σ6)
set_option maxHeartbeats 4000000 in
theorem v_X4_lengthAt (l : Launch) (G : Gx) (hst : l.stackTraces = false) (S : Ms) {σ σe : Hp} {a0 : Nat} {x1 : Int32} {r : Int32} (h : f_X4_lengthAt σ a0 x1 = some (r, σe)) : MT l G yX4_lengthAt (ws_ yX4_lengthAt cX4_lengthAt 2 (some .int)) 2 50 [pR a0, pI x1] σ S (.inl (some (pI r))) σe S := by
  refine MT_of (own := RX4) (nL := 2) (ini := false) (by decide +kernel) rfl (Nat.le_of_ble_eq_true rfl) (fun h => by cases h) hst ?_
  show VV_X4_lengthAt l G σ (.inl (some (pI r))) σe S 0 [(0, pR a0), (1, pI x1)] [] σ S
  unfold f_X4_lengthAt at h
  refine V_sipush (v := 1000) dX4_lengthAt_0 (by decide) ?_
  refine V_aload_n (i := 0) 0 dX4_lengthAt_3 rfl rfl ?_
  obtain ⟨y1, e2, h⟩ := bd_s h
  refine V_rdI gf_X4_15 rfl rfl rfl e2 dX4_lengthAt_4 ?_
  refine V_imul dX4_lengthAt_7 ?_
  refine V_aload_n (i := 0) 0 dX4_lengthAt_8 rfl rfl ?_
  obtain ⟨e3, e4, h⟩ := bd_s h
  obtain ⟨y5, σ6, e7, h⟩ := bp_s h
  refine V_callV_v (n9 := 0) (c := 2) (r := (RX4, TX4, 6)) [pI ((1000 : Int32) * y1)] (v_X4_error l G hst _ e7) rfl rfl (lw_V q1079 q850 q851 q98 q852) (by decide +kernel) (by decide) (Nat.le_of_ble_eq_true rfl) (gk_k e4 rfl) rfl dX4_lengthAt_9 ?_
  refine V_iadd dX4_lengthAt_12 ?_
  refine V_aload_n (i := 0) 0 dX4_lengthAt_13 rfl rfl ?_
  obtain ⟨y8, e9, h⟩ := bd_s h
  refine V_rdI gf_X4_15 rfl rfl rfl e9 dX4_lengthAt_14 ?_
  refine V_iload_n (i := 1) 1 dX4_lengthAt_17 rfl rfl ?_
  refine V_imul dX4_lengthAt_18 ?_
  refine V_sipush (v := 1000) dX4_lengthAt_19 (by decide) ?_
  obtain ⟨y10, e11, h⟩ := bd_s h
  refine V_div e11 dX4_lengthAt_22 ?_
  refine V_bipush (v := 115) dX4_lengthAt_23 (by decide) ?_
  refine V_imul dX4_lengthAt_25 ?_
  refine V_sipush (v := 1000) dX4_lengthAt_26 (by decide) ?_
  obtain ⟨y12, e13, h⟩ := bd_s h
  refine V_div e13 dX4_lengthAt_29 ?_
  refine V_iadd dX4_lengthAt_30 ?_
  cases h
  exact V_iret rfl dX4_lengthAt_31

abbrev VV_J17_checkIndex (l : Launch) (G : Gx) (σ0 : Hp) (o : Oc) (σe : Hp) (Se : Ms) := V l G RJ17 cJ17_checkIndex 3 (some .int) [] false 1 30 σ0 o σe Se
def f_J17_checkIndex_9 (x0 : Int32) (x1 : Int32) (a2 : Nat) : Option Int32 :=
  none
set_option maxHeartbeats 4000000 in
theorem v_J17_checkIndex_9 {l : Launch} {G : Gx} (hst : l.stackTraces = false) {σ0 σe : Hp} {Se : Ms} {r : Int32} {x0 : Int32} {x1 : Int32} {a2 : Nat} (h : f_J17_checkIndex_9 x0 x1 a2 = some r) : VV_J17_checkIndex l G σ0 (.inl (some (pI r))) σe Se 9 [(0, pI x0), (1, pI x1), (2, pR a2)] [] σe Se := by
  unfold f_J17_checkIndex_9 at h
  refine V_aload_n (i := 2) 2 dJ17_checkIndex_9 rfl rfl ?_
  refine V_iload_n (i := 0) 0 dJ17_checkIndex_10 rfl rfl ?_
  refine V_iload_n (i := 1) 1 dJ17_checkIndex_11 rfl rfl ?_
  cases h
def f_J17_checkIndex (x0 : Int32) (x1 : Int32) (a2 : Nat) : Option Int32 :=
  if x0 < (0 : Int32) then (f_J17_checkIndex_9 x0 x1 a2) else (if x0 < x1 then (some x0) else (f_J17_checkIndex_9 x0 x1 a2))
set_option maxHeartbeats 4000000 in
theorem v_J17_checkIndex (l : Launch) (G : Gx) (hst : l.stackTraces = false) (σ : Hp) (S : Ms) {x0 : Int32} {x1 : Int32} {a2 : Nat} {r : Int32} (h : f_J17_checkIndex x0 x1 a2 = some r) : MT l G yJ17_checkIndex (ws_ yJ17_checkIndex cJ17_checkIndex 3 (some .int)) 1 30 [pI x0, pI x1, pR a2] σ S (.inl (some (pI r))) σ S := by
  refine MT_of (own := RJ17) (nL := 3) (ini := false) (by decide +kernel) rfl (Nat.le_of_ble_eq_true rfl) (fun h => by cases h) hst ?_
  show VV_J17_checkIndex l G σ (.inl (some (pI r))) σ S 0 [(0, pI x0), (1, pI x1), (2, pR a2)] [] σ S
  unfold f_J17_checkIndex at h
  refine V_iload_n (i := 0) 0 dJ17_checkIndex_0 rfl rfl ?_
  refine V_if_lt 9 dJ17_checkIndex_1 (by decide) (fun c1 => ?_) (fun c1 => ?_)
  · replace h := it_t c1 h
    refine V_sub [0, 1, 2] rfl ?_
    exact v_J17_checkIndex_9 hst h
  · replace h := it_f c1 h
    refine V_iload_n (i := 0) 0 dJ17_checkIndex_4 rfl rfl ?_
    refine V_iload_n (i := 1) 1 dJ17_checkIndex_5 rfl rfl ?_
    refine V_icmp_lt 16 dJ17_checkIndex_6 (by decide) (fun c2 => ?_) (fun c2 => ?_)
    · replace h := it_t c2 h
      refine V_iload_n (i := 0) 0 dJ17_checkIndex_16 rfl rfl ?_
      cases h
      exact V_iret rfl dJ17_checkIndex_17
    · replace h := it_f c2 h
      refine V_sub [0, 1, 2] rfl ?_
      exact v_J17_checkIndex_9 hst h

abbrev VV_J16_checkIndex (l : Launch) (G : Gx) (σ0 : Hp) (o : Oc) (σe : Hp) (Se : Ms) := V l G RJ16 cJ16_checkIndex 2 (some .int) [] false 2 52 σ0 o σe Se
def f_J16_checkIndex (x0 : Int32) (x1 : Int32) : Option Int32 :=
  bd (f_J17_checkIndex x0 x1 0) fun y1 => some y1
set_option maxHeartbeats 4000000 in
theorem v_J16_checkIndex (l : Launch) (G : Gx) (hst : l.stackTraces = false) (σ : Hp) (S : Ms) {x0 : Int32} {x1 : Int32} {r : Int32} (h : f_J16_checkIndex x0 x1 = some r) : MT l G yJ16_checkIndex (ws_ yJ16_checkIndex cJ16_checkIndex 2 (some .int)) 2 52 [pI x0, pI x1] σ S (.inl (some (pI r))) σ S := by
  refine MT_of (own := RJ16) (nL := 2) (ini := false) (by decide +kernel) rfl (Nat.le_of_ble_eq_true rfl) (fun h => by cases h) hst ?_
  show VV_J16_checkIndex l G σ (.inl (some (pI r))) σ S 0 [(0, pI x0), (1, pI x1)] [] σ S
  unfold f_J16_checkIndex at h
  refine V_iload_n (i := 0) 0 dJ16_checkIndex_0 rfl rfl ?_
  refine V_iload_n (i := 1) 1 dJ16_checkIndex_1 rfl rfl ?_
  refine V_null dJ16_checkIndex_2 ?_
  obtain ⟨y1, e2, h⟩ := bd_s h
  refine V_callS_v (n9 := 3) [] (v_J17_checkIndex l G hst _ _ e2) rfl rfl (lw_S q943 q717 q97 q718) (by decide +kernel) (by decide) (Nat.le_of_ble_eq_true rfl) dJ16_checkIndex_3 ?_
  cases h
  exact V_iret rfl dJ16_checkIndex_6

abbrev VV_J16_requireNonNull (l : Launch) (G : Gx) (σ0 : Hp) (o : Oc) (σe : Hp) (Se : Ms) := V l G RJ16 cJ16_requireNonNull 1 (some (.object "java/lang/Object")) [] false 1 30 σ0 o σe Se
def f_J16_requireNonNull (a0 : Nat) : Option Nat :=
  if a0 = 0 then (none) else (some a0)
set_option maxHeartbeats 4000000 in
theorem v_J16_requireNonNull (l : Launch) (G : Gx) (hst : l.stackTraces = false) (σ : Hp) (S : Ms) {a0 : Nat} {r : Nat} (h : f_J16_requireNonNull a0 = some r) : MT l G yJ16_requireNonNull (ws_ yJ16_requireNonNull cJ16_requireNonNull 1 (some (.object "java/lang/Object"))) 1 30 [pR a0] σ S (.inl (some (pR r))) σ S := by
  refine MT_of (own := RJ16) (nL := 1) (ini := false) (by decide +kernel) rfl (Nat.le_of_ble_eq_true rfl) (fun h => by cases h) hst ?_
  show VV_J16_requireNonNull l G σ (.inl (some (pR r))) σ S 0 [(0, pR a0)] [] σ S
  unfold f_J16_requireNonNull at h
  refine V_aload_n (i := 0) 0 dJ16_requireNonNull_0 rfl rfl ?_
  refine V_ifnonnull 12 dJ16_requireNonNull_1 (by decide) (fun c1 => ?_) (fun c1 => ?_)
  · replace h := it_f c1 h
    refine V_aload_n (i := 0) 0 dJ16_requireNonNull_12 rfl rfl ?_
    cases h
    exact V_aret rfl (Or.inl ⟨_, rfl⟩) dJ16_requireNonNull_13
  · replace h := it_t c1 h
    cases h

abbrev VV_J30_init (l : Launch) (G : Gx) (σ0 : Hp) (o : Oc) (σe : Hp) (Se : Ms) := V l G RJ30 cJ30_init 4 none [] true 1 30 σ0 o σe Se
def f_J30_init (σ : Hp) (a0 : Nat) (a1 : Nat) (a2 : Nat) (a3 : Nat) : Option (Unit × Hp) :=
  bd (gz σ a0) fun e1 => bd (wrZ σ 16 a0 165 (1 : Int32)) fun σ3 => bd (wrR σ3 16 a0 160 a1) fun σ5 => bd (wrR σ5 16 a0 161 a2) fun σ7 => bd (wrR σ7 16 a0 164 a3) fun σ9 => some ((), σ9)
set_option maxHeartbeats 4000000 in
theorem v_J30_init (l : Launch) (G : Gx) (hst : l.stackTraces = false) (S : Ms) {σ σe : Hp} {a0 : Nat} {a1 : Nat} {a2 : Nat} {a3 : Nat} {r : Unit} (h : f_J30_init σ a0 a1 a2 a3 = some (r, σe)) : MT l G yJ30_init (ws_ yJ30_init cJ30_init 4 none) 1 30 [pR a0, pR a1, pR a2, pR a3] σ S (.inl none) σe S := by
  refine MT_of (own := RJ30) (nL := 4) (ini := true) (by decide +kernel) rfl (Nat.le_of_ble_eq_true rfl) (fun h => rfl) hst ?_
  show VV_J30_init l G σ (.inl none) σe S 0 [(0, pR a0), (1, pR a1), (2, pR a2), (3, pR a3)] [] σ S
  unfold f_J30_init at h
  refine V_aload_n (i := 0) 0 dJ30_init_0 rfl rfl ?_
  obtain ⟨e1, e2, h⟩ := bd_s h
  refine V_objInit (gz_n e2) q1785 q131 q132 (by decide) (Nat.le_of_ble_eq_true rfl) dJ30_init_1 ?_
  refine V_aload_n (i := 0) 0 dJ30_init_4 rfl rfl ?_
  refine V_iconst (v := 1) dJ30_init_5 (by decide) ?_
  obtain ⟨σ3, e4, h⟩ := bd_s h
  refine V_wrZ gw_J30_9 rfl rfl rfl e4 dJ30_init_6 ?_
  refine V_aload_n (i := 0) 0 dJ30_init_9 rfl rfl ?_
  refine V_aload_n (i := 1) 1 dJ30_init_10 rfl rfl ?_
  obtain ⟨σ5, e6, h⟩ := bd_s h
  refine V_wrR gw_J30_15 (okF_obj _ rfl) rfl rfl e6 dJ30_init_11 ?_
  refine V_aload_n (i := 0) 0 dJ30_init_14 rfl rfl ?_
  refine V_aload_n (i := 2) 2 dJ30_init_15 rfl rfl ?_
  obtain ⟨σ7, e8, h⟩ := bd_s h
  refine V_wrR gw_J30_19 (okF_obj _ rfl) rfl rfl e8 dJ30_init_16 ?_
  refine V_aload_n (i := 0) 0 dJ30_init_19 rfl rfl ?_
  refine V_aload_n (i := 3) 3 dJ30_init_20 rfl rfl ?_
  obtain ⟨σ9, e10, h⟩ := bd_s h
  refine V_wrR gw_J30_22 (okF_obj _ rfl) rfl rfl e10 dJ30_init_21 ?_
  cases h
  exact V_vret rfl dJ30_init_24

abbrev VV_J2_size (l : Launch) (G : Gx) (σ0 : Hp) (o : Oc) (σe : Hp) (Se : Ms) := V l G RJ2 cJ2_size 1 (some .int) [] false 1 30 σ0 o σe Se
def f_J2_size (σ : Hp) (a0 : Nat) : Option (Int32 × Hp) :=
  bd (rdI σ 10 a0 102) fun y1 => some (y1, σ)
set_option maxHeartbeats 4000000 in
theorem v_J2_size (l : Launch) (G : Gx) (hst : l.stackTraces = false) (S : Ms) {σ σe : Hp} {a0 : Nat} {r : Int32} (h : f_J2_size σ a0 = some (r, σe)) : MT l G yJ2_size (ws_ yJ2_size cJ2_size 1 (some .int)) 1 30 [pR a0] σ S (.inl (some (pI r))) σe S := by
  refine MT_of (own := RJ2) (nL := 1) (ini := false) (by decide +kernel) rfl (Nat.le_of_ble_eq_true rfl) (fun h => by cases h) hst ?_
  show VV_J2_size l G σ (.inl (some (pI r))) σe S 0 [(0, pR a0)] [] σ S
  unfold f_J2_size at h
  refine V_aload_n (i := 0) 0 dJ2_size_0 rfl rfl ?_
  obtain ⟨y1, e2, h⟩ := bd_s h
  refine V_rdI gf_J2_48 rfl rfl rfl e2 dJ2_size_1 ?_
  cases h
  exact V_iret rfl dJ2_size_4

abbrev VV_J2_elementData (l : Launch) (G : Gx) (σ0 : Hp) (o : Oc) (σe : Hp) (Se : Ms) := V l G RJ2 cJ2_elementData 2 (some (.object "java/lang/Object")) [] false 1 30 σ0 o σe Se
def f_J2_elementData (σ : Hp) (a0 : Nat) (x1 : Int32) : Option (Nat × Hp) :=
  bd (rdR σ 10 a0 101) fun b1 => bd (elR σ 105 b1 x1) fun b3 => some (b3, σ)
set_option maxHeartbeats 4000000 in
theorem v_J2_elementData (l : Launch) (G : Gx) (hst : l.stackTraces = false) (S : Ms) {σ σe : Hp} {a0 : Nat} {x1 : Int32} {r : Nat} (h : f_J2_elementData σ a0 x1 = some (r, σe)) : MT l G yJ2_elementData (ws_ yJ2_elementData cJ2_elementData 2 (some (.object "java/lang/Object"))) 1 30 [pR a0, pI x1] σ S (.inl (some (pR r))) σe S := by
  refine MT_of (own := RJ2) (nL := 2) (ini := false) (by decide +kernel) rfl (Nat.le_of_ble_eq_true rfl) (fun h => by cases h) hst ?_
  show VV_J2_elementData l G σ (.inl (some (pR r))) σe S 0 [(0, pR a0), (1, pI x1)] [] σ S
  unfold f_J2_elementData at h
  refine V_aload_n (i := 0) 0 dJ2_elementData_0 rfl rfl ?_
  obtain ⟨b1, e2, h⟩ := bd_s h
  refine V_rdR gf_J2_9 rfl rfl rfl e2 dJ2_elementData_1 ?_
  refine V_iload_n (i := 1) 1 dJ2_elementData_4 rfl rfl ?_
  obtain ⟨b3, e4, h⟩ := bd_s h
  refine V_elR5 e4 dJ2_elementData_5 ?_
  cases h
  exact V_aret rfl (Or.inl ⟨_, rfl⟩) dJ2_elementData_6

abbrev VV_J2_get (l : Launch) (G : Gx) (σ0 : Hp) (o : Oc) (σe : Hp) (Se : Ms) := V l G RJ2 cJ2_get 2 (some (.object "java/lang/Object")) [] false 3 73 σ0 o σe Se
def f_J2_get (σ : Hp) (a0 : Nat) (x1 : Int32) : Option (Nat × Hp) :=
  bd (rdI σ 10 a0 102) fun y1 => bd (f_J16_checkIndex x1 y1) fun y3 => bd (gk σ 10 a0) fun e5 => bp (f_J2_elementData σ a0 x1) fun b7 σ8 => some (b7, σ8)
set_option maxHeartbeats 4000000 in
theorem v_J2_get (l : Launch) (G : Gx) (hst : l.stackTraces = false) (S : Ms) {σ σe : Hp} {a0 : Nat} {x1 : Int32} {r : Nat} (h : f_J2_get σ a0 x1 = some (r, σe)) : MT l G yJ2_get (ws_ yJ2_get cJ2_get 2 (some (.object "java/lang/Object"))) 3 73 [pR a0, pI x1] σ S (.inl (some (pR r))) σe S := by
  refine MT_of (own := RJ2) (nL := 2) (ini := false) (by decide +kernel) rfl (Nat.le_of_ble_eq_true rfl) (fun h => by cases h) hst ?_
  show VV_J2_get l G σ (.inl (some (pR r))) σe S 0 [(0, pR a0), (1, pI x1)] [] σ S
  unfold f_J2_get at h
  refine V_iload_n (i := 1) 1 dJ2_get_0 rfl rfl ?_
  refine V_aload_n (i := 0) 0 dJ2_get_1 rfl rfl ?_
  obtain ⟨y1, e2, h⟩ := bd_s h
  refine V_rdI gf_J2_48 rfl rfl rfl e2 dJ2_get_2 ?_
  obtain ⟨y3, e4, h⟩ := bd_s h
  refine V_callS_v (n9 := 2) [] (v_J16_checkIndex l G hst _ _ e4) rfl rfl (lw_S q940 q941 q96 q942) (by decide +kernel) (by decide) (Nat.le_of_ble_eq_true rfl) dJ2_get_5 ?_
  refine V_pop dJ2_get_8 rfl ?_
  refine V_aload_n (i := 0) 0 dJ2_get_9 rfl rfl ?_
  refine V_iload_n (i := 1) 1 dJ2_get_10 rfl rfl ?_
  obtain ⟨e5, e6, h⟩ := bd_s h
  obtain ⟨b7, σ8, e9, h⟩ := bp_s h
  refine V_callV_v (n9 := 1) (c := 9) (r := (RJ2, TJ2, 3)) [] (v_J2_elementData l G hst _ e9) rfl rfl (lw_V q944 q945 q946 q80 q947) (by decide +kernel) (by decide) (Nat.le_of_ble_eq_true rfl) (gk_k e6 rfl) rfl dJ2_get_11 ?_
  cases h
  exact V_aret rfl (Or.inl ⟨_, rfl⟩) dJ2_get_14

abbrev VV_X2_free (l : Launch) (G : Gx) (σ0 : Hp) (o : Oc) (σe : Hp) (Se : Ms) := V l G RX2 cX2_free 3 (some .int) [] false 4 94 σ0 o σe Se
def f_X2_free_40 (k4 : Hp → Int32 → Int32 → Nat → Option (Int32 × Hp)) (σ : Hp) (x2 : Int32) (a0 : Nat) (s0 : Int32) (s1 : Int32) : Option (Int32 × Hp) :=
  k4 σ (x2 + (1 : Int32)) (s1 ||| s0) a0
set_option maxHeartbeats 4000000 in
theorem v_X2_free_40 {l : Launch} {G : Gx} (hst : l.stackTraces = false) {σ0 σe : Hp} {Se : Ms} {r : Int32} {k4 : Hp → Int32 → Int32 → Nat → Option (Int32 × Hp)} (hk4 : ∀ (σ : Hp) (x2 : Int32) (x1 : Int32) (a0 : Nat), k4 σ x2 x1 a0 = some (r, σe) → VV_X2_free l G σ0 (.inl (some (pI r))) σe Se 4 [(2, pI x2), (1, pI x1), (0, pR a0)] [] σ Se) {σ : Hp} {x2 : Int32} {a0 : Nat} {s0 : Int32} {s1 : Int32} (h : f_X2_free_40 k4 σ x2 a0 s0 s1 = some (r, σe)) : VV_X2_free l G σ0 (.inl (some (pI r))) σe Se 40 [(2, pI x2), (0, pR a0)] [pI s0, pI s1] σ Se := by
  unfold f_X2_free_40 at h
  refine V_ior dX2_free_40 ?_
  refine V_istore_n (i := 1) (L' := [(1, pI (s1 ||| s0)), (2, pI x2), (0, pR a0)]) dX2_free_41 rfl (by decide) rfl ?_
  refine V_iinc (v := (x2 + (1 : Int32))) (L' := [(2, pI (x2 + (1 : Int32))), (1, pI (s1 ||| s0)), (0, pR a0)]) 1 dX2_free_42 rfl rfl (by decide) rfl ?_
  refine V_goto 4 dX2_free_45 (by decide) ?_
  refine V_sub [0, 1, 2] rfl ?_
  exact hk4 _ _ _ _ h
def f_X2_free_4_b (k4 : Hp → Int32 → Int32 → Nat → Option (Int32 × Hp)) (σ : Hp) (x2 : Int32) (x1 : Int32) (a0 : Nat) : Option (Int32 × Hp) :=
  bd (rdR σ 2 a0 20) fun b1 => bd (gk σ 10 b1) fun e3 => bp (f_J2_size σ b1) fun y5 σ6 => if y5 ≤ x2 then (some (x1, σ6)) else (bd (rdR σ6 2 a0 20) fun b9 => bd (gk σ6 10 b9) fun e11 => bp (f_J2_get σ6 b9 x2) fun b13 σ14 => bd (ckC σ14 3 b13) fun e16 => bd (gk σ14 3 b13) fun e18 => bp (f_X4_isFree σ14 b13) fun y20 σ21 => if y20 = (0 : Int32) then (f_X2_free_40 k4 σ21 x2 a0 (0 : Int32) x1) else (f_X2_free_40 k4 σ21 x2 a0 ((1 : Int32) <<< (x2 &&& 31)) x1))
set_option maxHeartbeats 4000000 in
theorem v_X2_free_4_b {l : Launch} {G : Gx} (hst : l.stackTraces = false) {σ0 σe : Hp} {Se : Ms} {r : Int32} {k4 : Hp → Int32 → Int32 → Nat → Option (Int32 × Hp)} (hk4 : ∀ (σ : Hp) (x2 : Int32) (x1 : Int32) (a0 : Nat), k4 σ x2 x1 a0 = some (r, σe) → VV_X2_free l G σ0 (.inl (some (pI r))) σe Se 4 [(2, pI x2), (1, pI x1), (0, pR a0)] [] σ Se) {σ : Hp} {x2 : Int32} {x1 : Int32} {a0 : Nat} (h : f_X2_free_4_b k4 σ x2 x1 a0 = some (r, σe)) : VV_X2_free l G σ0 (.inl (some (pI r))) σe Se 4 [(2, pI x2), (1, pI x1), (0, pR a0)] [] σ Se := by
  unfold f_X2_free_4_b at h
  refine V_iload_n (i := 2) 0 dX2_free_4 rfl rfl ?_
  refine V_aload_n (i := 0) 2 dX2_free_5 rfl rfl ?_
  obtain ⟨b1, e2, h⟩ := bd_s h
  refine V_rdR gf_X2_12 rfl rfl rfl e2 dX2_free_6 ?_
  obtain ⟨e3, e4, h⟩ := bd_s h
  obtain ⟨y5, σ6, e7, h⟩ := bp_s h
  refine V_callV_v (n9 := 0) (c := 9) (r := (RJ2, TJ2, 3)) [pI x2] (v_J2_size l G hst _ e7) rfl rfl (lw_V q935 q861 q862 q80 q863) (by decide +kernel) (by decide) (Nat.le_of_ble_eq_true rfl) (gk_k e4 rfl) rfl dX2_free_9 ?_
  refine V_icmp_ge 48 dX2_free_12 (by decide) (fun c8 => ?_) (fun c8 => ?_)
  · replace h := it_t c8 h
    refine V_iload_n (i := 1) 1 dX2_free_48 rfl rfl ?_
    cases h
    exact V_iret rfl dX2_free_49
  · replace h := it_f c8 h
    refine V_iload_n (i := 1) 1 dX2_free_15 rfl rfl ?_
    refine V_aload_n (i := 0) 2 dX2_free_16 rfl rfl ?_
    obtain ⟨b9, e10, h⟩ := bd_s h
    refine V_rdR gf_X2_12 rfl rfl rfl e10 dX2_free_17 ?_
    refine V_iload_n (i := 2) 0 dX2_free_20 rfl rfl ?_
    obtain ⟨e11, e12, h⟩ := bd_s h
    obtain ⟨b13, σ14, e15, h⟩ := bp_s h
    refine V_callV_v (n9 := 1) (c := 9) (r := (RJ2, TJ2, 3)) [pI x1] (v_J2_get l G hst _ e15) rfl rfl (lw_V q936 q937 q938 q80 q939) (by decide +kernel) (by decide) (Nat.le_of_ble_eq_true rfl) (gk_k e12 rfl) rfl dX2_free_21 ?_
    obtain ⟨e16, e17, h⟩ := bd_s h
    refine V_ckC (c := 2) e17 q948 rfl (Or.inl rfl) dX2_free_24 ?_
    obtain ⟨e18, e19, h⟩ := bd_s h
    obtain ⟨y20, σ21, e22, h⟩ := bp_s h
    refine V_callV_v (n9 := 0) (c := 2) (r := (RX4, TX4, 6)) [pI x1] (v_X4_isFree l G hst _ e22) rfl rfl (lw_V q1142 q1056 q1057 q98 q1058) (by decide +kernel) (by decide) (Nat.le_of_ble_eq_true rfl) (gk_k e19 rfl) rfl dX2_free_27 ?_
    refine V_if_eq 39 dX2_free_30 (by decide) (fun c23 => ?_) (fun c23 => ?_)
    · replace h := it_t c23 h
      refine V_iconst (v := 0) dX2_free_39 (by decide) ?_
      refine V_sub [0, 2] rfl ?_
      exact v_X2_free_40 hst hk4 h
    · replace h := it_f c23 h
      refine V_iconst (v := 1) dX2_free_33 (by decide) ?_
      refine V_iload_n (i := 2) 0 dX2_free_34 rfl rfl ?_
      refine V_ishl dX2_free_35 ?_
      refine V_goto 40 dX2_free_36 (by decide) ?_
      refine V_sub [0, 2] rfl ?_
      exact v_X2_free_40 hst hk4 h
def f_X2_free_4 : Nat → Hp → Int32 → Int32 → Nat → Option (Int32 × Hp)
  | 0, _, _, _, _ => none
  | n + 1, σ, x2, x1, a0 => f_X2_free_4_b (f_X2_free_4 n) σ x2 x1 a0
theorem v_X2_free_4 {l : Launch} {G : Gx} (hst : l.stackTraces = false) {σ0 σe : Hp} {Se : Ms} {r : Int32} : ∀ (n : Nat) (σ : Hp) (x2 : Int32) (x1 : Int32) (a0 : Nat), f_X2_free_4 n σ x2 x1 a0 = some (r, σe) → VV_X2_free l G σ0 (.inl (some (pI r))) σe Se 4 [(2, pI x2), (1, pI x1), (0, pR a0)] [] σ Se
  | 0, _, _, _, _, h => by cases h
  | n + 1, _, _, _, _, h => v_X2_free_4_b hst (v_X2_free_4 hst n) h
def f_X2_free (σ : Hp) (a0 : Nat) : Option (Int32 × Hp) :=
  f_X2_free_4 FU σ (0 : Int32) (0 : Int32) a0
set_option maxHeartbeats 4000000 in
theorem v_X2_free (l : Launch) (G : Gx) (hst : l.stackTraces = false) (S : Ms) {σ σe : Hp} {a0 : Nat} {r : Int32} (h : f_X2_free σ a0 = some (r, σe)) : MT l G yX2_free (ws_ yX2_free cX2_free 3 (some .int)) 4 94 [pR a0] σ S (.inl (some (pI r))) σe S := by
  refine MT_of (own := RX2) (nL := 3) (ini := false) (by decide +kernel) rfl (Nat.le_of_ble_eq_true rfl) (fun h => by cases h) hst ?_
  show VV_X2_free l G σ (.inl (some (pI r))) σe S 0 [(0, pR a0)] [] σ S
  unfold f_X2_free at h
  refine V_iconst (v := 0) dX2_free_0 (by decide) ?_
  refine V_istore_n (i := 1) (L' := [(1, pI (0 : Int32)), (0, pR a0)]) dX2_free_1 rfl (by decide) rfl ?_
  refine V_iconst (v := 0) dX2_free_2 (by decide) ?_
  refine V_istore_n (i := 2) (L' := [(2, pI (0 : Int32)), (1, pI (0 : Int32)), (0, pR a0)]) dX2_free_3 rfl (by decide) rfl ?_
  refine V_sub [0, 1, 2] rfl ?_
  exact v_X2_free_4 hst FU _ _ _ _ h

abbrev VV_X5_init (l : Launch) (G : Gx) (σ0 : Hp) (o : Oc) (σe : Hp) (Se : Ms) := V l G RX5 cX5_init 4 none [] true 5 116 σ0 o σe Se
def f_X5_init_38_b (k38 : Hp → Int32 → Nat → Nat → Option (Unit × Hp)) (σ : Hp) (x3 : Int32) (a0 : Nat) (a1 : Nat) : Option (Unit × Hp) :=
  bd (rdR σ 4 a0 40) fun b1 => bd (elN σ b1) fun y3 => if y3 ≤ x3 then (some ((), σ)) else (bd (rdR σ 4 a0 40) fun b6 => bd (rdR σ 2 a1 20) fun b8 => bd (gk σ 10 b8) fun e10 => bp (f_J2_get σ b8 x3) fun b12 σ13 => bd (ckC σ13 3 b12) fun e15 => bd (rdI σ13 3 b12 30) fun y17 => bd (stI σ13 101 b6 x3 y17) fun σ19 => k38 σ19 (x3 + (1 : Int32)) a0 a1)
set_option maxHeartbeats 4000000 in
theorem v_X5_init_38_b {l : Launch} {G : Gx} (hst : l.stackTraces = false) {σ0 σe : Hp} {Se : Ms} {r : Unit} {k38 : Hp → Int32 → Nat → Nat → Option (Unit × Hp)} (hk38 : ∀ (σ : Hp) (x3 : Int32) (a0 : Nat) (a1 : Nat), k38 σ x3 a0 a1 = some (r, σe) → VV_X5_init l G σ0 (.inl none) σe Se 38 [(3, pI x3), (0, pR a0), (1, pR a1)] [] σ Se) {σ : Hp} {x3 : Int32} {a0 : Nat} {a1 : Nat} (h : f_X5_init_38_b k38 σ x3 a0 a1 = some (r, σe)) : VV_X5_init l G σ0 (.inl none) σe Se 38 [(3, pI x3), (0, pR a0), (1, pR a1)] [] σ Se := by
  unfold f_X5_init_38_b at h
  refine V_iload_n (i := 3) 0 dX5_init_38 rfl rfl ?_
  refine V_aload_n (i := 0) 1 dX5_init_39 rfl rfl ?_
  obtain ⟨b1, e2, h⟩ := bd_s h
  refine V_rdR gf_X5_35 rfl rfl rfl e2 dX5_init_40 ?_
  obtain ⟨y3, e4, h⟩ := bd_s h
  refine V_elN e4 dX5_init_43 ?_
  refine V_icmp_ge 73 dX5_init_44 (by decide) (fun c5 => ?_) (fun c5 => ?_)
  · replace h := it_t c5 h
    cases h
    exact V_vret rfl dX5_init_73
  · replace h := it_f c5 h
    refine V_aload_n (i := 0) 1 dX5_init_47 rfl rfl ?_
    obtain ⟨b6, e7, h⟩ := bd_s h
    refine V_rdR gf_X5_35 rfl rfl rfl e7 dX5_init_48 ?_
    refine V_iload_n (i := 3) 0 dX5_init_51 rfl rfl ?_
    refine V_aload_n (i := 1) 2 dX5_init_52 rfl rfl ?_
    obtain ⟨b8, e9, h⟩ := bd_s h
    refine V_rdR gf_X5_26 rfl rfl rfl e9 dX5_init_53 ?_
    refine V_iload_n (i := 3) 0 dX5_init_56 rfl rfl ?_
    obtain ⟨e10, e11, h⟩ := bd_s h
    obtain ⟨b12, σ13, e14, h⟩ := bp_s h
    refine V_callV_v (n9 := 1) (c := 9) (r := (RJ2, TJ2, 3)) [pI x3, pR b6] (v_J2_get l G hst _ e14) rfl rfl (lw_V q1190 q937 q938 q80 q939) (by decide +kernel) (by decide) (Nat.le_of_ble_eq_true rfl) (gk_k e11 rfl) rfl dX5_init_57 ?_
    obtain ⟨e15, e16, h⟩ := bd_s h
    refine V_ckC (c := 2) e16 q1191 rfl (Or.inl rfl) dX5_init_60 ?_
    obtain ⟨y17, e18, h⟩ := bd_s h
    refine V_rdI gf_X5_45 rfl rfl rfl e18 dX5_init_63 ?_
    obtain ⟨σ19, e20, h⟩ := bd_s h
    refine V_stI1 e20 dX5_init_66 ?_
    refine V_iinc (v := (x3 + (1 : Int32))) (L' := [(3, pI (x3 + (1 : Int32))), (0, pR a0), (1, pR a1)]) 0 dX5_init_67 rfl rfl (by decide) rfl ?_
    refine V_goto 38 dX5_init_70 (by decide) ?_
    refine V_sub [0, 1, 2] rfl ?_
    exact hk38 _ _ _ _ h
def f_X5_init_38 : Nat → Hp → Int32 → Nat → Nat → Option (Unit × Hp)
  | 0, _, _, _, _ => none
  | n + 1, σ, x3, a0, a1 => f_X5_init_38_b (f_X5_init_38 n) σ x3 a0 a1
theorem v_X5_init_38 {l : Launch} {G : Gx} (hst : l.stackTraces = false) {σ0 σe : Hp} {Se : Ms} {r : Unit} : ∀ (n : Nat) (σ : Hp) (x3 : Int32) (a0 : Nat) (a1 : Nat), f_X5_init_38 n σ x3 a0 a1 = some (r, σe) → VV_X5_init l G σ0 (.inl none) σe Se 38 [(3, pI x3), (0, pR a0), (1, pR a1)] [] σ Se
  | 0, _, _, _, _, h => by cases h
  | n + 1, _, _, _, _, h => v_X5_init_38_b hst (v_X5_init_38 hst n) h
def f_X5_init (σ : Hp) (a0 : Nat) (a1 : Nat) (x2 : Int32) : Option (Unit × Hp) :=
  bd (gz σ a0) fun e1 => bd (wrI σ 4 a0 44 (7 : Int32)) fun σ3 => bd (wrI σ3 4 a0 41 x2) fun σ5 => bd (gk σ5 2 a1) fun e7 => bp (f_X2_free σ5 a1) fun y9 σ10 => bd (wrI σ10 4 a0 42 y9) fun σ12 => bd (rdR σ12 2 a1 20) fun b14 => bd (gk σ12 10 b14) fun e16 => bp (f_J2_size σ12 b14) fun y18 σ19 => bd (nwA σ19 101 y18) fun σ21 => bd (wrR σ21 4 a0 40 (hN σ19)) fun σ23 => f_X5_init_38 FU σ23 (0 : Int32) a0 a1
set_option maxHeartbeats 4000000 in
theorem v_X5_init (l : Launch) (G : Gx) (hst : l.stackTraces = false) (S : Ms) {σ σe : Hp} {a0 : Nat} {a1 : Nat} {x2 : Int32} {r : Unit} (h : f_X5_init σ a0 a1 x2 = some (r, σe)) : MT l G yX5_init (ws_ yX5_init cX5_init 4 none) 5 116 [pR a0, pR a1, pI x2] σ S (.inl none) σe S := by
  refine MT_of (own := RX5) (nL := 4) (ini := true) (by decide +kernel) rfl (Nat.le_of_ble_eq_true rfl) (fun h => rfl) hst ?_
  show VV_X5_init l G σ (.inl none) σe S 0 [(0, pR a0), (1, pR a1), (2, pI x2)] [] σ S
  unfold f_X5_init at h
  refine V_aload_n (i := 0) 0 dX5_init_0 rfl rfl ?_
  obtain ⟨e1, e2, h⟩ := bd_s h
  refine V_objInit (gz_n e2) q1184 q131 q132 (by decide) (Nat.le_of_ble_eq_true rfl) dX5_init_1 ?_
  refine V_aload_n (i := 0) 0 dX5_init_4 rfl rfl ?_
  refine V_bipush (v := 7) dX5_init_5 (by decide) ?_
  obtain ⟨σ3, e4, h⟩ := bd_s h
  refine V_wrI gw_X5_9 rfl rfl rfl e4 dX5_init_7 ?_
  refine V_aload_n (i := 0) 0 dX5_init_10 rfl rfl ?_
  refine V_iload_n (i := 2) 2 dX5_init_11 rfl rfl ?_
  obtain ⟨σ5, e6, h⟩ := bd_s h
  refine V_wrIF gw_X5_15 rfl rfl rfl rfl e6 dX5_init_12 ?_
  refine V_aload_n (i := 0) 0 dX5_init_15 rfl rfl ?_
  refine V_aload_n (i := 1) 1 dX5_init_16 rfl rfl ?_
  obtain ⟨e7, e8, h⟩ := bd_s h
  obtain ⟨y9, σ10, e11, h⟩ := bp_s h
  refine V_callV_v (n9 := 0) (c := 1) (r := (RX2, TX2, 7)) [pR a0] (v_X2_free l G hst _ e11) rfl rfl (lw_V q1185 q1186 q1187 q77 q1188) (by decide +kernel) (by decide) (Nat.le_of_ble_eq_true rfl) (gk_k e8 rfl) rfl dX5_init_17 ?_
  obtain ⟨σ12, e13, h⟩ := bd_s h
  refine V_wrIF gw_X5_24 rfl rfl rfl rfl e13 dX5_init_20 ?_
  refine V_aload_n (i := 0) 0 dX5_init_23 rfl rfl ?_
  refine V_aload_n (i := 1) 1 dX5_init_24 rfl rfl ?_
  obtain ⟨b14, e15, h⟩ := bd_s h
  refine V_rdR gf_X5_26 rfl rfl rfl e15 dX5_init_25 ?_
  obtain ⟨e16, e17, h⟩ := bd_s h
  obtain ⟨y18, σ19, e20, h⟩ := bp_s h
  refine V_callV_v (n9 := 0) (c := 9) (r := (RJ2, TJ2, 3)) [pR a0] (v_J2_size l G hst _ e20) rfl rfl (lw_V q1189 q861 q862 q80 q863) (by decide +kernel) (by decide) (Nat.le_of_ble_eq_true rfl) (gk_k e17 rfl) rfl dX5_init_28 ?_
  obtain ⟨σ21, e22, h⟩ := bd_s h
  refine V_nwA (t := 1) e22 rfl (by decide) q272 dX5_init_31 ?_
  obtain ⟨σ23, e24, h⟩ := bd_s h
  refine V_wrRF gw_X5_35 rfl (okF_arr _ rfl) rfl rfl e24 dX5_init_33 ?_
  refine V_iconst (v := 0) dX5_init_36 (by decide) ?_
  refine V_istore_n (i := 3) (L' := [(3, pI (0 : Int32)), (0, pR a0), (1, pR a1), (2, pI x2)]) dX5_init_37 rfl (by decide) rfl ?_
  refine V_sub [0, 1, 2] rfl ?_
  exact v_X5_init_38 hst FU _ _ _ _ h

abbrev VV_X5_search (fr lo : Nat) (l : Launch) (G : Gx) (σ0 : Hp) (o : Oc) (σe : Hp) (Se : Ms) := V l G RX5 cX5_search 6 none [] false fr lo σ0 o σe Se
def f_X5_search_72 (σ : Hp) : Option (Unit × Hp) :=
  some ((), σ)
set_option maxHeartbeats 4000000 in
theorem v_X5_search_72 {fr lo : Nat} {l : Launch} {G : Gx} (hst : l.stackTraces = false) {σ0 σe : Hp} {Se : Ms} {r : Unit} {σ : Hp} (h : f_X5_search_72 σ  = some (r, σe)) : VV_X5_search fr lo l G σ0 (.inl none) σe Se 72 [] [] σ Se := by
  unfold f_X5_search_72 at h
  cases h
  exact V_vret rfl dX5_search_72
def f_X5_search_130 (σ : Hp) : Option (Unit × Hp) :=
  some ((), σ)
set_option maxHeartbeats 4000000 in
theorem v_X5_search_130 {fr lo : Nat} {l : Launch} {G : Gx} (hst : l.stackTraces = false) {σ0 σe : Hp} {Se : Ms} {r : Unit} {σ : Hp} (h : f_X5_search_130 σ  = some (r, σe)) : VV_X5_search fr lo l G σ0 (.inl none) σe Se 130 [] [] σ Se := by
  unfold f_X5_search_130 at h
  cases h
  exact V_vret rfl dX5_search_130
def f_X5_search_42 (σ : Hp) (a0 : Nat) (x4 : Int32) (s0 : Int32) (t1 : Nat) : Option (Unit × Hp) :=
  bd (wrI σ 4 t1 43 s0) fun σ1 => bd (wrI σ1 4 a0 44 x4) fun σ3 => some ((), σ3)
set_option maxHeartbeats 4000000 in
theorem v_X5_search_42 {fr lo : Nat} {l : Launch} {G : Gx} (hst : l.stackTraces = false) {σ0 σe : Hp} {Se : Ms} {r : Unit} {σ : Hp} {a0 : Nat} {x4 : Int32} {s0 : Int32} {t1 : Nat} (h : f_X5_search_42 σ a0 x4 s0 t1 = some (r, σe)) : VV_X5_search fr lo l G σ0 (.inl none) σe Se 42 [(0, pR a0), (4, pI x4)] [pI s0, pR t1] σ Se := by
  unfold f_X5_search_42 at h
  obtain ⟨σ1, e2, h⟩ := bd_s h
  refine V_wrI gw_X5_52 rfl rfl rfl e2 dX5_search_42 ?_
  refine V_aload_n (i := 0) 0 dX5_search_45 rfl rfl ?_
  refine V_iload (i := 4) 1 dX5_search_46 rfl ?_
  obtain ⟨σ3, e4, h⟩ := bd_s h
  refine V_wrI gw_X5_9 rfl rfl rfl e4 dX5_search_48 ?_
  cases h
  exact V_vret rfl dX5_search_51
def f_X5_search_26 (σ : Hp) (a0 : Nat) (x3 : Int32) (x4 : Int32) (s0 : Int32) : Option (Unit × Hp) :=
  if s0 = (0 : Int32) then (bd (rdI σ 4 a0 43) fun y2 => f_X5_search_42 σ a0 x4 y2 a0) else (f_X5_search_42 σ a0 x4 x3 a0)
set_option maxHeartbeats 4000000 in
theorem v_X5_search_26 {fr lo : Nat} {l : Launch} {G : Gx} (hst : l.stackTraces = false) {σ0 σe : Hp} {Se : Ms} {r : Unit} {σ : Hp} {a0 : Nat} {x3 : Int32} {x4 : Int32} {s0 : Int32} (h : f_X5_search_26 σ a0 x3 x4 s0 = some (r, σe)) : VV_X5_search fr lo l G σ0 (.inl none) σe Se 26 [(0, pR a0), (3, pI x3), (4, pI x4)] [pI s0] σ Se := by
  unfold f_X5_search_26 at h
  refine V_istore (i := 5) (L' := [(5, pI s0), (0, pR a0), (3, pI x3), (4, pI x4)]) dX5_search_26 (by decide) rfl ?_
  refine V_aload_n (i := 0) 1 dX5_search_28 rfl rfl ?_
  refine V_iload (i := 5) 0 dX5_search_29 rfl ?_
  refine V_if_eq 38 dX5_search_31 (by decide) (fun c1 => ?_) (fun c1 => ?_)
  · replace h := it_t c1 h
    refine V_aload_n (i := 0) 1 dX5_search_38 rfl rfl ?_
    obtain ⟨y2, e3, h⟩ := bd_s h
    refine V_rdI gf_X5_52 rfl rfl rfl e3 dX5_search_39 ?_
    refine V_sub [1, 3] rfl ?_
    exact v_X5_search_42 hst h
  · replace h := it_f c1 h
    refine V_iload_n (i := 3) 2 dX5_search_34 rfl rfl ?_
    refine V_goto 42 dX5_search_35 (by decide) ?_
    refine V_sub [1, 3] rfl ?_
    exact v_X5_search_42 hst h
def f_X5_search_21 (σ : Hp) (a0 : Nat) (x3 : Int32) (x4 : Int32) : Option (Unit × Hp) :=
  f_X5_search_26 σ a0 x3 x4 (1 : Int32)
set_option maxHeartbeats 4000000 in
theorem v_X5_search_21 {fr lo : Nat} {l : Launch} {G : Gx} (hst : l.stackTraces = false) {σ0 σe : Hp} {Se : Ms} {r : Unit} {σ : Hp} {a0 : Nat} {x3 : Int32} {x4 : Int32} (h : f_X5_search_21 σ a0 x3 x4 = some (r, σe)) : VV_X5_search fr lo l G σ0 (.inl none) σe Se 21 [(0, pR a0), (3, pI x3), (4, pI x4)] [] σ Se := by
  unfold f_X5_search_21 at h
  refine V_iconst (v := 1) dX5_search_21 (by decide) ?_
  refine V_goto 26 dX5_search_22 (by decide) ?_
  refine V_sub [0, 1, 2] rfl ?_
  exact v_X5_search_26 hst h
def f_X5_search_b (fself : Hp → Nat → Int32 → Int32 → Int32 → Int32 → Option (Unit × Hp)) (σ : Hp) (a0 : Nat) (x1 : Int32) (x2 : Int32) (x3 : Int32) (x4 : Int32) : Option (Unit × Hp) :=
  if x2 = (0 : Int32) then (bd (rdI σ 4 a0 44) fun y29 => if x4 < y29 then (f_X5_search_21 σ a0 x3 x4) else (bd (rdI σ 4 a0 43) fun y32 => if y32 ≤ x3 then (f_X5_search_26 σ a0 x3 x4 (0 : Int32)) else (f_X5_search_21 σ a0 x3 x4))) else (if x1 < (0 : Int32) then (f_X5_search_72 σ ) else (bd (rdI σ 4 a0 44) fun y3 => if x4 = y3 then (f_X5_search_72 σ ) else (if x4 = (6 : Int32) then (f_X5_search_72 σ ) else (bd (gk σ 4 a0) fun e7 => bp (fself σ a0 (x1 - (1 : Int32)) x2 x3 x4) fun e9 σ10 => bd (rdI σ10 4 a0 42) fun y12 => if ((y12 >>> (x1 &&& 31)) &&& (1 : Int32)) = (1 : Int32) then (bd (rdR σ10 4 a0 40) fun b15 => bd (elI σ10 101 b15 x1) fun y17 => if x2 < y17 then (f_X5_search_130 σ10 ) else (bd (rdR σ10 4 a0 40) fun b20 => bd (elI σ10 101 b20 x1) fun y22 => bd (gk σ10 4 a0) fun e24 => bp (fself σ10 a0 (x1 - (1 : Int32)) (x2 - y22) (x3 ||| ((1 : Int32) <<< (x1 &&& 31))) (x4 + (1 : Int32))) fun e26 σ27 => f_X5_search_130 σ27 )) else (f_X5_search_130 σ10 )))))
set_option maxHeartbeats 4000000 in
theorem v_X5_search_b (l : Launch) (G : Gx) (hst : l.stackTraces = false) (S : Ms) {fr lo : Nat} {fself : Hp → Nat → Int32 → Int32 → Int32 → Int32 → Option (Unit × Hp)} (hrec : ∀ (σ σe : Hp) (a0 : Nat) (x1 : Int32) (x2 : Int32) (x3 : Int32) (x4 : Int32) (r : Unit), fself σ a0 x1 x2 x3 x4 = some (r, σe) → MT l G yX5_search (ws_ yX5_search cX5_search 6 none) fr lo [pR a0, pI x1, pI x2, pI x3, pI x4] σ S (.inl none) σe S) {σ σe : Hp} {a0 : Nat} {x1 : Int32} {x2 : Int32} {x3 : Int32} {x4 : Int32} {r : Unit} (h : f_X5_search_b fself σ a0 x1 x2 x3 x4 = some (r, σe)) : MT l G yX5_search (ws_ yX5_search cX5_search 6 none) (fr + 1) (8 + (6 + 11) + lo) [pR a0, pI x1, pI x2, pI x3, pI x4] σ S (.inl none) σe S := by
  refine MT_of (own := RX5) (nL := 6) (ini := false) (by decide +kernel) rfl (Nat.le_of_ble_eq_true rfl) (fun h => by cases h) hst ?_
  show V l G RX5 cX5_search 6 none [] false (fr + 1) (8 + (6 + 11) + lo) σ (.inl none) σe S 0 [(0, pR a0), (1, pI x1), (2, pI x2), (3, pI x3), (4, pI x4)] [] σ S
  unfold f_X5_search_b at h
  refine V_iload_n (i := 2) 2 dX5_search_0 rfl rfl ?_
  refine V_if_ne 52 dX5_search_1 (by decide) (fun c1 => ?_) (fun c1 => ?_)
  · replace h := it_f c1 h
    refine V_iload_n (i := 1) 1 dX5_search_52 rfl rfl ?_
    refine V_if_lt 72 dX5_search_53 (by decide) (fun c2 => ?_) (fun c2 => ?_)
    · replace h := it_t c2 h
      refine V_sub [] rfl ?_
      exact v_X5_search_72 hst h
    · replace h := it_f c2 h
      refine V_iload (i := 4) 4 dX5_search_56 rfl ?_
      refine V_aload_n (i := 0) 0 dX5_search_58 rfl rfl ?_
      obtain ⟨y3, e4, h⟩ := bd_s h
      refine V_rdI gf_X5_9 rfl rfl rfl e4 dX5_search_59 ?_
      refine V_icmp_eq 72 dX5_search_62 (by decide) (fun c5 => ?_) (fun c5 => ?_)
      · replace h := it_t c5 h
        refine V_sub [] rfl ?_
        exact v_X5_search_72 hst h
      · replace h := it_f c5 h
        refine V_iload (i := 4) 4 dX5_search_65 rfl ?_
        refine V_bipush (v := 6) dX5_search_67 (by decide) ?_
        refine V_icmp_ne 73 dX5_search_69 (by decide) (fun c6 => ?_) (fun c6 => ?_)
        · replace h := it_f c6 h
          refine V_aload_n (i := 0) 0 dX5_search_73 rfl rfl ?_
          refine V_iload_n (i := 1) 1 dX5_search_74 rfl rfl ?_
          refine V_iconst (v := 1) dX5_search_75 (by decide) ?_
          refine V_isub dX5_search_76 ?_
          refine V_iload_n (i := 2) 2 dX5_search_77 rfl rfl ?_
          refine V_iload_n (i := 3) 3 dX5_search_78 rfl rfl ?_
          refine V_iload (i := 4) 4 dX5_search_79 rfl ?_
          obtain ⟨e7, e8, h⟩ := bd_s h
          obtain ⟨e9, σ10, e11, h⟩ := bp_s h
          refine V_callV_0 (n9 := 4) (c := 3) (r := (RX5, TX5, 5)) [] (hrec _ _ _ _ _ _ _ _ e11) rfl rfl (lw_V q1212 q1214 qs16 q101 q1215) (by decide +kernel) ⟨Nat.le_refl _, Nat.le_refl _⟩ (Nat.le_of_ble_eq_true rfl) (gk_k e8 rfl) rfl dX5_search_81 ?_
          refine V_aload_n (i := 0) 0 dX5_search_84 rfl rfl ?_
          obtain ⟨y12, e13, h⟩ := bd_s h
          refine V_rdI gf_X5_24 rfl rfl rfl e13 dX5_search_85 ?_
          refine V_iload_n (i := 1) 1 dX5_search_88 rfl rfl ?_
          refine V_ishr dX5_search_89 ?_
          refine V_iconst (v := 1) dX5_search_90 (by decide) ?_
          refine V_iand dX5_search_91 ?_
          refine V_iconst (v := 1) dX5_search_92 (by decide) ?_
          refine V_icmp_ne 130 dX5_search_93 (by decide) (fun c14 => ?_) (fun c14 => ?_)
          · replace h := it_f c14 h
            refine V_sub [] rfl ?_
            exact v_X5_search_130 hst h
          · replace h := it_t c14 h
            refine V_aload_n (i := 0) 0 dX5_search_96 rfl rfl ?_
            obtain ⟨b15, e16, h⟩ := bd_s h
            refine V_rdR gf_X5_35 rfl rfl rfl e16 dX5_search_97 ?_
            refine V_iload_n (i := 1) 1 dX5_search_100 rfl rfl ?_
            obtain ⟨y17, e18, h⟩ := bd_s h
            refine V_elI1 e18 dX5_search_101 ?_
            refine V_iload_n (i := 2) 2 dX5_search_102 rfl rfl ?_
            refine V_icmp_gt 130 dX5_search_103 (by decide) (fun c19 => ?_) (fun c19 => ?_)
            · replace h := it_t c19 h
              refine V_sub [] rfl ?_
              exact v_X5_search_130 hst h
            · replace h := it_f c19 h
              refine V_aload_n (i := 0) 0 dX5_search_106 rfl rfl ?_
              refine V_iload_n (i := 1) 1 dX5_search_107 rfl rfl ?_
              refine V_iconst (v := 1) dX5_search_108 (by decide) ?_
              refine V_isub dX5_search_109 ?_
              refine V_iload_n (i := 2) 2 dX5_search_110 rfl rfl ?_
              refine V_aload_n (i := 0) 0 dX5_search_111 rfl rfl ?_
              obtain ⟨b20, e21, h⟩ := bd_s h
              refine V_rdR gf_X5_35 rfl rfl rfl e21 dX5_search_112 ?_
              refine V_iload_n (i := 1) 1 dX5_search_115 rfl rfl ?_
              obtain ⟨y22, e23, h⟩ := bd_s h
              refine V_elI1 e23 dX5_search_116 ?_
              refine V_isub dX5_search_117 ?_
              refine V_iload_n (i := 3) 3 dX5_search_118 rfl rfl ?_
              refine V_iconst (v := 1) dX5_search_119 (by decide) ?_
              refine V_iload_n (i := 1) 1 dX5_search_120 rfl rfl ?_
              refine V_ishl dX5_search_121 ?_
              refine V_ior dX5_search_122 ?_
              refine V_iload (i := 4) 4 dX5_search_123 rfl ?_
              refine V_iconst (v := 1) dX5_search_125 (by decide) ?_
              refine V_iadd dX5_search_126 ?_
              obtain ⟨e24, e25, h⟩ := bd_s h
              obtain ⟨e26, σ27, e28, h⟩ := bp_s h
              refine V_callV_0 (n9 := 4) (c := 3) (r := (RX5, TX5, 5)) [] (hrec _ _ _ _ _ _ _ _ e28) rfl rfl (lw_V q1212 q1214 qs16 q101 q1215) (by decide +kernel) ⟨Nat.le_refl _, Nat.le_refl _⟩ (Nat.le_of_ble_eq_true rfl) (gk_k e25 rfl) rfl dX5_search_127 ?_
              refine V_sub [] rfl ?_
              exact v_X5_search_130 hst h
        · replace h := it_t c6 h
          refine V_sub [] rfl ?_
          exact v_X5_search_72 hst h
  · replace h := it_t c1 h
    refine V_iload (i := 4) 4 dX5_search_4 rfl ?_
    refine V_aload_n (i := 0) 0 dX5_search_6 rfl rfl ?_
    obtain ⟨y29, e30, h⟩ := bd_s h
    refine V_rdI gf_X5_9 rfl rfl rfl e30 dX5_search_7 ?_
    refine V_icmp_lt 21 dX5_search_10 (by decide) (fun c31 => ?_) (fun c31 => ?_)
    · replace h := it_t c31 h
      refine V_sub [0, 3, 4] rfl ?_
      exact v_X5_search_21 hst h
    · replace h := it_f c31 h
      refine V_iload_n (i := 3) 3 dX5_search_13 rfl rfl ?_
      refine V_aload_n (i := 0) 0 dX5_search_14 rfl rfl ?_
      obtain ⟨y32, e33, h⟩ := bd_s h
      refine V_rdI gf_X5_52 rfl rfl rfl e33 dX5_search_15 ?_
      refine V_icmp_ge 25 dX5_search_18 (by decide) (fun c34 => ?_) (fun c34 => ?_)
      · replace h := it_t c34 h
        refine V_iconst (v := 0) dX5_search_25 (by decide) ?_
        refine V_sub [0, 3, 4] rfl ?_
        exact v_X5_search_26 hst h
      · replace h := it_f c34 h
        refine V_sub [0, 3, 4] rfl ?_
        exact v_X5_search_21 hst h
def f_X5_search : Nat → Hp → Nat → Int32 → Int32 → Int32 → Int32 → Option (Unit × Hp)
  | 0, _, _, _, _, _, _ => none
  | n + 1, v0, v1, v2, v3, v4, v5 => f_X5_search_b (f_X5_search n) v0 v1 v2 v3 v4 v5
theorem v_X5_search (l : Launch) (G : Gx) (hst : l.stackTraces = false) (S : Ms) : ∀ (n : Nat) (σ σe : Hp) (a0 : Nat) (x1 : Int32) (x2 : Int32) (x3 : Int32) (x4 : Int32) (r : Unit), f_X5_search n σ a0 x1 x2 x3 x4 = some (r, σe) → MT l G yX5_search (ws_ yX5_search cX5_search 6 none) n (25 * n) [pR a0, pI x1, pI x2, pI x3, pI x4] σ S (.inl none) σe S
  | 0, _, _, _, _, _, _, _, _, h => by cases h
  | n + 1, _, _, _, _, _, _, _, _, h => by
    have h9 := v_X5_search_b l G hst S (v_X5_search l G hst S n) h
    rwa [show 8 + (6 + 11) + 25 * n = 25 * (n + 1) by omega] at h9

abbrev VV_X5_fewest (l : Launch) (G : Gx) (σ0 : Hp) (o : Oc) (σe : Hp) (Se : Ms) := V l G RX5 cX5_fewest 1 (some .int) [] false 31 775 σ0 o σe Se
def f_X5_fewest (σ : Hp) (a0 : Nat) : Option (Int32 × Hp) :=
  bd (rdR σ 4 a0 40) fun b1 => bd (elN σ b1) fun y3 => bd (rdI σ 4 a0 41) fun y5 => bd (gk σ 4 a0) fun e7 => bp (f_X5_search 30 σ a0 (y3 - (1 : Int32)) y5 (0 : Int32) (0 : Int32)) fun e9 σ10 => bd (rdI σ10 4 a0 43) fun y12 => some (y12, σ10)
set_option maxHeartbeats 4000000 in
theorem v_X5_fewest (l : Launch) (G : Gx) (hst : l.stackTraces = false) (S : Ms) {σ σe : Hp} {a0 : Nat} {r : Int32} (h : f_X5_fewest σ a0 = some (r, σe)) : MT l G yX5_fewest (ws_ yX5_fewest cX5_fewest 1 (some .int)) 31 775 [pR a0] σ S (.inl (some (pI r))) σe S := by
  refine MT_of (own := RX5) (nL := 1) (ini := false) (by decide +kernel) rfl (Nat.le_of_ble_eq_true rfl) (fun h => by cases h) hst ?_
  show VV_X5_fewest l G σ (.inl (some (pI r))) σe S 0 [(0, pR a0)] [] σ S
  unfold f_X5_fewest at h
  refine V_aload_n (i := 0) 0 dX5_fewest_0 rfl rfl ?_
  refine V_aload_n (i := 0) 0 dX5_fewest_1 rfl rfl ?_
  obtain ⟨b1, e2, h⟩ := bd_s h
  refine V_rdR gf_X5_35 rfl rfl rfl e2 dX5_fewest_2 ?_
  obtain ⟨y3, e4, h⟩ := bd_s h
  refine V_elN e4 dX5_fewest_5 ?_
  refine V_iconst (v := 1) dX5_fewest_6 (by decide) ?_
  refine V_isub dX5_fewest_7 ?_
  refine V_aload_n (i := 0) 0 dX5_fewest_8 rfl rfl ?_
  obtain ⟨y5, e6, h⟩ := bd_s h
  refine V_rdI gf_X5_15 rfl rfl rfl e6 dX5_fewest_9 ?_
  refine V_iconst (v := 0) dX5_fewest_12 (by decide) ?_
  refine V_iconst (v := 0) dX5_fewest_13 (by decide) ?_
  obtain ⟨e7, e8, h⟩ := bd_s h
  obtain ⟨e9, σ10, e11, h⟩ := bp_s h
  refine V_callV_0 (n9 := 4) (c := 3) (r := (RX5, TX5, 5)) [] (v_X5_search l G hst _ 30 _ _ _ _ _ _ _ _ e11) rfl rfl (lw_V q1212 q1214 qs16 q101 q1215) (by decide +kernel) (by decide) (Nat.le_of_ble_eq_true rfl) (gk_k e8 rfl) rfl dX5_fewest_14 ?_
  refine V_aload_n (i := 0) 0 dX5_fewest_17 rfl rfl ?_
  obtain ⟨y12, e13, h⟩ := bd_s h
  refine V_rdI gf_X5_52 rfl rfl rfl e13 dX5_fewest_18 ?_
  cases h
  exact V_iret rfl dX5_fewest_21

abbrev VV_X5_next (l : Launch) (G : Gx) (σ0 : Hp) (o : Oc) (σe : Hp) (Se : Ms) := V l G RX5 cX5_next 7 (some .int) [] false 1 30 σ0 o σe Se
def f_X5_next_127 (k25 : Hp → Int32 → Int32 → Int32 → Nat → Int32 → Int32 → Option (Int32 × Hp)) (σ : Hp) (x5 : Int32) (x3 : Int32) (a0 : Nat) (x1 : Int32) (x2 : Int32) (s0 : Int32) : Option (Int32 × Hp) :=
  k25 σ (x5 + (1 : Int32)) s0 x3 a0 x1 x2
set_option maxHeartbeats 4000000 in
theorem v_X5_next_127 {l : Launch} {G : Gx} (hst : l.stackTraces = false) {σ0 σe : Hp} {Se : Ms} {r : Int32} {k25 : Hp → Int32 → Int32 → Int32 → Nat → Int32 → Int32 → Option (Int32 × Hp)} (hk25 : ∀ (σ : Hp) (x5 : Int32) (x4 : Int32) (x3 : Int32) (a0 : Nat) (x1 : Int32) (x2 : Int32), k25 σ x5 x4 x3 a0 x1 x2 = some (r, σe) → VV_X5_next l G σ0 (.inl (some (pI r))) σe Se 25 [(5, pI x5), (4, pI x4), (3, pI x3), (0, pR a0), (1, pI x1), (2, pI x2)] [] σ Se) {σ : Hp} {x5 : Int32} {x3 : Int32} {a0 : Nat} {x1 : Int32} {x2 : Int32} {s0 : Int32} (h : f_X5_next_127 k25 σ x5 x3 a0 x1 x2 s0 = some (r, σe)) : VV_X5_next l G σ0 (.inl (some (pI r))) σe Se 127 [(5, pI x5), (3, pI x3), (0, pR a0), (1, pI x1), (2, pI x2)] [pI s0] σ Se := by
  unfold f_X5_next_127 at h
  refine V_istore (i := 4) (L' := [(4, pI s0), (5, pI x5), (3, pI x3), (0, pR a0), (1, pI x1), (2, pI x2)]) dX5_next_127 (by decide) rfl ?_
  refine V_iinc (v := (x5 + (1 : Int32))) (L' := [(5, pI (x5 + (1 : Int32))), (4, pI s0), (3, pI x3), (0, pR a0), (1, pI x1), (2, pI x2)]) 1 dX5_next_129 rfl rfl (by decide) rfl ?_
  refine V_goto 25 dX5_next_132 (by decide) ?_
  refine V_sub [0, 1, 2, 3, 4, 5] rfl ?_
  exact hk25 _ _ _ _ _ _ _ h
def f_X5_next_125 (k25 : Hp → Int32 → Int32 → Int32 → Nat → Int32 → Int32 → Option (Int32 × Hp)) (σ : Hp) (x5 : Int32) (x4 : Int32) (x3 : Int32) (a0 : Nat) (x1 : Int32) (x2 : Int32) : Option (Int32 × Hp) :=
  f_X5_next_127 k25 σ x5 x3 a0 x1 x2 x4
set_option maxHeartbeats 4000000 in
theorem v_X5_next_125 {l : Launch} {G : Gx} (hst : l.stackTraces = false) {σ0 σe : Hp} {Se : Ms} {r : Int32} {k25 : Hp → Int32 → Int32 → Int32 → Nat → Int32 → Int32 → Option (Int32 × Hp)} (hk25 : ∀ (σ : Hp) (x5 : Int32) (x4 : Int32) (x3 : Int32) (a0 : Nat) (x1 : Int32) (x2 : Int32), k25 σ x5 x4 x3 a0 x1 x2 = some (r, σe) → VV_X5_next l G σ0 (.inl (some (pI r))) σe Se 25 [(5, pI x5), (4, pI x4), (3, pI x3), (0, pR a0), (1, pI x1), (2, pI x2)] [] σ Se) {σ : Hp} {x5 : Int32} {x4 : Int32} {x3 : Int32} {a0 : Nat} {x1 : Int32} {x2 : Int32} (h : f_X5_next_125 k25 σ x5 x4 x3 a0 x1 x2 = some (r, σe)) : VV_X5_next l G σ0 (.inl (some (pI r))) σe Se 125 [(5, pI x5), (4, pI x4), (3, pI x3), (0, pR a0), (1, pI x1), (2, pI x2)] [] σ Se := by
  unfold f_X5_next_125 at h
  refine V_iload (i := 4) 1 dX5_next_125 rfl ?_
  refine V_sub [0, 2, 3, 4, 5] rfl ?_
  exact v_X5_next_127 hst hk25 h
def f_X5_next_120 (k25 : Hp → Int32 → Int32 → Int32 → Nat → Int32 → Int32 → Option (Int32 × Hp)) (σ : Hp) (x5 : Int32) (x3 : Int32) (a0 : Nat) (x1 : Int32) (x2 : Int32) : Option (Int32 × Hp) :=
  f_X5_next_127 k25 σ x5 x3 a0 x1 x2 x5
set_option maxHeartbeats 4000000 in
theorem v_X5_next_120 {l : Launch} {G : Gx} (hst : l.stackTraces = false) {σ0 σe : Hp} {Se : Ms} {r : Int32} {k25 : Hp → Int32 → Int32 → Int32 → Nat → Int32 → Int32 → Option (Int32 × Hp)} (hk25 : ∀ (σ : Hp) (x5 : Int32) (x4 : Int32) (x3 : Int32) (a0 : Nat) (x1 : Int32) (x2 : Int32), k25 σ x5 x4 x3 a0 x1 x2 = some (r, σe) → VV_X5_next l G σ0 (.inl (some (pI r))) σe Se 25 [(5, pI x5), (4, pI x4), (3, pI x3), (0, pR a0), (1, pI x1), (2, pI x2)] [] σ Se) {σ : Hp} {x5 : Int32} {x3 : Int32} {a0 : Nat} {x1 : Int32} {x2 : Int32} (h : f_X5_next_120 k25 σ x5 x3 a0 x1 x2 = some (r, σe)) : VV_X5_next l G σ0 (.inl (some (pI r))) σe Se 120 [(5, pI x5), (3, pI x3), (0, pR a0), (1, pI x1), (2, pI x2)] [] σ Se := by
  unfold f_X5_next_120 at h
  refine V_iload (i := 5) 0 dX5_next_120 rfl ?_
  refine V_goto 127 dX5_next_122 (by decide) ?_
  refine V_sub [0, 1, 2, 3, 4] rfl ?_
  exact v_X5_next_127 hst hk25 h
def f_X5_next_90 (k25 : Hp → Int32 → Int32 → Int32 → Nat → Int32 → Int32 → Option (Int32 × Hp)) (σ : Hp) (x5 : Int32) (x4 : Int32) (x3 : Int32) (a0 : Nat) (x1 : Int32) (x2 : Int32) (s0 : Int32) : Option (Int32 × Hp) :=
  if s0 = (0 : Int32) then (f_X5_next_125 k25 σ x5 x4 x3 a0 x1 x2) else (if x4 = (-1 : Int32) then (f_X5_next_120 k25 σ x5 x3 a0 x1 x2) else (bd (rdR σ 4 a0 40) fun b3 => bd (elI σ 101 b3 x5) fun y5 => bd (rdR σ 4 a0 40) fun b7 => bd (elI σ 101 b7 x4) fun y9 => if y5 ≤ y9 then (f_X5_next_125 k25 σ x5 x4 x3 a0 x1 x2) else (f_X5_next_120 k25 σ x5 x3 a0 x1 x2)))
set_option maxHeartbeats 4000000 in
theorem v_X5_next_90 {l : Launch} {G : Gx} (hst : l.stackTraces = false) {σ0 σe : Hp} {Se : Ms} {r : Int32} {k25 : Hp → Int32 → Int32 → Int32 → Nat → Int32 → Int32 → Option (Int32 × Hp)} (hk25 : ∀ (σ : Hp) (x5 : Int32) (x4 : Int32) (x3 : Int32) (a0 : Nat) (x1 : Int32) (x2 : Int32), k25 σ x5 x4 x3 a0 x1 x2 = some (r, σe) → VV_X5_next l G σ0 (.inl (some (pI r))) σe Se 25 [(5, pI x5), (4, pI x4), (3, pI x3), (0, pR a0), (1, pI x1), (2, pI x2)] [] σ Se) {σ : Hp} {x5 : Int32} {x4 : Int32} {x3 : Int32} {a0 : Nat} {x1 : Int32} {x2 : Int32} {s0 : Int32} (h : f_X5_next_90 k25 σ x5 x4 x3 a0 x1 x2 s0 = some (r, σe)) : VV_X5_next l G σ0 (.inl (some (pI r))) σe Se 90 [(5, pI x5), (4, pI x4), (3, pI x3), (0, pR a0), (1, pI x1), (2, pI x2)] [pI s0] σ Se := by
  unfold f_X5_next_90 at h
  refine V_istore (i := 6) (L' := [(6, pI s0), (5, pI x5), (4, pI x4), (3, pI x3), (0, pR a0), (1, pI x1), (2, pI x2)]) dX5_next_90 (by decide) rfl ?_
  refine V_iload (i := 6) 0 dX5_next_92 rfl ?_
  refine V_if_eq 125 dX5_next_94 (by decide) (fun c1 => ?_) (fun c1 => ?_)
  · replace h := it_t c1 h
    refine V_sub [1, 2, 3, 4, 5, 6] rfl ?_
    exact v_X5_next_125 hst hk25 h
  · replace h := it_f c1 h
    refine V_iload (i := 4) 2 dX5_next_97 rfl ?_
    refine V_iconst (v := (-1)) dX5_next_99 (by decide) ?_
    refine V_icmp_eq 120 dX5_next_100 (by decide) (fun c2 => ?_) (fun c2 => ?_)
    · replace h := it_t c2 h
      refine V_sub [1, 3, 4, 5, 6] rfl ?_
      exact v_X5_next_120 hst hk25 h
    · replace h := it_f c2 h
      refine V_aload_n (i := 0) 4 dX5_next_103 rfl rfl ?_
      obtain ⟨b3, e4, h⟩ := bd_s h
      refine V_rdR gf_X5_35 rfl rfl rfl e4 dX5_next_104 ?_
      refine V_iload (i := 5) 1 dX5_next_107 rfl ?_
      obtain ⟨y5, e6, h⟩ := bd_s h
      refine V_elI1 e6 dX5_next_109 ?_
      refine V_aload_n (i := 0) 4 dX5_next_110 rfl rfl ?_
      obtain ⟨b7, e8, h⟩ := bd_s h
      refine V_rdR gf_X5_35 rfl rfl rfl e8 dX5_next_111 ?_
      refine V_iload (i := 4) 2 dX5_next_114 rfl ?_
      obtain ⟨y9, e10, h⟩ := bd_s h
      refine V_elI1 e10 dX5_next_116 ?_
      refine V_icmp_le 125 dX5_next_117 (by decide) (fun c11 => ?_) (fun c11 => ?_)
      · replace h := it_t c11 h
        refine V_sub [1, 2, 3, 4, 5, 6] rfl ?_
        exact v_X5_next_125 hst hk25 h
      · replace h := it_f c11 h
        refine V_sub [1, 3, 4, 5, 6] rfl ?_
        exact v_X5_next_120 hst hk25 h
def f_X5_next_89 (k25 : Hp → Int32 → Int32 → Int32 → Nat → Int32 → Int32 → Option (Int32 × Hp)) (σ : Hp) (x5 : Int32) (x4 : Int32) (x3 : Int32) (a0 : Nat) (x1 : Int32) (x2 : Int32) : Option (Int32 × Hp) :=
  f_X5_next_90 k25 σ x5 x4 x3 a0 x1 x2 (0 : Int32)
set_option maxHeartbeats 4000000 in
theorem v_X5_next_89 {l : Launch} {G : Gx} (hst : l.stackTraces = false) {σ0 σe : Hp} {Se : Ms} {r : Int32} {k25 : Hp → Int32 → Int32 → Int32 → Nat → Int32 → Int32 → Option (Int32 × Hp)} (hk25 : ∀ (σ : Hp) (x5 : Int32) (x4 : Int32) (x3 : Int32) (a0 : Nat) (x1 : Int32) (x2 : Int32), k25 σ x5 x4 x3 a0 x1 x2 = some (r, σe) → VV_X5_next l G σ0 (.inl (some (pI r))) σe Se 25 [(5, pI x5), (4, pI x4), (3, pI x3), (0, pR a0), (1, pI x1), (2, pI x2)] [] σ Se) {σ : Hp} {x5 : Int32} {x4 : Int32} {x3 : Int32} {a0 : Nat} {x1 : Int32} {x2 : Int32} (h : f_X5_next_89 k25 σ x5 x4 x3 a0 x1 x2 = some (r, σe)) : VV_X5_next l G σ0 (.inl (some (pI r))) σe Se 89 [(5, pI x5), (4, pI x4), (3, pI x3), (0, pR a0), (1, pI x1), (2, pI x2)] [] σ Se := by
  unfold f_X5_next_89 at h
  refine V_iconst (v := 0) dX5_next_89 (by decide) ?_
  refine V_sub [0, 1, 2, 3, 4, 5] rfl ?_
  exact v_X5_next_90 hst hk25 h
def f_X5_next_25_b (k25 : Hp → Int32 → Int32 → Int32 → Nat → Int32 → Int32 → Option (Int32 × Hp)) (σ : Hp) (x5 : Int32) (x4 : Int32) (x3 : Int32) (a0 : Nat) (x1 : Int32) (x2 : Int32) : Option (Int32 × Hp) :=
  bd (rdR σ 4 a0 40) fun b1 => bd (elN σ b1) fun y3 => if y3 ≤ x5 then (some (x4, σ)) else (bd (rdI σ 4 a0 42) fun y6 => if ((y6 >>> (x5 &&& 31)) &&& (1 : Int32)) = (1 : Int32) then (if ((x2 >>> (x5 &&& 31)) &&& (1 : Int32)) = (0 : Int32) then (bd (rdR σ 4 a0 40) fun b10 => bd (elI σ 101 b10 x5) fun y12 => if x1 < y12 then (f_X5_next_89 k25 σ x5 x4 x3 a0 x1 x2) else (bd (rdR σ 4 a0 40) fun b15 => bd (elI σ 101 b15 x5) fun y17 => bd (rmI (x1 - y17) ((10 : Int32) * x3)) fun y19 => if y19 = (0 : Int32) then (f_X5_next_90 k25 σ x5 x4 x3 a0 x1 x2 (1 : Int32)) else (f_X5_next_89 k25 σ x5 x4 x3 a0 x1 x2))) else (f_X5_next_89 k25 σ x5 x4 x3 a0 x1 x2)) else (f_X5_next_89 k25 σ x5 x4 x3 a0 x1 x2))
set_option maxHeartbeats 4000000 in
theorem v_X5_next_25_b {l : Launch} {G : Gx} (hst : l.stackTraces = false) {σ0 σe : Hp} {Se : Ms} {r : Int32} {k25 : Hp → Int32 → Int32 → Int32 → Nat → Int32 → Int32 → Option (Int32 × Hp)} (hk25 : ∀ (σ : Hp) (x5 : Int32) (x4 : Int32) (x3 : Int32) (a0 : Nat) (x1 : Int32) (x2 : Int32), k25 σ x5 x4 x3 a0 x1 x2 = some (r, σe) → VV_X5_next l G σ0 (.inl (some (pI r))) σe Se 25 [(5, pI x5), (4, pI x4), (3, pI x3), (0, pR a0), (1, pI x1), (2, pI x2)] [] σ Se) {σ : Hp} {x5 : Int32} {x4 : Int32} {x3 : Int32} {a0 : Nat} {x1 : Int32} {x2 : Int32} (h : f_X5_next_25_b k25 σ x5 x4 x3 a0 x1 x2 = some (r, σe)) : VV_X5_next l G σ0 (.inl (some (pI r))) σe Se 25 [(5, pI x5), (4, pI x4), (3, pI x3), (0, pR a0), (1, pI x1), (2, pI x2)] [] σ Se := by
  unfold f_X5_next_25_b at h
  refine V_iload (i := 5) 0 dX5_next_25 rfl ?_
  refine V_aload_n (i := 0) 3 dX5_next_27 rfl rfl ?_
  obtain ⟨b1, e2, h⟩ := bd_s h
  refine V_rdR gf_X5_35 rfl rfl rfl e2 dX5_next_28 ?_
  obtain ⟨y3, e4, h⟩ := bd_s h
  refine V_elN e4 dX5_next_31 ?_
  refine V_icmp_ge 135 dX5_next_32 (by decide) (fun c5 => ?_) (fun c5 => ?_)
  · replace h := it_t c5 h
    refine V_iload (i := 4) 1 dX5_next_135 rfl ?_
    cases h
    exact V_iret rfl dX5_next_137
  · replace h := it_f c5 h
    refine V_aload_n (i := 0) 3 dX5_next_35 rfl rfl ?_
    obtain ⟨y6, e7, h⟩ := bd_s h
    refine V_rdI gf_X5_24 rfl rfl rfl e7 dX5_next_36 ?_
    refine V_iload (i := 5) 0 dX5_next_39 rfl ?_
    refine V_ishr dX5_next_41 ?_
    refine V_iconst (v := 1) dX5_next_42 (by decide) ?_
    refine V_iand dX5_next_43 ?_
    refine V_iconst (v := 1) dX5_next_44 (by decide) ?_
    refine V_icmp_ne 89 dX5_next_45 (by decide) (fun c8 => ?_) (fun c8 => ?_)
    · replace h := it_f c8 h
      refine V_sub [0, 1, 2, 3, 4, 5] rfl ?_
      exact v_X5_next_89 hst hk25 h
    · replace h := it_t c8 h
      refine V_iload_n (i := 2) 5 dX5_next_48 rfl rfl ?_
      refine V_iload (i := 5) 0 dX5_next_49 rfl ?_
      refine V_ishr dX5_next_51 ?_
      refine V_iconst (v := 1) dX5_next_52 (by decide) ?_
      refine V_iand dX5_next_53 ?_
      refine V_if_ne 89 dX5_next_54 (by decide) (fun c9 => ?_) (fun c9 => ?_)
      · replace h := it_f c9 h
        refine V_sub [0, 1, 2, 3, 4, 5] rfl ?_
        exact v_X5_next_89 hst hk25 h
      · replace h := it_t c9 h
        refine V_aload_n (i := 0) 3 dX5_next_57 rfl rfl ?_
        obtain ⟨b10, e11, h⟩ := bd_s h
        refine V_rdR gf_X5_35 rfl rfl rfl e11 dX5_next_58 ?_
        refine V_iload (i := 5) 0 dX5_next_61 rfl ?_
        obtain ⟨y12, e13, h⟩ := bd_s h
        refine V_elI1 e13 dX5_next_63 ?_
        refine V_iload_n (i := 1) 4 dX5_next_64 rfl rfl ?_
        refine V_icmp_gt 89 dX5_next_65 (by decide) (fun c14 => ?_) (fun c14 => ?_)
        · replace h := it_t c14 h
          refine V_sub [0, 1, 2, 3, 4, 5] rfl ?_
          exact v_X5_next_89 hst hk25 h
        · replace h := it_f c14 h
          refine V_iload_n (i := 1) 4 dX5_next_68 rfl rfl ?_
          refine V_aload_n (i := 0) 3 dX5_next_69 rfl rfl ?_
          obtain ⟨b15, e16, h⟩ := bd_s h
          refine V_rdR gf_X5_35 rfl rfl rfl e16 dX5_next_70 ?_
          refine V_iload (i := 5) 0 dX5_next_73 rfl ?_
          obtain ⟨y17, e18, h⟩ := bd_s h
          refine V_elI1 e18 dX5_next_75 ?_
          refine V_isub dX5_next_76 ?_
          refine V_bipush (v := 10) dX5_next_77 (by decide) ?_
          refine V_iload_n (i := 3) 2 dX5_next_79 rfl rfl ?_
          refine V_imul dX5_next_80 ?_
          obtain ⟨y19, e20, h⟩ := bd_s h
          refine V_rem e20 dX5_next_81 ?_
          refine V_if_ne 89 dX5_next_82 (by decide) (fun c21 => ?_) (fun c21 => ?_)
          · replace h := it_f c21 h
            refine V_sub [0, 1, 2, 3, 4, 5] rfl ?_
            exact v_X5_next_89 hst hk25 h
          · replace h := it_t c21 h
            refine V_iconst (v := 1) dX5_next_85 (by decide) ?_
            refine V_goto 90 dX5_next_86 (by decide) ?_
            refine V_sub [0, 1, 2, 3, 4, 5] rfl ?_
            exact v_X5_next_90 hst hk25 h
def f_X5_next_25 : Nat → Hp → Int32 → Int32 → Int32 → Nat → Int32 → Int32 → Option (Int32 × Hp)
  | 0, _, _, _, _, _, _, _ => none
  | n + 1, σ, x5, x4, x3, a0, x1, x2 => f_X5_next_25_b (f_X5_next_25 n) σ x5 x4 x3 a0 x1 x2
theorem v_X5_next_25 {l : Launch} {G : Gx} (hst : l.stackTraces = false) {σ0 σe : Hp} {Se : Ms} {r : Int32} : ∀ (n : Nat) (σ : Hp) (x5 : Int32) (x4 : Int32) (x3 : Int32) (a0 : Nat) (x1 : Int32) (x2 : Int32), f_X5_next_25 n σ x5 x4 x3 a0 x1 x2 = some (r, σe) → VV_X5_next l G σ0 (.inl (some (pI r))) σe Se 25 [(5, pI x5), (4, pI x4), (3, pI x3), (0, pR a0), (1, pI x1), (2, pI x2)] [] σ Se
  | 0, _, _, _, _, _, _, _, h => by cases h
  | n + 1, _, _, _, _, _, _, _, h => v_X5_next_25_b hst (v_X5_next_25 hst n) h
def f_X5_next_2_b (k2 : Hp → Int32 → Nat → Int32 → Int32 → Option (Int32 × Hp)) (σ : Hp) (x3 : Int32) (a0 : Nat) (x1 : Int32) (x2 : Int32) : Option (Int32 × Hp) :=
  bd (dvI x1 x3) fun y1 => bd (rmI y1 (10 : Int32)) fun y3 => if y3 = (0 : Int32) then (k2 σ (x3 * (10 : Int32)) a0 x1 x2) else (f_X5_next_25 FU σ (0 : Int32) (-1 : Int32) x3 a0 x1 x2)
set_option maxHeartbeats 4000000 in
theorem v_X5_next_2_b {l : Launch} {G : Gx} (hst : l.stackTraces = false) {σ0 σe : Hp} {Se : Ms} {r : Int32} {k2 : Hp → Int32 → Nat → Int32 → Int32 → Option (Int32 × Hp)} (hk2 : ∀ (σ : Hp) (x3 : Int32) (a0 : Nat) (x1 : Int32) (x2 : Int32), k2 σ x3 a0 x1 x2 = some (r, σe) → VV_X5_next l G σ0 (.inl (some (pI r))) σe Se 2 [(3, pI x3), (0, pR a0), (1, pI x1), (2, pI x2)] [] σ Se) {σ : Hp} {x3 : Int32} {a0 : Nat} {x1 : Int32} {x2 : Int32} (h : f_X5_next_2_b k2 σ x3 a0 x1 x2 = some (r, σe)) : VV_X5_next l G σ0 (.inl (some (pI r))) σe Se 2 [(3, pI x3), (0, pR a0), (1, pI x1), (2, pI x2)] [] σ Se := by
  unfold f_X5_next_2_b at h
  refine V_iload_n (i := 1) 2 dX5_next_2 rfl rfl ?_
  refine V_iload_n (i := 3) 0 dX5_next_3 rfl rfl ?_
  obtain ⟨y1, e2, h⟩ := bd_s h
  refine V_div e2 dX5_next_4 ?_
  refine V_bipush (v := 10) dX5_next_5 (by decide) ?_
  obtain ⟨y3, e4, h⟩ := bd_s h
  refine V_rem e4 dX5_next_7 ?_
  refine V_if_ne 19 dX5_next_8 (by decide) (fun c5 => ?_) (fun c5 => ?_)
  · replace h := it_f c5 h
    refine V_iconst (v := (-1)) dX5_next_19 (by decide) ?_
    refine V_istore (i := 4) (L' := [(4, pI (-1 : Int32)), (3, pI x3), (0, pR a0), (1, pI x1), (2, pI x2)]) dX5_next_20 (by decide) rfl ?_
    refine V_iconst (v := 0) dX5_next_22 (by decide) ?_
    refine V_istore (i := 5) (L' := [(5, pI (0 : Int32)), (4, pI (-1 : Int32)), (3, pI x3), (0, pR a0), (1, pI x1), (2, pI x2)]) dX5_next_23 (by decide) rfl ?_
    refine V_sub [0, 1, 2, 3, 4, 5] rfl ?_
    exact v_X5_next_25 hst FU _ _ _ _ _ _ _ h
  · replace h := it_t c5 h
    refine V_iload_n (i := 3) 0 dX5_next_11 rfl rfl ?_
    refine V_bipush (v := 10) dX5_next_12 (by decide) ?_
    refine V_imul dX5_next_14 ?_
    refine V_istore_n (i := 3) (L' := [(3, pI (x3 * (10 : Int32))), (0, pR a0), (1, pI x1), (2, pI x2)]) dX5_next_15 rfl (by decide) rfl ?_
    refine V_goto 2 dX5_next_16 (by decide) ?_
    refine V_sub [0, 1, 2, 3] rfl ?_
    exact hk2 _ _ _ _ _ h
def f_X5_next_2 : Nat → Hp → Int32 → Nat → Int32 → Int32 → Option (Int32 × Hp)
  | 0, _, _, _, _, _ => none
  | n + 1, σ, x3, a0, x1, x2 => f_X5_next_2_b (f_X5_next_2 n) σ x3 a0 x1 x2
theorem v_X5_next_2 {l : Launch} {G : Gx} (hst : l.stackTraces = false) {σ0 σe : Hp} {Se : Ms} {r : Int32} : ∀ (n : Nat) (σ : Hp) (x3 : Int32) (a0 : Nat) (x1 : Int32) (x2 : Int32), f_X5_next_2 n σ x3 a0 x1 x2 = some (r, σe) → VV_X5_next l G σ0 (.inl (some (pI r))) σe Se 2 [(3, pI x3), (0, pR a0), (1, pI x1), (2, pI x2)] [] σ Se
  | 0, _, _, _, _, _, h => by cases h
  | n + 1, _, _, _, _, _, h => v_X5_next_2_b hst (v_X5_next_2 hst n) h
def f_X5_next (σ : Hp) (a0 : Nat) (x1 : Int32) (x2 : Int32) : Option (Int32 × Hp) :=
  f_X5_next_2 FU σ (1 : Int32) a0 x1 x2
set_option maxHeartbeats 4000000 in
theorem v_X5_next (l : Launch) (G : Gx) (hst : l.stackTraces = false) (S : Ms) {σ σe : Hp} {a0 : Nat} {x1 : Int32} {x2 : Int32} {r : Int32} (h : f_X5_next σ a0 x1 x2 = some (r, σe)) : MT l G yX5_next (ws_ yX5_next cX5_next 7 (some .int)) 1 30 [pR a0, pI x1, pI x2] σ S (.inl (some (pI r))) σe S := by
  refine MT_of (own := RX5) (nL := 7) (ini := false) (by decide +kernel) rfl (Nat.le_of_ble_eq_true rfl) (fun h => by cases h) hst ?_
  show VV_X5_next l G σ (.inl (some (pI r))) σe S 0 [(0, pR a0), (1, pI x1), (2, pI x2)] [] σ S
  unfold f_X5_next at h
  refine V_iconst (v := 1) dX5_next_0 (by decide) ?_
  refine V_istore_n (i := 3) (L' := [(3, pI (1 : Int32)), (0, pR a0), (1, pI x1), (2, pI x2)]) dX5_next_1 rfl (by decide) rfl ?_
  refine V_sub [0, 1, 2, 3] rfl ?_
  exact v_X5_next_2 hst FU _ _ _ _ _ h

abbrev VV_X5_oldWay (l : Launch) (G : Gx) (σ0 : Hp) (o : Oc) (σe : Hp) (Se : Ms) := V l G RX5 cX5_oldWay 5 (some .int) [] false 2 56 σ0 o σe Se
def f_X5_oldWay_83 (σ : Hp) (s0 : Int32) : Option (Int32 × Hp) :=
  some (s0, σ)
set_option maxHeartbeats 4000000 in
theorem v_X5_oldWay_83 {l : Launch} {G : Gx} (hst : l.stackTraces = false) {σ0 σe : Hp} {Se : Ms} {r : Int32} {σ : Hp} {s0 : Int32} (h : f_X5_oldWay_83 σ s0 = some (r, σe)) : VV_X5_oldWay l G σ0 (.inl (some (pI r))) σe Se 83 [] [pI s0] σ Se := by
  unfold f_X5_oldWay_83 at h
  cases h
  exact V_iret rfl dX5_oldWay_83
def f_X5_oldWay_61 (k15 : Hp → Int32 → Int32 → Int32 → Nat → Int32 → Option (Int32 × Hp)) (σ : Hp) (x2 : Int32) (x3 : Int32) (a0 : Nat) (x1 : Int32) (s0 : Int32) : Option (Int32 × Hp) :=
  k15 σ s0 x3 x2 a0 x1
set_option maxHeartbeats 4000000 in
theorem v_X5_oldWay_61 {l : Launch} {G : Gx} (hst : l.stackTraces = false) {σ0 σe : Hp} {Se : Ms} {r : Int32} {k15 : Hp → Int32 → Int32 → Int32 → Nat → Int32 → Option (Int32 × Hp)} (hk15 : ∀ (σ : Hp) (x4 : Int32) (x3 : Int32) (x2 : Int32) (a0 : Nat) (x1 : Int32), k15 σ x4 x3 x2 a0 x1 = some (r, σe) → VV_X5_oldWay l G σ0 (.inl (some (pI r))) σe Se 15 [(4, pI x4), (3, pI x3), (2, pI x2), (0, pR a0), (1, pI x1)] [] σ Se) {σ : Hp} {x2 : Int32} {x3 : Int32} {a0 : Nat} {x1 : Int32} {s0 : Int32} (h : f_X5_oldWay_61 k15 σ x2 x3 a0 x1 s0 = some (r, σe)) : VV_X5_oldWay l G σ0 (.inl (some (pI r))) σe Se 61 [(2, pI x2), (3, pI x3), (0, pR a0), (1, pI x1)] [pI s0] σ Se := by
  unfold f_X5_oldWay_61 at h
  refine V_istore (i := 4) (L' := [(4, pI s0), (2, pI x2), (3, pI x3), (0, pR a0), (1, pI x1)]) dX5_oldWay_61 (by decide) rfl ?_
  refine V_goto 15 dX5_oldWay_63 (by decide) ?_
  refine V_sub [0, 2, 1, 3, 4] rfl ?_
  exact hk15 _ _ _ _ _ _ h
def f_X5_oldWay_51 (k15 : Hp → Int32 → Int32 → Int32 → Nat → Int32 → Option (Int32 × Hp)) (σ : Hp) (x2 : Int32) (x3 : Int32) (a0 : Nat) (x1 : Int32) : Option (Int32 × Hp) :=
  f_X5_oldWay_61 k15 σ x2 x3 a0 x1 (-1 : Int32)
set_option maxHeartbeats 4000000 in
theorem v_X5_oldWay_51 {l : Launch} {G : Gx} (hst : l.stackTraces = false) {σ0 σe : Hp} {Se : Ms} {r : Int32} {k15 : Hp → Int32 → Int32 → Int32 → Nat → Int32 → Option (Int32 × Hp)} (hk15 : ∀ (σ : Hp) (x4 : Int32) (x3 : Int32) (x2 : Int32) (a0 : Nat) (x1 : Int32), k15 σ x4 x3 x2 a0 x1 = some (r, σe) → VV_X5_oldWay l G σ0 (.inl (some (pI r))) σe Se 15 [(4, pI x4), (3, pI x3), (2, pI x2), (0, pR a0), (1, pI x1)] [] σ Se) {σ : Hp} {x2 : Int32} {x3 : Int32} {a0 : Nat} {x1 : Int32} (h : f_X5_oldWay_51 k15 σ x2 x3 a0 x1 = some (r, σe)) : VV_X5_oldWay l G σ0 (.inl (some (pI r))) σe Se 51 [(2, pI x2), (3, pI x3), (0, pR a0), (1, pI x1)] [] σ Se := by
  unfold f_X5_oldWay_51 at h
  refine V_iconst (v := (-1)) dX5_oldWay_51 (by decide) ?_
  refine V_goto 61 dX5_oldWay_52 (by decide) ?_
  refine V_sub [0, 1, 2, 3] rfl ?_
  exact v_X5_oldWay_61 hst hk15 h
def f_X5_oldWay_15_b (k15 : Hp → Int32 → Int32 → Int32 → Nat → Int32 → Option (Int32 × Hp)) (σ : Hp) (x4 : Int32) (x3 : Int32) (x2 : Int32) (a0 : Nat) (x1 : Int32) : Option (Int32 × Hp) :=
  if x4 = (-1 : Int32) then (if x1 = (0 : Int32) then (if x2 = (0 : Int32) then (f_X5_oldWay_83 σ x3) else (f_X5_oldWay_83 σ (-1 : Int32))) else (f_X5_oldWay_83 σ x2)) else (bd (rdR σ 4 a0 40) fun b4 => bd (elI σ 101 b4 x4) fun y6 => if (x2 - y6) = (0 : Int32) then (f_X5_oldWay_51 k15 σ (x2 - y6) (x3 ||| ((1 : Int32) <<< (x4 &&& 31))) a0 x1) else (bd (f_J23_bitCount (x3 ||| ((1 : Int32) <<< (x4 &&& 31)))) fun y9 => if y9 = (6 : Int32) then (f_X5_oldWay_51 k15 σ (x2 - y6) (x3 ||| ((1 : Int32) <<< (x4 &&& 31))) a0 x1) else (bd (gk σ 4 a0) fun e12 => bp (f_X5_next σ a0 (x2 - y6) (x3 ||| ((1 : Int32) <<< (x4 &&& 31)))) fun y14 σ15 => f_X5_oldWay_61 k15 σ15 (x2 - y6) (x3 ||| ((1 : Int32) <<< (x4 &&& 31))) a0 x1 y14)))
set_option maxHeartbeats 4000000 in
theorem v_X5_oldWay_15_b {l : Launch} {G : Gx} (hst : l.stackTraces = false) {σ0 σe : Hp} {Se : Ms} {r : Int32} {k15 : Hp → Int32 → Int32 → Int32 → Nat → Int32 → Option (Int32 × Hp)} (hk15 : ∀ (σ : Hp) (x4 : Int32) (x3 : Int32) (x2 : Int32) (a0 : Nat) (x1 : Int32), k15 σ x4 x3 x2 a0 x1 = some (r, σe) → VV_X5_oldWay l G σ0 (.inl (some (pI r))) σe Se 15 [(4, pI x4), (3, pI x3), (2, pI x2), (0, pR a0), (1, pI x1)] [] σ Se) {σ : Hp} {x4 : Int32} {x3 : Int32} {x2 : Int32} {a0 : Nat} {x1 : Int32} (h : f_X5_oldWay_15_b k15 σ x4 x3 x2 a0 x1 = some (r, σe)) : VV_X5_oldWay l G σ0 (.inl (some (pI r))) σe Se 15 [(4, pI x4), (3, pI x3), (2, pI x2), (0, pR a0), (1, pI x1)] [] σ Se := by
  unfold f_X5_oldWay_15_b at h
  refine V_iload (i := 4) 0 dX5_oldWay_15 rfl ?_
  refine V_iconst (v := (-1)) dX5_oldWay_17 (by decide) ?_
  refine V_icmp_eq 66 dX5_oldWay_18 (by decide) (fun c1 => ?_) (fun c1 => ?_)
  · replace h := it_t c1 h
    refine V_iload_n (i := 1) 4 dX5_oldWay_66 rfl rfl ?_
    refine V_if_eq 74 dX5_oldWay_67 (by decide) (fun c2 => ?_) (fun c2 => ?_)
    · replace h := it_t c2 h
      refine V_iload_n (i := 2) 2 dX5_oldWay_74 rfl rfl ?_
      refine V_if_ne 82 dX5_oldWay_75 (by decide) (fun c3 => ?_) (fun c3 => ?_)
      · replace h := it_f c3 h
        refine V_iconst (v := (-1)) dX5_oldWay_82 (by decide) ?_
        refine V_sub [] rfl ?_
        exact v_X5_oldWay_83 hst h
      · replace h := it_t c3 h
        refine V_iload_n (i := 3) 1 dX5_oldWay_78 rfl rfl ?_
        refine V_goto 83 dX5_oldWay_79 (by decide) ?_
        refine V_sub [] rfl ?_
        exact v_X5_oldWay_83 hst h
    · replace h := it_f c2 h
      refine V_iload_n (i := 2) 2 dX5_oldWay_70 rfl rfl ?_
      refine V_goto 83 dX5_oldWay_71 (by decide) ?_
      refine V_sub [] rfl ?_
      exact v_X5_oldWay_83 hst h
  · replace h := it_f c1 h
    refine V_iload_n (i := 3) 1 dX5_oldWay_21 rfl rfl ?_
    refine V_iconst (v := 1) dX5_oldWay_22 (by decide) ?_
    refine V_iload (i := 4) 0 dX5_oldWay_23 rfl ?_
    refine V_ishl dX5_oldWay_25 ?_
    refine V_ior dX5_oldWay_26 ?_
    refine V_istore_n (i := 3) (L' := [(3, pI (x3 ||| ((1 : Int32) <<< (x4 &&& 31)))), (4, pI x4), (2, pI x2), (0, pR a0), (1, pI x1)]) dX5_oldWay_27 rfl (by decide) rfl ?_
    refine V_iload_n (i := 2) 2 dX5_oldWay_28 rfl rfl ?_
    refine V_aload_n (i := 0) 3 dX5_oldWay_29 rfl rfl ?_
    obtain ⟨b4, e5, h⟩ := bd_s h
    refine V_rdR gf_X5_35 rfl rfl rfl e5 dX5_oldWay_30 ?_
    refine V_iload (i := 4) 1 dX5_oldWay_33 rfl ?_
    obtain ⟨y6, e7, h⟩ := bd_s h
    refine V_elI1 e7 dX5_oldWay_35 ?_
    refine V_isub dX5_oldWay_36 ?_
    refine V_istore_n (i := 2) (L' := [(2, pI (x2 - y6)), (3, pI (x3 ||| ((1 : Int32) <<< (x4 &&& 31)))), (4, pI x4), (0, pR a0), (1, pI x1)]) dX5_oldWay_37 rfl (by decide) rfl ?_
    refine V_iload_n (i := 2) 0 dX5_oldWay_38 rfl rfl ?_
    refine V_if_eq 51 dX5_oldWay_39 (by decide) (fun c8 => ?_) (fun c8 => ?_)
    · replace h := it_t c8 h
      refine V_sub [0, 1, 3, 4] rfl ?_
      exact v_X5_oldWay_51 hst hk15 h
    · replace h := it_f c8 h
      refine V_iload_n (i := 3) 1 dX5_oldWay_42 rfl rfl ?_
      obtain ⟨y9, e10, h⟩ := bd_s h
      refine V_callS_v (n9 := 1) [] (v_J23_bitCount l G hst _ _ e10) rfl rfl (lw_S q1964 q1944 q105 q1945) (by decide +kernel) (by decide) (Nat.le_of_ble_eq_true rfl) dX5_oldWay_43 ?_
      refine V_bipush (v := 6) dX5_oldWay_46 (by decide) ?_
      refine V_icmp_ne 55 dX5_oldWay_48 (by decide) (fun c11 => ?_) (fun c11 => ?_)
      · replace h := it_f c11 h
        refine V_aload_n (i := 0) 3 dX5_oldWay_55 rfl rfl ?_
        refine V_iload_n (i := 2) 0 dX5_oldWay_56 rfl rfl ?_
        refine V_iload_n (i := 3) 1 dX5_oldWay_57 rfl rfl ?_
        obtain ⟨e12, e13, h⟩ := bd_s h
        obtain ⟨y14, σ15, e16, h⟩ := bp_s h
        refine V_callV_v (n9 := 2) (c := 3) (r := (RX5, TX5, 5)) [] (v_X5_next l G hst _ e16) rfl rfl (lw_V q1960 q1962 qs27 q101 q1963) (by decide +kernel) (by decide) (Nat.le_of_ble_eq_true rfl) (gk_k e13 rfl) rfl dX5_oldWay_58 ?_
        refine V_sub [0, 1, 3, 4] rfl ?_
        exact v_X5_oldWay_61 hst hk15 h
      · replace h := it_t c11 h
        refine V_sub [0, 1, 3, 4] rfl ?_
        exact v_X5_oldWay_51 hst hk15 h
def f_X5_oldWay_15 : Nat → Hp → Int32 → Int32 → Int32 → Nat → Int32 → Option (Int32 × Hp)
  | 0, _, _, _, _, _, _ => none
  | n + 1, σ, x4, x3, x2, a0, x1 => f_X5_oldWay_15_b (f_X5_oldWay_15 n) σ x4 x3 x2 a0 x1
theorem v_X5_oldWay_15 {l : Launch} {G : Gx} (hst : l.stackTraces = false) {σ0 σe : Hp} {Se : Ms} {r : Int32} : ∀ (n : Nat) (σ : Hp) (x4 : Int32) (x3 : Int32) (x2 : Int32) (a0 : Nat) (x1 : Int32), f_X5_oldWay_15 n σ x4 x3 x2 a0 x1 = some (r, σe) → VV_X5_oldWay l G σ0 (.inl (some (pI r))) σe Se 15 [(4, pI x4), (3, pI x3), (2, pI x2), (0, pR a0), (1, pI x1)] [] σ Se
  | 0, _, _, _, _, _, _, h => by cases h
  | n + 1, _, _, _, _, _, _, h => v_X5_oldWay_15_b hst (v_X5_oldWay_15 hst n) h
def f_X5_oldWay (σ : Hp) (a0 : Nat) (x1 : Int32) : Option (Int32 × Hp) :=
  bd (rdI σ 4 a0 41) fun y1 => bd (gk σ 4 a0) fun e3 => bp (f_X5_next σ a0 y1 (0 : Int32)) fun y5 σ6 => f_X5_oldWay_15 FU σ6 y5 (0 : Int32) y1 a0 x1
set_option maxHeartbeats 4000000 in
theorem v_X5_oldWay (l : Launch) (G : Gx) (hst : l.stackTraces = false) (S : Ms) {σ σe : Hp} {a0 : Nat} {x1 : Int32} {r : Int32} (h : f_X5_oldWay σ a0 x1 = some (r, σe)) : MT l G yX5_oldWay (ws_ yX5_oldWay cX5_oldWay 5 (some .int)) 2 56 [pR a0, pI x1] σ S (.inl (some (pI r))) σe S := by
  refine MT_of (own := RX5) (nL := 5) (ini := false) (by decide +kernel) rfl (Nat.le_of_ble_eq_true rfl) (fun h => by cases h) hst ?_
  show VV_X5_oldWay l G σ (.inl (some (pI r))) σe S 0 [(0, pR a0), (1, pI x1)] [] σ S
  unfold f_X5_oldWay at h
  refine V_aload_n (i := 0) 0 dX5_oldWay_0 rfl rfl ?_
  obtain ⟨y1, e2, h⟩ := bd_s h
  refine V_rdI gf_X5_15 rfl rfl rfl e2 dX5_oldWay_1 ?_
  refine V_istore_n (i := 2) (L' := [(2, pI y1), (0, pR a0), (1, pI x1)]) dX5_oldWay_4 rfl (by decide) rfl ?_
  refine V_iconst (v := 0) dX5_oldWay_5 (by decide) ?_
  refine V_istore_n (i := 3) (L' := [(3, pI (0 : Int32)), (2, pI y1), (0, pR a0), (1, pI x1)]) dX5_oldWay_6 rfl (by decide) rfl ?_
  refine V_aload_n (i := 0) 2 dX5_oldWay_7 rfl rfl ?_
  refine V_iload_n (i := 2) 1 dX5_oldWay_8 rfl rfl ?_
  refine V_iload_n (i := 3) 0 dX5_oldWay_9 rfl rfl ?_
  obtain ⟨e3, e4, h⟩ := bd_s h
  obtain ⟨y5, σ6, e7, h⟩ := bp_s h
  refine V_callV_v (n9 := 2) (c := 3) (r := (RX5, TX5, 5)) [] (v_X5_next l G hst _ e7) rfl rfl (lw_V q1960 q1962 qs27 q101 q1963) (by decide +kernel) (by decide) (Nat.le_of_ble_eq_true rfl) (gk_k e4 rfl) rfl dX5_oldWay_10 ?_
  refine V_istore (i := 4) (L' := [(4, pI y5), (3, pI (0 : Int32)), (2, pI y1), (0, pR a0), (1, pI x1)]) dX5_oldWay_13 (by decide) rfl ?_
  refine V_sub [0, 1, 2, 3, 4] rfl ?_
  exact v_X5_oldWay_15 hst FU _ _ _ _ _ _ h

abbrev VV_X5_nearest (l : Launch) (G : Gx) (σ0 : Hp) (o : Oc) (σe : Hp) (Se : Ms) := V l G RX5 cX5_nearest 7 (some .int) [] false 1 30 σ0 o σe Se
def f_X5_nearest_129 (k4 : Hp → Int32 → Int32 → Nat → Option (Int32 × Hp)) (k15 : Hp → Int32 → Int32 → Int32 → Nat → Option (Int32 × Hp)) (σ : Hp) (x3 : Int32) (x2 : Int32) (a0 : Nat) (s0 : Int32) : Option (Int32 × Hp) :=
  k15 σ (x3 + (1 : Int32)) x2 s0 a0
set_option maxHeartbeats 4000000 in
theorem v_X5_nearest_129 {l : Launch} {G : Gx} (hst : l.stackTraces = false) {σ0 σe : Hp} {Se : Ms} {r : Int32} {k4 : Hp → Int32 → Int32 → Nat → Option (Int32 × Hp)} {k15 : Hp → Int32 → Int32 → Int32 → Nat → Option (Int32 × Hp)} (hk4 : ∀ (σ : Hp) (x2 : Int32) (x1 : Int32) (a0 : Nat), k4 σ x2 x1 a0 = some (r, σe) → VV_X5_nearest l G σ0 (.inl (some (pI r))) σe Se 4 [(2, pI x2), (1, pI x1), (0, pR a0)] [] σ Se) (hk15 : ∀ (σ : Hp) (x3 : Int32) (x2 : Int32) (x1 : Int32) (a0 : Nat), k15 σ x3 x2 x1 a0 = some (r, σe) → VV_X5_nearest l G σ0 (.inl (some (pI r))) σe Se 15 [(3, pI x3), (2, pI x2), (1, pI x1), (0, pR a0)] [] σ Se) {σ : Hp} {x3 : Int32} {x2 : Int32} {a0 : Nat} {s0 : Int32} (h : f_X5_nearest_129 k4 k15 σ x3 x2 a0 s0 = some (r, σe)) : VV_X5_nearest l G σ0 (.inl (some (pI r))) σe Se 129 [(3, pI x3), (2, pI x2), (0, pR a0)] [pI s0] σ Se := by
  unfold f_X5_nearest_129 at h
  refine V_istore_n (i := 1) (L' := [(1, pI s0), (3, pI x3), (2, pI x2), (0, pR a0)]) dX5_nearest_129 rfl (by decide) rfl ?_
  refine V_iinc (v := (x3 + (1 : Int32))) (L' := [(3, pI (x3 + (1 : Int32))), (1, pI s0), (2, pI x2), (0, pR a0)]) 1 dX5_nearest_130 rfl rfl (by decide) rfl ?_
  refine V_goto 15 dX5_nearest_133 (by decide) ?_
  refine V_sub [0, 2, 1, 3] rfl ?_
  exact hk15 _ _ _ _ _ h
def f_X5_nearest_128 (k4 : Hp → Int32 → Int32 → Nat → Option (Int32 × Hp)) (k15 : Hp → Int32 → Int32 → Int32 → Nat → Option (Int32 × Hp)) (σ : Hp) (x3 : Int32) (x2 : Int32) (x1 : Int32) (a0 : Nat) : Option (Int32 × Hp) :=
  f_X5_nearest_129 k4 k15 σ x3 x2 a0 x1
set_option maxHeartbeats 4000000 in
theorem v_X5_nearest_128 {l : Launch} {G : Gx} (hst : l.stackTraces = false) {σ0 σe : Hp} {Se : Ms} {r : Int32} {k4 : Hp → Int32 → Int32 → Nat → Option (Int32 × Hp)} {k15 : Hp → Int32 → Int32 → Int32 → Nat → Option (Int32 × Hp)} (hk4 : ∀ (σ : Hp) (x2 : Int32) (x1 : Int32) (a0 : Nat), k4 σ x2 x1 a0 = some (r, σe) → VV_X5_nearest l G σ0 (.inl (some (pI r))) σe Se 4 [(2, pI x2), (1, pI x1), (0, pR a0)] [] σ Se) (hk15 : ∀ (σ : Hp) (x3 : Int32) (x2 : Int32) (x1 : Int32) (a0 : Nat), k15 σ x3 x2 x1 a0 = some (r, σe) → VV_X5_nearest l G σ0 (.inl (some (pI r))) σe Se 15 [(3, pI x3), (2, pI x2), (1, pI x1), (0, pR a0)] [] σ Se) {σ : Hp} {x3 : Int32} {x2 : Int32} {x1 : Int32} {a0 : Nat} (h : f_X5_nearest_128 k4 k15 σ x3 x2 x1 a0 = some (r, σe)) : VV_X5_nearest l G σ0 (.inl (some (pI r))) σe Se 128 [(3, pI x3), (2, pI x2), (1, pI x1), (0, pR a0)] [] σ Se := by
  unfold f_X5_nearest_128 at h
  refine V_iload_n (i := 1) 2 dX5_nearest_128 rfl rfl ?_
  refine V_sub [0, 1, 3] rfl ?_
  exact v_X5_nearest_129 hst hk4 hk15 h
def f_X5_nearest_123 (k4 : Hp → Int32 → Int32 → Nat → Option (Int32 × Hp)) (k15 : Hp → Int32 → Int32 → Int32 → Nat → Option (Int32 × Hp)) (σ : Hp) (x5 : Int32) (x3 : Int32) (x2 : Int32) (a0 : Nat) : Option (Int32 × Hp) :=
  f_X5_nearest_129 k4 k15 σ x3 x2 a0 x5
set_option maxHeartbeats 4000000 in
theorem v_X5_nearest_123 {l : Launch} {G : Gx} (hst : l.stackTraces = false) {σ0 σe : Hp} {Se : Ms} {r : Int32} {k4 : Hp → Int32 → Int32 → Nat → Option (Int32 × Hp)} {k15 : Hp → Int32 → Int32 → Int32 → Nat → Option (Int32 × Hp)} (hk4 : ∀ (σ : Hp) (x2 : Int32) (x1 : Int32) (a0 : Nat), k4 σ x2 x1 a0 = some (r, σe) → VV_X5_nearest l G σ0 (.inl (some (pI r))) σe Se 4 [(2, pI x2), (1, pI x1), (0, pR a0)] [] σ Se) (hk15 : ∀ (σ : Hp) (x3 : Int32) (x2 : Int32) (x1 : Int32) (a0 : Nat), k15 σ x3 x2 x1 a0 = some (r, σe) → VV_X5_nearest l G σ0 (.inl (some (pI r))) σe Se 15 [(3, pI x3), (2, pI x2), (1, pI x1), (0, pR a0)] [] σ Se) {σ : Hp} {x5 : Int32} {x3 : Int32} {x2 : Int32} {a0 : Nat} (h : f_X5_nearest_123 k4 k15 σ x5 x3 x2 a0 = some (r, σe)) : VV_X5_nearest l G σ0 (.inl (some (pI r))) σe Se 123 [(5, pI x5), (3, pI x3), (2, pI x2), (0, pR a0)] [] σ Se := by
  unfold f_X5_nearest_123 at h
  refine V_iload (i := 5) 0 dX5_nearest_123 rfl ?_
  refine V_goto 129 dX5_nearest_125 (by decide) ?_
  refine V_sub [1, 2, 3] rfl ?_
  exact v_X5_nearest_129 hst hk4 hk15 h
def f_X5_nearest_72 (k4 : Hp → Int32 → Int32 → Nat → Option (Int32 × Hp)) (k15 : Hp → Int32 → Int32 → Int32 → Nat → Option (Int32 × Hp)) (σ : Hp) (x4 : Int32) (x3 : Int32) (x2 : Int32) (x1 : Int32) (a0 : Nat) (s0 : Int32) (s1 : Int32) : Option (Int32 × Hp) :=
  bd (rdI σ 4 a0 41) fun y1 => bd (rdI σ 4 a0 41) fun y3 => if x4 = (0 : Int32) then (f_X5_nearest_128 k4 k15 σ x3 x2 x1 a0) else (if x1 = (-1 : Int32) then (f_X5_nearest_123 k4 k15 σ (s1 + s0) x3 x2 a0) else (if ((if 0 ≤ ((s1 + s0) - y1) then ((s1 + s0) - y1) else 0 - ((s1 + s0) - y1)) - (if 0 ≤ (x1 - y3) then (x1 - y3) else 0 - (x1 - y3))) < (0 : Int32) then (f_X5_nearest_123 k4 k15 σ (s1 + s0) x3 x2 a0) else (if ((if 0 ≤ ((s1 + s0) - y1) then ((s1 + s0) - y1) else 0 - ((s1 + s0) - y1)) - (if 0 ≤ (x1 - y3) then (x1 - y3) else 0 - (x1 - y3))) = (0 : Int32) then (if x1 ≤ (s1 + s0) then (f_X5_nearest_128 k4 k15 σ x3 x2 x1 a0) else (f_X5_nearest_123 k4 k15 σ (s1 + s0) x3 x2 a0)) else (f_X5_nearest_128 k4 k15 σ x3 x2 x1 a0))))
set_option maxHeartbeats 4000000 in
theorem v_X5_nearest_72 {l : Launch} {G : Gx} (hst : l.stackTraces = false) {σ0 σe : Hp} {Se : Ms} {r : Int32} {k4 : Hp → Int32 → Int32 → Nat → Option (Int32 × Hp)} {k15 : Hp → Int32 → Int32 → Int32 → Nat → Option (Int32 × Hp)} (hk4 : ∀ (σ : Hp) (x2 : Int32) (x1 : Int32) (a0 : Nat), k4 σ x2 x1 a0 = some (r, σe) → VV_X5_nearest l G σ0 (.inl (some (pI r))) σe Se 4 [(2, pI x2), (1, pI x1), (0, pR a0)] [] σ Se) (hk15 : ∀ (σ : Hp) (x3 : Int32) (x2 : Int32) (x1 : Int32) (a0 : Nat), k15 σ x3 x2 x1 a0 = some (r, σe) → VV_X5_nearest l G σ0 (.inl (some (pI r))) σe Se 15 [(3, pI x3), (2, pI x2), (1, pI x1), (0, pR a0)] [] σ Se) {σ : Hp} {x4 : Int32} {x3 : Int32} {x2 : Int32} {x1 : Int32} {a0 : Nat} {s0 : Int32} {s1 : Int32} (h : f_X5_nearest_72 k4 k15 σ x4 x3 x2 x1 a0 s0 s1 = some (r, σe)) : VV_X5_nearest l G σ0 (.inl (some (pI r))) σe Se 72 [(4, pI x4), (3, pI x3), (2, pI x2), (1, pI x1), (0, pR a0)] [pI s0, pI s1] σ Se := by
  unfold f_X5_nearest_72 at h
  refine V_iadd dX5_nearest_72 ?_
  refine V_istore (i := 5) (L' := [(5, pI (s1 + s0)), (4, pI x4), (3, pI x3), (2, pI x2), (1, pI x1), (0, pR a0)]) dX5_nearest_73 (by decide) rfl ?_
  refine V_iload (i := 5) 0 dX5_nearest_75 rfl ?_
  refine V_aload_n (i := 0) 5 dX5_nearest_77 rfl rfl ?_
  obtain ⟨y1, e2, h⟩ := bd_s h
  refine V_rdI gf_X5_15 rfl rfl rfl e2 dX5_nearest_78 ?_
  refine V_isub dX5_nearest_81 ?_
  refine V_mabs q1976 q854 q82 q855 (by decide) (Nat.le_of_ble_eq_true rfl) dX5_nearest_82 ?_
  refine V_iload_n (i := 1) 4 dX5_nearest_85 rfl rfl ?_
  refine V_aload_n (i := 0) 5 dX5_nearest_86 rfl rfl ?_
  obtain ⟨y3, e4, h⟩ := bd_s h
  refine V_rdI gf_X5_15 rfl rfl rfl e4 dX5_nearest_87 ?_
  refine V_isub dX5_nearest_90 ?_
  refine V_mabs q1976 q854 q82 q855 (by decide) (Nat.le_of_ble_eq_true rfl) dX5_nearest_91 ?_
  refine V_isub dX5_nearest_94 ?_
  refine V_istore (i := 6) (L' := [(6, pI ((if 0 ≤ ((s1 + s0) - y1) then ((s1 + s0) - y1) else 0 - ((s1 + s0) - y1)) - (if 0 ≤ (x1 - y3) then (x1 - y3) else 0 - (x1 - y3)))), (5, pI (s1 + s0)), (4, pI x4), (3, pI x3), (2, pI x2), (1, pI x1), (0, pR a0)]) dX5_nearest_95 (by decide) rfl ?_
  refine V_iload (i := 4) 2 dX5_nearest_97 rfl ?_
  refine V_if_eq 128 dX5_nearest_99 (by decide) (fun c5 => ?_) (fun c5 => ?_)
  · replace h := it_t c5 h
    refine V_sub [3, 4, 5, 6] rfl ?_
    exact v_X5_nearest_128 hst hk4 hk15 h
  · replace h := it_f c5 h
    refine V_iload_n (i := 1) 5 dX5_nearest_102 rfl rfl ?_
    refine V_iconst (v := (-1)) dX5_nearest_103 (by decide) ?_
    refine V_icmp_eq 123 dX5_nearest_104 (by decide) (fun c6 => ?_) (fun c6 => ?_)
    · replace h := it_t c6 h
      refine V_sub [1, 3, 4, 6] rfl ?_
      exact v_X5_nearest_123 hst hk4 hk15 h
    · replace h := it_f c6 h
      refine V_iload (i := 6) 0 dX5_nearest_107 rfl ?_
      refine V_if_lt 123 dX5_nearest_109 (by decide) (fun c7 => ?_) (fun c7 => ?_)
      · replace h := it_t c7 h
        refine V_sub [1, 3, 4, 6] rfl ?_
        exact v_X5_nearest_123 hst hk4 hk15 h
      · replace h := it_f c7 h
        refine V_iload (i := 6) 0 dX5_nearest_112 rfl ?_
        refine V_if_ne 128 dX5_nearest_114 (by decide) (fun c8 => ?_) (fun c8 => ?_)
        · replace h := it_f c8 h
          refine V_sub [3, 4, 5, 6] rfl ?_
          exact v_X5_nearest_128 hst hk4 hk15 h
        · replace h := it_t c8 h
          refine V_iload (i := 5) 1 dX5_nearest_117 rfl ?_
          refine V_iload_n (i := 1) 5 dX5_nearest_119 rfl rfl ?_
          refine V_icmp_ge 128 dX5_nearest_120 (by decide) (fun c9 => ?_) (fun c9 => ?_)
          · replace h := it_t c9 h
            refine V_sub [3, 4, 5, 6] rfl ?_
            exact v_X5_nearest_128 hst hk4 hk15 h
          · replace h := it_f c9 h
            refine V_sub [1, 3, 4, 6] rfl ?_
            exact v_X5_nearest_123 hst hk4 hk15 h
def f_X5_nearest_49 (k4 : Hp → Int32 → Int32 → Nat → Option (Int32 × Hp)) (k15 : Hp → Int32 → Int32 → Int32 → Nat → Option (Int32 × Hp)) (σ : Hp) (x3 : Int32) (x2 : Int32) (x1 : Int32) (a0 : Nat) (s0 : Int32) : Option (Int32 × Hp) :=
  bd (rdR σ 4 a0 40) fun b1 => bd (elI σ 101 b1 x2) fun y3 => if x2 ≤ x3 then (f_X5_nearest_72 k4 k15 σ s0 x3 x2 x1 a0 (0 : Int32) y3) else (bd (rdR σ 4 a0 40) fun b6 => bd (elI σ 101 b6 x3) fun y8 => f_X5_nearest_72 k4 k15 σ s0 x3 x2 x1 a0 y8 y3)
set_option maxHeartbeats 4000000 in
theorem v_X5_nearest_49 {l : Launch} {G : Gx} (hst : l.stackTraces = false) {σ0 σe : Hp} {Se : Ms} {r : Int32} {k4 : Hp → Int32 → Int32 → Nat → Option (Int32 × Hp)} {k15 : Hp → Int32 → Int32 → Int32 → Nat → Option (Int32 × Hp)} (hk4 : ∀ (σ : Hp) (x2 : Int32) (x1 : Int32) (a0 : Nat), k4 σ x2 x1 a0 = some (r, σe) → VV_X5_nearest l G σ0 (.inl (some (pI r))) σe Se 4 [(2, pI x2), (1, pI x1), (0, pR a0)] [] σ Se) (hk15 : ∀ (σ : Hp) (x3 : Int32) (x2 : Int32) (x1 : Int32) (a0 : Nat), k15 σ x3 x2 x1 a0 = some (r, σe) → VV_X5_nearest l G σ0 (.inl (some (pI r))) σe Se 15 [(3, pI x3), (2, pI x2), (1, pI x1), (0, pR a0)] [] σ Se) {σ : Hp} {x3 : Int32} {x2 : Int32} {x1 : Int32} {a0 : Nat} {s0 : Int32} (h : f_X5_nearest_49 k4 k15 σ x3 x2 x1 a0 s0 = some (r, σe)) : VV_X5_nearest l G σ0 (.inl (some (pI r))) σe Se 49 [(3, pI x3), (2, pI x2), (1, pI x1), (0, pR a0)] [pI s0] σ Se := by
  unfold f_X5_nearest_49 at h
  refine V_istore (i := 4) (L' := [(4, pI s0), (3, pI x3), (2, pI x2), (1, pI x1), (0, pR a0)]) dX5_nearest_49 (by decide) rfl ?_
  refine V_aload_n (i := 0) 4 dX5_nearest_51 rfl rfl ?_
  obtain ⟨b1, e2, h⟩ := bd_s h
  refine V_rdR gf_X5_35 rfl rfl rfl e2 dX5_nearest_52 ?_
  refine V_iload_n (i := 2) 2 dX5_nearest_55 rfl rfl ?_
  obtain ⟨y3, e4, h⟩ := bd_s h
  refine V_elI1 e4 dX5_nearest_56 ?_
  refine V_iload_n (i := 3) 1 dX5_nearest_57 rfl rfl ?_
  refine V_iload_n (i := 2) 2 dX5_nearest_58 rfl rfl ?_
  refine V_icmp_ge 71 dX5_nearest_59 (by decide) (fun c5 => ?_) (fun c5 => ?_)
  · replace h := it_t c5 h
    refine V_iconst (v := 0) dX5_nearest_71 (by decide) ?_
    refine V_sub [0, 1, 2, 3, 4] rfl ?_
    exact v_X5_nearest_72 hst hk4 hk15 h
  · replace h := it_f c5 h
    refine V_aload_n (i := 0) 4 dX5_nearest_62 rfl rfl ?_
    obtain ⟨b6, e7, h⟩ := bd_s h
    refine V_rdR gf_X5_35 rfl rfl rfl e7 dX5_nearest_63 ?_
    refine V_iload_n (i := 3) 1 dX5_nearest_66 rfl rfl ?_
    obtain ⟨y8, e9, h⟩ := bd_s h
    refine V_elI1 e9 dX5_nearest_67 ?_
    refine V_goto 72 dX5_nearest_68 (by decide) ?_
    refine V_sub [0, 1, 2, 3, 4] rfl ?_
    exact v_X5_nearest_72 hst hk4 hk15 h
def f_X5_nearest_48 (k4 : Hp → Int32 → Int32 → Nat → Option (Int32 × Hp)) (k15 : Hp → Int32 → Int32 → Int32 → Nat → Option (Int32 × Hp)) (σ : Hp) (x3 : Int32) (x2 : Int32) (x1 : Int32) (a0 : Nat) : Option (Int32 × Hp) :=
  f_X5_nearest_49 k4 k15 σ x3 x2 x1 a0 (0 : Int32)
set_option maxHeartbeats 4000000 in
theorem v_X5_nearest_48 {l : Launch} {G : Gx} (hst : l.stackTraces = false) {σ0 σe : Hp} {Se : Ms} {r : Int32} {k4 : Hp → Int32 → Int32 → Nat → Option (Int32 × Hp)} {k15 : Hp → Int32 → Int32 → Int32 → Nat → Option (Int32 × Hp)} (hk4 : ∀ (σ : Hp) (x2 : Int32) (x1 : Int32) (a0 : Nat), k4 σ x2 x1 a0 = some (r, σe) → VV_X5_nearest l G σ0 (.inl (some (pI r))) σe Se 4 [(2, pI x2), (1, pI x1), (0, pR a0)] [] σ Se) (hk15 : ∀ (σ : Hp) (x3 : Int32) (x2 : Int32) (x1 : Int32) (a0 : Nat), k15 σ x3 x2 x1 a0 = some (r, σe) → VV_X5_nearest l G σ0 (.inl (some (pI r))) σe Se 15 [(3, pI x3), (2, pI x2), (1, pI x1), (0, pR a0)] [] σ Se) {σ : Hp} {x3 : Int32} {x2 : Int32} {x1 : Int32} {a0 : Nat} (h : f_X5_nearest_48 k4 k15 σ x3 x2 x1 a0 = some (r, σe)) : VV_X5_nearest l G σ0 (.inl (some (pI r))) σe Se 48 [(3, pI x3), (2, pI x2), (1, pI x1), (0, pR a0)] [] σ Se := by
  unfold f_X5_nearest_48 at h
  refine V_iconst (v := 0) dX5_nearest_48 (by decide) ?_
  refine V_sub [0, 1, 2, 3] rfl ?_
  exact v_X5_nearest_49 hst hk4 hk15 h
def f_X5_nearest_15_b (k4 : Hp → Int32 → Int32 → Nat → Option (Int32 × Hp)) (k15 : Hp → Int32 → Int32 → Int32 → Nat → Option (Int32 × Hp)) (σ : Hp) (x3 : Int32) (x2 : Int32) (x1 : Int32) (a0 : Nat) : Option (Int32 × Hp) :=
  if x2 < x3 then (k4 σ (x2 + (1 : Int32)) x1 a0) else (bd (rdI σ 4 a0 42) fun y2 => if ((y2 >>> (x2 &&& 31)) &&& (1 : Int32)) = (1 : Int32) then (bd (rdI σ 4 a0 42) fun y5 => if ((y5 >>> (x3 &&& 31)) &&& (1 : Int32)) = (1 : Int32) then (f_X5_nearest_49 k4 k15 σ x3 x2 x1 a0 (1 : Int32)) else (f_X5_nearest_48 k4 k15 σ x3 x2 x1 a0)) else (f_X5_nearest_48 k4 k15 σ x3 x2 x1 a0))
set_option maxHeartbeats 4000000 in
theorem v_X5_nearest_15_b {l : Launch} {G : Gx} (hst : l.stackTraces = false) {σ0 σe : Hp} {Se : Ms} {r : Int32} {k4 : Hp → Int32 → Int32 → Nat → Option (Int32 × Hp)} {k15 : Hp → Int32 → Int32 → Int32 → Nat → Option (Int32 × Hp)} (hk4 : ∀ (σ : Hp) (x2 : Int32) (x1 : Int32) (a0 : Nat), k4 σ x2 x1 a0 = some (r, σe) → VV_X5_nearest l G σ0 (.inl (some (pI r))) σe Se 4 [(2, pI x2), (1, pI x1), (0, pR a0)] [] σ Se) (hk15 : ∀ (σ : Hp) (x3 : Int32) (x2 : Int32) (x1 : Int32) (a0 : Nat), k15 σ x3 x2 x1 a0 = some (r, σe) → VV_X5_nearest l G σ0 (.inl (some (pI r))) σe Se 15 [(3, pI x3), (2, pI x2), (1, pI x1), (0, pR a0)] [] σ Se) {σ : Hp} {x3 : Int32} {x2 : Int32} {x1 : Int32} {a0 : Nat} (h : f_X5_nearest_15_b k4 k15 σ x3 x2 x1 a0 = some (r, σe)) : VV_X5_nearest l G σ0 (.inl (some (pI r))) σe Se 15 [(3, pI x3), (2, pI x2), (1, pI x1), (0, pR a0)] [] σ Se := by
  unfold f_X5_nearest_15_b at h
  refine V_iload_n (i := 3) 0 dX5_nearest_15 rfl rfl ?_
  refine V_iload_n (i := 2) 1 dX5_nearest_16 rfl rfl ?_
  refine V_icmp_gt 136 dX5_nearest_17 (by decide) (fun c1 => ?_) (fun c1 => ?_)
  · replace h := it_t c1 h
    refine V_iinc (v := (x2 + (1 : Int32))) (L' := [(2, pI (x2 + (1 : Int32))), (3, pI x3), (1, pI x1), (0, pR a0)]) 1 dX5_nearest_136 rfl rfl (by decide) rfl ?_
    refine V_goto 4 dX5_nearest_139 (by decide) ?_
    refine V_sub [0, 2, 3] rfl ?_
    exact hk4 _ _ _ _ h
  · replace h := it_f c1 h
    refine V_aload_n (i := 0) 3 dX5_nearest_20 rfl rfl ?_
    obtain ⟨y2, e3, h⟩ := bd_s h
    refine V_rdI gf_X5_24 rfl rfl rfl e3 dX5_nearest_21 ?_
    refine V_iload_n (i := 2) 1 dX5_nearest_24 rfl rfl ?_
    refine V_ishr dX5_nearest_25 ?_
    refine V_iconst (v := 1) dX5_nearest_26 (by decide) ?_
    refine V_iand dX5_nearest_27 ?_
    refine V_iconst (v := 1) dX5_nearest_28 (by decide) ?_
    refine V_icmp_ne 48 dX5_nearest_29 (by decide) (fun c4 => ?_) (fun c4 => ?_)
    · replace h := it_f c4 h
      refine V_sub [0, 1, 2, 3] rfl ?_
      exact v_X5_nearest_48 hst hk4 hk15 h
    · replace h := it_t c4 h
      refine V_aload_n (i := 0) 3 dX5_nearest_32 rfl rfl ?_
      obtain ⟨y5, e6, h⟩ := bd_s h
      refine V_rdI gf_X5_24 rfl rfl rfl e6 dX5_nearest_33 ?_
      refine V_iload_n (i := 3) 0 dX5_nearest_36 rfl rfl ?_
      refine V_ishr dX5_nearest_37 ?_
      refine V_iconst (v := 1) dX5_nearest_38 (by decide) ?_
      refine V_iand dX5_nearest_39 ?_
      refine V_iconst (v := 1) dX5_nearest_40 (by decide) ?_
      refine V_icmp_ne 48 dX5_nearest_41 (by decide) (fun c7 => ?_) (fun c7 => ?_)
      · replace h := it_f c7 h
        refine V_sub [0, 1, 2, 3] rfl ?_
        exact v_X5_nearest_48 hst hk4 hk15 h
      · replace h := it_t c7 h
        refine V_iconst (v := 1) dX5_nearest_44 (by decide) ?_
        refine V_goto 49 dX5_nearest_45 (by decide) ?_
        refine V_sub [0, 1, 2, 3] rfl ?_
        exact v_X5_nearest_49 hst hk4 hk15 h
def f_X5_nearest_15 (k4 : Hp → Int32 → Int32 → Nat → Option (Int32 × Hp)) : Nat → Hp → Int32 → Int32 → Int32 → Nat → Option (Int32 × Hp)
  | 0, _, _, _, _, _ => none
  | n + 1, σ, x3, x2, x1, a0 => f_X5_nearest_15_b k4 (f_X5_nearest_15 k4 n) σ x3 x2 x1 a0
theorem v_X5_nearest_15 {l : Launch} {G : Gx} (hst : l.stackTraces = false) {σ0 σe : Hp} {Se : Ms} {r : Int32} {k4 : Hp → Int32 → Int32 → Nat → Option (Int32 × Hp)} (hk4 : ∀ (σ : Hp) (x2 : Int32) (x1 : Int32) (a0 : Nat), k4 σ x2 x1 a0 = some (r, σe) → VV_X5_nearest l G σ0 (.inl (some (pI r))) σe Se 4 [(2, pI x2), (1, pI x1), (0, pR a0)] [] σ Se) : ∀ (n : Nat) (σ : Hp) (x3 : Int32) (x2 : Int32) (x1 : Int32) (a0 : Nat), f_X5_nearest_15 k4 n σ x3 x2 x1 a0 = some (r, σe) → VV_X5_nearest l G σ0 (.inl (some (pI r))) σe Se 15 [(3, pI x3), (2, pI x2), (1, pI x1), (0, pR a0)] [] σ Se
  | 0, _, _, _, _, _, h => by cases h
  | n + 1, _, _, _, _, _, h => v_X5_nearest_15_b hst hk4 (v_X5_nearest_15 hst hk4 n) h
def f_X5_nearest_4_b (k4 : Hp → Int32 → Int32 → Nat → Option (Int32 × Hp)) (σ : Hp) (x2 : Int32) (x1 : Int32) (a0 : Nat) : Option (Int32 × Hp) :=
  bd (rdR σ 4 a0 40) fun b1 => bd (elN σ b1) fun y3 => if y3 ≤ x2 then (some (x1, σ)) else (f_X5_nearest_15 k4 FU σ (0 : Int32) x2 x1 a0)
set_option maxHeartbeats 4000000 in
theorem v_X5_nearest_4_b {l : Launch} {G : Gx} (hst : l.stackTraces = false) {σ0 σe : Hp} {Se : Ms} {r : Int32} {k4 : Hp → Int32 → Int32 → Nat → Option (Int32 × Hp)} (hk4 : ∀ (σ : Hp) (x2 : Int32) (x1 : Int32) (a0 : Nat), k4 σ x2 x1 a0 = some (r, σe) → VV_X5_nearest l G σ0 (.inl (some (pI r))) σe Se 4 [(2, pI x2), (1, pI x1), (0, pR a0)] [] σ Se) {σ : Hp} {x2 : Int32} {x1 : Int32} {a0 : Nat} (h : f_X5_nearest_4_b k4 σ x2 x1 a0 = some (r, σe)) : VV_X5_nearest l G σ0 (.inl (some (pI r))) σe Se 4 [(2, pI x2), (1, pI x1), (0, pR a0)] [] σ Se := by
  unfold f_X5_nearest_4_b at h
  refine V_iload_n (i := 2) 0 dX5_nearest_4 rfl rfl ?_
  refine V_aload_n (i := 0) 2 dX5_nearest_5 rfl rfl ?_
  obtain ⟨b1, e2, h⟩ := bd_s h
  refine V_rdR gf_X5_35 rfl rfl rfl e2 dX5_nearest_6 ?_
  obtain ⟨y3, e4, h⟩ := bd_s h
  refine V_elN e4 dX5_nearest_9 ?_
  refine V_icmp_ge 142 dX5_nearest_10 (by decide) (fun c5 => ?_) (fun c5 => ?_)
  · replace h := it_t c5 h
    refine V_iload_n (i := 1) 1 dX5_nearest_142 rfl rfl ?_
    cases h
    exact V_iret rfl dX5_nearest_143
  · replace h := it_f c5 h
    refine V_iconst (v := 0) dX5_nearest_13 (by decide) ?_
    refine V_istore_n (i := 3) (L' := [(3, pI (0 : Int32)), (2, pI x2), (1, pI x1), (0, pR a0)]) dX5_nearest_14 rfl (by decide) rfl ?_
    refine V_sub [0, 1, 2, 3] rfl ?_
    exact v_X5_nearest_15 hst hk4 FU _ _ _ _ _ h
def f_X5_nearest_4 : Nat → Hp → Int32 → Int32 → Nat → Option (Int32 × Hp)
  | 0, _, _, _, _ => none
  | n + 1, σ, x2, x1, a0 => f_X5_nearest_4_b (f_X5_nearest_4 n) σ x2 x1 a0
theorem v_X5_nearest_4 {l : Launch} {G : Gx} (hst : l.stackTraces = false) {σ0 σe : Hp} {Se : Ms} {r : Int32} : ∀ (n : Nat) (σ : Hp) (x2 : Int32) (x1 : Int32) (a0 : Nat), f_X5_nearest_4 n σ x2 x1 a0 = some (r, σe) → VV_X5_nearest l G σ0 (.inl (some (pI r))) σe Se 4 [(2, pI x2), (1, pI x1), (0, pR a0)] [] σ Se
  | 0, _, _, _, _, h => by cases h
  | n + 1, _, _, _, _, h => v_X5_nearest_4_b hst (v_X5_nearest_4 hst n) h
def f_X5_nearest (σ : Hp) (a0 : Nat) : Option (Int32 × Hp) :=
  f_X5_nearest_4 FU σ (0 : Int32) (-1 : Int32) a0
set_option maxHeartbeats 4000000 in
theorem v_X5_nearest (l : Launch) (G : Gx) (hst : l.stackTraces = false) (S : Ms) {σ σe : Hp} {a0 : Nat} {r : Int32} (h : f_X5_nearest σ a0 = some (r, σe)) : MT l G yX5_nearest (ws_ yX5_nearest cX5_nearest 7 (some .int)) 1 30 [pR a0] σ S (.inl (some (pI r))) σe S := by
  refine MT_of (own := RX5) (nL := 7) (ini := false) (by decide +kernel) rfl (Nat.le_of_ble_eq_true rfl) (fun h => by cases h) hst ?_
  show VV_X5_nearest l G σ (.inl (some (pI r))) σe S 0 [(0, pR a0)] [] σ S
  unfold f_X5_nearest at h
  refine V_iconst (v := (-1)) dX5_nearest_0 (by decide) ?_
  refine V_istore_n (i := 1) (L' := [(1, pI (-1 : Int32)), (0, pR a0)]) dX5_nearest_1 rfl (by decide) rfl ?_
  refine V_iconst (v := 0) dX5_nearest_2 (by decide) ?_
  refine V_istore_n (i := 2) (L' := [(2, pI (0 : Int32)), (1, pI (-1 : Int32)), (0, pR a0)]) dX5_nearest_3 rfl (by decide) rfl ?_
  refine V_sub [0, 1, 2] rfl ?_
  exact v_X5_nearest_4 hst FU _ _ _ _ h

abbrev VV_J0_init (l : Launch) (G : Gx) (σ0 : Hp) (o : Oc) (σe : Hp) (Se : Ms) := V l G RJ0 cJ0_init 1 none [] true 1 30 σ0 o σe Se
def f_J0_init (σ : Hp) (a0 : Nat) : Option (Unit × Hp) :=
  bd (gz σ a0) fun e1 => some ((), σ)
set_option maxHeartbeats 4000000 in
theorem v_J0_init (l : Launch) (G : Gx) (hst : l.stackTraces = false) (S : Ms) {σ σe : Hp} {a0 : Nat} {r : Unit} (h : f_J0_init σ a0 = some (r, σe)) : MT l G yJ0_init (ws_ yJ0_init cJ0_init 1 none) 1 30 [pR a0] σ S (.inl none) σe S := by
  refine MT_of (own := RJ0) (nL := 1) (ini := true) (by decide +kernel) rfl (Nat.le_of_ble_eq_true rfl) (fun h => rfl) hst ?_
  show VV_J0_init l G σ (.inl none) σe S 0 [(0, pR a0)] [] σ S
  unfold f_J0_init at h
  refine V_aload_n (i := 0) 0 dJ0_init_0 rfl rfl ?_
  obtain ⟨e1, e2, h⟩ := bd_s h
  refine V_objInit (gz_n e2) q150 q131 q132 (by decide) (Nat.le_of_ble_eq_true rfl) dJ0_init_1 ?_
  cases h
  exact V_vret rfl dJ0_init_4

abbrev VV_J31_init (l : Launch) (G : Gx) (σ0 : Hp) (o : Oc) (σe : Hp) (Se : Ms) := V l G RJ31 cJ31_init 1 none [] true 2 50 σ0 o σe Se
def f_J31_init (σ : Hp) (a0 : Nat) : Option (Unit × Hp) :=
  bd (gz σ a0) fun e1 => bp (f_J0_init σ a0) fun e3 σ4 => some ((), σ4)
set_option maxHeartbeats 4000000 in
theorem v_J31_init (l : Launch) (G : Gx) (hst : l.stackTraces = false) (S : Ms) {σ σe : Hp} {a0 : Nat} {r : Unit} (h : f_J31_init σ a0 = some (r, σe)) : MT l G yJ31_init (ws_ yJ31_init cJ31_init 1 none) 2 50 [pR a0] σ S (.inl none) σe S := by
  refine MT_of (own := RJ31) (nL := 1) (ini := true) (by decide +kernel) rfl (Nat.le_of_ble_eq_true rfl) (fun h => rfl) hst ?_
  show VV_J31_init l G σ (.inl none) σe S 0 [(0, pR a0)] [] σ S
  unfold f_J31_init at h
  refine V_aload_n (i := 0) 0 dJ31_init_0 rfl rfl ?_
  obtain ⟨e1, e2, h⟩ := bd_s h
  obtain ⟨e3, σ4, e5, h⟩ := bp_s h
  refine V_callI_0 (n9 := 0) [] (v_J0_init l G hst _ e5) rfl rfl q149 q78 q1858 q148 rfl (by decide +kernel) (by decide) (Nat.le_of_ble_eq_true rfl) (gz_n e2) dJ31_init_1 ?_
  cases h
  exact V_vret rfl dJ31_init_4

abbrev VV_J32_init (l : Launch) (G : Gx) (σ0 : Hp) (o : Oc) (σe : Hp) (Se : Ms) := V l G RJ32 cJ32_init 2 none [] true 3 70 σ0 o σe Se
def f_J32_init (σ : Hp) (a0 : Nat) (a1 : Nat) : Option (Unit × Hp) :=
  bd (gz σ a0) fun e1 => bp (f_J31_init σ a0) fun e3 σ4 => bd (wrR σ4 17 a0 170 a1) fun σ6 => some ((), σ6)
set_option maxHeartbeats 4000000 in
theorem v_J32_init (l : Launch) (G : Gx) (hst : l.stackTraces = false) (S : Ms) {σ σe : Hp} {a0 : Nat} {a1 : Nat} {r : Unit} (h : f_J32_init σ a0 a1 = some (r, σe)) : MT l G yJ32_init (ws_ yJ32_init cJ32_init 2 none) 3 70 [pR a0, pR a1] σ S (.inl none) σe S := by
  refine MT_of (own := RJ32) (nL := 2) (ini := true) (by decide +kernel) rfl (Nat.le_of_ble_eq_true rfl) (fun h => rfl) hst ?_
  show VV_J32_init l G σ (.inl none) σe S 0 [(0, pR a0), (1, pR a1)] [] σ S
  unfold f_J32_init at h
  refine V_aload_n (i := 0) 0 dJ32_init_0 rfl rfl ?_
  obtain ⟨e1, e2, h⟩ := bd_s h
  obtain ⟨e3, σ4, e5, h⟩ := bp_s h
  refine V_callI_0 (n9 := 0) [] (v_J31_init l G hst _ e5) rfl rfl q1857 q120 q1855 q1856 rfl (by decide +kernel) (by decide) (Nat.le_of_ble_eq_true rfl) (gz_n e2) dJ32_init_1 ?_
  refine V_aload_n (i := 0) 0 dJ32_init_4 rfl rfl ?_
  refine V_aload_n (i := 1) 1 dJ32_init_5 rfl rfl ?_
  obtain ⟨σ6, e7, h⟩ := bd_s h
  refine V_wrRF gw_J32_7 rfl (okF_obj _ rfl) rfl rfl e7 dJ32_init_6 ?_
  cases h
  exact V_vret rfl dJ32_init_9

abbrev VV_J29_getFirstEntry (l : Launch) (G : Gx) (σ0 : Hp) (o : Oc) (σe : Hp) (Se : Ms) := V l G RJ29 cJ29_getFirstEntry 2 (some (.object "java/util/TreeMap$Entry")) [] false 1 30 σ0 o σe Se
def f_J29_getFirstEntry_24 (σ : Hp) (a1 : Nat) : Option (Nat × Hp) :=
  some (a1, σ)
set_option maxHeartbeats 4000000 in
theorem v_J29_getFirstEntry_24 {l : Launch} {G : Gx} (hst : l.stackTraces = false) {σ0 σe : Hp} {Se : Ms} {r : Nat} {σ : Hp} {a1 : Nat} (h : f_J29_getFirstEntry_24 σ a1 = some (r, σe)) : VV_J29_getFirstEntry l G σ0 (.inl (some (pR r))) σe Se 24 [(1, pR a1)] [] σ Se := by
  unfold f_J29_getFirstEntry_24 at h
  refine V_aload_n (i := 1) 0 dJ29_getFirstEntry_24 rfl rfl ?_
  cases h
  exact V_aret rfl (Or.inl ⟨_, rfl⟩) dJ29_getFirstEntry_25
def f_J29_getFirstEntry_9_b (k9 : Hp → Nat → Option (Nat × Hp)) (σ : Hp) (a1 : Nat) : Option (Nat × Hp) :=
  bd (rdR σ 16 a1 162) fun b1 => if b1 = 0 then (f_J29_getFirstEntry_24 σ a1) else (bd (rdR σ 16 a1 162) fun b4 => k9 σ b4)
set_option maxHeartbeats 4000000 in
theorem v_J29_getFirstEntry_9_b {l : Launch} {G : Gx} (hst : l.stackTraces = false) {σ0 σe : Hp} {Se : Ms} {r : Nat} {k9 : Hp → Nat → Option (Nat × Hp)} (hk9 : ∀ (σ : Hp) (a1 : Nat), k9 σ a1 = some (r, σe) → VV_J29_getFirstEntry l G σ0 (.inl (some (pR r))) σe Se 9 [(1, pR a1)] [] σ Se) {σ : Hp} {a1 : Nat} (h : f_J29_getFirstEntry_9_b k9 σ a1 = some (r, σe)) : VV_J29_getFirstEntry l G σ0 (.inl (some (pR r))) σe Se 9 [(1, pR a1)] [] σ Se := by
  unfold f_J29_getFirstEntry_9_b at h
  refine V_aload_n (i := 1) 0 dJ29_getFirstEntry_9 rfl rfl ?_
  obtain ⟨b1, e2, h⟩ := bd_s h
  refine V_rdR gf_J29_111 rfl rfl rfl e2 dJ29_getFirstEntry_10 ?_
  refine V_ifnull 24 dJ29_getFirstEntry_13 (by decide) (fun c3 => ?_) (fun c3 => ?_)
  · replace h := it_t c3 h
    refine V_sub [0] rfl ?_
    exact v_J29_getFirstEntry_24 hst h
  · replace h := it_f c3 h
    refine V_aload_n (i := 1) 0 dJ29_getFirstEntry_16 rfl rfl ?_
    obtain ⟨b4, e5, h⟩ := bd_s h
    refine V_rdR gf_J29_111 rfl rfl rfl e5 dJ29_getFirstEntry_17 ?_
    refine V_astore_n (i := 1) (L' := [(1, pR b4)]) dJ29_getFirstEntry_20 rfl (by decide) rfl ?_
    refine V_goto 9 dJ29_getFirstEntry_21 (by decide) ?_
    refine V_sub [0] rfl ?_
    exact hk9 _ _ h
def f_J29_getFirstEntry_9 : Nat → Hp → Nat → Option (Nat × Hp)
  | 0, _, _ => none
  | n + 1, σ, a1 => f_J29_getFirstEntry_9_b (f_J29_getFirstEntry_9 n) σ a1
theorem v_J29_getFirstEntry_9 {l : Launch} {G : Gx} (hst : l.stackTraces = false) {σ0 σe : Hp} {Se : Ms} {r : Nat} : ∀ (n : Nat) (σ : Hp) (a1 : Nat), f_J29_getFirstEntry_9 n σ a1 = some (r, σe) → VV_J29_getFirstEntry l G σ0 (.inl (some (pR r))) σe Se 9 [(1, pR a1)] [] σ Se
  | 0, _, _, h => by cases h
  | n + 1, _, _, h => v_J29_getFirstEntry_9_b hst (v_J29_getFirstEntry_9 hst n) h
def f_J29_getFirstEntry (σ : Hp) (a0 : Nat) : Option (Nat × Hp) :=
  bd (rdR σ 15 a0 153) fun b1 => if b1 = 0 then (f_J29_getFirstEntry_24 σ b1) else (f_J29_getFirstEntry_9 FU σ b1)
set_option maxHeartbeats 4000000 in
theorem v_J29_getFirstEntry (l : Launch) (G : Gx) (hst : l.stackTraces = false) (S : Ms) {σ σe : Hp} {a0 : Nat} {r : Nat} (h : f_J29_getFirstEntry σ a0 = some (r, σe)) : MT l G yJ29_getFirstEntry (ws_ yJ29_getFirstEntry cJ29_getFirstEntry 2 (some (.object "java/util/TreeMap$Entry"))) 1 30 [pR a0] σ S (.inl (some (pR r))) σe S := by
  refine MT_of (own := RJ29) (nL := 2) (ini := false) (by decide +kernel) rfl (Nat.le_of_ble_eq_true rfl) (fun h => by cases h) hst ?_
  show VV_J29_getFirstEntry l G σ (.inl (some (pR r))) σe S 0 [(0, pR a0)] [] σ S
  unfold f_J29_getFirstEntry at h
  refine V_aload_n (i := 0) 0 dJ29_getFirstEntry_0 rfl rfl ?_
  obtain ⟨b1, e2, h⟩ := bd_s h
  refine V_rdR gf_J29_101 rfl rfl rfl e2 dJ29_getFirstEntry_1 ?_
  refine V_astore_n (i := 1) (L' := [(1, pR b1), (0, pR a0)]) dJ29_getFirstEntry_4 rfl (by decide) rfl ?_
  refine V_aload_n (i := 1) 0 dJ29_getFirstEntry_5 rfl rfl ?_
  refine V_ifnull 24 dJ29_getFirstEntry_6 (by decide) (fun c3 => ?_) (fun c3 => ?_)
  · replace h := it_t c3 h
    refine V_sub [0] rfl ?_
    exact v_J29_getFirstEntry_24 hst h
  · replace h := it_f c3 h
    refine V_sub [0] rfl ?_
    exact v_J29_getFirstEntry_9 hst FU _ _ h

abbrev VV_J33_init (l : Launch) (G : Gx) (σ0 : Hp) (o : Oc) (σe : Hp) (Se : Ms) := V l G RJ33 cJ33_init 3 none [] true 1 30 σ0 o σe Se
def f_J33_init (σ : Hp) (a0 : Nat) (a1 : Nat) (a2 : Nat) : Option (Unit × Hp) :=
  bd (wrR σ 18 a0 183 a1) fun σ1 => bd (gz σ1 a0) fun e3 => bd (rdI σ1 15 a1 155) fun y5 => bd (wrI σ1 18 a0 182 y5) fun σ7 => bd (wrR σ7 18 a0 181 0) fun σ9 => bd (wrR σ9 18 a0 180 a2) fun σ11 => some ((), σ11)
set_option maxHeartbeats 4000000 in
theorem v_J33_init (l : Launch) (G : Gx) (hst : l.stackTraces = false) (S : Ms) {σ σe : Hp} {a0 : Nat} {a1 : Nat} {a2 : Nat} {r : Unit} (h : f_J33_init σ a0 a1 a2 = some (r, σe)) : MT l G yJ33_init (ws_ yJ33_init cJ33_init 3 none) 1 30 [pR a0, pR a1, pR a2] σ S (.inl none) σe S := by
  refine MT_of (own := RJ33) (nL := 3) (ini := true) (by decide +kernel) rfl (Nat.le_of_ble_eq_true rfl) (fun h => rfl) hst ?_
  show VV_J33_init l G σ (.inl none) σe S 0 [(0, pR a0), (1, pR a1), (2, pR a2)] [] σ S
  unfold f_J33_init at h
  refine V_aload_n (i := 0) 0 dJ33_init_0 rfl rfl ?_
  refine V_aload_n (i := 1) 1 dJ33_init_1 rfl rfl ?_
  obtain ⟨σ1, e2, h⟩ := bd_s h
  refine V_wrRF gw_J33_1 rfl (okF_obj _ rfl) rfl rfl e2 dJ33_init_2 ?_
  refine V_aload_n (i := 0) 0 dJ33_init_5 rfl rfl ?_
  obtain ⟨e3, e4, h⟩ := bd_s h
  refine V_objInit (gz_n e4) q1890 q131 q132 (by decide) (Nat.le_of_ble_eq_true rfl) dJ33_init_6 ?_
  refine V_aload_n (i := 0) 0 dJ33_init_9 rfl rfl ?_
  refine V_aload_n (i := 1) 1 dJ33_init_10 rfl rfl ?_
  obtain ⟨y5, e6, h⟩ := bd_s h
  refine V_rdIN gf_J33_13 rfl rfl rfl e6 dJ33_init_11 ?_
  obtain ⟨σ7, e8, h⟩ := bd_s h
  refine V_wrI gw_J33_19 rfl rfl rfl e8 dJ33_init_14 ?_
  refine V_aload_n (i := 0) 0 dJ33_init_17 rfl rfl ?_
  refine V_null dJ33_init_18 ?_
  obtain ⟨σ9, e10, h⟩ := bd_s h
  refine V_wrR gw_J33_22 (okF_obj _ rfl) rfl rfl e10 dJ33_init_19 ?_
  refine V_aload_n (i := 0) 0 dJ33_init_22 rfl rfl ?_
  refine V_aload_n (i := 2) 2 dJ33_init_23 rfl rfl ?_
  obtain ⟨σ11, e12, h⟩ := bd_s h
  refine V_wrR gw_J33_26 (okF_obj _ rfl) rfl rfl e12 dJ33_init_24 ?_
  cases h
  exact V_vret rfl dJ33_init_27

abbrev VV_J34_init (l : Launch) (G : Gx) (σ0 : Hp) (o : Oc) (σe : Hp) (Se : Ms) := V l G RJ34 cJ34_init 3 none [] true 2 52 σ0 o σe Se
def f_J34_init (σ : Hp) (a0 : Nat) (a1 : Nat) (a2 : Nat) : Option (Unit × Hp) :=
  bd (gz σ a0) fun e1 => bp (f_J33_init σ a0 a1 a2) fun e3 σ4 => some ((), σ4)
set_option maxHeartbeats 4000000 in
theorem v_J34_init (l : Launch) (G : Gx) (hst : l.stackTraces = false) (S : Ms) {σ σe : Hp} {a0 : Nat} {a1 : Nat} {a2 : Nat} {r : Unit} (h : f_J34_init σ a0 a1 a2 = some (r, σe)) : MT l G yJ34_init (ws_ yJ34_init cJ34_init 3 none) 2 52 [pR a0, pR a1, pR a2] σ S (.inl none) σe S := by
  refine MT_of (own := RJ34) (nL := 3) (ini := true) (by decide +kernel) rfl (Nat.le_of_ble_eq_true rfl) (fun h => rfl) hst ?_
  show VV_J34_init l G σ (.inl none) σe S 0 [(0, pR a0), (1, pR a1), (2, pR a2)] [] σ S
  unfold f_J34_init at h
  refine V_aload_n (i := 0) 0 dJ34_init_0 rfl rfl ?_
  refine V_aload_n (i := 1) 1 dJ34_init_1 rfl rfl ?_
  refine V_aload_n (i := 2) 2 dJ34_init_2 rfl rfl ?_
  obtain ⟨e1, e2, h⟩ := bd_s h
  obtain ⟨e3, σ4, e5, h⟩ := bp_s h
  refine V_callI_0 (n9 := 2) [] (v_J33_init l G hst _ e5) rfl rfl q1889 q122 q1887 q1888 rfl (by decide +kernel) (by decide) (Nat.le_of_ble_eq_true rfl) (gz_n e2) dJ34_init_3 ?_
  cases h
  exact V_vret rfl dJ34_init_6

abbrev VV_J29_keyIterator (l : Launch) (G : Gx) (σ0 : Hp) (o : Oc) (σe : Hp) (Se : Ms) := V l G RJ29 cJ29_keyIterator 1 (some (.object "java/util/Iterator")) [] false 3 74 σ0 o σe Se
def f_J29_keyIterator (σ : Hp) (a0 : Nat) : Option (Nat × Hp) :=
  bd (gk (nC σ 18 4) 15 a0) fun e1 => bp (f_J29_getFirstEntry (nC σ 18 4) a0) fun b3 σ4 => bd (gz σ4 (hN σ)) fun e6 => bp (f_J34_init σ4 (hN σ) a0 b3) fun e8 σ9 => some ((hN σ), σ9)
set_option maxHeartbeats 4000000 in
theorem v_J29_keyIterator (l : Launch) (G : Gx) (hst : l.stackTraces = false) (S : Ms) {σ σe : Hp} {a0 : Nat} {r : Nat} (h : f_J29_keyIterator σ a0 = some (r, σe)) : MT l G yJ29_keyIterator (ws_ yJ29_keyIterator cJ29_keyIterator 1 (some (.object "java/util/Iterator"))) 3 74 [pR a0] σ S (.inl (some (pR r))) σe S := by
  refine MT_of (own := RJ29) (nL := 1) (ini := false) (by decide +kernel) rfl (Nat.le_of_ble_eq_true rfl) (fun h => by cases h) hst ?_
  show VV_J29_keyIterator l G σ (.inl (some (pR r))) σe S 0 [(0, pR a0)] [] σ S
  unfold f_J29_keyIterator at h
  refine V_new (n := 4) ci_17 (by decide +kernel) q1878 q1879 q123 dJ29_keyIterator_0 ?_
  refine V_dup dJ29_keyIterator_3 rfl ?_
  refine V_aload_n (i := 0) 0 dJ29_keyIterator_4 rfl rfl ?_
  refine V_aload_n (i := 0) 0 dJ29_keyIterator_5 rfl rfl ?_
  obtain ⟨e1, e2, h⟩ := bd_s h
  obtain ⟨b3, σ4, e5, h⟩ := bp_s h
  refine V_callV_v (n9 := 0) (c := 14) (r := (RJ29, TJ29, 9)) [pR a0, pR (hN σ), pR (hN σ)] (v_J29_getFirstEntry l G hst _ e5) rfl rfl (lw_V q1880 q1881 q1882 q117 q1883) (by decide +kernel) (by decide) (Nat.le_of_ble_eq_true rfl) (gk_k e2 rfl) rfl dJ29_keyIterator_6 ?_
  obtain ⟨e6, e7, h⟩ := bd_s h
  obtain ⟨e8, σ9, e10, h⟩ := bp_s h
  refine V_callI_0 (n9 := 2) [pR (hN σ)] (v_J34_init l G hst _ e10) rfl rfl q1886 q123 q1884 q1885 rfl (by decide +kernel) (by decide) (Nat.le_of_ble_eq_true rfl) (gz_n e7) dJ29_keyIterator_9 ?_
  cases h
  exact V_aret rfl (Or.inl ⟨_, rfl⟩) dJ29_keyIterator_12

abbrev VV_J32_iterator (l : Launch) (G : Gx) (σ0 : Hp) (o : Oc) (σe : Hp) (Se : Ms) := V l G RJ32 cJ32_iterator 1 (some (.object "java/util/Iterator")) [] false 4 94 σ0 o σe Se
def f_J32_iterator (σ : Hp) (a0 : Nat) : Option (Nat × Hp) :=
  bd (rdR σ 17 a0 170) fun b1 => bd (gk σ 15 b1) fun e4 => if (1 : Int32) = (0 : Int32) then (bd (rdR σ 17 a0 170) fun b6 => none) else (bd (rdR σ 17 a0 170) fun b8 => bd (ckC σ 15 b8) fun e10 => bd (gk σ 15 b8) fun e12 => bp (f_J29_keyIterator σ b8) fun b14 σ15 => some (b14, σ15))
set_option maxHeartbeats 4000000 in
theorem v_J32_iterator (l : Launch) (G : Gx) (hst : l.stackTraces = false) (S : Ms) {σ σe : Hp} {a0 : Nat} {r : Nat} (h : f_J32_iterator σ a0 = some (r, σe)) : MT l G yJ32_iterator (ws_ yJ32_iterator cJ32_iterator 1 (some (.object "java/util/Iterator"))) 4 94 [pR a0] σ S (.inl (some (pR r))) σe S := by
  refine MT_of (own := RJ32) (nL := 1) (ini := false) (by decide +kernel) rfl (Nat.le_of_ble_eq_true rfl) (fun h => by cases h) hst ?_
  show VV_J32_iterator l G σ (.inl (some (pR r))) σe S 0 [(0, pR a0)] [] σ S
  unfold f_J32_iterator at h
  refine V_aload_n (i := 0) 0 dJ32_iterator_0 rfl rfl ?_
  obtain ⟨b1, e2, h⟩ := bd_s h
  refine V_rdR gf_J32_7 rfl rfl rfl e2 dJ32_iterator_1 ?_
  obtain ⟨e4, e3, h⟩ := bd_s h
  refine V_inst (c := 14) (r := (RJ29, TJ29, 9)) e3 q1873 rfl dJ32_iterator_4 ?_
  refine V_if_eq 21 dJ32_iterator_7 (by decide) (fun c5 => ?_) (fun c5 => ?_)
  · replace h := it_t c5 h
    refine V_aload_n (i := 0) 0 dJ32_iterator_21 rfl rfl ?_
    obtain ⟨b6, e7, h⟩ := bd_s h
    refine V_rdR gf_J32_7 rfl rfl rfl e7 dJ32_iterator_22 ?_
    cases h
  · replace h := it_f c5 h
    refine V_aload_n (i := 0) 0 dJ32_iterator_10 rfl rfl ?_
    obtain ⟨b8, e9, h⟩ := bd_s h
    refine V_rdR gf_J32_7 rfl rfl rfl e9 dJ32_iterator_11 ?_
    obtain ⟨e10, e11, h⟩ := bd_s h
    refine V_ckC (c := 14) e11 q1873 rfl (Or.inl rfl) dJ32_iterator_14 ?_
    obtain ⟨e12, e13, h⟩ := bd_s h
    obtain ⟨b14, σ15, e16, h⟩ := bp_s h
    refine V_callV_v (n9 := 0) (c := 14) (r := (RJ29, TJ29, 9)) [] (v_J29_keyIterator l G hst _ e16) rfl rfl (lw_V q1874 q1875 q1876 q117 q1877) (by decide +kernel) (by decide) (Nat.le_of_ble_eq_true rfl) (gk_k e13 rfl) rfl dJ32_iterator_17 ?_
    cases h
    exact V_aret rfl (Or.inl ⟨_, rfl⟩) dJ32_iterator_20

abbrev VV_J5_copyOf_2 (l : Launch) (G : Gx) (σ0 : Hp) (o : Oc) (σe : Hp) (Se : Ms) := V l G RJ5 cJ5_copyOf_2 4 (some (.array (.object "java/lang/Object"))) [] false 1 80 σ0 o σe Se
def f_J5_copyOf_2 (σ : Hp) (a0 : Nat) (x1 : Int32) (a2 : Nat) : Option (Nat × Hp) :=
  if a2 = (hQ σ 2) then (bd (nwA σ 105 x1) fun σ2 => bd (elN σ2 a0) fun y4 => bd (cpR σ2 a0 (0 : Int32) (hN σ) (0 : Int32) (if x1 < y4 then x1 else y4)) fun σ6 => some ((hN σ), σ6)) else (none)
set_option maxHeartbeats 4000000 in
theorem v_J5_copyOf_2 (l : Launch) (G : Gx) (hst : l.stackTraces = false) (S : Ms) {σ σe : Hp} {a0 : Nat} {x1 : Int32} {a2 : Nat} {r : Nat} (h : f_J5_copyOf_2 σ a0 x1 a2 = some (r, σe)) : MT l G yJ5_copyOf_2 (ws_ yJ5_copyOf_2 cJ5_copyOf_2 4 (some (.array (.object "java/lang/Object")))) 1 80 [pR a0, pI x1, pR a2] σ S (.inl (some (pR r))) σe S := by
  refine MT_of (own := RJ5) (nL := 4) (ini := false) (by decide +kernel) rfl (Nat.le_of_ble_eq_true rfl) (fun h => by cases h) hst ?_
  show VV_J5_copyOf_2 l G σ (.inl (some (pR r))) σe S 0 [(0, pR a0), (1, pI x1), (2, pR a2)] [] σ S
  unfold f_J5_copyOf_2 at h
  refine V_aload_n (i := 2) 2 dJ5_copyOf_2_0 rfl rfl ?_
  refine V_ldcM q231 dJ5_copyOf_2_1 ?_
  refine V_acmp_ne 13 dJ5_copyOf_2_3 (by decide) (fun c1 => ?_) (fun c1 => ?_)
  · replace h := it_f c1 h
    refine V_aload_n (i := 2) 2 dJ5_copyOf_2_13 rfl rfl ?_
    cases h
  · replace h := it_t c1 h
    refine V_iload_n (i := 1) 1 dJ5_copyOf_2_6 rfl rfl ?_
    obtain ⟨σ2, e3, h⟩ := bd_s h
    refine V_nwQ (t := 5) e3 (by decide) q233 dJ5_copyOf_2_7 ?_
    refine V_goto 24 dJ5_copyOf_2_10 (by decide) ?_
    refine V_astore_n (i := 3) (L' := [(3, pR (hN σ)), (0, pR a0), (1, pI x1), (2, pR a2)]) dJ5_copyOf_2_24 rfl (by decide) rfl ?_
    refine V_aload_n (i := 0) 1 dJ5_copyOf_2_25 rfl rfl ?_
    refine V_iconst (v := 0) dJ5_copyOf_2_26 (by decide) ?_
    refine V_aload_n (i := 3) 0 dJ5_copyOf_2_27 rfl rfl ?_
    refine V_iconst (v := 0) dJ5_copyOf_2_28 (by decide) ?_
    refine V_aload_n (i := 0) 1 dJ5_copyOf_2_29 rfl rfl ?_
    obtain ⟨y4, e5, h⟩ := bd_s h
    refine V_elN e5 dJ5_copyOf_2_30 ?_
    refine V_iload_n (i := 1) 2 dJ5_copyOf_2_31 rfl rfl ?_
    refine V_mmin q234 q235 q82 q236 (by decide) (Nat.le_of_ble_eq_true rfl) dJ5_copyOf_2_32 ?_
    obtain ⟨σ6, e7, h⟩ := bd_s h
    refine V_cpR e7 q237 (by decide) (Nat.le_of_ble_eq_true rfl) dJ5_copyOf_2_35 ?_
    refine V_aload_n (i := 3) 0 dJ5_copyOf_2_38 rfl rfl ?_
    cases h
    exact V_aret rfl (Or.inr ⟨_, rfl⟩) dJ5_copyOf_2_39

abbrev VV_J5_copyOf (l : Launch) (G : Gx) (σ0 : Hp) (o : Oc) (σe : Hp) (Se : Ms) := V l G RJ5 cJ5_copyOf 2 (some (.array (.object "java/lang/Object"))) [] false 2 103 σ0 o σe Se
def f_J5_copyOf (σ : Hp) (a0 : Nat) (x1 : Int32) : Option (Nat × Hp) :=
  bd (gk σ 105 a0) fun e1 => bp (f_J5_copyOf_2 σ a0 x1 (hQ σ 2)) fun b3 σ4 => some (b3, σ4)
set_option maxHeartbeats 4000000 in
theorem v_J5_copyOf (l : Launch) (G : Gx) (hst : l.stackTraces = false) (S : Ms) {σ σe : Hp} {a0 : Nat} {x1 : Int32} {r : Nat} (h : f_J5_copyOf σ a0 x1 = some (r, σe)) : MT l G yJ5_copyOf (ws_ yJ5_copyOf cJ5_copyOf 2 (some (.array (.object "java/lang/Object")))) 2 103 [pR a0, pI x1] σ S (.inl (some (pR r))) σe S := by
  refine MT_of (own := RJ5) (nL := 2) (ini := false) (by decide +kernel) rfl (Nat.le_of_ble_eq_true rfl) (fun h => by cases h) hst ?_
  show VV_J5_copyOf l G σ (.inl (some (pR r))) σe S 0 [(0, pR a0), (1, pI x1)] [] σ S
  unfold f_J5_copyOf at h
  refine V_aload_n (i := 0) 0 dJ5_copyOf_0 rfl rfl ?_
  refine V_iload_n (i := 1) 1 dJ5_copyOf_1 rfl rfl ?_
  refine V_aload_n (i := 0) 0 dJ5_copyOf_2 rfl rfl ?_
  obtain ⟨e1, e2, h⟩ := bd_s h
  refine V_getC e2 q197 (by decide) (Nat.le_of_ble_eq_true rfl) dJ5_copyOf_3 ?_
  obtain ⟨b3, σ4, e5, h⟩ := bp_s h
  refine V_callS_v (n9 := 3) [] (v_J5_copyOf_2 l G hst _ e5) rfl rfl (lw_S q228 q229 q83 q230) (by decide +kernel) (by decide) (Nat.le_of_ble_eq_true rfl) dJ5_copyOf_6 ?_
  cases h
  exact V_aret rfl (Or.inr ⟨_, rfl⟩) dJ5_copyOf_9

abbrev VV_J5_copyOf_3 (l : Launch) (G : Gx) (σ0 : Hp) (o : Oc) (σe : Hp) (Se : Ms) := V l G RJ5 cJ5_copyOf_3 3 (some (.array .byte)) [] false 1 80 σ0 o σe Se
def f_J5_copyOf_3 (σ : Hp) (a0 : Nat) (x1 : Int32) : Option (Nat × Hp) :=
  bd (elN σ a0) fun y1 => if x1 = y1 then (none) else (bd (nwA σ 104 x1) fun σ4 => bd (elN σ4 a0) fun y6 => bd (cpY σ4 a0 (0 : Int32) (hN σ) (0 : Int32) (if x1 < y6 then x1 else y6)) fun σ8 => some ((hN σ), σ8))
set_option maxHeartbeats 4000000 in
theorem v_J5_copyOf_3 (l : Launch) (G : Gx) (hst : l.stackTraces = false) (S : Ms) {σ σe : Hp} {a0 : Nat} {x1 : Int32} {r : Nat} (h : f_J5_copyOf_3 σ a0 x1 = some (r, σe)) : MT l G yJ5_copyOf_3 (ws_ yJ5_copyOf_3 cJ5_copyOf_3 3 (some (.array .byte))) 1 80 [pR a0, pI x1] σ S (.inl (some (pR r))) σe S := by
  refine MT_of (own := RJ5) (nL := 3) (ini := false) (by decide +kernel) rfl (Nat.le_of_ble_eq_true rfl) (fun h => by cases h) hst ?_
  show VV_J5_copyOf_3 l G σ (.inl (some (pR r))) σe S 0 [(0, pR a0), (1, pI x1)] [] σ S
  unfold f_J5_copyOf_3 at h
  refine V_iload_n (i := 1) 1 dJ5_copyOf_3_0 rfl rfl ?_
  refine V_aload_n (i := 0) 0 dJ5_copyOf_3_1 rfl rfl ?_
  obtain ⟨y1, e2, h⟩ := bd_s h
  refine V_elN e2 dJ5_copyOf_3_2 ?_
  refine V_icmp_ne 14 dJ5_copyOf_3_3 (by decide) (fun c3 => ?_) (fun c3 => ?_)
  · replace h := it_f c3 h
    refine V_iload_n (i := 1) 1 dJ5_copyOf_3_14 rfl rfl ?_
    obtain ⟨σ4, e5, h⟩ := bd_s h
    refine V_nwA (t := 4) e5 rfl (by decide) q323 dJ5_copyOf_3_15 ?_
    refine V_astore_n (i := 2) (L' := [(2, pR (hN σ)), (0, pR a0), (1, pI x1)]) dJ5_copyOf_3_17 rfl (by decide) rfl ?_
    refine V_aload_n (i := 0) 1 dJ5_copyOf_3_18 rfl rfl ?_
    refine V_iconst (v := 0) dJ5_copyOf_3_19 (by decide) ?_
    refine V_aload_n (i := 2) 0 dJ5_copyOf_3_20 rfl rfl ?_
    refine V_iconst (v := 0) dJ5_copyOf_3_21 (by decide) ?_
    refine V_aload_n (i := 0) 1 dJ5_copyOf_3_22 rfl rfl ?_
    obtain ⟨y6, e7, h⟩ := bd_s h
    refine V_elN e7 dJ5_copyOf_3_23 ?_
    refine V_iload_n (i := 1) 2 dJ5_copyOf_3_24 rfl rfl ?_
    refine V_mmin q234 q235 q82 q236 (by decide) (Nat.le_of_ble_eq_true rfl) dJ5_copyOf_3_25 ?_
    obtain ⟨σ8, e9, h⟩ := bd_s h
    refine V_cpY e9 q237 (by decide) (Nat.le_of_ble_eq_true rfl) dJ5_copyOf_3_28 ?_
    refine V_aload_n (i := 2) 0 dJ5_copyOf_3_31 rfl rfl ?_
    cases h
    exact V_aret rfl (Or.inr ⟨_, rfl⟩) dJ5_copyOf_3_32
  · replace h := it_t c3 h
    refine V_aload_n (i := 0) 0 dJ5_copyOf_3_6 rfl rfl ?_
    cases h

abbrev VV_J5_rangeCheck (l : Launch) (G : Gx) (σ0 : Hp) (o : Oc) (σe : Hp) (Se : Ms) := V l G RJ5 cJ5_rangeCheck 3 none [] false 1 30 σ0 o σe Se
def f_J5_rangeCheck (σ : Hp) (x0 : Int32) (x1 : Int32) (x2 : Int32) : Option (Unit × Hp) :=
  if x1 ≤ x2 then (if (0 : Int32) ≤ x1 then (if x2 ≤ x0 then (some ((), σ)) else (none)) else (none)) else (none)
set_option maxHeartbeats 4000000 in
theorem v_J5_rangeCheck (l : Launch) (G : Gx) (hst : l.stackTraces = false) (S : Ms) {σ σe : Hp} {x0 : Int32} {x1 : Int32} {x2 : Int32} {r : Unit} (h : f_J5_rangeCheck σ x0 x1 x2 = some (r, σe)) : MT l G yJ5_rangeCheck (ws_ yJ5_rangeCheck cJ5_rangeCheck 3 none) 1 30 [pI x0, pI x1, pI x2] σ S (.inl none) σe S := by
  refine MT_of (own := RJ5) (nL := 3) (ini := false) (by decide +kernel) rfl (Nat.le_of_ble_eq_true rfl) (fun h => by cases h) hst ?_
  show VV_J5_rangeCheck l G σ (.inl none) σe S 0 [(0, pI x0), (1, pI x1), (2, pI x2)] [] σ S
  unfold f_J5_rangeCheck at h
  refine V_iload_n (i := 1) 1 dJ5_rangeCheck_0 rfl rfl ?_
  refine V_iload_n (i := 2) 2 dJ5_rangeCheck_1 rfl rfl ?_
  refine V_icmp_le 46 dJ5_rangeCheck_2 (by decide) (fun c1 => ?_) (fun c1 => ?_)
  · replace h := it_t c1 h
    refine V_iload_n (i := 1) 1 dJ5_rangeCheck_46 rfl rfl ?_
    refine V_if_ge 59 dJ5_rangeCheck_47 (by decide) (fun c2 => ?_) (fun c2 => ?_)
    · replace h := it_t c2 h
      refine V_iload_n (i := 2) 2 dJ5_rangeCheck_59 rfl rfl ?_
      refine V_iload_n (i := 0) 0 dJ5_rangeCheck_60 rfl rfl ?_
      refine V_icmp_le 73 dJ5_rangeCheck_61 (by decide) (fun c3 => ?_) (fun c3 => ?_)
      · replace h := it_t c3 h
        cases h
        exact V_vret rfl dJ5_rangeCheck_73
      · replace h := it_f c3 h
        cases h
    · replace h := it_f c2 h
      cases h
  · replace h := it_f c1 h
    cases h

abbrev VV_J5_fill (l : Launch) (G : Gx) (σ0 : Hp) (o : Oc) (σe : Hp) (Se : Ms) := V l G RJ5 cJ5_fill 5 none [] false 2 52 σ0 o σe Se
def f_J5_fill_10_b (k10 : Hp → Int32 → Nat → Int32 → Int32 → Option (Unit × Hp)) (σ : Hp) (x4 : Int32) (a0 : Nat) (x2 : Int32) (x3 : Int32) : Option (Unit × Hp) :=
  if x2 ≤ x4 then (some ((), σ)) else (bd (stY σ 104 a0 x4 x3) fun σ2 => k10 σ2 (x4 + (1 : Int32)) a0 x2 x3)
set_option maxHeartbeats 4000000 in
theorem v_J5_fill_10_b {l : Launch} {G : Gx} (hst : l.stackTraces = false) {σ0 σe : Hp} {Se : Ms} {r : Unit} {k10 : Hp → Int32 → Nat → Int32 → Int32 → Option (Unit × Hp)} (hk10 : ∀ (σ : Hp) (x4 : Int32) (a0 : Nat) (x2 : Int32) (x3 : Int32), k10 σ x4 a0 x2 x3 = some (r, σe) → VV_J5_fill l G σ0 (.inl none) σe Se 10 [(4, pI x4), (0, pR a0), (2, pI x2), (3, pI x3)] [] σ Se) {σ : Hp} {x4 : Int32} {a0 : Nat} {x2 : Int32} {x3 : Int32} (h : f_J5_fill_10_b k10 σ x4 a0 x2 x3 = some (r, σe)) : VV_J5_fill l G σ0 (.inl none) σe Se 10 [(4, pI x4), (0, pR a0), (2, pI x2), (3, pI x3)] [] σ Se := by
  unfold f_J5_fill_10_b at h
  refine V_iload (i := 4) 0 dJ5_fill_10 rfl ?_
  refine V_iload_n (i := 2) 2 dJ5_fill_12 rfl rfl ?_
  refine V_icmp_ge 27 dJ5_fill_13 (by decide) (fun c1 => ?_) (fun c1 => ?_)
  · replace h := it_t c1 h
    cases h
    exact V_vret rfl dJ5_fill_27
  · replace h := it_f c1 h
    refine V_aload_n (i := 0) 1 dJ5_fill_16 rfl rfl ?_
    refine V_iload (i := 4) 0 dJ5_fill_17 rfl ?_
    refine V_iload_n (i := 3) 3 dJ5_fill_19 rfl rfl ?_
    obtain ⟨σ2, e3, h⟩ := bd_s h
    refine V_stY4 e3 dJ5_fill_20 ?_
    refine V_iinc (v := (x4 + (1 : Int32))) (L' := [(4, pI (x4 + (1 : Int32))), (0, pR a0), (2, pI x2), (3, pI x3)]) 0 dJ5_fill_21 rfl rfl (by decide) rfl ?_
    refine V_goto 10 dJ5_fill_24 (by decide) ?_
    refine V_sub [0, 1, 2, 3] rfl ?_
    exact hk10 _ _ _ _ _ h
def f_J5_fill_10 : Nat → Hp → Int32 → Nat → Int32 → Int32 → Option (Unit × Hp)
  | 0, _, _, _, _, _ => none
  | n + 1, σ, x4, a0, x2, x3 => f_J5_fill_10_b (f_J5_fill_10 n) σ x4 a0 x2 x3
theorem v_J5_fill_10 {l : Launch} {G : Gx} (hst : l.stackTraces = false) {σ0 σe : Hp} {Se : Ms} {r : Unit} : ∀ (n : Nat) (σ : Hp) (x4 : Int32) (a0 : Nat) (x2 : Int32) (x3 : Int32), f_J5_fill_10 n σ x4 a0 x2 x3 = some (r, σe) → VV_J5_fill l G σ0 (.inl none) σe Se 10 [(4, pI x4), (0, pR a0), (2, pI x2), (3, pI x3)] [] σ Se
  | 0, _, _, _, _, _, h => by cases h
  | n + 1, _, _, _, _, _, h => v_J5_fill_10_b hst (v_J5_fill_10 hst n) h
def f_J5_fill (σ : Hp) (a0 : Nat) (x1 : Int32) (x2 : Int32) (x3 : Int32) : Option (Unit × Hp) :=
  bd (elN σ a0) fun y1 => bp (f_J5_rangeCheck σ y1 x1 x2) fun e3 σ4 => f_J5_fill_10 FU σ4 x1 a0 x2 x3
set_option maxHeartbeats 4000000 in
theorem v_J5_fill (l : Launch) (G : Gx) (hst : l.stackTraces = false) (S : Ms) {σ σe : Hp} {a0 : Nat} {x1 : Int32} {x2 : Int32} {x3 : Int32} {r : Unit} (h : f_J5_fill σ a0 x1 x2 x3 = some (r, σe)) : MT l G yJ5_fill (ws_ yJ5_fill cJ5_fill 5 none) 2 52 [pR a0, pI x1, pI x2, pI x3] σ S (.inl none) σe S := by
  refine MT_of (own := RJ5) (nL := 5) (ini := false) (by decide +kernel) rfl (Nat.le_of_ble_eq_true rfl) (fun h => by cases h) hst ?_
  show VV_J5_fill l G σ (.inl none) σe S 0 [(0, pR a0), (1, pI x1), (2, pI x2), (3, pI x3)] [] σ S
  unfold f_J5_fill at h
  refine V_aload_n (i := 0) 0 dJ5_fill_0 rfl rfl ?_
  obtain ⟨y1, e2, h⟩ := bd_s h
  refine V_elN e2 dJ5_fill_1 ?_
  refine V_iload_n (i := 1) 1 dJ5_fill_2 rfl rfl ?_
  refine V_iload_n (i := 2) 2 dJ5_fill_3 rfl rfl ?_
  obtain ⟨e3, σ4, e5, h⟩ := bp_s h
  refine V_callS_0 (n9 := 3) [] (v_J5_rangeCheck l G hst _ e5) rfl rfl (lw_S q639 q640 q83 q641) (by decide +kernel) (by decide) (Nat.le_of_ble_eq_true rfl) dJ5_fill_4 ?_
  refine V_iload_n (i := 1) 1 dJ5_fill_7 rfl rfl ?_
  refine V_istore (i := 4) (L' := [(4, pI x1), (0, pR a0), (1, pI x1), (2, pI x2), (3, pI x3)]) dJ5_fill_8 (by decide) rfl ?_
  refine V_sub [0, 1, 3, 4] rfl ?_
  exact v_J5_fill_10 hst FU _ _ _ _ _ h

abbrev VV_J29_successor (l : Launch) (G : Gx) (σ0 : Hp) (o : Oc) (σe : Hp) (Se : Ms) := V l G RJ29 cJ29_successor 3 (some (.object "java/util/TreeMap$Entry")) [] false 1 30 σ0 o σe Se
def f_J29_successor_64 (σ : Hp) (a1 : Nat) : Option (Nat × Hp) :=
  some (a1, σ)
set_option maxHeartbeats 4000000 in
theorem v_J29_successor_64 {l : Launch} {G : Gx} (hst : l.stackTraces = false) {σ0 σe : Hp} {Se : Ms} {r : Nat} {σ : Hp} {a1 : Nat} (h : f_J29_successor_64 σ a1 = some (r, σe)) : VV_J29_successor l G σ0 (.inl (some (pR r))) σe Se 64 [(1, pR a1)] [] σ Se := by
  unfold f_J29_successor_64 at h
  refine V_aload_n (i := 1) 0 dJ29_successor_64 rfl rfl ?_
  cases h
  exact V_aret rfl (Or.inl ⟨_, rfl⟩) dJ29_successor_65
def f_J29_successor_42_b (k42 : Hp → Nat → Nat → Option (Nat × Hp)) (σ : Hp) (a2 : Nat) (a1 : Nat) : Option (Nat × Hp) :=
  if a1 = 0 then (f_J29_successor_64 σ a1) else (bd (rdR σ 16 a1 163) fun b2 => if a2 = b2 then (bd (rdR σ 16 a1 164) fun b5 => k42 σ a1 b5) else (f_J29_successor_64 σ a1))
set_option maxHeartbeats 4000000 in
theorem v_J29_successor_42_b {l : Launch} {G : Gx} (hst : l.stackTraces = false) {σ0 σe : Hp} {Se : Ms} {r : Nat} {k42 : Hp → Nat → Nat → Option (Nat × Hp)} (hk42 : ∀ (σ : Hp) (a2 : Nat) (a1 : Nat), k42 σ a2 a1 = some (r, σe) → VV_J29_successor l G σ0 (.inl (some (pR r))) σe Se 42 [(2, pR a2), (1, pR a1)] [] σ Se) {σ : Hp} {a2 : Nat} {a1 : Nat} (h : f_J29_successor_42_b k42 σ a2 a1 = some (r, σe)) : VV_J29_successor l G σ0 (.inl (some (pR r))) σe Se 42 [(2, pR a2), (1, pR a1)] [] σ Se := by
  unfold f_J29_successor_42_b at h
  refine V_aload_n (i := 1) 1 dJ29_successor_42 rfl rfl ?_
  refine V_ifnull 64 dJ29_successor_43 (by decide) (fun c1 => ?_) (fun c1 => ?_)
  · replace h := it_t c1 h
    refine V_sub [1] rfl ?_
    exact v_J29_successor_64 hst h
  · replace h := it_f c1 h
    refine V_aload_n (i := 2) 0 dJ29_successor_46 rfl rfl ?_
    refine V_aload_n (i := 1) 1 dJ29_successor_47 rfl rfl ?_
    obtain ⟨b2, e3, h⟩ := bd_s h
    refine V_rdR gf_J29_114 rfl rfl rfl e3 dJ29_successor_48 ?_
    refine V_acmp_ne 64 dJ29_successor_51 (by decide) (fun c4 => ?_) (fun c4 => ?_)
    · replace h := it_f c4 h
      refine V_sub [1] rfl ?_
      exact v_J29_successor_64 hst h
    · replace h := it_t c4 h
      refine V_aload_n (i := 1) 1 dJ29_successor_54 rfl rfl ?_
      refine V_astore_n (i := 2) (L' := [(2, pR a1), (1, pR a1)]) dJ29_successor_55 rfl (by decide) rfl ?_
      refine V_aload_n (i := 1) 1 dJ29_successor_56 rfl rfl ?_
      obtain ⟨b5, e6, h⟩ := bd_s h
      refine V_rdR gf_J29_124 rfl rfl rfl e6 dJ29_successor_57 ?_
      refine V_astore_n (i := 1) (L' := [(1, pR b5), (2, pR a1)]) dJ29_successor_60 rfl (by decide) rfl ?_
      refine V_goto 42 dJ29_successor_61 (by decide) ?_
      refine V_sub [1, 0] rfl ?_
      exact hk42 _ _ _ h
def f_J29_successor_42 : Nat → Hp → Nat → Nat → Option (Nat × Hp)
  | 0, _, _, _ => none
  | n + 1, σ, a2, a1 => f_J29_successor_42_b (f_J29_successor_42 n) σ a2 a1
theorem v_J29_successor_42 {l : Launch} {G : Gx} (hst : l.stackTraces = false) {σ0 σe : Hp} {Se : Ms} {r : Nat} : ∀ (n : Nat) (σ : Hp) (a2 : Nat) (a1 : Nat), f_J29_successor_42 n σ a2 a1 = some (r, σe) → VV_J29_successor l G σ0 (.inl (some (pR r))) σe Se 42 [(2, pR a2), (1, pR a1)] [] σ Se
  | 0, _, _, _, h => by cases h
  | n + 1, _, _, _, h => v_J29_successor_42_b hst (v_J29_successor_42 hst n) h
def f_J29_successor_18_b (k18 : Hp → Nat → Option (Nat × Hp)) (σ : Hp) (a1 : Nat) : Option (Nat × Hp) :=
  bd (rdR σ 16 a1 162) fun b1 => if b1 = 0 then (some (a1, σ)) else (bd (rdR σ 16 a1 162) fun b4 => k18 σ b4)
set_option maxHeartbeats 4000000 in
theorem v_J29_successor_18_b {l : Launch} {G : Gx} (hst : l.stackTraces = false) {σ0 σe : Hp} {Se : Ms} {r : Nat} {k18 : Hp → Nat → Option (Nat × Hp)} (hk18 : ∀ (σ : Hp) (a1 : Nat), k18 σ a1 = some (r, σe) → VV_J29_successor l G σ0 (.inl (some (pR r))) σe Se 18 [(1, pR a1)] [] σ Se) {σ : Hp} {a1 : Nat} (h : f_J29_successor_18_b k18 σ a1 = some (r, σe)) : VV_J29_successor l G σ0 (.inl (some (pR r))) σe Se 18 [(1, pR a1)] [] σ Se := by
  unfold f_J29_successor_18_b at h
  refine V_aload_n (i := 1) 0 dJ29_successor_18 rfl rfl ?_
  obtain ⟨b1, e2, h⟩ := bd_s h
  refine V_rdR gf_J29_111 rfl rfl rfl e2 dJ29_successor_19 ?_
  refine V_ifnull 33 dJ29_successor_22 (by decide) (fun c3 => ?_) (fun c3 => ?_)
  · replace h := it_t c3 h
    refine V_aload_n (i := 1) 0 dJ29_successor_33 rfl rfl ?_
    cases h
    exact V_aret rfl (Or.inl ⟨_, rfl⟩) dJ29_successor_34
  · replace h := it_f c3 h
    refine V_aload_n (i := 1) 0 dJ29_successor_25 rfl rfl ?_
    obtain ⟨b4, e5, h⟩ := bd_s h
    refine V_rdR gf_J29_111 rfl rfl rfl e5 dJ29_successor_26 ?_
    refine V_astore_n (i := 1) (L' := [(1, pR b4)]) dJ29_successor_29 rfl (by decide) rfl ?_
    refine V_goto 18 dJ29_successor_30 (by decide) ?_
    refine V_sub [0] rfl ?_
    exact hk18 _ _ h
def f_J29_successor_18 : Nat → Hp → Nat → Option (Nat × Hp)
  | 0, _, _ => none
  | n + 1, σ, a1 => f_J29_successor_18_b (f_J29_successor_18 n) σ a1
theorem v_J29_successor_18 {l : Launch} {G : Gx} (hst : l.stackTraces = false) {σ0 σe : Hp} {Se : Ms} {r : Nat} : ∀ (n : Nat) (σ : Hp) (a1 : Nat), f_J29_successor_18 n σ a1 = some (r, σe) → VV_J29_successor l G σ0 (.inl (some (pR r))) σe Se 18 [(1, pR a1)] [] σ Se
  | 0, _, _, h => by cases h
  | n + 1, _, _, h => v_J29_successor_18_b hst (v_J29_successor_18 hst n) h
def f_J29_successor (σ : Hp) (a0 : Nat) : Option (Nat × Hp) :=
  if a0 = 0 then (some (0, σ)) else (bd (rdR σ 16 a0 163) fun b2 => if b2 = 0 then (bd (rdR σ 16 a0 164) fun b5 => f_J29_successor_42 FU σ a0 b5) else (bd (rdR σ 16 a0 163) fun b7 => f_J29_successor_18 FU σ b7))
set_option maxHeartbeats 4000000 in
theorem v_J29_successor (l : Launch) (G : Gx) (hst : l.stackTraces = false) (S : Ms) {σ σe : Hp} {a0 : Nat} {r : Nat} (h : f_J29_successor σ a0 = some (r, σe)) : MT l G yJ29_successor (ws_ yJ29_successor cJ29_successor 3 (some (.object "java/util/TreeMap$Entry"))) 1 30 [pR a0] σ S (.inl (some (pR r))) σe S := by
  refine MT_of (own := RJ29) (nL := 3) (ini := false) (by decide +kernel) rfl (Nat.le_of_ble_eq_true rfl) (fun h => by cases h) hst ?_
  show VV_J29_successor l G σ (.inl (some (pR r))) σe S 0 [(0, pR a0)] [] σ S
  unfold f_J29_successor at h
  refine V_aload_n (i := 0) 0 dJ29_successor_0 rfl rfl ?_
  refine V_ifnonnull 6 dJ29_successor_1 (by decide) (fun c1 => ?_) (fun c1 => ?_)
  · replace h := it_f c1 h
    refine V_aload_n (i := 0) 0 dJ29_successor_6 rfl rfl ?_
    obtain ⟨b2, e3, h⟩ := bd_s h
    refine V_rdR gf_J29_114 rfl rfl rfl e3 dJ29_successor_7 ?_
    refine V_ifnull 35 dJ29_successor_10 (by decide) (fun c4 => ?_) (fun c4 => ?_)
    · replace h := it_t c4 h
      refine V_aload_n (i := 0) 0 dJ29_successor_35 rfl rfl ?_
      obtain ⟨b5, e6, h⟩ := bd_s h
      refine V_rdR gf_J29_124 rfl rfl rfl e6 dJ29_successor_36 ?_
      refine V_astore_n (i := 1) (L' := [(1, pR b5), (0, pR a0)]) dJ29_successor_39 rfl (by decide) rfl ?_
      refine V_aload_n (i := 0) 1 dJ29_successor_40 rfl rfl ?_
      refine V_astore_n (i := 2) (L' := [(2, pR a0), (1, pR b5), (0, pR a0)]) dJ29_successor_41 rfl (by decide) rfl ?_
      refine V_sub [0, 1] rfl ?_
      exact v_J29_successor_42 hst FU _ _ _ h
    · replace h := it_f c4 h
      refine V_aload_n (i := 0) 0 dJ29_successor_13 rfl rfl ?_
      obtain ⟨b7, e8, h⟩ := bd_s h
      refine V_rdR gf_J29_114 rfl rfl rfl e8 dJ29_successor_14 ?_
      refine V_astore_n (i := 1) (L' := [(1, pR b7), (0, pR a0)]) dJ29_successor_17 rfl (by decide) rfl ?_
      refine V_sub [0] rfl ?_
      exact v_J29_successor_18 hst FU _ _ h
  · replace h := it_t c1 h
    refine V_null dJ29_successor_4 ?_
    cases h
    exact V_aret rfl (Or.inl ⟨_, rfl⟩) dJ29_successor_5

abbrev VV_J33_nextEntry (l : Launch) (G : Gx) (σ0 : Hp) (o : Oc) (σe : Hp) (Se : Ms) := V l G RJ33 cJ33_nextEntry 2 (some (.object "java/util/TreeMap$Entry")) [] false 2 52 σ0 o σe Se
def f_J33_nextEntry (σ : Hp) (a0 : Nat) : Option (Nat × Hp) :=
  bd (rdR σ 18 a0 180) fun b1 => if b1 = 0 then (none) else (bd (rdR σ 18 a0 183) fun b4 => bd (rdI σ 15 b4 155) fun y6 => bd (rdI σ 18 a0 182) fun y8 => if y6 = y8 then (bp (f_J29_successor σ b1) fun b11 σ12 => bd (wrR σ12 18 a0 180 b11) fun σ14 => bd (wrR σ14 18 a0 181 b1) fun σ16 => some (b1, σ16)) else (none))
set_option maxHeartbeats 4000000 in
theorem v_J33_nextEntry (l : Launch) (G : Gx) (hst : l.stackTraces = false) (S : Ms) {σ σe : Hp} {a0 : Nat} {r : Nat} (h : f_J33_nextEntry σ a0 = some (r, σe)) : MT l G yJ33_nextEntry (ws_ yJ33_nextEntry cJ33_nextEntry 2 (some (.object "java/util/TreeMap$Entry"))) 2 52 [pR a0] σ S (.inl (some (pR r))) σe S := by
  refine MT_of (own := RJ33) (nL := 2) (ini := false) (by decide +kernel) rfl (Nat.le_of_ble_eq_true rfl) (fun h => by cases h) hst ?_
  show VV_J33_nextEntry l G σ (.inl (some (pR r))) σe S 0 [(0, pR a0)] [] σ S
  unfold f_J33_nextEntry at h
  refine V_aload_n (i := 0) 0 dJ33_nextEntry_0 rfl rfl ?_
  obtain ⟨b1, e2, h⟩ := bd_s h
  refine V_rdR gf_J33_26 rfl rfl rfl e2 dJ33_nextEntry_1 ?_
  refine V_astore_n (i := 1) (L' := [(1, pR b1), (0, pR a0)]) dJ33_nextEntry_4 rfl (by decide) rfl ?_
  refine V_aload_n (i := 1) 0 dJ33_nextEntry_5 rfl rfl ?_
  refine V_ifnonnull 17 dJ33_nextEntry_6 (by decide) (fun c3 => ?_) (fun c3 => ?_)
  · replace h := it_f c3 h
    refine V_aload_n (i := 0) 1 dJ33_nextEntry_17 rfl rfl ?_
    obtain ⟨b4, e5, h⟩ := bd_s h
    refine V_rdR gf_J33_1 rfl rfl rfl e5 dJ33_nextEntry_18 ?_
    obtain ⟨y6, e7, h⟩ := bd_s h
    refine V_rdIN gf_J33_13 rfl rfl rfl e7 dJ33_nextEntry_21 ?_
    refine V_aload_n (i := 0) 1 dJ33_nextEntry_24 rfl rfl ?_
    obtain ⟨y8, e9, h⟩ := bd_s h
    refine V_rdI gf_J33_19 rfl rfl rfl e9 dJ33_nextEntry_25 ?_
    refine V_icmp_eq 39 dJ33_nextEntry_28 (by decide) (fun c10 => ?_) (fun c10 => ?_)
    · replace h := it_t c10 h
      refine V_aload_n (i := 0) 1 dJ33_nextEntry_39 rfl rfl ?_
      refine V_aload_n (i := 1) 0 dJ33_nextEntry_40 rfl rfl ?_
      obtain ⟨b11, σ12, e13, h⟩ := bp_s h
      refine V_callS_v (n9 := 1) [pR a0] (v_J29_successor l G hst _ e13) rfl rfl (lw_S q845 q846 q117 q847) (by decide +kernel) (by decide) (Nat.le_of_ble_eq_true rfl) dJ33_nextEntry_41 ?_
      obtain ⟨σ14, e15, h⟩ := bd_s h
      refine V_wrR gw_J33_26 (okF_obj _ rfl) rfl rfl e15 dJ33_nextEntry_44 ?_
      refine V_aload_n (i := 0) 1 dJ33_nextEntry_47 rfl rfl ?_
      refine V_aload_n (i := 1) 0 dJ33_nextEntry_48 rfl rfl ?_
      obtain ⟨σ16, e17, h⟩ := bd_s h
      refine V_wrR gw_J33_22 (okF_obj _ rfl) rfl rfl e17 dJ33_nextEntry_49 ?_
      refine V_aload_n (i := 1) 0 dJ33_nextEntry_52 rfl rfl ?_
      cases h
      exact V_aret rfl (Or.inl ⟨_, rfl⟩) dJ33_nextEntry_53
    · replace h := it_f c10 h
      cases h
  · replace h := it_t c3 h
    cases h

abbrev VV_J34_next (l : Launch) (G : Gx) (σ0 : Hp) (o : Oc) (σe : Hp) (Se : Ms) := V l G RJ34 cJ34_next 1 (some (.object "java/lang/Object")) [] false 3 73 σ0 o σe Se
def f_J34_next (σ : Hp) (a0 : Nat) : Option (Nat × Hp) :=
  bd (gk σ 18 a0) fun e1 => bp (f_J33_nextEntry σ a0) fun b3 σ4 => bd (rdR σ4 16 b3 160) fun b6 => some (b6, σ4)
set_option maxHeartbeats 4000000 in
theorem v_J34_next (l : Launch) (G : Gx) (hst : l.stackTraces = false) (S : Ms) {σ σe : Hp} {a0 : Nat} {r : Nat} (h : f_J34_next σ a0 = some (r, σe)) : MT l G yJ34_next (ws_ yJ34_next cJ34_next 1 (some (.object "java/lang/Object"))) 3 73 [pR a0] σ S (.inl (some (pR r))) σe S := by
  refine MT_of (own := RJ34) (nL := 1) (ini := false) (by decide +kernel) rfl (Nat.le_of_ble_eq_true rfl) (fun h => by cases h) hst ?_
  show VV_J34_next l G σ (.inl (some (pR r))) σe S 0 [(0, pR a0)] [] σ S
  unfold f_J34_next at h
  refine V_aload_n (i := 0) 0 dJ34_next_0 rfl rfl ?_
  obtain ⟨e1, e2, h⟩ := bd_s h
  obtain ⟨b3, σ4, e5, h⟩ := bp_s h
  refine V_callU_v (n9 := 0) (c := 17) (r := (RJ34, TJ34, 4)) (x := (⟨"java/util/TreeMap$KeyIterator", "nextEntry", "()Ljava/util/TreeMap$Entry;"⟩ : MethodName)) (owner := "java/util/TreeMap$PrivateEntryIterator") [] (v_J33_nextEntry l G hst _ e5) rfl rfl (lw_app (lw_U q839 q840 q842 q843 q122) (lw_meth q844)) rfl (by decide +kernel) (by decide) (Nat.le_of_ble_eq_true rfl) (gk_k e2 rfl) rfl dJ34_next_1 ?_
  obtain ⟨b6, e7, h⟩ := bd_s h
  refine V_rdR gf_J34_13 rfl rfl rfl e7 dJ34_next_4 ?_
  cases h
  exact V_aret rfl (Or.inl ⟨_, rfl⟩) dJ34_next_7

abbrev VV_J1_init (l : Launch) (G : Gx) (σ0 : Hp) (o : Oc) (σe : Hp) (Se : Ms) := V l G RJ1 cJ1_init 1 none [] true 2 50 σ0 o σe Se
def f_J1_init (σ : Hp) (a0 : Nat) : Option (Unit × Hp) :=
  bd (gz σ a0) fun e1 => bp (f_J0_init σ a0) fun e3 σ4 => bd (wrI σ4 10 a0 100 (0 : Int32)) fun σ6 => some ((), σ6)
set_option maxHeartbeats 4000000 in
theorem v_J1_init (l : Launch) (G : Gx) (hst : l.stackTraces = false) (S : Ms) {σ σe : Hp} {a0 : Nat} {r : Unit} (h : f_J1_init σ a0 = some (r, σe)) : MT l G yJ1_init (ws_ yJ1_init cJ1_init 1 none) 2 50 [pR a0] σ S (.inl none) σe S := by
  refine MT_of (own := RJ1) (nL := 1) (ini := true) (by decide +kernel) rfl (Nat.le_of_ble_eq_true rfl) (fun h => rfl) hst ?_
  show VV_J1_init l G σ (.inl none) σe S 0 [(0, pR a0)] [] σ S
  unfold f_J1_init at h
  refine V_aload_n (i := 0) 0 dJ1_init_0 rfl rfl ?_
  obtain ⟨e1, e2, h⟩ := bd_s h
  obtain ⟨e3, σ4, e5, h⟩ := bp_s h
  refine V_callI_0 (n9 := 0) [] (v_J0_init l G hst _ e5) rfl rfl q149 q78 q147 q148 rfl (by decide +kernel) (by decide) (Nat.le_of_ble_eq_true rfl) (gz_n e2) dJ1_init_1 ?_
  refine V_aload_n (i := 0) 0 dJ1_init_4 rfl rfl ?_
  refine V_iconst (v := 0) dJ1_init_5 (by decide) ?_
  obtain ⟨σ6, e7, h⟩ := bd_s h
  refine V_wrI gw_J1_7 rfl rfl rfl e7 dJ1_init_6 ?_
  cases h
  exact V_vret rfl dJ1_init_9

abbrev VV_J2_init (l : Launch) (G : Gx) (σ0 : Hp) (o : Oc) (σe : Hp) (Se : Ms) := V l G RJ2 cJ2_init 1 none [] true 3 70 σ0 o σe Se
def f_J2_init (σ : Hp) (a0 : Nat) : Option (Unit × Hp) :=
  bd (gz σ a0) fun e1 => bp (f_J1_init σ a0) fun e3 σ4 => bd (wrR σ4 10 a0 101 (hQ σ4 0)) fun σ6 => some ((), σ6)
set_option maxHeartbeats 4000000 in
theorem v_J2_init (l : Launch) (G : Gx) (hst : l.stackTraces = false) (S : Ms) {σ σe : Hp} {a0 : Nat} {r : Unit} (h : f_J2_init σ a0 = some (r, σe)) : MT l G yJ2_init (ws_ yJ2_init cJ2_init 1 none) 3 70 [pR a0] σ S (.inl none) σe S := by
  refine MT_of (own := RJ2) (nL := 1) (ini := true) (by decide +kernel) rfl (Nat.le_of_ble_eq_true rfl) (fun h => rfl) hst ?_
  show VV_J2_init l G σ (.inl none) σe S 0 [(0, pR a0)] [] σ S
  unfold f_J2_init at h
  refine V_aload_n (i := 0) 0 dJ2_init_0 rfl rfl ?_
  obtain ⟨e1, e2, h⟩ := bd_s h
  obtain ⟨e3, σ4, e5, h⟩ := bp_s h
  refine V_callI_0 (n9 := 0) [] (v_J1_init l G hst _ e5) rfl rfl q146 q79 q144 q145 rfl (by decide +kernel) (by decide) (Nat.le_of_ble_eq_true rfl) (gz_n e2) dJ2_init_1 ?_
  refine V_aload_n (i := 0) 0 dJ2_init_4 rfl rfl ?_
  refine V_gstR (k := 0) (fun _ _ h => h.2.1) q151 rfl dJ2_init_5 ?_
  obtain ⟨σ6, e7, h⟩ := bd_s h
  refine V_wrR gw_J2_9 (okF_arr _ rfl) rfl rfl e7 dJ2_init_8 ?_
  cases h
  exact V_vret rfl dJ2_init_11

abbrev VV_J3_newLength (l : Launch) (G : Gx) (σ0 : Hp) (o : Oc) (σe : Hp) (Se : Ms) := V l G RJ3 cJ3_newLength 4 (some .int) [] false 1 30 σ0 o σe Se
def f_J3_newLength_21 (x0 : Int32) (x1 : Int32) : Option Int32 :=
  none
set_option maxHeartbeats 4000000 in
theorem v_J3_newLength_21 {l : Launch} {G : Gx} (hst : l.stackTraces = false) {σ0 σe : Hp} {Se : Ms} {r : Int32} {x0 : Int32} {x1 : Int32} (h : f_J3_newLength_21 x0 x1 = some r) : VV_J3_newLength l G σ0 (.inl (some (pI r))) σe Se 21 [(0, pI x0), (1, pI x1)] [] σe Se := by
  unfold f_J3_newLength_21 at h
  refine V_iload_n (i := 0) 0 dJ3_newLength_21 rfl rfl ?_
  refine V_iload_n (i := 1) 1 dJ3_newLength_22 rfl rfl ?_
  cases h
def f_J3_newLength (x0 : Int32) (x1 : Int32) (x2 : Int32) : Option Int32 :=
  if (x0 + (if x1 < x2 then x2 else x1)) ≤ (0 : Int32) then (f_J3_newLength_21 x0 x1) else (if (2147483639 : Int32) < (x0 + (if x1 < x2 then x2 else x1)) then (f_J3_newLength_21 x0 x1) else (some (x0 + (if x1 < x2 then x2 else x1))))
set_option maxHeartbeats 4000000 in
theorem v_J3_newLength (l : Launch) (G : Gx) (hst : l.stackTraces = false) (σ : Hp) (S : Ms) {x0 : Int32} {x1 : Int32} {x2 : Int32} {r : Int32} (h : f_J3_newLength x0 x1 x2 = some r) : MT l G yJ3_newLength (ws_ yJ3_newLength cJ3_newLength 4 (some .int)) 1 30 [pI x0, pI x1, pI x2] σ S (.inl (some (pI r))) σ S := by
  refine MT_of (own := RJ3) (nL := 4) (ini := false) (by decide +kernel) rfl (Nat.le_of_ble_eq_true rfl) (fun h => by cases h) hst ?_
  show VV_J3_newLength l G σ (.inl (some (pI r))) σ S 0 [(0, pI x0), (1, pI x1), (2, pI x2)] [] σ S
  unfold f_J3_newLength at h
  refine V_iload_n (i := 0) 0 dJ3_newLength_0 rfl rfl ?_
  refine V_iload_n (i := 1) 1 dJ3_newLength_1 rfl rfl ?_
  refine V_iload_n (i := 2) 2 dJ3_newLength_2 rfl rfl ?_
  refine V_mmax q187 q188 q82 q189 (by decide) (Nat.le_of_ble_eq_true rfl) dJ3_newLength_3 ?_
  refine V_iadd dJ3_newLength_6 ?_
  refine V_istore_n (i := 3) (L' := [(3, pI (x0 + (if x1 < x2 then x2 else x1))), (0, pI x0), (1, pI x1), (2, pI x2)]) dJ3_newLength_7 rfl (by decide) rfl ?_
  refine V_iconst (v := 0) dJ3_newLength_8 (by decide) ?_
  refine V_iload_n (i := 3) 0 dJ3_newLength_9 rfl rfl ?_
  refine V_icmp_ge 21 dJ3_newLength_10 (by decide) (fun c1 => ?_) (fun c1 => ?_)
  · replace h := it_t c1 h
    refine V_sub [1, 2] rfl ?_
    exact v_J3_newLength_21 hst h
  · replace h := it_f c1 h
    refine V_iload_n (i := 3) 0 dJ3_newLength_13 rfl rfl ?_
    refine V_ldc dJ3_newLength_14 q190 ?_
    refine V_icmp_gt 21 dJ3_newLength_16 (by decide) (fun c2 => ?_) (fun c2 => ?_)
    · replace h := it_t c2 h
      refine V_sub [1, 2] rfl ?_
      exact v_J3_newLength_21 hst h
    · replace h := it_f c2 h
      refine V_iload_n (i := 3) 0 dJ3_newLength_19 rfl rfl ?_
      cases h
      exact V_iret rfl dJ3_newLength_20

abbrev VV_J2_grow_2 (l : Launch) (G : Gx) (σ0 : Hp) (o : Oc) (σe : Hp) (Se : Ms) := V l G RJ2 cJ2_grow_2 4 (some (.array (.object "java/lang/Object"))) [] false 3 124 σ0 o σe Se
def f_J2_grow_2_20 (σ : Hp) (x2 : Int32) (a0 : Nat) (x1 : Int32) : Option (Nat × Hp) :=
  bd (f_J3_newLength x2 (x1 - x2) (x2 >>> ((1 : Int32) &&& 31))) fun y1 => bd (rdR σ 10 a0 101) fun b3 => bp (f_J5_copyOf σ b3 y1) fun b5 σ6 => bd (wrR σ6 10 a0 101 b5) fun σ8 => some (b5, σ8)
set_option maxHeartbeats 4000000 in
theorem v_J2_grow_2_20 {l : Launch} {G : Gx} (hst : l.stackTraces = false) {σ0 σe : Hp} {Se : Ms} {r : Nat} {σ : Hp} {x2 : Int32} {a0 : Nat} {x1 : Int32} (h : f_J2_grow_2_20 σ x2 a0 x1 = some (r, σe)) : VV_J2_grow_2 l G σ0 (.inl (some (pR r))) σe Se 20 [(2, pI x2), (0, pR a0), (1, pI x1)] [] σ Se := by
  unfold f_J2_grow_2_20 at h
  refine V_iload_n (i := 2) 0 dJ2_grow_2_20 rfl rfl ?_
  refine V_iload_n (i := 1) 2 dJ2_grow_2_21 rfl rfl ?_
  refine V_iload_n (i := 2) 0 dJ2_grow_2_22 rfl rfl ?_
  refine V_isub dJ2_grow_2_23 ?_
  refine V_iload_n (i := 2) 0 dJ2_grow_2_24 rfl rfl ?_
  refine V_iconst (v := 1) dJ2_grow_2_25 (by decide) ?_
  refine V_ishr dJ2_grow_2_26 ?_
  obtain ⟨y1, e2, h⟩ := bd_s h
  refine V_callS_v (n9 := 3) [] (v_J3_newLength l G hst _ _ e2) rfl rfl (lw_S q184 q185 q81 q186) (by decide +kernel) (by decide) (Nat.le_of_ble_eq_true rfl) dJ2_grow_2_27 ?_
  refine V_istore_n (i := 3) (L' := [(3, pI y1), (2, pI x2), (0, pR a0), (1, pI x1)]) dJ2_grow_2_30 rfl (by decide) rfl ?_
  refine V_aload_n (i := 0) 2 dJ2_grow_2_31 rfl rfl ?_
  refine V_aload_n (i := 0) 2 dJ2_grow_2_32 rfl rfl ?_
  obtain ⟨b3, e4, h⟩ := bd_s h
  refine V_rdR gf_J2_9 rfl rfl rfl e4 dJ2_grow_2_33 ?_
  refine V_iload_n (i := 3) 0 dJ2_grow_2_36 rfl rfl ?_
  obtain ⟨b5, σ6, e7, h⟩ := bp_s h
  refine V_callS_v (n9 := 2) [pR a0] (v_J5_copyOf l G hst _ e7) rfl rfl (lw_S q194 q195 q83 q196) (by decide +kernel) (by decide) (Nat.le_of_ble_eq_true rfl) dJ2_grow_2_37 ?_
  refine V_dup_x1 dJ2_grow_2_40 rfl rfl ?_
  obtain ⟨σ8, e9, h⟩ := bd_s h
  refine V_wrR gw_J2_9 (okF_arr _ rfl) rfl rfl e9 dJ2_grow_2_41 ?_
  cases h
  exact V_aret rfl (Or.inr ⟨_, rfl⟩) dJ2_grow_2_44
def f_J2_grow_2 (σ : Hp) (a0 : Nat) (x1 : Int32) : Option (Nat × Hp) :=
  bd (rdR σ 10 a0 101) fun b1 => bd (elN σ b1) fun y3 => if (0 : Int32) < y3 then (f_J2_grow_2_20 σ y3 a0 x1) else (bd (rdR σ 10 a0 101) fun b6 => if b6 = (hQ σ 0) then (bd (nwA σ 105 (if (10 : Int32) < x1 then x1 else (10 : Int32))) fun σ9 => bd (wrR σ9 10 a0 101 (hN σ)) fun σ11 => some ((hN σ), σ11)) else (f_J2_grow_2_20 σ y3 a0 x1))
set_option maxHeartbeats 4000000 in
theorem v_J2_grow_2 (l : Launch) (G : Gx) (hst : l.stackTraces = false) (S : Ms) {σ σe : Hp} {a0 : Nat} {x1 : Int32} {r : Nat} (h : f_J2_grow_2 σ a0 x1 = some (r, σe)) : MT l G yJ2_grow_2 (ws_ yJ2_grow_2 cJ2_grow_2 4 (some (.array (.object "java/lang/Object")))) 3 124 [pR a0, pI x1] σ S (.inl (some (pR r))) σe S := by
  refine MT_of (own := RJ2) (nL := 4) (ini := false) (by decide +kernel) rfl (Nat.le_of_ble_eq_true rfl) (fun h => by cases h) hst ?_
  show VV_J2_grow_2 l G σ (.inl (some (pR r))) σe S 0 [(0, pR a0), (1, pI x1)] [] σ S
  unfold f_J2_grow_2 at h
  refine V_aload_n (i := 0) 0 dJ2_grow_2_0 rfl rfl ?_
  obtain ⟨b1, e2, h⟩ := bd_s h
  refine V_rdR gf_J2_9 rfl rfl rfl e2 dJ2_grow_2_1 ?_
  obtain ⟨y3, e4, h⟩ := bd_s h
  refine V_elN e4 dJ2_grow_2_4 ?_
  refine V_istore_n (i := 2) (L' := [(2, pI y3), (0, pR a0), (1, pI x1)]) dJ2_grow_2_5 rfl (by decide) rfl ?_
  refine V_iload_n (i := 2) 0 dJ2_grow_2_6 rfl rfl ?_
  refine V_if_gt 20 dJ2_grow_2_7 (by decide) (fun c5 => ?_) (fun c5 => ?_)
  · replace h := it_t c5 h
    refine V_sub [0, 1, 2] rfl ?_
    exact v_J2_grow_2_20 hst h
  · replace h := it_f c5 h
    refine V_aload_n (i := 0) 1 dJ2_grow_2_10 rfl rfl ?_
    obtain ⟨b6, e7, h⟩ := bd_s h
    refine V_rdR gf_J2_9 rfl rfl rfl e7 dJ2_grow_2_11 ?_
    refine V_gstR (k := 0) (fun _ _ h => h.2.1) q151 rfl dJ2_grow_2_14 ?_
    refine V_acmp_eq 45 dJ2_grow_2_17 (by decide) (fun c8 => ?_) (fun c8 => ?_)
    · replace h := it_t c8 h
      refine V_aload_n (i := 0) 1 dJ2_grow_2_45 rfl rfl ?_
      refine V_bipush (v := 10) dJ2_grow_2_46 (by decide) ?_
      refine V_iload_n (i := 1) 2 dJ2_grow_2_48 rfl rfl ?_
      refine V_mmax q240 q188 q82 q189 (by decide) (Nat.le_of_ble_eq_true rfl) dJ2_grow_2_49 ?_
      obtain ⟨σ9, e10, h⟩ := bd_s h
      refine V_nwQ (t := 5) e10 (by decide) q241 dJ2_grow_2_52 ?_
      refine V_dup_x1 dJ2_grow_2_55 rfl rfl ?_
      obtain ⟨σ11, e12, h⟩ := bd_s h
      refine V_wrR gw_J2_9 (okF_arr _ rfl) rfl rfl e12 dJ2_grow_2_56 ?_
      cases h
      exact V_aret rfl (Or.inr ⟨_, rfl⟩) dJ2_grow_2_59
    · replace h := it_f c8 h
      refine V_sub [0, 1, 2] rfl ?_
      exact v_J2_grow_2_20 hst h

abbrev VV_J2_grow (l : Launch) (G : Gx) (σ0 : Hp) (o : Oc) (σe : Hp) (Se : Ms) := V l G RJ2 cJ2_grow 1 (some (.array (.object "java/lang/Object"))) [] false 4 147 σ0 o σe Se
def f_J2_grow (σ : Hp) (a0 : Nat) : Option (Nat × Hp) :=
  bd (rdI σ 10 a0 102) fun y1 => bd (gk σ 10 a0) fun e3 => bp (f_J2_grow_2 σ a0 (y1 + (1 : Int32))) fun b5 σ6 => some (b5, σ6)
set_option maxHeartbeats 4000000 in
theorem v_J2_grow (l : Launch) (G : Gx) (hst : l.stackTraces = false) (S : Ms) {σ σe : Hp} {a0 : Nat} {r : Nat} (h : f_J2_grow σ a0 = some (r, σe)) : MT l G yJ2_grow (ws_ yJ2_grow cJ2_grow 1 (some (.array (.object "java/lang/Object")))) 4 147 [pR a0] σ S (.inl (some (pR r))) σe S := by
  refine MT_of (own := RJ2) (nL := 1) (ini := false) (by decide +kernel) rfl (Nat.le_of_ble_eq_true rfl) (fun h => by cases h) hst ?_
  show VV_J2_grow l G σ (.inl (some (pR r))) σe S 0 [(0, pR a0)] [] σ S
  unfold f_J2_grow at h
  refine V_aload_n (i := 0) 0 dJ2_grow_0 rfl rfl ?_
  refine V_aload_n (i := 0) 0 dJ2_grow_1 rfl rfl ?_
  obtain ⟨y1, e2, h⟩ := bd_s h
  refine V_rdI gf_J2_48 rfl rfl rfl e2 dJ2_grow_2 ?_
  refine V_iconst (v := 1) dJ2_grow_5 (by decide) ?_
  refine V_iadd dJ2_grow_6 ?_
  obtain ⟨e3, e4, h⟩ := bd_s h
  obtain ⟨b5, σ6, e7, h⟩ := bp_s h
  refine V_callV_v (n9 := 1) (c := 9) (r := (RJ2, TJ2, 3)) [] (v_J2_grow_2 l G hst _ e7) rfl rfl (lw_V q180 q182 qs2 q80 q183) (by decide +kernel) (by decide) (Nat.le_of_ble_eq_true rfl) (gk_k e4 rfl) rfl dJ2_grow_7 ?_
  cases h
  exact V_aret rfl (Or.inr ⟨_, rfl⟩) dJ2_grow_10

abbrev VV_J2_add_2 (l : Launch) (G : Gx) (σ0 : Hp) (o : Oc) (σe : Hp) (Se : Ms) := V l G RJ2 cJ2_add_2 4 none [] false 5 167 σ0 o σe Se
def f_J2_add_2_11 (σ : Hp) (a0 : Nat) (a1 : Nat) (a2 : Nat) (x3 : Int32) : Option (Unit × Hp) :=
  bd (stR σ 105 a2 x3 a1) fun σ1 => bd (wrI σ1 10 a0 102 (x3 + (1 : Int32))) fun σ3 => some ((), σ3)
set_option maxHeartbeats 4000000 in
theorem v_J2_add_2_11 {l : Launch} {G : Gx} (hst : l.stackTraces = false) {σ0 σe : Hp} {Se : Ms} {r : Unit} {σ : Hp} {a0 : Nat} {a1 : Nat} {a2 : Nat} {x3 : Int32} (h : f_J2_add_2_11 σ a0 a1 a2 x3 = some (r, σe)) : VV_J2_add_2 l G σ0 (.inl none) σe Se 11 [(0, pR a0), (1, pR a1), (2, pR a2), (3, pI x3)] [] σ Se := by
  unfold f_J2_add_2_11 at h
  refine V_aload_n (i := 2) 2 dJ2_add_2_11 rfl rfl ?_
  refine V_iload_n (i := 3) 3 dJ2_add_2_12 rfl rfl ?_
  refine V_aload_n (i := 1) 1 dJ2_add_2_13 rfl rfl ?_
  obtain ⟨σ1, e2, h⟩ := bd_s h
  refine V_stR5 e2 dJ2_add_2_14 ?_
  refine V_aload_n (i := 0) 0 dJ2_add_2_15 rfl rfl ?_
  refine V_iload_n (i := 3) 3 dJ2_add_2_16 rfl rfl ?_
  refine V_iconst (v := 1) dJ2_add_2_17 (by decide) ?_
  refine V_iadd dJ2_add_2_18 ?_
  obtain ⟨σ3, e4, h⟩ := bd_s h
  refine V_wrI gw_J2_48 rfl rfl rfl e4 dJ2_add_2_19 ?_
  cases h
  exact V_vret rfl dJ2_add_2_22
def f_J2_add_2 (σ : Hp) (a0 : Nat) (a1 : Nat) (a2 : Nat) (x3 : Int32) : Option (Unit × Hp) :=
  bd (elN σ a2) fun y1 => if x3 = y1 then (bd (gk σ 10 a0) fun e4 => bp (f_J2_grow σ a0) fun b6 σ7 => f_J2_add_2_11 σ7 a0 a1 b6 x3) else (f_J2_add_2_11 σ a0 a1 a2 x3)
set_option maxHeartbeats 4000000 in
theorem v_J2_add_2 (l : Launch) (G : Gx) (hst : l.stackTraces = false) (S : Ms) {σ σe : Hp} {a0 : Nat} {a1 : Nat} {a2 : Nat} {x3 : Int32} {r : Unit} (h : f_J2_add_2 σ a0 a1 a2 x3 = some (r, σe)) : MT l G yJ2_add_2 (ws_ yJ2_add_2 cJ2_add_2 4 none) 5 167 [pR a0, pR a1, pR a2, pI x3] σ S (.inl none) σe S := by
  refine MT_of (own := RJ2) (nL := 4) (ini := false) (by decide +kernel) rfl (Nat.le_of_ble_eq_true rfl) (fun h => by cases h) hst ?_
  show VV_J2_add_2 l G σ (.inl none) σe S 0 [(0, pR a0), (1, pR a1), (2, pR a2), (3, pI x3)] [] σ S
  unfold f_J2_add_2 at h
  refine V_iload_n (i := 3) 3 dJ2_add_2_0 rfl rfl ?_
  refine V_aload_n (i := 2) 2 dJ2_add_2_1 rfl rfl ?_
  obtain ⟨y1, e2, h⟩ := bd_s h
  refine V_elN e2 dJ2_add_2_2 ?_
  refine V_icmp_ne 11 dJ2_add_2_3 (by decide) (fun c3 => ?_) (fun c3 => ?_)
  · replace h := it_f c3 h
    refine V_sub [0, 1, 2, 3] rfl ?_
    exact v_J2_add_2_11 hst h
  · replace h := it_t c3 h
    refine V_aload_n (i := 0) 0 dJ2_add_2_6 rfl rfl ?_
    obtain ⟨e4, e5, h⟩ := bd_s h
    obtain ⟨b6, σ7, e8, h⟩ := bp_s h
    refine V_callV_v (n9 := 0) (c := 9) (r := (RJ2, TJ2, 3)) [] (v_J2_grow l G hst _ e8) rfl rfl (lw_V q176 q178 qs1 q80 q179) (by decide +kernel) (by decide) (Nat.le_of_ble_eq_true rfl) (gk_k e5 rfl) rfl dJ2_add_2_7 ?_
    refine V_astore_n (i := 2) (L' := [(2, pR b6), (0, pR a0), (1, pR a1), (3, pI x3)]) dJ2_add_2_10 rfl (by decide) rfl ?_
    refine V_sub [1, 2, 0, 3] rfl ?_
    exact v_J2_add_2_11 hst h

abbrev VV_J2_add (l : Launch) (G : Gx) (σ0 : Hp) (o : Oc) (σe : Hp) (Se : Ms) := V l G RJ2 cJ2_add 2 (some .boolean) [] false 6 190 σ0 o σe Se
def f_J2_add (σ : Hp) (a0 : Nat) (a1 : Nat) : Option (Int32 × Hp) :=
  bd (rdI σ 10 a0 100) fun y1 => bd (wrI σ 10 a0 100 (y1 + (1 : Int32))) fun σ3 => bd (rdR σ3 10 a0 101) fun b5 => bd (rdI σ3 10 a0 102) fun y7 => bd (gk σ3 10 a0) fun e9 => bp (f_J2_add_2 σ3 a0 a1 b5 y7) fun e11 σ12 => bd (okZ (1 : Int32)) fun e14 => some ((1 : Int32), σ12)
set_option maxHeartbeats 4000000 in
theorem v_J2_add (l : Launch) (G : Gx) (hst : l.stackTraces = false) (S : Ms) {σ σe : Hp} {a0 : Nat} {a1 : Nat} {r : Int32} (h : f_J2_add σ a0 a1 = some (r, σe)) : MT l G yJ2_add (ws_ yJ2_add cJ2_add 2 (some .boolean)) 6 190 [pR a0, pR a1] σ S (.inl (some (pI r))) σe S := by
  refine MT_of (own := RJ2) (nL := 2) (ini := false) (by decide +kernel) rfl (Nat.le_of_ble_eq_true rfl) (fun h => by cases h) hst ?_
  show VV_J2_add l G σ (.inl (some (pI r))) σe S 0 [(0, pR a0), (1, pR a1)] [] σ S
  unfold f_J2_add at h
  refine V_aload_n (i := 0) 0 dJ2_add_0 rfl rfl ?_
  refine V_dup dJ2_add_1 rfl ?_
  obtain ⟨y1, e2, h⟩ := bd_s h
  refine V_rdI gf_J2_63 rfl rfl rfl e2 dJ2_add_2 ?_
  refine V_iconst (v := 1) dJ2_add_5 (by decide) ?_
  refine V_iadd dJ2_add_6 ?_
  obtain ⟨σ3, e4, h⟩ := bd_s h
  refine V_wrI gw_J2_63 rfl rfl rfl e4 dJ2_add_7 ?_
  refine V_aload_n (i := 0) 0 dJ2_add_10 rfl rfl ?_
  refine V_aload_n (i := 1) 1 dJ2_add_11 rfl rfl ?_
  refine V_aload_n (i := 0) 0 dJ2_add_12 rfl rfl ?_
  obtain ⟨b5, e6, h⟩ := bd_s h
  refine V_rdR gf_J2_9 rfl rfl rfl e6 dJ2_add_13 ?_
  refine V_aload_n (i := 0) 0 dJ2_add_16 rfl rfl ?_
  obtain ⟨y7, e8, h⟩ := bd_s h
  refine V_rdI gf_J2_48 rfl rfl rfl e8 dJ2_add_17 ?_
  obtain ⟨e9, e10, h⟩ := bd_s h
  obtain ⟨e11, σ12, e13, h⟩ := bp_s h
  refine V_callV_0 (n9 := 3) (c := 9) (r := (RJ2, TJ2, 3)) [] (v_J2_add_2 l G hst _ e13) rfl rfl (lw_V q172 q174 qs0 q80 q175) (by decide +kernel) (by decide) (Nat.le_of_ble_eq_true rfl) (gk_k e10 rfl) rfl dJ2_add_20 ?_
  refine V_iconst (v := 1) dJ2_add_23 (by decide) ?_
  obtain ⟨e14, e15, h⟩ := bd_s h
  cases h
  exact V_retZ e15 rfl dJ2_add_24

abbrev VV_X2_init (l : Launch) (G : Gx) (σ0 : Hp) (o : Oc) (σe : Hp) (Se : Ms) := V l G RX2 cX2_init 2 none [] true 7 211 σ0 o σe Se
def f_X2_init_55_b (k55 : Hp → Int32 → Nat → Option (Unit × Hp)) (σ : Hp) (x1 : Int32) (a0 : Nat) : Option (Unit × Hp) :=
  if (3 : Int32) ≤ x1 then (some ((), σ)) else (bd (rdR σ 2 a0 21) fun b2 => bd (gz (nC σ 10 3) (hN σ)) fun e4 => bp (f_J2_init (nC σ 10 3) (hN σ)) fun e6 σ7 => bd (gk σ7 10 b2) fun e9 => bp (f_J2_add σ7 b2 (hN σ)) fun y11 σ12 => k55 σ12 (x1 + (1 : Int32)) a0)
set_option maxHeartbeats 4000000 in
theorem v_X2_init_55_b {l : Launch} {G : Gx} (hst : l.stackTraces = false) {σ0 σe : Hp} {Se : Ms} {r : Unit} {k55 : Hp → Int32 → Nat → Option (Unit × Hp)} (hk55 : ∀ (σ : Hp) (x1 : Int32) (a0 : Nat), k55 σ x1 a0 = some (r, σe) → VV_X2_init l G σ0 (.inl none) σe Se 55 [(1, pI x1), (0, pR a0)] [] σ Se) {σ : Hp} {x1 : Int32} {a0 : Nat} (h : f_X2_init_55_b k55 σ x1 a0 = some (r, σe)) : VV_X2_init l G σ0 (.inl none) σe Se 55 [(1, pI x1), (0, pR a0)] [] σ Se := by
  unfold f_X2_init_55_b at h
  refine V_iload_n (i := 1) 0 dX2_init_55 rfl rfl ?_
  refine V_iconst (v := 3) dX2_init_56 (by decide) ?_
  refine V_icmp_ge 81 dX2_init_57 (by decide) (fun c1 => ?_) (fun c1 => ?_)
  · replace h := it_t c1 h
    cases h
    exact V_vret rfl dX2_init_81
  · replace h := it_f c1 h
    refine V_aload_n (i := 0) 1 dX2_init_60 rfl rfl ?_
    obtain ⟨b2, e3, h⟩ := bd_s h
    refine V_rdR gf_X2_18 rfl rfl rfl e3 dX2_init_61 ?_
    refine V_new (n := 3) ci_9 (by decide +kernel) q139 q140 q80 dX2_init_64 ?_
    refine V_dup dX2_init_67 rfl ?_
    obtain ⟨e4, e5, h⟩ := bd_s h
    obtain ⟨e6, σ7, e8, h⟩ := bp_s h
    refine V_callI_0 (n9 := 0) [pR (hN σ), pR b2] (v_J2_init l G hst _ e8) rfl rfl q143 q80 q141 q142 rfl (by decide +kernel) (by decide) (Nat.le_of_ble_eq_true rfl) (gz_n e5) dX2_init_68 ?_
    obtain ⟨e9, e10, h⟩ := bd_s h
    obtain ⟨y11, σ12, e13, h⟩ := bp_s h
    refine V_callV_v (n9 := 1) (c := 9) (r := (RJ2, TJ2, 3)) [] (v_J2_add l G hst _ e13) rfl rfl (lw_V q168 q169 q170 q80 q171) (by decide +kernel) (by decide) (Nat.le_of_ble_eq_true rfl) (gk_k e10 rfl) rfl dX2_init_71 ?_
    refine V_pop dX2_init_74 rfl ?_
    refine V_iinc (v := (x1 + (1 : Int32))) (L' := [(1, pI (x1 + (1 : Int32))), (0, pR a0)]) 0 dX2_init_75 rfl rfl (by decide) rfl ?_
    refine V_goto 55 dX2_init_78 (by decide) ?_
    refine V_sub [0, 1] rfl ?_
    exact hk55 _ _ _ h
def f_X2_init_55 : Nat → Hp → Int32 → Nat → Option (Unit × Hp)
  | 0, _, _, _ => none
  | n + 1, σ, x1, a0 => f_X2_init_55_b (f_X2_init_55 n) σ x1 a0
theorem v_X2_init_55 {l : Launch} {G : Gx} (hst : l.stackTraces = false) {σ0 σe : Hp} {Se : Ms} {r : Unit} : ∀ (n : Nat) (σ : Hp) (x1 : Int32) (a0 : Nat), f_X2_init_55 n σ x1 a0 = some (r, σe) → VV_X2_init l G σ0 (.inl none) σe Se 55 [(1, pI x1), (0, pR a0)] [] σ Se
  | 0, _, _, _, h => by cases h
  | n + 1, _, _, _, h => v_X2_init_55_b hst (v_X2_init_55 hst n) h
def f_X2_init (σ : Hp) (a0 : Nat) : Option (Unit × Hp) :=
  bd (gz σ a0) fun e1 => bd (gz (nC σ 10 3) (hN σ)) fun e3 => bp (f_J2_init (nC σ 10 3) (hN σ)) fun e5 σ6 => bd (wrR σ6 2 a0 20 (hN σ)) fun σ8 => bd (gz (nC σ8 10 3) (hN σ8)) fun e10 => bp (f_J2_init (nC σ8 10 3) (hN σ8)) fun e12 σ13 => bd (wrR σ13 2 a0 21 (hN σ8)) fun σ15 => bd (nwA σ15 101 (4 : Int32)) fun σ17 => bd (stI σ17 101 (hN σ15) (0 : Int32) (10 : Int32)) fun σ19 => bd (stI σ19 101 (hN σ15) (1 : Int32) (300 : Int32)) fun σ21 => bd (stI σ21 101 (hN σ15) (2 : Int32) (3 : Int32)) fun σ23 => bd (stI σ23 101 (hN σ15) (3 : Int32) (40 : Int32)) fun σ25 => bd (wrR σ25 2 a0 22 (hN σ15)) fun σ27 => f_X2_init_55 FU σ27 (0 : Int32) a0
set_option maxHeartbeats 4000000 in
theorem v_X2_init (l : Launch) (G : Gx) (hst : l.stackTraces = false) (S : Ms) {σ σe : Hp} {a0 : Nat} {r : Unit} (h : f_X2_init σ a0 = some (r, σe)) : MT l G yX2_init (ws_ yX2_init cX2_init 2 none) 7 211 [pR a0] σ S (.inl none) σe S := by
  refine MT_of (own := RX2) (nL := 2) (ini := true) (by decide +kernel) rfl (Nat.le_of_ble_eq_true rfl) (fun h => rfl) hst ?_
  show VV_X2_init l G σ (.inl none) σe S 0 [(0, pR a0)] [] σ S
  unfold f_X2_init at h
  refine V_aload_n (i := 0) 0 dX2_init_0 rfl rfl ?_
  obtain ⟨e1, e2, h⟩ := bd_s h
  refine V_objInit (gz_n e2) q138 q131 q132 (by decide) (Nat.le_of_ble_eq_true rfl) dX2_init_1 ?_
  refine V_aload_n (i := 0) 0 dX2_init_4 rfl rfl ?_
  refine V_new (n := 3) ci_9 (by decide +kernel) q139 q140 q80 dX2_init_5 ?_
  refine V_dup dX2_init_8 rfl ?_
  obtain ⟨e3, e4, h⟩ := bd_s h
  obtain ⟨e5, σ6, e7, h⟩ := bp_s h
  refine V_callI_0 (n9 := 0) [pR (hN σ), pR a0] (v_J2_init l G hst _ e7) rfl rfl q143 q80 q141 q142 rfl (by decide +kernel) (by decide) (Nat.le_of_ble_eq_true rfl) (gz_n e4) dX2_init_9 ?_
  obtain ⟨σ8, e9, h⟩ := bd_s h
  refine V_wrRF gw_X2_12 rfl (okF_obj _ rfl) rfl rfl e9 dX2_init_12 ?_
  refine V_aload_n (i := 0) 0 dX2_init_15 rfl rfl ?_
  refine V_new (n := 3) ci_9 (by decide +kernel) q139 q140 q80 dX2_init_16 ?_
  refine V_dup dX2_init_19 rfl ?_
  obtain ⟨e10, e11, h⟩ := bd_s h
  obtain ⟨e12, σ13, e14, h⟩ := bp_s h
  refine V_callI_0 (n9 := 0) [pR (hN σ8), pR a0] (v_J2_init l G hst _ e14) rfl rfl q143 q80 q141 q142 rfl (by decide +kernel) (by decide) (Nat.le_of_ble_eq_true rfl) (gz_n e11) dX2_init_20 ?_
  obtain ⟨σ15, e16, h⟩ := bd_s h
  refine V_wrRF gw_X2_18 rfl (okF_obj _ rfl) rfl rfl e16 dX2_init_23 ?_
  refine V_aload_n (i := 0) 0 dX2_init_26 rfl rfl ?_
  refine V_iconst (v := 4) dX2_init_27 (by decide) ?_
  obtain ⟨σ17, e18, h⟩ := bd_s h
  refine V_nwA (t := 1) e18 rfl (by decide) q272 dX2_init_28 ?_
  refine V_dup dX2_init_30 rfl ?_
  refine V_iconst (v := 0) dX2_init_31 (by decide) ?_
  refine V_bipush (v := 10) dX2_init_32 (by decide) ?_
  obtain ⟨σ19, e20, h⟩ := bd_s h
  refine V_stI1 e20 dX2_init_34 ?_
  refine V_dup dX2_init_35 rfl ?_
  refine V_iconst (v := 1) dX2_init_36 (by decide) ?_
  refine V_sipush (v := 300) dX2_init_37 (by decide) ?_
  obtain ⟨σ21, e22, h⟩ := bd_s h
  refine V_stI1 e22 dX2_init_40 ?_
  refine V_dup dX2_init_41 rfl ?_
  refine V_iconst (v := 2) dX2_init_42 (by decide) ?_
  refine V_iconst (v := 3) dX2_init_43 (by decide) ?_
  obtain ⟨σ23, e24, h⟩ := bd_s h
  refine V_stI1 e24 dX2_init_44 ?_
  refine V_dup dX2_init_45 rfl ?_
  refine V_iconst (v := 3) dX2_init_46 (by decide) ?_
  refine V_bipush (v := 40) dX2_init_47 (by decide) ?_
  obtain ⟨σ25, e26, h⟩ := bd_s h
  refine V_stI1 e26 dX2_init_49 ?_
  obtain ⟨σ27, e28, h⟩ := bd_s h
  refine V_wrRF gw_X2_21 rfl (okF_arr _ rfl) rfl rfl e28 dX2_init_50 ?_
  refine V_iconst (v := 0) dX2_init_53 (by decide) ?_
  refine V_istore_n (i := 1) (L' := [(1, pI (0 : Int32)), (0, pR a0)]) dX2_init_54 rfl (by decide) rfl ?_
  refine V_sub [0, 1] rfl ?_
  exact v_X2_init_55 hst FU _ _ _ h

abbrev VV_X2_numberOf (l : Launch) (G : Gx) (σ0 : Hp) (o : Oc) (σe : Hp) (Se : Ms) := V l G RX2 cX2_numberOf 3 (some .int) [] false 4 94 σ0 o σe Se
def f_X2_numberOf_2_b (k2 : Hp → Int32 → Nat → Nat → Option (Int32 × Hp)) (σ : Hp) (x2 : Int32) (a0 : Nat) (a1 : Nat) : Option (Int32 × Hp) :=
  bd (rdR σ 2 a0 20) fun b1 => bd (gk σ 10 b1) fun e3 => bp (f_J2_size σ b1) fun y5 σ6 => if y5 ≤ x2 then (some ((-1 : Int32), σ6)) else (bd (rdR σ6 2 a0 20) fun b9 => bd (gk σ6 10 b9) fun e11 => bp (f_J2_get σ6 b9 x2) fun b13 σ14 => if b13 = a1 then (some (x2, σ14)) else (k2 σ14 (x2 + (1 : Int32)) a0 a1))
set_option maxHeartbeats 4000000 in
theorem v_X2_numberOf_2_b {l : Launch} {G : Gx} (hst : l.stackTraces = false) {σ0 σe : Hp} {Se : Ms} {r : Int32} {k2 : Hp → Int32 → Nat → Nat → Option (Int32 × Hp)} (hk2 : ∀ (σ : Hp) (x2 : Int32) (a0 : Nat) (a1 : Nat), k2 σ x2 a0 a1 = some (r, σe) → VV_X2_numberOf l G σ0 (.inl (some (pI r))) σe Se 2 [(2, pI x2), (0, pR a0), (1, pR a1)] [] σ Se) {σ : Hp} {x2 : Int32} {a0 : Nat} {a1 : Nat} (h : f_X2_numberOf_2_b k2 σ x2 a0 a1 = some (r, σe)) : VV_X2_numberOf l G σ0 (.inl (some (pI r))) σe Se 2 [(2, pI x2), (0, pR a0), (1, pR a1)] [] σ Se := by
  unfold f_X2_numberOf_2_b at h
  refine V_iload_n (i := 2) 0 dX2_numberOf_2 rfl rfl ?_
  refine V_aload_n (i := 0) 1 dX2_numberOf_3 rfl rfl ?_
  obtain ⟨b1, e2, h⟩ := bd_s h
  refine V_rdR gf_X2_12 rfl rfl rfl e2 dX2_numberOf_4 ?_
  obtain ⟨e3, e4, h⟩ := bd_s h
  obtain ⟨y5, σ6, e7, h⟩ := bp_s h
  refine V_callV_v (n9 := 0) (c := 9) (r := (RJ2, TJ2, 3)) [pI x2] (v_J2_size l G hst _ e7) rfl rfl (lw_V q935 q861 q862 q80 q863) (by decide +kernel) (by decide) (Nat.le_of_ble_eq_true rfl) (gk_k e4 rfl) rfl dX2_numberOf_7 ?_
  refine V_icmp_ge 33 dX2_numberOf_10 (by decide) (fun c8 => ?_) (fun c8 => ?_)
  · replace h := it_t c8 h
    refine V_iconst (v := (-1)) dX2_numberOf_33 (by decide) ?_
    cases h
    exact V_iret rfl dX2_numberOf_34
  · replace h := it_f c8 h
    refine V_aload_n (i := 0) 1 dX2_numberOf_13 rfl rfl ?_
    obtain ⟨b9, e10, h⟩ := bd_s h
    refine V_rdR gf_X2_12 rfl rfl rfl e10 dX2_numberOf_14 ?_
    refine V_iload_n (i := 2) 0 dX2_numberOf_17 rfl rfl ?_
    obtain ⟨e11, e12, h⟩ := bd_s h
    obtain ⟨b13, σ14, e15, h⟩ := bp_s h
    refine V_callV_v (n9 := 1) (c := 9) (r := (RJ2, TJ2, 3)) [] (v_J2_get l G hst _ e15) rfl rfl (lw_V q936 q937 q938 q80 q939) (by decide +kernel) (by decide) (Nat.le_of_ble_eq_true rfl) (gk_k e12 rfl) rfl dX2_numberOf_18 ?_
    refine V_aload_n (i := 1) 2 dX2_numberOf_21 rfl rfl ?_
    refine V_acmp_ne 27 dX2_numberOf_22 (by decide) (fun c16 => ?_) (fun c16 => ?_)
    · replace h := it_f c16 h
      refine V_iinc (v := (x2 + (1 : Int32))) (L' := [(2, pI (x2 + (1 : Int32))), (0, pR a0), (1, pR a1)]) 0 dX2_numberOf_27 rfl rfl (by decide) rfl ?_
      refine V_goto 2 dX2_numberOf_30 (by decide) ?_
      refine V_sub [0, 1, 2] rfl ?_
      exact hk2 _ _ _ _ h
    · replace h := it_t c16 h
      refine V_iload_n (i := 2) 0 dX2_numberOf_25 rfl rfl ?_
      cases h
      exact V_iret rfl dX2_numberOf_26
def f_X2_numberOf_2 : Nat → Hp → Int32 → Nat → Nat → Option (Int32 × Hp)
  | 0, _, _, _, _ => none
  | n + 1, σ, x2, a0, a1 => f_X2_numberOf_2_b (f_X2_numberOf_2 n) σ x2 a0 a1
theorem v_X2_numberOf_2 {l : Launch} {G : Gx} (hst : l.stackTraces = false) {σ0 σe : Hp} {Se : Ms} {r : Int32} : ∀ (n : Nat) (σ : Hp) (x2 : Int32) (a0 : Nat) (a1 : Nat), f_X2_numberOf_2 n σ x2 a0 a1 = some (r, σe) → VV_X2_numberOf l G σ0 (.inl (some (pI r))) σe Se 2 [(2, pI x2), (0, pR a0), (1, pR a1)] [] σ Se
  | 0, _, _, _, _, h => by cases h
  | n + 1, _, _, _, _, h => v_X2_numberOf_2_b hst (v_X2_numberOf_2 hst n) h
def f_X2_numberOf (σ : Hp) (a0 : Nat) (a1 : Nat) : Option (Int32 × Hp) :=
  f_X2_numberOf_2 FU σ (0 : Int32) a0 a1
set_option maxHeartbeats 4000000 in
theorem v_X2_numberOf (l : Launch) (G : Gx) (hst : l.stackTraces = false) (S : Ms) {σ σe : Hp} {a0 : Nat} {a1 : Nat} {r : Int32} (h : f_X2_numberOf σ a0 a1 = some (r, σe)) : MT l G yX2_numberOf (ws_ yX2_numberOf cX2_numberOf 3 (some .int)) 4 94 [pR a0, pR a1] σ S (.inl (some (pI r))) σe S := by
  refine MT_of (own := RX2) (nL := 3) (ini := false) (by decide +kernel) rfl (Nat.le_of_ble_eq_true rfl) (fun h => by cases h) hst ?_
  show VV_X2_numberOf l G σ (.inl (some (pI r))) σe S 0 [(0, pR a0), (1, pR a1)] [] σ S
  unfold f_X2_numberOf at h
  refine V_iconst (v := 0) dX2_numberOf_0 (by decide) ?_
  refine V_istore_n (i := 2) (L' := [(2, pI (0 : Int32)), (0, pR a0), (1, pR a1)]) dX2_numberOf_1 rfl (by decide) rfl ?_
  refine V_sub [0, 1, 2] rfl ?_
  exact v_X2_numberOf_2 hst FU _ _ _ _ h

abbrev VV_X2_copy (l : Launch) (G : Gx) (σ0 : Hp) (o : Oc) (σe : Hp) (Se : Ms) := V l G RX2 cX2_copy 4 (some (.object "GaugeBlocks$State")) [] false 8 232 σ0 o σe Se
def f_X2_copy_137_b (k137 : Hp → Int32 → Nat → Nat → Option (Nat × Hp)) (σ : Hp) (x2 : Int32) (a1 : Nat) (a0 : Nat) : Option (Nat × Hp) :=
  if (4 : Int32) ≤ x2 then (bd (rdI σ 2 a0 23) fun y2 => bd (wrI σ 2 a1 23 y2) fun σ4 => bd (rdI σ4 2 a0 24) fun y6 => bd (wrI σ4 2 a1 24 y6) fun σ8 => bd (rdI σ8 2 a0 25) fun y10 => bd (wrI σ8 2 a1 25 y10) fun σ12 => bd (rdI σ12 2 a0 26) fun y14 => bd (wrI σ12 2 a1 26 y14) fun σ16 => some (a1, σ16)) else (bd (rdR σ 2 a1 22) fun b18 => bd (rdR σ 2 a0 22) fun b20 => bd (elI σ 101 b20 x2) fun y22 => bd (stI σ 101 b18 x2 y22) fun σ24 => k137 σ24 (x2 + (1 : Int32)) a1 a0)
set_option maxHeartbeats 4000000 in
theorem v_X2_copy_137_b {l : Launch} {G : Gx} (hst : l.stackTraces = false) {σ0 σe : Hp} {Se : Ms} {r : Nat} {k137 : Hp → Int32 → Nat → Nat → Option (Nat × Hp)} (hk137 : ∀ (σ : Hp) (x2 : Int32) (a1 : Nat) (a0 : Nat), k137 σ x2 a1 a0 = some (r, σe) → VV_X2_copy l G σ0 (.inl (some (pR r))) σe Se 137 [(2, pI x2), (1, pR a1), (0, pR a0)] [] σ Se) {σ : Hp} {x2 : Int32} {a1 : Nat} {a0 : Nat} (h : f_X2_copy_137_b k137 σ x2 a1 a0 = some (r, σe)) : VV_X2_copy l G σ0 (.inl (some (pR r))) σe Se 137 [(2, pI x2), (1, pR a1), (0, pR a0)] [] σ Se := by
  unfold f_X2_copy_137_b at h
  refine V_iload_n (i := 2) 0 dX2_copy_137 rfl rfl ?_
  refine V_iconst (v := 4) dX2_copy_138 (by decide) ?_
  refine V_icmp_ge 160 dX2_copy_139 (by decide) (fun c1 => ?_) (fun c1 => ?_)
  · replace h := it_t c1 h
    refine V_aload_n (i := 1) 1 dX2_copy_160 rfl rfl ?_
    refine V_aload_n (i := 0) 2 dX2_copy_161 rfl rfl ?_
    obtain ⟨y2, e3, h⟩ := bd_s h
    refine V_rdI gf_X2_48 rfl rfl rfl e3 dX2_copy_162 ?_
    obtain ⟨σ4, e5, h⟩ := bd_s h
    refine V_wrI gw_X2_48 rfl rfl rfl e5 dX2_copy_165 ?_
    refine V_aload_n (i := 1) 1 dX2_copy_168 rfl rfl ?_
    refine V_aload_n (i := 0) 2 dX2_copy_169 rfl rfl ?_
    obtain ⟨y6, e7, h⟩ := bd_s h
    refine V_rdI gf_X2_52 rfl rfl rfl e7 dX2_copy_170 ?_
    obtain ⟨σ8, e9, h⟩ := bd_s h
    refine V_wrI gw_X2_52 rfl rfl rfl e9 dX2_copy_173 ?_
    refine V_aload_n (i := 1) 1 dX2_copy_176 rfl rfl ?_
    refine V_aload_n (i := 0) 2 dX2_copy_177 rfl rfl ?_
    obtain ⟨y10, e11, h⟩ := bd_s h
    refine V_rdI gf_X2_55 rfl rfl rfl e11 dX2_copy_178 ?_
    obtain ⟨σ12, e13, h⟩ := bd_s h
    refine V_wrI gw_X2_55 rfl rfl rfl e13 dX2_copy_181 ?_
    refine V_aload_n (i := 1) 1 dX2_copy_184 rfl rfl ?_
    refine V_aload_n (i := 0) 2 dX2_copy_185 rfl rfl ?_
    obtain ⟨y14, e15, h⟩ := bd_s h
    refine V_rdI gf_X2_58 rfl rfl rfl e15 dX2_copy_186 ?_
    obtain ⟨σ16, e17, h⟩ := bd_s h
    refine V_wrI gw_X2_58 rfl rfl rfl e17 dX2_copy_189 ?_
    refine V_aload_n (i := 1) 1 dX2_copy_192 rfl rfl ?_
    cases h
    exact V_aret rfl (Or.inl ⟨_, rfl⟩) dX2_copy_193
  · replace h := it_f c1 h
    refine V_aload_n (i := 1) 1 dX2_copy_142 rfl rfl ?_
    obtain ⟨b18, e19, h⟩ := bd_s h
    refine V_rdR gf_X2_21 rfl rfl rfl e19 dX2_copy_143 ?_
    refine V_iload_n (i := 2) 0 dX2_copy_146 rfl rfl ?_
    refine V_aload_n (i := 0) 2 dX2_copy_147 rfl rfl ?_
    obtain ⟨b20, e21, h⟩ := bd_s h
    refine V_rdR gf_X2_21 rfl rfl rfl e21 dX2_copy_148 ?_
    refine V_iload_n (i := 2) 0 dX2_copy_151 rfl rfl ?_
    obtain ⟨y22, e23, h⟩ := bd_s h
    refine V_elI1 e23 dX2_copy_152 ?_
    obtain ⟨σ24, e25, h⟩ := bd_s h
    refine V_stI1 e25 dX2_copy_153 ?_
    refine V_iinc (v := (x2 + (1 : Int32))) (L' := [(2, pI (x2 + (1 : Int32))), (1, pR a1), (0, pR a0)]) 0 dX2_copy_154 rfl rfl (by decide) rfl ?_
    refine V_goto 137 dX2_copy_157 (by decide) ?_
    refine V_sub [0, 1, 2] rfl ?_
    exact hk137 _ _ _ _ h
def f_X2_copy_137 : Nat → Hp → Int32 → Nat → Nat → Option (Nat × Hp)
  | 0, _, _, _, _ => none
  | n + 1, σ, x2, a1, a0 => f_X2_copy_137_b (f_X2_copy_137 n) σ x2 a1 a0
theorem v_X2_copy_137 {l : Launch} {G : Gx} (hst : l.stackTraces = false) {σ0 σe : Hp} {Se : Ms} {r : Nat} : ∀ (n : Nat) (σ : Hp) (x2 : Int32) (a1 : Nat) (a0 : Nat), f_X2_copy_137 n σ x2 a1 a0 = some (r, σe) → VV_X2_copy l G σ0 (.inl (some (pR r))) σe Se 137 [(2, pI x2), (1, pR a1), (0, pR a0)] [] σ Se
  | 0, _, _, _, _, h => by cases h
  | n + 1, _, _, _, _, h => v_X2_copy_137_b hst (v_X2_copy_137 hst n) h
def f_X2_copy_58_b (k51 : Hp → Int32 → Nat → Nat → Option (Nat × Hp)) (k58 : Hp → Int32 → Int32 → Nat → Nat → Option (Nat × Hp)) (σ : Hp) (x3 : Int32) (x2 : Int32) (a1 : Nat) (a0 : Nat) : Option (Nat × Hp) :=
  bd (rdR σ 2 a0 21) fun b1 => bd (gk σ 10 b1) fun e3 => bp (f_J2_get σ b1 x2) fun b5 σ6 => bd (ckC σ6 10 b5) fun e8 => bd (gk σ6 10 b5) fun e10 => bp (f_J2_size σ6 b5) fun y12 σ13 => if y12 ≤ x3 then (k51 σ13 (x2 + (1 : Int32)) a1 a0) else (bd (rdR σ13 2 a1 21) fun b16 => bd (gk σ13 10 b16) fun e18 => bp (f_J2_get σ13 b16 x2) fun b20 σ21 => bd (ckC σ21 10 b20) fun e23 => bd (rdR σ21 2 a1 20) fun b25 => bd (rdR σ21 2 a0 21) fun b27 => bd (gk σ21 10 b27) fun e29 => bp (f_J2_get σ21 b27 x2) fun b31 σ32 => bd (ckC σ32 10 b31) fun e34 => bd (gk σ32 10 b31) fun e36 => bp (f_J2_get σ32 b31 x3) fun b38 σ39 => bd (ckC σ39 3 b38) fun e41 => bd (gk σ39 2 a0) fun e43 => bp (f_X2_numberOf σ39 a0 b38) fun y45 σ46 => bd (gk σ46 10 b25) fun e48 => bp (f_J2_get σ46 b25 y45) fun b50 σ51 => bd (ckC σ51 3 b50) fun e53 => bd (gk σ51 10 b20) fun e55 => bp (f_J2_add σ51 b20 b50) fun y57 σ58 => k58 σ58 (x3 + (1 : Int32)) x2 a1 a0)
set_option maxHeartbeats 4000000 in
theorem v_X2_copy_58_b {l : Launch} {G : Gx} (hst : l.stackTraces = false) {σ0 σe : Hp} {Se : Ms} {r : Nat} {k51 : Hp → Int32 → Nat → Nat → Option (Nat × Hp)} {k58 : Hp → Int32 → Int32 → Nat → Nat → Option (Nat × Hp)} (hk51 : ∀ (σ : Hp) (x2 : Int32) (a1 : Nat) (a0 : Nat), k51 σ x2 a1 a0 = some (r, σe) → VV_X2_copy l G σ0 (.inl (some (pR r))) σe Se 51 [(2, pI x2), (1, pR a1), (0, pR a0)] [] σ Se) (hk58 : ∀ (σ : Hp) (x3 : Int32) (x2 : Int32) (a1 : Nat) (a0 : Nat), k58 σ x3 x2 a1 a0 = some (r, σe) → VV_X2_copy l G σ0 (.inl (some (pR r))) σe Se 58 [(3, pI x3), (2, pI x2), (1, pR a1), (0, pR a0)] [] σ Se) {σ : Hp} {x3 : Int32} {x2 : Int32} {a1 : Nat} {a0 : Nat} (h : f_X2_copy_58_b k51 k58 σ x3 x2 a1 a0 = some (r, σe)) : VV_X2_copy l G σ0 (.inl (some (pR r))) σe Se 58 [(3, pI x3), (2, pI x2), (1, pR a1), (0, pR a0)] [] σ Se := by
  unfold f_X2_copy_58_b at h
  refine V_iload_n (i := 3) 0 dX2_copy_58 rfl rfl ?_
  refine V_aload_n (i := 0) 3 dX2_copy_59 rfl rfl ?_
  obtain ⟨b1, e2, h⟩ := bd_s h
  refine V_rdR gf_X2_18 rfl rfl rfl e2 dX2_copy_60 ?_
  refine V_iload_n (i := 2) 1 dX2_copy_63 rfl rfl ?_
  obtain ⟨e3, e4, h⟩ := bd_s h
  obtain ⟨b5, σ6, e7, h⟩ := bp_s h
  refine V_callV_v (n9 := 1) (c := 9) (r := (RJ2, TJ2, 3)) [pI x3] (v_J2_get l G hst _ e7) rfl rfl (lw_V q936 q937 q938 q80 q939) (by decide +kernel) (by decide) (Nat.le_of_ble_eq_true rfl) (gk_k e4 rfl) rfl dX2_copy_64 ?_
  obtain ⟨e8, e9, h⟩ := bd_s h
  refine V_ckC (c := 9) e9 q139 rfl (Or.inl rfl) dX2_copy_67 ?_
  obtain ⟨e10, e11, h⟩ := bd_s h
  obtain ⟨y12, σ13, e14, h⟩ := bp_s h
  refine V_callV_v (n9 := 0) (c := 9) (r := (RJ2, TJ2, 3)) [pI x3] (v_J2_size l G hst _ e14) rfl rfl (lw_V q935 q861 q862 q80 q863) (by decide +kernel) (by decide) (Nat.le_of_ble_eq_true rfl) (gk_k e11 rfl) rfl dX2_copy_70 ?_
  refine V_icmp_ge 129 dX2_copy_73 (by decide) (fun c15 => ?_) (fun c15 => ?_)
  · replace h := it_t c15 h
    refine V_iinc (v := (x2 + (1 : Int32))) (L' := [(2, pI (x2 + (1 : Int32))), (3, pI x3), (1, pR a1), (0, pR a0)]) 1 dX2_copy_129 rfl rfl (by decide) rfl ?_
    refine V_goto 51 dX2_copy_132 (by decide) ?_
    refine V_sub [0, 2, 3] rfl ?_
    exact hk51 _ _ _ _ h
  · replace h := it_f c15 h
    refine V_aload_n (i := 1) 2 dX2_copy_76 rfl rfl ?_
    obtain ⟨b16, e17, h⟩ := bd_s h
    refine V_rdR gf_X2_18 rfl rfl rfl e17 dX2_copy_77 ?_
    refine V_iload_n (i := 2) 1 dX2_copy_80 rfl rfl ?_
    obtain ⟨e18, e19, h⟩ := bd_s h
    obtain ⟨b20, σ21, e22, h⟩ := bp_s h
    refine V_callV_v (n9 := 1) (c := 9) (r := (RJ2, TJ2, 3)) [] (v_J2_get l G hst _ e22) rfl rfl (lw_V q936 q937 q938 q80 q939) (by decide +kernel) (by decide) (Nat.le_of_ble_eq_true rfl) (gk_k e19 rfl) rfl dX2_copy_81 ?_
    obtain ⟨e23, e24, h⟩ := bd_s h
    refine V_ckC (c := 9) e24 q139 rfl (Or.inl rfl) dX2_copy_84 ?_
    refine V_aload_n (i := 1) 2 dX2_copy_87 rfl rfl ?_
    obtain ⟨b25, e26, h⟩ := bd_s h
    refine V_rdR gf_X2_12 rfl rfl rfl e26 dX2_copy_88 ?_
    refine V_aload_n (i := 0) 3 dX2_copy_91 rfl rfl ?_
    refine V_aload_n (i := 0) 3 dX2_copy_92 rfl rfl ?_
    obtain ⟨b27, e28, h⟩ := bd_s h
    refine V_rdR gf_X2_18 rfl rfl rfl e28 dX2_copy_93 ?_
    refine V_iload_n (i := 2) 1 dX2_copy_96 rfl rfl ?_
    obtain ⟨e29, e30, h⟩ := bd_s h
    obtain ⟨b31, σ32, e33, h⟩ := bp_s h
    refine V_callV_v (n9 := 1) (c := 9) (r := (RJ2, TJ2, 3)) [pR a0, pR b25, pR b20] (v_J2_get l G hst _ e33) rfl rfl (lw_V q936 q937 q938 q80 q939) (by decide +kernel) (by decide) (Nat.le_of_ble_eq_true rfl) (gk_k e30 rfl) rfl dX2_copy_97 ?_
    obtain ⟨e34, e35, h⟩ := bd_s h
    refine V_ckC (c := 9) e35 q139 rfl (Or.inl rfl) dX2_copy_100 ?_
    refine V_iload_n (i := 3) 0 dX2_copy_103 rfl rfl ?_
    obtain ⟨e36, e37, h⟩ := bd_s h
    obtain ⟨b38, σ39, e40, h⟩ := bp_s h
    refine V_callV_v (n9 := 1) (c := 9) (r := (RJ2, TJ2, 3)) [pR a0, pR b25, pR b20] (v_J2_get l G hst _ e40) rfl rfl (lw_V q936 q937 q938 q80 q939) (by decide +kernel) (by decide) (Nat.le_of_ble_eq_true rfl) (gk_k e37 rfl) rfl dX2_copy_104 ?_
    obtain ⟨e41, e42, h⟩ := bd_s h
    refine V_ckC (c := 2) e42 q948 rfl (Or.inl rfl) dX2_copy_107 ?_
    obtain ⟨e43, e44, h⟩ := bd_s h
    obtain ⟨y45, σ46, e47, h⟩ := bp_s h
    refine V_callV_v (n9 := 1) (c := 1) (r := (RX2, TX2, 7)) [pR b25, pR b20] (v_X2_numberOf l G hst _ e47) rfl rfl (lw_V q991 q992 q993 q77 q994) (by decide +kernel) (by decide) (Nat.le_of_ble_eq_true rfl) (gk_k e44 rfl) rfl dX2_copy_110 ?_
    obtain ⟨e48, e49, h⟩ := bd_s h
    obtain ⟨b50, σ51, e52, h⟩ := bp_s h
    refine V_callV_v (n9 := 1) (c := 9) (r := (RJ2, TJ2, 3)) [pR b20] (v_J2_get l G hst _ e52) rfl rfl (lw_V q936 q937 q938 q80 q939) (by decide +kernel) (by decide) (Nat.le_of_ble_eq_true rfl) (gk_k e49 rfl) rfl dX2_copy_113 ?_
    obtain ⟨e53, e54, h⟩ := bd_s h
    refine V_ckC (c := 2) e54 q948 rfl (Or.inl rfl) dX2_copy_116 ?_
    obtain ⟨e55, e56, h⟩ := bd_s h
    obtain ⟨y57, σ58, e59, h⟩ := bp_s h
    refine V_callV_v (n9 := 1) (c := 9) (r := (RJ2, TJ2, 3)) [] (v_J2_add l G hst _ e59) rfl rfl (lw_V q168 q169 q170 q80 q171) (by decide +kernel) (by decide) (Nat.le_of_ble_eq_true rfl) (gk_k e56 rfl) rfl dX2_copy_119 ?_
    refine V_pop dX2_copy_122 rfl ?_
    refine V_iinc (v := (x3 + (1 : Int32))) (L' := [(3, pI (x3 + (1 : Int32))), (2, pI x2), (1, pR a1), (0, pR a0)]) 0 dX2_copy_123 rfl rfl (by decide) rfl ?_
    refine V_goto 58 dX2_copy_126 (by decide) ?_
    refine V_sub [0, 1, 2, 3] rfl ?_
    exact hk58 _ _ _ _ _ h
def f_X2_copy_58 (k51 : Hp → Int32 → Nat → Nat → Option (Nat × Hp)) : Nat → Hp → Int32 → Int32 → Nat → Nat → Option (Nat × Hp)
  | 0, _, _, _, _, _ => none
  | n + 1, σ, x3, x2, a1, a0 => f_X2_copy_58_b k51 (f_X2_copy_58 k51 n) σ x3 x2 a1 a0
theorem v_X2_copy_58 {l : Launch} {G : Gx} (hst : l.stackTraces = false) {σ0 σe : Hp} {Se : Ms} {r : Nat} {k51 : Hp → Int32 → Nat → Nat → Option (Nat × Hp)} (hk51 : ∀ (σ : Hp) (x2 : Int32) (a1 : Nat) (a0 : Nat), k51 σ x2 a1 a0 = some (r, σe) → VV_X2_copy l G σ0 (.inl (some (pR r))) σe Se 51 [(2, pI x2), (1, pR a1), (0, pR a0)] [] σ Se) : ∀ (n : Nat) (σ : Hp) (x3 : Int32) (x2 : Int32) (a1 : Nat) (a0 : Nat), f_X2_copy_58 k51 n σ x3 x2 a1 a0 = some (r, σe) → VV_X2_copy l G σ0 (.inl (some (pR r))) σe Se 58 [(3, pI x3), (2, pI x2), (1, pR a1), (0, pR a0)] [] σ Se
  | 0, _, _, _, _, _, h => by cases h
  | n + 1, _, _, _, _, _, h => v_X2_copy_58_b hst hk51 (v_X2_copy_58 hst hk51 n) h
def f_X2_copy_51_b (k51 : Hp → Int32 → Nat → Nat → Option (Nat × Hp)) (σ : Hp) (x2 : Int32) (a1 : Nat) (a0 : Nat) : Option (Nat × Hp) :=
  if (3 : Int32) ≤ x2 then (f_X2_copy_137 FU σ (0 : Int32) a1 a0) else (f_X2_copy_58 k51 FU σ (0 : Int32) x2 a1 a0)
set_option maxHeartbeats 4000000 in
theorem v_X2_copy_51_b {l : Launch} {G : Gx} (hst : l.stackTraces = false) {σ0 σe : Hp} {Se : Ms} {r : Nat} {k51 : Hp → Int32 → Nat → Nat → Option (Nat × Hp)} (hk51 : ∀ (σ : Hp) (x2 : Int32) (a1 : Nat) (a0 : Nat), k51 σ x2 a1 a0 = some (r, σe) → VV_X2_copy l G σ0 (.inl (some (pR r))) σe Se 51 [(2, pI x2), (1, pR a1), (0, pR a0)] [] σ Se) {σ : Hp} {x2 : Int32} {a1 : Nat} {a0 : Nat} (h : f_X2_copy_51_b k51 σ x2 a1 a0 = some (r, σe)) : VV_X2_copy l G σ0 (.inl (some (pR r))) σe Se 51 [(2, pI x2), (1, pR a1), (0, pR a0)] [] σ Se := by
  unfold f_X2_copy_51_b at h
  refine V_iload_n (i := 2) 0 dX2_copy_51 rfl rfl ?_
  refine V_iconst (v := 3) dX2_copy_52 (by decide) ?_
  refine V_icmp_ge 135 dX2_copy_53 (by decide) (fun c1 => ?_) (fun c1 => ?_)
  · replace h := it_t c1 h
    refine V_iconst (v := 0) dX2_copy_135 (by decide) ?_
    refine V_istore_n (i := 2) (L' := [(2, pI (0 : Int32)), (1, pR a1), (0, pR a0)]) dX2_copy_136 rfl (by decide) rfl ?_
    refine V_sub [0, 1, 2] rfl ?_
    exact v_X2_copy_137 hst FU _ _ _ _ h
  · replace h := it_f c1 h
    refine V_iconst (v := 0) dX2_copy_56 (by decide) ?_
    refine V_istore_n (i := 3) (L' := [(3, pI (0 : Int32)), (2, pI x2), (1, pR a1), (0, pR a0)]) dX2_copy_57 rfl (by decide) rfl ?_
    refine V_sub [0, 1, 2, 3] rfl ?_
    exact v_X2_copy_58 hst hk51 FU _ _ _ _ _ h
def f_X2_copy_51 : Nat → Hp → Int32 → Nat → Nat → Option (Nat × Hp)
  | 0, _, _, _, _ => none
  | n + 1, σ, x2, a1, a0 => f_X2_copy_51_b (f_X2_copy_51 n) σ x2 a1 a0
theorem v_X2_copy_51 {l : Launch} {G : Gx} (hst : l.stackTraces = false) {σ0 σe : Hp} {Se : Ms} {r : Nat} : ∀ (n : Nat) (σ : Hp) (x2 : Int32) (a1 : Nat) (a0 : Nat), f_X2_copy_51 n σ x2 a1 a0 = some (r, σe) → VV_X2_copy l G σ0 (.inl (some (pR r))) σe Se 51 [(2, pI x2), (1, pR a1), (0, pR a0)] [] σ Se
  | 0, _, _, _, _, h => by cases h
  | n + 1, _, _, _, _, h => v_X2_copy_51_b hst (v_X2_copy_51 hst n) h
def f_X2_copy_10_b (k10 : Hp → Int32 → Nat → Nat → Option (Nat × Hp)) (σ : Hp) (x2 : Int32) (a1 : Nat) (a0 : Nat) : Option (Nat × Hp) :=
  bd (rdR σ 2 a0 20) fun b1 => bd (gk σ 10 b1) fun e3 => bp (f_J2_size σ b1) fun y5 σ6 => if y5 ≤ x2 then (f_X2_copy_51 FU σ6 (0 : Int32) a1 a0) else (bd (rdR σ6 2 a1 20) fun b9 => bd (rdR σ6 2 a0 20) fun b11 => bd (gk σ6 10 b11) fun e13 => bp (f_J2_get σ6 b11 x2) fun b15 σ16 => bd (ckC σ16 3 b15) fun e18 => bd (gk σ16 3 b15) fun e20 => bp (f_X4_copy σ16 b15) fun b22 σ23 => bd (gk σ23 10 b9) fun e25 => bp (f_J2_add σ23 b9 b22) fun y27 σ28 => k10 σ28 (x2 + (1 : Int32)) a1 a0)
set_option maxHeartbeats 4000000 in
theorem v_X2_copy_10_b {l : Launch} {G : Gx} (hst : l.stackTraces = false) {σ0 σe : Hp} {Se : Ms} {r : Nat} {k10 : Hp → Int32 → Nat → Nat → Option (Nat × Hp)} (hk10 : ∀ (σ : Hp) (x2 : Int32) (a1 : Nat) (a0 : Nat), k10 σ x2 a1 a0 = some (r, σe) → VV_X2_copy l G σ0 (.inl (some (pR r))) σe Se 10 [(2, pI x2), (1, pR a1), (0, pR a0)] [] σ Se) {σ : Hp} {x2 : Int32} {a1 : Nat} {a0 : Nat} (h : f_X2_copy_10_b k10 σ x2 a1 a0 = some (r, σe)) : VV_X2_copy l G σ0 (.inl (some (pR r))) σe Se 10 [(2, pI x2), (1, pR a1), (0, pR a0)] [] σ Se := by
  unfold f_X2_copy_10_b at h
  refine V_iload_n (i := 2) 0 dX2_copy_10 rfl rfl ?_
  refine V_aload_n (i := 0) 2 dX2_copy_11 rfl rfl ?_
  obtain ⟨b1, e2, h⟩ := bd_s h
  refine V_rdR gf_X2_12 rfl rfl rfl e2 dX2_copy_12 ?_
  obtain ⟨e3, e4, h⟩ := bd_s h
  obtain ⟨y5, σ6, e7, h⟩ := bp_s h
  refine V_callV_v (n9 := 0) (c := 9) (r := (RJ2, TJ2, 3)) [pI x2] (v_J2_size l G hst _ e7) rfl rfl (lw_V q935 q861 q862 q80 q863) (by decide +kernel) (by decide) (Nat.le_of_ble_eq_true rfl) (gk_k e4 rfl) rfl dX2_copy_15 ?_
  refine V_icmp_ge 49 dX2_copy_18 (by decide) (fun c8 => ?_) (fun c8 => ?_)
  · replace h := it_t c8 h
    refine V_iconst (v := 0) dX2_copy_49 (by decide) ?_
    refine V_istore_n (i := 2) (L' := [(2, pI (0 : Int32)), (1, pR a1), (0, pR a0)]) dX2_copy_50 rfl (by decide) rfl ?_
    refine V_sub [0, 1, 2] rfl ?_
    exact v_X2_copy_51 hst FU _ _ _ _ h
  · replace h := it_f c8 h
    refine V_aload_n (i := 1) 1 dX2_copy_21 rfl rfl ?_
    obtain ⟨b9, e10, h⟩ := bd_s h
    refine V_rdR gf_X2_12 rfl rfl rfl e10 dX2_copy_22 ?_
    refine V_aload_n (i := 0) 2 dX2_copy_25 rfl rfl ?_
    obtain ⟨b11, e12, h⟩ := bd_s h
    refine V_rdR gf_X2_12 rfl rfl rfl e12 dX2_copy_26 ?_
    refine V_iload_n (i := 2) 0 dX2_copy_29 rfl rfl ?_
    obtain ⟨e13, e14, h⟩ := bd_s h
    obtain ⟨b15, σ16, e17, h⟩ := bp_s h
    refine V_callV_v (n9 := 1) (c := 9) (r := (RJ2, TJ2, 3)) [pR b9] (v_J2_get l G hst _ e17) rfl rfl (lw_V q936 q937 q938 q80 q939) (by decide +kernel) (by decide) (Nat.le_of_ble_eq_true rfl) (gk_k e14 rfl) rfl dX2_copy_30 ?_
    obtain ⟨e18, e19, h⟩ := bd_s h
    refine V_ckC (c := 2) e19 q948 rfl (Or.inl rfl) dX2_copy_33 ?_
    obtain ⟨e20, e21, h⟩ := bd_s h
    obtain ⟨b22, σ23, e24, h⟩ := bp_s h
    refine V_callV_v (n9 := 0) (c := 2) (r := (RX4, TX4, 6)) [pR b9] (v_X4_copy l G hst _ e24) rfl rfl (lw_V q949 q950 q951 q98 q952) (by decide +kernel) (by decide) (Nat.le_of_ble_eq_true rfl) (gk_k e21 rfl) rfl dX2_copy_36 ?_
    obtain ⟨e25, e26, h⟩ := bd_s h
    obtain ⟨y27, σ28, e29, h⟩ := bp_s h
    refine V_callV_v (n9 := 1) (c := 9) (r := (RJ2, TJ2, 3)) [] (v_J2_add l G hst _ e29) rfl rfl (lw_V q168 q169 q170 q80 q171) (by decide +kernel) (by decide) (Nat.le_of_ble_eq_true rfl) (gk_k e26 rfl) rfl dX2_copy_39 ?_
    refine V_pop dX2_copy_42 rfl ?_
    refine V_iinc (v := (x2 + (1 : Int32))) (L' := [(2, pI (x2 + (1 : Int32))), (1, pR a1), (0, pR a0)]) 0 dX2_copy_43 rfl rfl (by decide) rfl ?_
    refine V_goto 10 dX2_copy_46 (by decide) ?_
    refine V_sub [0, 1, 2] rfl ?_
    exact hk10 _ _ _ _ h
def f_X2_copy_10 : Nat → Hp → Int32 → Nat → Nat → Option (Nat × Hp)
  | 0, _, _, _, _ => none
  | n + 1, σ, x2, a1, a0 => f_X2_copy_10_b (f_X2_copy_10 n) σ x2 a1 a0
theorem v_X2_copy_10 {l : Launch} {G : Gx} (hst : l.stackTraces = false) {σ0 σe : Hp} {Se : Ms} {r : Nat} : ∀ (n : Nat) (σ : Hp) (x2 : Int32) (a1 : Nat) (a0 : Nat), f_X2_copy_10 n σ x2 a1 a0 = some (r, σe) → VV_X2_copy l G σ0 (.inl (some (pR r))) σe Se 10 [(2, pI x2), (1, pR a1), (0, pR a0)] [] σ Se
  | 0, _, _, _, _, h => by cases h
  | n + 1, _, _, _, _, h => v_X2_copy_10_b hst (v_X2_copy_10 hst n) h
def f_X2_copy (σ : Hp) (a0 : Nat) : Option (Nat × Hp) :=
  bd (gz (nC σ 2 7) (hN σ)) fun e1 => bp (f_X2_init (nC σ 2 7) (hN σ)) fun e3 σ4 => f_X2_copy_10 FU σ4 (0 : Int32) (hN σ) a0
set_option maxHeartbeats 4000000 in
theorem v_X2_copy (l : Launch) (G : Gx) (hst : l.stackTraces = false) (S : Ms) {σ σe : Hp} {a0 : Nat} {r : Nat} (h : f_X2_copy σ a0 = some (r, σe)) : MT l G yX2_copy (ws_ yX2_copy cX2_copy 4 (some (.object "GaugeBlocks$State"))) 8 232 [pR a0] σ S (.inl (some (pR r))) σe S := by
  refine MT_of (own := RX2) (nL := 4) (ini := false) (by decide +kernel) rfl (Nat.le_of_ble_eq_true rfl) (fun h => by cases h) hst ?_
  show VV_X2_copy l G σ (.inl (some (pR r))) σe S 0 [(0, pR a0)] [] σ S
  unfold f_X2_copy at h
  refine V_new (n := 7) ci_1 (by decide +kernel) q933 q134 q77 dX2_copy_0 ?_
  refine V_dup dX2_copy_3 rfl ?_
  obtain ⟨e1, e2, h⟩ := bd_s h
  obtain ⟨e3, σ4, e5, h⟩ := bp_s h
  refine V_callI_0 (n9 := 0) [pR (hN σ)] (v_X2_init l G hst _ e5) rfl rfl q137 q77 q934 q136 rfl (by decide +kernel) (by decide) (Nat.le_of_ble_eq_true rfl) (gz_n e2) dX2_copy_4 ?_
  refine V_astore_n (i := 1) (L' := [(1, pR (hN σ)), (0, pR a0)]) dX2_copy_7 rfl (by decide) rfl ?_
  refine V_iconst (v := 0) dX2_copy_8 (by decide) ?_
  refine V_istore_n (i := 2) (L' := [(2, pI (0 : Int32)), (1, pR (hN σ)), (0, pR a0)]) dX2_copy_9 rfl (by decide) rfl ?_
  refine V_sub [0, 1, 2] rfl ?_
  exact v_X2_copy_10 hst FU _ _ _ _ h
