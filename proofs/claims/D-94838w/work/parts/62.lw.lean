set_option maxRecDepth 100000
def KL (p : Program) (l : Launch) (e : Env) (s0 : State) (m : MethodId) (b : Nat) (below : List Frame) (meth : Method) (c : Code) (G : GM) (K : Nat → Nat → Nat → Int32 → ST → Option Unit) (kc ks pc : Nat) : Prop :=
  ∀ (a : Nat → Nat) (r1 r2 r3 : Nat) (x4 : Int32) (s : ST), K r1 r2 r3 x4 s = some () → ∀ (H : Heap) (locs : List Loc) (ls : Array Slot), lv_has ls 8 [(0, .ref b), (1, .ref (a r1)), (2, .ref (a r2)), (3, .ref (a r3)), (4, .int x4)] → AW G a (fun q => s0.heap.size ≤ q) s s0.heap H locs → W p l e room_1 s0 m #[Value.ref b] below meth c H locs kc ks (lw_Z below #[Value.ref b] s0) (F0 m pc ls [])
theorem vy_X1_sign : VY yX1_sign cX1_sign 3 (some .int) 1 := ⟨q507, q508, q75, q509, ⟨by decide +kernel, by decide +kernel, by decide +kernel⟩⟩
theorem vy_X14_sign : VY yX14_sign cX14_sign 3 (some .int) 1 := ⟨q1507, q1508, q88, q1509, ⟨by decide +kernel, by decide +kernel, by decide +kernel⟩⟩
theorem vy_X1_end : VY yX1_end cX1_end 2 (some .boolean) 1 := ⟨q511, q512, q75, q513, ⟨by decide +kernel, by decide +kernel, by decide +kernel⟩⟩
theorem vy_X14_end : VY yX14_end cX14_end 2 (some .boolean) 1 := ⟨q1511, q1512, q88, q1513, ⟨by decide +kernel, by decide +kernel, by decide +kernel⟩⟩
theorem vh_X1_town : VYW yX1_town cX1_town 4 (some .int) [(16, 140, 141, 228)] 0 := ⟨q518, q519, q75, q520, by decide +kernel, by decide +kernel, by decide +kernel⟩
theorem vy_X14_town : VY yX14_town cX14_town 7 (some .int) 0 := ⟨q1518, q1519, q88, q1520, ⟨by decide +kernel, by decide +kernel, by decide +kernel⟩⟩
theorem vh_X1_will : VYW yX1_will cX1_will 4 (some .int) [(32, 50, 51, 228)] 0 := ⟨q668, q669, q75, q670, by decide +kernel, by decide +kernel, by decide +kernel⟩
theorem vy_X14_will : VY yX14_will cX14_will 5 (some .int) 0 := ⟨q1599, q1600, q88, q1601, ⟨by decide +kernel, by decide +kernel, by decide +kernel⟩⟩
theorem vh_X1_habit : VYW yX1_habit cX1_habit 5 (some .int) [(25, 34, 37, 228)] 1 := ⟨q845, q846, q75, q847, by decide +kernel, by decide +kernel, by decide +kernel⟩
theorem vy_X14_habit : VY yX14_habit cX14_habit 5 (some .int) 1 := ⟨q1591, q1592, q88, q1593, ⟨by decide +kernel, by decide +kernel, by decide +kernel⟩⟩
theorem vy_X14_of : VY yX14_of cX14_of 3 (some .int) 2 := ⟨q1618, q1619, q88, q1620, ⟨by decide +kernel, by decide +kernel, by decide +kernel⟩⟩
theorem vy_X14_thrown : VY yX14_thrown cX14_thrown 1 (some .int) 0 := ⟨q1357, q1358, q88, q1359, ⟨by decide +kernel, by decide +kernel, by decide +kernel⟩⟩
theorem vy_X14_change : VY yX14_change cX14_change 3 (some .int) 2 := ⟨q1650, q1651, q88, q1652, ⟨by decide +kernel, by decide +kernel, by decide +kernel⟩⟩
theorem vy_X1_set : VY yX1_set cX1_set 5 (some .int) 3 := ⟨q854, q855, q75, q856, ⟨by decide +kernel, by decide +kernel, by decide +kernel⟩⟩
theorem vy_X14_set : VY yX14_set cX14_set 7 (some .int) 3 := ⟨q1654, q1655, q88, q1656, ⟨by decide +kernel, by decide +kernel, by decide +kernel⟩⟩
theorem vy_X1_scale : VY yX1_scale cX1_scale 3 (some .boolean) 2 := ⟨q861, q862, q75, q863, ⟨by decide +kernel, by decide +kernel, by decide +kernel⟩⟩
theorem vy_X14_scale : VY yX14_scale cX14_scale 3 (some .boolean) 2 := ⟨q1661, q1662, q88, q1663, ⟨by decide +kernel, by decide +kernel, by decide +kernel⟩⟩
theorem vh_X1_sheet : VYW yX1_sheet cX1_sheet 8 (some .int) [(28, 38, 41, 306)] 4 := ⟨q866, q867, q75, q868, by decide +kernel, by decide +kernel, by decide +kernel⟩
theorem vy_X14_sheet : VY yX14_sheet cX14_sheet 9 (some .int) 4 := ⟨q1666, q1667, q88, q1668, ⟨by decide +kernel, by decide +kernel, by decide +kernel⟩⟩
theorem vy_X1_stand : VY yX1_stand cX1_stand 2 (some .int) 1 := ⟨q910, q911, q75, q912, ⟨by decide +kernel, by decide +kernel, by decide +kernel⟩⟩
theorem vy_X14_stand : VY yX14_stand cX14_stand 3 (some .int) 1 := ⟨q1674, q1675, q88, q1676, ⟨by decide +kernel, by decide +kernel, by decide +kernel⟩⟩
theorem vy_X1_weeks : VY yX1_weeks cX1_weeks 5 (some .int) 1 := ⟨q1018, q1019, q75, q1020, ⟨by decide +kernel, by decide +kernel, by decide +kernel⟩⟩
theorem vy_X14_weeks : VY yX14_weeks cX14_weeks 5 (some .int) 1 := ⟨q1694, q1695, q88, q1696, ⟨by decide +kernel, by decide +kernel, by decide +kernel⟩⟩
theorem vh_X1_year : VYW yX1_year cX1_year 4 (some .int) [(9, 42, 45, 228)] 0 := ⟨q1023, q1024, q75, q1025, by decide +kernel, by decide +kernel, by decide +kernel⟩
theorem vy_X14_year : VY yX14_year cX14_year 5 (some .int) 0 := ⟨q1703, q1704, q88, q1705, ⟨by decide +kernel, by decide +kernel, by decide +kernel⟩⟩
theorem vy_X1_law : VY yX1_law cX1_law 1 (some .int) 0 := ⟨q1033, q1034, q75, q1035, ⟨by decide +kernel, by decide +kernel, by decide +kernel⟩⟩
theorem vy_X14_law : VY yX14_law cX14_law 2 (some .int) 0 := ⟨q1711, q1712, q88, q1713, ⟨by decide +kernel, by decide +kernel, by decide +kernel⟩⟩
theorem vy_X14_laws : VY yX14_laws cX14_laws 3 (some .int) 2 := ⟨q1715, q1716, q88, q1717, ⟨by decide +kernel, by decide +kernel, by decide +kernel⟩⟩
theorem vy_X1_feed : VY yX1_feed cX1_feed 3 (some .int) 2 := ⟨q1037, q1038, q75, q1039, ⟨by decide +kernel, by decide +kernel, by decide +kernel⟩⟩
theorem vy_X14_feed : VY yX14_feed cX14_feed 3 (some .int) 2 := ⟨q1719, q1720, q88, q1721, ⟨by decide +kernel, by decide +kernel, by decide +kernel⟩⟩
theorem vy_X1_fast : VY yX1_fast cX1_fast 3 (some .int) 2 := ⟨q1045, q1046, q75, q1047, ⟨by decide +kernel, by decide +kernel, by decide +kernel⟩⟩
theorem vy_X14_fast : VY yX14_fast cX14_fast 3 (some .int) 2 := ⟨q1731, q1732, q88, q1733, ⟨by decide +kernel, by decide +kernel, by decide +kernel⟩⟩
theorem vy_X1_dies : VY yX1_dies cX1_dies 3 (some .int) 1 := ⟨q1049, q1050, q75, q1051, ⟨by decide +kernel, by decide +kernel, by decide +kernel⟩⟩
theorem vy_X14_dies : VY yX14_dies cX14_dies 3 (some .int) 1 := ⟨q1735, q1736, q88, q1737, ⟨by decide +kernel, by decide +kernel, by decide +kernel⟩⟩
theorem vy_X1_undo : VY yX1_undo cX1_undo 1 (some .int) 0 := ⟨q1053, q1054, q75, q1055, ⟨by decide +kernel, by decide +kernel, by decide +kernel⟩⟩
theorem vy_X14_undo : VY yX14_undo cX14_undo 2 (some .int) 0 := ⟨q1670, q1671, q88, q1672, ⟨by decide +kernel, by decide +kernel, by decide +kernel⟩⟩
theorem vy_X1_served : VY yX1_served cX1_served 2 (some .int) 1 := ⟨q1057, q1058, q75, q1059, ⟨by decide +kernel, by decide +kernel, by decide +kernel⟩⟩
theorem vy_X14_served : VY yX14_served cX14_served 2 (some .int) 1 := ⟨q1739, q1740, q88, q1741, ⟨by decide +kernel, by decide +kernel, by decide +kernel⟩⟩
theorem vy_X1_later : VY yX1_later cX1_later 5 (some .int) 2 := ⟨q1061, q1062, q75, q1063, ⟨by decide +kernel, by decide +kernel, by decide +kernel⟩⟩
theorem vy_X14_later : VY yX14_later cX14_later 3 (some .int) 2 := ⟨q1743, q1744, q88, q1745, ⟨by decide +kernel, by decide +kernel, by decide +kernel⟩⟩
theorem vy_X1_then : VY yX1_then cX1_then 3 (some .int) 1 := ⟨q1065, q1066, q75, q1067, ⟨by decide +kernel, by decide +kernel, by decide +kernel⟩⟩
theorem vy_X14_then : VY yX14_then cX14_then 3 (some .int) 1 := ⟨q1765, q1766, q88, q1767, ⟨by decide +kernel, by decide +kernel, by decide +kernel⟩⟩
theorem vy_X1_soonest : VY yX1_soonest cX1_soonest 3 (some .int) 1 := ⟨q1069, q1070, q75, q1071, ⟨by decide +kernel, by decide +kernel, by decide +kernel⟩⟩
theorem vy_X14_soonest : VY yX14_soonest cX14_soonest 3 (some .int) 1 := ⟨q1769, q1770, q88, q1771, ⟨by decide +kernel, by decide +kernel, by decide +kernel⟩⟩
theorem vy_X1_ever : VY yX1_ever cX1_ever 8 (some .int) 1 := ⟨q1073, q1074, q75, q1075, ⟨by decide +kernel, by decide +kernel, by decide +kernel⟩⟩
theorem vy_X14_ever : VY yX14_ever cX14_ever 10 (some .int) 1 := ⟨q1773, q1774, q88, q1775, ⟨by decide +kernel, by decide +kernel, by decide +kernel⟩⟩
theorem vy_X1_most : VY yX1_most cX1_most 7 (some .int) 2 := ⟨q1082, q1083, q75, q1084, ⟨by decide +kernel, by decide +kernel, by decide +kernel⟩⟩
theorem vy_X14_most : VY yX14_most cX14_most 7 (some .int) 2 := ⟨q1778, q1779, q88, q1780, ⟨by decide +kernel, by decide +kernel, by decide +kernel⟩⟩
theorem vy_X1_rests : VY yX1_rests cX1_rests 6 (some .int) 2 := ⟨q1092, q1093, q75, q1094, ⟨by decide +kernel, by decide +kernel, by decide +kernel⟩⟩
theorem vy_X14_rests : VY yX14_rests cX14_rests 6 (some .int) 2 := ⟨q1784, q1785, q88, q1786, ⟨by decide +kernel, by decide +kernel, by decide +kernel⟩⟩
theorem vy_X1_party : VY yX1_party cX1_party 8 (some .int) 1 := ⟨q1105, q1106, q75, q1107, ⟨by decide +kernel, by decide +kernel, by decide +kernel⟩⟩
theorem vy_X14_party : VY yX14_party cX14_party 7 (some .int) 1 := ⟨q1798, q1799, q88, q1800, ⟨by decide +kernel, by decide +kernel, by decide +kernel⟩⟩
theorem vy_X1_byTurns : VY yX1_byTurns cX1_byTurns 4 (some .int) 2 := ⟨q1113, q1114, q75, q1115, ⟨by decide +kernel, by decide +kernel, by decide +kernel⟩⟩
theorem vy_X14_byTurns : VY yX14_byTurns cX14_byTurns 8 (some .int) 2 := ⟨q1806, q1807, q88, q1808, ⟨by decide +kernel, by decide +kernel, by decide +kernel⟩⟩
theorem vy_X14_fool : VY yX14_fool cX14_fool 5 (some .int) 2 := ⟨q1810, q1811, q88, q1812, ⟨by decide +kernel, by decide +kernel, by decide +kernel⟩⟩
theorem vy_X1_hold : VY yX1_hold cX1_hold 3 (some .int) 1 := ⟨q1117, q1118, q75, q1119, ⟨by decide +kernel, by decide +kernel, by decide +kernel⟩⟩
theorem vy_X14_hold : VY yX14_hold cX14_hold 4 (some .int) 1 := ⟨q1814, q1815, q88, q1816, ⟨by decide +kernel, by decide +kernel, by decide +kernel⟩⟩
theorem vy_X1_bribe : VY yX1_bribe cX1_bribe 4 (some .int) 2 := ⟨q1165, q1166, q75, q1167, ⟨by decide +kernel, by decide +kernel, by decide +kernel⟩⟩
theorem vy_X14_bribe : VY yX14_bribe cX14_bribe 4 (some .int) 2 := ⟨q1826, q1827, q88, q1828, ⟨by decide +kernel, by decide +kernel, by decide +kernel⟩⟩
theorem vy_X1_starve : VY yX1_starve cX1_starve 4 (some .int) 2 := ⟨q1170, q1171, q75, q1172, ⟨by decide +kernel, by decide +kernel, by decide +kernel⟩⟩
theorem vy_X14_starve : VY yX14_starve cX14_starve 4 (some .int) 2 := ⟨q1830, q1831, q88, q1832, ⟨by decide +kernel, by decide +kernel, by decide +kernel⟩⟩
theorem vy_X1_cheapest : VY yX1_cheapest cX1_cheapest 5 (some .int) 0 := ⟨q1174, q1175, q75, q1176, ⟨by decide +kernel, by decide +kernel, by decide +kernel⟩⟩
theorem vy_X14_cheapest : VY yX14_cheapest cX14_cheapest 5 (some .int) 0 := ⟨q1834, q1835, q88, q1836, ⟨by decide +kernel, by decide +kernel, by decide +kernel⟩⟩
theorem vy_X1_weighed : VY yX1_weighed cX1_weighed 3 (some .int) 2 := ⟨q1178, q1179, q75, q1180, ⟨by decide +kernel, by decide +kernel, by decide +kernel⟩⟩
theorem vy_X14_weighed : VY yX14_weighed cX14_weighed 3 (some .int) 2 := ⟨q1838, q1839, q88, q1840, ⟨by decide +kernel, by decide +kernel, by decide +kernel⟩⟩
theorem vy_X1_forget : VY yX1_forget cX1_forget 1 (some .int) 0 := ⟨q1183, q1184, q75, q1185, ⟨by decide +kernel, by decide +kernel, by decide +kernel⟩⟩
theorem vy_X14_forget : VY yX14_forget cX14_forget 1 (some .int) 0 := ⟨q1843, q1844, q88, q1845, ⟨by decide +kernel, by decide +kernel, by decide +kernel⟩⟩
theorem vh_X1_grains : VYW yX1_grains cX1_grains 6 (some .int) [(7, 82, 90, 0), (90, 92, 90, 0)] 0 := ⟨q1187, q1188, q75, q1189, by decide +kernel, by decide +kernel, by decide +kernel⟩
theorem vy_X14_grains : VY yX14_grains cX14_grains 6 (some .int) 0 := ⟨q1847, q1848, q88, q1849, ⟨by decide +kernel, by decide +kernel, by decide +kernel⟩⟩
theorem vy_X1_span : VY yX1_span cX1_span 6 (some .int) 1 := ⟨q1199, q1200, q75, q1201, ⟨by decide +kernel, by decide +kernel, by decide +kernel⟩⟩
theorem vy_X14_span : VY yX14_span cX14_span 2 (some .int) 1 := ⟨q1863, q1864, q88, q1865, ⟨by decide +kernel, by decide +kernel, by decide +kernel⟩⟩
theorem vh_X1_offs : VYW yX1_offs cX1_offs 6 (some .int) [(12, 72, 80, 0), (80, 82, 80, 0)] 0 := ⟨q1203, q1204, q75, q1205, by decide +kernel, by decide +kernel, by decide +kernel⟩
theorem vy_X14_offs : VY yX14_offs cX14_offs 5 (some .int) 0 := ⟨q1867, q1868, q88, q1869, ⟨by decide +kernel, by decide +kernel, by decide +kernel⟩⟩
theorem vh_X1_cheats : VYW yX1_cheats cX1_cheats 7 (some .int) [(14, 79, 87, 0), (87, 89, 87, 0)] 0 := ⟨q1211, q1212, q75, q1213, by decide +kernel, by decide +kernel, by decide +kernel⟩
theorem vy_X14_cheats : VY yX14_cheats cX14_cheats 6 (some .int) 0 := ⟨q1875, q1876, q88, q1877, ⟨by decide +kernel, by decide +kernel, by decide +kernel⟩⟩
theorem vy_X1_told : VY yX1_told cX1_told 3 (some .int) 2 := ⟨q1215, q1216, q75, q1217, ⟨by decide +kernel, by decide +kernel, by decide +kernel⟩⟩
theorem vy_X14_told : VY yX14_told cX14_told 3 (some .int) 2 := ⟨q1879, q1880, q88, q1881, ⟨by decide +kernel, by decide +kernel, by decide +kernel⟩⟩
theorem vy_X1_wipe : VY yX1_wipe cX1_wipe 2 (some .int) 0 := ⟨q1219, q1220, q75, q1221, ⟨by decide +kernel, by decide +kernel, by decide +kernel⟩⟩
theorem vy_X14_wipe : VY yX14_wipe cX14_wipe 2 (some .int) 0 := ⟨q1883, q1884, q88, q1885, ⟨by decide +kernel, by decide +kernel, by decide +kernel⟩⟩
theorem vy_X1_explains : VY yX1_explains cX1_explains 6 (some .int) 1 := ⟨q1223, q1224, q75, q1225, ⟨by decide +kernel, by decide +kernel, by decide +kernel⟩⟩
theorem vy_X14_explains : VY yX14_explains cX14_explains 6 (some .int) 1 := ⟨q1887, q1888, q88, q1889, ⟨by decide +kernel, by decide +kernel, by decide +kernel⟩⟩
theorem vy_X1_absent : VY yX1_absent cX1_absent 3 (some .int) 0 := ⟨q1231, q1232, q75, q1233, ⟨by decide +kernel, by decide +kernel, by decide +kernel⟩⟩
theorem vy_X14_absent : VY yX14_absent cX14_absent 3 (some .int) 0 := ⟨q1895, q1896, q88, q1897, ⟨by decide +kernel, by decide +kernel, by decide +kernel⟩⟩
theorem vy_X1_twin : VY yX1_twin cX1_twin 2 (some .int) 1 := ⟨q1235, q1236, q75, q1237, ⟨by decide +kernel, by decide +kernel, by decide +kernel⟩⟩
theorem vy_X14_twin : VY yX14_twin cX14_twin 4 (some .int) 1 := ⟨q1899, q1900, q88, q1901, ⟨by decide +kernel, by decide +kernel, by decide +kernel⟩⟩
theorem vy_X1_odds : VY yX1_odds cX1_odds 5 (some .int) 2 := ⟨q1239, q1240, q75, q1241, ⟨by decide +kernel, by decide +kernel, by decide +kernel⟩⟩
theorem vy_X14_odds : VY yX14_odds cX14_odds 6 (some .int) 2 := ⟨q1903, q1904, q88, q1905, ⟨by decide +kernel, by decide +kernel, by decide +kernel⟩⟩
theorem vy_X1_likely : VY yX1_likely cX1_likely 7 (some .int) 0 := ⟨q1265, q1266, q75, q1267, ⟨by decide +kernel, by decide +kernel, by decide +kernel⟩⟩
theorem vy_X14_likely : VY yX14_likely cX14_likely 3 (some .int) 0 := ⟨q1921, q1922, q88, q1923, ⟨by decide +kernel, by decide +kernel, by decide +kernel⟩⟩
theorem vy_X1_keep : VY yX1_keep cX1_keep 2 (some .boolean) 1 := ⟨q1269, q1270, q75, q1271, ⟨by decide +kernel, by decide +kernel, by decide +kernel⟩⟩
theorem vy_X14_keep : VY yX14_keep cX14_keep 3 (some .boolean) 1 := ⟨q1925, q1926, q88, q1927, ⟨by decide +kernel, by decide +kernel, by decide +kernel⟩⟩
theorem vy_X1_again : VY yX1_again cX1_again 2 (some .boolean) 1 := ⟨q1293, q1294, q75, q1295, ⟨by decide +kernel, by decide +kernel, by decide +kernel⟩⟩
theorem vy_X14_again : VY yX14_again cX14_again 3 (some .boolean) 1 := ⟨q1929, q1930, q88, q1931, ⟨by decide +kernel, by decide +kernel, by decide +kernel⟩⟩
theorem vy_X1_count : VY yX1_count cX1_count 2 (some .int) 1 := ⟨q1297, q1298, q75, q1299, ⟨by decide +kernel, by decide +kernel, by decide +kernel⟩⟩
theorem vy_X14_count : VY yX14_count cX14_count 2 (some .int) 1 := ⟨q1933, q1934, q88, q1935, ⟨by decide +kernel, by decide +kernel, by decide +kernel⟩⟩
theorem vy_X14_row : VY yX14_row cX14_row 2 (some .long) 1 := ⟨q1941, q1942, q88, q1943, ⟨by decide +kernel, by decide +kernel, by decide +kernel⟩⟩
def f_law_c0 (L : Nat) (xs : Nat → Int32) (K : Nat → Nat → Nat → Int32 → ST → Option Unit) (r1 r2 r3 : Nat) (x4 : Int32) (s : ST) : Option Unit :=
  gd (¬ (((x4 + 1) : Int32) < 0 ∨ L ≤ ((x4 + 1) : Int32).toNatClampNeg)) <|
  gd (r1 < s.1 ∧ (kd s r1).1 = 1) <|
  ob (f_X1_sign r1 (xs ((x4 + 1) : Int32).toNatClampNeg) s) fun v259 s259 =>
  gd (s.1 ≤ s259.1) <|
  gd (¬ (((x4 + 1) : Int32) < 0 ∨ L ≤ ((x4 + 1) : Int32).toNatClampNeg)) <|
  gd (r2 < s259.1 ∧ (kd s259 r2).1 = 14) <|
  ob (f_X14_sign r2 (xs ((x4 + 1) : Int32).toNatClampNeg) s259) fun v269 s269 =>
  gd (s259.1 ≤ s269.1) <|
  if v259 = v269 then (K r1 r2 r3 x4 s269) else none
set_option maxHeartbeats 4000000 in
theorem lc_0 {p : Program} {l : Launch} {e : Env} {s0 : State} {m : MethodId} {b L : Nat} {xs : Nat → Int32} {below : List Frame} {meth : Method} {c : Code} {G : GM} (hlt : l.stackTraces = false) (hC : CX p s0 m #[Value.ref b] meth c G (fun q => s0.heap.size ≤ q) code R_law 8) (hr : meth.sig.returnType = ret) (hX : va_X b L xs s0 s0.heap) (hbl : b < s0.heap.size) {K : Nat → Nat → Nat → Int32 → ST → Option Unit} {kc ks : Nat} (hkc : kc + 20 ≤ 603072) (hks : ks + 300 ≤ 7067754) (hK : KL p l e s0 m b below meth c G K (kc + 20) (ks + 300) 1752) : KL p l e s0 m b below meth c G (f_law_c0 L xs K) kc ks 252 := by
  intro a r1 r2 r3 x4 s hf H locs ls hl hW
  have hx := hC.1
  have hb := hC.2.1
  have hts := hC.2.2.2.2.1
  obtain ⟨N0, hN0⟩ : ∃ N0, N0 = 0 := ⟨_, rfl⟩
  have hE : EX a a N0 := EX.rf
  have hN : N0 ≤ s.1 := by omega
  unfold f_law_c0 at hf
  refine lv_aload_n hx hb dL_law_252 rfl (lv_at hl 1 rfl) ?_
  refine lv_aload_n hx hb dL_law_253 rfl (lv_at hl 0 rfl) ?_
  refine lv_iload hx hb dL_law_254 (lv_at hl 4 rfl) ?_
  refine lv_iconst (v := 1) hx hb dL_law_256 (by decide) ?_
  refine lv_iadd hx hb dL_law_257 ?_
  obtain ⟨g258, hf⟩ := gd_some hf
  refine lw_xld hx hb hX hbl hW g258 dL_law_258 ?_
  obtain ⟨g259, hf⟩ := gd_some hf
  obtain ⟨v259, s259, h259, hf⟩ := ob_some hf
  obtain ⟨hN1, hf⟩ := gd_some hf
  have hN := Nat.le_trans hN hN1
  refine aw_dV1 (r := r1) (As := [.int (xs ((x4 + 1) : Int32).toNatClampNeg)]) (rest := []) (ct_X1_sign l G a r1 (xs ((x4 + 1) : Int32).toNatClampNeg) s v259 s259 h259) hC hW hl.1 vy_X1_sign (Or.inl q506) g259 rfl rfl rfl rfl (Nat.le_of_ble_eq_true rfl) ⟨Nat.le_of_ble_eq_true rfl, Nat.le_of_ble_eq_true rfl⟩ ⟨(by show kc ≤ 603072; omega), (by show ks ≤ 7067754; omega)⟩ dL_law_259 (fun H locs hW => ?_)
  refine lv_aload_n hx hb dL_law_262 rfl (lv_at hl 2 rfl) ?_
  refine lv_aload_n hx hb dL_law_263 rfl (lv_at hl 0 rfl) ?_
  refine lv_iload hx hb dL_law_264 (lv_at hl 4 rfl) ?_
  refine lv_iconst (v := 1) hx hb dL_law_266 (by decide) ?_
  refine lv_iadd hx hb dL_law_267 ?_
  obtain ⟨g268, hf⟩ := gd_some hf
  refine lw_xld hx hb hX hbl hW g268 dL_law_268 ?_
  obtain ⟨g269, hf⟩ := gd_some hf
  obtain ⟨v269, s269, h269, hf⟩ := ob_some hf
  obtain ⟨hN1, hf⟩ := gd_some hf
  have hN := Nat.le_trans hN hN1
  refine aw_dV1 (r := r2) (As := [.int (xs ((x4 + 1) : Int32).toNatClampNeg)]) (rest := [.int v259]) (ct_X14_sign l G a r2 (xs ((x4 + 1) : Int32).toNatClampNeg) s259 v269 s269 h269) hC hW hl.1 vy_X14_sign (Or.inl q1506) g269 rfl rfl rfl rfl (Nat.le_of_ble_eq_true rfl) ⟨Nat.le_of_ble_eq_true rfl, Nat.le_of_ble_eq_true rfl⟩ ⟨(by show kc ≤ 603072; omega), (by show ks ≤ 7067754; omega)⟩ dL_law_269 (fun H locs hW => ?_)
  refine lv_icmp_eq (tgt := 1752) hx hb dL_law_272 (by decide) (fun c272 => ?_) (fun c272 => ?_)
  · have hf := ifp c272 hf
    refine W.widen (k := kc + 20) (n := ks + 300) (by omega) (by omega) ?_
    exact hK a r1 r2 r3 x4 s269 hf _ _ _ (lv_sub hl [0, 1, 2, 3, 4] rfl) hW
  · have hf := ifn c272 hf
    refine lv_iconst (v := 0) hx hb dL_law_275 (by decide) ?_
    cases hf
def f_law_c1 (L : Nat) (xs : Nat → Int32) (K : Nat → Nat → Nat → Int32 → ST → Option Unit) (r1 r2 r3 : Nat) (x4 : Int32) (s : ST) : Option Unit :=
  gd (¬ (((x4 + 1) : Int32) < 0 ∨ L ≤ ((x4 + 1) : Int32).toNatClampNeg)) <|
  gd (r1 < s.1 ∧ (kd s r1).1 = 1) <|
  ob (f_X1_end r1 (xs ((x4 + 1) : Int32).toNatClampNeg) s) fun v284 s284 =>
  gd (s.1 ≤ s284.1) <|
  gd (¬ (((x4 + 1) : Int32) < 0 ∨ L ≤ ((x4 + 1) : Int32).toNatClampNeg)) <|
  gd (r2 < s284.1 ∧ (kd s284 r2).1 = 14) <|
  ob (f_X14_end r2 (xs ((x4 + 1) : Int32).toNatClampNeg) s284) fun v294 s294 =>
  gd (s284.1 ≤ s294.1) <|
  if v284 = v294 then (K r1 r2 r3 x4 s294) else none
set_option maxHeartbeats 4000000 in
theorem lc_1 {p : Program} {l : Launch} {e : Env} {s0 : State} {m : MethodId} {b L : Nat} {xs : Nat → Int32} {below : List Frame} {meth : Method} {c : Code} {G : GM} (hlt : l.stackTraces = false) (hC : CX p s0 m #[Value.ref b] meth c G (fun q => s0.heap.size ≤ q) code R_law 8) (hr : meth.sig.returnType = ret) (hX : va_X b L xs s0 s0.heap) (hbl : b < s0.heap.size) {K : Nat → Nat → Nat → Int32 → ST → Option Unit} {kc ks : Nat} (hkc : kc + 20 ≤ 603072) (hks : ks + 300 ≤ 7067754) (hK : KL p l e s0 m b below meth c G K (kc + 20) (ks + 300) 1752) : KL p l e s0 m b below meth c G (f_law_c1 L xs K) kc ks 277 := by
  intro a r1 r2 r3 x4 s hf H locs ls hl hW
  have hx := hC.1
  have hb := hC.2.1
  have hts := hC.2.2.2.2.1
  obtain ⟨N0, hN0⟩ : ∃ N0, N0 = 0 := ⟨_, rfl⟩
  have hE : EX a a N0 := EX.rf
  have hN : N0 ≤ s.1 := by omega
  unfold f_law_c1 at hf
  refine lv_aload_n hx hb dL_law_277 rfl (lv_at hl 1 rfl) ?_
  refine lv_aload_n hx hb dL_law_278 rfl (lv_at hl 0 rfl) ?_
  refine lv_iload hx hb dL_law_279 (lv_at hl 4 rfl) ?_
  refine lv_iconst (v := 1) hx hb dL_law_281 (by decide) ?_
  refine lv_iadd hx hb dL_law_282 ?_
  obtain ⟨g283, hf⟩ := gd_some hf
  refine lw_xld hx hb hX hbl hW g283 dL_law_283 ?_
  obtain ⟨g284, hf⟩ := gd_some hf
  obtain ⟨v284, s284, h284, hf⟩ := ob_some hf
  obtain ⟨hN1, hf⟩ := gd_some hf
  have hN := Nat.le_trans hN hN1
  refine aw_dV1 (r := r1) (As := [.int (xs ((x4 + 1) : Int32).toNatClampNeg)]) (rest := []) (ct_X1_end l G a r1 (xs ((x4 + 1) : Int32).toNatClampNeg) s v284 s284 h284) hC hW hl.1 vy_X1_end (Or.inl q510) g284 rfl rfl rfl rfl (Nat.le_of_ble_eq_true rfl) ⟨Nat.le_of_ble_eq_true rfl, Nat.le_of_ble_eq_true rfl⟩ ⟨(by show kc ≤ 603072; omega), (by show ks ≤ 7067754; omega)⟩ dL_law_284 (fun H locs hW => ?_)
  refine lv_aload_n hx hb dL_law_287 rfl (lv_at hl 2 rfl) ?_
  refine lv_aload_n hx hb dL_law_288 rfl (lv_at hl 0 rfl) ?_
  refine lv_iload hx hb dL_law_289 (lv_at hl 4 rfl) ?_
  refine lv_iconst (v := 1) hx hb dL_law_291 (by decide) ?_
  refine lv_iadd hx hb dL_law_292 ?_
  obtain ⟨g293, hf⟩ := gd_some hf
  refine lw_xld hx hb hX hbl hW g293 dL_law_293 ?_
  obtain ⟨g294, hf⟩ := gd_some hf
  obtain ⟨v294, s294, h294, hf⟩ := ob_some hf
  obtain ⟨hN1, hf⟩ := gd_some hf
  have hN := Nat.le_trans hN hN1
  refine aw_dV1 (r := r2) (As := [.int (xs ((x4 + 1) : Int32).toNatClampNeg)]) (rest := [.int v284]) (ct_X14_end l G a r2 (xs ((x4 + 1) : Int32).toNatClampNeg) s284 v294 s294 h294) hC hW hl.1 vy_X14_end (Or.inl q1510) g294 rfl rfl rfl rfl (Nat.le_of_ble_eq_true rfl) ⟨Nat.le_of_ble_eq_true rfl, Nat.le_of_ble_eq_true rfl⟩ ⟨(by show kc ≤ 603072; omega), (by show ks ≤ 7067754; omega)⟩ dL_law_294 (fun H locs hW => ?_)
  refine lv_icmp_eq (tgt := 1752) hx hb dL_law_297 (by decide) (fun c297 => ?_) (fun c297 => ?_)
  · have hf := ifp c297 hf
    refine W.widen (k := kc + 20) (n := ks + 300) (by omega) (by omega) ?_
    exact hK a r1 r2 r3 x4 s294 hf _ _ _ (lv_sub hl [0, 1, 2, 3, 4] rfl) hW
  · have hf := ifn c297 hf
    refine lv_iconst (v := 0) hx hb dL_law_300 (by decide) ?_
    cases hf
def f_law_c2 (L : Nat) (xs : Nat → Int32) (K : Nat → Nat → Nat → Int32 → ST → Option Unit) (r1 r2 r3 : Nat) (x4 : Int32) (s : ST) : Option Unit :=
  gd (r1 < s.1 ∧ (kd s r1).1 = 1) <|
  gd (r1 < s.1) <|
  gd (r2 < s.1) <|
  gd (r3 < s.1) <|
  ob (f_X1_town r1 s) fun v303 s303 =>
  gd (r2 < s303.1 ∧ (kd s303 r2).1 = 14) <|
  ob (f_X14_town r2 s303) fun v307 s307 =>
  gd (s303.1 ≤ s307.1) <|
  if v303 = v307 then (K r1 r2 r3 x4 s307) else none
set_option maxHeartbeats 4000000 in
theorem lc_2 {p : Program} {l : Launch} {e : Env} {s0 : State} {m : MethodId} {b L : Nat} {xs : Nat → Int32} {below : List Frame} {meth : Method} {c : Code} {G : GM} (hlt : l.stackTraces = false) (hC : CX p s0 m #[Value.ref b] meth c G (fun q => s0.heap.size ≤ q) code R_law 8) (hr : meth.sig.returnType = ret) (hX : va_X b L xs s0 s0.heap) (hbl : b < s0.heap.size) {K : Nat → Nat → Nat → Int32 → ST → Option Unit} {kc ks : Nat} (hkc : kc + 20 ≤ 603072) (hks : ks + 300 ≤ 7067754) (hK : KL p l e s0 m b below meth c G K (kc + 20) (ks + 300) 1752) : KL p l e s0 m b below meth c G (f_law_c2 L xs K) kc ks 302 := by
  intro a r1 r2 r3 x4 s hf H locs ls hl hW
  have hx := hC.1
  have hb := hC.2.1
  have hts := hC.2.2.2.2.1
  obtain ⟨N0, hN0⟩ : ∃ N0, N0 = 0 := ⟨_, rfl⟩
  have hE : EX a a N0 := EX.rf
  have hN : N0 ≤ s.1 := by omega
  unfold f_law_c2 at hf
  refine lv_aload_n hx hb dL_law_302 rfl (lv_at hl 1 rfl) ?_
  obtain ⟨g303, hf⟩ := gd_some hf
  obtain ⟨gr303, hf⟩ := gd_some hf
  obtain ⟨gr303_1, hf⟩ := gd_some hf
  obtain ⟨gr303_2, hf⟩ := gd_some hf
  obtain ⟨v303, s303, h303, hf⟩ := ob_some hf
  refine aw_run hC hW (aw_runW hC hW hl.1 (r := r1) (As := []) (rest := []) (cta_X1_town l hlt G a r1 s v303 s303 h303) vh_X1_town q517 g303 rfl rfl rfl rfl (Nat.le_of_ble_eq_true rfl) ⟨Nat.le_of_ble_eq_true rfl, Nat.le_of_ble_eq_true rfl⟩ ⟨(by show kc + 2 ≤ 603072; omega), (by show ks + 11 ≤ 7067754; omega)⟩ dL_law_303) (fun v9 a303 s9 H locs hp9 hW => ?_)
  obtain ⟨rfl, h9s, hE1, hN1⟩ := hp9
  rw [h9s] at hW
  have hE : EX a a303 N0 := hE.trans hE1 hN
  have hN := Nat.le_trans hN hN1
  have hl : lv_has ls 8 [(0, .ref b), (1, .ref (a303 r1)), (2, .ref (a303 r2)), (3, .ref (a303 r3)), (4, .int x4)] := by simp only [hE1 _ gr303, hE1 _ gr303_1, hE1 _ gr303_2]; exact hl
  refine W.eq (g2 := F0 m 306 ls [.int v303]) rfl ?_
  refine W.widen (k := kc + 20) (n := ks + 300) (by show kc + 2 ≤ kc + 20; omega) (by show ks + 11 ≤ ks + 300; omega) ?_
  refine lv_aload_n hx hb dL_law_306 rfl (lv_at hl 2 rfl) ?_
  obtain ⟨g307, hf⟩ := gd_some hf
  obtain ⟨v307, s307, h307, hf⟩ := ob_some hf
  obtain ⟨hN1, hf⟩ := gd_some hf
  have hN := Nat.le_trans hN hN1
  refine aw_dV1 (r := r2) (As := []) (rest := [.int v303]) (ct_X14_town l G a303 r2 s303 v307 s307 h307) hC hW hl.1 vy_X14_town (Or.inl q1517) g307 rfl rfl rfl rfl (Nat.le_of_ble_eq_true rfl) ⟨Nat.le_of_ble_eq_true rfl, Nat.le_of_ble_eq_true rfl⟩ ⟨(by show kc + 20 ≤ 603072; omega), (by show ks + 300 ≤ 7067754; omega)⟩ dL_law_307 (fun H locs hW => ?_)
  refine lv_icmp_eq (tgt := 1752) hx hb dL_law_310 (by decide) (fun c310 => ?_) (fun c310 => ?_)
  · have hf := ifp c310 hf
    exact hK a303 r1 r2 r3 x4 s307 hf _ _ _ (lv_sub hl [0, 1, 2, 3, 4] rfl) hW
  · have hf := ifn c310 hf
    refine lv_iconst (v := 0) hx hb dL_law_313 (by decide) ?_
    cases hf
def f_law_c3 (L : Nat) (xs : Nat → Int32) (K : Nat → Nat → Nat → Int32 → ST → Option Unit) (r1 r2 r3 : Nat) (x4 : Int32) (s : ST) : Option Unit :=
  gd (r1 < s.1 ∧ (kd s r1).1 = 1) <|
  gd (r1 < s.1) <|
  gd (r2 < s.1) <|
  gd (r3 < s.1) <|
  ob (f_X1_will r1 s) fun v316 s316 =>
  gd (r2 < s316.1 ∧ (kd s316 r2).1 = 14) <|
  ob (f_X14_will r2 s316) fun v320 s320 =>
  gd (s316.1 ≤ s320.1) <|
  if v316 = v320 then (K r1 r2 r3 x4 s320) else none
set_option maxHeartbeats 4000000 in
theorem lc_3 {p : Program} {l : Launch} {e : Env} {s0 : State} {m : MethodId} {b L : Nat} {xs : Nat → Int32} {below : List Frame} {meth : Method} {c : Code} {G : GM} (hlt : l.stackTraces = false) (hC : CX p s0 m #[Value.ref b] meth c G (fun q => s0.heap.size ≤ q) code R_law 8) (hr : meth.sig.returnType = ret) (hX : va_X b L xs s0 s0.heap) (hbl : b < s0.heap.size) {K : Nat → Nat → Nat → Int32 → ST → Option Unit} {kc ks : Nat} (hkc : kc + 20 ≤ 603072) (hks : ks + 300 ≤ 7067754) (hK : KL p l e s0 m b below meth c G K (kc + 20) (ks + 300) 1752) : KL p l e s0 m b below meth c G (f_law_c3 L xs K) kc ks 315 := by
  intro a r1 r2 r3 x4 s hf H locs ls hl hW
  have hx := hC.1
  have hb := hC.2.1
  have hts := hC.2.2.2.2.1
  obtain ⟨N0, hN0⟩ : ∃ N0, N0 = 0 := ⟨_, rfl⟩
  have hE : EX a a N0 := EX.rf
  have hN : N0 ≤ s.1 := by omega
  unfold f_law_c3 at hf
  refine lv_aload_n hx hb dL_law_315 rfl (lv_at hl 1 rfl) ?_
  obtain ⟨g316, hf⟩ := gd_some hf
  obtain ⟨gr316, hf⟩ := gd_some hf
  obtain ⟨gr316_1, hf⟩ := gd_some hf
  obtain ⟨gr316_2, hf⟩ := gd_some hf
  obtain ⟨v316, s316, h316, hf⟩ := ob_some hf
  refine aw_run hC hW (aw_runW hC hW hl.1 (r := r1) (As := []) (rest := []) (cta_X1_will l hlt G a r1 s v316 s316 h316) vh_X1_will q667 g316 rfl rfl rfl rfl (Nat.le_of_ble_eq_true rfl) ⟨Nat.le_of_ble_eq_true rfl, Nat.le_of_ble_eq_true rfl⟩ ⟨(by show kc + 3 ≤ 603072; omega), (by show ks + 94 ≤ 7067754; omega)⟩ dL_law_316) (fun v9 a316 s9 H locs hp9 hW => ?_)
  obtain ⟨rfl, h9s, hE1, hN1⟩ := hp9
  rw [h9s] at hW
  have hE : EX a a316 N0 := hE.trans hE1 hN
  have hN := Nat.le_trans hN hN1
  have hl : lv_has ls 8 [(0, .ref b), (1, .ref (a316 r1)), (2, .ref (a316 r2)), (3, .ref (a316 r3)), (4, .int x4)] := by simp only [hE1 _ gr316, hE1 _ gr316_1, hE1 _ gr316_2]; exact hl
  refine W.eq (g2 := F0 m 319 ls [.int v316]) rfl ?_
  refine W.widen (k := kc + 20) (n := ks + 300) (by show kc + 3 ≤ kc + 20; omega) (by show ks + 94 ≤ ks + 300; omega) ?_
  refine lv_aload_n hx hb dL_law_319 rfl (lv_at hl 2 rfl) ?_
  obtain ⟨g320, hf⟩ := gd_some hf
  obtain ⟨v320, s320, h320, hf⟩ := ob_some hf
  obtain ⟨hN1, hf⟩ := gd_some hf
  have hN := Nat.le_trans hN hN1
  refine aw_dV1 (r := r2) (As := []) (rest := [.int v316]) (ct_X14_will l G a316 r2 s316 v320 s320 h320) hC hW hl.1 vy_X14_will (Or.inl q1598) g320 rfl rfl rfl rfl (Nat.le_of_ble_eq_true rfl) ⟨Nat.le_of_ble_eq_true rfl, Nat.le_of_ble_eq_true rfl⟩ ⟨(by show kc + 20 ≤ 603072; omega), (by show ks + 300 ≤ 7067754; omega)⟩ dL_law_320 (fun H locs hW => ?_)
  refine lv_icmp_eq (tgt := 1752) hx hb dL_law_323 (by decide) (fun c323 => ?_) (fun c323 => ?_)
  · have hf := ifp c323 hf
    exact hK a316 r1 r2 r3 x4 s320 hf _ _ _ (lv_sub hl [0, 1, 2, 3, 4] rfl) hW
  · have hf := ifn c323 hf
    refine lv_iconst (v := 0) hx hb dL_law_326 (by decide) ?_
    cases hf
def f_law_c4 (L : Nat) (xs : Nat → Int32) (K : Nat → Nat → Nat → Int32 → ST → Option Unit) (r1 r2 r3 : Nat) (x4 : Int32) (s : ST) : Option Unit :=
  gd (¬ (((x4 + 1) : Int32) < 0 ∨ L ≤ ((x4 + 1) : Int32).toNatClampNeg)) <|
  gd (r1 < s.1 ∧ (kd s r1).1 = 1) <|
  gd (r1 < s.1) <|
  gd (r2 < s.1) <|
  gd (r3 < s.1) <|
  ob (f_X1_habit r1 (xs ((x4 + 1) : Int32).toNatClampNeg) s) fun v335 s335 =>
  gd (¬ (((x4 + 1) : Int32) < 0 ∨ L ≤ ((x4 + 1) : Int32).toNatClampNeg)) <|
  gd (r2 < s335.1 ∧ (kd s335 r2).1 = 14) <|
  ob (f_X14_habit r2 (xs ((x4 + 1) : Int32).toNatClampNeg) s335) fun v345 s345 =>
  gd (s335.1 ≤ s345.1) <|
  if v335 = v345 then (K r1 r2 r3 x4 s345) else none
set_option maxHeartbeats 4000000 in
theorem lc_4 {p : Program} {l : Launch} {e : Env} {s0 : State} {m : MethodId} {b L : Nat} {xs : Nat → Int32} {below : List Frame} {meth : Method} {c : Code} {G : GM} (hlt : l.stackTraces = false) (hC : CX p s0 m #[Value.ref b] meth c G (fun q => s0.heap.size ≤ q) code R_law 8) (hr : meth.sig.returnType = ret) (hX : va_X b L xs s0 s0.heap) (hbl : b < s0.heap.size) {K : Nat → Nat → Nat → Int32 → ST → Option Unit} {kc ks : Nat} (hkc : kc + 20 ≤ 603072) (hks : ks + 300 ≤ 7067754) (hK : KL p l e s0 m b below meth c G K (kc + 20) (ks + 300) 1752) : KL p l e s0 m b below meth c G (f_law_c4 L xs K) kc ks 328 := by
  intro a r1 r2 r3 x4 s hf H locs ls hl hW
  have hx := hC.1
  have hb := hC.2.1
  have hts := hC.2.2.2.2.1
  obtain ⟨N0, hN0⟩ : ∃ N0, N0 = 0 := ⟨_, rfl⟩
  have hE : EX a a N0 := EX.rf
  have hN : N0 ≤ s.1 := by omega
  unfold f_law_c4 at hf
  refine lv_aload_n hx hb dL_law_328 rfl (lv_at hl 1 rfl) ?_
  refine lv_aload_n hx hb dL_law_329 rfl (lv_at hl 0 rfl) ?_
  refine lv_iload hx hb dL_law_330 (lv_at hl 4 rfl) ?_
  refine lv_iconst (v := 1) hx hb dL_law_332 (by decide) ?_
  refine lv_iadd hx hb dL_law_333 ?_
  obtain ⟨g334, hf⟩ := gd_some hf
  refine lw_xld hx hb hX hbl hW g334 dL_law_334 ?_
  obtain ⟨g335, hf⟩ := gd_some hf
  obtain ⟨gr335, hf⟩ := gd_some hf
  obtain ⟨gr335_1, hf⟩ := gd_some hf
  obtain ⟨gr335_2, hf⟩ := gd_some hf
  obtain ⟨v335, s335, h335, hf⟩ := ob_some hf
  refine aw_run hC hW (aw_runW hC hW hl.1 (r := r1) (As := [.int (xs ((x4 + 1) : Int32).toNatClampNeg)]) (rest := []) (cta_X1_habit l hlt G a r1 (xs ((x4 + 1) : Int32).toNatClampNeg) s v335 s335 h335) vh_X1_habit q844 g335 rfl rfl rfl rfl (Nat.le_of_ble_eq_true rfl) ⟨Nat.le_of_ble_eq_true rfl, Nat.le_of_ble_eq_true rfl⟩ ⟨(by show kc + 2 ≤ 603072; omega), (by show ks + 11 ≤ 7067754; omega)⟩ dL_law_335) (fun v9 a335 s9 H locs hp9 hW => ?_)
  obtain ⟨rfl, h9s, hE1, hN1⟩ := hp9
  rw [h9s] at hW
  have hE : EX a a335 N0 := hE.trans hE1 hN
  have hN := Nat.le_trans hN hN1
  have hl : lv_has ls 8 [(0, .ref b), (1, .ref (a335 r1)), (2, .ref (a335 r2)), (3, .ref (a335 r3)), (4, .int x4)] := by simp only [hE1 _ gr335, hE1 _ gr335_1, hE1 _ gr335_2]; exact hl
  refine W.eq (g2 := F0 m 338 ls [.int v335]) rfl ?_
  refine W.widen (k := kc + 20) (n := ks + 300) (by show kc + 2 ≤ kc + 20; omega) (by show ks + 11 ≤ ks + 300; omega) ?_
  refine lv_aload_n hx hb dL_law_338 rfl (lv_at hl 2 rfl) ?_
  refine lv_aload_n hx hb dL_law_339 rfl (lv_at hl 0 rfl) ?_
  refine lv_iload hx hb dL_law_340 (lv_at hl 4 rfl) ?_
  refine lv_iconst (v := 1) hx hb dL_law_342 (by decide) ?_
  refine lv_iadd hx hb dL_law_343 ?_
  obtain ⟨g344, hf⟩ := gd_some hf
  refine lw_xld hx hb hX hbl hW g344 dL_law_344 ?_
  obtain ⟨g345, hf⟩ := gd_some hf
  obtain ⟨v345, s345, h345, hf⟩ := ob_some hf
  obtain ⟨hN1, hf⟩ := gd_some hf
  have hN := Nat.le_trans hN hN1
  refine aw_dV1 (r := r2) (As := [.int (xs ((x4 + 1) : Int32).toNatClampNeg)]) (rest := [.int v335]) (ct_X14_habit l G a335 r2 (xs ((x4 + 1) : Int32).toNatClampNeg) s335 v345 s345 h345) hC hW hl.1 vy_X14_habit (Or.inl q1590) g345 rfl rfl rfl rfl (Nat.le_of_ble_eq_true rfl) ⟨Nat.le_of_ble_eq_true rfl, Nat.le_of_ble_eq_true rfl⟩ ⟨(by show kc + 20 ≤ 603072; omega), (by show ks + 300 ≤ 7067754; omega)⟩ dL_law_345 (fun H locs hW => ?_)
  refine lv_icmp_eq (tgt := 1752) hx hb dL_law_348 (by decide) (fun c348 => ?_) (fun c348 => ?_)
  · have hf := ifp c348 hf
    exact hK a335 r1 r2 r3 x4 s345 hf _ _ _ (lv_sub hl [0, 1, 2, 3, 4] rfl) hW
  · have hf := ifn c348 hf
    refine lv_iconst (v := 0) hx hb dL_law_351 (by decide) ?_
    cases hf
def f_law_c5 (L : Nat) (xs : Nat → Int32) (K : Nat → Nat → Nat → Int32 → ST → Option Unit) (r1 r2 r3 : Nat) (x4 : Int32) (s : ST) : Option Unit :=
  gd (¬ (((x4 + 1) : Int32) < 0 ∨ L ≤ ((x4 + 1) : Int32).toNatClampNeg)) <|
  gd (¬ (((x4 + 2) : Int32) < 0 ∨ L ≤ ((x4 + 2) : Int32).toNatClampNeg)) <|
  gd (r1 < s.1) <|
  gd (r2 < s.1) <|
  gd (r3 < s.1) <|
  ob (f_X0_of r1 (xs ((x4 + 1) : Int32).toNatClampNeg) (xs ((x4 + 2) : Int32).toNatClampNeg) r3 s) fun v367 s367 =>
  gd (¬ (((x4 + 1) : Int32) < 0 ∨ L ≤ ((x4 + 1) : Int32).toNatClampNeg)) <|
  gd (¬ (((x4 + 2) : Int32) < 0 ∨ L ≤ ((x4 + 2) : Int32).toNatClampNeg)) <|
  gd (r2 < s367.1 ∧ (kd s367 r2).1 = 14) <|
  ob (f_X14_of r2 (xs ((x4 + 1) : Int32).toNatClampNeg) (xs ((x4 + 2) : Int32).toNatClampNeg) s367) fun v385 s385 =>
  gd (s367.1 ≤ s385.1) <|
  gd (r2 < s385.1 ∧ (kd s385 r2).1 = 14) <|
  ob (f_X14_thrown r2 s385) fun v391 s391 =>
  gd (s385.1 ≤ s391.1) <|
  if v391 = v367 then (if v367 = 0 then (gd (r3 < s391.1 ∧ (kd s391 r3).1 = 104 ∧ ¬ ((0 : Int32) < 0 ∨ (kd s391 r3).2 ≤ (0 : Int32).toNatClampNeg)) <|
  if (lg_cmp (gl s391 r3 (0 : Int32).toNatClampNeg) ((v385 : Int32).toInt64)) = 0 then (K r1 r2 r3 x4 s391) else none) else K r1 r2 r3 x4 s391) else none
set_option maxHeartbeats 4000000 in
theorem lc_5 {p : Program} {l : Launch} {e : Env} {s0 : State} {m : MethodId} {b L : Nat} {xs : Nat → Int32} {below : List Frame} {meth : Method} {c : Code} {G : GM} (hlt : l.stackTraces = false) (hC : CX p s0 m #[Value.ref b] meth c G (fun q => s0.heap.size ≤ q) code R_law 8) (hr : meth.sig.returnType = ret) (hX : va_X b L xs s0 s0.heap) (hbl : b < s0.heap.size) {K : Nat → Nat → Nat → Int32 → ST → Option Unit} {kc ks : Nat} (hkc : kc + 20 ≤ 603072) (hks : ks + 300 ≤ 7067754) (hK : KL p l e s0 m b below meth c G K (kc + 20) (ks + 300) 1752) : KL p l e s0 m b below meth c G (f_law_c5 L xs K) kc ks 353 := by
  intro a r1 r2 r3 x4 s hf H locs ls hl hW
  have hx := hC.1
  have hb := hC.2.1
  have hts := hC.2.2.2.2.1
  obtain ⟨N0, hN0⟩ : ∃ N0, N0 = 0 := ⟨_, rfl⟩
  have hE : EX a a N0 := EX.rf
  have hN : N0 ≤ s.1 := by omega
  unfold f_law_c5 at hf
  refine lv_aload_n hx hb dL_law_353 rfl (lv_at hl 1 rfl) ?_
  refine lv_aload_n hx hb dL_law_354 rfl (lv_at hl 0 rfl) ?_
  refine lv_iload hx hb dL_law_355 (lv_at hl 4 rfl) ?_
  refine lv_iconst (v := 1) hx hb dL_law_357 (by decide) ?_
  refine lv_iadd hx hb dL_law_358 ?_
  obtain ⟨g359, hf⟩ := gd_some hf
  refine lw_xld hx hb hX hbl hW g359 dL_law_359 ?_
  refine lv_aload_n hx hb dL_law_360 rfl (lv_at hl 0 rfl) ?_
  refine lv_iload hx hb dL_law_361 (lv_at hl 4 rfl) ?_
  refine lv_iconst (v := 2) hx hb dL_law_363 (by decide) ?_
  refine lv_iadd hx hb dL_law_364 ?_
  obtain ⟨g365, hf⟩ := gd_some hf
  refine lw_xld hx hb hX hbl hW g365 dL_law_365 ?_
  refine lv_aload_n hx hb dL_law_366 rfl (lv_at hl 3 rfl) ?_
  obtain ⟨gr367, hf⟩ := gd_some hf
  obtain ⟨gr367_1, hf⟩ := gd_some hf
  obtain ⟨gr367_2, hf⟩ := gd_some hf
  obtain ⟨v367, s367, h367, hf⟩ := ob_some hf
  refine aw_run hC hW (aw_runSW (n := 4) hC hW hl.1 (As := [.ref (a r1), .int (xs ((x4 + 1) : Int32).toNatClampNeg), .int (xs ((x4 + 2) : Int32).toNatClampNeg), .ref (a r3)]) (rest := []) (cta_X0_of l hlt G a r1 (xs ((x4 + 1) : Int32).toNatClampNeg) (xs ((x4 + 2) : Int32).toNatClampNeg) r3 s v367 s367 h367) q1302 q74 q1303 ⟨by decide +kernel, by decide +kernel, by decide +kernel⟩ q1301 rfl rfl (Nat.le_of_ble_eq_true rfl) ⟨Nat.le_of_ble_eq_true rfl, Nat.le_of_ble_eq_true rfl⟩ ⟨(by show kc + 1 ≤ 603072; omega), (by show ks + 6 ≤ 7067754; omega)⟩ dL_law_367) (fun v9 a367 s9 H locs hp9 hW => ?_)
  obtain ⟨rfl, h9s, hE1, hN1⟩ := hp9
  rw [h9s] at hW
  have hE : EX a a367 N0 := hE.trans hE1 hN
  have hN := Nat.le_trans hN hN1
  have hl : lv_has ls 8 [(0, .ref b), (1, .ref (a367 r1)), (2, .ref (a367 r2)), (3, .ref (a367 r3)), (4, .int x4)] := by simp only [hE1 _ gr367, hE1 _ gr367_1, hE1 _ gr367_2]; exact hl
  refine W.eq (g2 := F0 m 370 ls [.int v367]) rfl ?_
  refine W.widen (k := kc + 20) (n := ks + 300) (by show kc + 1 ≤ kc + 20; omega) (by show ks + 6 ≤ ks + 300; omega) ?_
  refine lv_istore (lv' := [(5, .int v367), (0, .ref b), (1, .ref (a367 r1)), (2, .ref (a367 r2)), (3, .ref (a367 r3)), (4, .int x4)]) hx hb dL_law_370 hl (by decide) rfl (fun ls hl => ?_)
  refine lv_aload_n hx hb dL_law_372 rfl (lv_at hl 3 rfl) ?_
  refine lv_aload_n hx hb dL_law_373 rfl (lv_at hl 1 rfl) ?_
  refine lv_iload hx hb dL_law_374 (lv_at hl 5 rfl) ?_
  refine lv_iconst (v := 1) hx hb dL_law_376 (by decide) ?_
  refine lv_iadd hx hb dL_law_377 ?_
  obtain ⟨g378, hf⟩ := gd_some hf
  refine lw_xld hx hb hX hbl hW g378 dL_law_378 ?_
  refine lv_aload_n hx hb dL_law_379 rfl (lv_at hl 1 rfl) ?_
  refine lv_iload hx hb dL_law_380 (lv_at hl 5 rfl) ?_
  refine lv_iconst (v := 2) hx hb dL_law_382 (by decide) ?_
  refine lv_iadd hx hb dL_law_383 ?_
  obtain ⟨g384, hf⟩ := gd_some hf
  refine lw_xld hx hb hX hbl hW g384 dL_law_384 ?_
  obtain ⟨g385, hf⟩ := gd_some hf
  obtain ⟨v385, s385, h385, hf⟩ := ob_some hf
  obtain ⟨hN1, hf⟩ := gd_some hf
  have hN := Nat.le_trans hN hN1
  refine aw_dV1 (r := r2) (As := [.int (xs ((x4 + 1) : Int32).toNatClampNeg), .int (xs ((x4 + 2) : Int32).toNatClampNeg)]) (rest := []) (ct_X14_of l G a367 r2 (xs ((x4 + 1) : Int32).toNatClampNeg) (xs ((x4 + 2) : Int32).toNatClampNeg) s367 v385 s385 h385) hC hW hl.1 vy_X14_of (Or.inl q1617) g385 rfl rfl rfl rfl (Nat.le_of_ble_eq_true rfl) ⟨Nat.le_of_ble_eq_true rfl, Nat.le_of_ble_eq_true rfl⟩ ⟨(by show kc + 20 ≤ 603072; omega), (by show ks + 300 ≤ 7067754; omega)⟩ dL_law_385 (fun H locs hW => ?_)
  refine lv_istore (lv' := [(6, .int v385), (5, .int v367), (0, .ref b), (1, .ref (a367 r1)), (2, .ref (a367 r2)), (3, .ref (a367 r3)), (4, .int x4)]) hx hb dL_law_388 hl (by decide) rfl (fun ls hl => ?_)
  refine lv_aload_n hx hb dL_law_390 rfl (lv_at hl 4 rfl) ?_
  obtain ⟨g391, hf⟩ := gd_some hf
  obtain ⟨v391, s391, h391, hf⟩ := ob_some hf
  obtain ⟨hN1, hf⟩ := gd_some hf
  have hN := Nat.le_trans hN hN1
  refine aw_dV1 (r := r2) (As := []) (rest := []) (ct_X14_thrown l G a367 r2 s385 v391 s391 h391) hC hW hl.1 vy_X14_thrown (Or.inl q1356) g391 rfl rfl rfl rfl (Nat.le_of_ble_eq_true rfl) ⟨Nat.le_of_ble_eq_true rfl, Nat.le_of_ble_eq_true rfl⟩ ⟨(by show kc + 20 ≤ 603072; omega), (by show ks + 300 ≤ 7067754; omega)⟩ dL_law_391 (fun H locs hW => ?_)
  refine lv_iload hx hb dL_law_394 (lv_at hl 1 rfl) ?_
  refine lv_icmp_eq (tgt := 401) hx hb dL_law_396 (by decide) (fun c396 => ?_) (fun c396 => ?_)
  · have hf := ifp c396 hf
    refine lv_iload hx hb dL_law_401 (lv_at hl 1 rfl) ?_
    refine lv_if_ne (tgt := 418) hx hb dL_law_403 (by decide) (fun c403 => ?_) (fun c403 => ?_)
    · have hf := ifn c403 hf
      refine lv_goto (tgt := 1752) hx hb dL_law_418 (by decide) ?_
      exact hK a367 r1 r2 r3 x4 s391 hf _ _ _ (lv_sub hl [2, 3, 4, 5, 6] rfl) hW
    · have hf := ifp c403 hf
      refine lv_aload_n hx hb dL_law_406 rfl (lv_at hl 5 rfl) ?_
      refine lv_iconst (v := 0) hx hb dL_law_407 (by decide) ?_
      obtain ⟨g408, hf⟩ := gd_some hf
      refine aw_lald hC hW g408 dL_law_408 ?_
      refine lv_iload hx hb dL_law_409 (lv_at hl 0 rfl) ?_
      refine lv_i2l (v := (v385 : Int32).toInt64) hx hb dL_law_411 rfl ?_
      refine W.lcmp hx hb dL_law_412 ?_
      refine lv_if_eq (tgt := 418) hx hb dL_law_413 (by decide) (fun c413 => ?_) (fun c413 => ?_)
      · have hf := ifp c413 hf
        refine lv_goto (tgt := 1752) hx hb dL_law_418 (by decide) ?_
        exact hK a367 r1 r2 r3 x4 s391 hf _ _ _ (lv_sub hl [2, 3, 4, 5, 6] rfl) hW
      · have hf := ifn c413 hf
        refine lv_iconst (v := 0) hx hb dL_law_416 (by decide) ?_
        cases hf
  · have hf := ifn c396 hf
    refine lv_iconst (v := 0) hx hb dL_law_399 (by decide) ?_
    cases hf
def f_law_c6 (L : Nat) (xs : Nat → Int32) (K : Nat → Nat → Nat → Int32 → ST → Option Unit) (r1 r2 r3 : Nat) (x4 : Int32) (s : ST) : Option Unit :=
  gd (¬ (((x4 + 1) : Int32) < 0 ∨ L ≤ ((x4 + 1) : Int32).toNatClampNeg)) <|
  gd (¬ (((x4 + 2) : Int32) < 0 ∨ L ≤ ((x4 + 2) : Int32).toNatClampNeg)) <|
  gd (r1 < s.1) <|
  gd (r2 < s.1) <|
  gd (r3 < s.1) <|
  ob (f_X0_change r1 (xs ((x4 + 1) : Int32).toNatClampNeg) (xs ((x4 + 2) : Int32).toNatClampNeg) r3 s) fun v435 s435 =>
  gd (¬ (((x4 + 1) : Int32) < 0 ∨ L ≤ ((x4 + 1) : Int32).toNatClampNeg)) <|
  gd (¬ (((x4 + 2) : Int32) < 0 ∨ L ≤ ((x4 + 2) : Int32).toNatClampNeg)) <|
  gd (r2 < s435.1 ∧ (kd s435 r2).1 = 14) <|
  ob (f_X14_change r2 (xs ((x4 + 1) : Int32).toNatClampNeg) (xs ((x4 + 2) : Int32).toNatClampNeg) s435) fun v453 s453 =>
  gd (s435.1 ≤ s453.1) <|
  gd (r2 < s453.1 ∧ (kd s453 r2).1 = 14) <|
  ob (f_X14_thrown r2 s453) fun v459 s459 =>
  gd (s453.1 ≤ s459.1) <|
  if v459 = v435 then (if v435 = 0 then (gd (r3 < s459.1 ∧ (kd s459 r3).1 = 104 ∧ ¬ ((0 : Int32) < 0 ∨ (kd s459 r3).2 ≤ (0 : Int32).toNatClampNeg)) <|
  if (lg_cmp (gl s459 r3 (0 : Int32).toNatClampNeg) ((v453 : Int32).toInt64)) = 0 then (K r1 r2 r3 x4 s459) else none) else K r1 r2 r3 x4 s459) else none
set_option maxHeartbeats 4000000 in
theorem lc_6 {p : Program} {l : Launch} {e : Env} {s0 : State} {m : MethodId} {b L : Nat} {xs : Nat → Int32} {below : List Frame} {meth : Method} {c : Code} {G : GM} (hlt : l.stackTraces = false) (hC : CX p s0 m #[Value.ref b] meth c G (fun q => s0.heap.size ≤ q) code R_law 8) (hr : meth.sig.returnType = ret) (hX : va_X b L xs s0 s0.heap) (hbl : b < s0.heap.size) {K : Nat → Nat → Nat → Int32 → ST → Option Unit} {kc ks : Nat} (hkc : kc + 20 ≤ 603072) (hks : ks + 300 ≤ 7067754) (hK : KL p l e s0 m b below meth c G K (kc + 20) (ks + 300) 1752) : KL p l e s0 m b below meth c G (f_law_c6 L xs K) kc ks 421 := by
  intro a r1 r2 r3 x4 s hf H locs ls hl hW
  have hx := hC.1
  have hb := hC.2.1
  have hts := hC.2.2.2.2.1
  obtain ⟨N0, hN0⟩ : ∃ N0, N0 = 0 := ⟨_, rfl⟩
  have hE : EX a a N0 := EX.rf
  have hN : N0 ≤ s.1 := by omega
  unfold f_law_c6 at hf
  refine lv_aload_n hx hb dL_law_421 rfl (lv_at hl 1 rfl) ?_
  refine lv_aload_n hx hb dL_law_422 rfl (lv_at hl 0 rfl) ?_
  refine lv_iload hx hb dL_law_423 (lv_at hl 4 rfl) ?_
  refine lv_iconst (v := 1) hx hb dL_law_425 (by decide) ?_
  refine lv_iadd hx hb dL_law_426 ?_
  obtain ⟨g427, hf⟩ := gd_some hf
  refine lw_xld hx hb hX hbl hW g427 dL_law_427 ?_
  refine lv_aload_n hx hb dL_law_428 rfl (lv_at hl 0 rfl) ?_
  refine lv_iload hx hb dL_law_429 (lv_at hl 4 rfl) ?_
  refine lv_iconst (v := 2) hx hb dL_law_431 (by decide) ?_
  refine lv_iadd hx hb dL_law_432 ?_
  obtain ⟨g433, hf⟩ := gd_some hf
  refine lw_xld hx hb hX hbl hW g433 dL_law_433 ?_
  refine lv_aload_n hx hb dL_law_434 rfl (lv_at hl 3 rfl) ?_
  obtain ⟨gr435, hf⟩ := gd_some hf
  obtain ⟨gr435_1, hf⟩ := gd_some hf
  obtain ⟨gr435_2, hf⟩ := gd_some hf
  obtain ⟨v435, s435, h435, hf⟩ := ob_some hf
  refine aw_run hC hW (aw_runSW (n := 4) hC hW hl.1 (As := [.ref (a r1), .int (xs ((x4 + 1) : Int32).toNatClampNeg), .int (xs ((x4 + 2) : Int32).toNatClampNeg), .ref (a r3)]) (rest := []) (cta_X0_change l hlt G a r1 (xs ((x4 + 1) : Int32).toNatClampNeg) (xs ((x4 + 2) : Int32).toNatClampNeg) r3 s v435 s435 h435) q1328 q74 q1329 ⟨by decide +kernel, by decide +kernel, by decide +kernel⟩ q1327 rfl rfl (Nat.le_of_ble_eq_true rfl) ⟨Nat.le_of_ble_eq_true rfl, Nat.le_of_ble_eq_true rfl⟩ ⟨(by show kc + 1 ≤ 603072; omega), (by show ks + 6 ≤ 7067754; omega)⟩ dL_law_435) (fun v9 a435 s9 H locs hp9 hW => ?_)
  obtain ⟨rfl, h9s, hE1, hN1⟩ := hp9
  rw [h9s] at hW
  have hE : EX a a435 N0 := hE.trans hE1 hN
  have hN := Nat.le_trans hN hN1
  have hl : lv_has ls 8 [(0, .ref b), (1, .ref (a435 r1)), (2, .ref (a435 r2)), (3, .ref (a435 r3)), (4, .int x4)] := by simp only [hE1 _ gr435, hE1 _ gr435_1, hE1 _ gr435_2]; exact hl
  refine W.eq (g2 := F0 m 438 ls [.int v435]) rfl ?_
  refine W.widen (k := kc + 20) (n := ks + 300) (by show kc + 1 ≤ kc + 20; omega) (by show ks + 6 ≤ ks + 300; omega) ?_
  refine lv_istore (lv' := [(5, .int v435), (0, .ref b), (1, .ref (a435 r1)), (2, .ref (a435 r2)), (3, .ref (a435 r3)), (4, .int x4)]) hx hb dL_law_438 hl (by decide) rfl (fun ls hl => ?_)
  refine lv_aload_n hx hb dL_law_440 rfl (lv_at hl 3 rfl) ?_
  refine lv_aload_n hx hb dL_law_441 rfl (lv_at hl 1 rfl) ?_
  refine lv_iload hx hb dL_law_442 (lv_at hl 5 rfl) ?_
  refine lv_iconst (v := 1) hx hb dL_law_444 (by decide) ?_
  refine lv_iadd hx hb dL_law_445 ?_
  obtain ⟨g446, hf⟩ := gd_some hf
  refine lw_xld hx hb hX hbl hW g446 dL_law_446 ?_
  refine lv_aload_n hx hb dL_law_447 rfl (lv_at hl 1 rfl) ?_
  refine lv_iload hx hb dL_law_448 (lv_at hl 5 rfl) ?_
  refine lv_iconst (v := 2) hx hb dL_law_450 (by decide) ?_
  refine lv_iadd hx hb dL_law_451 ?_
  obtain ⟨g452, hf⟩ := gd_some hf
  refine lw_xld hx hb hX hbl hW g452 dL_law_452 ?_
  obtain ⟨g453, hf⟩ := gd_some hf
  obtain ⟨v453, s453, h453, hf⟩ := ob_some hf
  obtain ⟨hN1, hf⟩ := gd_some hf
  have hN := Nat.le_trans hN hN1
  refine aw_dV1 (r := r2) (As := [.int (xs ((x4 + 1) : Int32).toNatClampNeg), .int (xs ((x4 + 2) : Int32).toNatClampNeg)]) (rest := []) (ct_X14_change l G a435 r2 (xs ((x4 + 1) : Int32).toNatClampNeg) (xs ((x4 + 2) : Int32).toNatClampNeg) s435 v453 s453 h453) hC hW hl.1 vy_X14_change (Or.inl q1649) g453 rfl rfl rfl rfl (Nat.le_of_ble_eq_true rfl) ⟨Nat.le_of_ble_eq_true rfl, Nat.le_of_ble_eq_true rfl⟩ ⟨(by show kc + 20 ≤ 603072; omega), (by show ks + 300 ≤ 7067754; omega)⟩ dL_law_453 (fun H locs hW => ?_)
  refine lv_istore (lv' := [(6, .int v453), (5, .int v435), (0, .ref b), (1, .ref (a435 r1)), (2, .ref (a435 r2)), (3, .ref (a435 r3)), (4, .int x4)]) hx hb dL_law_456 hl (by decide) rfl (fun ls hl => ?_)
  refine lv_aload_n hx hb dL_law_458 rfl (lv_at hl 4 rfl) ?_
  obtain ⟨g459, hf⟩ := gd_some hf
  obtain ⟨v459, s459, h459, hf⟩ := ob_some hf
  obtain ⟨hN1, hf⟩ := gd_some hf
  have hN := Nat.le_trans hN hN1
  refine aw_dV1 (r := r2) (As := []) (rest := []) (ct_X14_thrown l G a435 r2 s453 v459 s459 h459) hC hW hl.1 vy_X14_thrown (Or.inl q1356) g459 rfl rfl rfl rfl (Nat.le_of_ble_eq_true rfl) ⟨Nat.le_of_ble_eq_true rfl, Nat.le_of_ble_eq_true rfl⟩ ⟨(by show kc + 20 ≤ 603072; omega), (by show ks + 300 ≤ 7067754; omega)⟩ dL_law_459 (fun H locs hW => ?_)
  refine lv_iload hx hb dL_law_462 (lv_at hl 1 rfl) ?_
  refine lv_icmp_eq (tgt := 469) hx hb dL_law_464 (by decide) (fun c464 => ?_) (fun c464 => ?_)
  · have hf := ifp c464 hf
    refine lv_iload hx hb dL_law_469 (lv_at hl 1 rfl) ?_
    refine lv_if_ne (tgt := 486) hx hb dL_law_471 (by decide) (fun c471 => ?_) (fun c471 => ?_)
    · have hf := ifn c471 hf
      refine lv_goto (tgt := 1752) hx hb dL_law_486 (by decide) ?_
      exact hK a435 r1 r2 r3 x4 s459 hf _ _ _ (lv_sub hl [2, 3, 4, 5, 6] rfl) hW
    · have hf := ifp c471 hf
      refine lv_aload_n hx hb dL_law_474 rfl (lv_at hl 5 rfl) ?_
      refine lv_iconst (v := 0) hx hb dL_law_475 (by decide) ?_
      obtain ⟨g476, hf⟩ := gd_some hf
      refine aw_lald hC hW g476 dL_law_476 ?_
      refine lv_iload hx hb dL_law_477 (lv_at hl 0 rfl) ?_
      refine lv_i2l (v := (v453 : Int32).toInt64) hx hb dL_law_479 rfl ?_
      refine W.lcmp hx hb dL_law_480 ?_
      refine lv_if_eq (tgt := 486) hx hb dL_law_481 (by decide) (fun c481 => ?_) (fun c481 => ?_)
      · have hf := ifp c481 hf
        refine lv_goto (tgt := 1752) hx hb dL_law_486 (by decide) ?_
        exact hK a435 r1 r2 r3 x4 s459 hf _ _ _ (lv_sub hl [2, 3, 4, 5, 6] rfl) hW
      · have hf := ifn c481 hf
        refine lv_iconst (v := 0) hx hb dL_law_484 (by decide) ?_
        cases hf
  · have hf := ifn c464 hf
    refine lv_iconst (v := 0) hx hb dL_law_467 (by decide) ?_
    cases hf
def f_law_c7 (L : Nat) (xs : Nat → Int32) (K : Nat → Nat → Nat → Int32 → ST → Option Unit) (r1 r2 r3 : Nat) (x4 : Int32) (s : ST) : Option Unit :=
  gd (¬ (((x4 + 1) : Int32) < 0 ∨ L ≤ ((x4 + 1) : Int32).toNatClampNeg)) <|
  gd (¬ (((x4 + 2) : Int32) < 0 ∨ L ≤ ((x4 + 2) : Int32).toNatClampNeg)) <|
  gd (¬ (((x4 + 3) : Int32) < 0 ∨ L ≤ ((x4 + 3) : Int32).toNatClampNeg)) <|
  gd (r1 < s.1 ∧ (kd s r1).1 = 1) <|
  ob (f_X1_set r1 (xs ((x4 + 1) : Int32).toNatClampNeg) (xs ((x4 + 2) : Int32).toNatClampNeg) (xs ((x4 + 3) : Int32).toNatClampNeg) s) fun v508 s508 =>
  gd (s.1 ≤ s508.1) <|
  gd (¬ (((x4 + 1) : Int32) < 0 ∨ L ≤ ((x4 + 1) : Int32).toNatClampNeg)) <|
  gd (¬ (((x4 + 2) : Int32) < 0 ∨ L ≤ ((x4 + 2) : Int32).toNatClampNeg)) <|
  gd (¬ (((x4 + 3) : Int32) < 0 ∨ L ≤ ((x4 + 3) : Int32).toNatClampNeg)) <|
  gd (r2 < s508.1 ∧ (kd s508 r2).1 = 14) <|
  ob (f_X14_set r2 (xs ((x4 + 1) : Int32).toNatClampNeg) (xs ((x4 + 2) : Int32).toNatClampNeg) (xs ((x4 + 3) : Int32).toNatClampNeg) s508) fun v530 s530 =>
  gd (s508.1 ≤ s530.1) <|
  if v508 = v530 then (K r1 r2 r3 x4 s530) else none
set_option maxHeartbeats 4000000 in
theorem lc_7 {p : Program} {l : Launch} {e : Env} {s0 : State} {m : MethodId} {b L : Nat} {xs : Nat → Int32} {below : List Frame} {meth : Method} {c : Code} {G : GM} (hlt : l.stackTraces = false) (hC : CX p s0 m #[Value.ref b] meth c G (fun q => s0.heap.size ≤ q) code R_law 8) (hr : meth.sig.returnType = ret) (hX : va_X b L xs s0 s0.heap) (hbl : b < s0.heap.size) {K : Nat → Nat → Nat → Int32 → ST → Option Unit} {kc ks : Nat} (hkc : kc + 20 ≤ 603072) (hks : ks + 300 ≤ 7067754) (hK : KL p l e s0 m b below meth c G K (kc + 20) (ks + 300) 1752) : KL p l e s0 m b below meth c G (f_law_c7 L xs K) kc ks 489 := by
  intro a r1 r2 r3 x4 s hf H locs ls hl hW
  have hx := hC.1
  have hb := hC.2.1
  have hts := hC.2.2.2.2.1
  obtain ⟨N0, hN0⟩ : ∃ N0, N0 = 0 := ⟨_, rfl⟩
  have hE : EX a a N0 := EX.rf
  have hN : N0 ≤ s.1 := by omega
  unfold f_law_c7 at hf
  refine lv_aload_n hx hb dL_law_489 rfl (lv_at hl 1 rfl) ?_
  refine lv_aload_n hx hb dL_law_490 rfl (lv_at hl 0 rfl) ?_
  refine lv_iload hx hb dL_law_491 (lv_at hl 4 rfl) ?_
  refine lv_iconst (v := 1) hx hb dL_law_493 (by decide) ?_
  refine lv_iadd hx hb dL_law_494 ?_
  obtain ⟨g495, hf⟩ := gd_some hf
  refine lw_xld hx hb hX hbl hW g495 dL_law_495 ?_
  refine lv_aload_n hx hb dL_law_496 rfl (lv_at hl 0 rfl) ?_
  refine lv_iload hx hb dL_law_497 (lv_at hl 4 rfl) ?_
  refine lv_iconst (v := 2) hx hb dL_law_499 (by decide) ?_
  refine lv_iadd hx hb dL_law_500 ?_
  obtain ⟨g501, hf⟩ := gd_some hf
  refine lw_xld hx hb hX hbl hW g501 dL_law_501 ?_
  refine lv_aload_n hx hb dL_law_502 rfl (lv_at hl 0 rfl) ?_
  refine lv_iload hx hb dL_law_503 (lv_at hl 4 rfl) ?_
  refine lv_iconst (v := 3) hx hb dL_law_505 (by decide) ?_
  refine lv_iadd hx hb dL_law_506 ?_
  obtain ⟨g507, hf⟩ := gd_some hf
  refine lw_xld hx hb hX hbl hW g507 dL_law_507 ?_
  obtain ⟨g508, hf⟩ := gd_some hf
  obtain ⟨v508, s508, h508, hf⟩ := ob_some hf
  obtain ⟨hN1, hf⟩ := gd_some hf
  have hN := Nat.le_trans hN hN1
  refine aw_dV1 (r := r1) (As := [.int (xs ((x4 + 1) : Int32).toNatClampNeg), .int (xs ((x4 + 2) : Int32).toNatClampNeg), .int (xs ((x4 + 3) : Int32).toNatClampNeg)]) (rest := []) (ct_X1_set l G a r1 (xs ((x4 + 1) : Int32).toNatClampNeg) (xs ((x4 + 2) : Int32).toNatClampNeg) (xs ((x4 + 3) : Int32).toNatClampNeg) s v508 s508 h508) hC hW hl.1 vy_X1_set (Or.inl q853) g508 rfl rfl rfl rfl (Nat.le_of_ble_eq_true rfl) ⟨Nat.le_of_ble_eq_true rfl, Nat.le_of_ble_eq_true rfl⟩ ⟨(by show kc ≤ 603072; omega), (by show ks ≤ 7067754; omega)⟩ dL_law_508 (fun H locs hW => ?_)
  refine lv_aload_n hx hb dL_law_511 rfl (lv_at hl 2 rfl) ?_
  refine lv_aload_n hx hb dL_law_512 rfl (lv_at hl 0 rfl) ?_
  refine lv_iload hx hb dL_law_513 (lv_at hl 4 rfl) ?_
  refine lv_iconst (v := 1) hx hb dL_law_515 (by decide) ?_
  refine lv_iadd hx hb dL_law_516 ?_
  obtain ⟨g517, hf⟩ := gd_some hf
  refine lw_xld hx hb hX hbl hW g517 dL_law_517 ?_
  refine lv_aload_n hx hb dL_law_518 rfl (lv_at hl 0 rfl) ?_
  refine lv_iload hx hb dL_law_519 (lv_at hl 4 rfl) ?_
  refine lv_iconst (v := 2) hx hb dL_law_521 (by decide) ?_
  refine lv_iadd hx hb dL_law_522 ?_
  obtain ⟨g523, hf⟩ := gd_some hf
  refine lw_xld hx hb hX hbl hW g523 dL_law_523 ?_
  refine lv_aload_n hx hb dL_law_524 rfl (lv_at hl 0 rfl) ?_
  refine lv_iload hx hb dL_law_525 (lv_at hl 4 rfl) ?_
  refine lv_iconst (v := 3) hx hb dL_law_527 (by decide) ?_
  refine lv_iadd hx hb dL_law_528 ?_
  obtain ⟨g529, hf⟩ := gd_some hf
  refine lw_xld hx hb hX hbl hW g529 dL_law_529 ?_
  obtain ⟨g530, hf⟩ := gd_some hf
  obtain ⟨v530, s530, h530, hf⟩ := ob_some hf
  obtain ⟨hN1, hf⟩ := gd_some hf
  have hN := Nat.le_trans hN hN1
  refine aw_dV1 (r := r2) (As := [.int (xs ((x4 + 1) : Int32).toNatClampNeg), .int (xs ((x4 + 2) : Int32).toNatClampNeg), .int (xs ((x4 + 3) : Int32).toNatClampNeg)]) (rest := [.int v508]) (ct_X14_set l G a r2 (xs ((x4 + 1) : Int32).toNatClampNeg) (xs ((x4 + 2) : Int32).toNatClampNeg) (xs ((x4 + 3) : Int32).toNatClampNeg) s508 v530 s530 h530) hC hW hl.1 vy_X14_set (Or.inl q1653) g530 rfl rfl rfl rfl (Nat.le_of_ble_eq_true rfl) ⟨Nat.le_of_ble_eq_true rfl, Nat.le_of_ble_eq_true rfl⟩ ⟨(by show kc ≤ 603072; omega), (by show ks ≤ 7067754; omega)⟩ dL_law_530 (fun H locs hW => ?_)
  refine lv_icmp_eq (tgt := 1752) hx hb dL_law_533 (by decide) (fun c533 => ?_) (fun c533 => ?_)
  · have hf := ifp c533 hf
    refine W.widen (k := kc + 20) (n := ks + 300) (by omega) (by omega) ?_
    exact hK a r1 r2 r3 x4 s530 hf _ _ _ (lv_sub hl [0, 1, 2, 3, 4] rfl) hW
  · have hf := ifn c533 hf
    refine lv_iconst (v := 0) hx hb dL_law_536 (by decide) ?_
    cases hf
def f_law_c8 (L : Nat) (xs : Nat → Int32) (K : Nat → Nat → Nat → Int32 → ST → Option Unit) (r1 r2 r3 : Nat) (x4 : Int32) (s : ST) : Option Unit :=
  gd (¬ (((x4 + 1) : Int32) < 0 ∨ L ≤ ((x4 + 1) : Int32).toNatClampNeg)) <|
  gd (¬ (((x4 + 2) : Int32) < 0 ∨ L ≤ ((x4 + 2) : Int32).toNatClampNeg)) <|
  gd (r1 < s.1 ∧ (kd s r1).1 = 1) <|
  ob (f_X1_scale r1 (xs ((x4 + 1) : Int32).toNatClampNeg) (xs ((x4 + 2) : Int32).toNatClampNeg) s) fun v551 s551 =>
  gd (s.1 ≤ s551.1) <|
  gd (¬ (((x4 + 1) : Int32) < 0 ∨ L ≤ ((x4 + 1) : Int32).toNatClampNeg)) <|
  gd (¬ (((x4 + 2) : Int32) < 0 ∨ L ≤ ((x4 + 2) : Int32).toNatClampNeg)) <|
  gd (r2 < s551.1 ∧ (kd s551 r2).1 = 14) <|
  ob (f_X14_scale r2 (xs ((x4 + 1) : Int32).toNatClampNeg) (xs ((x4 + 2) : Int32).toNatClampNeg) s551) fun v567 s567 =>
  gd (s551.1 ≤ s567.1) <|
  if v551 = v567 then (K r1 r2 r3 x4 s567) else none
set_option maxHeartbeats 4000000 in
theorem lc_8 {p : Program} {l : Launch} {e : Env} {s0 : State} {m : MethodId} {b L : Nat} {xs : Nat → Int32} {below : List Frame} {meth : Method} {c : Code} {G : GM} (hlt : l.stackTraces = false) (hC : CX p s0 m #[Value.ref b] meth c G (fun q => s0.heap.size ≤ q) code R_law 8) (hr : meth.sig.returnType = ret) (hX : va_X b L xs s0 s0.heap) (hbl : b < s0.heap.size) {K : Nat → Nat → Nat → Int32 → ST → Option Unit} {kc ks : Nat} (hkc : kc + 20 ≤ 603072) (hks : ks + 300 ≤ 7067754) (hK : KL p l e s0 m b below meth c G K (kc + 20) (ks + 300) 1752) : KL p l e s0 m b below meth c G (f_law_c8 L xs K) kc ks 538 := by
  intro a r1 r2 r3 x4 s hf H locs ls hl hW
  have hx := hC.1
  have hb := hC.2.1
  have hts := hC.2.2.2.2.1
  obtain ⟨N0, hN0⟩ : ∃ N0, N0 = 0 := ⟨_, rfl⟩
  have hE : EX a a N0 := EX.rf
  have hN : N0 ≤ s.1 := by omega
  unfold f_law_c8 at hf
  refine lv_aload_n hx hb dL_law_538 rfl (lv_at hl 1 rfl) ?_
  refine lv_aload_n hx hb dL_law_539 rfl (lv_at hl 0 rfl) ?_
  refine lv_iload hx hb dL_law_540 (lv_at hl 4 rfl) ?_
  refine lv_iconst (v := 1) hx hb dL_law_542 (by decide) ?_
  refine lv_iadd hx hb dL_law_543 ?_
  obtain ⟨g544, hf⟩ := gd_some hf
  refine lw_xld hx hb hX hbl hW g544 dL_law_544 ?_
  refine lv_aload_n hx hb dL_law_545 rfl (lv_at hl 0 rfl) ?_
  refine lv_iload hx hb dL_law_546 (lv_at hl 4 rfl) ?_
  refine lv_iconst (v := 2) hx hb dL_law_548 (by decide) ?_
  refine lv_iadd hx hb dL_law_549 ?_
  obtain ⟨g550, hf⟩ := gd_some hf
  refine lw_xld hx hb hX hbl hW g550 dL_law_550 ?_
  obtain ⟨g551, hf⟩ := gd_some hf
  obtain ⟨v551, s551, h551, hf⟩ := ob_some hf
  obtain ⟨hN1, hf⟩ := gd_some hf
  have hN := Nat.le_trans hN hN1
  refine aw_dV1 (r := r1) (As := [.int (xs ((x4 + 1) : Int32).toNatClampNeg), .int (xs ((x4 + 2) : Int32).toNatClampNeg)]) (rest := []) (ct_X1_scale l G a r1 (xs ((x4 + 1) : Int32).toNatClampNeg) (xs ((x4 + 2) : Int32).toNatClampNeg) s v551 s551 h551) hC hW hl.1 vy_X1_scale (Or.inl q860) g551 rfl rfl rfl rfl (Nat.le_of_ble_eq_true rfl) ⟨Nat.le_of_ble_eq_true rfl, Nat.le_of_ble_eq_true rfl⟩ ⟨(by show kc ≤ 603072; omega), (by show ks ≤ 7067754; omega)⟩ dL_law_551 (fun H locs hW => ?_)
  refine lv_aload_n hx hb dL_law_554 rfl (lv_at hl 2 rfl) ?_
  refine lv_aload_n hx hb dL_law_555 rfl (lv_at hl 0 rfl) ?_
  refine lv_iload hx hb dL_law_556 (lv_at hl 4 rfl) ?_
  refine lv_iconst (v := 1) hx hb dL_law_558 (by decide) ?_
  refine lv_iadd hx hb dL_law_559 ?_
  obtain ⟨g560, hf⟩ := gd_some hf
  refine lw_xld hx hb hX hbl hW g560 dL_law_560 ?_
  refine lv_aload_n hx hb dL_law_561 rfl (lv_at hl 0 rfl) ?_
  refine lv_iload hx hb dL_law_562 (lv_at hl 4 rfl) ?_
  refine lv_iconst (v := 2) hx hb dL_law_564 (by decide) ?_
  refine lv_iadd hx hb dL_law_565 ?_
  obtain ⟨g566, hf⟩ := gd_some hf
  refine lw_xld hx hb hX hbl hW g566 dL_law_566 ?_
  obtain ⟨g567, hf⟩ := gd_some hf
  obtain ⟨v567, s567, h567, hf⟩ := ob_some hf
  obtain ⟨hN1, hf⟩ := gd_some hf
  have hN := Nat.le_trans hN hN1
  refine aw_dV1 (r := r2) (As := [.int (xs ((x4 + 1) : Int32).toNatClampNeg), .int (xs ((x4 + 2) : Int32).toNatClampNeg)]) (rest := [.int v551]) (ct_X14_scale l G a r2 (xs ((x4 + 1) : Int32).toNatClampNeg) (xs ((x4 + 2) : Int32).toNatClampNeg) s551 v567 s567 h567) hC hW hl.1 vy_X14_scale (Or.inl q1660) g567 rfl rfl rfl rfl (Nat.le_of_ble_eq_true rfl) ⟨Nat.le_of_ble_eq_true rfl, Nat.le_of_ble_eq_true rfl⟩ ⟨(by show kc ≤ 603072; omega), (by show ks ≤ 7067754; omega)⟩ dL_law_567 (fun H locs hW => ?_)
  refine lv_icmp_eq (tgt := 1752) hx hb dL_law_570 (by decide) (fun c570 => ?_) (fun c570 => ?_)
  · have hf := ifp c570 hf
    refine W.widen (k := kc + 20) (n := ks + 300) (by omega) (by omega) ?_
    exact hK a r1 r2 r3 x4 s567 hf _ _ _ (lv_sub hl [0, 1, 2, 3, 4] rfl) hW
  · have hf := ifn c570 hf
    refine lv_iconst (v := 0) hx hb dL_law_573 (by decide) ?_
    cases hf
def f_law_c9 (L : Nat) (xs : Nat → Int32) (K : Nat → Nat → Nat → Int32 → ST → Option Unit) (r1 r2 r3 : Nat) (x4 : Int32) (s : ST) : Option Unit :=
  gd (¬ (((x4 + 1) : Int32) < 0 ∨ L ≤ ((x4 + 1) : Int32).toNatClampNeg)) <|
  gd (¬ (((x4 + 2) : Int32) < 0 ∨ L ≤ ((x4 + 2) : Int32).toNatClampNeg)) <|
  gd (¬ (((x4 + 3) : Int32) < 0 ∨ L ≤ ((x4 + 3) : Int32).toNatClampNeg)) <|
  gd (¬ (((x4 + 4) : Int32) < 0 ∨ L ≤ ((x4 + 4) : Int32).toNatClampNeg)) <|
  gd (r1 < s.1 ∧ (kd s r1).1 = 1) <|
  gd (r1 < s.1) <|
  gd (r2 < s.1) <|
  gd (r3 < s.1) <|
  ob (f_X1_sheet r1 (xs ((x4 + 1) : Int32).toNatClampNeg) (xs ((x4 + 2) : Int32).toNatClampNeg) (xs ((x4 + 3) : Int32).toNatClampNeg) (xs ((x4 + 4) : Int32).toNatClampNeg) s) fun v600 s600 =>
  gd (¬ (((x4 + 1) : Int32) < 0 ∨ L ≤ ((x4 + 1) : Int32).toNatClampNeg)) <|
  gd (¬ (((x4 + 2) : Int32) < 0 ∨ L ≤ ((x4 + 2) : Int32).toNatClampNeg)) <|
  gd (¬ (((x4 + 3) : Int32) < 0 ∨ L ≤ ((x4 + 3) : Int32).toNatClampNeg)) <|
  gd (¬ (((x4 + 4) : Int32) < 0 ∨ L ≤ ((x4 + 4) : Int32).toNatClampNeg)) <|
  gd (r2 < s600.1 ∧ (kd s600 r2).1 = 14) <|
  ob (f_X14_sheet r2 (xs ((x4 + 1) : Int32).toNatClampNeg) (xs ((x4 + 2) : Int32).toNatClampNeg) (xs ((x4 + 3) : Int32).toNatClampNeg) (xs ((x4 + 4) : Int32).toNatClampNeg) s600) fun v628 s628 =>
  gd (s600.1 ≤ s628.1) <|
  if v600 = v628 then (K r1 r2 r3 x4 s628) else none
set_option maxHeartbeats 4000000 in
theorem lc_9 {p : Program} {l : Launch} {e : Env} {s0 : State} {m : MethodId} {b L : Nat} {xs : Nat → Int32} {below : List Frame} {meth : Method} {c : Code} {G : GM} (hlt : l.stackTraces = false) (hC : CX p s0 m #[Value.ref b] meth c G (fun q => s0.heap.size ≤ q) code R_law 8) (hr : meth.sig.returnType = ret) (hX : va_X b L xs s0 s0.heap) (hbl : b < s0.heap.size) {K : Nat → Nat → Nat → Int32 → ST → Option Unit} {kc ks : Nat} (hkc : kc + 20 ≤ 603072) (hks : ks + 300 ≤ 7067754) (hK : KL p l e s0 m b below meth c G K (kc + 20) (ks + 300) 1752) : KL p l e s0 m b below meth c G (f_law_c9 L xs K) kc ks 575 := by
  intro a r1 r2 r3 x4 s hf H locs ls hl hW
  have hx := hC.1
  have hb := hC.2.1
  have hts := hC.2.2.2.2.1
  obtain ⟨N0, hN0⟩ : ∃ N0, N0 = 0 := ⟨_, rfl⟩
  have hE : EX a a N0 := EX.rf
  have hN : N0 ≤ s.1 := by omega
  unfold f_law_c9 at hf
  refine lv_aload_n hx hb dL_law_575 rfl (lv_at hl 1 rfl) ?_
  refine lv_aload_n hx hb dL_law_576 rfl (lv_at hl 0 rfl) ?_
  refine lv_iload hx hb dL_law_577 (lv_at hl 4 rfl) ?_
  refine lv_iconst (v := 1) hx hb dL_law_579 (by decide) ?_
  refine lv_iadd hx hb dL_law_580 ?_
  obtain ⟨g581, hf⟩ := gd_some hf
  refine lw_xld hx hb hX hbl hW g581 dL_law_581 ?_
  refine lv_aload_n hx hb dL_law_582 rfl (lv_at hl 0 rfl) ?_
  refine lv_iload hx hb dL_law_583 (lv_at hl 4 rfl) ?_
  refine lv_iconst (v := 2) hx hb dL_law_585 (by decide) ?_
  refine lv_iadd hx hb dL_law_586 ?_
  obtain ⟨g587, hf⟩ := gd_some hf
  refine lw_xld hx hb hX hbl hW g587 dL_law_587 ?_
  refine lv_aload_n hx hb dL_law_588 rfl (lv_at hl 0 rfl) ?_
  refine lv_iload hx hb dL_law_589 (lv_at hl 4 rfl) ?_
  refine lv_iconst (v := 3) hx hb dL_law_591 (by decide) ?_
  refine lv_iadd hx hb dL_law_592 ?_
  obtain ⟨g593, hf⟩ := gd_some hf
  refine lw_xld hx hb hX hbl hW g593 dL_law_593 ?_
  refine lv_aload_n hx hb dL_law_594 rfl (lv_at hl 0 rfl) ?_
  refine lv_iload hx hb dL_law_595 (lv_at hl 4 rfl) ?_
  refine lv_iconst (v := 4) hx hb dL_law_597 (by decide) ?_
  refine lv_iadd hx hb dL_law_598 ?_
  obtain ⟨g599, hf⟩ := gd_some hf
  refine lw_xld hx hb hX hbl hW g599 dL_law_599 ?_
  obtain ⟨g600, hf⟩ := gd_some hf
  obtain ⟨gr600, hf⟩ := gd_some hf
  obtain ⟨gr600_1, hf⟩ := gd_some hf
  obtain ⟨gr600_2, hf⟩ := gd_some hf
  obtain ⟨v600, s600, h600, hf⟩ := ob_some hf
  refine aw_run hC hW (aw_runW hC hW hl.1 (r := r1) (As := [.int (xs ((x4 + 1) : Int32).toNatClampNeg), .int (xs ((x4 + 2) : Int32).toNatClampNeg), .int (xs ((x4 + 3) : Int32).toNatClampNeg), .int (xs ((x4 + 4) : Int32).toNatClampNeg)]) (rest := []) (cta_X1_sheet l hlt G a r1 (xs ((x4 + 1) : Int32).toNatClampNeg) (xs ((x4 + 2) : Int32).toNatClampNeg) (xs ((x4 + 3) : Int32).toNatClampNeg) (xs ((x4 + 4) : Int32).toNatClampNeg) s v600 s600 h600) vh_X1_sheet q865 g600 rfl rfl rfl rfl (Nat.le_of_ble_eq_true rfl) ⟨Nat.le_of_ble_eq_true rfl, Nat.le_of_ble_eq_true rfl⟩ ⟨(by show kc + 6 ≤ 603072; omega), (by show ks + 78 ≤ 7067754; omega)⟩ dL_law_600) (fun v9 a600 s9 H locs hp9 hW => ?_)
  obtain ⟨rfl, h9s, hE1, hN1⟩ := hp9
  rw [h9s] at hW
  have hE : EX a a600 N0 := hE.trans hE1 hN
  have hN := Nat.le_trans hN hN1
  have hl : lv_has ls 8 [(0, .ref b), (1, .ref (a600 r1)), (2, .ref (a600 r2)), (3, .ref (a600 r3)), (4, .int x4)] := by simp only [hE1 _ gr600, hE1 _ gr600_1, hE1 _ gr600_2]; exact hl
  refine W.eq (g2 := F0 m 603 ls [.int v600]) rfl ?_
  refine W.widen (k := kc + 20) (n := ks + 300) (by show kc + 6 ≤ kc + 20; omega) (by show ks + 78 ≤ ks + 300; omega) ?_
  refine lv_aload_n hx hb dL_law_603 rfl (lv_at hl 2 rfl) ?_
  refine lv_aload_n hx hb dL_law_604 rfl (lv_at hl 0 rfl) ?_
  refine lv_iload hx hb dL_law_605 (lv_at hl 4 rfl) ?_
  refine lv_iconst (v := 1) hx hb dL_law_607 (by decide) ?_
  refine lv_iadd hx hb dL_law_608 ?_
  obtain ⟨g609, hf⟩ := gd_some hf
  refine lw_xld hx hb hX hbl hW g609 dL_law_609 ?_
  refine lv_aload_n hx hb dL_law_610 rfl (lv_at hl 0 rfl) ?_
  refine lv_iload hx hb dL_law_611 (lv_at hl 4 rfl) ?_
  refine lv_iconst (v := 2) hx hb dL_law_613 (by decide) ?_
  refine lv_iadd hx hb dL_law_614 ?_
  obtain ⟨g615, hf⟩ := gd_some hf
  refine lw_xld hx hb hX hbl hW g615 dL_law_615 ?_
  refine lv_aload_n hx hb dL_law_616 rfl (lv_at hl 0 rfl) ?_
  refine lv_iload hx hb dL_law_617 (lv_at hl 4 rfl) ?_
  refine lv_iconst (v := 3) hx hb dL_law_619 (by decide) ?_
  refine lv_iadd hx hb dL_law_620 ?_
  obtain ⟨g621, hf⟩ := gd_some hf
  refine lw_xld hx hb hX hbl hW g621 dL_law_621 ?_
  refine lv_aload_n hx hb dL_law_622 rfl (lv_at hl 0 rfl) ?_
  refine lv_iload hx hb dL_law_623 (lv_at hl 4 rfl) ?_
  refine lv_iconst (v := 4) hx hb dL_law_625 (by decide) ?_
  refine lv_iadd hx hb dL_law_626 ?_
  obtain ⟨g627, hf⟩ := gd_some hf
  refine lw_xld hx hb hX hbl hW g627 dL_law_627 ?_
  obtain ⟨g628, hf⟩ := gd_some hf
  obtain ⟨v628, s628, h628, hf⟩ := ob_some hf
  obtain ⟨hN1, hf⟩ := gd_some hf
  have hN := Nat.le_trans hN hN1
  refine aw_dV1 (r := r2) (As := [.int (xs ((x4 + 1) : Int32).toNatClampNeg), .int (xs ((x4 + 2) : Int32).toNatClampNeg), .int (xs ((x4 + 3) : Int32).toNatClampNeg), .int (xs ((x4 + 4) : Int32).toNatClampNeg)]) (rest := [.int v600]) (ct_X14_sheet l G a600 r2 (xs ((x4 + 1) : Int32).toNatClampNeg) (xs ((x4 + 2) : Int32).toNatClampNeg) (xs ((x4 + 3) : Int32).toNatClampNeg) (xs ((x4 + 4) : Int32).toNatClampNeg) s600 v628 s628 h628) hC hW hl.1 vy_X14_sheet (Or.inl q1665) g628 rfl rfl rfl rfl (Nat.le_of_ble_eq_true rfl) ⟨Nat.le_of_ble_eq_true rfl, Nat.le_of_ble_eq_true rfl⟩ ⟨(by show kc + 20 ≤ 603072; omega), (by show ks + 300 ≤ 7067754; omega)⟩ dL_law_628 (fun H locs hW => ?_)
  refine lv_icmp_eq (tgt := 1752) hx hb dL_law_631 (by decide) (fun c631 => ?_) (fun c631 => ?_)
  · have hf := ifp c631 hf
    exact hK a600 r1 r2 r3 x4 s628 hf _ _ _ (lv_sub hl [0, 1, 2, 3, 4] rfl) hW
  · have hf := ifn c631 hf
    refine lv_iconst (v := 0) hx hb dL_law_634 (by decide) ?_
    cases hf
def f_law_c10 (L : Nat) (xs : Nat → Int32) (K : Nat → Nat → Nat → Int32 → ST → Option Unit) (r1 r2 r3 : Nat) (x4 : Int32) (s : ST) : Option Unit :=
  gd (¬ (((x4 + 1) : Int32) < 0 ∨ L ≤ ((x4 + 1) : Int32).toNatClampNeg)) <|
  gd (r1 < s.1 ∧ (kd s r1).1 = 1) <|
  ob (f_X1_stand r1 (xs ((x4 + 1) : Int32).toNatClampNeg) s) fun v643 s643 =>
  gd (s.1 ≤ s643.1) <|
  gd (¬ (((x4 + 1) : Int32) < 0 ∨ L ≤ ((x4 + 1) : Int32).toNatClampNeg)) <|
  gd (r2 < s643.1 ∧ (kd s643 r2).1 = 14) <|
  ob (f_X14_stand r2 (xs ((x4 + 1) : Int32).toNatClampNeg) s643) fun v653 s653 =>
  gd (s643.1 ≤ s653.1) <|
  if v643 = v653 then (K r1 r2 r3 x4 s653) else none
set_option maxHeartbeats 4000000 in
theorem lc_10 {p : Program} {l : Launch} {e : Env} {s0 : State} {m : MethodId} {b L : Nat} {xs : Nat → Int32} {below : List Frame} {meth : Method} {c : Code} {G : GM} (hlt : l.stackTraces = false) (hC : CX p s0 m #[Value.ref b] meth c G (fun q => s0.heap.size ≤ q) code R_law 8) (hr : meth.sig.returnType = ret) (hX : va_X b L xs s0 s0.heap) (hbl : b < s0.heap.size) {K : Nat → Nat → Nat → Int32 → ST → Option Unit} {kc ks : Nat} (hkc : kc + 20 ≤ 603072) (hks : ks + 300 ≤ 7067754) (hK : KL p l e s0 m b below meth c G K (kc + 20) (ks + 300) 1752) : KL p l e s0 m b below meth c G (f_law_c10 L xs K) kc ks 636 := by
  intro a r1 r2 r3 x4 s hf H locs ls hl hW
  have hx := hC.1
  have hb := hC.2.1
  have hts := hC.2.2.2.2.1
  obtain ⟨N0, hN0⟩ : ∃ N0, N0 = 0 := ⟨_, rfl⟩
  have hE : EX a a N0 := EX.rf
  have hN : N0 ≤ s.1 := by omega
  unfold f_law_c10 at hf
  refine lv_aload_n hx hb dL_law_636 rfl (lv_at hl 1 rfl) ?_
  refine lv_aload_n hx hb dL_law_637 rfl (lv_at hl 0 rfl) ?_
  refine lv_iload hx hb dL_law_638 (lv_at hl 4 rfl) ?_
  refine lv_iconst (v := 1) hx hb dL_law_640 (by decide) ?_
  refine lv_iadd hx hb dL_law_641 ?_
  obtain ⟨g642, hf⟩ := gd_some hf
  refine lw_xld hx hb hX hbl hW g642 dL_law_642 ?_
  obtain ⟨g643, hf⟩ := gd_some hf
  obtain ⟨v643, s643, h643, hf⟩ := ob_some hf
  obtain ⟨hN1, hf⟩ := gd_some hf
  have hN := Nat.le_trans hN hN1
  refine aw_dV1 (r := r1) (As := [.int (xs ((x4 + 1) : Int32).toNatClampNeg)]) (rest := []) (ct_X1_stand l G a r1 (xs ((x4 + 1) : Int32).toNatClampNeg) s v643 s643 h643) hC hW hl.1 vy_X1_stand (Or.inl q909) g643 rfl rfl rfl rfl (Nat.le_of_ble_eq_true rfl) ⟨Nat.le_of_ble_eq_true rfl, Nat.le_of_ble_eq_true rfl⟩ ⟨(by show kc ≤ 603072; omega), (by show ks ≤ 7067754; omega)⟩ dL_law_643 (fun H locs hW => ?_)
  refine lv_aload_n hx hb dL_law_646 rfl (lv_at hl 2 rfl) ?_
  refine lv_aload_n hx hb dL_law_647 rfl (lv_at hl 0 rfl) ?_
  refine lv_iload hx hb dL_law_648 (lv_at hl 4 rfl) ?_
  refine lv_iconst (v := 1) hx hb dL_law_650 (by decide) ?_
  refine lv_iadd hx hb dL_law_651 ?_
  obtain ⟨g652, hf⟩ := gd_some hf
  refine lw_xld hx hb hX hbl hW g652 dL_law_652 ?_
  obtain ⟨g653, hf⟩ := gd_some hf
  obtain ⟨v653, s653, h653, hf⟩ := ob_some hf
  obtain ⟨hN1, hf⟩ := gd_some hf
  have hN := Nat.le_trans hN hN1
  refine aw_dV1 (r := r2) (As := [.int (xs ((x4 + 1) : Int32).toNatClampNeg)]) (rest := [.int v643]) (ct_X14_stand l G a r2 (xs ((x4 + 1) : Int32).toNatClampNeg) s643 v653 s653 h653) hC hW hl.1 vy_X14_stand (Or.inl q1673) g653 rfl rfl rfl rfl (Nat.le_of_ble_eq_true rfl) ⟨Nat.le_of_ble_eq_true rfl, Nat.le_of_ble_eq_true rfl⟩ ⟨(by show kc ≤ 603072; omega), (by show ks ≤ 7067754; omega)⟩ dL_law_653 (fun H locs hW => ?_)
  refine lv_icmp_eq (tgt := 1752) hx hb dL_law_656 (by decide) (fun c656 => ?_) (fun c656 => ?_)
  · have hf := ifp c656 hf
    refine W.widen (k := kc + 20) (n := ks + 300) (by omega) (by omega) ?_
    exact hK a r1 r2 r3 x4 s653 hf _ _ _ (lv_sub hl [0, 1, 2, 3, 4] rfl) hW
  · have hf := ifn c656 hf
    refine lv_iconst (v := 0) hx hb dL_law_659 (by decide) ?_
    cases hf
def f_law_c11 (L : Nat) (xs : Nat → Int32) (K : Nat → Nat → Nat → Int32 → ST → Option Unit) (r1 r2 r3 : Nat) (x4 : Int32) (s : ST) : Option Unit :=
  gd (¬ (((x4 + 1) : Int32) < 0 ∨ L ≤ ((x4 + 1) : Int32).toNatClampNeg)) <|
  gd (r1 < s.1 ∧ (kd s r1).1 = 1) <|
  ob (f_X1_weeks r1 (xs ((x4 + 1) : Int32).toNatClampNeg) s) fun v668 s668 =>
  gd (s.1 ≤ s668.1) <|
  gd (¬ (((x4 + 1) : Int32) < 0 ∨ L ≤ ((x4 + 1) : Int32).toNatClampNeg)) <|
  gd (r2 < s668.1 ∧ (kd s668 r2).1 = 14) <|
  ob (f_X14_weeks r2 (xs ((x4 + 1) : Int32).toNatClampNeg) s668) fun v678 s678 =>
  gd (s668.1 ≤ s678.1) <|
  if v668 = v678 then (K r1 r2 r3 x4 s678) else none
set_option maxHeartbeats 4000000 in
theorem lc_11 {p : Program} {l : Launch} {e : Env} {s0 : State} {m : MethodId} {b L : Nat} {xs : Nat → Int32} {below : List Frame} {meth : Method} {c : Code} {G : GM} (hlt : l.stackTraces = false) (hC : CX p s0 m #[Value.ref b] meth c G (fun q => s0.heap.size ≤ q) code R_law 8) (hr : meth.sig.returnType = ret) (hX : va_X b L xs s0 s0.heap) (hbl : b < s0.heap.size) {K : Nat → Nat → Nat → Int32 → ST → Option Unit} {kc ks : Nat} (hkc : kc + 20 ≤ 603072) (hks : ks + 300 ≤ 7067754) (hK : KL p l e s0 m b below meth c G K (kc + 20) (ks + 300) 1752) : KL p l e s0 m b below meth c G (f_law_c11 L xs K) kc ks 661 := by
  intro a r1 r2 r3 x4 s hf H locs ls hl hW
  have hx := hC.1
  have hb := hC.2.1
  have hts := hC.2.2.2.2.1
  obtain ⟨N0, hN0⟩ : ∃ N0, N0 = 0 := ⟨_, rfl⟩
  have hE : EX a a N0 := EX.rf
  have hN : N0 ≤ s.1 := by omega
  unfold f_law_c11 at hf
  refine lv_aload_n hx hb dL_law_661 rfl (lv_at hl 1 rfl) ?_
  refine lv_aload_n hx hb dL_law_662 rfl (lv_at hl 0 rfl) ?_
  refine lv_iload hx hb dL_law_663 (lv_at hl 4 rfl) ?_
  refine lv_iconst (v := 1) hx hb dL_law_665 (by decide) ?_
  refine lv_iadd hx hb dL_law_666 ?_
  obtain ⟨g667, hf⟩ := gd_some hf
  refine lw_xld hx hb hX hbl hW g667 dL_law_667 ?_
  obtain ⟨g668, hf⟩ := gd_some hf
  obtain ⟨v668, s668, h668, hf⟩ := ob_some hf
  obtain ⟨hN1, hf⟩ := gd_some hf
  have hN := Nat.le_trans hN hN1
  refine aw_dV1 (r := r1) (As := [.int (xs ((x4 + 1) : Int32).toNatClampNeg)]) (rest := []) (ct_X1_weeks l G a r1 (xs ((x4 + 1) : Int32).toNatClampNeg) s v668 s668 h668) hC hW hl.1 vy_X1_weeks (Or.inl q1017) g668 rfl rfl rfl rfl (Nat.le_of_ble_eq_true rfl) ⟨Nat.le_of_ble_eq_true rfl, Nat.le_of_ble_eq_true rfl⟩ ⟨(by show kc ≤ 603072; omega), (by show ks ≤ 7067754; omega)⟩ dL_law_668 (fun H locs hW => ?_)
  refine lv_aload_n hx hb dL_law_671 rfl (lv_at hl 2 rfl) ?_
  refine lv_aload_n hx hb dL_law_672 rfl (lv_at hl 0 rfl) ?_
  refine lv_iload hx hb dL_law_673 (lv_at hl 4 rfl) ?_
  refine lv_iconst (v := 1) hx hb dL_law_675 (by decide) ?_
  refine lv_iadd hx hb dL_law_676 ?_
  obtain ⟨g677, hf⟩ := gd_some hf
  refine lw_xld hx hb hX hbl hW g677 dL_law_677 ?_
  obtain ⟨g678, hf⟩ := gd_some hf
  obtain ⟨v678, s678, h678, hf⟩ := ob_some hf
  obtain ⟨hN1, hf⟩ := gd_some hf
  have hN := Nat.le_trans hN hN1
  refine aw_dV1 (r := r2) (As := [.int (xs ((x4 + 1) : Int32).toNatClampNeg)]) (rest := [.int v668]) (ct_X14_weeks l G a r2 (xs ((x4 + 1) : Int32).toNatClampNeg) s668 v678 s678 h678) hC hW hl.1 vy_X14_weeks (Or.inl q1693) g678 rfl rfl rfl rfl (Nat.le_of_ble_eq_true rfl) ⟨Nat.le_of_ble_eq_true rfl, Nat.le_of_ble_eq_true rfl⟩ ⟨(by show kc ≤ 603072; omega), (by show ks ≤ 7067754; omega)⟩ dL_law_678 (fun H locs hW => ?_)
  refine lv_icmp_eq (tgt := 1752) hx hb dL_law_681 (by decide) (fun c681 => ?_) (fun c681 => ?_)
  · have hf := ifp c681 hf
    refine W.widen (k := kc + 20) (n := ks + 300) (by omega) (by omega) ?_
    exact hK a r1 r2 r3 x4 s678 hf _ _ _ (lv_sub hl [0, 1, 2, 3, 4] rfl) hW
  · have hf := ifn c681 hf
    refine lv_iconst (v := 0) hx hb dL_law_684 (by decide) ?_
    cases hf
def f_law_c12 (L : Nat) (xs : Nat → Int32) (K : Nat → Nat → Nat → Int32 → ST → Option Unit) (r1 r2 r3 : Nat) (x4 : Int32) (s : ST) : Option Unit :=
  gd (r1 < s.1 ∧ (kd s r1).1 = 1) <|
  gd (r1 < s.1) <|
  gd (r2 < s.1) <|
  gd (r3 < s.1) <|
  ob (f_X1_year r1 s) fun v687 s687 =>
  gd (r2 < s687.1 ∧ (kd s687 r2).1 = 14) <|
  ob (f_X14_year r2 s687) fun v691 s691 =>
  gd (s687.1 ≤ s691.1) <|
  if v687 = v691 then (K r1 r2 r3 x4 s691) else none
set_option maxHeartbeats 4000000 in
theorem lc_12 {p : Program} {l : Launch} {e : Env} {s0 : State} {m : MethodId} {b L : Nat} {xs : Nat → Int32} {below : List Frame} {meth : Method} {c : Code} {G : GM} (hlt : l.stackTraces = false) (hC : CX p s0 m #[Value.ref b] meth c G (fun q => s0.heap.size ≤ q) code R_law 8) (hr : meth.sig.returnType = ret) (hX : va_X b L xs s0 s0.heap) (hbl : b < s0.heap.size) {K : Nat → Nat → Nat → Int32 → ST → Option Unit} {kc ks : Nat} (hkc : kc + 20 ≤ 603072) (hks : ks + 300 ≤ 7067754) (hK : KL p l e s0 m b below meth c G K (kc + 20) (ks + 300) 1752) : KL p l e s0 m b below meth c G (f_law_c12 L xs K) kc ks 686 := by
  intro a r1 r2 r3 x4 s hf H locs ls hl hW
  have hx := hC.1
  have hb := hC.2.1
  have hts := hC.2.2.2.2.1
  obtain ⟨N0, hN0⟩ : ∃ N0, N0 = 0 := ⟨_, rfl⟩
  have hE : EX a a N0 := EX.rf
  have hN : N0 ≤ s.1 := by omega
  unfold f_law_c12 at hf
  refine lv_aload_n hx hb dL_law_686 rfl (lv_at hl 1 rfl) ?_
  obtain ⟨g687, hf⟩ := gd_some hf
  obtain ⟨gr687, hf⟩ := gd_some hf
  obtain ⟨gr687_1, hf⟩ := gd_some hf
  obtain ⟨gr687_2, hf⟩ := gd_some hf
  obtain ⟨v687, s687, h687, hf⟩ := ob_some hf
  refine aw_run hC hW (aw_runW hC hW hl.1 (r := r1) (As := []) (rest := []) (cta_X1_year l hlt G a r1 s v687 s687 h687) vh_X1_year q1022 g687 rfl rfl rfl rfl (Nat.le_of_ble_eq_true rfl) ⟨Nat.le_of_ble_eq_true rfl, Nat.le_of_ble_eq_true rfl⟩ ⟨(by show kc + 2 ≤ 603072; omega), (by show ks + 11 ≤ 7067754; omega)⟩ dL_law_687) (fun v9 a687 s9 H locs hp9 hW => ?_)
  obtain ⟨rfl, h9s, hE1, hN1⟩ := hp9
  rw [h9s] at hW
  have hE : EX a a687 N0 := hE.trans hE1 hN
  have hN := Nat.le_trans hN hN1
  have hl : lv_has ls 8 [(0, .ref b), (1, .ref (a687 r1)), (2, .ref (a687 r2)), (3, .ref (a687 r3)), (4, .int x4)] := by simp only [hE1 _ gr687, hE1 _ gr687_1, hE1 _ gr687_2]; exact hl
  refine W.eq (g2 := F0 m 690 ls [.int v687]) rfl ?_
  refine W.widen (k := kc + 20) (n := ks + 300) (by show kc + 2 ≤ kc + 20; omega) (by show ks + 11 ≤ ks + 300; omega) ?_
  refine lv_aload_n hx hb dL_law_690 rfl (lv_at hl 2 rfl) ?_
  obtain ⟨g691, hf⟩ := gd_some hf
  obtain ⟨v691, s691, h691, hf⟩ := ob_some hf
  obtain ⟨hN1, hf⟩ := gd_some hf
  have hN := Nat.le_trans hN hN1
  refine aw_dV1 (r := r2) (As := []) (rest := [.int v687]) (ct_X14_year l G a687 r2 s687 v691 s691 h691) hC hW hl.1 vy_X14_year (Or.inl q1702) g691 rfl rfl rfl rfl (Nat.le_of_ble_eq_true rfl) ⟨Nat.le_of_ble_eq_true rfl, Nat.le_of_ble_eq_true rfl⟩ ⟨(by show kc + 20 ≤ 603072; omega), (by show ks + 300 ≤ 7067754; omega)⟩ dL_law_691 (fun H locs hW => ?_)
  refine lv_icmp_eq (tgt := 1752) hx hb dL_law_694 (by decide) (fun c694 => ?_) (fun c694 => ?_)
  · have hf := ifp c694 hf
    exact hK a687 r1 r2 r3 x4 s691 hf _ _ _ (lv_sub hl [0, 1, 2, 3, 4] rfl) hW
  · have hf := ifn c694 hf
    refine lv_iconst (v := 0) hx hb dL_law_697 (by decide) ?_
    cases hf
def f_law_c13 (L : Nat) (xs : Nat → Int32) (K : Nat → Nat → Nat → Int32 → ST → Option Unit) (r1 r2 r3 : Nat) (x4 : Int32) (s : ST) : Option Unit :=
  gd (r1 < s.1 ∧ (kd s r1).1 = 1) <|
  ob (f_X1_law r1 s) fun v700 s700 =>
  gd (s.1 ≤ s700.1) <|
  gd (r2 < s700.1 ∧ (kd s700 r2).1 = 14) <|
  ob (f_X14_law r2 s700) fun v704 s704 =>
  gd (s700.1 ≤ s704.1) <|
  if v700 = v704 then (K r1 r2 r3 x4 s704) else none
set_option maxHeartbeats 4000000 in
theorem lc_13 {p : Program} {l : Launch} {e : Env} {s0 : State} {m : MethodId} {b L : Nat} {xs : Nat → Int32} {below : List Frame} {meth : Method} {c : Code} {G : GM} (hlt : l.stackTraces = false) (hC : CX p s0 m #[Value.ref b] meth c G (fun q => s0.heap.size ≤ q) code R_law 8) (hr : meth.sig.returnType = ret) (hX : va_X b L xs s0 s0.heap) (hbl : b < s0.heap.size) {K : Nat → Nat → Nat → Int32 → ST → Option Unit} {kc ks : Nat} (hkc : kc + 20 ≤ 603072) (hks : ks + 300 ≤ 7067754) (hK : KL p l e s0 m b below meth c G K (kc + 20) (ks + 300) 1752) : KL p l e s0 m b below meth c G (f_law_c13 L xs K) kc ks 699 := by
  intro a r1 r2 r3 x4 s hf H locs ls hl hW
  have hx := hC.1
  have hb := hC.2.1
  have hts := hC.2.2.2.2.1
  obtain ⟨N0, hN0⟩ : ∃ N0, N0 = 0 := ⟨_, rfl⟩
  have hE : EX a a N0 := EX.rf
  have hN : N0 ≤ s.1 := by omega
  unfold f_law_c13 at hf
  refine lv_aload_n hx hb dL_law_699 rfl (lv_at hl 1 rfl) ?_
  obtain ⟨g700, hf⟩ := gd_some hf
  obtain ⟨v700, s700, h700, hf⟩ := ob_some hf
  obtain ⟨hN1, hf⟩ := gd_some hf
  have hN := Nat.le_trans hN hN1
  refine aw_dV1 (r := r1) (As := []) (rest := []) (ct_X1_law l G a r1 s v700 s700 h700) hC hW hl.1 vy_X1_law (Or.inl q1032) g700 rfl rfl rfl rfl (Nat.le_of_ble_eq_true rfl) ⟨Nat.le_of_ble_eq_true rfl, Nat.le_of_ble_eq_true rfl⟩ ⟨(by show kc ≤ 603072; omega), (by show ks ≤ 7067754; omega)⟩ dL_law_700 (fun H locs hW => ?_)
  refine lv_aload_n hx hb dL_law_703 rfl (lv_at hl 2 rfl) ?_
  obtain ⟨g704, hf⟩ := gd_some hf
  obtain ⟨v704, s704, h704, hf⟩ := ob_some hf
  obtain ⟨hN1, hf⟩ := gd_some hf
  have hN := Nat.le_trans hN hN1
  refine aw_dV1 (r := r2) (As := []) (rest := [.int v700]) (ct_X14_law l G a r2 s700 v704 s704 h704) hC hW hl.1 vy_X14_law (Or.inl q1710) g704 rfl rfl rfl rfl (Nat.le_of_ble_eq_true rfl) ⟨Nat.le_of_ble_eq_true rfl, Nat.le_of_ble_eq_true rfl⟩ ⟨(by show kc ≤ 603072; omega), (by show ks ≤ 7067754; omega)⟩ dL_law_704 (fun H locs hW => ?_)
  refine lv_icmp_eq (tgt := 1752) hx hb dL_law_707 (by decide) (fun c707 => ?_) (fun c707 => ?_)
  · have hf := ifp c707 hf
    refine W.widen (k := kc + 20) (n := ks + 300) (by omega) (by omega) ?_
    exact hK a r1 r2 r3 x4 s704 hf _ _ _ (lv_sub hl [0, 1, 2, 3, 4] rfl) hW
  · have hf := ifn c707 hf
    refine lv_iconst (v := 0) hx hb dL_law_710 (by decide) ?_
    cases hf
def f_law_c14 (L : Nat) (xs : Nat → Int32) (K : Nat → Nat → Nat → Int32 → ST → Option Unit) (r1 r2 r3 : Nat) (x4 : Int32) (s : ST) : Option Unit :=
  gd (¬ (((x4 + 1) : Int32) < 0 ∨ L ≤ ((x4 + 1) : Int32).toNatClampNeg)) <|
  gd (¬ (((x4 + 2) : Int32) < 0 ∨ L ≤ ((x4 + 2) : Int32).toNatClampNeg)) <|
  gd (r1 < s.1) <|
  gd (r2 < s.1) <|
  gd (r3 < s.1) <|
  ob (f_X0_laws r1 (xs ((x4 + 1) : Int32).toNatClampNeg) (xs ((x4 + 2) : Int32).toNatClampNeg) r3 s) fun v726 s726 =>
  gd (¬ (((x4 + 1) : Int32) < 0 ∨ L ≤ ((x4 + 1) : Int32).toNatClampNeg)) <|
  gd (¬ (((x4 + 2) : Int32) < 0 ∨ L ≤ ((x4 + 2) : Int32).toNatClampNeg)) <|
  gd (r2 < s726.1 ∧ (kd s726 r2).1 = 14) <|
  ob (f_X14_laws r2 (xs ((x4 + 1) : Int32).toNatClampNeg) (xs ((x4 + 2) : Int32).toNatClampNeg) s726) fun v744 s744 =>
  gd (s726.1 ≤ s744.1) <|
  gd (r2 < s744.1 ∧ (kd s744 r2).1 = 14) <|
  ob (f_X14_thrown r2 s744) fun v750 s750 =>
  gd (s744.1 ≤ s750.1) <|
  if v750 = v726 then (if v726 = 0 then (gd (r3 < s750.1 ∧ (kd s750 r3).1 = 104 ∧ ¬ ((0 : Int32) < 0 ∨ (kd s750 r3).2 ≤ (0 : Int32).toNatClampNeg)) <|
  if (lg_cmp (gl s750 r3 (0 : Int32).toNatClampNeg) ((v744 : Int32).toInt64)) = 0 then (K r1 r2 r3 x4 s750) else none) else K r1 r2 r3 x4 s750) else none
set_option maxHeartbeats 4000000 in
theorem lc_14 {p : Program} {l : Launch} {e : Env} {s0 : State} {m : MethodId} {b L : Nat} {xs : Nat → Int32} {below : List Frame} {meth : Method} {c : Code} {G : GM} (hlt : l.stackTraces = false) (hC : CX p s0 m #[Value.ref b] meth c G (fun q => s0.heap.size ≤ q) code R_law 8) (hr : meth.sig.returnType = ret) (hX : va_X b L xs s0 s0.heap) (hbl : b < s0.heap.size) {K : Nat → Nat → Nat → Int32 → ST → Option Unit} {kc ks : Nat} (hkc : kc + 20 ≤ 603072) (hks : ks + 300 ≤ 7067754) (hK : KL p l e s0 m b below meth c G K (kc + 20) (ks + 300) 1752) : KL p l e s0 m b below meth c G (f_law_c14 L xs K) kc ks 712 := by
  intro a r1 r2 r3 x4 s hf H locs ls hl hW
  have hx := hC.1
  have hb := hC.2.1
  have hts := hC.2.2.2.2.1
  obtain ⟨N0, hN0⟩ : ∃ N0, N0 = 0 := ⟨_, rfl⟩
  have hE : EX a a N0 := EX.rf
  have hN : N0 ≤ s.1 := by omega
  unfold f_law_c14 at hf
  refine lv_aload_n hx hb dL_law_712 rfl (lv_at hl 1 rfl) ?_
  refine lv_aload_n hx hb dL_law_713 rfl (lv_at hl 0 rfl) ?_
  refine lv_iload hx hb dL_law_714 (lv_at hl 4 rfl) ?_
  refine lv_iconst (v := 1) hx hb dL_law_716 (by decide) ?_
  refine lv_iadd hx hb dL_law_717 ?_
  obtain ⟨g718, hf⟩ := gd_some hf
  refine lw_xld hx hb hX hbl hW g718 dL_law_718 ?_
  refine lv_aload_n hx hb dL_law_719 rfl (lv_at hl 0 rfl) ?_
  refine lv_iload hx hb dL_law_720 (lv_at hl 4 rfl) ?_
  refine lv_iconst (v := 2) hx hb dL_law_722 (by decide) ?_
  refine lv_iadd hx hb dL_law_723 ?_
  obtain ⟨g724, hf⟩ := gd_some hf
  refine lw_xld hx hb hX hbl hW g724 dL_law_724 ?_
  refine lv_aload_n hx hb dL_law_725 rfl (lv_at hl 3 rfl) ?_
  obtain ⟨gr726, hf⟩ := gd_some hf
  obtain ⟨gr726_1, hf⟩ := gd_some hf
  obtain ⟨gr726_2, hf⟩ := gd_some hf
  obtain ⟨v726, s726, h726, hf⟩ := ob_some hf
  refine aw_run hC hW (aw_runSW (n := 4) hC hW hl.1 (As := [.ref (a r1), .int (xs ((x4 + 1) : Int32).toNatClampNeg), .int (xs ((x4 + 2) : Int32).toNatClampNeg), .ref (a r3)]) (rest := []) (cta_X0_laws l hlt G a r1 (xs ((x4 + 1) : Int32).toNatClampNeg) (xs ((x4 + 2) : Int32).toNatClampNeg) r3 s v726 s726 h726) q1335 q74 q1336 ⟨by decide +kernel, by decide +kernel, by decide +kernel⟩ q1334 rfl rfl (Nat.le_of_ble_eq_true rfl) ⟨Nat.le_of_ble_eq_true rfl, Nat.le_of_ble_eq_true rfl⟩ ⟨(by show kc + 1 ≤ 603072; omega), (by show ks + 6 ≤ 7067754; omega)⟩ dL_law_726) (fun v9 a726 s9 H locs hp9 hW => ?_)
  obtain ⟨rfl, h9s, hE1, hN1⟩ := hp9
  rw [h9s] at hW
  have hE : EX a a726 N0 := hE.trans hE1 hN
  have hN := Nat.le_trans hN hN1
  have hl : lv_has ls 8 [(0, .ref b), (1, .ref (a726 r1)), (2, .ref (a726 r2)), (3, .ref (a726 r3)), (4, .int x4)] := by simp only [hE1 _ gr726, hE1 _ gr726_1, hE1 _ gr726_2]; exact hl
  refine W.eq (g2 := F0 m 729 ls [.int v726]) rfl ?_
  refine W.widen (k := kc + 20) (n := ks + 300) (by show kc + 1 ≤ kc + 20; omega) (by show ks + 6 ≤ ks + 300; omega) ?_
  refine lv_istore (lv' := [(5, .int v726), (0, .ref b), (1, .ref (a726 r1)), (2, .ref (a726 r2)), (3, .ref (a726 r3)), (4, .int x4)]) hx hb dL_law_729 hl (by decide) rfl (fun ls hl => ?_)
  refine lv_aload_n hx hb dL_law_731 rfl (lv_at hl 3 rfl) ?_
  refine lv_aload_n hx hb dL_law_732 rfl (lv_at hl 1 rfl) ?_
  refine lv_iload hx hb dL_law_733 (lv_at hl 5 rfl) ?_
  refine lv_iconst (v := 1) hx hb dL_law_735 (by decide) ?_
  refine lv_iadd hx hb dL_law_736 ?_
  obtain ⟨g737, hf⟩ := gd_some hf
  refine lw_xld hx hb hX hbl hW g737 dL_law_737 ?_
  refine lv_aload_n hx hb dL_law_738 rfl (lv_at hl 1 rfl) ?_
  refine lv_iload hx hb dL_law_739 (lv_at hl 5 rfl) ?_
  refine lv_iconst (v := 2) hx hb dL_law_741 (by decide) ?_
  refine lv_iadd hx hb dL_law_742 ?_
  obtain ⟨g743, hf⟩ := gd_some hf
  refine lw_xld hx hb hX hbl hW g743 dL_law_743 ?_
  obtain ⟨g744, hf⟩ := gd_some hf
  obtain ⟨v744, s744, h744, hf⟩ := ob_some hf
  obtain ⟨hN1, hf⟩ := gd_some hf
  have hN := Nat.le_trans hN hN1
  refine aw_dV1 (r := r2) (As := [.int (xs ((x4 + 1) : Int32).toNatClampNeg), .int (xs ((x4 + 2) : Int32).toNatClampNeg)]) (rest := []) (ct_X14_laws l G a726 r2 (xs ((x4 + 1) : Int32).toNatClampNeg) (xs ((x4 + 2) : Int32).toNatClampNeg) s726 v744 s744 h744) hC hW hl.1 vy_X14_laws (Or.inl q1714) g744 rfl rfl rfl rfl (Nat.le_of_ble_eq_true rfl) ⟨Nat.le_of_ble_eq_true rfl, Nat.le_of_ble_eq_true rfl⟩ ⟨(by show kc + 20 ≤ 603072; omega), (by show ks + 300 ≤ 7067754; omega)⟩ dL_law_744 (fun H locs hW => ?_)
  refine lv_istore (lv' := [(6, .int v744), (5, .int v726), (0, .ref b), (1, .ref (a726 r1)), (2, .ref (a726 r2)), (3, .ref (a726 r3)), (4, .int x4)]) hx hb dL_law_747 hl (by decide) rfl (fun ls hl => ?_)
  refine lv_aload_n hx hb dL_law_749 rfl (lv_at hl 4 rfl) ?_
  obtain ⟨g750, hf⟩ := gd_some hf
  obtain ⟨v750, s750, h750, hf⟩ := ob_some hf
  obtain ⟨hN1, hf⟩ := gd_some hf
  have hN := Nat.le_trans hN hN1
  refine aw_dV1 (r := r2) (As := []) (rest := []) (ct_X14_thrown l G a726 r2 s744 v750 s750 h750) hC hW hl.1 vy_X14_thrown (Or.inl q1356) g750 rfl rfl rfl rfl (Nat.le_of_ble_eq_true rfl) ⟨Nat.le_of_ble_eq_true rfl, Nat.le_of_ble_eq_true rfl⟩ ⟨(by show kc + 20 ≤ 603072; omega), (by show ks + 300 ≤ 7067754; omega)⟩ dL_law_750 (fun H locs hW => ?_)
  refine lv_iload hx hb dL_law_753 (lv_at hl 1 rfl) ?_
  refine lv_icmp_eq (tgt := 760) hx hb dL_law_755 (by decide) (fun c755 => ?_) (fun c755 => ?_)
  · have hf := ifp c755 hf
    refine lv_iload hx hb dL_law_760 (lv_at hl 1 rfl) ?_
    refine lv_if_ne (tgt := 777) hx hb dL_law_762 (by decide) (fun c762 => ?_) (fun c762 => ?_)
    · have hf := ifn c762 hf
      refine lv_goto (tgt := 1752) hx hb dL_law_777 (by decide) ?_
      exact hK a726 r1 r2 r3 x4 s750 hf _ _ _ (lv_sub hl [2, 3, 4, 5, 6] rfl) hW
    · have hf := ifp c762 hf
      refine lv_aload_n hx hb dL_law_765 rfl (lv_at hl 5 rfl) ?_
      refine lv_iconst (v := 0) hx hb dL_law_766 (by decide) ?_
      obtain ⟨g767, hf⟩ := gd_some hf
      refine aw_lald hC hW g767 dL_law_767 ?_
      refine lv_iload hx hb dL_law_768 (lv_at hl 0 rfl) ?_
      refine lv_i2l (v := (v744 : Int32).toInt64) hx hb dL_law_770 rfl ?_
      refine W.lcmp hx hb dL_law_771 ?_
      refine lv_if_eq (tgt := 777) hx hb dL_law_772 (by decide) (fun c772 => ?_) (fun c772 => ?_)
      · have hf := ifp c772 hf
        refine lv_goto (tgt := 1752) hx hb dL_law_777 (by decide) ?_
        exact hK a726 r1 r2 r3 x4 s750 hf _ _ _ (lv_sub hl [2, 3, 4, 5, 6] rfl) hW
      · have hf := ifn c772 hf
        refine lv_iconst (v := 0) hx hb dL_law_775 (by decide) ?_
        cases hf
  · have hf := ifn c755 hf
    refine lv_iconst (v := 0) hx hb dL_law_758 (by decide) ?_
    cases hf
def f_law_c15 (L : Nat) (xs : Nat → Int32) (K : Nat → Nat → Nat → Int32 → ST → Option Unit) (r1 r2 r3 : Nat) (x4 : Int32) (s : ST) : Option Unit :=
  gd (¬ (((x4 + 1) : Int32) < 0 ∨ L ≤ ((x4 + 1) : Int32).toNatClampNeg)) <|
  gd (¬ (((x4 + 2) : Int32) < 0 ∨ L ≤ ((x4 + 2) : Int32).toNatClampNeg)) <|
  gd (r1 < s.1 ∧ (kd s r1).1 = 1) <|
  ob (f_X1_feed r1 (xs ((x4 + 1) : Int32).toNatClampNeg) (xs ((x4 + 2) : Int32).toNatClampNeg) s) fun v793 s793 =>
  gd (s.1 ≤ s793.1) <|
  gd (¬ (((x4 + 1) : Int32) < 0 ∨ L ≤ ((x4 + 1) : Int32).toNatClampNeg)) <|
  gd (¬ (((x4 + 2) : Int32) < 0 ∨ L ≤ ((x4 + 2) : Int32).toNatClampNeg)) <|
  gd (r2 < s793.1 ∧ (kd s793 r2).1 = 14) <|
  ob (f_X14_feed r2 (xs ((x4 + 1) : Int32).toNatClampNeg) (xs ((x4 + 2) : Int32).toNatClampNeg) s793) fun v809 s809 =>
  gd (s793.1 ≤ s809.1) <|
  if v793 = v809 then (K r1 r2 r3 x4 s809) else none
set_option maxHeartbeats 4000000 in
theorem lc_15 {p : Program} {l : Launch} {e : Env} {s0 : State} {m : MethodId} {b L : Nat} {xs : Nat → Int32} {below : List Frame} {meth : Method} {c : Code} {G : GM} (hlt : l.stackTraces = false) (hC : CX p s0 m #[Value.ref b] meth c G (fun q => s0.heap.size ≤ q) code R_law 8) (hr : meth.sig.returnType = ret) (hX : va_X b L xs s0 s0.heap) (hbl : b < s0.heap.size) {K : Nat → Nat → Nat → Int32 → ST → Option Unit} {kc ks : Nat} (hkc : kc + 20 ≤ 603072) (hks : ks + 300 ≤ 7067754) (hK : KL p l e s0 m b below meth c G K (kc + 20) (ks + 300) 1752) : KL p l e s0 m b below meth c G (f_law_c15 L xs K) kc ks 780 := by
  intro a r1 r2 r3 x4 s hf H locs ls hl hW
  have hx := hC.1
  have hb := hC.2.1
  have hts := hC.2.2.2.2.1
  obtain ⟨N0, hN0⟩ : ∃ N0, N0 = 0 := ⟨_, rfl⟩
  have hE : EX a a N0 := EX.rf
  have hN : N0 ≤ s.1 := by omega
  unfold f_law_c15 at hf
  refine lv_aload_n hx hb dL_law_780 rfl (lv_at hl 1 rfl) ?_
  refine lv_aload_n hx hb dL_law_781 rfl (lv_at hl 0 rfl) ?_
  refine lv_iload hx hb dL_law_782 (lv_at hl 4 rfl) ?_
  refine lv_iconst (v := 1) hx hb dL_law_784 (by decide) ?_
  refine lv_iadd hx hb dL_law_785 ?_
  obtain ⟨g786, hf⟩ := gd_some hf
  refine lw_xld hx hb hX hbl hW g786 dL_law_786 ?_
  refine lv_aload_n hx hb dL_law_787 rfl (lv_at hl 0 rfl) ?_
  refine lv_iload hx hb dL_law_788 (lv_at hl 4 rfl) ?_
  refine lv_iconst (v := 2) hx hb dL_law_790 (by decide) ?_
  refine lv_iadd hx hb dL_law_791 ?_
  obtain ⟨g792, hf⟩ := gd_some hf
  refine lw_xld hx hb hX hbl hW g792 dL_law_792 ?_
  obtain ⟨g793, hf⟩ := gd_some hf
  obtain ⟨v793, s793, h793, hf⟩ := ob_some hf
  obtain ⟨hN1, hf⟩ := gd_some hf
  have hN := Nat.le_trans hN hN1
  refine aw_dV1 (r := r1) (As := [.int (xs ((x4 + 1) : Int32).toNatClampNeg), .int (xs ((x4 + 2) : Int32).toNatClampNeg)]) (rest := []) (ct_X1_feed l G a r1 (xs ((x4 + 1) : Int32).toNatClampNeg) (xs ((x4 + 2) : Int32).toNatClampNeg) s v793 s793 h793) hC hW hl.1 vy_X1_feed (Or.inl q1036) g793 rfl rfl rfl rfl (Nat.le_of_ble_eq_true rfl) ⟨Nat.le_of_ble_eq_true rfl, Nat.le_of_ble_eq_true rfl⟩ ⟨(by show kc ≤ 603072; omega), (by show ks ≤ 7067754; omega)⟩ dL_law_793 (fun H locs hW => ?_)
  refine lv_aload_n hx hb dL_law_796 rfl (lv_at hl 2 rfl) ?_
  refine lv_aload_n hx hb dL_law_797 rfl (lv_at hl 0 rfl) ?_
  refine lv_iload hx hb dL_law_798 (lv_at hl 4 rfl) ?_
  refine lv_iconst (v := 1) hx hb dL_law_800 (by decide) ?_
  refine lv_iadd hx hb dL_law_801 ?_
  obtain ⟨g802, hf⟩ := gd_some hf
  refine lw_xld hx hb hX hbl hW g802 dL_law_802 ?_
  refine lv_aload_n hx hb dL_law_803 rfl (lv_at hl 0 rfl) ?_
  refine lv_iload hx hb dL_law_804 (lv_at hl 4 rfl) ?_
  refine lv_iconst (v := 2) hx hb dL_law_806 (by decide) ?_
  refine lv_iadd hx hb dL_law_807 ?_
  obtain ⟨g808, hf⟩ := gd_some hf
  refine lw_xld hx hb hX hbl hW g808 dL_law_808 ?_
  obtain ⟨g809, hf⟩ := gd_some hf
  obtain ⟨v809, s809, h809, hf⟩ := ob_some hf
  obtain ⟨hN1, hf⟩ := gd_some hf
  have hN := Nat.le_trans hN hN1
  refine aw_dV1 (r := r2) (As := [.int (xs ((x4 + 1) : Int32).toNatClampNeg), .int (xs ((x4 + 2) : Int32).toNatClampNeg)]) (rest := [.int v793]) (ct_X14_feed l G a r2 (xs ((x4 + 1) : Int32).toNatClampNeg) (xs ((x4 + 2) : Int32).toNatClampNeg) s793 v809 s809 h809) hC hW hl.1 vy_X14_feed (Or.inl q1718) g809 rfl rfl rfl rfl (Nat.le_of_ble_eq_true rfl) ⟨Nat.le_of_ble_eq_true rfl, Nat.le_of_ble_eq_true rfl⟩ ⟨(by show kc ≤ 603072; omega), (by show ks ≤ 7067754; omega)⟩ dL_law_809 (fun H locs hW => ?_)
  refine lv_icmp_eq (tgt := 1752) hx hb dL_law_812 (by decide) (fun c812 => ?_) (fun c812 => ?_)
  · have hf := ifp c812 hf
    refine W.widen (k := kc + 20) (n := ks + 300) (by omega) (by omega) ?_
    exact hK a r1 r2 r3 x4 s809 hf _ _ _ (lv_sub hl [0, 1, 2, 3, 4] rfl) hW
  · have hf := ifn c812 hf
    refine lv_iconst (v := 0) hx hb dL_law_815 (by decide) ?_
    cases hf
def f_law_c16 (L : Nat) (xs : Nat → Int32) (K : Nat → Nat → Nat → Int32 → ST → Option Unit) (r1 r2 r3 : Nat) (x4 : Int32) (s : ST) : Option Unit :=
  gd (¬ (((x4 + 1) : Int32) < 0 ∨ L ≤ ((x4 + 1) : Int32).toNatClampNeg)) <|
  gd (¬ (((x4 + 2) : Int32) < 0 ∨ L ≤ ((x4 + 2) : Int32).toNatClampNeg)) <|
  gd (r1 < s.1 ∧ (kd s r1).1 = 1) <|
  ob (f_X1_fast r1 (xs ((x4 + 1) : Int32).toNatClampNeg) (xs ((x4 + 2) : Int32).toNatClampNeg) s) fun v830 s830 =>
  gd (s.1 ≤ s830.1) <|
  gd (¬ (((x4 + 1) : Int32) < 0 ∨ L ≤ ((x4 + 1) : Int32).toNatClampNeg)) <|
  gd (¬ (((x4 + 2) : Int32) < 0 ∨ L ≤ ((x4 + 2) : Int32).toNatClampNeg)) <|
  gd (r2 < s830.1 ∧ (kd s830 r2).1 = 14) <|
  ob (f_X14_fast r2 (xs ((x4 + 1) : Int32).toNatClampNeg) (xs ((x4 + 2) : Int32).toNatClampNeg) s830) fun v846 s846 =>
  gd (s830.1 ≤ s846.1) <|
  if v830 = v846 then (K r1 r2 r3 x4 s846) else none
set_option maxHeartbeats 4000000 in
theorem lc_16 {p : Program} {l : Launch} {e : Env} {s0 : State} {m : MethodId} {b L : Nat} {xs : Nat → Int32} {below : List Frame} {meth : Method} {c : Code} {G : GM} (hlt : l.stackTraces = false) (hC : CX p s0 m #[Value.ref b] meth c G (fun q => s0.heap.size ≤ q) code R_law 8) (hr : meth.sig.returnType = ret) (hX : va_X b L xs s0 s0.heap) (hbl : b < s0.heap.size) {K : Nat → Nat → Nat → Int32 → ST → Option Unit} {kc ks : Nat} (hkc : kc + 20 ≤ 603072) (hks : ks + 300 ≤ 7067754) (hK : KL p l e s0 m b below meth c G K (kc + 20) (ks + 300) 1752) : KL p l e s0 m b below meth c G (f_law_c16 L xs K) kc ks 817 := by
  intro a r1 r2 r3 x4 s hf H locs ls hl hW
  have hx := hC.1
  have hb := hC.2.1
  have hts := hC.2.2.2.2.1
  obtain ⟨N0, hN0⟩ : ∃ N0, N0 = 0 := ⟨_, rfl⟩
  have hE : EX a a N0 := EX.rf
  have hN : N0 ≤ s.1 := by omega
  unfold f_law_c16 at hf
  refine lv_aload_n hx hb dL_law_817 rfl (lv_at hl 1 rfl) ?_
  refine lv_aload_n hx hb dL_law_818 rfl (lv_at hl 0 rfl) ?_
  refine lv_iload hx hb dL_law_819 (lv_at hl 4 rfl) ?_
  refine lv_iconst (v := 1) hx hb dL_law_821 (by decide) ?_
  refine lv_iadd hx hb dL_law_822 ?_
  obtain ⟨g823, hf⟩ := gd_some hf
  refine lw_xld hx hb hX hbl hW g823 dL_law_823 ?_
  refine lv_aload_n hx hb dL_law_824 rfl (lv_at hl 0 rfl) ?_
  refine lv_iload hx hb dL_law_825 (lv_at hl 4 rfl) ?_
  refine lv_iconst (v := 2) hx hb dL_law_827 (by decide) ?_
  refine lv_iadd hx hb dL_law_828 ?_
  obtain ⟨g829, hf⟩ := gd_some hf
  refine lw_xld hx hb hX hbl hW g829 dL_law_829 ?_
  obtain ⟨g830, hf⟩ := gd_some hf
  obtain ⟨v830, s830, h830, hf⟩ := ob_some hf
  obtain ⟨hN1, hf⟩ := gd_some hf
  have hN := Nat.le_trans hN hN1
  refine aw_dV1 (r := r1) (As := [.int (xs ((x4 + 1) : Int32).toNatClampNeg), .int (xs ((x4 + 2) : Int32).toNatClampNeg)]) (rest := []) (ct_X1_fast l G a r1 (xs ((x4 + 1) : Int32).toNatClampNeg) (xs ((x4 + 2) : Int32).toNatClampNeg) s v830 s830 h830) hC hW hl.1 vy_X1_fast (Or.inl q1044) g830 rfl rfl rfl rfl (Nat.le_of_ble_eq_true rfl) ⟨Nat.le_of_ble_eq_true rfl, Nat.le_of_ble_eq_true rfl⟩ ⟨(by show kc ≤ 603072; omega), (by show ks ≤ 7067754; omega)⟩ dL_law_830 (fun H locs hW => ?_)
  refine lv_aload_n hx hb dL_law_833 rfl (lv_at hl 2 rfl) ?_
  refine lv_aload_n hx hb dL_law_834 rfl (lv_at hl 0 rfl) ?_
  refine lv_iload hx hb dL_law_835 (lv_at hl 4 rfl) ?_
  refine lv_iconst (v := 1) hx hb dL_law_837 (by decide) ?_
  refine lv_iadd hx hb dL_law_838 ?_
  obtain ⟨g839, hf⟩ := gd_some hf
  refine lw_xld hx hb hX hbl hW g839 dL_law_839 ?_
  refine lv_aload_n hx hb dL_law_840 rfl (lv_at hl 0 rfl) ?_
  refine lv_iload hx hb dL_law_841 (lv_at hl 4 rfl) ?_
  refine lv_iconst (v := 2) hx hb dL_law_843 (by decide) ?_
  refine lv_iadd hx hb dL_law_844 ?_
  obtain ⟨g845, hf⟩ := gd_some hf
  refine lw_xld hx hb hX hbl hW g845 dL_law_845 ?_
  obtain ⟨g846, hf⟩ := gd_some hf
  obtain ⟨v846, s846, h846, hf⟩ := ob_some hf
  obtain ⟨hN1, hf⟩ := gd_some hf
  have hN := Nat.le_trans hN hN1
  refine aw_dV1 (r := r2) (As := [.int (xs ((x4 + 1) : Int32).toNatClampNeg), .int (xs ((x4 + 2) : Int32).toNatClampNeg)]) (rest := [.int v830]) (ct_X14_fast l G a r2 (xs ((x4 + 1) : Int32).toNatClampNeg) (xs ((x4 + 2) : Int32).toNatClampNeg) s830 v846 s846 h846) hC hW hl.1 vy_X14_fast (Or.inl q1730) g846 rfl rfl rfl rfl (Nat.le_of_ble_eq_true rfl) ⟨Nat.le_of_ble_eq_true rfl, Nat.le_of_ble_eq_true rfl⟩ ⟨(by show kc ≤ 603072; omega), (by show ks ≤ 7067754; omega)⟩ dL_law_846 (fun H locs hW => ?_)
  refine lv_icmp_eq (tgt := 1752) hx hb dL_law_849 (by decide) (fun c849 => ?_) (fun c849 => ?_)
  · have hf := ifp c849 hf
    refine W.widen (k := kc + 20) (n := ks + 300) (by omega) (by omega) ?_
    exact hK a r1 r2 r3 x4 s846 hf _ _ _ (lv_sub hl [0, 1, 2, 3, 4] rfl) hW
  · have hf := ifn c849 hf
    refine lv_iconst (v := 0) hx hb dL_law_852 (by decide) ?_
    cases hf
def f_law_c17 (L : Nat) (xs : Nat → Int32) (K : Nat → Nat → Nat → Int32 → ST → Option Unit) (r1 r2 r3 : Nat) (x4 : Int32) (s : ST) : Option Unit :=
  gd (¬ (((x4 + 1) : Int32) < 0 ∨ L ≤ ((x4 + 1) : Int32).toNatClampNeg)) <|
  gd (r1 < s.1 ∧ (kd s r1).1 = 1) <|
  ob (f_X1_dies r1 (xs ((x4 + 1) : Int32).toNatClampNeg) s) fun v861 s861 =>
  gd (s.1 ≤ s861.1) <|
  gd (¬ (((x4 + 1) : Int32) < 0 ∨ L ≤ ((x4 + 1) : Int32).toNatClampNeg)) <|
  gd (r2 < s861.1 ∧ (kd s861 r2).1 = 14) <|
  ob (f_X14_dies r2 (xs ((x4 + 1) : Int32).toNatClampNeg) s861) fun v871 s871 =>
  gd (s861.1 ≤ s871.1) <|
  if v861 = v871 then (K r1 r2 r3 x4 s871) else none
set_option maxHeartbeats 4000000 in
theorem lc_17 {p : Program} {l : Launch} {e : Env} {s0 : State} {m : MethodId} {b L : Nat} {xs : Nat → Int32} {below : List Frame} {meth : Method} {c : Code} {G : GM} (hlt : l.stackTraces = false) (hC : CX p s0 m #[Value.ref b] meth c G (fun q => s0.heap.size ≤ q) code R_law 8) (hr : meth.sig.returnType = ret) (hX : va_X b L xs s0 s0.heap) (hbl : b < s0.heap.size) {K : Nat → Nat → Nat → Int32 → ST → Option Unit} {kc ks : Nat} (hkc : kc + 20 ≤ 603072) (hks : ks + 300 ≤ 7067754) (hK : KL p l e s0 m b below meth c G K (kc + 20) (ks + 300) 1752) : KL p l e s0 m b below meth c G (f_law_c17 L xs K) kc ks 854 := by
  intro a r1 r2 r3 x4 s hf H locs ls hl hW
  have hx := hC.1
  have hb := hC.2.1
  have hts := hC.2.2.2.2.1
  obtain ⟨N0, hN0⟩ : ∃ N0, N0 = 0 := ⟨_, rfl⟩
  have hE : EX a a N0 := EX.rf
  have hN : N0 ≤ s.1 := by omega
  unfold f_law_c17 at hf
  refine lv_aload_n hx hb dL_law_854 rfl (lv_at hl 1 rfl) ?_
  refine lv_aload_n hx hb dL_law_855 rfl (lv_at hl 0 rfl) ?_
  refine lv_iload hx hb dL_law_856 (lv_at hl 4 rfl) ?_
  refine lv_iconst (v := 1) hx hb dL_law_858 (by decide) ?_
  refine lv_iadd hx hb dL_law_859 ?_
  obtain ⟨g860, hf⟩ := gd_some hf
  refine lw_xld hx hb hX hbl hW g860 dL_law_860 ?_
  obtain ⟨g861, hf⟩ := gd_some hf
  obtain ⟨v861, s861, h861, hf⟩ := ob_some hf
  obtain ⟨hN1, hf⟩ := gd_some hf
  have hN := Nat.le_trans hN hN1
  refine aw_dV1 (r := r1) (As := [.int (xs ((x4 + 1) : Int32).toNatClampNeg)]) (rest := []) (ct_X1_dies l G a r1 (xs ((x4 + 1) : Int32).toNatClampNeg) s v861 s861 h861) hC hW hl.1 vy_X1_dies (Or.inl q1048) g861 rfl rfl rfl rfl (Nat.le_of_ble_eq_true rfl) ⟨Nat.le_of_ble_eq_true rfl, Nat.le_of_ble_eq_true rfl⟩ ⟨(by show kc ≤ 603072; omega), (by show ks ≤ 7067754; omega)⟩ dL_law_861 (fun H locs hW => ?_)
  refine lv_aload_n hx hb dL_law_864 rfl (lv_at hl 2 rfl) ?_
  refine lv_aload_n hx hb dL_law_865 rfl (lv_at hl 0 rfl) ?_
  refine lv_iload hx hb dL_law_866 (lv_at hl 4 rfl) ?_
  refine lv_iconst (v := 1) hx hb dL_law_868 (by decide) ?_
  refine lv_iadd hx hb dL_law_869 ?_
  obtain ⟨g870, hf⟩ := gd_some hf
  refine lw_xld hx hb hX hbl hW g870 dL_law_870 ?_
  obtain ⟨g871, hf⟩ := gd_some hf
  obtain ⟨v871, s871, h871, hf⟩ := ob_some hf
  obtain ⟨hN1, hf⟩ := gd_some hf
  have hN := Nat.le_trans hN hN1
  refine aw_dV1 (r := r2) (As := [.int (xs ((x4 + 1) : Int32).toNatClampNeg)]) (rest := [.int v861]) (ct_X14_dies l G a r2 (xs ((x4 + 1) : Int32).toNatClampNeg) s861 v871 s871 h871) hC hW hl.1 vy_X14_dies (Or.inl q1734) g871 rfl rfl rfl rfl (Nat.le_of_ble_eq_true rfl) ⟨Nat.le_of_ble_eq_true rfl, Nat.le_of_ble_eq_true rfl⟩ ⟨(by show kc ≤ 603072; omega), (by show ks ≤ 7067754; omega)⟩ dL_law_871 (fun H locs hW => ?_)
  refine lv_icmp_eq (tgt := 1752) hx hb dL_law_874 (by decide) (fun c874 => ?_) (fun c874 => ?_)
  · have hf := ifp c874 hf
    refine W.widen (k := kc + 20) (n := ks + 300) (by omega) (by omega) ?_
    exact hK a r1 r2 r3 x4 s871 hf _ _ _ (lv_sub hl [0, 1, 2, 3, 4] rfl) hW
  · have hf := ifn c874 hf
    refine lv_iconst (v := 0) hx hb dL_law_877 (by decide) ?_
    cases hf
def f_law_c18 (L : Nat) (xs : Nat → Int32) (K : Nat → Nat → Nat → Int32 → ST → Option Unit) (r1 r2 r3 : Nat) (x4 : Int32) (s : ST) : Option Unit :=
  gd (r1 < s.1 ∧ (kd s r1).1 = 1) <|
  ob (f_X1_undo r1 s) fun v880 s880 =>
  gd (s.1 ≤ s880.1) <|
  gd (r2 < s880.1 ∧ (kd s880 r2).1 = 14) <|
  ob (f_X14_undo r2 s880) fun v884 s884 =>
  gd (s880.1 ≤ s884.1) <|
  if v880 = v884 then (K r1 r2 r3 x4 s884) else none
set_option maxHeartbeats 4000000 in
theorem lc_18 {p : Program} {l : Launch} {e : Env} {s0 : State} {m : MethodId} {b L : Nat} {xs : Nat → Int32} {below : List Frame} {meth : Method} {c : Code} {G : GM} (hlt : l.stackTraces = false) (hC : CX p s0 m #[Value.ref b] meth c G (fun q => s0.heap.size ≤ q) code R_law 8) (hr : meth.sig.returnType = ret) (hX : va_X b L xs s0 s0.heap) (hbl : b < s0.heap.size) {K : Nat → Nat → Nat → Int32 → ST → Option Unit} {kc ks : Nat} (hkc : kc + 20 ≤ 603072) (hks : ks + 300 ≤ 7067754) (hK : KL p l e s0 m b below meth c G K (kc + 20) (ks + 300) 1752) : KL p l e s0 m b below meth c G (f_law_c18 L xs K) kc ks 879 := by
  intro a r1 r2 r3 x4 s hf H locs ls hl hW
  have hx := hC.1
  have hb := hC.2.1
  have hts := hC.2.2.2.2.1
  obtain ⟨N0, hN0⟩ : ∃ N0, N0 = 0 := ⟨_, rfl⟩
  have hE : EX a a N0 := EX.rf
  have hN : N0 ≤ s.1 := by omega
  unfold f_law_c18 at hf
  refine lv_aload_n hx hb dL_law_879 rfl (lv_at hl 1 rfl) ?_
  obtain ⟨g880, hf⟩ := gd_some hf
  obtain ⟨v880, s880, h880, hf⟩ := ob_some hf
  obtain ⟨hN1, hf⟩ := gd_some hf
  have hN := Nat.le_trans hN hN1
  refine aw_dV1 (r := r1) (As := []) (rest := []) (ct_X1_undo l G a r1 s v880 s880 h880) hC hW hl.1 vy_X1_undo (Or.inl q1052) g880 rfl rfl rfl rfl (Nat.le_of_ble_eq_true rfl) ⟨Nat.le_of_ble_eq_true rfl, Nat.le_of_ble_eq_true rfl⟩ ⟨(by show kc ≤ 603072; omega), (by show ks ≤ 7067754; omega)⟩ dL_law_880 (fun H locs hW => ?_)
  refine lv_aload_n hx hb dL_law_883 rfl (lv_at hl 2 rfl) ?_
  obtain ⟨g884, hf⟩ := gd_some hf
  obtain ⟨v884, s884, h884, hf⟩ := ob_some hf
  obtain ⟨hN1, hf⟩ := gd_some hf
  have hN := Nat.le_trans hN hN1
  refine aw_dV1 (r := r2) (As := []) (rest := [.int v880]) (ct_X14_undo l G a r2 s880 v884 s884 h884) hC hW hl.1 vy_X14_undo (Or.inl q1669) g884 rfl rfl rfl rfl (Nat.le_of_ble_eq_true rfl) ⟨Nat.le_of_ble_eq_true rfl, Nat.le_of_ble_eq_true rfl⟩ ⟨(by show kc ≤ 603072; omega), (by show ks ≤ 7067754; omega)⟩ dL_law_884 (fun H locs hW => ?_)
  refine lv_icmp_eq (tgt := 1752) hx hb dL_law_887 (by decide) (fun c887 => ?_) (fun c887 => ?_)
  · have hf := ifp c887 hf
    refine W.widen (k := kc + 20) (n := ks + 300) (by omega) (by omega) ?_
    exact hK a r1 r2 r3 x4 s884 hf _ _ _ (lv_sub hl [0, 1, 2, 3, 4] rfl) hW
  · have hf := ifn c887 hf
    refine lv_iconst (v := 0) hx hb dL_law_890 (by decide) ?_
    cases hf
def f_law_c19 (L : Nat) (xs : Nat → Int32) (K : Nat → Nat → Nat → Int32 → ST → Option Unit) (r1 r2 r3 : Nat) (x4 : Int32) (s : ST) : Option Unit :=
  gd (¬ (((x4 + 1) : Int32) < 0 ∨ L ≤ ((x4 + 1) : Int32).toNatClampNeg)) <|
  gd (r1 < s.1 ∧ (kd s r1).1 = 1) <|
  ob (f_X1_served r1 (xs ((x4 + 1) : Int32).toNatClampNeg) s) fun v899 s899 =>
  gd (s.1 ≤ s899.1) <|
  gd (¬ (((x4 + 1) : Int32) < 0 ∨ L ≤ ((x4 + 1) : Int32).toNatClampNeg)) <|
  gd (r2 < s899.1 ∧ (kd s899 r2).1 = 14) <|
  ob (f_X14_served r2 (xs ((x4 + 1) : Int32).toNatClampNeg) s899) fun v909 s909 =>
  gd (s899.1 ≤ s909.1) <|
  if v899 = v909 then (K r1 r2 r3 x4 s909) else none
set_option maxHeartbeats 4000000 in
theorem lc_19 {p : Program} {l : Launch} {e : Env} {s0 : State} {m : MethodId} {b L : Nat} {xs : Nat → Int32} {below : List Frame} {meth : Method} {c : Code} {G : GM} (hlt : l.stackTraces = false) (hC : CX p s0 m #[Value.ref b] meth c G (fun q => s0.heap.size ≤ q) code R_law 8) (hr : meth.sig.returnType = ret) (hX : va_X b L xs s0 s0.heap) (hbl : b < s0.heap.size) {K : Nat → Nat → Nat → Int32 → ST → Option Unit} {kc ks : Nat} (hkc : kc + 20 ≤ 603072) (hks : ks + 300 ≤ 7067754) (hK : KL p l e s0 m b below meth c G K (kc + 20) (ks + 300) 1752) : KL p l e s0 m b below meth c G (f_law_c19 L xs K) kc ks 892 := by
  intro a r1 r2 r3 x4 s hf H locs ls hl hW
  have hx := hC.1
  have hb := hC.2.1
  have hts := hC.2.2.2.2.1
  obtain ⟨N0, hN0⟩ : ∃ N0, N0 = 0 := ⟨_, rfl⟩
  have hE : EX a a N0 := EX.rf
  have hN : N0 ≤ s.1 := by omega
  unfold f_law_c19 at hf
  refine lv_aload_n hx hb dL_law_892 rfl (lv_at hl 1 rfl) ?_
  refine lv_aload_n hx hb dL_law_893 rfl (lv_at hl 0 rfl) ?_
  refine lv_iload hx hb dL_law_894 (lv_at hl 4 rfl) ?_
  refine lv_iconst (v := 1) hx hb dL_law_896 (by decide) ?_
  refine lv_iadd hx hb dL_law_897 ?_
  obtain ⟨g898, hf⟩ := gd_some hf
  refine lw_xld hx hb hX hbl hW g898 dL_law_898 ?_
  obtain ⟨g899, hf⟩ := gd_some hf
  obtain ⟨v899, s899, h899, hf⟩ := ob_some hf
  obtain ⟨hN1, hf⟩ := gd_some hf
  have hN := Nat.le_trans hN hN1
  refine aw_dV1 (r := r1) (As := [.int (xs ((x4 + 1) : Int32).toNatClampNeg)]) (rest := []) (ct_X1_served l G a r1 (xs ((x4 + 1) : Int32).toNatClampNeg) s v899 s899 h899) hC hW hl.1 vy_X1_served (Or.inl q1056) g899 rfl rfl rfl rfl (Nat.le_of_ble_eq_true rfl) ⟨Nat.le_of_ble_eq_true rfl, Nat.le_of_ble_eq_true rfl⟩ ⟨(by show kc ≤ 603072; omega), (by show ks ≤ 7067754; omega)⟩ dL_law_899 (fun H locs hW => ?_)
  refine lv_aload_n hx hb dL_law_902 rfl (lv_at hl 2 rfl) ?_
  refine lv_aload_n hx hb dL_law_903 rfl (lv_at hl 0 rfl) ?_
  refine lv_iload hx hb dL_law_904 (lv_at hl 4 rfl) ?_
  refine lv_iconst (v := 1) hx hb dL_law_906 (by decide) ?_
  refine lv_iadd hx hb dL_law_907 ?_
  obtain ⟨g908, hf⟩ := gd_some hf
  refine lw_xld hx hb hX hbl hW g908 dL_law_908 ?_
  obtain ⟨g909, hf⟩ := gd_some hf
  obtain ⟨v909, s909, h909, hf⟩ := ob_some hf
  obtain ⟨hN1, hf⟩ := gd_some hf
  have hN := Nat.le_trans hN hN1
  refine aw_dV1 (r := r2) (As := [.int (xs ((x4 + 1) : Int32).toNatClampNeg)]) (rest := [.int v899]) (ct_X14_served l G a r2 (xs ((x4 + 1) : Int32).toNatClampNeg) s899 v909 s909 h909) hC hW hl.1 vy_X14_served (Or.inl q1738) g909 rfl rfl rfl rfl (Nat.le_of_ble_eq_true rfl) ⟨Nat.le_of_ble_eq_true rfl, Nat.le_of_ble_eq_true rfl⟩ ⟨(by show kc ≤ 603072; omega), (by show ks ≤ 7067754; omega)⟩ dL_law_909 (fun H locs hW => ?_)
  refine lv_icmp_eq (tgt := 1752) hx hb dL_law_912 (by decide) (fun c912 => ?_) (fun c912 => ?_)
  · have hf := ifp c912 hf
    refine W.widen (k := kc + 20) (n := ks + 300) (by omega) (by omega) ?_
    exact hK a r1 r2 r3 x4 s909 hf _ _ _ (lv_sub hl [0, 1, 2, 3, 4] rfl) hW
  · have hf := ifn c912 hf
    refine lv_iconst (v := 0) hx hb dL_law_915 (by decide) ?_
    cases hf
