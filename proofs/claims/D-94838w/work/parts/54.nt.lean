set_option maxRecDepth 100000
theorem vy_X1_of : VY yX1_of cX1_of 3 (some .int) 2 := ⟨q1306, q1307, q75, q1308, ⟨by decide +kernel, by decide +kernel, by decide +kernel⟩⟩
theorem vy_X1_change : VY yX1_change cX1_change 3 (some .int) 2 := ⟨q1331, q1332, q75, q1333, ⟨by decide +kernel, by decide +kernel, by decide +kernel⟩⟩
theorem vy_X1_laws : VY yX1_laws cX1_laws 3 (some .int) 2 := ⟨q1338, q1339, q75, q1340, ⟨by decide +kernel, by decide +kernel, by decide +kernel⟩⟩
theorem vy_X1_fool : VY yX1_fool cX1_fool 5 (some .int) 2 := ⟨q1346, q1347, q75, q1348, ⟨by decide +kernel, by decide +kernel, by decide +kernel⟩⟩
theorem vy_X1_row : VY yX1_row cX1_row 2 (some .long) 1 := ⟨q1353, q1354, q75, q1355, ⟨by decide +kernel, by decide +kernel, by decide +kernel⟩⟩
def t_X1_of (o : Nat) (x1 : Int32) (x2 : Int32) (s : ST) : Option (Int32 × ST) :=
  gd (o < s.1 ∧ (kd s o).1 = 1) <|
  ob (f_X1_isOne o x1 s) fun v2 s2 =>
  if v2 = 0 then (some (0, s2)) else if x2 = 0 then (gd (o < s2.1 ∧ (kd s2 o).1 = 1) <|
  (gr s2 o 1).bind fun q65 =>
  gd (q65 < s2.1 ∧ (kd s2 q65).1 = 2) <|
  (gr s2 q65 0).bind fun q68 =>
  gd (q68 < s2.1 ∧ (kd s2 q68).1 = 100 ∧ ¬ ((x1 : Int32) < 0 ∨ (kd s2 q68).2 ≤ (x1 : Int32).toNatClampNeg)) <|
  none) else
  if x2 = 1 then (gd (o < s2.1 ∧ (kd s2 o).1 = 1) <|
  (gr s2 o 0).bind fun q75 =>
  gd (q75 < s2.1 ∧ (kd s2 q75).1 = 105 ∧ ¬ ((x1 : Int32) < 0 ∨ (kd s2 q75).2 ≤ (x1 : Int32).toNatClampNeg)) <|
  (gr s2 q75 (x1 : Int32).toNatClampNeg).bind fun q79 =>
  gd (q79 < s2.1 ∧ (kd s2 q79).1 = 3) <|
  none) else
  if x2 = 2 then (gd (o < s2.1 ∧ (kd s2 o).1 = 1) <|
  (gr s2 o 0).bind fun q85 =>
  gd (q85 < s2.1 ∧ (kd s2 q85).1 = 105 ∧ ¬ ((x1 : Int32) < 0 ∨ (kd s2 q85).2 ≤ (x1 : Int32).toNatClampNeg)) <|
  (gr s2 q85 (x1 : Int32).toNatClampNeg).bind fun q89 =>
  gd (q89 < s2.1 ∧ (kd s2 q89).1 = 3) <|
  none) else
  if x2 = 3 then (gd (o < s2.1 ∧ (kd s2 o).1 = 1) <|
  (gr s2 o 1).bind fun q95 =>
  gd (q95 < s2.1 ∧ (kd s2 q95).1 = 2) <|
  bnd (p_has (gi s2 q95 6) x1) fun v102 =>
  if v102 = 0 then (none) else none) else
  if x2 = 4 then (gd (o < s2.1 ∧ (kd s2 o).1 = 1) <|
  (gr s2 o 1).bind fun q115 =>
  gd (q115 < s2.1 ∧ (kd s2 q115).1 = 2) <|
  (gr s2 q115 1).bind fun q118 =>
  gd (q118 < s2.1 ∧ (kd s2 q118).1 = 100 ∧ ¬ ((x1 : Int32) < 0 ∨ (kd s2 q118).2 ≤ (x1 : Int32).toNatClampNeg)) <|
  none) else
  if x2 = 5 then (gd (o < s2.1 ∧ (kd s2 o).1 = 1) <|
  (gr s2 o 1).bind fun q126 =>
  gd (q126 < s2.1 ∧ (kd s2 q126).1 = 2) <|
  (gr s2 q126 0).bind fun q129 =>
  gd (q129 < s2.1 ∧ (kd s2 q129).1 = 100 ∧ ¬ ((x1 : Int32) < 0 ∨ (kd s2 q129).2 ≤ (x1 : Int32).toNatClampNeg)) <|
  ob (f_X1_shows o (gi s2 q129 (x1 : Int32).toNatClampNeg) s2) fun v134 s134 =>
  none) else
  if x2 = 6 then (gd (o < s2.1 ∧ (kd s2 o).1 = 1) <|
  (gr s2 o 1).bind fun q140 =>
  ob (f_X1_willOf o q140 x1 s2) fun v144 s144 =>
  none) else
  if x2 = 7 then (gd (o < s2.1 ∧ (kd s2 o).1 = 1) <|
  (gr s2 o 0).bind fun q149 =>
  gd (q149 < s2.1 ∧ (kd s2 q149).1 = 105 ∧ ¬ ((x1 : Int32) < 0 ∨ (kd s2 q149).2 ≤ (x1 : Int32).toNatClampNeg)) <|
  (gr s2 q149 (x1 : Int32).toNatClampNeg).bind fun q153 =>
  gd (q153 < s2.1 ∧ (kd s2 q153).1 = 3) <|
  none) else
  some (0, s2)
set_option maxHeartbeats 4000000 in
theorem tt_X1_of (l : Launch) (hlt : l.stackTraces = false) (G : GM) (a : Nat → Nat) (o : Nat) (x1 : Int32) (x2 : Int32) (s : ST) (pl : Int32) (s1 : ST) (hf : t_X1_of o x1 x2 s = some (pl, s1)) : TN l G yX1_of (ws_ yX1_of cX1_of 3 (some .int)) 123 [.ref (a o), .int x1, .int x2] a s s1 := by
  refine tn_of (d := 123) (lv := [(0, .ref (a o)), (1, .int x1), (2, .int x2)]) (by decide) (Nat.le_of_ble_eq_true rfl) rfl ?_
  intro p e s0 m args below meth c ls A hC hno hW hl
  have hx := hC.1
  have hb := hC.2.1
  have hts := hC.2.2.2.2.1
  unfold t_X1_of at hf
  refine lv_aload_n hx hb dX1_of_0 rfl (lv_at hl 0 rfl) ?_
  refine lv_iload_n hx hb dX1_of_1 rfl (lv_at hl 1 rfl) ?_
  obtain ⟨g2, hf⟩ := gd_some hf
  obtain ⟨v2, s2, h2, hf⟩ := ob_some hf
  refine aw_dV1 (r := o) (As := [.int x1]) (rest := []) (ct_X1_isOne l G a o x1 s v2 s2 h2) hC hW hl.1 vy_X1_isOne (Or.inl q848) g2 rfl rfl rfl rfl (Nat.le_of_ble_eq_true rfl) ⟨Nat.le_of_ble_eq_true rfl, Nat.le_of_ble_eq_true rfl⟩ ⟨Nat.le_of_ble_eq_true rfl, Nat.le_of_ble_eq_true rfl⟩ dX1_of_2 (fun H locs hW => ?_)
  refine lv_if_ne (tgt := 16) hx hb dX1_of_5 (by decide) (fun c5 => ?_) (fun c5 => ?_)
  · have hf := ifn c5 hf
    refine lv_iload_n hx hb dX1_of_16 rfl (lv_at hl 2 rfl) ?_
    by_cases c17 : x2 = 0
    · have hf := ifp c17 hf
      refine lv_tableIn (tgt := 64) hx hb dX1_of_17 (by rw [c17]; decide) (by rw [c17]; decide) (by rw [c17]; rfl) (by decide) ?_
      refine lv_aload_n hx hb dX1_of_64 rfl (lv_at hl 0 rfl) ?_
      obtain ⟨g65, hf⟩ := gd_some hf
      obtain ⟨q65, hq65, hf⟩ := bi_some hf
      refine aw_gR hC hW g65 fl_X1_18 rfl hq65 dX1_of_65 ?_
      obtain ⟨g68, hf⟩ := gd_some hf
      obtain ⟨q68, hq68, hf⟩ := bi_some hf
      refine aw_gR hC hW g68 fl_X1_236 rfl hq68 dX1_of_68 ?_
      refine lv_iload_n hx hb dX1_of_71 rfl (lv_at hl 1 rfl) ?_
      obtain ⟨g72, hf⟩ := gd_some hf
      refine aw_iald hC hW g72 dX1_of_72 ?_
      cases hf
    have hf := ifn c17 hf
    by_cases c17_1 : x2 = 1
    · have hf := ifp c17_1 hf
      refine lv_tableIn (tgt := 74) hx hb dX1_of_17 (by rw [c17_1]; decide) (by rw [c17_1]; decide) (by rw [c17_1]; rfl) (by decide) ?_
      refine lv_aload_n hx hb dX1_of_74 rfl (lv_at hl 0 rfl) ?_
      obtain ⟨g75, hf⟩ := gd_some hf
      obtain ⟨q75, hq75, hf⟩ := bi_some hf
      refine aw_gR hC hW g75 fl_X1_11 rfl hq75 dX1_of_75 ?_
      refine lv_iload_n hx hb dX1_of_78 rfl (lv_at hl 1 rfl) ?_
      obtain ⟨g79, hf⟩ := gd_some hf
      obtain ⟨q79, hq79, hf⟩ := bi_some hf
      refine aw_aald (j := 0) hC hW (by decide) g79 hq79 dX1_of_79 ?_
      obtain ⟨g80, hf⟩ := gd_some hf
      refine aw_gI hC hW g80 fl_X1_211 rfl dX1_of_80 ?_
      cases hf
    have hf := ifn c17_1 hf
    by_cases c17_2 : x2 = 2
    · have hf := ifp c17_2 hf
      refine lv_tableIn (tgt := 84) hx hb dX1_of_17 (by rw [c17_2]; decide) (by rw [c17_2]; decide) (by rw [c17_2]; rfl) (by decide) ?_
      refine lv_aload_n hx hb dX1_of_84 rfl (lv_at hl 0 rfl) ?_
      obtain ⟨g85, hf⟩ := gd_some hf
      obtain ⟨q85, hq85, hf⟩ := bi_some hf
      refine aw_gR hC hW g85 fl_X1_11 rfl hq85 dX1_of_85 ?_
      refine lv_iload_n hx hb dX1_of_88 rfl (lv_at hl 1 rfl) ?_
      obtain ⟨g89, hf⟩ := gd_some hf
      obtain ⟨q89, hq89, hf⟩ := bi_some hf
      refine aw_aald (j := 0) hC hW (by decide) g89 hq89 dX1_of_89 ?_
      obtain ⟨g90, hf⟩ := gd_some hf
      refine aw_gI hC hW g90 fl_X1_214 rfl dX1_of_90 ?_
      cases hf
    have hf := ifn c17_2 hf
    by_cases c17_3 : x2 = 3
    · have hf := ifp c17_3 hf
      refine lv_tableIn (tgt := 94) hx hb dX1_of_17 (by rw [c17_3]; decide) (by rw [c17_3]; decide) (by rw [c17_3]; rfl) (by decide) ?_
      refine lv_aload_n hx hb dX1_of_94 rfl (lv_at hl 0 rfl) ?_
      obtain ⟨g95, hf⟩ := gd_some hf
      obtain ⟨q95, hq95, hf⟩ := bi_some hf
      refine aw_gR hC hW g95 fl_X1_18 rfl hq95 dX1_of_95 ?_
      obtain ⟨g98, hf⟩ := gd_some hf
      refine aw_gI hC hW g98 fl_X1_168 rfl dX1_of_98 ?_
      refine lv_iload_n hx hb dX1_of_101 rfl (lv_at hl 1 rfl) ?_
      obtain ⟨v102, ev102, hf⟩ := bnd_some hf
      refine aw_dS1 (As := [.int (gi s2 q95 6), .int x1]) (rest := []) (pc_X1_has l G a (gi s2 q95 6) x1 s2) hC hW hl.1 sy_X1_has (Or.inl q930) rfl rfl (Nat.le_of_ble_eq_true rfl) ⟨Nat.le_of_ble_eq_true rfl, Nat.le_of_ble_eq_true rfl⟩ ⟨Nat.le_of_ble_eq_true rfl, Nat.le_of_ble_eq_true rfl⟩ dX1_of_102 (fun H locs hW => ?_)
      refine top_i ev102 ?_
      refine lv_if_eq (tgt := 112) hx hb dX1_of_105 (by decide) (fun c105 => ?_) (fun c105 => ?_)
      · have hf := ifp c105 hf
        refine lv_iconst (v := 0) hx hb dX1_of_112 (by decide) ?_
        cases hf
      · have hf := ifn c105 hf
        refine lv_iconst (v := 1) hx hb dX1_of_108 (by decide) ?_
        refine lv_goto (tgt := 113) hx hb dX1_of_109 (by decide) ?_
        cases hf
    have hf := ifn c17_3 hf
    by_cases c17_4 : x2 = 4
    · have hf := ifp c17_4 hf
      refine lv_tableIn (tgt := 114) hx hb dX1_of_17 (by rw [c17_4]; decide) (by rw [c17_4]; decide) (by rw [c17_4]; rfl) (by decide) ?_
      refine lv_aload_n hx hb dX1_of_114 rfl (lv_at hl 0 rfl) ?_
      obtain ⟨g115, hf⟩ := gd_some hf
      obtain ⟨q115, hq115, hf⟩ := bi_some hf
      refine aw_gR hC hW g115 fl_X1_18 rfl hq115 dX1_of_115 ?_
      obtain ⟨g118, hf⟩ := gd_some hf
      obtain ⟨q118, hq118, hf⟩ := bi_some hf
      refine aw_gR hC hW g118 fl_X1_239 rfl hq118 dX1_of_118 ?_
      refine lv_iload_n hx hb dX1_of_121 rfl (lv_at hl 1 rfl) ?_
      obtain ⟨g122, hf⟩ := gd_some hf
      refine aw_iald hC hW g122 dX1_of_122 ?_
      cases hf
    have hf := ifn c17_4 hf
    by_cases c17_5 : x2 = 5
    · have hf := ifp c17_5 hf
      refine lv_tableIn (tgt := 124) hx hb dX1_of_17 (by rw [c17_5]; decide) (by rw [c17_5]; decide) (by rw [c17_5]; rfl) (by decide) ?_
      refine lv_aload_n hx hb dX1_of_124 rfl (lv_at hl 0 rfl) ?_
      refine lv_aload_n hx hb dX1_of_125 rfl (lv_at hl 0 rfl) ?_
      obtain ⟨g126, hf⟩ := gd_some hf
      obtain ⟨q126, hq126, hf⟩ := bi_some hf
      refine aw_gR hC hW g126 fl_X1_18 rfl hq126 dX1_of_126 ?_
      obtain ⟨g129, hf⟩ := gd_some hf
      obtain ⟨q129, hq129, hf⟩ := bi_some hf
      refine aw_gR hC hW g129 fl_X1_236 rfl hq129 dX1_of_129 ?_
      refine lv_iload_n hx hb dX1_of_132 rfl (lv_at hl 1 rfl) ?_
      obtain ⟨g133, hf⟩ := gd_some hf
      refine aw_iald hC hW g133 dX1_of_133 ?_
      obtain ⟨v134, s134, h134, hf⟩ := ob_some hf
      refine aw_dV1 (r := o) (As := [.int (gi s2 q129 (x1 : Int32).toNatClampNeg)]) (rest := []) (ct_X1_shows l G a o (gi s2 q129 (x1 : Int32).toNatClampNeg) s2 v134 s134 h134) hC hW hl.1 vy_X1_shows (Or.inl q997) g126 rfl rfl rfl rfl (Nat.le_of_ble_eq_true rfl) ⟨Nat.le_of_ble_eq_true rfl, Nat.le_of_ble_eq_true rfl⟩ ⟨Nat.le_of_ble_eq_true rfl, Nat.le_of_ble_eq_true rfl⟩ dX1_of_134 (fun H locs hW => ?_)
      cases hf
    have hf := ifn c17_5 hf
    by_cases c17_6 : x2 = 6
    · have hf := ifp c17_6 hf
      refine lv_tableIn (tgt := 138) hx hb dX1_of_17 (by rw [c17_6]; decide) (by rw [c17_6]; decide) (by rw [c17_6]; rfl) (by decide) ?_
      refine lv_aload_n hx hb dX1_of_138 rfl (lv_at hl 0 rfl) ?_
      refine lv_aload_n hx hb dX1_of_139 rfl (lv_at hl 0 rfl) ?_
      obtain ⟨g140, hf⟩ := gd_some hf
      obtain ⟨q140, hq140, hf⟩ := bi_some hf
      refine aw_gR hC hW g140 fl_X1_18 rfl hq140 dX1_of_140 ?_
      refine lv_iload_n hx hb dX1_of_143 rfl (lv_at hl 1 rfl) ?_
      obtain ⟨v144, s144, h144, hf⟩ := ob_some hf
      refine aw_dV1 (r := o) (As := [.ref (a q140), .int x1]) (rest := []) (ct_X1_willOf l G a o q140 x1 s2 v144 s144 h144) hC hW hl.1 vy_X1_willOf (Or.inl q1254) g140 rfl rfl rfl rfl (Nat.le_of_ble_eq_true rfl) ⟨Nat.le_of_ble_eq_true rfl, Nat.le_of_ble_eq_true rfl⟩ ⟨Nat.le_of_ble_eq_true rfl, Nat.le_of_ble_eq_true rfl⟩ dX1_of_144 (fun H locs hW => ?_)
      cases hf
    have hf := ifn c17_6 hf
    by_cases c17_7 : x2 = 7
    · have hf := ifp c17_7 hf
      refine lv_tableIn (tgt := 148) hx hb dX1_of_17 (by rw [c17_7]; decide) (by rw [c17_7]; decide) (by rw [c17_7]; rfl) (by decide) ?_
      refine lv_aload_n hx hb dX1_of_148 rfl (lv_at hl 0 rfl) ?_
      obtain ⟨g149, hf⟩ := gd_some hf
      obtain ⟨q149, hq149, hf⟩ := bi_some hf
      refine aw_gR hC hW g149 fl_X1_11 rfl hq149 dX1_of_149 ?_
      refine lv_iload_n hx hb dX1_of_152 rfl (lv_at hl 1 rfl) ?_
      obtain ⟨g153, hf⟩ := gd_some hf
      obtain ⟨q153, hq153, hf⟩ := bi_some hf
      refine aw_aald (j := 0) hC hW (by decide) g153 hq153 dX1_of_153 ?_
      obtain ⟨g154, hf⟩ := gd_some hf
      refine aw_gI hC hW g154 fl_X1_270 rfl dX1_of_154 ?_
      cases hf
    have hf := ifn c17_7 hf
    have zc17 := lv_neT (a := 0) c17 (by decide)
    have zc17_1 := lv_neT (a := 1) c17_1 (by decide)
    have zc17_2 := lv_neT (a := 2) c17_2 (by decide)
    have zc17_3 := lv_neT (a := 3) c17_3 (by decide)
    have zc17_4 := lv_neT (a := 4) c17_4 (by decide)
    have zc17_5 := lv_neT (a := 5) c17_5 (by decide)
    have zc17_6 := lv_neT (a := 6) c17_6 (by decide)
    have zc17_7 := lv_neT (a := 7) c17_7 (by decide)
    refine lv_tableOut (tgt := 158) hx hb dX1_of_17 (by omega) (by decide) ?_
    obtain ⟨-, e2⟩ := so_inj hf
    subst e2
    exact aw_nthrow hlt hC hno hW hl.1 ⟨Nat.le_of_ble_eq_true rfl, Nat.le_of_ble_eq_true rfl, Nat.le_of_ble_eq_true rfl, Nat.le_of_ble_eq_true rfl⟩ (Nat.le_of_ble_eq_true rfl) dX1_of_158 dX1_of_161 dX1_of_162 dX1_of_165
  · have hf := ifp c5 hf
    obtain ⟨-, e2⟩ := so_inj hf
    subst e2
    exact aw_nthrow hlt hC hno hW hl.1 ⟨Nat.le_of_ble_eq_true rfl, Nat.le_of_ble_eq_true rfl, Nat.le_of_ble_eq_true rfl, Nat.le_of_ble_eq_true rfl⟩ (Nat.le_of_ble_eq_true rfl) dX1_of_8 dX1_of_11 dX1_of_12 dX1_of_15
def t_X1_change_b29  (s : ST) : Option (Int32 × ST) :=
  some (0, s)
def t_X1_change (o : Nat) (x1 : Int32) (x2 : Int32) (s : ST) : Option (Int32 × ST) :=
  gd (o < s.1 ∧ (kd s o).1 = 1) <|
  ob (f_X1_isOne o x1 s) fun v2 s2 =>
  if v2 = 0 then (t_X1_change_b29 s2) else gd (o < s2.1 ∧ (kd s2 o).1 = 1) <|
  (gr s2 o 0).bind fun q12 =>
  gd (q12 < s2.1 ∧ (kd s2 q12).1 = 105 ∧ ¬ ((x1 : Int32) < 0 ∨ (kd s2 q12).2 ≤ (x1 : Int32).toNatClampNeg)) <|
  (gr s2 q12 (x1 : Int32).toNatClampNeg).bind fun q16 =>
  gd (q16 < s2.1 ∧ (kd s2 q16).1 = 3) <|
  bnd (p_in ((x2 : Int32).toInt64) 0 ((((gi s2 q16 2) - 1) : Int32).toInt64)) fun v23 =>
  if v23 = 0 then (t_X1_change_b29 s2) else (gr s2 o 0).bind fun q38 =>
  gd (q38 < s2.1 ∧ (kd s2 q38).1 = 105 ∧ ¬ ((x1 : Int32) < 0 ∨ (kd s2 q38).2 ≤ (x1 : Int32).toNatClampNeg)) <|
  (gr s2 q38 (x1 : Int32).toNatClampNeg).bind fun q42 =>
  gd (q42 < s2.1 ∧ (kd s2 q42).1 = 3) <|
  (gr s2 q42 3).bind fun q43 =>
  gd (q43 < s2.1 ∧ (kd s2 q43).1 = 100 ∧ ¬ ((x2 : Int32) < 0 ∨ (kd s2 q43).2 ≤ (x2 : Int32).toNatClampNeg)) <|
  none
set_option maxHeartbeats 4000000 in
theorem tt_X1_change (l : Launch) (hlt : l.stackTraces = false) (G : GM) (a : Nat → Nat) (o : Nat) (x1 : Int32) (x2 : Int32) (s : ST) (pl : Int32) (s1 : ST) (hf : t_X1_change o x1 x2 s = some (pl, s1)) : TN l G yX1_change (ws_ yX1_change cX1_change 3 (some .int)) 8 [.ref (a o), .int x1, .int x2] a s s1 := by
  refine tn_of (d := 8) (lv := [(0, .ref (a o)), (1, .int x1), (2, .int x2)]) (by decide) (Nat.le_of_ble_eq_true rfl) rfl ?_
  intro p e s0 m args below meth c ls A hC hno hW hl
  have hx := hC.1
  have hb := hC.2.1
  have hts := hC.2.2.2.2.1
  have B29 : ∀  (s : ST), t_X1_change_b29  s = some (pl, s1) → ∀ (H : Heap) (locs : List Loc) (ls : Array Slot), lv_has ls 3 [] → AW G a A s s0.heap H locs → WN p l e (rmA 8 1 6) s0 m args below meth c H locs G A (XCN G a s1 A) 29 ls [] := by
    intro  s hf H locs ls hl hW
    unfold t_X1_change_b29 at hf
    obtain ⟨-, e2⟩ := so_inj hf
    subst e2
    exact aw_nthrow hlt hC hno hW hl.1 ⟨Nat.le_of_ble_eq_true rfl, Nat.le_of_ble_eq_true rfl, Nat.le_of_ble_eq_true rfl, Nat.le_of_ble_eq_true rfl⟩ (Nat.le_of_ble_eq_true rfl) dX1_change_29 dX1_change_32 dX1_change_33 dX1_change_36
  unfold t_X1_change at hf
  refine lv_aload_n hx hb dX1_change_0 rfl (lv_at hl 0 rfl) ?_
  refine lv_iload_n hx hb dX1_change_1 rfl (lv_at hl 1 rfl) ?_
  obtain ⟨g2, hf⟩ := gd_some hf
  obtain ⟨v2, s2, h2, hf⟩ := ob_some hf
  refine aw_dV1 (r := o) (As := [.int x1]) (rest := []) (ct_X1_isOne l G a o x1 s v2 s2 h2) hC hW hl.1 vy_X1_isOne (Or.inl q848) g2 rfl rfl rfl rfl (Nat.le_of_ble_eq_true rfl) ⟨Nat.le_of_ble_eq_true rfl, Nat.le_of_ble_eq_true rfl⟩ ⟨Nat.le_of_ble_eq_true rfl, Nat.le_of_ble_eq_true rfl⟩ dX1_change_2 (fun H locs hW => ?_)
  refine lv_if_eq (tgt := 29) hx hb dX1_change_5 (by decide) (fun c5 => ?_) (fun c5 => ?_)
  · have hf := ifp c5 hf
    exact B29 s2 hf _ _ _ (lv_sub hl [] rfl) hW
  · have hf := ifn c5 hf
    refine lv_iload_n hx hb dX1_change_8 rfl (lv_at hl 2 rfl) ?_
    refine lv_i2l (v := (x2 : Int32).toInt64) hx hb dX1_change_9 rfl ?_
    refine lv_lconst (v := 0) hx hb dX1_change_10 (by decide) ?_
    refine lv_aload_n hx hb dX1_change_11 rfl (lv_at hl 0 rfl) ?_
    obtain ⟨g12, hf⟩ := gd_some hf
    obtain ⟨q12, hq12, hf⟩ := bi_some hf
    refine aw_gR hC hW g12 fl_X1_11 rfl hq12 dX1_change_12 ?_
    refine lv_iload_n hx hb dX1_change_15 rfl (lv_at hl 1 rfl) ?_
    obtain ⟨g16, hf⟩ := gd_some hf
    obtain ⟨q16, hq16, hf⟩ := bi_some hf
    refine aw_aald (j := 0) hC hW (by decide) g16 hq16 dX1_change_16 ?_
    obtain ⟨g17, hf⟩ := gd_some hf
    refine aw_gI hC hW g17 fl_X1_270 rfl dX1_change_17 ?_
    refine lv_iconst (v := 1) hx hb dX1_change_20 (by decide) ?_
    refine lv_isub hx hb dX1_change_21 ?_
    refine lv_i2l (v := (((gi s2 q16 2) - 1) : Int32).toInt64) hx hb dX1_change_22 rfl ?_
    obtain ⟨v23, ev23, hf⟩ := bnd_some hf
    refine aw_dS1 (As := [.long ((x2 : Int32).toInt64), .long 0, .long ((((gi s2 q16 2) - 1) : Int32).toInt64)]) (rest := []) (pc_X1_in l G a ((x2 : Int32).toInt64) 0 ((((gi s2 q16 2) - 1) : Int32).toInt64) s2) hC hW hl.1 sy_X1_in (Or.inl q514) rfl rfl (Nat.le_of_ble_eq_true rfl) ⟨Nat.le_of_ble_eq_true rfl, Nat.le_of_ble_eq_true rfl⟩ ⟨Nat.le_of_ble_eq_true rfl, Nat.le_of_ble_eq_true rfl⟩ dX1_change_23 (fun H locs hW => ?_)
    refine top_i ev23 ?_
    refine lv_if_ne (tgt := 37) hx hb dX1_change_26 (by decide) (fun c26 => ?_) (fun c26 => ?_)
    · have hf := ifn c26 hf
      refine lv_aload_n hx hb dX1_change_37 rfl (lv_at hl 0 rfl) ?_
      obtain ⟨q38, hq38, hf⟩ := bi_some hf
      refine aw_gR hC hW g12 fl_X1_11 rfl hq38 dX1_change_38 ?_
      refine lv_iload_n hx hb dX1_change_41 rfl (lv_at hl 1 rfl) ?_
      obtain ⟨g42, hf⟩ := gd_some hf
      obtain ⟨q42, hq42, hf⟩ := bi_some hf
      refine aw_aald (j := 0) hC hW (by decide) g42 hq42 dX1_change_42 ?_
      obtain ⟨g43, hf⟩ := gd_some hf
      obtain ⟨q43, hq43, hf⟩ := bi_some hf
      refine aw_gR hC hW g43 fl_X1_273 rfl hq43 dX1_change_43 ?_
      refine lv_iload_n hx hb dX1_change_46 rfl (lv_at hl 2 rfl) ?_
      obtain ⟨g47, hf⟩ := gd_some hf
      refine aw_iald hC hW g47 dX1_change_47 ?_
      cases hf
    · have hf := ifp c26 hf
      exact B29 s2 hf _ _ _ (lv_sub hl [] rfl) hW
def t_X1_laws (o : Nat) (x1 : Int32) (x2 : Int32) (s : ST) : Option (Int32 × ST) :=
  gd (o < s.1 ∧ (kd s o).1 = 1) <|
  (gr s o 1).bind fun q4 =>
  gd (q4 < s.1 ∧ (kd s q4).1 = 2) <|
  bnd (p_in ((x1 : Int32).toInt64) 0 ((((gi s q4 10) - 1) : Int32).toInt64)) fun v13 =>
  if v13 = 0 then (some (0, s)) else if x2 = 0 then ((gr s o 1).bind fun q61 =>
  gd (q61 < s.1 ∧ (kd s q61).1 = 2) <|
  (gr s q61 2).bind fun q64 =>
  gd (q64 < s.1 ∧ (kd s q64).1 = 100 ∧ ¬ ((x1 : Int32) < 0 ∨ (kd s q64).2 ≤ (x1 : Int32).toNatClampNeg)) <|
  none) else
  if x2 = 1 then ((gr s o 1).bind fun q71 =>
  gd (q71 < s.1 ∧ (kd s q71).1 = 2) <|
  (gr s q71 3).bind fun q74 =>
  gd (q74 < s.1 ∧ (kd s q74).1 = 100 ∧ ¬ ((x1 : Int32) < 0 ∨ (kd s q74).2 ≤ (x1 : Int32).toNatClampNeg)) <|
  none) else
  if x2 = 2 then ((gr s o 1).bind fun q81 =>
  gd (q81 < s.1 ∧ (kd s q81).1 = 2) <|
  ob (f_X2_holds q81 x1 s) fun v85 s85 =>
  if v85 = 0 then (none) else none) else
  if x2 = 3 then ((gr s o 1).bind fun q98 =>
  gd (q98 < s.1 ∧ (kd s q98).1 = 2) <|
  (gr s q98 4).bind fun q101 =>
  gd (q101 < s.1 ∧ (kd s q101).1 = 100 ∧ ¬ ((x1 : Int32) < 0 ∨ (kd s q101).2 ≤ (x1 : Int32).toNatClampNeg)) <|
  none) else
  some (0, s)
set_option maxHeartbeats 4000000 in
theorem tt_X1_laws (l : Launch) (hlt : l.stackTraces = false) (G : GM) (a : Nat → Nat) (o : Nat) (x1 : Int32) (x2 : Int32) (s : ST) (pl : Int32) (s1 : ST) (hf : t_X1_laws o x1 x2 s = some (pl, s1)) : TN l G yX1_laws (ws_ yX1_laws cX1_laws 3 (some .int)) 8 [.ref (a o), .int x1, .int x2] a s s1 := by
  refine tn_of (d := 8) (lv := [(0, .ref (a o)), (1, .int x1), (2, .int x2)]) (by decide) (Nat.le_of_ble_eq_true rfl) rfl ?_
  intro p e s0 m args below meth c ls A hC hno hW hl
  have hx := hC.1
  have hb := hC.2.1
  have hts := hC.2.2.2.2.1
  unfold t_X1_laws at hf
  refine lv_iload_n hx hb dX1_laws_0 rfl (lv_at hl 1 rfl) ?_
  refine lv_i2l (v := (x1 : Int32).toInt64) hx hb dX1_laws_1 rfl ?_
  refine lv_lconst (v := 0) hx hb dX1_laws_2 (by decide) ?_
  refine lv_aload_n hx hb dX1_laws_3 rfl (lv_at hl 0 rfl) ?_
  obtain ⟨g4, hf⟩ := gd_some hf
  obtain ⟨q4, hq4, hf⟩ := bi_some hf
  refine aw_gR hC hW g4 fl_X1_18 rfl hq4 dX1_laws_4 ?_
  obtain ⟨g7, hf⟩ := gd_some hf
  refine aw_gI hC hW g7 fl_X1_388 rfl dX1_laws_7 ?_
  refine lv_iconst (v := 1) hx hb dX1_laws_10 (by decide) ?_
  refine lv_isub hx hb dX1_laws_11 ?_
  refine lv_i2l (v := (((gi s q4 10) - 1) : Int32).toInt64) hx hb dX1_laws_12 rfl ?_
  obtain ⟨v13, ev13, hf⟩ := bnd_some hf
  refine aw_dS1 (As := [.long ((x1 : Int32).toInt64), .long 0, .long ((((gi s q4 10) - 1) : Int32).toInt64)]) (rest := []) (pc_X1_in l G a ((x1 : Int32).toInt64) 0 ((((gi s q4 10) - 1) : Int32).toInt64) s) hC hW hl.1 sy_X1_in (Or.inl q514) rfl rfl (Nat.le_of_ble_eq_true rfl) ⟨Nat.le_of_ble_eq_true rfl, Nat.le_of_ble_eq_true rfl⟩ ⟨Nat.le_of_ble_eq_true rfl, Nat.le_of_ble_eq_true rfl⟩ dX1_laws_13 (fun H locs hW => ?_)
  refine top_i ev13 ?_
  refine lv_if_ne (tgt := 27) hx hb dX1_laws_16 (by decide) (fun c16 => ?_) (fun c16 => ?_)
  · have hf := ifn c16 hf
    refine lv_iload_n hx hb dX1_laws_27 rfl (lv_at hl 2 rfl) ?_
    by_cases c28 : x2 = 0
    · have hf := ifp c28 hf
      refine lv_tableIn (tgt := 60) hx hb dX1_laws_28 (by rw [c28]; decide) (by rw [c28]; decide) (by rw [c28]; rfl) (by decide) ?_
      refine lv_aload_n hx hb dX1_laws_60 rfl (lv_at hl 0 rfl) ?_
      obtain ⟨q61, hq61, hf⟩ := bi_some hf
      refine aw_gR hC hW g4 fl_X1_18 rfl hq61 dX1_laws_61 ?_
      obtain ⟨g64, hf⟩ := gd_some hf
      obtain ⟨q64, hq64, hf⟩ := bi_some hf
      refine aw_gR hC hW g64 fl_X1_391 rfl hq64 dX1_laws_64 ?_
      refine lv_iload_n hx hb dX1_laws_67 rfl (lv_at hl 1 rfl) ?_
      obtain ⟨g68, hf⟩ := gd_some hf
      refine aw_iald hC hW g68 dX1_laws_68 ?_
      cases hf
    have hf := ifn c28 hf
    by_cases c28_1 : x2 = 1
    · have hf := ifp c28_1 hf
      refine lv_tableIn (tgt := 70) hx hb dX1_laws_28 (by rw [c28_1]; decide) (by rw [c28_1]; decide) (by rw [c28_1]; rfl) (by decide) ?_
      refine lv_aload_n hx hb dX1_laws_70 rfl (lv_at hl 0 rfl) ?_
      obtain ⟨q71, hq71, hf⟩ := bi_some hf
      refine aw_gR hC hW g4 fl_X1_18 rfl hq71 dX1_laws_71 ?_
      obtain ⟨g74, hf⟩ := gd_some hf
      obtain ⟨q74, hq74, hf⟩ := bi_some hf
      refine aw_gR hC hW g74 fl_X1_394 rfl hq74 dX1_laws_74 ?_
      refine lv_iload_n hx hb dX1_laws_77 rfl (lv_at hl 1 rfl) ?_
      obtain ⟨g78, hf⟩ := gd_some hf
      refine aw_iald hC hW g78 dX1_laws_78 ?_
      cases hf
    have hf := ifn c28_1 hf
    by_cases c28_2 : x2 = 2
    · have hf := ifp c28_2 hf
      refine lv_tableIn (tgt := 80) hx hb dX1_laws_28 (by rw [c28_2]; decide) (by rw [c28_2]; decide) (by rw [c28_2]; rfl) (by decide) ?_
      refine lv_aload_n hx hb dX1_laws_80 rfl (lv_at hl 0 rfl) ?_
      obtain ⟨q81, hq81, hf⟩ := bi_some hf
      refine aw_gR hC hW g4 fl_X1_18 rfl hq81 dX1_laws_81 ?_
      refine lv_iload_n hx hb dX1_laws_84 rfl (lv_at hl 1 rfl) ?_
      obtain ⟨g85, hf⟩ := gd_some hf
      obtain ⟨v85, s85, h85, hf⟩ := ob_some hf
      refine aw_dV1 (r := q81) (As := [.int x1]) (rest := []) (ct_X2_holds l G a q81 x1 s v85 s85 h85) hC hW hl.1 vy_X2_holds (Or.inl q1341) g85 rfl rfl rfl rfl (Nat.le_of_ble_eq_true rfl) ⟨Nat.le_of_ble_eq_true rfl, Nat.le_of_ble_eq_true rfl⟩ ⟨Nat.le_of_ble_eq_true rfl, Nat.le_of_ble_eq_true rfl⟩ dX1_laws_85 (fun H locs hW => ?_)
      refine lv_if_eq (tgt := 95) hx hb dX1_laws_88 (by decide) (fun c88 => ?_) (fun c88 => ?_)
      · have hf := ifp c88 hf
        refine lv_iconst (v := 0) hx hb dX1_laws_95 (by decide) ?_
        cases hf
      · have hf := ifn c88 hf
        refine lv_iconst (v := 1) hx hb dX1_laws_91 (by decide) ?_
        refine lv_goto (tgt := 96) hx hb dX1_laws_92 (by decide) ?_
        cases hf
    have hf := ifn c28_2 hf
    by_cases c28_3 : x2 = 3
    · have hf := ifp c28_3 hf
      refine lv_tableIn (tgt := 97) hx hb dX1_laws_28 (by rw [c28_3]; decide) (by rw [c28_3]; decide) (by rw [c28_3]; rfl) (by decide) ?_
      refine lv_aload_n hx hb dX1_laws_97 rfl (lv_at hl 0 rfl) ?_
      obtain ⟨q98, hq98, hf⟩ := bi_some hf
      refine aw_gR hC hW g4 fl_X1_18 rfl hq98 dX1_laws_98 ?_
      obtain ⟨g101, hf⟩ := gd_some hf
      obtain ⟨q101, hq101, hf⟩ := bi_some hf
      refine aw_gR hC hW g101 fl_X1_397 rfl hq101 dX1_laws_101 ?_
      refine lv_iload_n hx hb dX1_laws_104 rfl (lv_at hl 1 rfl) ?_
      obtain ⟨g105, hf⟩ := gd_some hf
      refine aw_iald hC hW g105 dX1_laws_105 ?_
      cases hf
    have hf := ifn c28_3 hf
    have zc28 := lv_neT (a := 0) c28 (by decide)
    have zc28_1 := lv_neT (a := 1) c28_1 (by decide)
    have zc28_2 := lv_neT (a := 2) c28_2 (by decide)
    have zc28_3 := lv_neT (a := 3) c28_3 (by decide)
    refine lv_tableOut (tgt := 107) hx hb dX1_laws_28 (by omega) (by decide) ?_
    obtain ⟨-, e2⟩ := so_inj hf
    subst e2
    exact aw_nthrow hlt hC hno hW hl.1 ⟨Nat.le_of_ble_eq_true rfl, Nat.le_of_ble_eq_true rfl, Nat.le_of_ble_eq_true rfl, Nat.le_of_ble_eq_true rfl⟩ (Nat.le_of_ble_eq_true rfl) dX1_laws_107 dX1_laws_110 dX1_laws_111 dX1_laws_114
  · have hf := ifp c16 hf
    obtain ⟨-, e2⟩ := so_inj hf
    subst e2
    exact aw_nthrow hlt hC hno hW hl.1 ⟨Nat.le_of_ble_eq_true rfl, Nat.le_of_ble_eq_true rfl, Nat.le_of_ble_eq_true rfl, Nat.le_of_ble_eq_true rfl⟩ (Nat.le_of_ble_eq_true rfl) dX1_laws_19 dX1_laws_22 dX1_laws_23 dX1_laws_26
def t_X1_fool_b20  (s : ST) : Option (Int32 × ST) :=
  some (0, s)
def t_X1_fool (o : Nat) (x1 : Int32) (x2 : Int32) (s : ST) : Option (Int32 × ST) :=
  gd (o < s.1 ∧ (kd s o).1 = 1) <|
  ob (f_X1_isOne o x1 s) fun v2 s2 =>
  if v2 = 0 then (t_X1_fool_b20 s2) else bnd (p_in ((x2 : Int32).toInt64) 0 99) fun v14 =>
  if v14 = 0 then (t_X1_fool_b20 s2) else gd (o < s2.1 ∧ (kd s2 o).1 = 1) <|
  (gr s2 o 0).bind fun q29 =>
  gd (q29 < s2.1 ∧ (kd s2 q29).1 = 105 ∧ ¬ ((x1 : Int32) < 0 ∨ (kd s2 q29).2 ≤ (x1 : Int32).toNatClampNeg)) <|
  (gr s2 q29 (x1 : Int32).toNatClampNeg).bind fun q33 =>
  gd (q33 < s2.1 ∧ (kd s2 q33).1 = 3) <|
  bnd ((gi s2 q33 0) : Int32) fun v37 =>
  (gr s2 o 16).bind fun q41 =>
  ob (f_X1_partiesBy o x2 q41 s2) fun _ s44 =>
  gd (o < s44.1 ∧ (kd s44 o).1 = 1) <|
  (gr s44 o 24).bind fun q48 =>
  gd (q48 < s44.1 ∧ (kd s44 q48).1 = 100 ∧ ¬ ((v37 : Int32) < 0 ∨ (kd s44 q48).2 ≤ (v37 : Int32).toNatClampNeg)) <|
  bnd ((gi s44 q48 (v37 : Int32).toNatClampNeg) : Int32) fun v53 =>
  (gr s44 o 25).bind fun q56 =>
  gd (q56 < s44.1 ∧ (kd s44 q56).1 = 9) <|
  bnd (pI s44 q56 0 x1) fun s60 =>
  (gr s60 o 25).bind fun q66 =>
  ob (f_X1_partiesBy o x2 q66 s60) fun _ s69 =>
  gd (o < s69.1 ∧ (kd s69 o).1 = 1) <|
  bnd (pI s69 o 12 0) fun s74 =>
  ob (f_X1_tell o ((v53 : Int32).toInt64) s74) fun _ s81 =>
  gd (o < s81.1 ∧ (kd s81 o).1 = 1) <|
  (gr s81 o 24).bind fun q86 =>
  gd (q86 < s81.1 ∧ (kd s81 q86).1 = 100 ∧ ¬ ((v37 : Int32) < 0 ∨ (kd s81 q86).2 ≤ (v37 : Int32).toNatClampNeg)) <|
  ob (f_X1_tell o (((gi s81 q86 (v37 : Int32).toNatClampNeg) : Int32).toInt64) s81) fun _ s92 =>
  gd (o < s92.1 ∧ (kd s92 o).1 = 1) <|
  (gr s92 o 24).bind fun q98 =>
  gd (q98 < s92.1 ∧ (kd s92 q98).1 = 100 ∧ ¬ ((v37 : Int32) < 0 ∨ (kd s92 q98).2 ≤ (v37 : Int32).toNatClampNeg)) <|
  none
set_option maxHeartbeats 4000000 in
theorem tt_X1_fool (l : Launch) (hlt : l.stackTraces = false) (G : GM) (a : Nat → Nat) (o : Nat) (x1 : Int32) (x2 : Int32) (s : ST) (pl : Int32) (s1 : ST) (hf : t_X1_fool o x1 x2 s = some (pl, s1)) : TN l G yX1_fool (ws_ yX1_fool cX1_fool 5 (some .int)) 128 [.ref (a o), .int x1, .int x2] a s s1 := by
  refine tn_of (d := 128) (lv := [(0, .ref (a o)), (1, .int x1), (2, .int x2)]) (by decide) (Nat.le_of_ble_eq_true rfl) rfl ?_
  intro p e s0 m args below meth c ls A hC hno hW hl
  have hx := hC.1
  have hb := hC.2.1
  have hts := hC.2.2.2.2.1
  have B20 : ∀  (s : ST), t_X1_fool_b20  s = some (pl, s1) → ∀ (H : Heap) (locs : List Loc) (ls : Array Slot), lv_has ls 5 [] → AW G a A s s0.heap H locs → WN p l e (rmA 128 1 6) s0 m args below meth c H locs G A (XCN G a s1 A) 20 ls [] := by
    intro  s hf H locs ls hl hW
    unfold t_X1_fool_b20 at hf
    obtain ⟨-, e2⟩ := so_inj hf
    subst e2
    exact aw_nthrow hlt hC hno hW hl.1 ⟨Nat.le_of_ble_eq_true rfl, Nat.le_of_ble_eq_true rfl, Nat.le_of_ble_eq_true rfl, Nat.le_of_ble_eq_true rfl⟩ (Nat.le_of_ble_eq_true rfl) dX1_fool_20 dX1_fool_23 dX1_fool_24 dX1_fool_27
  unfold t_X1_fool at hf
  refine lv_aload_n hx hb dX1_fool_0 rfl (lv_at hl 0 rfl) ?_
  refine lv_iload_n hx hb dX1_fool_1 rfl (lv_at hl 1 rfl) ?_
  obtain ⟨g2, hf⟩ := gd_some hf
  obtain ⟨v2, s2, h2, hf⟩ := ob_some hf
  refine aw_dV1 (r := o) (As := [.int x1]) (rest := []) (ct_X1_isOne l G a o x1 s v2 s2 h2) hC hW hl.1 vy_X1_isOne (Or.inl q848) g2 rfl rfl rfl rfl (Nat.le_of_ble_eq_true rfl) ⟨Nat.le_of_ble_eq_true rfl, Nat.le_of_ble_eq_true rfl⟩ ⟨Nat.le_of_ble_eq_true rfl, Nat.le_of_ble_eq_true rfl⟩ dX1_fool_2 (fun H locs hW => ?_)
  refine lv_if_eq (tgt := 20) hx hb dX1_fool_5 (by decide) (fun c5 => ?_) (fun c5 => ?_)
  · have hf := ifp c5 hf
    exact B20 s2 hf _ _ _ (lv_sub hl [] rfl) hW
  · have hf := ifn c5 hf
    refine lv_iload_n hx hb dX1_fool_8 rfl (lv_at hl 2 rfl) ?_
    refine lv_i2l (v := (x2 : Int32).toInt64) hx hb dX1_fool_9 rfl ?_
    refine lv_lconst (v := 0) hx hb dX1_fool_10 (by decide) ?_
    refine lv_ldc2 (v := 99) hx hb hC.2.2.2.1 (hts _ q1021) dX1_fool_11 ?_
    obtain ⟨v14, ev14, hf⟩ := bnd_some hf
    refine aw_dS1 (As := [.long ((x2 : Int32).toInt64), .long 0, .long 99]) (rest := []) (pc_X1_in l G a ((x2 : Int32).toInt64) 0 99 s2) hC hW hl.1 sy_X1_in (Or.inl q514) rfl rfl (Nat.le_of_ble_eq_true rfl) ⟨Nat.le_of_ble_eq_true rfl, Nat.le_of_ble_eq_true rfl⟩ ⟨Nat.le_of_ble_eq_true rfl, Nat.le_of_ble_eq_true rfl⟩ dX1_fool_14 (fun H locs hW => ?_)
    refine top_i ev14 ?_
    refine lv_if_ne (tgt := 28) hx hb dX1_fool_17 (by decide) (fun c17 => ?_) (fun c17 => ?_)
    · have hf := ifn c17 hf
      refine lv_aload_n hx hb dX1_fool_28 rfl (lv_at hl 0 rfl) ?_
      obtain ⟨g29, hf⟩ := gd_some hf
      obtain ⟨q29, hq29, hf⟩ := bi_some hf
      refine aw_gR hC hW g29 fl_X1_11 rfl hq29 dX1_fool_29 ?_
      refine lv_iload_n hx hb dX1_fool_32 rfl (lv_at hl 1 rfl) ?_
      obtain ⟨g33, hf⟩ := gd_some hf
      obtain ⟨q33, hq33, hf⟩ := bi_some hf
      refine aw_aald (j := 0) hC hW (by decide) g33 hq33 dX1_fool_33 ?_
      obtain ⟨g34, hf⟩ := gd_some hf
      refine aw_gI hC hW g34 fl_X1_211 rfl dX1_fool_34 ?_
      obtain ⟨v37, ev37, hf⟩ := bnd_some hf
      refine top_i ev37 ?_
      refine lv_istore_n (lv' := [(3, .int v37), (0, .ref (a o)), (1, .int x1), (2, .int x2)]) hx hb dX1_fool_37 rfl hl (by decide) rfl (fun ls hl => ?_)
      refine lv_aload_n hx hb dX1_fool_38 rfl (lv_at hl 1 rfl) ?_
      refine lv_iload_n hx hb dX1_fool_39 rfl (lv_at hl 3 rfl) ?_
      refine lv_aload_n hx hb dX1_fool_40 rfl (lv_at hl 1 rfl) ?_
      obtain ⟨q41, hq41, hf⟩ := bi_some hf
      refine aw_gR hC hW g29 fl_X1_54 rfl hq41 dX1_fool_41 ?_
      obtain ⟨_, s44, h44, hf⟩ := ob_some hf
      refine aw_dV0 (r := o) (As := [.int x2, .ref (a q41)]) (rest := []) (ct_X1_partiesBy l G a o x2 q41 s2 () s44 h44) hC hW hl.1 vy_X1_partiesBy (Or.inl q1108) g29 rfl rfl rfl rfl (Nat.le_of_ble_eq_true rfl) ⟨Nat.le_of_ble_eq_true rfl, Nat.le_of_ble_eq_true rfl⟩ ⟨Nat.le_of_ble_eq_true rfl, Nat.le_of_ble_eq_true rfl⟩ dX1_fool_44 (fun H locs hW => ?_)
      refine lv_aload_n hx hb dX1_fool_47 rfl (lv_at hl 1 rfl) ?_
      obtain ⟨g48, hf⟩ := gd_some hf
      obtain ⟨q48, hq48, hf⟩ := bi_some hf
      refine aw_gR hC hW g48 fl_X1_89 rfl hq48 dX1_fool_48 ?_
      refine lv_iload_n hx hb dX1_fool_51 rfl (lv_at hl 0 rfl) ?_
      obtain ⟨g52, hf⟩ := gd_some hf
      refine aw_iald hC hW g52 dX1_fool_52 ?_
      obtain ⟨v53, ev53, hf⟩ := bnd_some hf
      refine top_i ev53 ?_
      refine lv_istore (lv' := [(4, .int v53), (3, .int v37), (0, .ref (a o)), (1, .int x1), (2, .int x2)]) hx hb dX1_fool_53 hl (by decide) rfl (fun ls hl => ?_)
      refine lv_aload_n hx hb dX1_fool_55 rfl (lv_at hl 2 rfl) ?_
      obtain ⟨q56, hq56, hf⟩ := bi_some hf
      refine aw_gR hC hW g48 fl_X1_95 rfl hq56 dX1_fool_56 ?_
      refine lv_iload_n hx hb dX1_fool_59 rfl (lv_at hl 3 rfl) ?_
      obtain ⟨g60, hf⟩ := gd_some hf
      obtain ⟨s60, e60, hf⟩ := bnd_some hf
      refine aw_pI e60 hC hW g60 fl_X1_453 (Or.inl fn_8_0) rfl rfl rfl dX1_fool_60 (fun H locs hW => ?_)
      have g48 := ko_pI e60 g48
      have g60 := ko_pI e60 g60
      refine lv_aload_n hx hb dX1_fool_63 rfl (lv_at hl 2 rfl) ?_
      refine lv_iload_n hx hb dX1_fool_64 rfl (lv_at hl 4 rfl) ?_
      refine lv_aload_n hx hb dX1_fool_65 rfl (lv_at hl 2 rfl) ?_
      obtain ⟨q66, hq66, hf⟩ := bi_some hf
      refine aw_gR hC hW g48 fl_X1_95 rfl hq66 dX1_fool_66 ?_
      obtain ⟨_, s69, h69, hf⟩ := ob_some hf
      refine aw_dV0 (r := o) (As := [.int x2, .ref (a q66)]) (rest := []) (ct_X1_partiesBy l G a o x2 q66 s60 () s69 h69) hC hW hl.1 vy_X1_partiesBy (Or.inl q1108) g48 rfl rfl rfl rfl (Nat.le_of_ble_eq_true rfl) ⟨Nat.le_of_ble_eq_true rfl, Nat.le_of_ble_eq_true rfl⟩ ⟨Nat.le_of_ble_eq_true rfl, Nat.le_of_ble_eq_true rfl⟩ dX1_fool_69 (fun H locs hW => ?_)
      refine lv_aload_n hx hb dX1_fool_72 rfl (lv_at hl 2 rfl) ?_
      refine lv_iconst (v := 0) hx hb dX1_fool_73 (by decide) ?_
      obtain ⟨g74, hf⟩ := gd_some hf
      obtain ⟨s74, e74, hf⟩ := bnd_some hf
      refine aw_pI e74 hC hW g74 fl_X1_154 (Or.inl fn_0_12) rfl rfl rfl dX1_fool_74 (fun H locs hW => ?_)
      have g74 := ko_pI e74 g74
      refine lv_aload_n hx hb dX1_fool_77 rfl (lv_at hl 2 rfl) ?_
      refine lv_iload hx hb dX1_fool_78 (lv_at hl 0 rfl) ?_
      refine lv_i2l (v := (v53 : Int32).toInt64) hx hb dX1_fool_80 rfl ?_
      obtain ⟨_, s81, h81, hf⟩ := ob_some hf
      refine aw_dV0 (r := o) (As := [.long ((v53 : Int32).toInt64)]) (rest := []) (ct_X1_tell l G a o ((v53 : Int32).toInt64) s74 () s81 h81) hC hW hl.1 vy_X1_tell (Or.inl q1013) g74 rfl rfl rfl rfl (Nat.le_of_ble_eq_true rfl) ⟨Nat.le_of_ble_eq_true rfl, Nat.le_of_ble_eq_true rfl⟩ ⟨Nat.le_of_ble_eq_true rfl, Nat.le_of_ble_eq_true rfl⟩ dX1_fool_81 (fun H locs hW => ?_)
      refine lv_aload_n hx hb dX1_fool_84 rfl (lv_at hl 2 rfl) ?_
      refine lv_aload_n hx hb dX1_fool_85 rfl (lv_at hl 2 rfl) ?_
      obtain ⟨g86, hf⟩ := gd_some hf
      obtain ⟨q86, hq86, hf⟩ := bi_some hf
      refine aw_gR hC hW g86 fl_X1_89 rfl hq86 dX1_fool_86 ?_
      refine lv_iload_n hx hb dX1_fool_89 rfl (lv_at hl 1 rfl) ?_
      obtain ⟨g90, hf⟩ := gd_some hf
      refine aw_iald hC hW g90 dX1_fool_90 ?_
      refine lv_i2l (v := ((gi s81 q86 (v37 : Int32).toNatClampNeg) : Int32).toInt64) hx hb dX1_fool_91 rfl ?_
      obtain ⟨_, s92, h92, hf⟩ := ob_some hf
      refine aw_dV0 (r := o) (As := [.long (((gi s81 q86 (v37 : Int32).toNatClampNeg) : Int32).toInt64)]) (rest := []) (ct_X1_tell l G a o (((gi s81 q86 (v37 : Int32).toNatClampNeg) : Int32).toInt64) s81 () s92 h92) hC hW hl.1 vy_X1_tell (Or.inl q1013) g86 rfl rfl rfl rfl (Nat.le_of_ble_eq_true rfl) ⟨Nat.le_of_ble_eq_true rfl, Nat.le_of_ble_eq_true rfl⟩ ⟨Nat.le_of_ble_eq_true rfl, Nat.le_of_ble_eq_true rfl⟩ dX1_fool_92 (fun H locs hW => ?_)
      refine lv_iload hx hb dX1_fool_95 (lv_at hl 0 rfl) ?_
      refine lv_aload_n hx hb dX1_fool_97 rfl (lv_at hl 2 rfl) ?_
      obtain ⟨g98, hf⟩ := gd_some hf
      obtain ⟨q98, hq98, hf⟩ := bi_some hf
      refine aw_gR hC hW g98 fl_X1_89 rfl hq98 dX1_fool_98 ?_
      refine lv_iload_n hx hb dX1_fool_101 rfl (lv_at hl 1 rfl) ?_
      obtain ⟨g102, hf⟩ := gd_some hf
      refine aw_iald hC hW g102 dX1_fool_102 ?_
      refine lv_isub hx hb dX1_fool_103 ?_
      cases hf
    · have hf := ifp c17 hf
      exact B20 s2 hf _ _ _ (lv_sub hl [] rfl) hW
def t_X1_row (o : Nat) (x1 : Int32) (s : ST) : Option (Int32 × ST) :=
  gd (o < s.1 ∧ (kd s o).1 = 1) <|
  bnd (p_in ((x1 : Int32).toInt64) 0 ((((gi s o 12) - 1) : Int32).toInt64)) fun v10 =>
  if v10 = 0 then (some (0, s)) else (gr s o 11).bind fun q25 =>
  gd (q25 < s.1 ∧ (kd s q25).1 = 104 ∧ ¬ ((x1 : Int32) < 0 ∨ (kd s q25).2 ≤ (x1 : Int32).toNatClampNeg)) <|
  none
set_option maxHeartbeats 4000000 in
theorem tt_X1_row (l : Launch) (hlt : l.stackTraces = false) (G : GM) (a : Nat → Nat) (o : Nat) (x1 : Int32) (s : ST) (pl : Int32) (s1 : ST) (hf : t_X1_row o x1 s = some (pl, s1)) : TN l G yX1_row (ws_ yX1_row cX1_row 2 (some .long)) 8 [.ref (a o), .int x1] a s s1 := by
  refine tn_of (d := 8) (lv := [(0, .ref (a o)), (1, .int x1)]) (by decide) (Nat.le_of_ble_eq_true rfl) rfl ?_
  intro p e s0 m args below meth c ls A hC hno hW hl
  have hx := hC.1
  have hb := hC.2.1
  have hts := hC.2.2.2.2.1
  unfold t_X1_row at hf
  refine lv_iload_n hx hb dX1_row_0 rfl (lv_at hl 1 rfl) ?_
  refine lv_i2l (v := (x1 : Int32).toInt64) hx hb dX1_row_1 rfl ?_
  refine lv_lconst (v := 0) hx hb dX1_row_2 (by decide) ?_
  refine lv_aload_n hx hb dX1_row_3 rfl (lv_at hl 0 rfl) ?_
  obtain ⟨g4, hf⟩ := gd_some hf
  refine aw_gI hC hW g4 fl_X1_154 rfl dX1_row_4 ?_
  refine lv_iconst (v := 1) hx hb dX1_row_7 (by decide) ?_
  refine lv_isub hx hb dX1_row_8 ?_
  refine lv_i2l (v := (((gi s o 12) - 1) : Int32).toInt64) hx hb dX1_row_9 rfl ?_
  obtain ⟨v10, ev10, hf⟩ := bnd_some hf
  refine aw_dS1 (As := [.long ((x1 : Int32).toInt64), .long 0, .long ((((gi s o 12) - 1) : Int32).toInt64)]) (rest := []) (pc_X1_in l G a ((x1 : Int32).toInt64) 0 ((((gi s o 12) - 1) : Int32).toInt64) s) hC hW hl.1 sy_X1_in (Or.inl q514) rfl rfl (Nat.le_of_ble_eq_true rfl) ⟨Nat.le_of_ble_eq_true rfl, Nat.le_of_ble_eq_true rfl⟩ ⟨Nat.le_of_ble_eq_true rfl, Nat.le_of_ble_eq_true rfl⟩ dX1_row_10 (fun H locs hW => ?_)
  refine top_i ev10 ?_
  refine lv_if_ne (tgt := 24) hx hb dX1_row_13 (by decide) (fun c13 => ?_) (fun c13 => ?_)
  · have hf := ifn c13 hf
    refine lv_aload_n hx hb dX1_row_24 rfl (lv_at hl 0 rfl) ?_
    obtain ⟨q25, hq25, hf⟩ := bi_some hf
    refine aw_gR hC hW g4 fl_X1_37 rfl hq25 dX1_row_25 ?_
    refine lv_iload_n hx hb dX1_row_28 rfl (lv_at hl 1 rfl) ?_
    obtain ⟨g29, hf⟩ := gd_some hf
    refine aw_lald hC hW g29 dX1_row_29 ?_
    cases hf
  · have hf := ifp c13 hf
    obtain ⟨-, e2⟩ := so_inj hf
    subst e2
    exact aw_nthrow hlt hC hno hW hl.1 ⟨Nat.le_of_ble_eq_true rfl, Nat.le_of_ble_eq_true rfl, Nat.le_of_ble_eq_true rfl, Nat.le_of_ble_eq_true rfl⟩ (Nat.le_of_ble_eq_true rfl) dX1_row_16 dX1_row_19 dX1_row_20 dX1_row_23
def f_X0_of (r0 : Nat) (x1 : Int32) (x2 : Int32) (r3 : Nat) (s : ST) : Option (Int32 × ST) :=
  gd (r0 < s.1 ∧ (kd s r0).1 = 1) <|
  oh (t_X1_of r0 x1 x2 s) (fun pl5 sx5 => gd (s.1 ≤ sx5.1) <| some (1, sx5)) <|
  ob (f_X1_of r0 x1 x2 s) fun v5 s5 =>
  gd (s.1 ≤ s5.1) <|
  gd (r3 < s5.1 ∧ (kd s5 r3).1 = 104 ∧ ¬ ((0 : Int32) < 0 ∨ (kd s5 r3).2 ≤ (0 : Int32).toNatClampNeg)) <|
  bnd (pL s5 r3 (0 : Int32).toNatClampNeg ((v5 : Int32).toInt64)) fun s9 =>
  some (0, s9)
set_option maxHeartbeats 4000000 in
theorem cta_X0_of (l : Launch) (hlt : l.stackTraces = false) (G : GM) (a : Nat → Nat) (r0 : Nat) (x1 : Int32) (x2 : Int32) (r3 : Nat) (s : ST) (rv : Int32) (sf : ST) (hf : f_X0_of r0 x1 x2 r3 s = some (rv, sf)) : MA l G yX0_of (wsW_ yX0_of cX0_of 5 (some .int) [(0, 10, 13, 13)]) 124 1 6 [.ref (a r0), .int x1, .int x2, .ref (a r3)] a s (fun _ => (some (.int rv))) sf := by
  refine ma_ofH (d := 124) (mc := 1) (ms := 6) (lv := [(0, .ref (a r0)), (1, .int x1), (2, .int x2), (3, .ref (a r3))]) (by decide) (Nat.le_of_ble_eq_true rfl) rfl ?_
  intro p e s0 m args below meth c ls A P hP hC hTab hr hnm hW hl
  have hx := hC.1
  have hb := hC.2.1
  have hts := hC.2.2.2.2.1
  obtain ⟨N0, hN0⟩ : ∃ N0, N0 = s.1 := ⟨_, rfl⟩
  rw [← hN0] at hP
  have hE : EX a a N0 := EX.rf
  have hN : N0 ≤ s.1 := Nat.le_of_eq hN0
  unfold f_X0_of at hf
  refine lv_aload_n hx hb dX0_of_0 rfl (lv_at hl 3 rfl) ?_
  refine lv_iconst (v := 0) hx hb dX0_of_1 (by decide) ?_
  refine lv_aload_n hx hb dX0_of_2 rfl (lv_at hl 0 rfl) ?_
  refine lv_iload_n hx hb dX0_of_3 rfl (lv_at hl 1 rfl) ?_
  refine lv_iload_n hx hb dX0_of_4 rfl (lv_at hl 2 rfl) ?_
  obtain ⟨g5, hf⟩ := gd_some hf
  rcases oh_cases hf with ⟨pl5, sx5, ht5, hf⟩ | hf
  · refine aw_nrunX (aw_nrV (r := r0) (As := [.int x1, .int x2]) (rest := [.int 0, .ref (a r3)]) (tt_X1_of l hlt G a r0 x1 x2 s pl5 sx5 ht5) hC hW hl.1 vy_X1_of q1305 g5 rfl rfl rfl rfl (Nat.le_of_ble_eq_true rfl) ⟨Nat.le_of_ble_eq_true rfl, Nat.le_of_ble_eq_true rfl⟩ ⟨Nat.le_of_ble_eq_true rfl, Nat.le_of_ble_eq_true rfl⟩ dX0_of_5) hC hW (fun q9 H locs hW hF9 => aw_catch hC hTab hF9.choose_spec.1 hF9.choose_spec.2.1 hF9.choose_spec.2.2 ⟨Nat.le_of_ble_eq_true rfl, Nat.le_of_ble_eq_true rfl, by decide⟩ q1304 q1311 ?_)
    obtain ⟨hN1, hf⟩ := gd_some hf
    have hN := Nat.le_trans hN hN1
    refine lv_astore (lv' := [(4, .ref q9), (0, .ref (a r0)), (1, .int x1), (2, .int x2), (3, .ref (a r3))]) hx hb dX0_of_13 hl (by decide) rfl (fun ls hl => ?_)
    refine lv_iconst (v := 1) hx hb dX0_of_15 (by decide) ?_
    obtain ⟨e1, e2⟩ := so_inj hf
    exact aw_iret hC hW hr rfl (p_eq (hP _ hE (e2 ▸ hN)) (congrArg (fun z => some (Value.int z)) e1) e2) (Nat.le_of_ble_eq_true rfl) (Nat.le_of_ble_eq_true rfl) dX0_of_16
  obtain ⟨v5, s5, h5, hf⟩ := ob_some hf
  obtain ⟨hN1, hf⟩ := gd_some hf
  have hN := Nat.le_trans hN hN1
  refine aw_dV1 (r := r0) (As := [.int x1, .int x2]) (rest := [.int 0, .ref (a r3)]) (ct_X1_of l G a r0 x1 x2 s v5 s5 h5) hC hW hl.1 vy_X1_of (Or.inl q1305) g5 rfl rfl rfl rfl (Nat.le_of_ble_eq_true rfl) ⟨Nat.le_of_ble_eq_true rfl, Nat.le_of_ble_eq_true rfl⟩ ⟨Nat.le_of_ble_eq_true rfl, Nat.le_of_ble_eq_true rfl⟩ dX0_of_5 (fun H locs hW => ?_)
  refine lv_i2l (v := (v5 : Int32).toInt64) hx hb dX0_of_8 rfl ?_
  obtain ⟨g9, hf⟩ := gd_some hf
  obtain ⟨s9, e9, hf⟩ := bnd_some hf
  refine aw_last e9 hC hW g9 dX0_of_9 (fun H locs hW => ?_)
  have hN := n_pL e9 hN
  refine lv_goto (tgt := 17) hx hb dX0_of_10 (by decide) ?_
  refine lv_iconst (v := 0) hx hb dX0_of_17 (by decide) ?_
  obtain ⟨e1, e2⟩ := so_inj hf
  exact aw_iret hC hW hr rfl (p_eq (hP _ hE (e2 ▸ hN)) (congrArg (fun z => some (Value.int z)) e1) e2) (Nat.le_of_ble_eq_true rfl) (Nat.le_of_ble_eq_true rfl) dX0_of_18
def f_X0_change (r0 : Nat) (x1 : Int32) (x2 : Int32) (r3 : Nat) (s : ST) : Option (Int32 × ST) :=
  gd (r0 < s.1 ∧ (kd s r0).1 = 1) <|
  oh (t_X1_change r0 x1 x2 s) (fun pl5 sx5 => gd (s.1 ≤ sx5.1) <| some (1, sx5)) <|
  ob (f_X1_change r0 x1 x2 s) fun v5 s5 =>
  gd (s.1 ≤ s5.1) <|
  gd (r3 < s5.1 ∧ (kd s5 r3).1 = 104 ∧ ¬ ((0 : Int32) < 0 ∨ (kd s5 r3).2 ≤ (0 : Int32).toNatClampNeg)) <|
  bnd (pL s5 r3 (0 : Int32).toNatClampNeg ((v5 : Int32).toInt64)) fun s9 =>
  some (0, s9)
set_option maxHeartbeats 4000000 in
theorem cta_X0_change (l : Launch) (hlt : l.stackTraces = false) (G : GM) (a : Nat → Nat) (r0 : Nat) (x1 : Int32) (x2 : Int32) (r3 : Nat) (s : ST) (rv : Int32) (sf : ST) (hf : f_X0_change r0 x1 x2 r3 s = some (rv, sf)) : MA l G yX0_change (wsW_ yX0_change cX0_change 5 (some .int) [(0, 10, 13, 13)]) 9 1 6 [.ref (a r0), .int x1, .int x2, .ref (a r3)] a s (fun _ => (some (.int rv))) sf := by
  refine ma_ofH (d := 9) (mc := 1) (ms := 6) (lv := [(0, .ref (a r0)), (1, .int x1), (2, .int x2), (3, .ref (a r3))]) (by decide) (Nat.le_of_ble_eq_true rfl) rfl ?_
  intro p e s0 m args below meth c ls A P hP hC hTab hr hnm hW hl
  have hx := hC.1
  have hb := hC.2.1
  have hts := hC.2.2.2.2.1
  obtain ⟨N0, hN0⟩ : ∃ N0, N0 = s.1 := ⟨_, rfl⟩
  rw [← hN0] at hP
  have hE : EX a a N0 := EX.rf
  have hN : N0 ≤ s.1 := Nat.le_of_eq hN0
  unfold f_X0_change at hf
  refine lv_aload_n hx hb dX0_change_0 rfl (lv_at hl 3 rfl) ?_
  refine lv_iconst (v := 0) hx hb dX0_change_1 (by decide) ?_
  refine lv_aload_n hx hb dX0_change_2 rfl (lv_at hl 0 rfl) ?_
  refine lv_iload_n hx hb dX0_change_3 rfl (lv_at hl 1 rfl) ?_
  refine lv_iload_n hx hb dX0_change_4 rfl (lv_at hl 2 rfl) ?_
  obtain ⟨g5, hf⟩ := gd_some hf
  rcases oh_cases hf with ⟨pl5, sx5, ht5, hf⟩ | hf
  · refine aw_nrunX (aw_nrV (r := r0) (As := [.int x1, .int x2]) (rest := [.int 0, .ref (a r3)]) (tt_X1_change l hlt G a r0 x1 x2 s pl5 sx5 ht5) hC hW hl.1 vy_X1_change q1330 g5 rfl rfl rfl rfl (Nat.le_of_ble_eq_true rfl) ⟨Nat.le_of_ble_eq_true rfl, Nat.le_of_ble_eq_true rfl⟩ ⟨Nat.le_of_ble_eq_true rfl, Nat.le_of_ble_eq_true rfl⟩ dX0_change_5) hC hW (fun q9 H locs hW hF9 => aw_catch hC hTab hF9.choose_spec.1 hF9.choose_spec.2.1 hF9.choose_spec.2.2 ⟨Nat.le_of_ble_eq_true rfl, Nat.le_of_ble_eq_true rfl, by decide⟩ q1304 q1311 ?_)
    obtain ⟨hN1, hf⟩ := gd_some hf
    have hN := Nat.le_trans hN hN1
    refine lv_astore (lv' := [(4, .ref q9), (0, .ref (a r0)), (1, .int x1), (2, .int x2), (3, .ref (a r3))]) hx hb dX0_change_13 hl (by decide) rfl (fun ls hl => ?_)
    refine lv_iconst (v := 1) hx hb dX0_change_15 (by decide) ?_
    obtain ⟨e1, e2⟩ := so_inj hf
    exact aw_iret hC hW hr rfl (p_eq (hP _ hE (e2 ▸ hN)) (congrArg (fun z => some (Value.int z)) e1) e2) (Nat.le_of_ble_eq_true rfl) (Nat.le_of_ble_eq_true rfl) dX0_change_16
  obtain ⟨v5, s5, h5, hf⟩ := ob_some hf
  obtain ⟨hN1, hf⟩ := gd_some hf
  have hN := Nat.le_trans hN hN1
  refine aw_dV1 (r := r0) (As := [.int x1, .int x2]) (rest := [.int 0, .ref (a r3)]) (ct_X1_change l G a r0 x1 x2 s v5 s5 h5) hC hW hl.1 vy_X1_change (Or.inl q1330) g5 rfl rfl rfl rfl (Nat.le_of_ble_eq_true rfl) ⟨Nat.le_of_ble_eq_true rfl, Nat.le_of_ble_eq_true rfl⟩ ⟨Nat.le_of_ble_eq_true rfl, Nat.le_of_ble_eq_true rfl⟩ dX0_change_5 (fun H locs hW => ?_)
  refine lv_i2l (v := (v5 : Int32).toInt64) hx hb dX0_change_8 rfl ?_
  obtain ⟨g9, hf⟩ := gd_some hf
  obtain ⟨s9, e9, hf⟩ := bnd_some hf
  refine aw_last e9 hC hW g9 dX0_change_9 (fun H locs hW => ?_)
  have hN := n_pL e9 hN
  refine lv_goto (tgt := 17) hx hb dX0_change_10 (by decide) ?_
  refine lv_iconst (v := 0) hx hb dX0_change_17 (by decide) ?_
  obtain ⟨e1, e2⟩ := so_inj hf
  exact aw_iret hC hW hr rfl (p_eq (hP _ hE (e2 ▸ hN)) (congrArg (fun z => some (Value.int z)) e1) e2) (Nat.le_of_ble_eq_true rfl) (Nat.le_of_ble_eq_true rfl) dX0_change_18
def f_X0_laws (r0 : Nat) (x1 : Int32) (x2 : Int32) (r3 : Nat) (s : ST) : Option (Int32 × ST) :=
  gd (r0 < s.1 ∧ (kd s r0).1 = 1) <|
  oh (t_X1_laws r0 x1 x2 s) (fun pl5 sx5 => gd (s.1 ≤ sx5.1) <| some (1, sx5)) <|
  ob (f_X1_laws r0 x1 x2 s) fun v5 s5 =>
  gd (s.1 ≤ s5.1) <|
  gd (r3 < s5.1 ∧ (kd s5 r3).1 = 104 ∧ ¬ ((0 : Int32) < 0 ∨ (kd s5 r3).2 ≤ (0 : Int32).toNatClampNeg)) <|
  bnd (pL s5 r3 (0 : Int32).toNatClampNeg ((v5 : Int32).toInt64)) fun s9 =>
  some (0, s9)
set_option maxHeartbeats 4000000 in
theorem cta_X0_laws (l : Launch) (hlt : l.stackTraces = false) (G : GM) (a : Nat → Nat) (r0 : Nat) (x1 : Int32) (x2 : Int32) (r3 : Nat) (s : ST) (rv : Int32) (sf : ST) (hf : f_X0_laws r0 x1 x2 r3 s = some (rv, sf)) : MA l G yX0_laws (wsW_ yX0_laws cX0_laws 5 (some .int) [(0, 10, 13, 13)]) 9 1 6 [.ref (a r0), .int x1, .int x2, .ref (a r3)] a s (fun _ => (some (.int rv))) sf := by
  refine ma_ofH (d := 9) (mc := 1) (ms := 6) (lv := [(0, .ref (a r0)), (1, .int x1), (2, .int x2), (3, .ref (a r3))]) (by decide) (Nat.le_of_ble_eq_true rfl) rfl ?_
  intro p e s0 m args below meth c ls A P hP hC hTab hr hnm hW hl
  have hx := hC.1
  have hb := hC.2.1
  have hts := hC.2.2.2.2.1
  obtain ⟨N0, hN0⟩ : ∃ N0, N0 = s.1 := ⟨_, rfl⟩
  rw [← hN0] at hP
  have hE : EX a a N0 := EX.rf
  have hN : N0 ≤ s.1 := Nat.le_of_eq hN0
  unfold f_X0_laws at hf
  refine lv_aload_n hx hb dX0_laws_0 rfl (lv_at hl 3 rfl) ?_
  refine lv_iconst (v := 0) hx hb dX0_laws_1 (by decide) ?_
  refine lv_aload_n hx hb dX0_laws_2 rfl (lv_at hl 0 rfl) ?_
  refine lv_iload_n hx hb dX0_laws_3 rfl (lv_at hl 1 rfl) ?_
  refine lv_iload_n hx hb dX0_laws_4 rfl (lv_at hl 2 rfl) ?_
  obtain ⟨g5, hf⟩ := gd_some hf
  rcases oh_cases hf with ⟨pl5, sx5, ht5, hf⟩ | hf
  · refine aw_nrunX (aw_nrV (r := r0) (As := [.int x1, .int x2]) (rest := [.int 0, .ref (a r3)]) (tt_X1_laws l hlt G a r0 x1 x2 s pl5 sx5 ht5) hC hW hl.1 vy_X1_laws q1337 g5 rfl rfl rfl rfl (Nat.le_of_ble_eq_true rfl) ⟨Nat.le_of_ble_eq_true rfl, Nat.le_of_ble_eq_true rfl⟩ ⟨Nat.le_of_ble_eq_true rfl, Nat.le_of_ble_eq_true rfl⟩ dX0_laws_5) hC hW (fun q9 H locs hW hF9 => aw_catch hC hTab hF9.choose_spec.1 hF9.choose_spec.2.1 hF9.choose_spec.2.2 ⟨Nat.le_of_ble_eq_true rfl, Nat.le_of_ble_eq_true rfl, by decide⟩ q1304 q1311 ?_)
    obtain ⟨hN1, hf⟩ := gd_some hf
    have hN := Nat.le_trans hN hN1
    refine lv_astore (lv' := [(4, .ref q9), (0, .ref (a r0)), (1, .int x1), (2, .int x2), (3, .ref (a r3))]) hx hb dX0_laws_13 hl (by decide) rfl (fun ls hl => ?_)
    refine lv_iconst (v := 1) hx hb dX0_laws_15 (by decide) ?_
    obtain ⟨e1, e2⟩ := so_inj hf
    exact aw_iret hC hW hr rfl (p_eq (hP _ hE (e2 ▸ hN)) (congrArg (fun z => some (Value.int z)) e1) e2) (Nat.le_of_ble_eq_true rfl) (Nat.le_of_ble_eq_true rfl) dX0_laws_16
  obtain ⟨v5, s5, h5, hf⟩ := ob_some hf
  obtain ⟨hN1, hf⟩ := gd_some hf
  have hN := Nat.le_trans hN hN1
  refine aw_dV1 (r := r0) (As := [.int x1, .int x2]) (rest := [.int 0, .ref (a r3)]) (ct_X1_laws l G a r0 x1 x2 s v5 s5 h5) hC hW hl.1 vy_X1_laws (Or.inl q1337) g5 rfl rfl rfl rfl (Nat.le_of_ble_eq_true rfl) ⟨Nat.le_of_ble_eq_true rfl, Nat.le_of_ble_eq_true rfl⟩ ⟨Nat.le_of_ble_eq_true rfl, Nat.le_of_ble_eq_true rfl⟩ dX0_laws_5 (fun H locs hW => ?_)
  refine lv_i2l (v := (v5 : Int32).toInt64) hx hb dX0_laws_8 rfl ?_
  obtain ⟨g9, hf⟩ := gd_some hf
  obtain ⟨s9, e9, hf⟩ := bnd_some hf
  refine aw_last e9 hC hW g9 dX0_laws_9 (fun H locs hW => ?_)
  have hN := n_pL e9 hN
  refine lv_goto (tgt := 17) hx hb dX0_laws_10 (by decide) ?_
  refine lv_iconst (v := 0) hx hb dX0_laws_17 (by decide) ?_
  obtain ⟨e1, e2⟩ := so_inj hf
  exact aw_iret hC hW hr rfl (p_eq (hP _ hE (e2 ▸ hN)) (congrArg (fun z => some (Value.int z)) e1) e2) (Nat.le_of_ble_eq_true rfl) (Nat.le_of_ble_eq_true rfl) dX0_laws_18
def f_X0_fool (r0 : Nat) (x1 : Int32) (x2 : Int32) (r3 : Nat) (s : ST) : Option (Int32 × ST) :=
  gd (r0 < s.1 ∧ (kd s r0).1 = 1) <|
  oh (t_X1_fool r0 x1 x2 s) (fun pl5 sx5 => gd (s.1 ≤ sx5.1) <| some (1, sx5)) <|
  ob (f_X1_fool r0 x1 x2 s) fun v5 s5 =>
  gd (s.1 ≤ s5.1) <|
  gd (r3 < s5.1 ∧ (kd s5 r3).1 = 104 ∧ ¬ ((0 : Int32) < 0 ∨ (kd s5 r3).2 ≤ (0 : Int32).toNatClampNeg)) <|
  bnd (pL s5 r3 (0 : Int32).toNatClampNeg ((v5 : Int32).toInt64)) fun s9 =>
  some (0, s9)
set_option maxHeartbeats 4000000 in
theorem cta_X0_fool (l : Launch) (hlt : l.stackTraces = false) (G : GM) (a : Nat → Nat) (r0 : Nat) (x1 : Int32) (x2 : Int32) (r3 : Nat) (s : ST) (rv : Int32) (sf : ST) (hf : f_X0_fool r0 x1 x2 r3 s = some (rv, sf)) : MA l G yX0_fool (wsW_ yX0_fool cX0_fool 5 (some .int) [(0, 10, 13, 13)]) 129 1 6 [.ref (a r0), .int x1, .int x2, .ref (a r3)] a s (fun _ => (some (.int rv))) sf := by
  refine ma_ofH (d := 129) (mc := 1) (ms := 6) (lv := [(0, .ref (a r0)), (1, .int x1), (2, .int x2), (3, .ref (a r3))]) (by decide) (Nat.le_of_ble_eq_true rfl) rfl ?_
  intro p e s0 m args below meth c ls A P hP hC hTab hr hnm hW hl
  have hx := hC.1
  have hb := hC.2.1
  have hts := hC.2.2.2.2.1
  obtain ⟨N0, hN0⟩ : ∃ N0, N0 = s.1 := ⟨_, rfl⟩
  rw [← hN0] at hP
  have hE : EX a a N0 := EX.rf
  have hN : N0 ≤ s.1 := Nat.le_of_eq hN0
  unfold f_X0_fool at hf
  refine lv_aload_n hx hb dX0_fool_0 rfl (lv_at hl 3 rfl) ?_
  refine lv_iconst (v := 0) hx hb dX0_fool_1 (by decide) ?_
  refine lv_aload_n hx hb dX0_fool_2 rfl (lv_at hl 0 rfl) ?_
  refine lv_iload_n hx hb dX0_fool_3 rfl (lv_at hl 1 rfl) ?_
  refine lv_iload_n hx hb dX0_fool_4 rfl (lv_at hl 2 rfl) ?_
  obtain ⟨g5, hf⟩ := gd_some hf
  rcases oh_cases hf with ⟨pl5, sx5, ht5, hf⟩ | hf
  · refine aw_nrunX (aw_nrV (r := r0) (As := [.int x1, .int x2]) (rest := [.int 0, .ref (a r3)]) (tt_X1_fool l hlt G a r0 x1 x2 s pl5 sx5 ht5) hC hW hl.1 vy_X1_fool q1345 g5 rfl rfl rfl rfl (Nat.le_of_ble_eq_true rfl) ⟨Nat.le_of_ble_eq_true rfl, Nat.le_of_ble_eq_true rfl⟩ ⟨Nat.le_of_ble_eq_true rfl, Nat.le_of_ble_eq_true rfl⟩ dX0_fool_5) hC hW (fun q9 H locs hW hF9 => aw_catch hC hTab hF9.choose_spec.1 hF9.choose_spec.2.1 hF9.choose_spec.2.2 ⟨Nat.le_of_ble_eq_true rfl, Nat.le_of_ble_eq_true rfl, by decide⟩ q1304 q1311 ?_)
    obtain ⟨hN1, hf⟩ := gd_some hf
    have hN := Nat.le_trans hN hN1
    refine lv_astore (lv' := [(4, .ref q9), (0, .ref (a r0)), (1, .int x1), (2, .int x2), (3, .ref (a r3))]) hx hb dX0_fool_13 hl (by decide) rfl (fun ls hl => ?_)
    refine lv_iconst (v := 1) hx hb dX0_fool_15 (by decide) ?_
    obtain ⟨e1, e2⟩ := so_inj hf
    exact aw_iret hC hW hr rfl (p_eq (hP _ hE (e2 ▸ hN)) (congrArg (fun z => some (Value.int z)) e1) e2) (Nat.le_of_ble_eq_true rfl) (Nat.le_of_ble_eq_true rfl) dX0_fool_16
  obtain ⟨v5, s5, h5, hf⟩ := ob_some hf
  obtain ⟨hN1, hf⟩ := gd_some hf
  have hN := Nat.le_trans hN hN1
  refine aw_dV1 (r := r0) (As := [.int x1, .int x2]) (rest := [.int 0, .ref (a r3)]) (ct_X1_fool l G a r0 x1 x2 s v5 s5 h5) hC hW hl.1 vy_X1_fool (Or.inl q1345) g5 rfl rfl rfl rfl (Nat.le_of_ble_eq_true rfl) ⟨Nat.le_of_ble_eq_true rfl, Nat.le_of_ble_eq_true rfl⟩ ⟨Nat.le_of_ble_eq_true rfl, Nat.le_of_ble_eq_true rfl⟩ dX0_fool_5 (fun H locs hW => ?_)
  refine lv_i2l (v := (v5 : Int32).toInt64) hx hb dX0_fool_8 rfl ?_
  obtain ⟨g9, hf⟩ := gd_some hf
  obtain ⟨s9, e9, hf⟩ := bnd_some hf
  refine aw_last e9 hC hW g9 dX0_fool_9 (fun H locs hW => ?_)
  have hN := n_pL e9 hN
  refine lv_goto (tgt := 17) hx hb dX0_fool_10 (by decide) ?_
  refine lv_iconst (v := 0) hx hb dX0_fool_17 (by decide) ?_
  obtain ⟨e1, e2⟩ := so_inj hf
  exact aw_iret hC hW hr rfl (p_eq (hP _ hE (e2 ▸ hN)) (congrArg (fun z => some (Value.int z)) e1) e2) (Nat.le_of_ble_eq_true rfl) (Nat.le_of_ble_eq_true rfl) dX0_fool_18
def f_X0_row (r0 : Nat) (x1 : Int32) (r2 : Nat) (s : ST) : Option (Int32 × ST) :=
  gd (r0 < s.1 ∧ (kd s r0).1 = 1) <|
  oh (t_X1_row r0 x1 s) (fun pl4 sx4 => gd (s.1 ≤ sx4.1) <| some (1, sx4)) <|
  ob (f_X1_row r0 x1 s) fun v4 s4 =>
  gd (s.1 ≤ s4.1) <|
  gd (r2 < s4.1 ∧ (kd s4 r2).1 = 104 ∧ ¬ ((0 : Int32) < 0 ∨ (kd s4 r2).2 ≤ (0 : Int32).toNatClampNeg)) <|
  bnd (pL s4 r2 (0 : Int32).toNatClampNeg v4) fun s7 =>
  some (0, s7)
set_option maxHeartbeats 4000000 in
theorem cta_X0_row (l : Launch) (hlt : l.stackTraces = false) (G : GM) (a : Nat → Nat) (r0 : Nat) (x1 : Int32) (r2 : Nat) (s : ST) (rv : Int32) (sf : ST) (hf : f_X0_row r0 x1 r2 s = some (rv, sf)) : MA l G yX0_row (wsW_ yX0_row cX0_row 4 (some .int) [(0, 8, 11, 13)]) 9 1 6 [.ref (a r0), .int x1, .ref (a r2)] a s (fun _ => (some (.int rv))) sf := by
  refine ma_ofH (d := 9) (mc := 1) (ms := 6) (lv := [(0, .ref (a r0)), (1, .int x1), (2, .ref (a r2))]) (by decide) (Nat.le_of_ble_eq_true rfl) rfl ?_
  intro p e s0 m args below meth c ls A P hP hC hTab hr hnm hW hl
  have hx := hC.1
  have hb := hC.2.1
  have hts := hC.2.2.2.2.1
  obtain ⟨N0, hN0⟩ : ∃ N0, N0 = s.1 := ⟨_, rfl⟩
  rw [← hN0] at hP
  have hE : EX a a N0 := EX.rf
  have hN : N0 ≤ s.1 := Nat.le_of_eq hN0
  unfold f_X0_row at hf
  refine lv_aload_n hx hb dX0_row_0 rfl (lv_at hl 2 rfl) ?_
  refine lv_iconst (v := 0) hx hb dX0_row_1 (by decide) ?_
  refine lv_aload_n hx hb dX0_row_2 rfl (lv_at hl 0 rfl) ?_
  refine lv_iload_n hx hb dX0_row_3 rfl (lv_at hl 1 rfl) ?_
  obtain ⟨g4, hf⟩ := gd_some hf
  rcases oh_cases hf with ⟨pl4, sx4, ht4, hf⟩ | hf
  · refine aw_nrunX (aw_nrV (r := r0) (As := [.int x1]) (rest := [.int 0, .ref (a r2)]) (tt_X1_row l hlt G a r0 x1 s pl4 sx4 ht4) hC hW hl.1 vy_X1_row q1352 g4 rfl rfl rfl rfl (Nat.le_of_ble_eq_true rfl) ⟨Nat.le_of_ble_eq_true rfl, Nat.le_of_ble_eq_true rfl⟩ ⟨Nat.le_of_ble_eq_true rfl, Nat.le_of_ble_eq_true rfl⟩ dX0_row_4) hC hW (fun q9 H locs hW hF9 => aw_catch hC hTab hF9.choose_spec.1 hF9.choose_spec.2.1 hF9.choose_spec.2.2 ⟨Nat.le_of_ble_eq_true rfl, Nat.le_of_ble_eq_true rfl, by decide⟩ q1304 q1311 ?_)
    obtain ⟨hN1, hf⟩ := gd_some hf
    have hN := Nat.le_trans hN hN1
    refine lv_astore_n (lv' := [(3, .ref q9), (0, .ref (a r0)), (1, .int x1), (2, .ref (a r2))]) hx hb dX0_row_11 rfl hl (by decide) rfl (fun ls hl => ?_)
    refine lv_iconst (v := 1) hx hb dX0_row_12 (by decide) ?_
    obtain ⟨e1, e2⟩ := so_inj hf
    exact aw_iret hC hW hr rfl (p_eq (hP _ hE (e2 ▸ hN)) (congrArg (fun z => some (Value.int z)) e1) e2) (Nat.le_of_ble_eq_true rfl) (Nat.le_of_ble_eq_true rfl) dX0_row_13
  obtain ⟨v4, s4, h4, hf⟩ := ob_some hf
  obtain ⟨hN1, hf⟩ := gd_some hf
  have hN := Nat.le_trans hN hN1
  refine aw_dV1 (r := r0) (As := [.int x1]) (rest := [.int 0, .ref (a r2)]) (ct_X1_row l G a r0 x1 s v4 s4 h4) hC hW hl.1 vy_X1_row (Or.inl q1352) g4 rfl rfl rfl rfl (Nat.le_of_ble_eq_true rfl) ⟨Nat.le_of_ble_eq_true rfl, Nat.le_of_ble_eq_true rfl⟩ ⟨Nat.le_of_ble_eq_true rfl, Nat.le_of_ble_eq_true rfl⟩ dX0_row_4 (fun H locs hW => ?_)
  obtain ⟨g7, hf⟩ := gd_some hf
  obtain ⟨s7, e7, hf⟩ := bnd_some hf
  refine aw_last e7 hC hW g7 dX0_row_7 (fun H locs hW => ?_)
  have hN := n_pL e7 hN
  refine lv_goto (tgt := 14) hx hb dX0_row_8 (by decide) ?_
  refine lv_iconst (v := 0) hx hb dX0_row_14 (by decide) ?_
  obtain ⟨e1, e2⟩ := so_inj hf
  exact aw_iret hC hW hr rfl (p_eq (hP _ hE (e2 ▸ hN)) (congrArg (fun z => some (Value.int z)) e1) e2) (Nat.le_of_ble_eq_true rfl) (Nat.le_of_ble_eq_true rfl) dX0_row_15
