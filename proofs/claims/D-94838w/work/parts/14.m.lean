set_option maxRecDepth 100000
def f_X14_count (o : Nat) (x1 : Int32) (s : ST) : Option (Int32 × ST) :=
  gd (o < s.1 ∧ (kd s o).1 = 14) <|
  bnd (pI s o 0 0) fun s2 =>
  if x1 = 0 then (some ((gi s2 o 3), s2)) else
  if x1 = 1 then ((gr s2 o 10).bind fun q82 =>
  gd (q82 < s2.1 ∧ (kd s2 q82).1 = 100 ∧ ¬ ((19 : Int32) < 0 ∨ (kd s2 q82).2 ≤ (19 : Int32).toNatClampNeg)) <|
  some ((gi s2 q82 (19 : Int32).toNatClampNeg), s2)) else
  if x1 = 2 then ((gr s2 o 10).bind fun q90 =>
  gd (q90 < s2.1 ∧ (kd s2 q90).1 = 100 ∧ ¬ ((17 : Int32) < 0 ∨ (kd s2 q90).2 ≤ (17 : Int32).toNatClampNeg)) <|
  some ((gi s2 q90 (17 : Int32).toNatClampNeg), s2)) else
  if x1 = 3 then ((gr s2 o 10).bind fun q98 =>
  gd (q98 < s2.1 ∧ (kd s2 q98).1 = 100 ∧ ¬ ((17 : Int32) < 0 ∨ (kd s2 q98).2 ≤ (17 : Int32).toNatClampNeg)) <|
  if 0 ≤ (gi s2 q98 (17 : Int32).toNatClampNeg) then ((gr s2 o 10).bind fun q112 =>
  gd (q112 < s2.1 ∧ (kd s2 q112).1 = 100 ∧ ¬ ((18 : Int32) < 0 ∨ (kd s2 q112).2 ≤ (18 : Int32).toNatClampNeg)) <|
  some ((gi s2 q112 (18 : Int32).toNatClampNeg), s2)) else some (0, s2)) else
  if x1 = 4 then ((gr s2 o 10).bind fun q120 =>
  gd (q120 < s2.1 ∧ (kd s2 q120).1 = 100 ∧ ¬ ((20 : Int32) < 0 ∨ (kd s2 q120).2 ≤ (20 : Int32).toNatClampNeg)) <|
  some ((gi s2 q120 (20 : Int32).toNatClampNeg), s2)) else
  if x1 = 5 then (ob (f_X14_lawsThatHold o s2) fun v128 s128 =>
  some (v128, s128)) else
  if x1 = 6 then ((gr s2 o 10).bind fun q133 =>
  gd (q133 < s2.1 ∧ (kd s2 q133).1 = 100 ∧ ¬ ((16 : Int32) < 0 ∨ (kd s2 q133).2 ≤ (16 : Int32).toNatClampNeg)) <|
  some ((gi s2 q133 (16 : Int32).toNatClampNeg), s2)) else
  if x1 = 7 then (some ((gi s2 o 28), s2)) else
  if x1 = 8 then (some ((gi s2 o 34), s2)) else
  if x1 = 9 then (some ((gi s2 o 37), s2)) else
  if x1 = 10 then (some ((gi s2 o 1), s2)) else
  if x1 = 11 then (some ((gi s2 o 13), s2)) else
  if x1 = 12 then (some ((gi s2 o 8), s2)) else
  if x1 = 13 then (some ((gi s2 o 9), s2)) else
  some ((-100), s2)
set_option maxHeartbeats 4000000 in
theorem ct_X14_count (l : Launch) (G : GM) (a : Nat → Nat) (o : Nat) (x1 : Int32) (s : ST) (rv : Int32) (sf : ST) (hf : f_X14_count o x1 s = some (rv, sf)) : MD l G yX14_count (ws_ yX14_count cX14_count 2 (some .int)) 1 [.ref (a o), .int x1] a s (some (.int rv)) sf := by
  refine md_of (d := 1) (lv := [(0, .ref (a o)), (1, .int x1)]) (Or.inl (by decide)) (Nat.le_of_ble_eq_true rfl) rfl ?_
  intro p e s0 m args below meth c ls A P hP hC hr hnm hW hl
  have hx := hC.1
  have hb := hC.2.1
  have hts := hC.2.2.2.2.1
  unfold f_X14_count at hf
  refine lv_aload_n hx hb dX14_count_0 rfl (lv_at hl 0 rfl) ?_
  refine lv_iconst (v := 0) hx hb dX14_count_1 (by decide) ?_
  obtain ⟨g2, hf⟩ := gd_some hf
  obtain ⟨s2, e2, hf⟩ := bnd_some hf
  refine aw_pI e2 hC hW g2 fl_X14_3 (Or.inl fn_13_0) rfl rfl rfl dX14_count_2 (fun H locs hW => ?_)
  have g2 := ko_pI e2 g2
  refine lv_iload_n hx hb dX14_count_5 rfl (lv_at hl 1 rfl) ?_
  by_cases c6 : x1 = 0
  · have hf := ifp c6 hf
    refine lv_tableIn (tgt := 76) hx hb dX14_count_6 (by rw [c6]; decide) (by rw [c6]; decide) (by rw [c6]; rfl) (by decide) ?_
    refine lv_aload_n hx hb dX14_count_76 rfl (lv_at hl 0 rfl) ?_
    refine aw_gI hC hW g2 fl_X14_117 rfl dX14_count_77 ?_
    obtain ⟨e1, e2⟩ := so_inj hf
    exact aw_iret hC hW hr rfl (p_eq hP (congrArg (fun z => some (Value.int z)) e1) e2) (Nat.le_of_ble_eq_true rfl) (Nat.le_of_ble_eq_true rfl) dX14_count_80
  have hf := ifn c6 hf
  by_cases c6_1 : x1 = 1
  · have hf := ifp c6_1 hf
    refine lv_tableIn (tgt := 81) hx hb dX14_count_6 (by rw [c6_1]; decide) (by rw [c6_1]; decide) (by rw [c6_1]; rfl) (by decide) ?_
    refine lv_aload_n hx hb dX14_count_81 rfl (lv_at hl 0 rfl) ?_
    obtain ⟨q82, hq82, hf⟩ := bi_some hf
    refine aw_gR hC hW g2 fl_X14_44 rfl hq82 dX14_count_82 ?_
    refine lv_bipush (v := 19) hx hb dX14_count_85 (by decide) ?_
    obtain ⟨g87, hf⟩ := gd_some hf
    refine aw_iald hC hW g87 dX14_count_87 ?_
    obtain ⟨e1, e2⟩ := so_inj hf
    exact aw_iret hC hW hr rfl (p_eq hP (congrArg (fun z => some (Value.int z)) e1) e2) (Nat.le_of_ble_eq_true rfl) (Nat.le_of_ble_eq_true rfl) dX14_count_88
  have hf := ifn c6_1 hf
  by_cases c6_2 : x1 = 2
  · have hf := ifp c6_2 hf
    refine lv_tableIn (tgt := 89) hx hb dX14_count_6 (by rw [c6_2]; decide) (by rw [c6_2]; decide) (by rw [c6_2]; rfl) (by decide) ?_
    refine lv_aload_n hx hb dX14_count_89 rfl (lv_at hl 0 rfl) ?_
    obtain ⟨q90, hq90, hf⟩ := bi_some hf
    refine aw_gR hC hW g2 fl_X14_44 rfl hq90 dX14_count_90 ?_
    refine lv_bipush (v := 17) hx hb dX14_count_93 (by decide) ?_
    obtain ⟨g95, hf⟩ := gd_some hf
    refine aw_iald hC hW g95 dX14_count_95 ?_
    obtain ⟨e1, e2⟩ := so_inj hf
    exact aw_iret hC hW hr rfl (p_eq hP (congrArg (fun z => some (Value.int z)) e1) e2) (Nat.le_of_ble_eq_true rfl) (Nat.le_of_ble_eq_true rfl) dX14_count_96
  have hf := ifn c6_2 hf
  by_cases c6_3 : x1 = 3
  · have hf := ifp c6_3 hf
    refine lv_tableIn (tgt := 97) hx hb dX14_count_6 (by rw [c6_3]; decide) (by rw [c6_3]; decide) (by rw [c6_3]; rfl) (by decide) ?_
    refine lv_aload_n hx hb dX14_count_97 rfl (lv_at hl 0 rfl) ?_
    obtain ⟨q98, hq98, hf⟩ := bi_some hf
    refine aw_gR hC hW g2 fl_X14_44 rfl hq98 dX14_count_98 ?_
    refine lv_bipush (v := 17) hx hb dX14_count_101 (by decide) ?_
    obtain ⟨g103, hf⟩ := gd_some hf
    refine aw_iald hC hW g103 dX14_count_103 ?_
    refine lv_if_ge (tgt := 111) hx hb dX14_count_104 (by decide) (fun c104 => ?_) (fun c104 => ?_)
    · have hf := ifp c104 hf
      refine lv_aload_n hx hb dX14_count_111 rfl (lv_at hl 0 rfl) ?_
      obtain ⟨q112, hq112, hf⟩ := bi_some hf
      refine aw_gR hC hW g2 fl_X14_44 rfl hq112 dX14_count_112 ?_
      refine lv_bipush (v := 18) hx hb dX14_count_115 (by decide) ?_
      obtain ⟨g117, hf⟩ := gd_some hf
      refine aw_iald hC hW g117 dX14_count_117 ?_
      obtain ⟨e1, e2⟩ := so_inj hf
      exact aw_iret hC hW hr rfl (p_eq hP (congrArg (fun z => some (Value.int z)) e1) e2) (Nat.le_of_ble_eq_true rfl) (Nat.le_of_ble_eq_true rfl) dX14_count_118
    · have hf := ifn c104 hf
      refine lv_iconst (v := 0) hx hb dX14_count_107 (by decide) ?_
      refine lv_goto (tgt := 118) hx hb dX14_count_108 (by decide) ?_
      obtain ⟨e1, e2⟩ := so_inj hf
      exact aw_iret hC hW hr rfl (p_eq hP (congrArg (fun z => some (Value.int z)) e1) e2) (Nat.le_of_ble_eq_true rfl) (Nat.le_of_ble_eq_true rfl) dX14_count_118
  have hf := ifn c6_3 hf
  by_cases c6_4 : x1 = 4
  · have hf := ifp c6_4 hf
    refine lv_tableIn (tgt := 119) hx hb dX14_count_6 (by rw [c6_4]; decide) (by rw [c6_4]; decide) (by rw [c6_4]; rfl) (by decide) ?_
    refine lv_aload_n hx hb dX14_count_119 rfl (lv_at hl 0 rfl) ?_
    obtain ⟨q120, hq120, hf⟩ := bi_some hf
    refine aw_gR hC hW g2 fl_X14_44 rfl hq120 dX14_count_120 ?_
    refine lv_bipush (v := 20) hx hb dX14_count_123 (by decide) ?_
    obtain ⟨g125, hf⟩ := gd_some hf
    refine aw_iald hC hW g125 dX14_count_125 ?_
    obtain ⟨e1, e2⟩ := so_inj hf
    exact aw_iret hC hW hr rfl (p_eq hP (congrArg (fun z => some (Value.int z)) e1) e2) (Nat.le_of_ble_eq_true rfl) (Nat.le_of_ble_eq_true rfl) dX14_count_126
  have hf := ifn c6_4 hf
  by_cases c6_5 : x1 = 5
  · have hf := ifp c6_5 hf
    refine lv_tableIn (tgt := 127) hx hb dX14_count_6 (by rw [c6_5]; decide) (by rw [c6_5]; decide) (by rw [c6_5]; rfl) (by decide) ?_
    refine lv_aload_n hx hb dX14_count_127 rfl (lv_at hl 0 rfl) ?_
    obtain ⟨v128, s128, h128, hf⟩ := ob_some hf
    refine aw_dV1 (r := o) (As := []) (rest := []) (ct_X14_lawsThatHold l G a o s2 v128 s128 h128) hC hW hl.1 vy_X14_lawsThatHold (Or.inl q1936) g2 rfl rfl rfl rfl (Nat.le_of_ble_eq_true rfl) ⟨Nat.le_of_ble_eq_true rfl, Nat.le_of_ble_eq_true rfl⟩ ⟨Nat.le_of_ble_eq_true rfl, Nat.le_of_ble_eq_true rfl⟩ dX14_count_128 (fun H locs hW => ?_)
    obtain ⟨e1, e2⟩ := so_inj hf
    exact aw_iret hC hW hr rfl (p_eq hP (congrArg (fun z => some (Value.int z)) e1) e2) (Nat.le_of_ble_eq_true rfl) (Nat.le_of_ble_eq_true rfl) dX14_count_131
  have hf := ifn c6_5 hf
  by_cases c6_6 : x1 = 6
  · have hf := ifp c6_6 hf
    refine lv_tableIn (tgt := 132) hx hb dX14_count_6 (by rw [c6_6]; decide) (by rw [c6_6]; decide) (by rw [c6_6]; rfl) (by decide) ?_
    refine lv_aload_n hx hb dX14_count_132 rfl (lv_at hl 0 rfl) ?_
    obtain ⟨q133, hq133, hf⟩ := bi_some hf
    refine aw_gR hC hW g2 fl_X14_44 rfl hq133 dX14_count_133 ?_
    refine lv_bipush (v := 16) hx hb dX14_count_136 (by decide) ?_
    obtain ⟨g138, hf⟩ := gd_some hf
    refine aw_iald hC hW g138 dX14_count_138 ?_
    obtain ⟨e1, e2⟩ := so_inj hf
    exact aw_iret hC hW hr rfl (p_eq hP (congrArg (fun z => some (Value.int z)) e1) e2) (Nat.le_of_ble_eq_true rfl) (Nat.le_of_ble_eq_true rfl) dX14_count_139
  have hf := ifn c6_6 hf
  by_cases c6_7 : x1 = 7
  · have hf := ifp c6_7 hf
    refine lv_tableIn (tgt := 140) hx hb dX14_count_6 (by rw [c6_7]; decide) (by rw [c6_7]; decide) (by rw [c6_7]; rfl) (by decide) ?_
    refine lv_aload_n hx hb dX14_count_140 rfl (lv_at hl 0 rfl) ?_
    refine aw_gI hC hW g2 fl_X14_207 rfl dX14_count_141 ?_
    obtain ⟨e1, e2⟩ := so_inj hf
    exact aw_iret hC hW hr rfl (p_eq hP (congrArg (fun z => some (Value.int z)) e1) e2) (Nat.le_of_ble_eq_true rfl) (Nat.le_of_ble_eq_true rfl) dX14_count_144
  have hf := ifn c6_7 hf
  by_cases c6_8 : x1 = 8
  · have hf := ifp c6_8 hf
    refine lv_tableIn (tgt := 145) hx hb dX14_count_6 (by rw [c6_8]; decide) (by rw [c6_8]; decide) (by rw [c6_8]; rfl) (by decide) ?_
    refine lv_aload_n hx hb dX14_count_145 rfl (lv_at hl 0 rfl) ?_
    refine aw_gI hC hW g2 fl_X14_351 rfl dX14_count_146 ?_
    obtain ⟨e1, e2⟩ := so_inj hf
    exact aw_iret hC hW hr rfl (p_eq hP (congrArg (fun z => some (Value.int z)) e1) e2) (Nat.le_of_ble_eq_true rfl) (Nat.le_of_ble_eq_true rfl) dX14_count_149
  have hf := ifn c6_8 hf
  by_cases c6_9 : x1 = 9
  · have hf := ifp c6_9 hf
    refine lv_tableIn (tgt := 150) hx hb dX14_count_6 (by rw [c6_9]; decide) (by rw [c6_9]; decide) (by rw [c6_9]; rfl) (by decide) ?_
    refine lv_aload_n hx hb dX14_count_150 rfl (lv_at hl 0 rfl) ?_
    refine aw_gI hC hW g2 fl_X14_368 rfl dX14_count_151 ?_
    obtain ⟨e1, e2⟩ := so_inj hf
    exact aw_iret hC hW hr rfl (p_eq hP (congrArg (fun z => some (Value.int z)) e1) e2) (Nat.le_of_ble_eq_true rfl) (Nat.le_of_ble_eq_true rfl) dX14_count_154
  have hf := ifn c6_9 hf
  by_cases c6_10 : x1 = 10
  · have hf := ifp c6_10 hf
    refine lv_tableIn (tgt := 155) hx hb dX14_count_6 (by rw [c6_10]; decide) (by rw [c6_10]; decide) (by rw [c6_10]; rfl) (by decide) ?_
    refine lv_aload_n hx hb dX14_count_155 rfl (lv_at hl 0 rfl) ?_
    refine aw_gI hC hW g2 fl_X14_15 rfl dX14_count_156 ?_
    obtain ⟨e1, e2⟩ := so_inj hf
    exact aw_iret hC hW hr rfl (p_eq hP (congrArg (fun z => some (Value.int z)) e1) e2) (Nat.le_of_ble_eq_true rfl) (Nat.le_of_ble_eq_true rfl) dX14_count_159
  have hf := ifn c6_10 hf
  by_cases c6_11 : x1 = 11
  · have hf := ifp c6_11 hf
    refine lv_tableIn (tgt := 160) hx hb dX14_count_6 (by rw [c6_11]; decide) (by rw [c6_11]; decide) (by rw [c6_11]; rfl) (by decide) ?_
    refine lv_aload_n hx hb dX14_count_160 rfl (lv_at hl 0 rfl) ?_
    refine aw_gI hC hW g2 fl_X14_132 rfl dX14_count_161 ?_
    obtain ⟨e1, e2⟩ := so_inj hf
    exact aw_iret hC hW hr rfl (p_eq hP (congrArg (fun z => some (Value.int z)) e1) e2) (Nat.le_of_ble_eq_true rfl) (Nat.le_of_ble_eq_true rfl) dX14_count_164
  have hf := ifn c6_11 hf
  by_cases c6_12 : x1 = 12
  · have hf := ifp c6_12 hf
    refine lv_tableIn (tgt := 165) hx hb dX14_count_6 (by rw [c6_12]; decide) (by rw [c6_12]; decide) (by rw [c6_12]; rfl) (by decide) ?_
    refine lv_aload_n hx hb dX14_count_165 rfl (lv_at hl 0 rfl) ?_
    refine aw_gI hC hW g2 fl_X14_41 rfl dX14_count_166 ?_
    obtain ⟨e1, e2⟩ := so_inj hf
    exact aw_iret hC hW hr rfl (p_eq hP (congrArg (fun z => some (Value.int z)) e1) e2) (Nat.le_of_ble_eq_true rfl) (Nat.le_of_ble_eq_true rfl) dX14_count_169
  have hf := ifn c6_12 hf
  by_cases c6_13 : x1 = 13
  · have hf := ifp c6_13 hf
    refine lv_tableIn (tgt := 170) hx hb dX14_count_6 (by rw [c6_13]; decide) (by rw [c6_13]; decide) (by rw [c6_13]; rfl) (by decide) ?_
    refine lv_aload_n hx hb dX14_count_170 rfl (lv_at hl 0 rfl) ?_
    refine aw_gI hC hW g2 fl_X14_251 rfl dX14_count_171 ?_
    obtain ⟨e1, e2⟩ := so_inj hf
    exact aw_iret hC hW hr rfl (p_eq hP (congrArg (fun z => some (Value.int z)) e1) e2) (Nat.le_of_ble_eq_true rfl) (Nat.le_of_ble_eq_true rfl) dX14_count_174
  have hf := ifn c6_13 hf
  have zc6 := lv_neT (a := 0) c6 (by decide)
  have zc6_1 := lv_neT (a := 1) c6_1 (by decide)
  have zc6_2 := lv_neT (a := 2) c6_2 (by decide)
  have zc6_3 := lv_neT (a := 3) c6_3 (by decide)
  have zc6_4 := lv_neT (a := 4) c6_4 (by decide)
  have zc6_5 := lv_neT (a := 5) c6_5 (by decide)
  have zc6_6 := lv_neT (a := 6) c6_6 (by decide)
  have zc6_7 := lv_neT (a := 7) c6_7 (by decide)
  have zc6_8 := lv_neT (a := 8) c6_8 (by decide)
  have zc6_9 := lv_neT (a := 9) c6_9 (by decide)
  have zc6_10 := lv_neT (a := 10) c6_10 (by decide)
  have zc6_11 := lv_neT (a := 11) c6_11 (by decide)
  have zc6_12 := lv_neT (a := 12) c6_12 (by decide)
  have zc6_13 := lv_neT (a := 13) c6_13 (by decide)
  refine lv_tableOut (tgt := 175) hx hb dX14_count_6 (by omega) (by decide) ?_
  refine lv_bipush (v := (-100)) hx hb dX14_count_175 (by decide) ?_
  obtain ⟨e1, e2⟩ := so_inj hf
  exact aw_iret hC hW hr rfl (p_eq hP (congrArg (fun z => some (Value.int z)) e1) e2) (Nat.le_of_ble_eq_true rfl) (Nat.le_of_ble_eq_true rfl) dX14_count_177
def f_X14_putsBy_b51 : Nat → Nat → Int32 → ST → Option (Unit × ST)
  | 0, _, _, _ => none
  | n + 1, r0, x1, s =>
  if 117 ≤ x1 then (gd (r0 < s.1 ∧ (kd s r0).1 = 14) <|
  bnd (pI s r0 28 ((gi s r0 28) + 1)) fun s90 =>
  some ((), s90)) else gd (r0 < s.1 ∧ (kd s r0).1 = 14) <|
  (gr s r0 29).bind fun q58 =>
  (gr s r0 10).bind fun q71 =>
  gd (q71 < s.1 ∧ (kd s q71).1 = 100 ∧ ¬ ((x1 : Int32) < 0 ∨ (kd s q71).2 ≤ (x1 : Int32).toNatClampNeg)) <|
  gd (q58 < s.1 ∧ (kd s q58).1 = 100 ∧ ¬ ((((117 * (gi s r0 28)) + x1) : Int32) < 0 ∨ (kd s q58).2 ≤ (((117 * (gi s r0 28)) + x1) : Int32).toNatClampNeg)) <|
  bnd (pI s q58 (((117 * (gi s r0 28)) + x1) : Int32).toNatClampNeg (gi s q71 (x1 : Int32).toNatClampNeg)) fun s76 =>
  bnd (x1 + 1 : Int32) fun v77 =>
  f_X14_putsBy_b51 n r0 v77 s76
def f_X14_putsBy_b49 (r0 : Nat) (s : ST) : Option (Unit × ST) :=
  f_X14_putsBy_b51 fuel r0 0 s
def f_X14_putsBy_b11 : Nat → Nat → Int32 → ST → Option (Unit × ST)
  | 0, _, _, _ => none
  | n + 1, r0, x1, s =>
  if 2223 ≤ x1 then (gd (r0 < s.1 ∧ (kd s r0).1 = 14) <|
  bnd (pI s r0 28 ((gi s r0 28) - 1)) fun s46 =>
  f_X14_putsBy_b49 r0 s46) else gd (r0 < s.1 ∧ (kd s r0).1 = 14) <|
  (gr s r0 29).bind fun q19 =>
  (gr s r0 29).bind fun q24 =>
  gd (q24 < s.1 ∧ (kd s q24).1 = 100 ∧ ¬ (((x1 + 117) : Int32) < 0 ∨ (kd s q24).2 ≤ ((x1 + 117) : Int32).toNatClampNeg)) <|
  gd (q19 < s.1 ∧ (kd s q19).1 = 100 ∧ ¬ ((x1 : Int32) < 0 ∨ (kd s q19).2 ≤ (x1 : Int32).toNatClampNeg)) <|
  bnd (pI s q19 (x1 : Int32).toNatClampNeg (gi s q24 ((x1 + 117) : Int32).toNatClampNeg)) fun s32 =>
  bnd (x1 + 1 : Int32) fun v33 =>
  f_X14_putsBy_b11 n r0 v33 s32
def f_X14_putsBy (o : Nat) (s : ST) : Option (Unit × ST) :=
  gd (o < s.1 ∧ (kd s o).1 = 14) <|
  if (gi s o 28) = 20 then (f_X14_putsBy_b11 fuel o 0 s) else f_X14_putsBy_b49 o s
set_option maxHeartbeats 4000000 in
theorem ct_X14_putsBy (l : Launch) (G : GM) (a : Nat → Nat) (o : Nat) (s : ST) (rv : Unit) (sf : ST) (hf : f_X14_putsBy o s = some (rv, sf)) : MD l G yX14_putsBy (ws_ yX14_putsBy cX14_putsBy 2 none) 0 [.ref (a o)] a s none sf := by
  refine md_of (d := 0) (lv := [(0, .ref (a o))]) (Or.inl (by decide)) (Nat.le_of_ble_eq_true rfl) rfl ?_
  intro p e s0 m args below meth c ls A P hP hC hr hnm hW hl
  have hx := hC.1
  have hb := hC.2.1
  have hts := hC.2.2.2.2.1
  have B51 : ∀ (n : Nat), ∀ (r0 : Nat) (x1 : Int32) (s : ST), f_X14_putsBy_b51 n r0 x1 s = some (rv, sf) → ∀ (H : Heap) (locs : List Loc) (ls : Array Slot), lv_has ls 2 [(0, .ref (a r0)), (1, .int x1)] → AW G a A s s0.heap H locs → WB p l e (rmD 0) s0 m args below meth c H locs G A P 51 ls [] := by
    intro n
    induction n with
    | zero => intro r0 x1 s hf; cases hf
    | succ n ih =>
      intro r0 x1 s hf H locs ls hl hW
      rw [f_X14_putsBy_b51] at hf
      refine lv_iload_n hx hb dX14_putsBy_51 rfl (lv_at hl 1 rfl) ?_
      refine lv_bipush (v := 117) hx hb dX14_putsBy_52 (by decide) ?_
      refine lv_icmp_ge (tgt := 83) hx hb dX14_putsBy_54 (by decide) (fun c54 => ?_) (fun c54 => ?_)
      · have hf := ifp c54 hf
        refine lv_aload_n hx hb dX14_putsBy_83 rfl (lv_at hl 0 rfl) ?_
        refine lv_dup hx hb dX14_putsBy_84 rfl ?_
        obtain ⟨g85, hf⟩ := gd_some hf
        refine aw_gI hC hW g85 fl_X14_207 rfl dX14_putsBy_85 ?_
        refine lv_iconst (v := 1) hx hb dX14_putsBy_88 (by decide) ?_
        refine lv_iadd hx hb dX14_putsBy_89 ?_
        obtain ⟨s90, e90, hf⟩ := bnd_some hf
        refine aw_pI e90 hC hW g85 fl_X14_207 (Or.inl fn_13_28) rfl rfl rfl dX14_putsBy_90 (fun H locs hW => ?_)
        have g85 := ko_pI e90 g85
        obtain ⟨e1, e2⟩ := so_inj hf
        exact aw_vret hC hW hr (p_eq hP rfl e2) (Nat.le_of_ble_eq_true rfl) (Nat.le_of_ble_eq_true rfl) dX14_putsBy_93
      · have hf := ifn c54 hf
        refine lv_aload_n hx hb dX14_putsBy_57 rfl (lv_at hl 0 rfl) ?_
        obtain ⟨g58, hf⟩ := gd_some hf
        obtain ⟨q58, hq58, hf⟩ := bi_some hf
        refine aw_gR hC hW g58 fl_X14_74 rfl hq58 dX14_putsBy_58 ?_
        refine lv_bipush (v := 117) hx hb dX14_putsBy_61 (by decide) ?_
        refine lv_aload_n hx hb dX14_putsBy_63 rfl (lv_at hl 0 rfl) ?_
        refine aw_gI hC hW g58 fl_X14_207 rfl dX14_putsBy_64 ?_
        refine lv_imul hx hb dX14_putsBy_67 ?_
        refine lv_iload_n hx hb dX14_putsBy_68 rfl (lv_at hl 1 rfl) ?_
        refine lv_iadd hx hb dX14_putsBy_69 ?_
        refine lv_aload_n hx hb dX14_putsBy_70 rfl (lv_at hl 0 rfl) ?_
        obtain ⟨q71, hq71, hf⟩ := bi_some hf
        refine aw_gR hC hW g58 fl_X14_44 rfl hq71 dX14_putsBy_71 ?_
        refine lv_iload_n hx hb dX14_putsBy_74 rfl (lv_at hl 1 rfl) ?_
        obtain ⟨g75, hf⟩ := gd_some hf
        refine aw_iald hC hW g75 dX14_putsBy_75 ?_
        obtain ⟨g76, hf⟩ := gd_some hf
        obtain ⟨s76, e76, hf⟩ := bnd_some hf
        refine aw_iast e76 hC hW g76 dX14_putsBy_76 (fun H locs hW => ?_)
        have g58 := ko_pI e76 g58
        obtain ⟨v77, ev77, hf⟩ := bnd_some hf
        refine lv_iinc (v := v77) (lv' := [(1, .int v77), (0, .ref (a r0))]) hx hb dX14_putsBy_77 hl (k := 1) rfl (by rw [ev77]; rfl) (by decide) rfl (fun ls hl => ?_)
        refine lv_goto (tgt := 51) hx hb dX14_putsBy_80 (by decide) ?_
        exact ih r0 v77 s76 hf _ _ _ (lv_sub hl [1, 0] rfl) hW
  have B49 : ∀ (r0 : Nat) (s : ST), f_X14_putsBy_b49 r0 s = some (rv, sf) → ∀ (H : Heap) (locs : List Loc) (ls : Array Slot), lv_has ls 2 [(0, .ref (a r0))] → AW G a A s s0.heap H locs → WB p l e (rmD 0) s0 m args below meth c H locs G A P 49 ls [] := by
    intro r0 s hf H locs ls hl hW
    unfold f_X14_putsBy_b49 at hf
    refine lv_iconst (v := 0) hx hb dX14_putsBy_49 (by decide) ?_
    refine lv_istore_n (lv' := [(1, .int 0), (0, .ref (a r0))]) hx hb dX14_putsBy_50 rfl hl (by decide) rfl (fun ls hl => ?_)
    exact B51 fuel r0 0 s hf _ _ _ (lv_sub hl [1, 0] rfl) hW
  have B11 : ∀ (n : Nat), ∀ (r0 : Nat) (x1 : Int32) (s : ST), f_X14_putsBy_b11 n r0 x1 s = some (rv, sf) → ∀ (H : Heap) (locs : List Loc) (ls : Array Slot), lv_has ls 2 [(0, .ref (a r0)), (1, .int x1)] → AW G a A s s0.heap H locs → WB p l e (rmD 0) s0 m args below meth c H locs G A P 11 ls [] := by
    intro n
    induction n with
    | zero => intro r0 x1 s hf; cases hf
    | succ n ih =>
      intro r0 x1 s hf H locs ls hl hW
      rw [f_X14_putsBy_b11] at hf
      refine lv_iload_n hx hb dX14_putsBy_11 rfl (lv_at hl 1 rfl) ?_
      refine lv_sipush (v := 2223) hx hb dX14_putsBy_12 (by decide) ?_
      refine lv_icmp_ge (tgt := 39) hx hb dX14_putsBy_15 (by decide) (fun c15 => ?_) (fun c15 => ?_)
      · have hf := ifp c15 hf
        refine lv_aload_n hx hb dX14_putsBy_39 rfl (lv_at hl 0 rfl) ?_
        refine lv_dup hx hb dX14_putsBy_40 rfl ?_
        obtain ⟨g41, hf⟩ := gd_some hf
        refine aw_gI hC hW g41 fl_X14_207 rfl dX14_putsBy_41 ?_
        refine lv_iconst (v := 1) hx hb dX14_putsBy_44 (by decide) ?_
        refine lv_isub hx hb dX14_putsBy_45 ?_
        obtain ⟨s46, e46, hf⟩ := bnd_some hf
        refine aw_pI e46 hC hW g41 fl_X14_207 (Or.inl fn_13_28) rfl rfl rfl dX14_putsBy_46 (fun H locs hW => ?_)
        have g41 := ko_pI e46 g41
        exact B49 r0 s46 hf _ _ _ (lv_sub hl [0] rfl) hW
      · have hf := ifn c15 hf
        refine lv_aload_n hx hb dX14_putsBy_18 rfl (lv_at hl 0 rfl) ?_
        obtain ⟨g19, hf⟩ := gd_some hf
        obtain ⟨q19, hq19, hf⟩ := bi_some hf
        refine aw_gR hC hW g19 fl_X14_74 rfl hq19 dX14_putsBy_19 ?_
        refine lv_iload_n hx hb dX14_putsBy_22 rfl (lv_at hl 1 rfl) ?_
        refine lv_aload_n hx hb dX14_putsBy_23 rfl (lv_at hl 0 rfl) ?_
        obtain ⟨q24, hq24, hf⟩ := bi_some hf
        refine aw_gR hC hW g19 fl_X14_74 rfl hq24 dX14_putsBy_24 ?_
        refine lv_iload_n hx hb dX14_putsBy_27 rfl (lv_at hl 1 rfl) ?_
        refine lv_bipush (v := 117) hx hb dX14_putsBy_28 (by decide) ?_
        refine lv_iadd hx hb dX14_putsBy_30 ?_
        obtain ⟨g31, hf⟩ := gd_some hf
        refine aw_iald hC hW g31 dX14_putsBy_31 ?_
        obtain ⟨g32, hf⟩ := gd_some hf
        obtain ⟨s32, e32, hf⟩ := bnd_some hf
        refine aw_iast e32 hC hW g32 dX14_putsBy_32 (fun H locs hW => ?_)
        have g19 := ko_pI e32 g19
        obtain ⟨v33, ev33, hf⟩ := bnd_some hf
        refine lv_iinc (v := v33) (lv' := [(1, .int v33), (0, .ref (a r0))]) hx hb dX14_putsBy_33 hl (k := 1) rfl (by rw [ev33]; rfl) (by decide) rfl (fun ls hl => ?_)
        refine lv_goto (tgt := 11) hx hb dX14_putsBy_36 (by decide) ?_
        exact ih r0 v33 s32 hf _ _ _ (lv_sub hl [1, 0] rfl) hW
  unfold f_X14_putsBy at hf
  refine lv_aload_n hx hb dX14_putsBy_0 rfl (lv_at hl 0 rfl) ?_
  obtain ⟨g1, hf⟩ := gd_some hf
  refine aw_gI hC hW g1 fl_X14_207 rfl dX14_putsBy_1 ?_
  refine lv_bipush (v := 20) hx hb dX14_putsBy_4 (by decide) ?_
  refine lv_icmp_ne (tgt := 49) hx hb dX14_putsBy_6 (by decide) (fun c6 => ?_) (fun c6 => ?_)
  · have hf := ifn c6 hf
    exact B49 o s hf _ _ _ (lv_sub hl [0] rfl) hW
  · have hf := ifp c6 hf
    refine lv_iconst (v := 0) hx hb dX14_putsBy_9 (by decide) ?_
    refine lv_istore_n (lv' := [(1, .int 0), (0, .ref (a o))]) hx hb dX14_putsBy_10 rfl hl (by decide) rfl (fun ls hl => ?_)
    exact B11 fuel o 0 s hf _ _ _ (lv_sub hl [1, 0] rfl) hW
def f_X14_dies (o : Nat) (x1 : Int32) (s : ST) : Option (Int32 × ST) :=
  gd (o < s.1 ∧ (kd s o).1 = 14) <|
  bnd (pI s o 0 0) fun s2 =>
  ob (f_X14_isAlive o x1 s2) fun v7 s7 =>
  if v7 = 0 then (some ((-1), s7)) else gd (o < s7.1 ∧ (kd s7 o).1 = 14) <|
  ob (f_X14_putsBy o s7) fun _ s16 =>
  gd (o < s16.1 ∧ (kd s16 o).1 = 14) <|
  (gr s16 o 10).bind fun q20 =>
  gd (q20 < s16.1 ∧ (kd s16 q20).1 = 100 ∧ ¬ ((16 : Int32) < 0 ∨ (kd s16 q20).2 ≤ (16 : Int32).toNatClampNeg)) <|
  gd (q20 < s16.1 ∧ (kd s16 q20).1 = 100 ∧ ¬ ((16 : Int32) < 0 ∨ (kd s16 q20).2 ≤ (16 : Int32).toNatClampNeg)) <|
  bnd (pI s16 q20 (16 : Int32).toNatClampNeg ((gi s16 q20 (16 : Int32).toNatClampNeg) &&& ((1 <<< (x1 &&& 31)) ^^^ (-1)))) fun s33 =>
  (gr s33 o 10).bind fun q35 =>
  gd (q35 < s33.1 ∧ (kd s33 q35).1 = 100 ∧ ¬ ((17 : Int32) < 0 ∨ (kd s33 q35).2 ≤ (17 : Int32).toNatClampNeg)) <|
  if (gi s33 q35 (17 : Int32).toNatClampNeg) = x1 then ((gr s33 o 10).bind fun q49 =>
  ob (f_X14_falls o q49 s33) fun v52 s52 =>
  gd (o < s52.1 ∧ (kd s52 o).1 = 14) <|
  (gr s52 o 10).bind fun q57 =>
  gd (q57 < s52.1 ∧ (kd s52 q57).1 = 100 ∧ ¬ ((17 : Int32) < 0 ∨ (kd s52 q57).2 ≤ (17 : Int32).toNatClampNeg)) <|
  bnd (pI s52 q57 (17 : Int32).toNatClampNeg (-1)) fun s63 =>
  (gr s63 o 10).bind fun q65 =>
  gd (q65 < s63.1 ∧ (kd s63 q65).1 = 100 ∧ ¬ ((18 : Int32) < 0 ∨ (kd s63 q65).2 ≤ (18 : Int32).toNatClampNeg)) <|
  bnd (pI s63 q65 (18 : Int32).toNatClampNeg 0) fun s71 =>
  some (v52, s71)) else some (0, s33)
set_option maxHeartbeats 4000000 in
theorem ct_X14_dies (l : Launch) (G : GM) (a : Nat → Nat) (o : Nat) (x1 : Int32) (s : ST) (rv : Int32) (sf : ST) (hf : f_X14_dies o x1 s = some (rv, sf)) : MD l G yX14_dies (ws_ yX14_dies cX14_dies 3 (some .int)) 3 [.ref (a o), .int x1] a s (some (.int rv)) sf := by
  refine md_of (d := 3) (lv := [(0, .ref (a o)), (1, .int x1)]) (Or.inl (by decide)) (Nat.le_of_ble_eq_true rfl) rfl ?_
  intro p e s0 m args below meth c ls A P hP hC hr hnm hW hl
  have hx := hC.1
  have hb := hC.2.1
  have hts := hC.2.2.2.2.1
  unfold f_X14_dies at hf
  refine lv_aload_n hx hb dX14_dies_0 rfl (lv_at hl 0 rfl) ?_
  refine lv_iconst (v := 0) hx hb dX14_dies_1 (by decide) ?_
  obtain ⟨g2, hf⟩ := gd_some hf
  obtain ⟨s2, e2, hf⟩ := bnd_some hf
  refine aw_pI e2 hC hW g2 fl_X14_3 (Or.inl fn_13_0) rfl rfl rfl dX14_dies_2 (fun H locs hW => ?_)
  have g2 := ko_pI e2 g2
  refine lv_aload_n hx hb dX14_dies_5 rfl (lv_at hl 0 rfl) ?_
  refine lv_iload_n hx hb dX14_dies_6 rfl (lv_at hl 1 rfl) ?_
  obtain ⟨v7, s7, h7, hf⟩ := ob_some hf
  refine aw_dV1 (r := o) (As := [.int x1]) (rest := []) (ct_X14_isAlive l G a o x1 s2 v7 s7 h7) hC hW hl.1 vy_X14_isAlive (Or.inl q1722) g2 rfl rfl rfl rfl (Nat.le_of_ble_eq_true rfl) ⟨Nat.le_of_ble_eq_true rfl, Nat.le_of_ble_eq_true rfl⟩ ⟨Nat.le_of_ble_eq_true rfl, Nat.le_of_ble_eq_true rfl⟩ dX14_dies_7 (fun H locs hW => ?_)
  refine lv_if_ne (tgt := 15) hx hb dX14_dies_10 (by decide) (fun c10 => ?_) (fun c10 => ?_)
  · have hf := ifn c10 hf
    refine lv_aload_n hx hb dX14_dies_15 rfl (lv_at hl 0 rfl) ?_
    obtain ⟨g16, hf⟩ := gd_some hf
    obtain ⟨_, s16, h16, hf⟩ := ob_some hf
    refine aw_dV0 (r := o) (As := []) (rest := []) (ct_X14_putsBy l G a o s7 () s16 h16) hC hW hl.1 vy_X14_putsBy (Or.inl q1677) g16 rfl rfl rfl rfl (Nat.le_of_ble_eq_true rfl) ⟨Nat.le_of_ble_eq_true rfl, Nat.le_of_ble_eq_true rfl⟩ ⟨Nat.le_of_ble_eq_true rfl, Nat.le_of_ble_eq_true rfl⟩ dX14_dies_16 (fun H locs hW => ?_)
    refine lv_aload_n hx hb dX14_dies_19 rfl (lv_at hl 0 rfl) ?_
    obtain ⟨g20, hf⟩ := gd_some hf
    obtain ⟨q20, hq20, hf⟩ := bi_some hf
    refine aw_gR hC hW g20 fl_X14_44 rfl hq20 dX14_dies_20 ?_
    refine lv_bipush (v := 16) hx hb dX14_dies_23 (by decide) ?_
    refine lv_dup2_11 hx hb dX14_dies_25 rfl rfl ?_
    obtain ⟨g26, hf⟩ := gd_some hf
    refine aw_iald hC hW g26 dX14_dies_26 ?_
    refine lv_iconst (v := 1) hx hb dX14_dies_27 (by decide) ?_
    refine lv_iload_n hx hb dX14_dies_28 rfl (lv_at hl 1 rfl) ?_
    refine lv_ishl hx hb dX14_dies_29 ?_
    refine lv_iconst (v := (-1)) hx hb dX14_dies_30 (by decide) ?_
    refine lv_ixor hx hb dX14_dies_31 ?_
    refine lv_iand hx hb dX14_dies_32 ?_
    obtain ⟨g33, hf⟩ := gd_some hf
    obtain ⟨s33, e33, hf⟩ := bnd_some hf
    refine aw_iast e33 hC hW g33 dX14_dies_33 (fun H locs hW => ?_)
    have g20 := ko_pI e33 g20
    refine lv_aload_n hx hb dX14_dies_34 rfl (lv_at hl 0 rfl) ?_
    obtain ⟨q35, hq35, hf⟩ := bi_some hf
    refine aw_gR hC hW g20 fl_X14_44 rfl hq35 dX14_dies_35 ?_
    refine lv_bipush (v := 17) hx hb dX14_dies_38 (by decide) ?_
    obtain ⟨g40, hf⟩ := gd_some hf
    refine aw_iald hC hW g40 dX14_dies_40 ?_
    refine lv_iload_n hx hb dX14_dies_41 rfl (lv_at hl 1 rfl) ?_
    refine lv_icmp_eq (tgt := 47) hx hb dX14_dies_42 (by decide) (fun c42 => ?_) (fun c42 => ?_)
    · have hf := ifp c42 hf
      refine lv_aload_n hx hb dX14_dies_47 rfl (lv_at hl 0 rfl) ?_
      refine lv_aload_n hx hb dX14_dies_48 rfl (lv_at hl 0 rfl) ?_
      obtain ⟨q49, hq49, hf⟩ := bi_some hf
      refine aw_gR hC hW g20 fl_X14_44 rfl hq49 dX14_dies_49 ?_
      obtain ⟨v52, s52, h52, hf⟩ := ob_some hf
      refine aw_dV1 (r := o) (As := [.ref (a q49)]) (rest := []) (ct_X14_falls l G a o q49 s33 v52 s52 h52) hC hW hl.1 vy_X14_falls (Or.inl q1685) g20 rfl rfl rfl rfl (Nat.le_of_ble_eq_true rfl) ⟨Nat.le_of_ble_eq_true rfl, Nat.le_of_ble_eq_true rfl⟩ ⟨Nat.le_of_ble_eq_true rfl, Nat.le_of_ble_eq_true rfl⟩ dX14_dies_52 (fun H locs hW => ?_)
      refine lv_istore_n (lv' := [(2, .int v52), (0, .ref (a o)), (1, .int x1)]) hx hb dX14_dies_55 rfl hl (by decide) rfl (fun ls hl => ?_)
      refine lv_aload_n hx hb dX14_dies_56 rfl (lv_at hl 1 rfl) ?_
      obtain ⟨g57, hf⟩ := gd_some hf
      obtain ⟨q57, hq57, hf⟩ := bi_some hf
      refine aw_gR hC hW g57 fl_X14_44 rfl hq57 dX14_dies_57 ?_
      refine lv_bipush (v := 17) hx hb dX14_dies_60 (by decide) ?_
      refine lv_iconst (v := (-1)) hx hb dX14_dies_62 (by decide) ?_
      obtain ⟨g63, hf⟩ := gd_some hf
      obtain ⟨s63, e63, hf⟩ := bnd_some hf
      refine aw_iast e63 hC hW g63 dX14_dies_63 (fun H locs hW => ?_)
      have g57 := ko_pI e63 g57
      refine lv_aload_n hx hb dX14_dies_64 rfl (lv_at hl 1 rfl) ?_
      obtain ⟨q65, hq65, hf⟩ := bi_some hf
      refine aw_gR hC hW g57 fl_X14_44 rfl hq65 dX14_dies_65 ?_
      refine lv_bipush (v := 18) hx hb dX14_dies_68 (by decide) ?_
      refine lv_iconst (v := 0) hx hb dX14_dies_70 (by decide) ?_
      obtain ⟨g71, hf⟩ := gd_some hf
      obtain ⟨s71, e71, hf⟩ := bnd_some hf
      refine aw_iast e71 hC hW g71 dX14_dies_71 (fun H locs hW => ?_)
      have g57 := ko_pI e71 g57
      refine lv_iload_n hx hb dX14_dies_72 rfl (lv_at hl 0 rfl) ?_
      obtain ⟨e1, e2⟩ := so_inj hf
      exact aw_iret hC hW hr rfl (p_eq hP (congrArg (fun z => some (Value.int z)) e1) e2) (Nat.le_of_ble_eq_true rfl) (Nat.le_of_ble_eq_true rfl) dX14_dies_73
    · have hf := ifn c42 hf
      refine lv_iconst (v := 0) hx hb dX14_dies_45 (by decide) ?_
      obtain ⟨e1, e2⟩ := so_inj hf
      exact aw_iret hC hW hr rfl (p_eq hP (congrArg (fun z => some (Value.int z)) e1) e2) (Nat.le_of_ble_eq_true rfl) (Nat.le_of_ble_eq_true rfl) dX14_dies_46
  · have hf := ifp c10 hf
    refine lv_iconst (v := (-1)) hx hb dX14_dies_13 (by decide) ?_
    obtain ⟨e1, e2⟩ := so_inj hf
    exact aw_iret hC hW hr rfl (p_eq hP (congrArg (fun z => some (Value.int z)) e1) e2) (Nat.le_of_ble_eq_true rfl) (Nat.le_of_ble_eq_true rfl) dX14_dies_14
def f_X14_eats (o : Nat) (x1 : Int32) (x2 : Int32) (s : ST) : Option (Int32 × ST) :=
  gd (o < s.1 ∧ (kd s o).1 = 14) <|
  ob (f_X14_putsBy o s) fun _ s1 =>
  gd (o < s1.1 ∧ (kd s1 o).1 = 14) <|
  (gr s1 o 10).bind fun q5 =>
  (gr s1 o 10).bind fun q14 =>
  gd (q14 < s1.1 ∧ (kd s1 q14).1 = 100 ∧ ¬ ((x1 : Int32) < 0 ∨ (kd s1 q14).2 ≤ (x1 : Int32).toNatClampNeg)) <|
  bnd (p_min 999 ((gi s1 q14 (x1 : Int32).toNatClampNeg) + x2)) fun v21 =>
  bnd (p_max 1 v21) fun v24 =>
  gd (q5 < s1.1 ∧ (kd s1 q5).1 = 100 ∧ ¬ ((x1 : Int32) < 0 ∨ (kd s1 q5).2 ≤ (x1 : Int32).toNatClampNeg)) <|
  bnd (pI s1 q5 (x1 : Int32).toNatClampNeg v24) fun s27 =>
  (gr s27 o 10).bind fun q29 =>
  gd (q29 < s27.1 ∧ (kd s27 q29).1 = 100 ∧ ¬ ((x1 : Int32) < 0 ∨ (kd s27 q29).2 ≤ (x1 : Int32).toNatClampNeg)) <|
  some ((gi s27 q29 (x1 : Int32).toNatClampNeg), s27)
set_option maxHeartbeats 4000000 in
theorem ct_X14_eats (l : Launch) (G : GM) (a : Nat → Nat) (o : Nat) (x1 : Int32) (x2 : Int32) (s : ST) (rv : Int32) (sf : ST) (hf : f_X14_eats o x1 x2 s = some (rv, sf)) : MD l G yX14_eats (ws_ yX14_eats cX14_eats 3 (some .int)) 1 [.ref (a o), .int x1, .int x2] a s (some (.int rv)) sf := by
  refine md_of (d := 1) (lv := [(0, .ref (a o)), (1, .int x1), (2, .int x2)]) (Or.inl (by decide)) (Nat.le_of_ble_eq_true rfl) rfl ?_
  intro p e s0 m args below meth c ls A P hP hC hr hnm hW hl
  have hx := hC.1
  have hb := hC.2.1
  have hts := hC.2.2.2.2.1
  unfold f_X14_eats at hf
  refine lv_aload_n hx hb dX14_eats_0 rfl (lv_at hl 0 rfl) ?_
  obtain ⟨g1, hf⟩ := gd_some hf
  obtain ⟨_, s1, h1, hf⟩ := ob_some hf
  refine aw_dV0 (r := o) (As := []) (rest := []) (ct_X14_putsBy l G a o s () s1 h1) hC hW hl.1 vy_X14_putsBy (Or.inl q1677) g1 rfl rfl rfl rfl (Nat.le_of_ble_eq_true rfl) ⟨Nat.le_of_ble_eq_true rfl, Nat.le_of_ble_eq_true rfl⟩ ⟨Nat.le_of_ble_eq_true rfl, Nat.le_of_ble_eq_true rfl⟩ dX14_eats_1 (fun H locs hW => ?_)
  refine lv_aload_n hx hb dX14_eats_4 rfl (lv_at hl 0 rfl) ?_
  obtain ⟨g5, hf⟩ := gd_some hf
  obtain ⟨q5, hq5, hf⟩ := bi_some hf
  refine aw_gR hC hW g5 fl_X14_44 rfl hq5 dX14_eats_5 ?_
  refine lv_iload_n hx hb dX14_eats_8 rfl (lv_at hl 1 rfl) ?_
  refine lv_iconst (v := 1) hx hb dX14_eats_9 (by decide) ?_
  refine lv_sipush (v := 999) hx hb dX14_eats_10 (by decide) ?_
  refine lv_aload_n hx hb dX14_eats_13 rfl (lv_at hl 0 rfl) ?_
  obtain ⟨q14, hq14, hf⟩ := bi_some hf
  refine aw_gR hC hW g5 fl_X14_44 rfl hq14 dX14_eats_14 ?_
  refine lv_iload_n hx hb dX14_eats_17 rfl (lv_at hl 1 rfl) ?_
  obtain ⟨g18, hf⟩ := gd_some hf
  refine aw_iald hC hW g18 dX14_eats_18 ?_
  refine lv_iload_n hx hb dX14_eats_19 rfl (lv_at hl 2 rfl) ?_
  refine lv_iadd hx hb dX14_eats_20 ?_
  obtain ⟨v21, ev21, hf⟩ := bnd_some hf
  refine aw_dS1 (As := [.int 999, .int ((gi s1 q14 (x1 : Int32).toNatClampNeg) + x2)]) (rest := [.int 1, .int x1, .ref (a q5)]) (pc_J0_min l G a 999 ((gi s1 q14 (x1 : Int32).toNatClampNeg) + x2) s1) hC hW hl.1 sy_J0_min (Or.inl q1525) rfl rfl (Nat.le_of_ble_eq_true rfl) ⟨Nat.le_of_ble_eq_true rfl, Nat.le_of_ble_eq_true rfl⟩ ⟨Nat.le_of_ble_eq_true rfl, Nat.le_of_ble_eq_true rfl⟩ dX14_eats_21 (fun H locs hW => ?_)
  refine top_i ev21 ?_
  obtain ⟨v24, ev24, hf⟩ := bnd_some hf
  refine aw_dS1 (As := [.int 1, .int v21]) (rest := [.int x1, .ref (a q5)]) (pc_J0_max l G a 1 v21 s1) hC hW hl.1 sy_J0_max (Or.inl q1633) rfl rfl (Nat.le_of_ble_eq_true rfl) ⟨Nat.le_of_ble_eq_true rfl, Nat.le_of_ble_eq_true rfl⟩ ⟨Nat.le_of_ble_eq_true rfl, Nat.le_of_ble_eq_true rfl⟩ dX14_eats_24 (fun H locs hW => ?_)
  refine top_i ev24 ?_
  obtain ⟨g27, hf⟩ := gd_some hf
  obtain ⟨s27, e27, hf⟩ := bnd_some hf
  refine aw_iast e27 hC hW g27 dX14_eats_27 (fun H locs hW => ?_)
  have g5 := ko_pI e27 g5
  refine lv_aload_n hx hb dX14_eats_28 rfl (lv_at hl 0 rfl) ?_
  obtain ⟨q29, hq29, hf⟩ := bi_some hf
  refine aw_gR hC hW g5 fl_X14_44 rfl hq29 dX14_eats_29 ?_
  refine lv_iload_n hx hb dX14_eats_32 rfl (lv_at hl 1 rfl) ?_
  obtain ⟨g33, hf⟩ := gd_some hf
  refine aw_iald hC hW g33 dX14_eats_33 ?_
  obtain ⟨e1, e2⟩ := so_inj hf
  exact aw_iret hC hW hr rfl (p_eq hP (congrArg (fun z => some (Value.int z)) e1) e2) (Nat.le_of_ble_eq_true rfl) (Nat.le_of_ble_eq_true rfl) dX14_eats_34
def f_X14_end (o : Nat) (x1 : Int32) (s : ST) : Option (Int32 × ST) :=
  gd (o < s.1 ∧ (kd s o).1 = 14) <|
  bnd (pI s o 0 0) fun s2 =>
  bnd (p_in ((x1 : Int32).toInt64) 0 (((gi s2 o 13) : Int32).toInt64)) fun v13 =>
  if v13 = 0 then (some (0, s2)) else bnd (pI s2 o 13 x1) fun s23 =>
  some (1, s23)
set_option maxHeartbeats 4000000 in
theorem ct_X14_end (l : Launch) (G : GM) (a : Nat → Nat) (o : Nat) (x1 : Int32) (s : ST) (rv : Int32) (sf : ST) (hf : f_X14_end o x1 s = some (rv, sf)) : MD l G yX14_end (ws_ yX14_end cX14_end 2 (some .boolean)) 1 [.ref (a o), .int x1] a s (some (.int rv)) sf := by
  refine md_of (d := 1) (lv := [(0, .ref (a o)), (1, .int x1)]) (Or.inl (by decide)) (Nat.le_of_ble_eq_true rfl) rfl ?_
  intro p e s0 m args below meth c ls A P hP hC hr hnm hW hl
  have hx := hC.1
  have hb := hC.2.1
  have hts := hC.2.2.2.2.1
  unfold f_X14_end at hf
  refine lv_aload_n hx hb dX14_end_0 rfl (lv_at hl 0 rfl) ?_
  refine lv_iconst (v := 0) hx hb dX14_end_1 (by decide) ?_
  obtain ⟨g2, hf⟩ := gd_some hf
  obtain ⟨s2, e2, hf⟩ := bnd_some hf
  refine aw_pI e2 hC hW g2 fl_X14_3 (Or.inl fn_13_0) rfl rfl rfl dX14_end_2 (fun H locs hW => ?_)
  have g2 := ko_pI e2 g2
  refine lv_iload_n hx hb dX14_end_5 rfl (lv_at hl 1 rfl) ?_
  refine lv_i2l (v := (x1 : Int32).toInt64) hx hb dX14_end_6 rfl ?_
  refine lv_lconst (v := 0) hx hb dX14_end_7 (by decide) ?_
  refine lv_aload_n hx hb dX14_end_8 rfl (lv_at hl 0 rfl) ?_
  refine aw_gI hC hW g2 fl_X14_132 rfl dX14_end_9 ?_
  refine lv_i2l (v := ((gi s2 o 13) : Int32).toInt64) hx hb dX14_end_12 rfl ?_
  obtain ⟨v13, ev13, hf⟩ := bnd_some hf
  refine aw_dS1 (As := [.long ((x1 : Int32).toInt64), .long 0, .long (((gi s2 o 13) : Int32).toInt64)]) (rest := []) (pc_X14_in l G a ((x1 : Int32).toInt64) 0 (((gi s2 o 13) : Int32).toInt64) s2) hC hW hl.1 sy_X14_in (Or.inl q1514) rfl rfl (Nat.le_of_ble_eq_true rfl) ⟨Nat.le_of_ble_eq_true rfl, Nat.le_of_ble_eq_true rfl⟩ ⟨Nat.le_of_ble_eq_true rfl, Nat.le_of_ble_eq_true rfl⟩ dX14_end_13 (fun H locs hW => ?_)
  refine top_i ev13 ?_
  refine lv_if_ne (tgt := 21) hx hb dX14_end_16 (by decide) (fun c16 => ?_) (fun c16 => ?_)
  · have hf := ifn c16 hf
    refine lv_aload_n hx hb dX14_end_21 rfl (lv_at hl 0 rfl) ?_
    refine lv_iload_n hx hb dX14_end_22 rfl (lv_at hl 1 rfl) ?_
    obtain ⟨s23, e23, hf⟩ := bnd_some hf
    refine aw_pI e23 hC hW g2 fl_X14_132 (Or.inl fn_13_13) rfl rfl rfl dX14_end_23 (fun H locs hW => ?_)
    have g2 := ko_pI e23 g2
    refine lv_iconst (v := 1) hx hb dX14_end_26 (by decide) ?_
    obtain ⟨e1, e2⟩ := so_inj hf
    exact aw_iret hC hW hr rfl (p_eq hP (congrArg (fun z => some (Value.int z)) e1) e2) (Nat.le_of_ble_eq_true rfl) (Nat.le_of_ble_eq_true rfl) dX14_end_27
  · have hf := ifp c16 hf
    refine lv_iconst (v := 0) hx hb dX14_end_19 (by decide) ?_
    obtain ⟨e1, e2⟩ := so_inj hf
    exact aw_iret hC hW hr rfl (p_eq hP (congrArg (fun z => some (Value.int z)) e1) e2) (Nat.le_of_ble_eq_true rfl) (Nat.le_of_ble_eq_true rfl) dX14_end_20
def f_X14_entersFraction (o : Nat) (y1 : Int64) (y3 : Int64) (s : ST) : Option (Unit × ST) :=
  ob (f_X14_common 100 y1 y3 s) fun v2 s2 =>
  gd (¬ v2 = 0) <|
  gd (o < s2.1 ∧ (kd s2 o).1 = 14) <|
  ob (f_X14_enters o (y1 / v2) s2) fun _ s12 =>
  gd (¬ v2 = 0) <|
  gd (o < s12.1 ∧ (kd s12 o).1 = 14) <|
  ob (f_X14_enters o (y3 / v2) s12) fun _ s20 =>
  some ((), s20)
set_option maxHeartbeats 4000000 in
theorem ct_X14_entersFraction (l : Launch) (G : GM) (a : Nat → Nat) (o : Nat) (y1 : Int64) (y3 : Int64) (s : ST) (rv : Unit) (sf : ST) (hf : f_X14_entersFraction o y1 y3 s = some (rv, sf)) : MD l G yX14_entersFraction (ws_ yX14_entersFraction cX14_entersFraction 7 none) 101 [.ref (a o), .long y1, .long y3] a s none sf := by
  refine md_of (d := 101) (lv := [(0, .ref (a o)), (1, .long y1), (3, .long y3)]) (Or.inl (by decide)) (Nat.le_of_ble_eq_true rfl) rfl ?_
  intro p e s0 m args below meth c ls A P hP hC hr hnm hW hl
  have hx := hC.1
  have hb := hC.2.1
  have hts := hC.2.2.2.2.1
  unfold f_X14_entersFraction at hf
  refine lv_lload_n hx hb dX14_entersFraction_0 rfl (lv_at hl 1 rfl) ?_
  refine lv_lload_n hx hb dX14_entersFraction_1 rfl (lv_at hl 2 rfl) ?_
  obtain ⟨v2, s2, h2, hf⟩ := ob_some hf
  refine aw_dS1 (As := [.long y1, .long y3]) (rest := []) (ct_X14_common l G a 100 y1 y3 s v2 s2 h2) hC hW hl.1 sy_X14_common (Or.inl q1911) rfl rfl (Nat.le_of_ble_eq_true rfl) ⟨Nat.le_of_ble_eq_true rfl, Nat.le_of_ble_eq_true rfl⟩ ⟨Nat.le_of_ble_eq_true rfl, Nat.le_of_ble_eq_true rfl⟩ dX14_entersFraction_2 (fun H locs hW => ?_)
  refine lv_lstore (lv' := [(5, .long v2), (0, .ref (a o)), (1, .long y1), (3, .long y3)]) hx hb dX14_entersFraction_5 hl (by decide) rfl (fun ls hl => ?_)
  refine lv_aload_n hx hb dX14_entersFraction_7 rfl (lv_at hl 1 rfl) ?_
  refine lv_lload_n hx hb dX14_entersFraction_8 rfl (lv_at hl 2 rfl) ?_
  refine lv_lload hx hb dX14_entersFraction_9 (lv_at hl 0 rfl) ?_
  obtain ⟨g11, hf⟩ := gd_some hf
  refine lv_ldiv hx hb dX14_entersFraction_11 g11 ?_
  obtain ⟨g12, hf⟩ := gd_some hf
  obtain ⟨_, s12, h12, hf⟩ := ob_some hf
  refine aw_dV0 (r := o) (As := [.long (y1 / v2)]) (rest := []) (ct_X14_enters l G a o (y1 / v2) s2 () s12 h12) hC hW hl.1 vy_X14_enters (Or.inl q1689) g12 rfl rfl rfl rfl (Nat.le_of_ble_eq_true rfl) ⟨Nat.le_of_ble_eq_true rfl, Nat.le_of_ble_eq_true rfl⟩ ⟨Nat.le_of_ble_eq_true rfl, Nat.le_of_ble_eq_true rfl⟩ dX14_entersFraction_12 (fun H locs hW => ?_)
  refine lv_aload_n hx hb dX14_entersFraction_15 rfl (lv_at hl 1 rfl) ?_
  refine lv_lload_n hx hb dX14_entersFraction_16 rfl (lv_at hl 3 rfl) ?_
  refine lv_lload hx hb dX14_entersFraction_17 (lv_at hl 0 rfl) ?_
  obtain ⟨g19, hf⟩ := gd_some hf
  refine lv_ldiv hx hb dX14_entersFraction_19 g19 ?_
  obtain ⟨g20, hf⟩ := gd_some hf
  obtain ⟨_, s20, h20, hf⟩ := ob_some hf
  refine aw_dV0 (r := o) (As := [.long (y3 / v2)]) (rest := []) (ct_X14_enters l G a o (y3 / v2) s12 () s20 h20) hC hW hl.1 vy_X14_enters (Or.inl q1689) g20 rfl rfl rfl rfl (Nat.le_of_ble_eq_true rfl) ⟨Nat.le_of_ble_eq_true rfl, Nat.le_of_ble_eq_true rfl⟩ ⟨Nat.le_of_ble_eq_true rfl, Nat.le_of_ble_eq_true rfl⟩ dX14_entersFraction_20 (fun H locs hW => ?_)
  obtain ⟨e1, e2⟩ := so_inj hf
  exact aw_vret hC hW hr (p_eq hP rfl e2) (Nat.le_of_ble_eq_true rfl) (Nat.le_of_ble_eq_true rfl) dX14_entersFraction_23
def f_X14_ever_b244 (x4 : Int32) (u0 : Int64) (w1 : Nat) (s : ST) : Option (Int32 × ST) :=
  gd (w1 < s.1 ∧ (kd s w1).1 = 14) <|
  ob (f_X14_enters w1 u0 s) fun _ s244 =>
  some (x4, s244)
def f_X14_ever_b187 (K69 : Nat → Int32 → Int32 → Int32 → Int32 → Int32 → Int32 → Int32 → ST → Option (Int32 × ST)) (r0 : Nat) (x1 : Int32) (x2 : Int32) (x3 : Int32) (x4 : Int32) (x5 : Int32) (x7 : Int32) (t0 : Int32) (t1 : Int32) (s : ST) : Option (Int32 × ST) :=
  bnd ((t1 ||| t0) : Int32) fun v188 =>
  bnd (x7 + 1 : Int32) fun v190 =>
  K69 r0 x1 x2 x3 x4 x5 v188 v190 s
def f_X14_ever_b186 (K69 : Nat → Int32 → Int32 → Int32 → Int32 → Int32 → Int32 → Int32 → ST → Option (Int32 × ST)) (r0 : Nat) (x1 : Int32) (x2 : Int32) (x3 : Int32) (x4 : Int32) (x5 : Int32) (x7 : Int32) (t0 : Int32) (s : ST) : Option (Int32 × ST) :=
  f_X14_ever_b187 K69 r0 x1 x2 x3 x4 x5 x7 0 t0 s
def f_X14_ever_b149 (K89 : Nat → Int32 → Int32 → Int32 → Int32 → Int32 → Int32 → Int32 → Int32 → Int32 → ST → Option (Int32 × ST)) (r0 : Nat) (x1 : Int32) (x2 : Int32) (x3 : Int32) (x4 : Int32) (x5 : Int32) (x6 : Int32) (x7 : Int32) (x9 : Int32) (t0 : Int32) (s : ST) : Option (Int32 × ST) :=
  bnd (x9 + 1 : Int32) fun v151 =>
  K89 r0 x1 x2 x3 x4 x5 x6 x7 t0 v151 s
def f_X14_ever_b148 (K89 : Nat → Int32 → Int32 → Int32 → Int32 → Int32 → Int32 → Int32 → Int32 → Int32 → ST → Option (Int32 × ST)) (r0 : Nat) (x1 : Int32) (x2 : Int32) (x3 : Int32) (x4 : Int32) (x5 : Int32) (x6 : Int32) (x7 : Int32) (x9 : Int32) (s : ST) : Option (Int32 × ST) :=
  f_X14_ever_b149 K89 r0 x1 x2 x3 x4 x5 x6 x7 x9 0 s
def f_X14_ever_b144 (K89 : Nat → Int32 → Int32 → Int32 → Int32 → Int32 → Int32 → Int32 → Int32 → Int32 → ST → Option (Int32 × ST)) (r0 : Nat) (x1 : Int32) (x2 : Int32) (x3 : Int32) (x4 : Int32) (x5 : Int32) (x6 : Int32) (x7 : Int32) (x9 : Int32) (s : ST) : Option (Int32 × ST) :=
  f_X14_ever_b149 K89 r0 x1 x2 x3 x4 x5 x6 x7 x9 1 s
def f_X14_ever_b89 (K69 : Nat → Int32 → Int32 → Int32 → Int32 → Int32 → Int32 → Int32 → ST → Option (Int32 × ST)) : Nat → Nat → Int32 → Int32 → Int32 → Int32 → Int32 → Int32 → Int32 → Int32 → Int32 → ST → Option (Int32 × ST)
  | 0, _, _, _, _, _, _, _, _, _, _, _ => none
  | n + 1, r0, x1, x2, x3, x4, x5, x6, x7, x8, x9, s =>
  gd (r0 < s.1 ∧ (kd s r0).1 = 14) <|
  if (gi s r0 3) ≤ x9 then ((gr s r0 11).bind fun q160 =>
  gd (q160 < s.1 ∧ (kd s q160).1 = 100 ∧ ¬ ((16 : Int32) < 0 ∨ (kd s q160).2 ≤ (16 : Int32).toNatClampNeg)) <|
  bnd (p_has (gi s q160 (16 : Int32).toNatClampNeg) x7) fun v168 =>
  if v168 = 0 then (f_X14_ever_b186 K69 r0 x1 x2 x3 x4 x5 x7 x6 s) else if x8 = 0 then (f_X14_ever_b186 K69 r0 x1 x2 x3 x4 x5 x7 x6 s) else f_X14_ever_b187 K69 r0 x1 x2 x3 x4 x5 x7 (1 <<< (x7 &&& 31)) x6 s) else if x8 = 0 then (if x9 = x7 then (f_X14_ever_b148 (f_X14_ever_b89 K69 n) r0 x1 x2 x3 x4 x5 x6 x7 x9 s) else bnd (p_has x3 x9) fun v113 =>
  if v113 = 0 then (f_X14_ever_b148 (f_X14_ever_b89 K69 n) r0 x1 x2 x3 x4 x5 x6 x7 x9 s) else (gr s r0 11).bind fun q121 =>
  gd (q121 < s.1 ∧ (kd s q121).1 = 100 ∧ ¬ ((x7 : Int32) < 0 ∨ (kd s q121).2 ≤ (x7 : Int32).toNatClampNeg)) <|
  ob (f_X14_shows r0 (gi s q121 (x7 : Int32).toNatClampNeg) s) fun v127 s127 =>
  gd (r0 < s127.1 ∧ (kd s127 r0).1 = 14) <|
  (gr s127 r0 11).bind fun q132 =>
  gd (q132 < s127.1 ∧ (kd s127 q132).1 = 100 ∧ ¬ ((x9 : Int32) < 0 ∨ (kd s127 q132).2 ≤ (x9 : Int32).toNatClampNeg)) <|
  ob (f_X14_shows r0 (gi s127 q132 (x9 : Int32).toNatClampNeg) s127) fun v138 s138 =>
  if v127 ≤ v138 then (f_X14_ever_b148 (f_X14_ever_b89 K69 n) r0 x1 x2 x3 x4 x5 x6 x7 x9 s138) else f_X14_ever_b144 (f_X14_ever_b89 K69 n) r0 x1 x2 x3 x4 x5 x6 x7 x9 s138) else f_X14_ever_b144 (f_X14_ever_b89 K69 n) r0 x1 x2 x3 x4 x5 x6 x7 x9 s
def f_X14_ever_b69 (K57 : Nat → Int32 → Int32 → Int32 → Int32 → Int32 → ST → Option (Int32 × ST)) : Nat → Nat → Int32 → Int32 → Int32 → Int32 → Int32 → Int32 → Int32 → ST → Option (Int32 × ST)
  | 0, _, _, _, _, _, _, _, _, _ => none
  | n + 1, r0, x1, x2, x3, x4, x5, x6, x7, s =>
  gd (r0 < s.1 ∧ (kd s r0).1 = 14) <|
  if (gi s r0 3) ≤ x7 then ((gr s r0 11).bind fun q198 =>
  ob (f_X14_goes r0 q198 0 s) fun _ s202 =>
  bnd ((x4 ||| (x6 &&& (x2 - 1))) : Int32) fun v216 =>
  bnd (x5 + 1 : Int32) fun v218 =>
  K57 r0 x1 x2 x6 v216 v218 s202) else bnd (p_has x3 8) fun v81 =>
  f_X14_ever_b89 (f_X14_ever_b69 K57 n) fuel r0 x1 x2 x3 x4 x5 x6 x7 v81 0 s
def f_X14_ever_b57 : Nat → Nat → Int32 → Int32 → Int32 → Int32 → Int32 → ST → Option (Int32 × ST)
  | 0, _, _, _, _, _, _, _ => none
  | n + 1, r0, x1, x2, x3, x4, x5, s =>
  if x1 ≤ x5 then (gd (r0 < s.1 ∧ (kd s r0).1 = 14) <|
  bnd (pI s r0 1 0) fun s226 =>
  if x1 = 0 then (f_X14_ever_b244 x4 0 r0 s226) else f_X14_ever_b244 x4 (((x3 &&& (x2 - 1)) : Int32).toInt64) r0 s226) else f_X14_ever_b69 (f_X14_ever_b57 n) fuel r0 x1 x2 x3 x4 x5 x3 0 s
def f_X14_ever_b50 (r0 : Nat) (x1 : Int32) (x2 : Int32) (t0 : Int32) (s : ST) : Option (Int32 × ST) :=
  f_X14_ever_b57 fuel r0 x1 x2 t0 0 0 s
def f_X14_ever (o : Nat) (x1 : Int32) (s : ST) : Option (Int32 × ST) :=
  gd (o < s.1 ∧ (kd s o).1 = 14) <|
  bnd (pI s o 0 0) fun s2 =>
  bnd (p_in ((x1 : Int32).toInt64) 0 12) fun v11 =>
  if v11 = 0 then (some ((-1), s2)) else ob (f_X14_starts o s2) fun _ s20 =>
  gd (o < s20.1 ∧ (kd s20 o).1 = 14) <|
  (gr s20 o 10).bind fun q28 =>
  gd (q28 < s20.1 ∧ (kd s20 q28).1 = 100 ∧ ¬ ((17 : Int32) < 0 ∨ (kd s20 q28).2 ≤ (17 : Int32).toNatClampNeg)) <|
  if 0 ≤ (gi s20 q28 (17 : Int32).toNatClampNeg) then ((gr s20 o 10).bind fun q43 =>
  gd (q43 < s20.1 ∧ (kd s20 q43).1 = 100 ∧ ¬ ((17 : Int32) < 0 ∨ (kd s20 q43).2 ≤ (17 : Int32).toNatClampNeg)) <|
  f_X14_ever_b50 o x1 256 (1 <<< ((gi s20 q43 (17 : Int32).toNatClampNeg) &&& 31)) s20) else f_X14_ever_b50 o x1 256 256 s20
set_option maxHeartbeats 4000000 in
theorem ct_X14_ever (l : Launch) (G : GM) (a : Nat → Nat) (o : Nat) (x1 : Int32) (s : ST) (rv : Int32) (sf : ST) (hf : f_X14_ever o x1 s = some (rv, sf)) : MD l G yX14_ever (ws_ yX14_ever cX14_ever 10 (some .int)) 3 [.ref (a o), .int x1] a s (some (.int rv)) sf := by
  refine md_of (d := 3) (lv := [(0, .ref (a o)), (1, .int x1)]) (Or.inl (by decide)) (Nat.le_of_ble_eq_true rfl) rfl ?_
  intro p e s0 m args below meth c ls A P hP hC hr hnm hW hl
  have hx := hC.1
  have hb := hC.2.1
  have hts := hC.2.2.2.2.1
  have B244 : ∀ (x4 : Int32) (u0 : Int64) (w1 : Nat) (s : ST), f_X14_ever_b244 x4 u0 w1 s = some (rv, sf) → ∀ (H : Heap) (locs : List Loc) (ls : Array Slot), lv_has ls 10 [(4, .int x4)] → AW G a A s s0.heap H locs → WB p l e (rmD 3) s0 m args below meth c H locs G A P 244 ls [.long u0, .ref (a w1)] := by
    intro x4 u0 w1 s hf H locs ls hl hW
    unfold f_X14_ever_b244 at hf
    obtain ⟨g244, hf⟩ := gd_some hf
    obtain ⟨_, s244, h244, hf⟩ := ob_some hf
    refine aw_dV0 (r := w1) (As := [.long u0]) (rest := []) (ct_X14_enters l G a w1 u0 s () s244 h244) hC hW hl.1 vy_X14_enters (Or.inl q1689) g244 rfl rfl rfl rfl (Nat.le_of_ble_eq_true rfl) ⟨Nat.le_of_ble_eq_true rfl, Nat.le_of_ble_eq_true rfl⟩ ⟨Nat.le_of_ble_eq_true rfl, Nat.le_of_ble_eq_true rfl⟩ dX14_ever_244 (fun H locs hW => ?_)
    refine lv_iload hx hb dX14_ever_247 (lv_at hl 0 rfl) ?_
    obtain ⟨e1, e2⟩ := so_inj hf
    exact aw_iret hC hW hr rfl (p_eq hP (congrArg (fun z => some (Value.int z)) e1) e2) (Nat.le_of_ble_eq_true rfl) (Nat.le_of_ble_eq_true rfl) dX14_ever_249
  have B187 : ∀ (K69 : Nat → Int32 → Int32 → Int32 → Int32 → Int32 → Int32 → Int32 → ST → Option (Int32 × ST)) (hK69 : ∀ (r0 : Nat) (x1 : Int32) (x2 : Int32) (x3 : Int32) (x4 : Int32) (x5 : Int32) (x6 : Int32) (x7 : Int32) (s : ST), K69 r0 x1 x2 x3 x4 x5 x6 x7 s = some (rv, sf) → ∀ (H : Heap) (locs : List Loc) (ls : Array Slot), lv_has ls 10 [(0, .ref (a r0)), (1, .int x1), (2, .int x2), (3, .int x3), (4, .int x4), (5, .int x5), (6, .int x6), (7, .int x7)] → AW G a A s s0.heap H locs → WB p l e (rmD 3) s0 m args below meth c H locs G A P 69 ls []), ∀ (r0 : Nat) (x1 : Int32) (x2 : Int32) (x3 : Int32) (x4 : Int32) (x5 : Int32) (x7 : Int32) (t0 : Int32) (t1 : Int32) (s : ST), f_X14_ever_b187 K69 r0 x1 x2 x3 x4 x5 x7 t0 t1 s = some (rv, sf) → ∀ (H : Heap) (locs : List Loc) (ls : Array Slot), lv_has ls 10 [(0, .ref (a r0)), (1, .int x1), (2, .int x2), (3, .int x3), (4, .int x4), (5, .int x5), (7, .int x7)] → AW G a A s s0.heap H locs → WB p l e (rmD 3) s0 m args below meth c H locs G A P 187 ls [.int t0, .int t1] := by
    intro K69 hK69 r0 x1 x2 x3 x4 x5 x7 t0 t1 s hf H locs ls hl hW
    unfold f_X14_ever_b187 at hf
    refine lv_ior hx hb dX14_ever_187 ?_
    obtain ⟨v188, ev188, hf⟩ := bnd_some hf
    refine top_i ev188 ?_
    refine lv_istore (lv' := [(6, .int v188), (0, .ref (a r0)), (1, .int x1), (2, .int x2), (3, .int x3), (4, .int x4), (5, .int x5), (7, .int x7)]) hx hb dX14_ever_188 hl (by decide) rfl (fun ls hl => ?_)
    obtain ⟨v190, ev190, hf⟩ := bnd_some hf
    refine lv_iinc (v := v190) (lv' := [(7, .int v190), (6, .int v188), (0, .ref (a r0)), (1, .int x1), (2, .int x2), (3, .int x3), (4, .int x4), (5, .int x5)]) hx hb dX14_ever_190 hl (k := 7) rfl (by rw [ev190]; rfl) (by decide) rfl (fun ls hl => ?_)
    refine lv_goto (tgt := 69) hx hb dX14_ever_193 (by decide) ?_
    exact hK69 r0 x1 x2 x3 x4 x5 v188 v190 s hf _ _ _ (lv_sub hl [2, 3, 4, 5, 6, 7, 1, 0] rfl) hW
  have B186 : ∀ (K69 : Nat → Int32 → Int32 → Int32 → Int32 → Int32 → Int32 → Int32 → ST → Option (Int32 × ST)) (hK69 : ∀ (r0 : Nat) (x1 : Int32) (x2 : Int32) (x3 : Int32) (x4 : Int32) (x5 : Int32) (x6 : Int32) (x7 : Int32) (s : ST), K69 r0 x1 x2 x3 x4 x5 x6 x7 s = some (rv, sf) → ∀ (H : Heap) (locs : List Loc) (ls : Array Slot), lv_has ls 10 [(0, .ref (a r0)), (1, .int x1), (2, .int x2), (3, .int x3), (4, .int x4), (5, .int x5), (6, .int x6), (7, .int x7)] → AW G a A s s0.heap H locs → WB p l e (rmD 3) s0 m args below meth c H locs G A P 69 ls []), ∀ (r0 : Nat) (x1 : Int32) (x2 : Int32) (x3 : Int32) (x4 : Int32) (x5 : Int32) (x7 : Int32) (t0 : Int32) (s : ST), f_X14_ever_b186 K69 r0 x1 x2 x3 x4 x5 x7 t0 s = some (rv, sf) → ∀ (H : Heap) (locs : List Loc) (ls : Array Slot), lv_has ls 10 [(0, .ref (a r0)), (1, .int x1), (2, .int x2), (3, .int x3), (4, .int x4), (5, .int x5), (7, .int x7)] → AW G a A s s0.heap H locs → WB p l e (rmD 3) s0 m args below meth c H locs G A P 186 ls [.int t0] := by
    intro K69 hK69 r0 x1 x2 x3 x4 x5 x7 t0 s hf H locs ls hl hW
    unfold f_X14_ever_b186 at hf
    refine lv_iconst (v := 0) hx hb dX14_ever_186 (by decide) ?_
    exact B187 K69 hK69 r0 x1 x2 x3 x4 x5 x7 0 t0 s hf _ _ _ (lv_sub hl [0, 1, 2, 3, 4, 5, 6] rfl) hW
  have B149 : ∀ (K89 : Nat → Int32 → Int32 → Int32 → Int32 → Int32 → Int32 → Int32 → Int32 → Int32 → ST → Option (Int32 × ST)) (hK89 : ∀ (r0 : Nat) (x1 : Int32) (x2 : Int32) (x3 : Int32) (x4 : Int32) (x5 : Int32) (x6 : Int32) (x7 : Int32) (x8 : Int32) (x9 : Int32) (s : ST), K89 r0 x1 x2 x3 x4 x5 x6 x7 x8 x9 s = some (rv, sf) → ∀ (H : Heap) (locs : List Loc) (ls : Array Slot), lv_has ls 10 [(0, .ref (a r0)), (1, .int x1), (2, .int x2), (3, .int x3), (4, .int x4), (5, .int x5), (6, .int x6), (7, .int x7), (8, .int x8), (9, .int x9)] → AW G a A s s0.heap H locs → WB p l e (rmD 3) s0 m args below meth c H locs G A P 89 ls []), ∀ (r0 : Nat) (x1 : Int32) (x2 : Int32) (x3 : Int32) (x4 : Int32) (x5 : Int32) (x6 : Int32) (x7 : Int32) (x9 : Int32) (t0 : Int32) (s : ST), f_X14_ever_b149 K89 r0 x1 x2 x3 x4 x5 x6 x7 x9 t0 s = some (rv, sf) → ∀ (H : Heap) (locs : List Loc) (ls : Array Slot), lv_has ls 10 [(0, .ref (a r0)), (1, .int x1), (2, .int x2), (3, .int x3), (4, .int x4), (5, .int x5), (6, .int x6), (7, .int x7), (9, .int x9)] → AW G a A s s0.heap H locs → WB p l e (rmD 3) s0 m args below meth c H locs G A P 149 ls [.int t0] := by
    intro K89 hK89 r0 x1 x2 x3 x4 x5 x6 x7 x9 t0 s hf H locs ls hl hW
    unfold f_X14_ever_b149 at hf
    refine lv_istore (lv' := [(8, .int t0), (0, .ref (a r0)), (1, .int x1), (2, .int x2), (3, .int x3), (4, .int x4), (5, .int x5), (6, .int x6), (7, .int x7), (9, .int x9)]) hx hb dX14_ever_149 hl (by decide) rfl (fun ls hl => ?_)
    obtain ⟨v151, ev151, hf⟩ := bnd_some hf
    refine lv_iinc (v := v151) (lv' := [(9, .int v151), (8, .int t0), (0, .ref (a r0)), (1, .int x1), (2, .int x2), (3, .int x3), (4, .int x4), (5, .int x5), (6, .int x6), (7, .int x7)]) hx hb dX14_ever_151 hl (k := 9) rfl (by rw [ev151]; rfl) (by decide) rfl (fun ls hl => ?_)
    refine lv_goto (tgt := 89) hx hb dX14_ever_154 (by decide) ?_
    exact hK89 r0 x1 x2 x3 x4 x5 x6 x7 t0 v151 s hf _ _ _ (lv_sub hl [2, 3, 4, 5, 6, 7, 8, 9, 1, 0] rfl) hW
  have B148 : ∀ (K89 : Nat → Int32 → Int32 → Int32 → Int32 → Int32 → Int32 → Int32 → Int32 → Int32 → ST → Option (Int32 × ST)) (hK89 : ∀ (r0 : Nat) (x1 : Int32) (x2 : Int32) (x3 : Int32) (x4 : Int32) (x5 : Int32) (x6 : Int32) (x7 : Int32) (x8 : Int32) (x9 : Int32) (s : ST), K89 r0 x1 x2 x3 x4 x5 x6 x7 x8 x9 s = some (rv, sf) → ∀ (H : Heap) (locs : List Loc) (ls : Array Slot), lv_has ls 10 [(0, .ref (a r0)), (1, .int x1), (2, .int x2), (3, .int x3), (4, .int x4), (5, .int x5), (6, .int x6), (7, .int x7), (8, .int x8), (9, .int x9)] → AW G a A s s0.heap H locs → WB p l e (rmD 3) s0 m args below meth c H locs G A P 89 ls []), ∀ (r0 : Nat) (x1 : Int32) (x2 : Int32) (x3 : Int32) (x4 : Int32) (x5 : Int32) (x6 : Int32) (x7 : Int32) (x9 : Int32) (s : ST), f_X14_ever_b148 K89 r0 x1 x2 x3 x4 x5 x6 x7 x9 s = some (rv, sf) → ∀ (H : Heap) (locs : List Loc) (ls : Array Slot), lv_has ls 10 [(0, .ref (a r0)), (1, .int x1), (2, .int x2), (3, .int x3), (4, .int x4), (5, .int x5), (6, .int x6), (7, .int x7), (9, .int x9)] → AW G a A s s0.heap H locs → WB p l e (rmD 3) s0 m args below meth c H locs G A P 148 ls [] := by
    intro K89 hK89 r0 x1 x2 x3 x4 x5 x6 x7 x9 s hf H locs ls hl hW
    unfold f_X14_ever_b148 at hf
    refine lv_iconst (v := 0) hx hb dX14_ever_148 (by decide) ?_
    exact B149 K89 hK89 r0 x1 x2 x3 x4 x5 x6 x7 x9 0 s hf _ _ _ (lv_sub hl [0, 1, 2, 3, 4, 5, 6, 7, 8] rfl) hW
  have B144 : ∀ (K89 : Nat → Int32 → Int32 → Int32 → Int32 → Int32 → Int32 → Int32 → Int32 → Int32 → ST → Option (Int32 × ST)) (hK89 : ∀ (r0 : Nat) (x1 : Int32) (x2 : Int32) (x3 : Int32) (x4 : Int32) (x5 : Int32) (x6 : Int32) (x7 : Int32) (x8 : Int32) (x9 : Int32) (s : ST), K89 r0 x1 x2 x3 x4 x5 x6 x7 x8 x9 s = some (rv, sf) → ∀ (H : Heap) (locs : List Loc) (ls : Array Slot), lv_has ls 10 [(0, .ref (a r0)), (1, .int x1), (2, .int x2), (3, .int x3), (4, .int x4), (5, .int x5), (6, .int x6), (7, .int x7), (8, .int x8), (9, .int x9)] → AW G a A s s0.heap H locs → WB p l e (rmD 3) s0 m args below meth c H locs G A P 89 ls []), ∀ (r0 : Nat) (x1 : Int32) (x2 : Int32) (x3 : Int32) (x4 : Int32) (x5 : Int32) (x6 : Int32) (x7 : Int32) (x9 : Int32) (s : ST), f_X14_ever_b144 K89 r0 x1 x2 x3 x4 x5 x6 x7 x9 s = some (rv, sf) → ∀ (H : Heap) (locs : List Loc) (ls : Array Slot), lv_has ls 10 [(0, .ref (a r0)), (1, .int x1), (2, .int x2), (3, .int x3), (4, .int x4), (5, .int x5), (6, .int x6), (7, .int x7), (9, .int x9)] → AW G a A s s0.heap H locs → WB p l e (rmD 3) s0 m args below meth c H locs G A P 144 ls [] := by
    intro K89 hK89 r0 x1 x2 x3 x4 x5 x6 x7 x9 s hf H locs ls hl hW
    unfold f_X14_ever_b144 at hf
    refine lv_iconst (v := 1) hx hb dX14_ever_144 (by decide) ?_
    refine lv_goto (tgt := 149) hx hb dX14_ever_145 (by decide) ?_
    exact B149 K89 hK89 r0 x1 x2 x3 x4 x5 x6 x7 x9 1 s hf _ _ _ (lv_sub hl [0, 1, 2, 3, 4, 5, 6, 7, 8] rfl) hW
  have B89 : ∀ (K69 : Nat → Int32 → Int32 → Int32 → Int32 → Int32 → Int32 → Int32 → ST → Option (Int32 × ST)) (hK69 : ∀ (r0 : Nat) (x1 : Int32) (x2 : Int32) (x3 : Int32) (x4 : Int32) (x5 : Int32) (x6 : Int32) (x7 : Int32) (s : ST), K69 r0 x1 x2 x3 x4 x5 x6 x7 s = some (rv, sf) → ∀ (H : Heap) (locs : List Loc) (ls : Array Slot), lv_has ls 10 [(0, .ref (a r0)), (1, .int x1), (2, .int x2), (3, .int x3), (4, .int x4), (5, .int x5), (6, .int x6), (7, .int x7)] → AW G a A s s0.heap H locs → WB p l e (rmD 3) s0 m args below meth c H locs G A P 69 ls []), ∀ (n : Nat), ∀ (r0 : Nat) (x1 : Int32) (x2 : Int32) (x3 : Int32) (x4 : Int32) (x5 : Int32) (x6 : Int32) (x7 : Int32) (x8 : Int32) (x9 : Int32) (s : ST), f_X14_ever_b89 K69 n r0 x1 x2 x3 x4 x5 x6 x7 x8 x9 s = some (rv, sf) → ∀ (H : Heap) (locs : List Loc) (ls : Array Slot), lv_has ls 10 [(0, .ref (a r0)), (1, .int x1), (2, .int x2), (3, .int x3), (4, .int x4), (5, .int x5), (6, .int x6), (7, .int x7), (8, .int x8), (9, .int x9)] → AW G a A s s0.heap H locs → WB p l e (rmD 3) s0 m args below meth c H locs G A P 89 ls [] := by
    intro K69 hK69
    intro n
    induction n with
    | zero => intro r0 x1 x2 x3 x4 x5 x6 x7 x8 x9 s hf; cases hf
    | succ n ih =>
      intro r0 x1 x2 x3 x4 x5 x6 x7 x8 x9 s hf H locs ls hl hW
      rw [f_X14_ever_b89] at hf
      refine lv_iload hx hb dX14_ever_89 (lv_at hl 9 rfl) ?_
      refine lv_aload_n hx hb dX14_ever_91 rfl (lv_at hl 0 rfl) ?_
      obtain ⟨g92, hf⟩ := gd_some hf
      refine aw_gI hC hW g92 fl_X14_117 rfl dX14_ever_92 ?_
      refine lv_icmp_ge (tgt := 157) hx hb dX14_ever_95 (by decide) (fun c95 => ?_) (fun c95 => ?_)
      · have hf := ifp c95 hf
        refine lv_iload hx hb dX14_ever_157 (lv_at hl 6 rfl) ?_
        refine lv_aload_n hx hb dX14_ever_159 rfl (lv_at hl 0 rfl) ?_
        obtain ⟨q160, hq160, hf⟩ := bi_some hf
        refine aw_gR hC hW g92 fl_X14_47 rfl hq160 dX14_ever_160 ?_
        refine lv_bipush (v := 16) hx hb dX14_ever_163 (by decide) ?_
        obtain ⟨g165, hf⟩ := gd_some hf
        refine aw_iald hC hW g165 dX14_ever_165 ?_
        refine lv_iload hx hb dX14_ever_166 (lv_at hl 7 rfl) ?_
        obtain ⟨v168, ev168, hf⟩ := bnd_some hf
        refine aw_dS1 (As := [.int (gi s q160 (16 : Int32).toNatClampNeg), .int x7]) (rest := [.int x6]) (pc_X14_has l G a (gi s q160 (16 : Int32).toNatClampNeg) x7 s) hC hW hl.1 sy_X14_has (Or.inl q1626) rfl rfl (Nat.le_of_ble_eq_true rfl) ⟨Nat.le_of_ble_eq_true rfl, Nat.le_of_ble_eq_true rfl⟩ ⟨Nat.le_of_ble_eq_true rfl, Nat.le_of_ble_eq_true rfl⟩ dX14_ever_168 (fun H locs hW => ?_)
        refine top_i ev168 ?_
        refine lv_if_eq (tgt := 186) hx hb dX14_ever_171 (by decide) (fun c171 => ?_) (fun c171 => ?_)
        · have hf := ifp c171 hf
          exact B186 K69 hK69 r0 x1 x2 x3 x4 x5 x7 x6 s hf _ _ _ (lv_sub hl [0, 1, 2, 3, 4, 5, 7] rfl) hW
        · have hf := ifn c171 hf
          refine lv_iload hx hb dX14_ever_174 (lv_at hl 8 rfl) ?_
          refine lv_if_eq (tgt := 186) hx hb dX14_ever_176 (by decide) (fun c176 => ?_) (fun c176 => ?_)
          · have hf := ifp c176 hf
            exact B186 K69 hK69 r0 x1 x2 x3 x4 x5 x7 x6 s hf _ _ _ (lv_sub hl [0, 1, 2, 3, 4, 5, 7] rfl) hW
          · have hf := ifn c176 hf
            refine lv_iconst (v := 1) hx hb dX14_ever_179 (by decide) ?_
            refine lv_iload hx hb dX14_ever_180 (lv_at hl 7 rfl) ?_
            refine lv_ishl hx hb dX14_ever_182 ?_
            refine lv_goto (tgt := 187) hx hb dX14_ever_183 (by decide) ?_
            exact B187 K69 hK69 r0 x1 x2 x3 x4 x5 x7 (1 <<< (x7 &&& 31)) x6 s hf _ _ _ (lv_sub hl [0, 1, 2, 3, 4, 5, 7] rfl) hW
      · have hf := ifn c95 hf
        refine lv_iload hx hb dX14_ever_98 (lv_at hl 8 rfl) ?_
        refine lv_if_ne (tgt := 144) hx hb dX14_ever_100 (by decide) (fun c100 => ?_) (fun c100 => ?_)
        · have hf := ifn c100 hf
          exact B144 (f_X14_ever_b89 K69 n) ih r0 x1 x2 x3 x4 x5 x6 x7 x9 s hf _ _ _ (lv_sub hl [0, 1, 2, 3, 4, 5, 6, 7, 9] rfl) hW
        · have hf := ifp c100 hf
          refine lv_iload hx hb dX14_ever_103 (lv_at hl 9 rfl) ?_
          refine lv_iload hx hb dX14_ever_105 (lv_at hl 7 rfl) ?_
          refine lv_icmp_eq (tgt := 148) hx hb dX14_ever_107 (by decide) (fun c107 => ?_) (fun c107 => ?_)
          · have hf := ifp c107 hf
            exact B148 (f_X14_ever_b89 K69 n) ih r0 x1 x2 x3 x4 x5 x6 x7 x9 s hf _ _ _ (lv_sub hl [0, 1, 2, 3, 4, 5, 6, 7, 9] rfl) hW
          · have hf := ifn c107 hf
            refine lv_iload_n hx hb dX14_ever_110 rfl (lv_at hl 3 rfl) ?_
            refine lv_iload hx hb dX14_ever_111 (lv_at hl 9 rfl) ?_
            obtain ⟨v113, ev113, hf⟩ := bnd_some hf
            refine aw_dS1 (As := [.int x3, .int x9]) (rest := []) (pc_X14_has l G a x3 x9 s) hC hW hl.1 sy_X14_has (Or.inl q1626) rfl rfl (Nat.le_of_ble_eq_true rfl) ⟨Nat.le_of_ble_eq_true rfl, Nat.le_of_ble_eq_true rfl⟩ ⟨Nat.le_of_ble_eq_true rfl, Nat.le_of_ble_eq_true rfl⟩ dX14_ever_113 (fun H locs hW => ?_)
            refine top_i ev113 ?_
            refine lv_if_eq (tgt := 148) hx hb dX14_ever_116 (by decide) (fun c116 => ?_) (fun c116 => ?_)
            · have hf := ifp c116 hf
              exact B148 (f_X14_ever_b89 K69 n) ih r0 x1 x2 x3 x4 x5 x6 x7 x9 s hf _ _ _ (lv_sub hl [0, 1, 2, 3, 4, 5, 6, 7, 9] rfl) hW
            · have hf := ifn c116 hf
              refine lv_aload_n hx hb dX14_ever_119 rfl (lv_at hl 0 rfl) ?_
              refine lv_aload_n hx hb dX14_ever_120 rfl (lv_at hl 0 rfl) ?_
              obtain ⟨q121, hq121, hf⟩ := bi_some hf
              refine aw_gR hC hW g92 fl_X14_47 rfl hq121 dX14_ever_121 ?_
              refine lv_iload hx hb dX14_ever_124 (lv_at hl 7 rfl) ?_
              obtain ⟨g126, hf⟩ := gd_some hf
              refine aw_iald hC hW g126 dX14_ever_126 ?_
              obtain ⟨v127, s127, h127, hf⟩ := ob_some hf
              refine aw_dV1 (r := r0) (As := [.int (gi s q121 (x7 : Int32).toNatClampNeg)]) (rest := []) (ct_X14_shows l G a r0 (gi s q121 (x7 : Int32).toNatClampNeg) s v127 s127 h127) hC hW hl.1 vy_X14_shows (Or.inl q1629) g92 rfl rfl rfl rfl (Nat.le_of_ble_eq_true rfl) ⟨Nat.le_of_ble_eq_true rfl, Nat.le_of_ble_eq_true rfl⟩ ⟨Nat.le_of_ble_eq_true rfl, Nat.le_of_ble_eq_true rfl⟩ dX14_ever_127 (fun H locs hW => ?_)
              refine lv_aload_n hx hb dX14_ever_130 rfl (lv_at hl 0 rfl) ?_
              refine lv_aload_n hx hb dX14_ever_131 rfl (lv_at hl 0 rfl) ?_
              obtain ⟨g132, hf⟩ := gd_some hf
              obtain ⟨q132, hq132, hf⟩ := bi_some hf
              refine aw_gR hC hW g132 fl_X14_47 rfl hq132 dX14_ever_132 ?_
              refine lv_iload hx hb dX14_ever_135 (lv_at hl 9 rfl) ?_
              obtain ⟨g137, hf⟩ := gd_some hf
              refine aw_iald hC hW g137 dX14_ever_137 ?_
              obtain ⟨v138, s138, h138, hf⟩ := ob_some hf
              refine aw_dV1 (r := r0) (As := [.int (gi s127 q132 (x9 : Int32).toNatClampNeg)]) (rest := [.int v127]) (ct_X14_shows l G a r0 (gi s127 q132 (x9 : Int32).toNatClampNeg) s127 v138 s138 h138) hC hW hl.1 vy_X14_shows (Or.inl q1629) g132 rfl rfl rfl rfl (Nat.le_of_ble_eq_true rfl) ⟨Nat.le_of_ble_eq_true rfl, Nat.le_of_ble_eq_true rfl⟩ ⟨Nat.le_of_ble_eq_true rfl, Nat.le_of_ble_eq_true rfl⟩ dX14_ever_138 (fun H locs hW => ?_)
              refine lv_icmp_le (tgt := 148) hx hb dX14_ever_141 (by decide) (fun c141 => ?_) (fun c141 => ?_)
              · have hf := ifp c141 hf
                exact B148 (f_X14_ever_b89 K69 n) ih r0 x1 x2 x3 x4 x5 x6 x7 x9 s138 hf _ _ _ (lv_sub hl [0, 1, 2, 3, 4, 5, 6, 7, 9] rfl) hW
              · have hf := ifn c141 hf
                exact B144 (f_X14_ever_b89 K69 n) ih r0 x1 x2 x3 x4 x5 x6 x7 x9 s138 hf _ _ _ (lv_sub hl [0, 1, 2, 3, 4, 5, 6, 7, 9] rfl) hW
  have B69 : ∀ (K57 : Nat → Int32 → Int32 → Int32 → Int32 → Int32 → ST → Option (Int32 × ST)) (hK57 : ∀ (r0 : Nat) (x1 : Int32) (x2 : Int32) (x3 : Int32) (x4 : Int32) (x5 : Int32) (s : ST), K57 r0 x1 x2 x3 x4 x5 s = some (rv, sf) → ∀ (H : Heap) (locs : List Loc) (ls : Array Slot), lv_has ls 10 [(0, .ref (a r0)), (1, .int x1), (2, .int x2), (3, .int x3), (4, .int x4), (5, .int x5)] → AW G a A s s0.heap H locs → WB p l e (rmD 3) s0 m args below meth c H locs G A P 57 ls []), ∀ (n : Nat), ∀ (r0 : Nat) (x1 : Int32) (x2 : Int32) (x3 : Int32) (x4 : Int32) (x5 : Int32) (x6 : Int32) (x7 : Int32) (s : ST), f_X14_ever_b69 K57 n r0 x1 x2 x3 x4 x5 x6 x7 s = some (rv, sf) → ∀ (H : Heap) (locs : List Loc) (ls : Array Slot), lv_has ls 10 [(0, .ref (a r0)), (1, .int x1), (2, .int x2), (3, .int x3), (4, .int x4), (5, .int x5), (6, .int x6), (7, .int x7)] → AW G a A s s0.heap H locs → WB p l e (rmD 3) s0 m args below meth c H locs G A P 69 ls [] := by
    intro K57 hK57
    intro n
    induction n with
    | zero => intro r0 x1 x2 x3 x4 x5 x6 x7 s hf; cases hf
    | succ n ih =>
      intro r0 x1 x2 x3 x4 x5 x6 x7 s hf H locs ls hl hW
      rw [f_X14_ever_b69] at hf
      refine lv_iload hx hb dX14_ever_69 (lv_at hl 7 rfl) ?_
      refine lv_aload_n hx hb dX14_ever_71 rfl (lv_at hl 0 rfl) ?_
      obtain ⟨g72, hf⟩ := gd_some hf
      refine aw_gI hC hW g72 fl_X14_117 rfl dX14_ever_72 ?_
      refine lv_icmp_ge (tgt := 196) hx hb dX14_ever_75 (by decide) (fun c75 => ?_) (fun c75 => ?_)
      · have hf := ifp c75 hf
        refine lv_aload_n hx hb dX14_ever_196 rfl (lv_at hl 0 rfl) ?_
        refine lv_aload_n hx hb dX14_ever_197 rfl (lv_at hl 0 rfl) ?_
        obtain ⟨q198, hq198, hf⟩ := bi_some hf
        refine aw_gR hC hW g72 fl_X14_47 rfl hq198 dX14_ever_198 ?_
        refine lv_iconst (v := 0) hx hb dX14_ever_201 (by decide) ?_
        obtain ⟨_, s202, h202, hf⟩ := ob_some hf
        refine aw_dV0 (r := r0) (As := [.ref (a q198), .int 0]) (rest := []) (ct_X14_goes l G a r0 q198 0 s () s202 h202) hC hW hl.1 vy_X14_goes (Or.inl q1681) g72 rfl rfl rfl rfl (Nat.le_of_ble_eq_true rfl) ⟨Nat.le_of_ble_eq_true rfl, Nat.le_of_ble_eq_true rfl⟩ ⟨Nat.le_of_ble_eq_true rfl, Nat.le_of_ble_eq_true rfl⟩ dX14_ever_202 (fun H locs hW => ?_)
        refine lv_iload hx hb dX14_ever_205 (lv_at hl 6 rfl) ?_
        refine lv_istore_n (lv' := [(3, .int x6), (0, .ref (a r0)), (1, .int x1), (2, .int x2), (4, .int x4), (5, .int x5), (6, .int x6), (7, .int x7)]) hx hb dX14_ever_207 rfl hl (by decide) rfl (fun ls hl => ?_)
        refine lv_iload hx hb dX14_ever_208 (lv_at hl 4 rfl) ?_
        refine lv_iload_n hx hb dX14_ever_210 rfl (lv_at hl 0 rfl) ?_
        refine lv_iload_n hx hb dX14_ever_211 rfl (lv_at hl 3 rfl) ?_
        refine lv_iconst (v := 1) hx hb dX14_ever_212 (by decide) ?_
        refine lv_isub hx hb dX14_ever_213 ?_
        refine lv_iand hx hb dX14_ever_214 ?_
        refine lv_ior hx hb dX14_ever_215 ?_
        obtain ⟨v216, ev216, hf⟩ := bnd_some hf
        refine top_i ev216 ?_
        refine lv_istore (lv' := [(4, .int v216), (3, .int x6), (0, .ref (a r0)), (1, .int x1), (2, .int x2), (5, .int x5), (6, .int x6), (7, .int x7)]) hx hb dX14_ever_216 hl (by decide) rfl (fun ls hl => ?_)
        obtain ⟨v218, ev218, hf⟩ := bnd_some hf
        refine lv_iinc (v := v218) (lv' := [(5, .int v218), (4, .int v216), (3, .int x6), (0, .ref (a r0)), (1, .int x1), (2, .int x2), (6, .int x6), (7, .int x7)]) hx hb dX14_ever_218 hl (k := 5) rfl (by rw [ev218]; rfl) (by decide) rfl (fun ls hl => ?_)
        refine lv_goto (tgt := 57) hx hb dX14_ever_221 (by decide) ?_
        exact hK57 r0 x1 x2 x6 v216 v218 s202 hf _ _ _ (lv_sub hl [3, 4, 5, 2, 1, 0] rfl) hW
      · have hf := ifn c75 hf
        refine lv_iload_n hx hb dX14_ever_78 rfl (lv_at hl 3 rfl) ?_
        refine lv_bipush (v := 8) hx hb dX14_ever_79 (by decide) ?_
        obtain ⟨v81, ev81, hf⟩ := bnd_some hf
        refine aw_dS1 (As := [.int x3, .int 8]) (rest := []) (pc_X14_has l G a x3 8 s) hC hW hl.1 sy_X14_has (Or.inl q1626) rfl rfl (Nat.le_of_ble_eq_true rfl) ⟨Nat.le_of_ble_eq_true rfl, Nat.le_of_ble_eq_true rfl⟩ ⟨Nat.le_of_ble_eq_true rfl, Nat.le_of_ble_eq_true rfl⟩ dX14_ever_81 (fun H locs hW => ?_)
        refine top_i ev81 ?_
        refine lv_istore (lv' := [(8, .int v81), (0, .ref (a r0)), (1, .int x1), (2, .int x2), (3, .int x3), (4, .int x4), (5, .int x5), (6, .int x6), (7, .int x7)]) hx hb dX14_ever_84 hl (by decide) rfl (fun ls hl => ?_)
        refine lv_iconst (v := 0) hx hb dX14_ever_86 (by decide) ?_
        refine lv_istore (lv' := [(9, .int 0), (8, .int v81), (0, .ref (a r0)), (1, .int x1), (2, .int x2), (3, .int x3), (4, .int x4), (5, .int x5), (6, .int x6), (7, .int x7)]) hx hb dX14_ever_87 hl (by decide) rfl (fun ls hl => ?_)
        exact B89 (f_X14_ever_b69 K57 n) ih fuel r0 x1 x2 x3 x4 x5 x6 x7 v81 0 s hf _ _ _ (lv_sub hl [2, 3, 4, 5, 6, 7, 8, 9, 1, 0] rfl) hW
  have B57 : ∀ (n : Nat), ∀ (r0 : Nat) (x1 : Int32) (x2 : Int32) (x3 : Int32) (x4 : Int32) (x5 : Int32) (s : ST), f_X14_ever_b57 n r0 x1 x2 x3 x4 x5 s = some (rv, sf) → ∀ (H : Heap) (locs : List Loc) (ls : Array Slot), lv_has ls 10 [(0, .ref (a r0)), (1, .int x1), (2, .int x2), (3, .int x3), (4, .int x4), (5, .int x5)] → AW G a A s s0.heap H locs → WB p l e (rmD 3) s0 m args below meth c H locs G A P 57 ls [] := by
    intro n
    induction n with
    | zero => intro r0 x1 x2 x3 x4 x5 s hf; cases hf
    | succ n ih =>
      intro r0 x1 x2 x3 x4 x5 s hf H locs ls hl hW
      rw [f_X14_ever_b57] at hf
      refine lv_iload hx hb dX14_ever_57 (lv_at hl 5 rfl) ?_
      refine lv_iload_n hx hb dX14_ever_59 rfl (lv_at hl 1 rfl) ?_
      refine lv_icmp_ge (tgt := 224) hx hb dX14_ever_60 (by decide) (fun c60 => ?_) (fun c60 => ?_)
      · have hf := ifp c60 hf
        refine lv_aload_n hx hb dX14_ever_224 rfl (lv_at hl 0 rfl) ?_
        refine lv_iconst (v := 0) hx hb dX14_ever_225 (by decide) ?_
        obtain ⟨g226, hf⟩ := gd_some hf
        obtain ⟨s226, e226, hf⟩ := bnd_some hf
        refine aw_pI e226 hC hW g226 fl_X14_15 (Or.inl fn_13_1) rfl rfl rfl dX14_ever_226 (fun H locs hW => ?_)
        have g226 := ko_pI e226 g226
        refine lv_aload_n hx hb dX14_ever_229 rfl (lv_at hl 0 rfl) ?_
        refine lv_iload_n hx hb dX14_ever_230 rfl (lv_at hl 1 rfl) ?_
        refine lv_if_ne (tgt := 238) hx hb dX14_ever_231 (by decide) (fun c231 => ?_) (fun c231 => ?_)
        · have hf := ifn c231 hf
          refine lv_iload_n hx hb dX14_ever_238 rfl (lv_at hl 3 rfl) ?_
          refine lv_iload_n hx hb dX14_ever_239 rfl (lv_at hl 2 rfl) ?_
          refine lv_iconst (v := 1) hx hb dX14_ever_240 (by decide) ?_
          refine lv_isub hx hb dX14_ever_241 ?_
          refine lv_iand hx hb dX14_ever_242 ?_
          refine lv_i2l (v := ((x3 &&& (x2 - 1)) : Int32).toInt64) hx hb dX14_ever_243 rfl ?_
          exact B244 x4 (((x3 &&& (x2 - 1)) : Int32).toInt64) r0 s226 hf _ _ _ (lv_sub hl [4] rfl) hW
        · have hf := ifp c231 hf
          refine lv_lconst (v := 0) hx hb dX14_ever_234 (by decide) ?_
          refine lv_goto (tgt := 244) hx hb dX14_ever_235 (by decide) ?_
          exact B244 x4 0 r0 s226 hf _ _ _ (lv_sub hl [4] rfl) hW
      · have hf := ifn c60 hf
        refine lv_iload_n hx hb dX14_ever_63 rfl (lv_at hl 3 rfl) ?_
        refine lv_istore (lv' := [(6, .int x3), (0, .ref (a r0)), (1, .int x1), (2, .int x2), (3, .int x3), (4, .int x4), (5, .int x5)]) hx hb dX14_ever_64 hl (by decide) rfl (fun ls hl => ?_)
        refine lv_iconst (v := 0) hx hb dX14_ever_66 (by decide) ?_
        refine lv_istore (lv' := [(7, .int 0), (6, .int x3), (0, .ref (a r0)), (1, .int x1), (2, .int x2), (3, .int x3), (4, .int x4), (5, .int x5)]) hx hb dX14_ever_67 hl (by decide) rfl (fun ls hl => ?_)
        exact B69 (f_X14_ever_b57 n) ih fuel r0 x1 x2 x3 x4 x5 x3 0 s hf _ _ _ (lv_sub hl [2, 3, 4, 5, 6, 7, 1, 0] rfl) hW
  have B50 : ∀ (r0 : Nat) (x1 : Int32) (x2 : Int32) (t0 : Int32) (s : ST), f_X14_ever_b50 r0 x1 x2 t0 s = some (rv, sf) → ∀ (H : Heap) (locs : List Loc) (ls : Array Slot), lv_has ls 10 [(0, .ref (a r0)), (1, .int x1), (2, .int x2)] → AW G a A s s0.heap H locs → WB p l e (rmD 3) s0 m args below meth c H locs G A P 50 ls [.int t0] := by
    intro r0 x1 x2 t0 s hf H locs ls hl hW
    unfold f_X14_ever_b50 at hf
    refine lv_istore_n (lv' := [(3, .int t0), (0, .ref (a r0)), (1, .int x1), (2, .int x2)]) hx hb dX14_ever_50 rfl hl (by decide) rfl (fun ls hl => ?_)
    refine lv_iconst (v := 0) hx hb dX14_ever_51 (by decide) ?_
    refine lv_istore (lv' := [(4, .int 0), (3, .int t0), (0, .ref (a r0)), (1, .int x1), (2, .int x2)]) hx hb dX14_ever_52 hl (by decide) rfl (fun ls hl => ?_)
    refine lv_iconst (v := 0) hx hb dX14_ever_54 (by decide) ?_
    refine lv_istore (lv' := [(5, .int 0), (4, .int 0), (3, .int t0), (0, .ref (a r0)), (1, .int x1), (2, .int x2)]) hx hb dX14_ever_55 hl (by decide) rfl (fun ls hl => ?_)
    exact B57 fuel r0 x1 x2 t0 0 0 s hf _ _ _ (lv_sub hl [3, 4, 5, 2, 1, 0] rfl) hW
  unfold f_X14_ever at hf
  refine lv_aload_n hx hb dX14_ever_0 rfl (lv_at hl 0 rfl) ?_
  refine lv_iconst (v := 0) hx hb dX14_ever_1 (by decide) ?_
  obtain ⟨g2, hf⟩ := gd_some hf
  obtain ⟨s2, e2, hf⟩ := bnd_some hf
  refine aw_pI e2 hC hW g2 fl_X14_3 (Or.inl fn_13_0) rfl rfl rfl dX14_ever_2 (fun H locs hW => ?_)
  have g2 := ko_pI e2 g2
  refine lv_iload_n hx hb dX14_ever_5 rfl (lv_at hl 1 rfl) ?_
  refine lv_i2l (v := (x1 : Int32).toInt64) hx hb dX14_ever_6 rfl ?_
  refine lv_lconst (v := 0) hx hb dX14_ever_7 (by decide) ?_
  refine lv_ldc2 (v := 12) hx hb hC.2.2.2.1 (hts _ q1776) dX14_ever_8 ?_
  obtain ⟨v11, ev11, hf⟩ := bnd_some hf
  refine aw_dS1 (As := [.long ((x1 : Int32).toInt64), .long 0, .long 12]) (rest := []) (pc_X14_in l G a ((x1 : Int32).toInt64) 0 12 s2) hC hW hl.1 sy_X14_in (Or.inl q1514) rfl rfl (Nat.le_of_ble_eq_true rfl) ⟨Nat.le_of_ble_eq_true rfl, Nat.le_of_ble_eq_true rfl⟩ ⟨Nat.le_of_ble_eq_true rfl, Nat.le_of_ble_eq_true rfl⟩ dX14_ever_11 (fun H locs hW => ?_)
  refine top_i ev11 ?_
  refine lv_if_ne (tgt := 19) hx hb dX14_ever_14 (by decide) (fun c14 => ?_) (fun c14 => ?_)
  · have hf := ifn c14 hf
    refine lv_aload_n hx hb dX14_ever_19 rfl (lv_at hl 0 rfl) ?_
    obtain ⟨_, s20, h20, hf⟩ := ob_some hf
    refine aw_dV0 (r := o) (As := []) (rest := []) (ct_X14_starts l G a o s2 () s20 h20) hC hW hl.1 vy_X14_starts (Or.inl q1749) g2 rfl rfl rfl rfl (Nat.le_of_ble_eq_true rfl) ⟨Nat.le_of_ble_eq_true rfl, Nat.le_of_ble_eq_true rfl⟩ ⟨Nat.le_of_ble_eq_true rfl, Nat.le_of_ble_eq_true rfl⟩ dX14_ever_20 (fun H locs hW => ?_)
    refine lv_sipush (v := 256) hx hb dX14_ever_23 (by decide) ?_
    refine lv_istore_n (lv' := [(2, .int 256), (0, .ref (a o)), (1, .int x1)]) hx hb dX14_ever_26 rfl hl (by decide) rfl (fun ls hl => ?_)
    refine lv_aload_n hx hb dX14_ever_27 rfl (lv_at hl 1 rfl) ?_
    obtain ⟨g28, hf⟩ := gd_some hf
    obtain ⟨q28, hq28, hf⟩ := bi_some hf
    refine aw_gR hC hW g28 fl_X14_44 rfl hq28 dX14_ever_28 ?_
    refine lv_bipush (v := 17) hx hb dX14_ever_31 (by decide) ?_
    obtain ⟨g33, hf⟩ := gd_some hf
    refine aw_iald hC hW g33 dX14_ever_33 ?_
    refine lv_if_ge (tgt := 41) hx hb dX14_ever_34 (by decide) (fun c34 => ?_) (fun c34 => ?_)
    · have hf := ifp c34 hf
      refine lv_iconst (v := 1) hx hb dX14_ever_41 (by decide) ?_
      refine lv_aload_n hx hb dX14_ever_42 rfl (lv_at hl 1 rfl) ?_
      obtain ⟨q43, hq43, hf⟩ := bi_some hf
      refine aw_gR hC hW g28 fl_X14_44 rfl hq43 dX14_ever_43 ?_
      refine lv_bipush (v := 17) hx hb dX14_ever_46 (by decide) ?_
      obtain ⟨g48, hf⟩ := gd_some hf
      refine aw_iald hC hW g48 dX14_ever_48 ?_
      refine lv_ishl hx hb dX14_ever_49 ?_
      exact B50 o x1 256 (1 <<< ((gi s20 q43 (17 : Int32).toNatClampNeg) &&& 31)) s20 hf _ _ _ (lv_sub hl [1, 2, 0] rfl) hW
    · have hf := ifn c34 hf
      refine lv_iload_n hx hb dX14_ever_37 rfl (lv_at hl 0 rfl) ?_
      refine lv_goto (tgt := 50) hx hb dX14_ever_38 (by decide) ?_
      exact B50 o x1 256 256 s20 hf _ _ _ (lv_sub hl [1, 2, 0] rfl) hW
  · have hf := ifp c14 hf
    refine lv_iconst (v := (-1)) hx hb dX14_ever_17 (by decide) ?_
    obtain ⟨e1, e2⟩ := so_inj hf
    exact aw_iret hC hW hr rfl (p_eq hP (congrArg (fun z => some (Value.int z)) e1) e2) (Nat.le_of_ble_eq_true rfl) (Nat.le_of_ble_eq_true rfl) dX14_ever_18
def f_X14_tellsSpan (o : Nat) (x1 : Int32) (x2 : Int32) (x3 : Int32) (s : ST) : Option (Unit × ST) :=
  gd (o < s.1 ∧ (kd s o).1 = 14) <|
  bnd (pI s o 1 0) fun s2 =>
  if x1 ≤ 0 then (some ((), s2)) else ob (f_X14_enters o ((x2 : Int32).toInt64) s2) fun _ s12 =>
  gd (o < s12.1 ∧ (kd s12 o).1 = 14) <|
  ob (f_X14_enters o ((x3 : Int32).toInt64) s12) fun _ s18 =>
  some ((), s18)
set_option maxHeartbeats 4000000 in
theorem ct_X14_tellsSpan (l : Launch) (G : GM) (a : Nat → Nat) (o : Nat) (x1 : Int32) (x2 : Int32) (x3 : Int32) (s : ST) (rv : Unit) (sf : ST) (hf : f_X14_tellsSpan o x1 x2 x3 s = some (rv, sf)) : MD l G yX14_tellsSpan (ws_ yX14_tellsSpan cX14_tellsSpan 4 none) 1 [.ref (a o), .int x1, .int x2, .int x3] a s none sf := by
  refine md_of (d := 1) (lv := [(0, .ref (a o)), (1, .int x1), (2, .int x2), (3, .int x3)]) (Or.inl (by decide)) (Nat.le_of_ble_eq_true rfl) rfl ?_
  intro p e s0 m args below meth c ls A P hP hC hr hnm hW hl
  have hx := hC.1
  have hb := hC.2.1
  have hts := hC.2.2.2.2.1
  unfold f_X14_tellsSpan at hf
  refine lv_aload_n hx hb dX14_tellsSpan_0 rfl (lv_at hl 0 rfl) ?_
  refine lv_iconst (v := 0) hx hb dX14_tellsSpan_1 (by decide) ?_
  obtain ⟨g2, hf⟩ := gd_some hf
  obtain ⟨s2, e2, hf⟩ := bnd_some hf
  refine aw_pI e2 hC hW g2 fl_X14_15 (Or.inl fn_13_1) rfl rfl rfl dX14_tellsSpan_2 (fun H locs hW => ?_)
  have g2 := ko_pI e2 g2
  refine lv_iload_n hx hb dX14_tellsSpan_5 rfl (lv_at hl 1 rfl) ?_
  refine lv_if_le (tgt := 21) hx hb dX14_tellsSpan_6 (by decide) (fun c6 => ?_) (fun c6 => ?_)
  · have hf := ifp c6 hf
    obtain ⟨e1, e2⟩ := so_inj hf
    exact aw_vret hC hW hr (p_eq hP rfl e2) (Nat.le_of_ble_eq_true rfl) (Nat.le_of_ble_eq_true rfl) dX14_tellsSpan_21
  · have hf := ifn c6 hf
    refine lv_aload_n hx hb dX14_tellsSpan_9 rfl (lv_at hl 0 rfl) ?_
    refine lv_iload_n hx hb dX14_tellsSpan_10 rfl (lv_at hl 2 rfl) ?_
    refine lv_i2l (v := (x2 : Int32).toInt64) hx hb dX14_tellsSpan_11 rfl ?_
    obtain ⟨_, s12, h12, hf⟩ := ob_some hf
    refine aw_dV0 (r := o) (As := [.long ((x2 : Int32).toInt64)]) (rest := []) (ct_X14_enters l G a o ((x2 : Int32).toInt64) s2 () s12 h12) hC hW hl.1 vy_X14_enters (Or.inl q1689) g2 rfl rfl rfl rfl (Nat.le_of_ble_eq_true rfl) ⟨Nat.le_of_ble_eq_true rfl, Nat.le_of_ble_eq_true rfl⟩ ⟨Nat.le_of_ble_eq_true rfl, Nat.le_of_ble_eq_true rfl⟩ dX14_tellsSpan_12 (fun H locs hW => ?_)
    refine lv_aload_n hx hb dX14_tellsSpan_15 rfl (lv_at hl 0 rfl) ?_
    refine lv_iload_n hx hb dX14_tellsSpan_16 rfl (lv_at hl 3 rfl) ?_
    refine lv_i2l (v := (x3 : Int32).toInt64) hx hb dX14_tellsSpan_17 rfl ?_
    obtain ⟨g18, hf⟩ := gd_some hf
    obtain ⟨_, s18, h18, hf⟩ := ob_some hf
    refine aw_dV0 (r := o) (As := [.long ((x3 : Int32).toInt64)]) (rest := []) (ct_X14_enters l G a o ((x3 : Int32).toInt64) s12 () s18 h18) hC hW hl.1 vy_X14_enters (Or.inl q1689) g18 rfl rfl rfl rfl (Nat.le_of_ble_eq_true rfl) ⟨Nat.le_of_ble_eq_true rfl, Nat.le_of_ble_eq_true rfl⟩ ⟨Nat.le_of_ble_eq_true rfl, Nat.le_of_ble_eq_true rfl⟩ dX14_tellsSpan_18 (fun H locs hW => ?_)
    obtain ⟨e1, e2⟩ := so_inj hf
    exact aw_vret hC hW hr (p_eq hP rfl e2) (Nat.le_of_ble_eq_true rfl) (Nat.le_of_ble_eq_true rfl) dX14_tellsSpan_21
def f_X14_explains_b71 (K25 : Nat → Int32 → Int32 → Int32 → Int32 → Int32 → ST → Option (Int32 × ST)) (r0 : Nat) (x1 : Int32) (x2 : Int32) (x3 : Int32) (x4 : Int32) (x5 : Int32) (s : ST) : Option (Int32 × ST) :=
  bnd (x5 + 1 : Int32) fun v71 =>
  K25 r0 x1 x2 x3 x4 v71 s
def f_X14_explains_b63 (K25 : Nat → Int32 → Int32 → Int32 → Int32 → Int32 → ST → Option (Int32 × ST)) (r0 : Nat) (x1 : Int32) (x2 : Int32) (x5 : Int32) (t0 : Int32) (s : ST) : Option (Int32 × ST) :=
  bnd (x2 + 1 : Int32) fun v68 =>
  f_X14_explains_b71 K25 r0 x1 v68 t0 x5 x5 s
def f_X14_explains_b25 : Nat → Nat → Int32 → Int32 → Int32 → Int32 → Int32 → ST → Option (Int32 × ST)
  | 0, _, _, _, _, _, _, _ => none
  | n + 1, r0, x1, x2, x3, x4, x5, s =>
  if 999 < x5 then (gd (r0 < s.1 ∧ (kd s r0).1 = 14) <|
  ob (f_X14_tellsSpan r0 x2 x3 x4 s) fun _ s82 =>
  some (x2, s82)) else gd (r0 < s.1 ∧ (kd s r0).1 = 14) <|
  ob (f_X14_starts r0 s) fun _ s34 =>
  gd (r0 < s34.1 ∧ (kd s34 r0).1 = 14) <|
  (gr s34 r0 11).bind fun q38 =>
  gd (q38 < s34.1 ∧ (kd s34 q38).1 = 100 ∧ ¬ ((x1 : Int32) < 0 ∨ (kd s34 q38).2 ≤ (x1 : Int32).toNatClampNeg)) <|
  bnd (pI s34 q38 (x1 : Int32).toNatClampNeg x5) fun s44 =>
  ob (f_X14_isSo r0 0 s44) fun v47 s47 =>
  if v47 = 0 then (f_X14_explains_b71 (f_X14_explains_b25 n) r0 x1 x2 x3 x4 x5 s47) else if x2 = 0 then (f_X14_explains_b63 (f_X14_explains_b25 n) r0 x1 x2 x5 x5 s47) else f_X14_explains_b63 (f_X14_explains_b25 n) r0 x1 x2 x5 x3 s47
def f_X14_explains (o : Nat) (x1 : Int32) (s : ST) : Option (Int32 × ST) :=
  gd (o < s.1 ∧ (kd s o).1 = 14) <|
  bnd (pI s o 0 0) fun s2 =>
  ob (f_X14_isAlive o x1 s2) fun v7 s7 =>
  if v7 = 0 then (some ((-1), s7)) else f_X14_explains_b25 fuel o x1 0 0 0 1 s7
set_option maxHeartbeats 4000000 in
theorem ct_X14_explains (l : Launch) (G : GM) (a : Nat → Nat) (o : Nat) (x1 : Int32) (s : ST) (rv : Int32) (sf : ST) (hf : f_X14_explains o x1 s = some (rv, sf)) : MD l G yX14_explains (ws_ yX14_explains cX14_explains 6 (some .int)) 7 [.ref (a o), .int x1] a s (some (.int rv)) sf := by
  refine md_of (d := 7) (lv := [(0, .ref (a o)), (1, .int x1)]) (Or.inl (by decide)) (Nat.le_of_ble_eq_true rfl) rfl ?_
  intro p e s0 m args below meth c ls A P hP hC hr hnm hW hl
  have hx := hC.1
  have hb := hC.2.1
  have hts := hC.2.2.2.2.1
  have B71 : ∀ (K25 : Nat → Int32 → Int32 → Int32 → Int32 → Int32 → ST → Option (Int32 × ST)) (hK25 : ∀ (r0 : Nat) (x1 : Int32) (x2 : Int32) (x3 : Int32) (x4 : Int32) (x5 : Int32) (s : ST), K25 r0 x1 x2 x3 x4 x5 s = some (rv, sf) → ∀ (H : Heap) (locs : List Loc) (ls : Array Slot), lv_has ls 6 [(0, .ref (a r0)), (1, .int x1), (2, .int x2), (3, .int x3), (4, .int x4), (5, .int x5)] → AW G a A s s0.heap H locs → WB p l e (rmD 7) s0 m args below meth c H locs G A P 25 ls []), ∀ (r0 : Nat) (x1 : Int32) (x2 : Int32) (x3 : Int32) (x4 : Int32) (x5 : Int32) (s : ST), f_X14_explains_b71 K25 r0 x1 x2 x3 x4 x5 s = some (rv, sf) → ∀ (H : Heap) (locs : List Loc) (ls : Array Slot), lv_has ls 6 [(0, .ref (a r0)), (1, .int x1), (2, .int x2), (3, .int x3), (4, .int x4), (5, .int x5)] → AW G a A s s0.heap H locs → WB p l e (rmD 7) s0 m args below meth c H locs G A P 71 ls [] := by
    intro K25 hK25 r0 x1 x2 x3 x4 x5 s hf H locs ls hl hW
    unfold f_X14_explains_b71 at hf
    obtain ⟨v71, ev71, hf⟩ := bnd_some hf
    refine lv_iinc (v := v71) (lv' := [(5, .int v71), (0, .ref (a r0)), (1, .int x1), (2, .int x2), (3, .int x3), (4, .int x4)]) hx hb dX14_explains_71 hl (k := 5) rfl (by rw [ev71]; rfl) (by decide) rfl (fun ls hl => ?_)
    refine lv_goto (tgt := 25) hx hb dX14_explains_74 (by decide) ?_
    exact hK25 r0 x1 x2 x3 x4 v71 s hf _ _ _ (lv_sub hl [1, 2, 3, 4, 5, 0] rfl) hW
  have B63 : ∀ (K25 : Nat → Int32 → Int32 → Int32 → Int32 → Int32 → ST → Option (Int32 × ST)) (hK25 : ∀ (r0 : Nat) (x1 : Int32) (x2 : Int32) (x3 : Int32) (x4 : Int32) (x5 : Int32) (s : ST), K25 r0 x1 x2 x3 x4 x5 s = some (rv, sf) → ∀ (H : Heap) (locs : List Loc) (ls : Array Slot), lv_has ls 6 [(0, .ref (a r0)), (1, .int x1), (2, .int x2), (3, .int x3), (4, .int x4), (5, .int x5)] → AW G a A s s0.heap H locs → WB p l e (rmD 7) s0 m args below meth c H locs G A P 25 ls []), ∀ (r0 : Nat) (x1 : Int32) (x2 : Int32) (x5 : Int32) (t0 : Int32) (s : ST), f_X14_explains_b63 K25 r0 x1 x2 x5 t0 s = some (rv, sf) → ∀ (H : Heap) (locs : List Loc) (ls : Array Slot), lv_has ls 6 [(0, .ref (a r0)), (1, .int x1), (2, .int x2), (5, .int x5)] → AW G a A s s0.heap H locs → WB p l e (rmD 7) s0 m args below meth c H locs G A P 63 ls [.int t0] := by
    intro K25 hK25 r0 x1 x2 x5 t0 s hf H locs ls hl hW
    unfold f_X14_explains_b63 at hf
    refine lv_istore_n (lv' := [(3, .int t0), (0, .ref (a r0)), (1, .int x1), (2, .int x2), (5, .int x5)]) hx hb dX14_explains_63 rfl hl (by decide) rfl (fun ls hl => ?_)
    refine lv_iload hx hb dX14_explains_64 (lv_at hl 4 rfl) ?_
    refine lv_istore (lv' := [(4, .int x5), (3, .int t0), (0, .ref (a r0)), (1, .int x1), (2, .int x2), (5, .int x5)]) hx hb dX14_explains_66 hl (by decide) rfl (fun ls hl => ?_)
    obtain ⟨v68, ev68, hf⟩ := bnd_some hf
    refine lv_iinc (v := v68) (lv' := [(2, .int v68), (4, .int x5), (3, .int t0), (0, .ref (a r0)), (1, .int x1), (5, .int x5)]) hx hb dX14_explains_68 hl (k := 4) rfl (by rw [ev68]; rfl) (by decide) rfl (fun ls hl => ?_)
    exact B71 K25 hK25 r0 x1 v68 t0 x5 x5 s hf _ _ _ (lv_sub hl [3, 4, 0, 2, 1, 5] rfl) hW
  have B25 : ∀ (n : Nat), ∀ (r0 : Nat) (x1 : Int32) (x2 : Int32) (x3 : Int32) (x4 : Int32) (x5 : Int32) (s : ST), f_X14_explains_b25 n r0 x1 x2 x3 x4 x5 s = some (rv, sf) → ∀ (H : Heap) (locs : List Loc) (ls : Array Slot), lv_has ls 6 [(0, .ref (a r0)), (1, .int x1), (2, .int x2), (3, .int x3), (4, .int x4), (5, .int x5)] → AW G a A s s0.heap H locs → WB p l e (rmD 7) s0 m args below meth c H locs G A P 25 ls [] := by
    intro n
    induction n with
    | zero => intro r0 x1 x2 x3 x4 x5 s hf; cases hf
    | succ n ih =>
      intro r0 x1 x2 x3 x4 x5 s hf H locs ls hl hW
      rw [f_X14_explains_b25] at hf
      refine lv_iload hx hb dX14_explains_25 (lv_at hl 5 rfl) ?_
      refine lv_sipush (v := 999) hx hb dX14_explains_27 (by decide) ?_
      refine lv_icmp_gt (tgt := 77) hx hb dX14_explains_30 (by decide) (fun c30 => ?_) (fun c30 => ?_)
      · have hf := ifp c30 hf
        refine lv_aload_n hx hb dX14_explains_77 rfl (lv_at hl 0 rfl) ?_
        refine lv_iload_n hx hb dX14_explains_78 rfl (lv_at hl 2 rfl) ?_
        refine lv_iload_n hx hb dX14_explains_79 rfl (lv_at hl 3 rfl) ?_
        refine lv_iload hx hb dX14_explains_80 (lv_at hl 4 rfl) ?_
        obtain ⟨g82, hf⟩ := gd_some hf
        obtain ⟨_, s82, h82, hf⟩ := ob_some hf
        refine aw_dV0 (r := r0) (As := [.int x2, .int x3, .int x4]) (rest := []) (ct_X14_tellsSpan l G a r0 x2 x3 x4 s () s82 h82) hC hW hl.1 vy_X14_tellsSpan (Or.inl q1858) g82 rfl rfl rfl rfl (Nat.le_of_ble_eq_true rfl) ⟨Nat.le_of_ble_eq_true rfl, Nat.le_of_ble_eq_true rfl⟩ ⟨Nat.le_of_ble_eq_true rfl, Nat.le_of_ble_eq_true rfl⟩ dX14_explains_82 (fun H locs hW => ?_)
        refine lv_iload_n hx hb dX14_explains_85 rfl (lv_at hl 2 rfl) ?_
        obtain ⟨e1, e2⟩ := so_inj hf
        exact aw_iret hC hW hr rfl (p_eq hP (congrArg (fun z => some (Value.int z)) e1) e2) (Nat.le_of_ble_eq_true rfl) (Nat.le_of_ble_eq_true rfl) dX14_explains_86
      · have hf := ifn c30 hf
        refine lv_aload_n hx hb dX14_explains_33 rfl (lv_at hl 0 rfl) ?_
        obtain ⟨g34, hf⟩ := gd_some hf
        obtain ⟨_, s34, h34, hf⟩ := ob_some hf
        refine aw_dV0 (r := r0) (As := []) (rest := []) (ct_X14_starts l G a r0 s () s34 h34) hC hW hl.1 vy_X14_starts (Or.inl q1749) g34 rfl rfl rfl rfl (Nat.le_of_ble_eq_true rfl) ⟨Nat.le_of_ble_eq_true rfl, Nat.le_of_ble_eq_true rfl⟩ ⟨Nat.le_of_ble_eq_true rfl, Nat.le_of_ble_eq_true rfl⟩ dX14_explains_34 (fun H locs hW => ?_)
        refine lv_aload_n hx hb dX14_explains_37 rfl (lv_at hl 0 rfl) ?_
        obtain ⟨g38, hf⟩ := gd_some hf
        obtain ⟨q38, hq38, hf⟩ := bi_some hf
        refine aw_gR hC hW g38 fl_X14_47 rfl hq38 dX14_explains_38 ?_
        refine lv_iload_n hx hb dX14_explains_41 rfl (lv_at hl 1 rfl) ?_
        refine lv_iload hx hb dX14_explains_42 (lv_at hl 5 rfl) ?_
        obtain ⟨g44, hf⟩ := gd_some hf
        obtain ⟨s44, e44, hf⟩ := bnd_some hf
        refine aw_iast e44 hC hW g44 dX14_explains_44 (fun H locs hW => ?_)
        have g38 := ko_pI e44 g38
        refine lv_aload_n hx hb dX14_explains_45 rfl (lv_at hl 0 rfl) ?_
        refine lv_iconst (v := 0) hx hb dX14_explains_46 (by decide) ?_
        obtain ⟨v47, s47, h47, hf⟩ := ob_some hf
        refine aw_dV1 (r := r0) (As := [.int 0]) (rest := []) (ct_X14_isSo l G a r0 0 s44 v47 s47 h47) hC hW hl.1 vy_X14_isSo (Or.inl q1890) g38 rfl rfl rfl rfl (Nat.le_of_ble_eq_true rfl) ⟨Nat.le_of_ble_eq_true rfl, Nat.le_of_ble_eq_true rfl⟩ ⟨Nat.le_of_ble_eq_true rfl, Nat.le_of_ble_eq_true rfl⟩ dX14_explains_47 (fun H locs hW => ?_)
        refine lv_if_eq (tgt := 71) hx hb dX14_explains_50 (by decide) (fun c50 => ?_) (fun c50 => ?_)
        · have hf := ifp c50 hf
          exact B71 (f_X14_explains_b25 n) ih r0 x1 x2 x3 x4 x5 s47 hf _ _ _ (lv_sub hl [0, 1, 2, 3, 4, 5] rfl) hW
        · have hf := ifn c50 hf
          refine lv_iload_n hx hb dX14_explains_53 rfl (lv_at hl 2 rfl) ?_
          refine lv_if_ne (tgt := 62) hx hb dX14_explains_54 (by decide) (fun c54 => ?_) (fun c54 => ?_)
          · have hf := ifn c54 hf
            refine lv_iload_n hx hb dX14_explains_62 rfl (lv_at hl 3 rfl) ?_
            exact B63 (f_X14_explains_b25 n) ih r0 x1 x2 x5 x3 s47 hf _ _ _ (lv_sub hl [0, 1, 2, 5] rfl) hW
          · have hf := ifp c54 hf
            refine lv_iload hx hb dX14_explains_57 (lv_at hl 5 rfl) ?_
            refine lv_goto (tgt := 63) hx hb dX14_explains_59 (by decide) ?_
            exact B63 (f_X14_explains_b25 n) ih r0 x1 x2 x5 x5 s47 hf _ _ _ (lv_sub hl [0, 1, 2, 5] rfl) hW
  unfold f_X14_explains at hf
  refine lv_aload_n hx hb dX14_explains_0 rfl (lv_at hl 0 rfl) ?_
  refine lv_iconst (v := 0) hx hb dX14_explains_1 (by decide) ?_
  obtain ⟨g2, hf⟩ := gd_some hf
  obtain ⟨s2, e2, hf⟩ := bnd_some hf
  refine aw_pI e2 hC hW g2 fl_X14_3 (Or.inl fn_13_0) rfl rfl rfl dX14_explains_2 (fun H locs hW => ?_)
  have g2 := ko_pI e2 g2
  refine lv_aload_n hx hb dX14_explains_5 rfl (lv_at hl 0 rfl) ?_
  refine lv_iload_n hx hb dX14_explains_6 rfl (lv_at hl 1 rfl) ?_
  obtain ⟨v7, s7, h7, hf⟩ := ob_some hf
  refine aw_dV1 (r := o) (As := [.int x1]) (rest := []) (ct_X14_isAlive l G a o x1 s2 v7 s7 h7) hC hW hl.1 vy_X14_isAlive (Or.inl q1722) g2 rfl rfl rfl rfl (Nat.le_of_ble_eq_true rfl) ⟨Nat.le_of_ble_eq_true rfl, Nat.le_of_ble_eq_true rfl⟩ ⟨Nat.le_of_ble_eq_true rfl, Nat.le_of_ble_eq_true rfl⟩ dX14_explains_7 (fun H locs hW => ?_)
  refine lv_if_ne (tgt := 15) hx hb dX14_explains_10 (by decide) (fun c10 => ?_) (fun c10 => ?_)
  · have hf := ifn c10 hf
    refine lv_iconst (v := 0) hx hb dX14_explains_15 (by decide) ?_
    refine lv_istore_n (lv' := [(2, .int 0), (0, .ref (a o)), (1, .int x1)]) hx hb dX14_explains_16 rfl hl (by decide) rfl (fun ls hl => ?_)
    refine lv_iconst (v := 0) hx hb dX14_explains_17 (by decide) ?_
    refine lv_istore_n (lv' := [(3, .int 0), (2, .int 0), (0, .ref (a o)), (1, .int x1)]) hx hb dX14_explains_18 rfl hl (by decide) rfl (fun ls hl => ?_)
    refine lv_iconst (v := 0) hx hb dX14_explains_19 (by decide) ?_
    refine lv_istore (lv' := [(4, .int 0), (3, .int 0), (2, .int 0), (0, .ref (a o)), (1, .int x1)]) hx hb dX14_explains_20 hl (by decide) rfl (fun ls hl => ?_)
    refine lv_iconst (v := 1) hx hb dX14_explains_22 (by decide) ?_
    refine lv_istore (lv' := [(5, .int 1), (4, .int 0), (3, .int 0), (2, .int 0), (0, .ref (a o)), (1, .int x1)]) hx hb dX14_explains_23 hl (by decide) rfl (fun ls hl => ?_)
    exact B25 fuel o x1 0 0 0 1 s7 hf _ _ _ (lv_sub hl [4, 5, 3, 2, 1, 0] rfl) hW
  · have hf := ifp c10 hf
    refine lv_iconst (v := (-1)) hx hb dX14_explains_13 (by decide) ?_
    obtain ⟨e1, e2⟩ := so_inj hf
    exact aw_iret hC hW hr rfl (p_eq hP (congrArg (fun z => some (Value.int z)) e1) e2) (Nat.le_of_ble_eq_true rfl) (Nat.le_of_ble_eq_true rfl) dX14_explains_14
def f_X14_fast (o : Nat) (x1 : Int32) (x2 : Int32) (s : ST) : Option (Int32 × ST) :=
  gd (o < s.1 ∧ (kd s o).1 = 14) <|
  bnd (pI s o 0 0) fun s2 =>
  ob (f_X14_isAlive o x1 s2) fun v7 s7 =>
  if v7 = 0 then (some ((-1), s7)) else bnd (p_in ((x2 : Int32).toInt64) 1 99) fun v19 =>
  if v19 = 0 then (some ((-1), s7)) else gd (o < s7.1 ∧ (kd s7 o).1 = 14) <|
  ob (f_X14_eats o x1 (-x2) s7) fun v29 s29 =>
  some (v29, s29)
set_option maxHeartbeats 4000000 in
theorem ct_X14_fast (l : Launch) (G : GM) (a : Nat → Nat) (o : Nat) (x1 : Int32) (x2 : Int32) (s : ST) (rv : Int32) (sf : ST) (hf : f_X14_fast o x1 x2 s = some (rv, sf)) : MD l G yX14_fast (ws_ yX14_fast cX14_fast 3 (some .int)) 3 [.ref (a o), .int x1, .int x2] a s (some (.int rv)) sf := by
  refine md_of (d := 3) (lv := [(0, .ref (a o)), (1, .int x1), (2, .int x2)]) (Or.inl (by decide)) (Nat.le_of_ble_eq_true rfl) rfl ?_
  intro p e s0 m args below meth c ls A P hP hC hr hnm hW hl
  have hx := hC.1
  have hb := hC.2.1
  have hts := hC.2.2.2.2.1
  unfold f_X14_fast at hf
  refine lv_aload_n hx hb dX14_fast_0 rfl (lv_at hl 0 rfl) ?_
  refine lv_iconst (v := 0) hx hb dX14_fast_1 (by decide) ?_
  obtain ⟨g2, hf⟩ := gd_some hf
  obtain ⟨s2, e2, hf⟩ := bnd_some hf
  refine aw_pI e2 hC hW g2 fl_X14_3 (Or.inl fn_13_0) rfl rfl rfl dX14_fast_2 (fun H locs hW => ?_)
  have g2 := ko_pI e2 g2
  refine lv_aload_n hx hb dX14_fast_5 rfl (lv_at hl 0 rfl) ?_
  refine lv_iload_n hx hb dX14_fast_6 rfl (lv_at hl 1 rfl) ?_
  obtain ⟨v7, s7, h7, hf⟩ := ob_some hf
  refine aw_dV1 (r := o) (As := [.int x1]) (rest := []) (ct_X14_isAlive l G a o x1 s2 v7 s7 h7) hC hW hl.1 vy_X14_isAlive (Or.inl q1722) g2 rfl rfl rfl rfl (Nat.le_of_ble_eq_true rfl) ⟨Nat.le_of_ble_eq_true rfl, Nat.le_of_ble_eq_true rfl⟩ ⟨Nat.le_of_ble_eq_true rfl, Nat.le_of_ble_eq_true rfl⟩ dX14_fast_7 (fun H locs hW => ?_)
  refine lv_if_eq (tgt := 35) hx hb dX14_fast_10 (by decide) (fun c10 => ?_) (fun c10 => ?_)
  · have hf := ifp c10 hf
    refine lv_iconst (v := (-1)) hx hb dX14_fast_35 (by decide) ?_
    obtain ⟨e1, e2⟩ := so_inj hf
    exact aw_iret hC hW hr rfl (p_eq hP (congrArg (fun z => some (Value.int z)) e1) e2) (Nat.le_of_ble_eq_true rfl) (Nat.le_of_ble_eq_true rfl) dX14_fast_36
  · have hf := ifn c10 hf
    refine lv_iload_n hx hb dX14_fast_13 rfl (lv_at hl 2 rfl) ?_
    refine lv_i2l (v := (x2 : Int32).toInt64) hx hb dX14_fast_14 rfl ?_
    refine lv_lconst (v := 1) hx hb dX14_fast_15 (by decide) ?_
    refine lv_ldc2 (v := 99) hx hb hC.2.2.2.1 (hts _ q1697) dX14_fast_16 ?_
    obtain ⟨v19, ev19, hf⟩ := bnd_some hf
    refine aw_dS1 (As := [.long ((x2 : Int32).toInt64), .long 1, .long 99]) (rest := []) (pc_X14_in l G a ((x2 : Int32).toInt64) 1 99 s7) hC hW hl.1 sy_X14_in (Or.inl q1514) rfl rfl (Nat.le_of_ble_eq_true rfl) ⟨Nat.le_of_ble_eq_true rfl, Nat.le_of_ble_eq_true rfl⟩ ⟨Nat.le_of_ble_eq_true rfl, Nat.le_of_ble_eq_true rfl⟩ dX14_fast_19 (fun H locs hW => ?_)
    refine top_i ev19 ?_
    refine lv_if_eq (tgt := 35) hx hb dX14_fast_22 (by decide) (fun c22 => ?_) (fun c22 => ?_)
    · have hf := ifp c22 hf
      refine lv_iconst (v := (-1)) hx hb dX14_fast_35 (by decide) ?_
      obtain ⟨e1, e2⟩ := so_inj hf
      exact aw_iret hC hW hr rfl (p_eq hP (congrArg (fun z => some (Value.int z)) e1) e2) (Nat.le_of_ble_eq_true rfl) (Nat.le_of_ble_eq_true rfl) dX14_fast_36
    · have hf := ifn c22 hf
      refine lv_aload_n hx hb dX14_fast_25 rfl (lv_at hl 0 rfl) ?_
      refine lv_iload_n hx hb dX14_fast_26 rfl (lv_at hl 1 rfl) ?_
      refine lv_iload_n hx hb dX14_fast_27 rfl (lv_at hl 2 rfl) ?_
      refine lv_ineg hx hb dX14_fast_28 ?_
      obtain ⟨g29, hf⟩ := gd_some hf
      obtain ⟨v29, s29, h29, hf⟩ := ob_some hf
      refine aw_dV1 (r := o) (As := [.int x1, .int (-x2)]) (rest := []) (ct_X14_eats l G a o x1 (-x2) s7 v29 s29 h29) hC hW hl.1 vy_X14_eats (Or.inl q1726) g29 rfl rfl rfl rfl (Nat.le_of_ble_eq_true rfl) ⟨Nat.le_of_ble_eq_true rfl, Nat.le_of_ble_eq_true rfl⟩ ⟨Nat.le_of_ble_eq_true rfl, Nat.le_of_ble_eq_true rfl⟩ dX14_fast_29 (fun H locs hW => ?_)
      refine lv_goto (tgt := 36) hx hb dX14_fast_32 (by decide) ?_
      obtain ⟨e1, e2⟩ := so_inj hf
      exact aw_iret hC hW hr rfl (p_eq hP (congrArg (fun z => some (Value.int z)) e1) e2) (Nat.le_of_ble_eq_true rfl) (Nat.le_of_ble_eq_true rfl) dX14_fast_36
def f_X14_faultOf_b44 (r0 : Nat) (x4 : Int32) (s : ST) : Option (Int32 × ST) :=
  if x4 = 0 then (gd (r0 < s.1 ∧ (kd s r0).1 = 14) <|
  some (((-1) - (gi s r0 14)), s)) else some (0, s)
def f_X14_faultOf_b40 (x2 : Int32) (s : ST) : Option (Int32 × ST) :=
  some (((-1) - x2), s)
def f_X14_faultOf_b20 (r0 : Nat) (x1 : Int32) (x2 : Int32) (t0 : Int32) (s : ST) : Option (Int32 × ST) :=
  if x1 ≤ x2 then (f_X14_faultOf_b44 r0 t0 s) else if t0 = 0 then (gd (r0 < s.1 ∧ (kd s r0).1 = 14) <|
  if (gi s r0 14) < x2 then (f_X14_faultOf_b44 r0 t0 s) else f_X14_faultOf_b40 x2 s) else f_X14_faultOf_b40 x2 s
def f_X14_faultOf_b19 (r0 : Nat) (x1 : Int32) (x2 : Int32) (s : ST) : Option (Int32 × ST) :=
  f_X14_faultOf_b20 r0 x1 x2 0 s
def f_X14_faultOf (o : Nat) (x1 : Int32) (x2 : Int32) (x3 : Int32) (s : ST) : Option (Int32 × ST) :=
  if x3 = 0 then (f_X14_faultOf_b19 o x1 x2 s) else gd (o < s.1 ∧ (kd s o).1 = 14) <|
  if (gi s o 14) = (gi s o 15) then (f_X14_faultOf_b20 o x1 x2 1 s) else f_X14_faultOf_b19 o x1 x2 s
set_option maxHeartbeats 4000000 in
theorem ct_X14_faultOf (l : Launch) (G : GM) (a : Nat → Nat) (o : Nat) (x1 : Int32) (x2 : Int32) (x3 : Int32) (s : ST) (rv : Int32) (sf : ST) (hf : f_X14_faultOf o x1 x2 x3 s = some (rv, sf)) : MD l G yX14_faultOf (ws_ yX14_faultOf cX14_faultOf 5 (some .int)) 0 [.ref (a o), .int x1, .int x2, .int x3] a s (some (.int rv)) sf := by
  refine md_of (d := 0) (lv := [(0, .ref (a o)), (1, .int x1), (2, .int x2), (3, .int x3)]) (Or.inl (by decide)) (Nat.le_of_ble_eq_true rfl) rfl ?_
  intro p e s0 m args below meth c ls A P hP hC hr hnm hW hl
  have hx := hC.1
  have hb := hC.2.1
  have hts := hC.2.2.2.2.1
  have B44 : ∀ (r0 : Nat) (x4 : Int32) (s : ST), f_X14_faultOf_b44 r0 x4 s = some (rv, sf) → ∀ (H : Heap) (locs : List Loc) (ls : Array Slot), lv_has ls 5 [(0, .ref (a r0)), (4, .int x4)] → AW G a A s s0.heap H locs → WB p l e (rmD 0) s0 m args below meth c H locs G A P 44 ls [] := by
    intro r0 x4 s hf H locs ls hl hW
    unfold f_X14_faultOf_b44 at hf
    refine lv_iload hx hb dX14_faultOf_44 (lv_at hl 1 rfl) ?_
    refine lv_if_eq (tgt := 53) hx hb dX14_faultOf_46 (by decide) (fun c46 => ?_) (fun c46 => ?_)
    · have hf := ifp c46 hf
      refine lv_iconst (v := (-1)) hx hb dX14_faultOf_53 (by decide) ?_
      refine lv_aload_n hx hb dX14_faultOf_54 rfl (lv_at hl 0 rfl) ?_
      obtain ⟨g55, hf⟩ := gd_some hf
      refine aw_gI hC hW g55 fl_X14_135 rfl dX14_faultOf_55 ?_
      refine lv_isub hx hb dX14_faultOf_58 ?_
      obtain ⟨e1, e2⟩ := so_inj hf
      exact aw_iret hC hW hr rfl (p_eq hP (congrArg (fun z => some (Value.int z)) e1) e2) (Nat.le_of_ble_eq_true rfl) (Nat.le_of_ble_eq_true rfl) dX14_faultOf_59
    · have hf := ifn c46 hf
      refine lv_iconst (v := 0) hx hb dX14_faultOf_49 (by decide) ?_
      refine lv_goto (tgt := 59) hx hb dX14_faultOf_50 (by decide) ?_
      obtain ⟨e1, e2⟩ := so_inj hf
      exact aw_iret hC hW hr rfl (p_eq hP (congrArg (fun z => some (Value.int z)) e1) e2) (Nat.le_of_ble_eq_true rfl) (Nat.le_of_ble_eq_true rfl) dX14_faultOf_59
  have B40 : ∀ (x2 : Int32) (s : ST), f_X14_faultOf_b40 x2 s = some (rv, sf) → ∀ (H : Heap) (locs : List Loc) (ls : Array Slot), lv_has ls 5 [(2, .int x2)] → AW G a A s s0.heap H locs → WB p l e (rmD 0) s0 m args below meth c H locs G A P 40 ls [] := by
    intro x2 s hf H locs ls hl hW
    unfold f_X14_faultOf_b40 at hf
    refine lv_iconst (v := (-1)) hx hb dX14_faultOf_40 (by decide) ?_
    refine lv_iload_n hx hb dX14_faultOf_41 rfl (lv_at hl 0 rfl) ?_
    refine lv_isub hx hb dX14_faultOf_42 ?_
    obtain ⟨e1, e2⟩ := so_inj hf
    exact aw_iret hC hW hr rfl (p_eq hP (congrArg (fun z => some (Value.int z)) e1) e2) (Nat.le_of_ble_eq_true rfl) (Nat.le_of_ble_eq_true rfl) dX14_faultOf_43
  have B20 : ∀ (r0 : Nat) (x1 : Int32) (x2 : Int32) (t0 : Int32) (s : ST), f_X14_faultOf_b20 r0 x1 x2 t0 s = some (rv, sf) → ∀ (H : Heap) (locs : List Loc) (ls : Array Slot), lv_has ls 5 [(0, .ref (a r0)), (1, .int x1), (2, .int x2)] → AW G a A s s0.heap H locs → WB p l e (rmD 0) s0 m args below meth c H locs G A P 20 ls [.int t0] := by
    intro r0 x1 x2 t0 s hf H locs ls hl hW
    unfold f_X14_faultOf_b20 at hf
    refine lv_istore (lv' := [(4, .int t0), (0, .ref (a r0)), (1, .int x1), (2, .int x2)]) hx hb dX14_faultOf_20 hl (by decide) rfl (fun ls hl => ?_)
    refine lv_iload_n hx hb dX14_faultOf_22 rfl (lv_at hl 2 rfl) ?_
    refine lv_iload_n hx hb dX14_faultOf_23 rfl (lv_at hl 3 rfl) ?_
    refine lv_icmp_le (tgt := 44) hx hb dX14_faultOf_24 (by decide) (fun c24 => ?_) (fun c24 => ?_)
    · have hf := ifp c24 hf
      exact B44 r0 t0 s hf _ _ _ (lv_sub hl [1, 0] rfl) hW
    · have hf := ifn c24 hf
      refine lv_iload hx hb dX14_faultOf_27 (lv_at hl 0 rfl) ?_
      refine lv_if_ne (tgt := 40) hx hb dX14_faultOf_29 (by decide) (fun c29 => ?_) (fun c29 => ?_)
      · have hf := ifn c29 hf
        exact B40 x2 s hf _ _ _ (lv_sub hl [3] rfl) hW
      · have hf := ifp c29 hf
        refine lv_aload_n hx hb dX14_faultOf_32 rfl (lv_at hl 1 rfl) ?_
        obtain ⟨g33, hf⟩ := gd_some hf
        refine aw_gI hC hW g33 fl_X14_135 rfl dX14_faultOf_33 ?_
        refine lv_iload_n hx hb dX14_faultOf_36 rfl (lv_at hl 3 rfl) ?_
        refine lv_icmp_lt (tgt := 44) hx hb dX14_faultOf_37 (by decide) (fun c37 => ?_) (fun c37 => ?_)
        · have hf := ifp c37 hf
          exact B44 r0 t0 s hf _ _ _ (lv_sub hl [1, 0] rfl) hW
        · have hf := ifn c37 hf
          exact B40 x2 s hf _ _ _ (lv_sub hl [3] rfl) hW
  have B19 : ∀ (r0 : Nat) (x1 : Int32) (x2 : Int32) (s : ST), f_X14_faultOf_b19 r0 x1 x2 s = some (rv, sf) → ∀ (H : Heap) (locs : List Loc) (ls : Array Slot), lv_has ls 5 [(0, .ref (a r0)), (1, .int x1), (2, .int x2)] → AW G a A s s0.heap H locs → WB p l e (rmD 0) s0 m args below meth c H locs G A P 19 ls [] := by
    intro r0 x1 x2 s hf H locs ls hl hW
    unfold f_X14_faultOf_b19 at hf
    refine lv_iconst (v := 0) hx hb dX14_faultOf_19 (by decide) ?_
    exact B20 r0 x1 x2 0 s hf _ _ _ (lv_sub hl [0, 1, 2] rfl) hW
  unfold f_X14_faultOf at hf
  refine lv_iload_n hx hb dX14_faultOf_0 rfl (lv_at hl 3 rfl) ?_
  refine lv_if_eq (tgt := 19) hx hb dX14_faultOf_1 (by decide) (fun c1 => ?_) (fun c1 => ?_)
  · have hf := ifp c1 hf
    exact B19 o x1 x2 s hf _ _ _ (lv_sub hl [0, 1, 2] rfl) hW
  · have hf := ifn c1 hf
    refine lv_aload_n hx hb dX14_faultOf_4 rfl (lv_at hl 0 rfl) ?_
    obtain ⟨g5, hf⟩ := gd_some hf
    refine aw_gI hC hW g5 fl_X14_135 rfl dX14_faultOf_5 ?_
    refine lv_aload_n hx hb dX14_faultOf_8 rfl (lv_at hl 0 rfl) ?_
    refine aw_gI hC hW g5 fl_X14_147 rfl dX14_faultOf_9 ?_
    refine lv_icmp_ne (tgt := 19) hx hb dX14_faultOf_12 (by decide) (fun c12 => ?_) (fun c12 => ?_)
    · have hf := ifn c12 hf
      exact B19 o x1 x2 s hf _ _ _ (lv_sub hl [0, 1, 2] rfl) hW
    · have hf := ifp c12 hf
      refine lv_iconst (v := 1) hx hb dX14_faultOf_15 (by decide) ?_
      refine lv_goto (tgt := 20) hx hb dX14_faultOf_16 (by decide) ?_
      exact B20 o x1 x2 1 s hf _ _ _ (lv_sub hl [0, 1, 2] rfl) hW
def f_X14_feed (o : Nat) (x1 : Int32) (x2 : Int32) (s : ST) : Option (Int32 × ST) :=
  gd (o < s.1 ∧ (kd s o).1 = 14) <|
  bnd (pI s o 0 0) fun s2 =>
  ob (f_X14_isAlive o x1 s2) fun v7 s7 =>
  if v7 = 0 then (some ((-1), s7)) else bnd (p_in ((x2 : Int32).toInt64) 1 99) fun v19 =>
  if v19 = 0 then (some ((-1), s7)) else gd (o < s7.1 ∧ (kd s7 o).1 = 14) <|
  ob (f_X14_eats o x1 x2 s7) fun v28 s28 =>
  some (v28, s28)
set_option maxHeartbeats 4000000 in
theorem ct_X14_feed (l : Launch) (G : GM) (a : Nat → Nat) (o : Nat) (x1 : Int32) (x2 : Int32) (s : ST) (rv : Int32) (sf : ST) (hf : f_X14_feed o x1 x2 s = some (rv, sf)) : MD l G yX14_feed (ws_ yX14_feed cX14_feed 3 (some .int)) 3 [.ref (a o), .int x1, .int x2] a s (some (.int rv)) sf := by
  refine md_of (d := 3) (lv := [(0, .ref (a o)), (1, .int x1), (2, .int x2)]) (Or.inl (by decide)) (Nat.le_of_ble_eq_true rfl) rfl ?_
  intro p e s0 m args below meth c ls A P hP hC hr hnm hW hl
  have hx := hC.1
  have hb := hC.2.1
  have hts := hC.2.2.2.2.1
  unfold f_X14_feed at hf
  refine lv_aload_n hx hb dX14_feed_0 rfl (lv_at hl 0 rfl) ?_
  refine lv_iconst (v := 0) hx hb dX14_feed_1 (by decide) ?_
  obtain ⟨g2, hf⟩ := gd_some hf
  obtain ⟨s2, e2, hf⟩ := bnd_some hf
  refine aw_pI e2 hC hW g2 fl_X14_3 (Or.inl fn_13_0) rfl rfl rfl dX14_feed_2 (fun H locs hW => ?_)
  have g2 := ko_pI e2 g2
  refine lv_aload_n hx hb dX14_feed_5 rfl (lv_at hl 0 rfl) ?_
  refine lv_iload_n hx hb dX14_feed_6 rfl (lv_at hl 1 rfl) ?_
  obtain ⟨v7, s7, h7, hf⟩ := ob_some hf
  refine aw_dV1 (r := o) (As := [.int x1]) (rest := []) (ct_X14_isAlive l G a o x1 s2 v7 s7 h7) hC hW hl.1 vy_X14_isAlive (Or.inl q1722) g2 rfl rfl rfl rfl (Nat.le_of_ble_eq_true rfl) ⟨Nat.le_of_ble_eq_true rfl, Nat.le_of_ble_eq_true rfl⟩ ⟨Nat.le_of_ble_eq_true rfl, Nat.le_of_ble_eq_true rfl⟩ dX14_feed_7 (fun H locs hW => ?_)
  refine lv_if_eq (tgt := 34) hx hb dX14_feed_10 (by decide) (fun c10 => ?_) (fun c10 => ?_)
  · have hf := ifp c10 hf
    refine lv_iconst (v := (-1)) hx hb dX14_feed_34 (by decide) ?_
    obtain ⟨e1, e2⟩ := so_inj hf
    exact aw_iret hC hW hr rfl (p_eq hP (congrArg (fun z => some (Value.int z)) e1) e2) (Nat.le_of_ble_eq_true rfl) (Nat.le_of_ble_eq_true rfl) dX14_feed_35
  · have hf := ifn c10 hf
    refine lv_iload_n hx hb dX14_feed_13 rfl (lv_at hl 2 rfl) ?_
    refine lv_i2l (v := (x2 : Int32).toInt64) hx hb dX14_feed_14 rfl ?_
    refine lv_lconst (v := 1) hx hb dX14_feed_15 (by decide) ?_
    refine lv_ldc2 (v := 99) hx hb hC.2.2.2.1 (hts _ q1697) dX14_feed_16 ?_
    obtain ⟨v19, ev19, hf⟩ := bnd_some hf
    refine aw_dS1 (As := [.long ((x2 : Int32).toInt64), .long 1, .long 99]) (rest := []) (pc_X14_in l G a ((x2 : Int32).toInt64) 1 99 s7) hC hW hl.1 sy_X14_in (Or.inl q1514) rfl rfl (Nat.le_of_ble_eq_true rfl) ⟨Nat.le_of_ble_eq_true rfl, Nat.le_of_ble_eq_true rfl⟩ ⟨Nat.le_of_ble_eq_true rfl, Nat.le_of_ble_eq_true rfl⟩ dX14_feed_19 (fun H locs hW => ?_)
    refine top_i ev19 ?_
    refine lv_if_eq (tgt := 34) hx hb dX14_feed_22 (by decide) (fun c22 => ?_) (fun c22 => ?_)
    · have hf := ifp c22 hf
      refine lv_iconst (v := (-1)) hx hb dX14_feed_34 (by decide) ?_
      obtain ⟨e1, e2⟩ := so_inj hf
      exact aw_iret hC hW hr rfl (p_eq hP (congrArg (fun z => some (Value.int z)) e1) e2) (Nat.le_of_ble_eq_true rfl) (Nat.le_of_ble_eq_true rfl) dX14_feed_35
    · have hf := ifn c22 hf
      refine lv_aload_n hx hb dX14_feed_25 rfl (lv_at hl 0 rfl) ?_
      refine lv_iload_n hx hb dX14_feed_26 rfl (lv_at hl 1 rfl) ?_
      refine lv_iload_n hx hb dX14_feed_27 rfl (lv_at hl 2 rfl) ?_
      obtain ⟨g28, hf⟩ := gd_some hf
      obtain ⟨v28, s28, h28, hf⟩ := ob_some hf
      refine aw_dV1 (r := o) (As := [.int x1, .int x2]) (rest := []) (ct_X14_eats l G a o x1 x2 s7 v28 s28 h28) hC hW hl.1 vy_X14_eats (Or.inl q1726) g28 rfl rfl rfl rfl (Nat.le_of_ble_eq_true rfl) ⟨Nat.le_of_ble_eq_true rfl, Nat.le_of_ble_eq_true rfl⟩ ⟨Nat.le_of_ble_eq_true rfl, Nat.le_of_ble_eq_true rfl⟩ dX14_feed_28 (fun H locs hW => ?_)
      refine lv_goto (tgt := 35) hx hb dX14_feed_31 (by decide) ?_
      obtain ⟨e1, e2⟩ := so_inj hf
      exact aw_iret hC hW hr rfl (p_eq hP (congrArg (fun z => some (Value.int z)) e1) e2) (Nat.le_of_ble_eq_true rfl) (Nat.le_of_ble_eq_true rfl) dX14_feed_35
