set_option maxRecDepth 100000
def f_X3_be (o : Nat) (r1 : Nat) (s : ST) : Option (Unit × ST) :=
  gd (r1 < s.1 ∧ (kd s r1).1 = 3) <|
  gd (o < s.1 ∧ (kd s o).1 = 3) <|
  bnd (pI s o 0 (gi s r1 0)) fun s5 =>
  bnd (pI s5 o 1 (gi s5 r1 1)) fun s13 =>
  bnd (pI s13 o 2 (gi s13 r1 2)) fun s21 =>
  (gr s21 r1 3).bind fun q25 =>
  (gr s21 o 3).bind fun q30 =>
  gd (q25 < s21.1 ∧ (kd s21 q25).1 = 100) <|
  gd (q30 < s21.1 ∧ (kd s21 q30).1 = 100) <|
  gd ((¬ (0 : Int32) < 0 ∧ ¬ (0 : Int32) < 0 ∧ ¬ (6 : Int32) < 0) ∧ (0 : Int32).toNatClampNeg + (6 : Int32).toNatClampNeg ≤ (kd s21 q25).2 ∧ (0 : Int32).toNatClampNeg + (6 : Int32).toNatClampNeg ≤ (kd s21 q30).2) <|
  bnd (pIr s21 q30 (cpyI (gi s21 q25) (gi s21 q30) 0 0 6)) fun s36 =>
  some ((), s36)
set_option maxHeartbeats 4000000 in
theorem ct_X3_be (l : Launch) (G : GM) (a : Nat → Nat) (o : Nat) (r1 : Nat) (s : ST) (rv : Unit) (sf : ST) (hf : f_X3_be o r1 s = some (rv, sf)) : MD l G yX3_be (ws_ yX3_be cX3_be 2 none) 1 [.ref (a o), .ref (a r1)] a s none sf := by
  refine md_of (d := 1) (lv := [(0, .ref (a o)), (1, .ref (a r1))]) (Or.inl (by decide)) (Nat.le_of_ble_eq_true rfl) rfl ?_
  intro p e s0 m args below meth c ls A P hP hC hr hnm hW hl
  have hx := hC.1
  have hb := hC.2.1
  have hts := hC.2.2.2.2.1
  unfold f_X3_be at hf
  refine lv_aload_n hx hb dX3_be_0 rfl (lv_at hl 0 rfl) ?_
  refine lv_aload_n hx hb dX3_be_1 rfl (lv_at hl 1 rfl) ?_
  obtain ⟨g2, hf⟩ := gd_some hf
  refine aw_gI hC hW g2 fl_X3_15 rfl dX3_be_2 ?_
  obtain ⟨g5, hf⟩ := gd_some hf
  obtain ⟨s5, e5, hf⟩ := bnd_some hf
  refine aw_pI e5 hC hW g5 fl_X3_15 (Or.inl fn_2_0) rfl rfl rfl dX3_be_5 (fun H locs hW => ?_)
  have g2 := ko_pI e5 g2
  have g5 := ko_pI e5 g5
  refine lv_aload_n hx hb dX3_be_8 rfl (lv_at hl 0 rfl) ?_
  refine lv_aload_n hx hb dX3_be_9 rfl (lv_at hl 1 rfl) ?_
  refine aw_gI hC hW g2 fl_X3_19 rfl dX3_be_10 ?_
  obtain ⟨s13, e13, hf⟩ := bnd_some hf
  refine aw_pI e13 hC hW g5 fl_X3_19 (Or.inl fn_2_1) rfl rfl rfl dX3_be_13 (fun H locs hW => ?_)
  have g2 := ko_pI e13 g2
  have g5 := ko_pI e13 g5
  refine lv_aload_n hx hb dX3_be_16 rfl (lv_at hl 0 rfl) ?_
  refine lv_aload_n hx hb dX3_be_17 rfl (lv_at hl 1 rfl) ?_
  refine aw_gI hC hW g2 fl_X3_22 rfl dX3_be_18 ?_
  obtain ⟨s21, e21, hf⟩ := bnd_some hf
  refine aw_pI e21 hC hW g5 fl_X3_22 (Or.inl fn_2_2) rfl rfl rfl dX3_be_21 (fun H locs hW => ?_)
  have g2 := ko_pI e21 g2
  have g5 := ko_pI e21 g5
  refine lv_aload_n hx hb dX3_be_24 rfl (lv_at hl 1 rfl) ?_
  obtain ⟨q25, hq25, hf⟩ := bi_some hf
  refine aw_gR hC hW g2 fl_X3_9 rfl hq25 dX3_be_25 ?_
  refine lv_iconst (v := 0) hx hb dX3_be_28 (by decide) ?_
  refine lv_aload_n hx hb dX3_be_29 rfl (lv_at hl 0 rfl) ?_
  obtain ⟨q30, hq30, hf⟩ := bi_some hf
  refine aw_gR hC hW g5 fl_X3_9 rfl hq30 dX3_be_30 ?_
  refine lv_iconst (v := 0) hx hb dX3_be_33 (by decide) ?_
  refine lv_bipush (v := 6) hx hb dX3_be_34 (by decide) ?_
  obtain ⟨g36, hf⟩ := gd_some hf
  obtain ⟨h36, hf⟩ := gd_some hf
  obtain ⟨z36, hf⟩ := gd_some hf
  obtain ⟨s36, e36, hf⟩ := bnd_some hf
  refine aw_copyI e36 hC hW (by rw [hC.2.2.1]; exact hl.1.symm) q664 q666 q665 q94 g36 h36 z36 (Nat.le_of_ble_eq_true rfl) (Nat.le_of_ble_eq_true rfl) dX3_be_36 (fun H locs hW => ?_)
  have g2 := ko_pIr e36 g2
  have g5 := ko_pIr e36 g5
  obtain ⟨e1, e2⟩ := so_inj hf
  exact aw_vret hC hW hr (p_eq hP rfl e2) (Nat.le_of_ble_eq_true rfl) (Nat.le_of_ble_eq_true rfl) dX3_be_39
def f_X1_add (o : Nat) (r1 : Nat) (x2 : Int32) (s : ST) : Option (Unit × ST) :=
  gd (o < s.1 ∧ (kd s o).1 = 1) <|
  (gr s o 0).bind fun q1 =>
  gd (q1 < s.1 ∧ (kd s q1).1 = 105 ∧ ¬ (((gi s o 4) : Int32) < 0 ∨ (kd s q1).2 ≤ ((gi s o 4) : Int32).toNatClampNeg)) <|
  (gr s q1 ((gi s o 4) : Int32).toNatClampNeg).bind fun q8 =>
  gd (q8 < s.1 ∧ (kd s q8).1 = 3) <|
  ob (f_X3_be q8 r1 s) fun _ s10 =>
  gd (o < s10.1 ∧ (kd s10 o).1 = 1) <|
  (gr s10 o 1).bind fun q14 =>
  gd (q14 < s10.1 ∧ (kd s10 q14).1 = 2) <|
  (gr s10 q14 0).bind fun q17 =>
  gd (q17 < s10.1 ∧ (kd s10 q17).1 = 100 ∧ ¬ (((gi s10 o 4) : Int32) < 0 ∨ (kd s10 q17).2 ≤ ((gi s10 o 4) : Int32).toNatClampNeg)) <|
  bnd (pI s10 q17 ((gi s10 o 4) : Int32).toNatClampNeg x2) fun s25 =>
  (gr s25 o 1).bind fun q27 =>
  gd (q27 < s25.1 ∧ (kd s25 q27).1 = 2) <|
  (gr s25 q27 1).bind fun q30 =>
  gd (q30 < s25.1 ∧ (kd s25 q30).1 = 100 ∧ ¬ (((gi s25 o 4) : Int32) < 0 ∨ (kd s25 q30).2 ≤ ((gi s25 o 4) : Int32).toNatClampNeg)) <|
  bnd (pI s25 q30 ((gi s25 o 4) : Int32).toNatClampNeg 0) fun s38 =>
  (gr s38 o 1).bind fun q40 =>
  gd (q40 < s38.1 ∧ (kd s38 q40).1 = 2) <|
  bnd (pI s38 q40 6 ((gi s38 q40 6) ||| (1 <<< ((gi s38 o 4) &&& 31)))) fun s54 =>
  bnd (pI s54 o 4 ((gi s54 o 4) + 1)) fun s64 =>
  bnd (pI s64 o 5 ((gi s64 o 5) + 1)) fun s74 =>
  bnd (pI s74 o 6 0) fun s79 =>
  some ((), s79)
set_option maxHeartbeats 4000000 in
theorem ct_X1_add (l : Launch) (G : GM) (a : Nat → Nat) (o : Nat) (r1 : Nat) (x2 : Int32) (s : ST) (rv : Unit) (sf : ST) (hf : f_X1_add o r1 x2 s = some (rv, sf)) : MD l G yX1_add (ws_ yX1_add cX1_add 3 none) 2 [.ref (a o), .ref (a r1), .int x2] a s none sf := by
  refine md_of (d := 2) (lv := [(0, .ref (a o)), (1, .ref (a r1)), (2, .int x2)]) (Or.inl (by decide)) (Nat.le_of_ble_eq_true rfl) rfl ?_
  intro p e s0 m args below meth c ls A P hP hC hr hnm hW hl
  have hx := hC.1
  have hb := hC.2.1
  have hts := hC.2.2.2.2.1
  unfold f_X1_add at hf
  refine lv_aload_n hx hb dX1_add_0 rfl (lv_at hl 0 rfl) ?_
  obtain ⟨g1, hf⟩ := gd_some hf
  obtain ⟨q1, hq1, hf⟩ := bi_some hf
  refine aw_gR hC hW g1 fl_X1_11 rfl hq1 dX1_add_1 ?_
  refine lv_aload_n hx hb dX1_add_4 rfl (lv_at hl 0 rfl) ?_
  refine aw_gI hC hW g1 fl_X1_157 rfl dX1_add_5 ?_
  obtain ⟨g8, hf⟩ := gd_some hf
  obtain ⟨q8, hq8, hf⟩ := bi_some hf
  refine aw_aald (j := 0) hC hW (by decide) g8 hq8 dX1_add_8 ?_
  refine lv_aload_n hx hb dX1_add_9 rfl (lv_at hl 1 rfl) ?_
  obtain ⟨g10, hf⟩ := gd_some hf
  obtain ⟨_, s10, h10, hf⟩ := ob_some hf
  refine aw_dV0 (r := q8) (As := [.ref (a r1)]) (rest := []) (ct_X3_be l G a q8 r1 s () s10 h10) hC hW hl.1 vy_X3_be (Or.inl q660) g10 rfl rfl rfl rfl (Nat.le_of_ble_eq_true rfl) ⟨Nat.le_of_ble_eq_true rfl, Nat.le_of_ble_eq_true rfl⟩ ⟨Nat.le_of_ble_eq_true rfl, Nat.le_of_ble_eq_true rfl⟩ dX1_add_10 (fun H locs hW => ?_)
  refine lv_aload_n hx hb dX1_add_13 rfl (lv_at hl 0 rfl) ?_
  obtain ⟨g14, hf⟩ := gd_some hf
  obtain ⟨q14, hq14, hf⟩ := bi_some hf
  refine aw_gR hC hW g14 fl_X1_18 rfl hq14 dX1_add_14 ?_
  obtain ⟨g17, hf⟩ := gd_some hf
  obtain ⟨q17, hq17, hf⟩ := bi_some hf
  refine aw_gR hC hW g17 fl_X1_236 rfl hq17 dX1_add_17 ?_
  refine lv_aload_n hx hb dX1_add_20 rfl (lv_at hl 0 rfl) ?_
  refine aw_gI hC hW g14 fl_X1_157 rfl dX1_add_21 ?_
  refine lv_iload_n hx hb dX1_add_24 rfl (lv_at hl 2 rfl) ?_
  obtain ⟨g25, hf⟩ := gd_some hf
  obtain ⟨s25, e25, hf⟩ := bnd_some hf
  refine aw_iast e25 hC hW g25 dX1_add_25 (fun H locs hW => ?_)
  have g14 := ko_pI e25 g14
  have g17 := ko_pI e25 g17
  refine lv_aload_n hx hb dX1_add_26 rfl (lv_at hl 0 rfl) ?_
  obtain ⟨q27, hq27, hf⟩ := bi_some hf
  refine aw_gR hC hW g14 fl_X1_18 rfl hq27 dX1_add_27 ?_
  obtain ⟨g30, hf⟩ := gd_some hf
  obtain ⟨q30, hq30, hf⟩ := bi_some hf
  refine aw_gR hC hW g30 fl_X1_239 rfl hq30 dX1_add_30 ?_
  refine lv_aload_n hx hb dX1_add_33 rfl (lv_at hl 0 rfl) ?_
  refine aw_gI hC hW g14 fl_X1_157 rfl dX1_add_34 ?_
  refine lv_iconst (v := 0) hx hb dX1_add_37 (by decide) ?_
  obtain ⟨g38, hf⟩ := gd_some hf
  obtain ⟨s38, e38, hf⟩ := bnd_some hf
  refine aw_iast e38 hC hW g38 dX1_add_38 (fun H locs hW => ?_)
  have g14 := ko_pI e38 g14
  have g17 := ko_pI e38 g17
  have g30 := ko_pI e38 g30
  refine lv_aload_n hx hb dX1_add_39 rfl (lv_at hl 0 rfl) ?_
  obtain ⟨q40, hq40, hf⟩ := bi_some hf
  refine aw_gR hC hW g14 fl_X1_18 rfl hq40 dX1_add_40 ?_
  refine lv_dup hx hb dX1_add_43 rfl ?_
  obtain ⟨g44, hf⟩ := gd_some hf
  refine aw_gI hC hW g44 fl_X1_168 rfl dX1_add_44 ?_
  refine lv_iconst (v := 1) hx hb dX1_add_47 (by decide) ?_
  refine lv_aload_n hx hb dX1_add_48 rfl (lv_at hl 0 rfl) ?_
  refine aw_gI hC hW g14 fl_X1_157 rfl dX1_add_49 ?_
  refine lv_ishl hx hb dX1_add_52 ?_
  refine lv_ior hx hb dX1_add_53 ?_
  obtain ⟨s54, e54, hf⟩ := bnd_some hf
  refine aw_pI e54 hC hW g44 fl_X1_168 (Or.inl fn_1_6) rfl rfl rfl dX1_add_54 (fun H locs hW => ?_)
  have g14 := ko_pI e54 g14
  have g17 := ko_pI e54 g17
  have g30 := ko_pI e54 g30
  have g44 := ko_pI e54 g44
  refine lv_aload_n hx hb dX1_add_57 rfl (lv_at hl 0 rfl) ?_
  refine lv_dup hx hb dX1_add_58 rfl ?_
  refine aw_gI hC hW g14 fl_X1_157 rfl dX1_add_59 ?_
  refine lv_iconst (v := 1) hx hb dX1_add_62 (by decide) ?_
  refine lv_iadd hx hb dX1_add_63 ?_
  obtain ⟨s64, e64, hf⟩ := bnd_some hf
  refine aw_pI e64 hC hW g14 fl_X1_157 (Or.inl fn_0_4) rfl rfl rfl dX1_add_64 (fun H locs hW => ?_)
  have g14 := ko_pI e64 g14
  have g17 := ko_pI e64 g17
  have g30 := ko_pI e64 g30
  have g44 := ko_pI e64 g44
  refine lv_aload_n hx hb dX1_add_67 rfl (lv_at hl 0 rfl) ?_
  refine lv_dup hx hb dX1_add_68 rfl ?_
  refine aw_gI hC hW g14 fl_X1_242 rfl dX1_add_69 ?_
  refine lv_iconst (v := 1) hx hb dX1_add_72 (by decide) ?_
  refine lv_iadd hx hb dX1_add_73 ?_
  obtain ⟨s74, e74, hf⟩ := bnd_some hf
  refine aw_pI e74 hC hW g14 fl_X1_242 (Or.inl fn_0_5) rfl rfl rfl dX1_add_74 (fun H locs hW => ?_)
  have g14 := ko_pI e74 g14
  have g17 := ko_pI e74 g17
  have g30 := ko_pI e74 g30
  have g44 := ko_pI e74 g44
  refine lv_aload_n hx hb dX1_add_77 rfl (lv_at hl 0 rfl) ?_
  refine lv_iconst (v := 0) hx hb dX1_add_78 (by decide) ?_
  obtain ⟨s79, e79, hf⟩ := bnd_some hf
  refine aw_pI e79 hC hW g14 fl_X1_245 (Or.inl fn_0_6) rfl rfl rfl dX1_add_79 (fun H locs hW => ?_)
  have g14 := ko_pI e79 g14
  have g17 := ko_pI e79 g17
  have g30 := ko_pI e79 g30
  have g44 := ko_pI e79 g44
  obtain ⟨e1, e2⟩ := so_inj hf
  exact aw_vret hC hW hr (p_eq hP rfl e2) (Nat.le_of_ble_eq_true rfl) (Nat.le_of_ble_eq_true rfl) dX1_add_82
def f_X1_again (o : Nat) (x1 : Int32) (s : ST) : Option (Int32 × ST) :=
  bnd (p_in ((x1 : Int32).toInt64) 0 2) fun v6 =>
  if v6 = 0 then (some (0, s)) else gd (o < s.1 ∧ (kd s o).1 = 1) <|
  (gr s o 39).bind fun q13 =>
  gd (q13 < s.1 ∧ (kd s q13).1 = 107 ∧ ¬ ((x1 : Int32) < 0 ∨ (kd s q13).2 ≤ (x1 : Int32).toNatClampNeg)) <|
  obn (gr s q13 (x1 : Int32).toNatClampNeg) (some (0, s)) fun q17 => (gr s o 39).bind fun q22 =>
  gd (q22 < s.1 ∧ (kd s q22).1 = 107 ∧ ¬ ((x1 : Int32) < 0 ∨ (kd s q22).2 ≤ (x1 : Int32).toNatClampNeg)) <|
  (gr s q22 (x1 : Int32).toNatClampNeg).bind fun q26 =>
  gd (q26 < s.1 ∧ (kd s q26).1 = 18) <|
  if (gi s q26 1) = (gi s o 5) then ((gr s o 1).bind fun q40 =>
  (gr s o 39).bind fun q44 =>
  gd (q44 < s.1 ∧ (kd s q44).1 = 107 ∧ ¬ ((x1 : Int32) < 0 ∨ (kd s q44).2 ≤ (x1 : Int32).toNatClampNeg)) <|
  (gr s q44 (x1 : Int32).toNatClampNeg).bind fun q48 =>
  gd (q48 < s.1 ∧ (kd s q48).1 = 18) <|
  (gr s q48 0).bind fun q49 =>
  gd (q40 < s.1 ∧ (kd s q40).1 = 2) <|
  ob (f_X2_be q40 q49 s) fun _ s52 =>
  gd (o < s52.1 ∧ (kd s52 o).1 = 1) <|
  bnd (pI s52 o 6 0) fun s57 =>
  some (1, s57)) else some (0, s)
set_option maxHeartbeats 4000000 in
theorem ct_X1_again (l : Launch) (G : GM) (a : Nat → Nat) (o : Nat) (x1 : Int32) (s : ST) (rv : Int32) (sf : ST) (hf : f_X1_again o x1 s = some (rv, sf)) : MD l G yX1_again (ws_ yX1_again cX1_again 2 (some .boolean)) 2 [.ref (a o), .int x1] a s (some (.int rv)) sf := by
  refine md_of (d := 2) (lv := [(0, .ref (a o)), (1, .int x1)]) (Or.inl (by decide)) (Nat.le_of_ble_eq_true rfl) rfl ?_
  intro p e s0 m args below meth c ls A P hP hC hr hnm hW hl
  have hx := hC.1
  have hb := hC.2.1
  have hts := hC.2.2.2.2.1
  unfold f_X1_again at hf
  refine lv_iload_n hx hb dX1_again_0 rfl (lv_at hl 1 rfl) ?_
  refine lv_i2l (v := (x1 : Int32).toInt64) hx hb dX1_again_1 rfl ?_
  refine lv_lconst (v := 0) hx hb dX1_again_2 (by decide) ?_
  refine lv_ldc2 (v := 2) hx hb hC.2.2.2.1 (hts _ q1242) dX1_again_3 ?_
  obtain ⟨v6, ev6, hf⟩ := bnd_some hf
  refine aw_dS1 (As := [.long ((x1 : Int32).toInt64), .long 0, .long 2]) (rest := []) (pc_X1_in l G a ((x1 : Int32).toInt64) 0 2 s) hC hW hl.1 sy_X1_in (Or.inl q514) rfl rfl (Nat.le_of_ble_eq_true rfl) ⟨Nat.le_of_ble_eq_true rfl, Nat.le_of_ble_eq_true rfl⟩ ⟨Nat.le_of_ble_eq_true rfl, Nat.le_of_ble_eq_true rfl⟩ dX1_again_6 (fun H locs hW => ?_)
  refine top_i ev6 ?_
  refine lv_if_eq (tgt := 37) hx hb dX1_again_9 (by decide) (fun c9 => ?_) (fun c9 => ?_)
  · have hf := ifp c9 hf
    refine lv_iconst (v := 0) hx hb dX1_again_37 (by decide) ?_
    obtain ⟨e1, e2⟩ := so_inj hf
    exact aw_iret hC hW hr rfl (p_eq hP (congrArg (fun z => some (Value.int z)) e1) e2) (Nat.le_of_ble_eq_true rfl) (Nat.le_of_ble_eq_true rfl) dX1_again_38
  · have hf := ifn c9 hf
    refine lv_aload_n hx hb dX1_again_12 rfl (lv_at hl 0 rfl) ?_
    obtain ⟨g13, hf⟩ := gd_some hf
    obtain ⟨q13, hq13, hf⟩ := bi_some hf
    refine aw_gR hC hW g13 fl_X1_150 rfl hq13 dX1_again_13 ?_
    refine lv_iload_n hx hb dX1_again_16 rfl (lv_at hl 1 rfl) ?_
    obtain ⟨g17, hf⟩ := gd_some hf
    rcases obn_cases hf with ⟨hq17, hf⟩ | ⟨q17, hq17, hf⟩
    · refine aw_aaldN (j := 2) hC hW (by decide) g17 hq17 dX1_again_17 ?_
      refine lv_ifnullN (tgt := 37) hx hb dX1_again_18 (by decide) ?_
      refine lv_iconst (v := 0) hx hb dX1_again_37 (by decide) ?_
      obtain ⟨e1, e2⟩ := so_inj hf
      exact aw_iret hC hW hr rfl (p_eq hP (congrArg (fun z => some (Value.int z)) e1) e2) (Nat.le_of_ble_eq_true rfl) (Nat.le_of_ble_eq_true rfl) dX1_again_38
    · refine aw_aald (j := 2) hC hW (by decide) g17 hq17 dX1_again_17 ?_
      refine lv_ifnull hx hb dX1_again_18 ?_
      refine lv_aload_n hx hb dX1_again_21 rfl (lv_at hl 0 rfl) ?_
      obtain ⟨q22, hq22, hf⟩ := bi_some hf
      refine aw_gR hC hW g13 fl_X1_150 rfl hq22 dX1_again_22 ?_
      refine lv_iload_n hx hb dX1_again_25 rfl (lv_at hl 1 rfl) ?_
      obtain ⟨g26, hf⟩ := gd_some hf
      obtain ⟨q26, hq26, hf⟩ := bi_some hf
      refine aw_aald (j := 2) hC hW (by decide) g26 hq26 dX1_again_26 ?_
      obtain ⟨g27, hf⟩ := gd_some hf
      refine aw_gI hC hW g27 fl_X1_520 rfl dX1_again_27 ?_
      refine lv_aload_n hx hb dX1_again_30 rfl (lv_at hl 0 rfl) ?_
      refine aw_gI hC hW g13 fl_X1_242 rfl dX1_again_31 ?_
      refine lv_icmp_eq (tgt := 39) hx hb dX1_again_34 (by decide) (fun c34 => ?_) (fun c34 => ?_)
      · have hf := ifp c34 hf
        refine lv_aload_n hx hb dX1_again_39 rfl (lv_at hl 0 rfl) ?_
        obtain ⟨q40, hq40, hf⟩ := bi_some hf
        refine aw_gR hC hW g13 fl_X1_18 rfl hq40 dX1_again_40 ?_
        refine lv_aload_n hx hb dX1_again_43 rfl (lv_at hl 0 rfl) ?_
        obtain ⟨q44, hq44, hf⟩ := bi_some hf
        refine aw_gR hC hW g13 fl_X1_150 rfl hq44 dX1_again_44 ?_
        refine lv_iload_n hx hb dX1_again_47 rfl (lv_at hl 1 rfl) ?_
        obtain ⟨g48, hf⟩ := gd_some hf
        obtain ⟨q48, hq48, hf⟩ := bi_some hf
        refine aw_aald (j := 2) hC hW (by decide) g48 hq48 dX1_again_48 ?_
        obtain ⟨g49, hf⟩ := gd_some hf
        obtain ⟨q49, hq49, hf⟩ := bi_some hf
        refine aw_gR hC hW g49 fl_X1_523 rfl hq49 dX1_again_49 ?_
        obtain ⟨g52, hf⟩ := gd_some hf
        obtain ⟨_, s52, h52, hf⟩ := ob_some hf
        refine aw_dV0 (r := q40) (As := [.ref (a q49)]) (rest := []) (ct_X2_be l G a q40 q49 s () s52 h52) hC hW hl.1 vy_X2_be (Or.inl q917) g52 rfl rfl rfl rfl (Nat.le_of_ble_eq_true rfl) ⟨Nat.le_of_ble_eq_true rfl, Nat.le_of_ble_eq_true rfl⟩ ⟨Nat.le_of_ble_eq_true rfl, Nat.le_of_ble_eq_true rfl⟩ dX1_again_52 (fun H locs hW => ?_)
        refine lv_aload_n hx hb dX1_again_55 rfl (lv_at hl 0 rfl) ?_
        refine lv_iconst (v := 0) hx hb dX1_again_56 (by decide) ?_
        obtain ⟨g57, hf⟩ := gd_some hf
        obtain ⟨s57, e57, hf⟩ := bnd_some hf
        refine aw_pI e57 hC hW g57 fl_X1_245 (Or.inl fn_0_6) rfl rfl rfl dX1_again_57 (fun H locs hW => ?_)
        have g57 := ko_pI e57 g57
        refine lv_iconst (v := 1) hx hb dX1_again_60 (by decide) ?_
        obtain ⟨e1, e2⟩ := so_inj hf
        exact aw_iret hC hW hr rfl (p_eq hP (congrArg (fun z => some (Value.int z)) e1) e2) (Nat.le_of_ble_eq_true rfl) (Nat.le_of_ble_eq_true rfl) dX1_again_61
      · have hf := ifn c34 hf
        refine lv_iconst (v := 0) hx hb dX1_again_37 (by decide) ?_
        obtain ⟨e1, e2⟩ := so_inj hf
        exact aw_iret hC hW hr rfl (p_eq hP (congrArg (fun z => some (Value.int z)) e1) e2) (Nat.le_of_ble_eq_true rfl) (Nat.le_of_ble_eq_true rfl) dX1_again_38
def f_X1_begin (o : Nat) (x1 : Int32) (x2 : Int32) (s : ST) : Option (Unit × ST) :=
  gd (o < s.1 ∧ (kd s o).1 = 1) <|
  (gr s o 2).bind fun q1 =>
  (gr s o 1).bind fun q5 =>
  gd (q1 < s.1 ∧ (kd s q1).1 = 2) <|
  ob (f_X2_be q1 q5 s) fun _ s8 =>
  gd (o < s8.1 ∧ (kd s8 o).1 = 1) <|
  (gr s8 o 2).bind fun q12 =>
  gd (q12 < s8.1 ∧ (kd s8 q12).1 = 2) <|
  (gr s8 q12 0).bind fun q15 =>
  (gr s8 o 2).bind fun q24 =>
  gd (q24 < s8.1 ∧ (kd s8 q24).1 = 2) <|
  (gr s8 q24 0).bind fun q27 =>
  gd (q27 < s8.1 ∧ (kd s8 q27).1 = 100 ∧ ¬ ((x1 : Int32) < 0 ∨ (kd s8 q27).2 ≤ (x1 : Int32).toNatClampNeg)) <|
  bnd (p_min 999 ((gi s8 q27 (x1 : Int32).toNatClampNeg) + x2)) fun v34 =>
  bnd (p_max 1 v34) fun v37 =>
  gd (q15 < s8.1 ∧ (kd s8 q15).1 = 100 ∧ ¬ ((x1 : Int32) < 0 ∨ (kd s8 q15).2 ≤ (x1 : Int32).toNatClampNeg)) <|
  bnd (pI s8 q15 (x1 : Int32).toNatClampNeg v37) fun s40 =>
  some ((), s40)
set_option maxHeartbeats 4000000 in
theorem ct_X1_begin (l : Launch) (G : GM) (a : Nat → Nat) (o : Nat) (x1 : Int32) (x2 : Int32) (s : ST) (rv : Unit) (sf : ST) (hf : f_X1_begin o x1 x2 s = some (rv, sf)) : MD l G yX1_begin (ws_ yX1_begin cX1_begin 3 none) 2 [.ref (a o), .int x1, .int x2] a s none sf := by
  refine md_of (d := 2) (lv := [(0, .ref (a o)), (1, .int x1), (2, .int x2)]) (Or.inl (by decide)) (Nat.le_of_ble_eq_true rfl) rfl ?_
  intro p e s0 m args below meth c ls A P hP hC hr hnm hW hl
  have hx := hC.1
  have hb := hC.2.1
  have hts := hC.2.2.2.2.1
  unfold f_X1_begin at hf
  refine lv_aload_n hx hb dX1_begin_0 rfl (lv_at hl 0 rfl) ?_
  obtain ⟨g1, hf⟩ := gd_some hf
  obtain ⟨q1, hq1, hf⟩ := bi_some hf
  refine aw_gR hC hW g1 fl_X1_22 rfl hq1 dX1_begin_1 ?_
  refine lv_aload_n hx hb dX1_begin_4 rfl (lv_at hl 0 rfl) ?_
  obtain ⟨q5, hq5, hf⟩ := bi_some hf
  refine aw_gR hC hW g1 fl_X1_18 rfl hq5 dX1_begin_5 ?_
  obtain ⟨g8, hf⟩ := gd_some hf
  obtain ⟨_, s8, h8, hf⟩ := ob_some hf
  refine aw_dV0 (r := q1) (As := [.ref (a q5)]) (rest := []) (ct_X2_be l G a q1 q5 s () s8 h8) hC hW hl.1 vy_X2_be (Or.inl q917) g8 rfl rfl rfl rfl (Nat.le_of_ble_eq_true rfl) ⟨Nat.le_of_ble_eq_true rfl, Nat.le_of_ble_eq_true rfl⟩ ⟨Nat.le_of_ble_eq_true rfl, Nat.le_of_ble_eq_true rfl⟩ dX1_begin_8 (fun H locs hW => ?_)
  refine lv_aload_n hx hb dX1_begin_11 rfl (lv_at hl 0 rfl) ?_
  obtain ⟨g12, hf⟩ := gd_some hf
  obtain ⟨q12, hq12, hf⟩ := bi_some hf
  refine aw_gR hC hW g12 fl_X1_22 rfl hq12 dX1_begin_12 ?_
  obtain ⟨g15, hf⟩ := gd_some hf
  obtain ⟨q15, hq15, hf⟩ := bi_some hf
  refine aw_gR hC hW g15 fl_X1_236 rfl hq15 dX1_begin_15 ?_
  refine lv_iload_n hx hb dX1_begin_18 rfl (lv_at hl 1 rfl) ?_
  refine lv_iconst (v := 1) hx hb dX1_begin_19 (by decide) ?_
  refine lv_sipush (v := 999) hx hb dX1_begin_20 (by decide) ?_
  refine lv_aload_n hx hb dX1_begin_23 rfl (lv_at hl 0 rfl) ?_
  obtain ⟨q24, hq24, hf⟩ := bi_some hf
  refine aw_gR hC hW g12 fl_X1_22 rfl hq24 dX1_begin_24 ?_
  obtain ⟨g27, hf⟩ := gd_some hf
  obtain ⟨q27, hq27, hf⟩ := bi_some hf
  refine aw_gR hC hW g27 fl_X1_236 rfl hq27 dX1_begin_27 ?_
  refine lv_iload_n hx hb dX1_begin_30 rfl (lv_at hl 1 rfl) ?_
  obtain ⟨g31, hf⟩ := gd_some hf
  refine aw_iald hC hW g31 dX1_begin_31 ?_
  refine lv_iload_n hx hb dX1_begin_32 rfl (lv_at hl 2 rfl) ?_
  refine lv_iadd hx hb dX1_begin_33 ?_
  obtain ⟨v34, ev34, hf⟩ := bnd_some hf
  refine aw_dS1 (As := [.int 999, .int ((gi s8 q27 (x1 : Int32).toNatClampNeg) + x2)]) (rest := [.int 1, .int x1, .ref (a q15)]) (pc_J0_min l G a 999 ((gi s8 q27 (x1 : Int32).toNatClampNeg) + x2) s8) hC hW hl.1 sy_J0_min (Or.inl q906) rfl rfl (Nat.le_of_ble_eq_true rfl) ⟨Nat.le_of_ble_eq_true rfl, Nat.le_of_ble_eq_true rfl⟩ ⟨Nat.le_of_ble_eq_true rfl, Nat.le_of_ble_eq_true rfl⟩ dX1_begin_34 (fun H locs hW => ?_)
  refine top_i ev34 ?_
  obtain ⟨v37, ev37, hf⟩ := bnd_some hf
  refine aw_dS1 (As := [.int 1, .int v34]) (rest := [.int x1, .ref (a q15)]) (pc_J0_max l G a 1 v34 s8) hC hW hl.1 sy_J0_max (Or.inl q907) rfl rfl (Nat.le_of_ble_eq_true rfl) ⟨Nat.le_of_ble_eq_true rfl, Nat.le_of_ble_eq_true rfl⟩ ⟨Nat.le_of_ble_eq_true rfl, Nat.le_of_ble_eq_true rfl⟩ dX1_begin_37 (fun H locs hW => ?_)
  refine top_i ev37 ?_
  obtain ⟨g40, hf⟩ := gd_some hf
  obtain ⟨s40, e40, hf⟩ := bnd_some hf
  refine aw_iast e40 hC hW g40 dX1_begin_40 (fun H locs hW => ?_)
  have g12 := ko_pI e40 g12
  have g15 := ko_pI e40 g15
  have g27 := ko_pI e40 g27
  obtain ⟨e1, e2⟩ := so_inj hf
  exact aw_vret hC hW hr (p_eq hP rfl e2) (Nat.le_of_ble_eq_true rfl) (Nat.le_of_ble_eq_true rfl) dX1_begin_41
def f_X1_isAlive (o : Nat) (x1 : Int32) (s : ST) : Option (Int32 × ST) :=
  gd (o < s.1 ∧ (kd s o).1 = 1) <|
  ob (f_X1_isOne o x1 s) fun v2 s2 =>
  if v2 = 0 then (some (0, s2)) else gd (o < s2.1 ∧ (kd s2 o).1 = 1) <|
  (gr s2 o 1).bind fun q9 =>
  gd (q9 < s2.1 ∧ (kd s2 q9).1 = 2) <|
  bnd (p_has (gi s2 q9 6) x1) fun v16 =>
  if v16 = 0 then (some (0, s2)) else some (1, s2)
set_option maxHeartbeats 4000000 in
theorem ct_X1_isAlive (l : Launch) (G : GM) (a : Nat → Nat) (o : Nat) (x1 : Int32) (s : ST) (rv : Int32) (sf : ST) (hf : f_X1_isAlive o x1 s = some (rv, sf)) : MD l G yX1_isAlive (ws_ yX1_isAlive cX1_isAlive 2 (some .boolean)) 2 [.ref (a o), .int x1] a s (some (.int rv)) sf := by
  refine md_of (d := 2) (lv := [(0, .ref (a o)), (1, .int x1)]) (Or.inl (by decide)) (Nat.le_of_ble_eq_true rfl) rfl ?_
  intro p e s0 m args below meth c ls A P hP hC hr hnm hW hl
  have hx := hC.1
  have hb := hC.2.1
  have hts := hC.2.2.2.2.1
  unfold f_X1_isAlive at hf
  refine lv_aload_n hx hb dX1_isAlive_0 rfl (lv_at hl 0 rfl) ?_
  refine lv_iload_n hx hb dX1_isAlive_1 rfl (lv_at hl 1 rfl) ?_
  obtain ⟨g2, hf⟩ := gd_some hf
  obtain ⟨v2, s2, h2, hf⟩ := ob_some hf
  refine aw_dV1 (r := o) (As := [.int x1]) (rest := []) (ct_X1_isOne l G a o x1 s v2 s2 h2) hC hW hl.1 vy_X1_isOne (Or.inl q848) g2 rfl rfl rfl rfl (Nat.le_of_ble_eq_true rfl) ⟨Nat.le_of_ble_eq_true rfl, Nat.le_of_ble_eq_true rfl⟩ ⟨Nat.le_of_ble_eq_true rfl, Nat.le_of_ble_eq_true rfl⟩ dX1_isAlive_2 (fun H locs hW => ?_)
  refine lv_if_eq (tgt := 26) hx hb dX1_isAlive_5 (by decide) (fun c5 => ?_) (fun c5 => ?_)
  · have hf := ifp c5 hf
    refine lv_iconst (v := 0) hx hb dX1_isAlive_26 (by decide) ?_
    obtain ⟨e1, e2⟩ := so_inj hf
    exact aw_iret hC hW hr rfl (p_eq hP (congrArg (fun z => some (Value.int z)) e1) e2) (Nat.le_of_ble_eq_true rfl) (Nat.le_of_ble_eq_true rfl) dX1_isAlive_27
  · have hf := ifn c5 hf
    refine lv_aload_n hx hb dX1_isAlive_8 rfl (lv_at hl 0 rfl) ?_
    obtain ⟨g9, hf⟩ := gd_some hf
    obtain ⟨q9, hq9, hf⟩ := bi_some hf
    refine aw_gR hC hW g9 fl_X1_18 rfl hq9 dX1_isAlive_9 ?_
    obtain ⟨g12, hf⟩ := gd_some hf
    refine aw_gI hC hW g12 fl_X1_168 rfl dX1_isAlive_12 ?_
    refine lv_iload_n hx hb dX1_isAlive_15 rfl (lv_at hl 1 rfl) ?_
    obtain ⟨v16, ev16, hf⟩ := bnd_some hf
    refine aw_dS1 (As := [.int (gi s2 q9 6), .int x1]) (rest := []) (pc_X1_has l G a (gi s2 q9 6) x1 s2) hC hW hl.1 sy_X1_has (Or.inl q930) rfl rfl (Nat.le_of_ble_eq_true rfl) ⟨Nat.le_of_ble_eq_true rfl, Nat.le_of_ble_eq_true rfl⟩ ⟨Nat.le_of_ble_eq_true rfl, Nat.le_of_ble_eq_true rfl⟩ dX1_isAlive_16 (fun H locs hW => ?_)
    refine top_i ev16 ?_
    refine lv_if_eq (tgt := 26) hx hb dX1_isAlive_19 (by decide) (fun c19 => ?_) (fun c19 => ?_)
    · have hf := ifp c19 hf
      refine lv_iconst (v := 0) hx hb dX1_isAlive_26 (by decide) ?_
      obtain ⟨e1, e2⟩ := so_inj hf
      exact aw_iret hC hW hr rfl (p_eq hP (congrArg (fun z => some (Value.int z)) e1) e2) (Nat.le_of_ble_eq_true rfl) (Nat.le_of_ble_eq_true rfl) dX1_isAlive_27
    · have hf := ifn c19 hf
      refine lv_iconst (v := 1) hx hb dX1_isAlive_22 (by decide) ?_
      refine lv_goto (tgt := 27) hx hb dX1_isAlive_23 (by decide) ?_
      obtain ⟨e1, e2⟩ := so_inj hf
      exact aw_iret hC hW hr rfl (p_eq hP (congrArg (fun z => some (Value.int z)) e1) e2) (Nat.le_of_ble_eq_true rfl) (Nat.le_of_ble_eq_true rfl) dX1_isAlive_27
def f_X1_isShown_b36 (K2 : Nat → Int32 → Int32 → Int32 → ST → Option (Int32 × ST)) (r0 : Nat) (x1 : Int32) (x2 : Int32) (x3 : Int32) (s : ST) : Option (Int32 × ST) :=
  bnd (x3 + 1 : Int32) fun v36 =>
  K2 r0 x1 x2 v36 s
def f_X1_isShown_b2 : Nat → Nat → Int32 → Int32 → Int32 → ST → Option (Int32 × ST)
  | 0, _, _, _, _, _ => none
  | n + 1, r0, x1, x2, x3, s =>
  gd (r0 < s.1 ∧ (kd s r0).1 = 1) <|
  if (gi s r0 32) ≤ x3 then (some (1, s)) else (gr s r0 30).bind fun q11 =>
  gd (q11 < s.1 ∧ (kd s q11).1 = 100 ∧ ¬ ((x3 : Int32) < 0 ∨ (kd s q11).2 ≤ (x3 : Int32).toNatClampNeg)) <|
  if (gi s q11 (x3 : Int32).toNatClampNeg) = x1 then ((gr s r0 31).bind fun q21 =>
  gd (q21 < s.1 ∧ (kd s q21).1 = 100 ∧ ¬ ((x3 : Int32) < 0 ∨ (kd s q21).2 ≤ (x3 : Int32).toNatClampNeg)) <|
  ob (f_X1_shows r0 x2 s) fun v28 s28 =>
  if (gi s q21 (x3 : Int32).toNatClampNeg) = v28 then (f_X1_isShown_b36 (f_X1_isShown_b2 n) r0 x1 x2 x3 s28) else some (0, s28)) else f_X1_isShown_b36 (f_X1_isShown_b2 n) r0 x1 x2 x3 s
def f_X1_isShown (o : Nat) (x1 : Int32) (x2 : Int32) (s : ST) : Option (Int32 × ST) :=
  f_X1_isShown_b2 fuel o x1 x2 0 s
set_option maxHeartbeats 4000000 in
theorem ct_X1_isShown (l : Launch) (G : GM) (a : Nat → Nat) (o : Nat) (x1 : Int32) (x2 : Int32) (s : ST) (rv : Int32) (sf : ST) (hf : f_X1_isShown o x1 x2 s = some (rv, sf)) : MD l G yX1_isShown (ws_ yX1_isShown cX1_isShown 4 (some .boolean)) 2 [.ref (a o), .int x1, .int x2] a s (some (.int rv)) sf := by
  refine md_of (d := 2) (lv := [(0, .ref (a o)), (1, .int x1), (2, .int x2)]) (Or.inl (by decide)) (Nat.le_of_ble_eq_true rfl) rfl ?_
  intro p e s0 m args below meth c ls A P hP hC hr hnm hW hl
  have hx := hC.1
  have hb := hC.2.1
  have hts := hC.2.2.2.2.1
  have B36 : ∀ (K2 : Nat → Int32 → Int32 → Int32 → ST → Option (Int32 × ST)) (hK2 : ∀ (r0 : Nat) (x1 : Int32) (x2 : Int32) (x3 : Int32) (s : ST), K2 r0 x1 x2 x3 s = some (rv, sf) → ∀ (H : Heap) (locs : List Loc) (ls : Array Slot), lv_has ls 4 [(0, .ref (a r0)), (1, .int x1), (2, .int x2), (3, .int x3)] → AW G a A s s0.heap H locs → WB p l e (rmD 2) s0 m args below meth c H locs G A P 2 ls []), ∀ (r0 : Nat) (x1 : Int32) (x2 : Int32) (x3 : Int32) (s : ST), f_X1_isShown_b36 K2 r0 x1 x2 x3 s = some (rv, sf) → ∀ (H : Heap) (locs : List Loc) (ls : Array Slot), lv_has ls 4 [(0, .ref (a r0)), (1, .int x1), (2, .int x2), (3, .int x3)] → AW G a A s s0.heap H locs → WB p l e (rmD 2) s0 m args below meth c H locs G A P 36 ls [] := by
    intro K2 hK2 r0 x1 x2 x3 s hf H locs ls hl hW
    unfold f_X1_isShown_b36 at hf
    obtain ⟨v36, ev36, hf⟩ := bnd_some hf
    refine lv_iinc (v := v36) (lv' := [(3, .int v36), (0, .ref (a r0)), (1, .int x1), (2, .int x2)]) hx hb dX1_isShown_36 hl (k := 3) rfl (by rw [ev36]; rfl) (by decide) rfl (fun ls hl => ?_)
    refine lv_goto (tgt := 2) hx hb dX1_isShown_39 (by decide) ?_
    exact hK2 r0 x1 x2 v36 s hf _ _ _ (lv_sub hl [1, 2, 3, 0] rfl) hW
  have B2 : ∀ (n : Nat), ∀ (r0 : Nat) (x1 : Int32) (x2 : Int32) (x3 : Int32) (s : ST), f_X1_isShown_b2 n r0 x1 x2 x3 s = some (rv, sf) → ∀ (H : Heap) (locs : List Loc) (ls : Array Slot), lv_has ls 4 [(0, .ref (a r0)), (1, .int x1), (2, .int x2), (3, .int x3)] → AW G a A s s0.heap H locs → WB p l e (rmD 2) s0 m args below meth c H locs G A P 2 ls [] := by
    intro n
    induction n with
    | zero => intro r0 x1 x2 x3 s hf; cases hf
    | succ n ih =>
      intro r0 x1 x2 x3 s hf H locs ls hl hW
      rw [f_X1_isShown_b2] at hf
      refine lv_iload_n hx hb dX1_isShown_2 rfl (lv_at hl 3 rfl) ?_
      refine lv_aload_n hx hb dX1_isShown_3 rfl (lv_at hl 0 rfl) ?_
      obtain ⟨g4, hf⟩ := gd_some hf
      refine aw_gI hC hW g4 fl_X1_476 rfl dX1_isShown_4 ?_
      refine lv_icmp_ge (tgt := 42) hx hb dX1_isShown_7 (by decide) (fun c7 => ?_) (fun c7 => ?_)
      · have hf := ifp c7 hf
        refine lv_iconst (v := 1) hx hb dX1_isShown_42 (by decide) ?_
        obtain ⟨e1, e2⟩ := so_inj hf
        exact aw_iret hC hW hr rfl (p_eq hP (congrArg (fun z => some (Value.int z)) e1) e2) (Nat.le_of_ble_eq_true rfl) (Nat.le_of_ble_eq_true rfl) dX1_isShown_43
      · have hf := ifn c7 hf
        refine lv_aload_n hx hb dX1_isShown_10 rfl (lv_at hl 0 rfl) ?_
        obtain ⟨q11, hq11, hf⟩ := bi_some hf
        refine aw_gR hC hW g4 fl_X1_127 rfl hq11 dX1_isShown_11 ?_
        refine lv_iload_n hx hb dX1_isShown_14 rfl (lv_at hl 3 rfl) ?_
        obtain ⟨g15, hf⟩ := gd_some hf
        refine aw_iald hC hW g15 dX1_isShown_15 ?_
        refine lv_iload_n hx hb dX1_isShown_16 rfl (lv_at hl 1 rfl) ?_
        refine lv_icmp_ne (tgt := 36) hx hb dX1_isShown_17 (by decide) (fun c17 => ?_) (fun c17 => ?_)
        · have hf := ifn c17 hf
          exact B36 (f_X1_isShown_b2 n) ih r0 x1 x2 x3 s hf _ _ _ (lv_sub hl [0, 1, 2, 3] rfl) hW
        · have hf := ifp c17 hf
          refine lv_aload_n hx hb dX1_isShown_20 rfl (lv_at hl 0 rfl) ?_
          obtain ⟨q21, hq21, hf⟩ := bi_some hf
          refine aw_gR hC hW g4 fl_X1_130 rfl hq21 dX1_isShown_21 ?_
          refine lv_iload_n hx hb dX1_isShown_24 rfl (lv_at hl 3 rfl) ?_
          obtain ⟨g25, hf⟩ := gd_some hf
          refine aw_iald hC hW g25 dX1_isShown_25 ?_
          refine lv_aload_n hx hb dX1_isShown_26 rfl (lv_at hl 0 rfl) ?_
          refine lv_iload_n hx hb dX1_isShown_27 rfl (lv_at hl 2 rfl) ?_
          obtain ⟨v28, s28, h28, hf⟩ := ob_some hf
          refine aw_dV1 (r := r0) (As := [.int x2]) (rest := [.int (gi s q21 (x3 : Int32).toNatClampNeg)]) (ct_X1_shows l G a r0 x2 s v28 s28 h28) hC hW hl.1 vy_X1_shows (Or.inl q997) g4 rfl rfl rfl rfl (Nat.le_of_ble_eq_true rfl) ⟨Nat.le_of_ble_eq_true rfl, Nat.le_of_ble_eq_true rfl⟩ ⟨Nat.le_of_ble_eq_true rfl, Nat.le_of_ble_eq_true rfl⟩ dX1_isShown_28 (fun H locs hW => ?_)
          refine lv_icmp_eq (tgt := 36) hx hb dX1_isShown_31 (by decide) (fun c31 => ?_) (fun c31 => ?_)
          · have hf := ifp c31 hf
            exact B36 (f_X1_isShown_b2 n) ih r0 x1 x2 x3 s28 hf _ _ _ (lv_sub hl [0, 1, 2, 3] rfl) hW
          · have hf := ifn c31 hf
            refine lv_iconst (v := 0) hx hb dX1_isShown_34 (by decide) ?_
            obtain ⟨e1, e2⟩ := so_inj hf
            exact aw_iret hC hW hr rfl (p_eq hP (congrArg (fun z => some (Value.int z)) e1) e2) (Nat.le_of_ble_eq_true rfl) (Nat.le_of_ble_eq_true rfl) dX1_isShown_35
  unfold f_X1_isShown at hf
  refine lv_iconst (v := 0) hx hb dX1_isShown_0 (by decide) ?_
  refine lv_istore_n (lv' := [(3, .int 0), (0, .ref (a o)), (1, .int x1), (2, .int x2)]) hx hb dX1_isShown_1 rfl hl (by decide) rfl (fun ls hl => ?_)
  exact B2 fuel o x1 x2 0 s hf _ _ _ (lv_sub hl [1, 2, 3, 0] rfl) hW
def f_X1_canBe_b2 : Nat → Nat → Int32 → Int32 → ST → Option (Int32 × ST)
  | 0, _, _, _, _ => none
  | n + 1, r0, x1, x2, s =>
  if 999 < x2 then (some (0, s)) else gd (r0 < s.1 ∧ (kd s r0).1 = 1) <|
  ob (f_X1_isShown r0 x1 x2 s) fun v12 s12 =>
  if v12 = 0 then (bnd (x2 + 1 : Int32) fun v20 =>
  f_X1_canBe_b2 n r0 x1 v20 s12) else some (1, s12)
def f_X1_canBe (o : Nat) (x1 : Int32) (s : ST) : Option (Int32 × ST) :=
  f_X1_canBe_b2 fuel o x1 1 s
set_option maxHeartbeats 4000000 in
theorem ct_X1_canBe (l : Launch) (G : GM) (a : Nat → Nat) (o : Nat) (x1 : Int32) (s : ST) (rv : Int32) (sf : ST) (hf : f_X1_canBe o x1 s = some (rv, sf)) : MD l G yX1_canBe (ws_ yX1_canBe cX1_canBe 3 (some .boolean)) 3 [.ref (a o), .int x1] a s (some (.int rv)) sf := by
  refine md_of (d := 3) (lv := [(0, .ref (a o)), (1, .int x1)]) (Or.inl (by decide)) (Nat.le_of_ble_eq_true rfl) rfl ?_
  intro p e s0 m args below meth c ls A P hP hC hr hnm hW hl
  have hx := hC.1
  have hb := hC.2.1
  have hts := hC.2.2.2.2.1
  have B2 : ∀ (n : Nat), ∀ (r0 : Nat) (x1 : Int32) (x2 : Int32) (s : ST), f_X1_canBe_b2 n r0 x1 x2 s = some (rv, sf) → ∀ (H : Heap) (locs : List Loc) (ls : Array Slot), lv_has ls 3 [(0, .ref (a r0)), (1, .int x1), (2, .int x2)] → AW G a A s s0.heap H locs → WB p l e (rmD 3) s0 m args below meth c H locs G A P 2 ls [] := by
    intro n
    induction n with
    | zero => intro r0 x1 x2 s hf; cases hf
    | succ n ih =>
      intro r0 x1 x2 s hf H locs ls hl hW
      rw [f_X1_canBe_b2] at hf
      refine lv_iload_n hx hb dX1_canBe_2 rfl (lv_at hl 2 rfl) ?_
      refine lv_sipush (v := 999) hx hb dX1_canBe_3 (by decide) ?_
      refine lv_icmp_gt (tgt := 26) hx hb dX1_canBe_6 (by decide) (fun c6 => ?_) (fun c6 => ?_)
      · have hf := ifp c6 hf
        refine lv_iconst (v := 0) hx hb dX1_canBe_26 (by decide) ?_
        obtain ⟨e1, e2⟩ := so_inj hf
        exact aw_iret hC hW hr rfl (p_eq hP (congrArg (fun z => some (Value.int z)) e1) e2) (Nat.le_of_ble_eq_true rfl) (Nat.le_of_ble_eq_true rfl) dX1_canBe_27
      · have hf := ifn c6 hf
        refine lv_aload_n hx hb dX1_canBe_9 rfl (lv_at hl 0 rfl) ?_
        refine lv_iload_n hx hb dX1_canBe_10 rfl (lv_at hl 1 rfl) ?_
        refine lv_iload_n hx hb dX1_canBe_11 rfl (lv_at hl 2 rfl) ?_
        obtain ⟨g12, hf⟩ := gd_some hf
        obtain ⟨v12, s12, h12, hf⟩ := ob_some hf
        refine aw_dV1 (r := r0) (As := [.int x1, .int x2]) (rest := []) (ct_X1_isShown l G a r0 x1 x2 s v12 s12 h12) hC hW hl.1 vy_X1_isShown (Or.inl q1194) g12 rfl rfl rfl rfl (Nat.le_of_ble_eq_true rfl) ⟨Nat.le_of_ble_eq_true rfl, Nat.le_of_ble_eq_true rfl⟩ ⟨Nat.le_of_ble_eq_true rfl, Nat.le_of_ble_eq_true rfl⟩ dX1_canBe_12 (fun H locs hW => ?_)
        refine lv_if_eq (tgt := 20) hx hb dX1_canBe_15 (by decide) (fun c15 => ?_) (fun c15 => ?_)
        · have hf := ifp c15 hf
          obtain ⟨v20, ev20, hf⟩ := bnd_some hf
          refine lv_iinc (v := v20) (lv' := [(2, .int v20), (0, .ref (a r0)), (1, .int x1)]) hx hb dX1_canBe_20 hl (k := 2) rfl (by rw [ev20]; rfl) (by decide) rfl (fun ls hl => ?_)
          refine lv_goto (tgt := 2) hx hb dX1_canBe_23 (by decide) ?_
          exact ih r0 x1 v20 s12 hf _ _ _ (lv_sub hl [1, 2, 0] rfl) hW
        · have hf := ifn c15 hf
          refine lv_iconst (v := 1) hx hb dX1_canBe_18 (by decide) ?_
          obtain ⟨e1, e2⟩ := so_inj hf
          exact aw_iret hC hW hr rfl (p_eq hP (congrArg (fun z => some (Value.int z)) e1) e2) (Nat.le_of_ble_eq_true rfl) (Nat.le_of_ble_eq_true rfl) dX1_canBe_19
  unfold f_X1_canBe at hf
  refine lv_iconst (v := 1) hx hb dX1_canBe_0 (by decide) ?_
  refine lv_istore_n (lv' := [(2, .int 1), (0, .ref (a o)), (1, .int x1)]) hx hb dX1_canBe_1 rfl hl (by decide) rfl (fun ls hl => ?_)
  exact B2 fuel o x1 1 s hf _ _ _ (lv_sub hl [1, 2, 0] rfl) hW
def f_X1_canFollow_b60 (K13 : Nat → Int32 → Int32 → Int32 → ST → Option (Int32 × ST)) (r0 : Nat) (x1 : Int32) (x2 : Int32) (x3 : Int32) (s : ST) : Option (Int32 × ST) :=
  bnd (x3 + 1 : Int32) fun v60 =>
  K13 r0 x1 x2 v60 s
def f_X1_canFollow_b13 : Nat → Nat → Int32 → Int32 → Int32 → ST → Option (Int32 × ST)
  | 0, _, _, _, _, _ => none
  | n + 1, r0, x1, x2, x3, s =>
  gd (r0 < s.1 ∧ (kd s r0).1 = 1) <|
  if (gi s r0 4) ≤ x3 then (some (0, s)) else bnd (p_has x2 x3) fun v23 =>
  if v23 = 0 then (f_X1_canFollow_b60 (f_X1_canFollow_b13 n) r0 x1 x2 x3 s) else (gr s r0 2).bind fun q31 =>
  gd (q31 < s.1 ∧ (kd s q31).1 = 2) <|
  (gr s q31 0).bind fun q34 =>
  gd (q34 < s.1 ∧ (kd s q34).1 = 100 ∧ ¬ ((x1 : Int32) < 0 ∨ (kd s q34).2 ≤ (x1 : Int32).toNatClampNeg)) <|
  ob (f_X1_shows r0 (gi s q34 (x1 : Int32).toNatClampNeg) s) fun v39 s39 =>
  gd (r0 < s39.1 ∧ (kd s39 r0).1 = 1) <|
  (gr s39 r0 2).bind fun q44 =>
  gd (q44 < s39.1 ∧ (kd s39 q44).1 = 2) <|
  (gr s39 q44 0).bind fun q47 =>
  gd (q47 < s39.1 ∧ (kd s39 q47).1 = 100 ∧ ¬ ((x3 : Int32) < 0 ∨ (kd s39 q47).2 ≤ (x3 : Int32).toNatClampNeg)) <|
  ob (f_X1_shows r0 (gi s39 q47 (x3 : Int32).toNatClampNeg) s39) fun v52 s52 =>
  if v39 ≤ v52 then (f_X1_canFollow_b60 (f_X1_canFollow_b13 n) r0 x1 x2 x3 s52) else some (1, s52)
def f_X1_canFollow (o : Nat) (x1 : Int32) (x2 : Int32) (s : ST) : Option (Int32 × ST) :=
  bnd (p_has x2 8) fun v3 =>
  if v3 = 0 then (f_X1_canFollow_b13 fuel o x1 x2 0 s) else some (1, s)
set_option maxHeartbeats 4000000 in
theorem ct_X1_canFollow (l : Launch) (G : GM) (a : Nat → Nat) (o : Nat) (x1 : Int32) (x2 : Int32) (s : ST) (rv : Int32) (sf : ST) (hf : f_X1_canFollow o x1 x2 s = some (rv, sf)) : MD l G yX1_canFollow (ws_ yX1_canFollow cX1_canFollow 4 (some .boolean)) 2 [.ref (a o), .int x1, .int x2] a s (some (.int rv)) sf := by
  refine md_of (d := 2) (lv := [(0, .ref (a o)), (1, .int x1), (2, .int x2)]) (Or.inl (by decide)) (Nat.le_of_ble_eq_true rfl) rfl ?_
  intro p e s0 m args below meth c ls A P hP hC hr hnm hW hl
  have hx := hC.1
  have hb := hC.2.1
  have hts := hC.2.2.2.2.1
  have B60 : ∀ (K13 : Nat → Int32 → Int32 → Int32 → ST → Option (Int32 × ST)) (hK13 : ∀ (r0 : Nat) (x1 : Int32) (x2 : Int32) (x3 : Int32) (s : ST), K13 r0 x1 x2 x3 s = some (rv, sf) → ∀ (H : Heap) (locs : List Loc) (ls : Array Slot), lv_has ls 4 [(0, .ref (a r0)), (1, .int x1), (2, .int x2), (3, .int x3)] → AW G a A s s0.heap H locs → WB p l e (rmD 2) s0 m args below meth c H locs G A P 13 ls []), ∀ (r0 : Nat) (x1 : Int32) (x2 : Int32) (x3 : Int32) (s : ST), f_X1_canFollow_b60 K13 r0 x1 x2 x3 s = some (rv, sf) → ∀ (H : Heap) (locs : List Loc) (ls : Array Slot), lv_has ls 4 [(0, .ref (a r0)), (1, .int x1), (2, .int x2), (3, .int x3)] → AW G a A s s0.heap H locs → WB p l e (rmD 2) s0 m args below meth c H locs G A P 60 ls [] := by
    intro K13 hK13 r0 x1 x2 x3 s hf H locs ls hl hW
    unfold f_X1_canFollow_b60 at hf
    obtain ⟨v60, ev60, hf⟩ := bnd_some hf
    refine lv_iinc (v := v60) (lv' := [(3, .int v60), (0, .ref (a r0)), (1, .int x1), (2, .int x2)]) hx hb dX1_canFollow_60 hl (k := 3) rfl (by rw [ev60]; rfl) (by decide) rfl (fun ls hl => ?_)
    refine lv_goto (tgt := 13) hx hb dX1_canFollow_63 (by decide) ?_
    exact hK13 r0 x1 x2 v60 s hf _ _ _ (lv_sub hl [1, 2, 3, 0] rfl) hW
  have B13 : ∀ (n : Nat), ∀ (r0 : Nat) (x1 : Int32) (x2 : Int32) (x3 : Int32) (s : ST), f_X1_canFollow_b13 n r0 x1 x2 x3 s = some (rv, sf) → ∀ (H : Heap) (locs : List Loc) (ls : Array Slot), lv_has ls 4 [(0, .ref (a r0)), (1, .int x1), (2, .int x2), (3, .int x3)] → AW G a A s s0.heap H locs → WB p l e (rmD 2) s0 m args below meth c H locs G A P 13 ls [] := by
    intro n
    induction n with
    | zero => intro r0 x1 x2 x3 s hf; cases hf
    | succ n ih =>
      intro r0 x1 x2 x3 s hf H locs ls hl hW
      rw [f_X1_canFollow_b13] at hf
      refine lv_iload_n hx hb dX1_canFollow_13 rfl (lv_at hl 3 rfl) ?_
      refine lv_aload_n hx hb dX1_canFollow_14 rfl (lv_at hl 0 rfl) ?_
      obtain ⟨g15, hf⟩ := gd_some hf
      refine aw_gI hC hW g15 fl_X1_157 rfl dX1_canFollow_15 ?_
      refine lv_icmp_ge (tgt := 66) hx hb dX1_canFollow_18 (by decide) (fun c18 => ?_) (fun c18 => ?_)
      · have hf := ifp c18 hf
        refine lv_iconst (v := 0) hx hb dX1_canFollow_66 (by decide) ?_
        obtain ⟨e1, e2⟩ := so_inj hf
        exact aw_iret hC hW hr rfl (p_eq hP (congrArg (fun z => some (Value.int z)) e1) e2) (Nat.le_of_ble_eq_true rfl) (Nat.le_of_ble_eq_true rfl) dX1_canFollow_67
      · have hf := ifn c18 hf
        refine lv_iload_n hx hb dX1_canFollow_21 rfl (lv_at hl 2 rfl) ?_
        refine lv_iload_n hx hb dX1_canFollow_22 rfl (lv_at hl 3 rfl) ?_
        obtain ⟨v23, ev23, hf⟩ := bnd_some hf
        refine aw_dS1 (As := [.int x2, .int x3]) (rest := []) (pc_X1_has l G a x2 x3 s) hC hW hl.1 sy_X1_has (Or.inl q930) rfl rfl (Nat.le_of_ble_eq_true rfl) ⟨Nat.le_of_ble_eq_true rfl, Nat.le_of_ble_eq_true rfl⟩ ⟨Nat.le_of_ble_eq_true rfl, Nat.le_of_ble_eq_true rfl⟩ dX1_canFollow_23 (fun H locs hW => ?_)
        refine top_i ev23 ?_
        refine lv_if_eq (tgt := 60) hx hb dX1_canFollow_26 (by decide) (fun c26 => ?_) (fun c26 => ?_)
        · have hf := ifp c26 hf
          exact B60 (f_X1_canFollow_b13 n) ih r0 x1 x2 x3 s hf _ _ _ (lv_sub hl [0, 1, 2, 3] rfl) hW
        · have hf := ifn c26 hf
          refine lv_aload_n hx hb dX1_canFollow_29 rfl (lv_at hl 0 rfl) ?_
          refine lv_aload_n hx hb dX1_canFollow_30 rfl (lv_at hl 0 rfl) ?_
          obtain ⟨q31, hq31, hf⟩ := bi_some hf
          refine aw_gR hC hW g15 fl_X1_22 rfl hq31 dX1_canFollow_31 ?_
          obtain ⟨g34, hf⟩ := gd_some hf
          obtain ⟨q34, hq34, hf⟩ := bi_some hf
          refine aw_gR hC hW g34 fl_X1_236 rfl hq34 dX1_canFollow_34 ?_
          refine lv_iload_n hx hb dX1_canFollow_37 rfl (lv_at hl 1 rfl) ?_
          obtain ⟨g38, hf⟩ := gd_some hf
          refine aw_iald hC hW g38 dX1_canFollow_38 ?_
          obtain ⟨v39, s39, h39, hf⟩ := ob_some hf
          refine aw_dV1 (r := r0) (As := [.int (gi s q34 (x1 : Int32).toNatClampNeg)]) (rest := []) (ct_X1_shows l G a r0 (gi s q34 (x1 : Int32).toNatClampNeg) s v39 s39 h39) hC hW hl.1 vy_X1_shows (Or.inl q997) g15 rfl rfl rfl rfl (Nat.le_of_ble_eq_true rfl) ⟨Nat.le_of_ble_eq_true rfl, Nat.le_of_ble_eq_true rfl⟩ ⟨Nat.le_of_ble_eq_true rfl, Nat.le_of_ble_eq_true rfl⟩ dX1_canFollow_39 (fun H locs hW => ?_)
          refine lv_aload_n hx hb dX1_canFollow_42 rfl (lv_at hl 0 rfl) ?_
          refine lv_aload_n hx hb dX1_canFollow_43 rfl (lv_at hl 0 rfl) ?_
          obtain ⟨g44, hf⟩ := gd_some hf
          obtain ⟨q44, hq44, hf⟩ := bi_some hf
          refine aw_gR hC hW g44 fl_X1_22 rfl hq44 dX1_canFollow_44 ?_
          obtain ⟨g47, hf⟩ := gd_some hf
          obtain ⟨q47, hq47, hf⟩ := bi_some hf
          refine aw_gR hC hW g47 fl_X1_236 rfl hq47 dX1_canFollow_47 ?_
          refine lv_iload_n hx hb dX1_canFollow_50 rfl (lv_at hl 3 rfl) ?_
          obtain ⟨g51, hf⟩ := gd_some hf
          refine aw_iald hC hW g51 dX1_canFollow_51 ?_
          obtain ⟨v52, s52, h52, hf⟩ := ob_some hf
          refine aw_dV1 (r := r0) (As := [.int (gi s39 q47 (x3 : Int32).toNatClampNeg)]) (rest := [.int v39]) (ct_X1_shows l G a r0 (gi s39 q47 (x3 : Int32).toNatClampNeg) s39 v52 s52 h52) hC hW hl.1 vy_X1_shows (Or.inl q997) g44 rfl rfl rfl rfl (Nat.le_of_ble_eq_true rfl) ⟨Nat.le_of_ble_eq_true rfl, Nat.le_of_ble_eq_true rfl⟩ ⟨Nat.le_of_ble_eq_true rfl, Nat.le_of_ble_eq_true rfl⟩ dX1_canFollow_52 (fun H locs hW => ?_)
          refine lv_icmp_le (tgt := 60) hx hb dX1_canFollow_55 (by decide) (fun c55 => ?_) (fun c55 => ?_)
          · have hf := ifp c55 hf
            exact B60 (f_X1_canFollow_b13 n) ih r0 x1 x2 x3 s52 hf _ _ _ (lv_sub hl [0, 1, 2, 3] rfl) hW
          · have hf := ifn c55 hf
            refine lv_iconst (v := 1) hx hb dX1_canFollow_58 (by decide) ?_
            obtain ⟨e1, e2⟩ := so_inj hf
            exact aw_iret hC hW hr rfl (p_eq hP (congrArg (fun z => some (Value.int z)) e1) e2) (Nat.le_of_ble_eq_true rfl) (Nat.le_of_ble_eq_true rfl) dX1_canFollow_59
  unfold f_X1_canFollow at hf
  refine lv_iload_n hx hb dX1_canFollow_0 rfl (lv_at hl 2 rfl) ?_
  refine lv_bipush (v := 8) hx hb dX1_canFollow_1 (by decide) ?_
  obtain ⟨v3, ev3, hf⟩ := bnd_some hf
  refine aw_dS1 (As := [.int x2, .int 8]) (rest := []) (pc_X1_has l G a x2 8 s) hC hW hl.1 sy_X1_has (Or.inl q930) rfl rfl (Nat.le_of_ble_eq_true rfl) ⟨Nat.le_of_ble_eq_true rfl, Nat.le_of_ble_eq_true rfl⟩ ⟨Nat.le_of_ble_eq_true rfl, Nat.le_of_ble_eq_true rfl⟩ dX1_canFollow_3 (fun H locs hW => ?_)
  refine top_i ev3 ?_
  refine lv_if_eq (tgt := 11) hx hb dX1_canFollow_6 (by decide) (fun c6 => ?_) (fun c6 => ?_)
  · have hf := ifp c6 hf
    refine lv_iconst (v := 0) hx hb dX1_canFollow_11 (by decide) ?_
    refine lv_istore_n (lv' := [(3, .int 0), (0, .ref (a o)), (1, .int x1), (2, .int x2)]) hx hb dX1_canFollow_12 rfl hl (by decide) rfl (fun ls hl => ?_)
    exact B13 fuel o x1 x2 0 s hf _ _ _ (lv_sub hl [1, 2, 3, 0] rfl) hW
  · have hf := ifn c6 hf
    refine lv_iconst (v := 1) hx hb dX1_canFollow_9 (by decide) ?_
    obtain ⟨e1, e2⟩ := so_inj hf
    exact aw_iret hC hW hr rfl (p_eq hP (congrArg (fun z => some (Value.int z)) e1) e2) (Nat.le_of_ble_eq_true rfl) (Nat.le_of_ble_eq_true rfl) dX1_canFollow_10
def f_X1_liars_b37 (K4 : Nat → Int32 → Int32 → ST → Option (Int32 × ST)) (r0 : Nat) (x2 : Int32) (t0 : Int32) (t1 : Int32) (s : ST) : Option (Int32 × ST) :=
  bnd ((t1 ||| t0) : Int32) fun v38 =>
  bnd (x2 + 1 : Int32) fun v39 =>
  K4 r0 v38 v39 s
def f_X1_liars_b4 : Nat → Nat → Int32 → Int32 → ST → Option (Int32 × ST)
  | 0, _, _, _, _ => none
  | n + 1, r0, x1, x2, s =>
  gd (r0 < s.1 ∧ (kd s r0).1 = 1) <|
  if (gi s r0 4) ≤ x2 then (some (x1, s)) else (gr s r0 1).bind fun q16 =>
  gd (q16 < s.1 ∧ (kd s q16).1 = 2) <|
  (gr s q16 0).bind fun q19 =>
  gd (q19 < s.1 ∧ (kd s q19).1 = 100 ∧ ¬ ((x2 : Int32) < 0 ∨ (kd s q19).2 ≤ (x2 : Int32).toNatClampNeg)) <|
  ob (f_X1_isShown r0 x2 (gi s q19 (x2 : Int32).toNatClampNeg) s) fun v24 s24 =>
  if v24 = 0 then (f_X1_liars_b37 (f_X1_liars_b4 n) r0 x2 (1 <<< (x2 &&& 31)) x1 s24) else f_X1_liars_b37 (f_X1_liars_b4 n) r0 x2 0 x1 s24
def f_X1_liars (o : Nat) (s : ST) : Option (Int32 × ST) :=
  f_X1_liars_b4 fuel o 0 0 s
set_option maxHeartbeats 4000000 in
theorem ct_X1_liars (l : Launch) (G : GM) (a : Nat → Nat) (o : Nat) (s : ST) (rv : Int32) (sf : ST) (hf : f_X1_liars o s = some (rv, sf)) : MD l G yX1_liars (ws_ yX1_liars cX1_liars 3 (some .int)) 3 [.ref (a o)] a s (some (.int rv)) sf := by
  refine md_of (d := 3) (lv := [(0, .ref (a o))]) (Or.inl (by decide)) (Nat.le_of_ble_eq_true rfl) rfl ?_
  intro p e s0 m args below meth c ls A P hP hC hr hnm hW hl
  have hx := hC.1
  have hb := hC.2.1
  have hts := hC.2.2.2.2.1
  have B37 : ∀ (K4 : Nat → Int32 → Int32 → ST → Option (Int32 × ST)) (hK4 : ∀ (r0 : Nat) (x1 : Int32) (x2 : Int32) (s : ST), K4 r0 x1 x2 s = some (rv, sf) → ∀ (H : Heap) (locs : List Loc) (ls : Array Slot), lv_has ls 3 [(0, .ref (a r0)), (1, .int x1), (2, .int x2)] → AW G a A s s0.heap H locs → WB p l e (rmD 3) s0 m args below meth c H locs G A P 4 ls []), ∀ (r0 : Nat) (x2 : Int32) (t0 : Int32) (t1 : Int32) (s : ST), f_X1_liars_b37 K4 r0 x2 t0 t1 s = some (rv, sf) → ∀ (H : Heap) (locs : List Loc) (ls : Array Slot), lv_has ls 3 [(0, .ref (a r0)), (2, .int x2)] → AW G a A s s0.heap H locs → WB p l e (rmD 3) s0 m args below meth c H locs G A P 37 ls [.int t0, .int t1] := by
    intro K4 hK4 r0 x2 t0 t1 s hf H locs ls hl hW
    unfold f_X1_liars_b37 at hf
    refine lv_ior hx hb dX1_liars_37 ?_
    obtain ⟨v38, ev38, hf⟩ := bnd_some hf
    refine top_i ev38 ?_
    refine lv_istore_n (lv' := [(1, .int v38), (0, .ref (a r0)), (2, .int x2)]) hx hb dX1_liars_38 rfl hl (by decide) rfl (fun ls hl => ?_)
    obtain ⟨v39, ev39, hf⟩ := bnd_some hf
    refine lv_iinc (v := v39) (lv' := [(2, .int v39), (1, .int v38), (0, .ref (a r0))]) hx hb dX1_liars_39 hl (k := 2) rfl (by rw [ev39]; rfl) (by decide) rfl (fun ls hl => ?_)
    refine lv_goto (tgt := 4) hx hb dX1_liars_42 (by decide) ?_
    exact hK4 r0 v38 v39 s hf _ _ _ (lv_sub hl [2, 1, 0] rfl) hW
  have B4 : ∀ (n : Nat), ∀ (r0 : Nat) (x1 : Int32) (x2 : Int32) (s : ST), f_X1_liars_b4 n r0 x1 x2 s = some (rv, sf) → ∀ (H : Heap) (locs : List Loc) (ls : Array Slot), lv_has ls 3 [(0, .ref (a r0)), (1, .int x1), (2, .int x2)] → AW G a A s s0.heap H locs → WB p l e (rmD 3) s0 m args below meth c H locs G A P 4 ls [] := by
    intro n
    induction n with
    | zero => intro r0 x1 x2 s hf; cases hf
    | succ n ih =>
      intro r0 x1 x2 s hf H locs ls hl hW
      rw [f_X1_liars_b4] at hf
      refine lv_iload_n hx hb dX1_liars_4 rfl (lv_at hl 2 rfl) ?_
      refine lv_aload_n hx hb dX1_liars_5 rfl (lv_at hl 0 rfl) ?_
      obtain ⟨g6, hf⟩ := gd_some hf
      refine aw_gI hC hW g6 fl_X1_157 rfl dX1_liars_6 ?_
      refine lv_icmp_ge (tgt := 45) hx hb dX1_liars_9 (by decide) (fun c9 => ?_) (fun c9 => ?_)
      · have hf := ifp c9 hf
        refine lv_iload_n hx hb dX1_liars_45 rfl (lv_at hl 1 rfl) ?_
        obtain ⟨e1, e2⟩ := so_inj hf
        exact aw_iret hC hW hr rfl (p_eq hP (congrArg (fun z => some (Value.int z)) e1) e2) (Nat.le_of_ble_eq_true rfl) (Nat.le_of_ble_eq_true rfl) dX1_liars_46
      · have hf := ifn c9 hf
        refine lv_iload_n hx hb dX1_liars_12 rfl (lv_at hl 1 rfl) ?_
        refine lv_aload_n hx hb dX1_liars_13 rfl (lv_at hl 0 rfl) ?_
        refine lv_iload_n hx hb dX1_liars_14 rfl (lv_at hl 2 rfl) ?_
        refine lv_aload_n hx hb dX1_liars_15 rfl (lv_at hl 0 rfl) ?_
        obtain ⟨q16, hq16, hf⟩ := bi_some hf
        refine aw_gR hC hW g6 fl_X1_18 rfl hq16 dX1_liars_16 ?_
        obtain ⟨g19, hf⟩ := gd_some hf
        obtain ⟨q19, hq19, hf⟩ := bi_some hf
        refine aw_gR hC hW g19 fl_X1_236 rfl hq19 dX1_liars_19 ?_
        refine lv_iload_n hx hb dX1_liars_22 rfl (lv_at hl 2 rfl) ?_
        obtain ⟨g23, hf⟩ := gd_some hf
        refine aw_iald hC hW g23 dX1_liars_23 ?_
        obtain ⟨v24, s24, h24, hf⟩ := ob_some hf
        refine aw_dV1 (r := r0) (As := [.int x2, .int (gi s q19 (x2 : Int32).toNatClampNeg)]) (rest := [.int x1]) (ct_X1_isShown l G a r0 x2 (gi s q19 (x2 : Int32).toNatClampNeg) s v24 s24 h24) hC hW hl.1 vy_X1_isShown (Or.inl q1194) g6 rfl rfl rfl rfl (Nat.le_of_ble_eq_true rfl) ⟨Nat.le_of_ble_eq_true rfl, Nat.le_of_ble_eq_true rfl⟩ ⟨Nat.le_of_ble_eq_true rfl, Nat.le_of_ble_eq_true rfl⟩ dX1_liars_24 (fun H locs hW => ?_)
        refine lv_if_eq (tgt := 34) hx hb dX1_liars_27 (by decide) (fun c27 => ?_) (fun c27 => ?_)
        · have hf := ifp c27 hf
          refine lv_iconst (v := 1) hx hb dX1_liars_34 (by decide) ?_
          refine lv_iload_n hx hb dX1_liars_35 rfl (lv_at hl 2 rfl) ?_
          refine lv_ishl hx hb dX1_liars_36 ?_
          exact B37 (f_X1_liars_b4 n) ih r0 x2 (1 <<< (x2 &&& 31)) x1 s24 hf _ _ _ (lv_sub hl [0, 2] rfl) hW
        · have hf := ifn c27 hf
          refine lv_iconst (v := 0) hx hb dX1_liars_30 (by decide) ?_
          refine lv_goto (tgt := 37) hx hb dX1_liars_31 (by decide) ?_
          exact B37 (f_X1_liars_b4 n) ih r0 x2 0 x1 s24 hf _ _ _ (lv_sub hl [0, 2] rfl) hW
  unfold f_X1_liars at hf
  refine lv_iconst (v := 0) hx hb dX1_liars_0 (by decide) ?_
  refine lv_istore_n (lv' := [(1, .int 0), (0, .ref (a o))]) hx hb dX1_liars_1 rfl hl (by decide) rfl (fun ls hl => ?_)
  refine lv_iconst (v := 0) hx hb dX1_liars_2 (by decide) ?_
  refine lv_istore_n (lv' := [(2, .int 0), (1, .int 0), (0, .ref (a o))]) hx hb dX1_liars_3 rfl hl (by decide) rfl (fun ls hl => ?_)
  exact B4 fuel o 0 0 s hf _ _ _ (lv_sub hl [2, 1, 0] rfl) hW
def f_X1_cheats_b66 (K20 : Nat → Int32 → Int32 → Int32 → Int32 → ST → Option (Int32 × ST)) (r0 : Nat) (x1 : Int32) (x2 : Int32) (x3 : Int32) (x4 : Int32) (s : ST) : Option (Int32 × ST) :=
  gd (r0 < s.1 ∧ (kd s r0).1 = 1) <|
  bnd (pI s r0 8 ((gi s r0 8) + 1)) fun s73 =>
  K20 r0 x1 x2 x3 x4 s73
def f_X1_cheats_b55 (K20 : Nat → Int32 → Int32 → Int32 → Int32 → ST → Option (Int32 × ST)) (r0 : Nat) (x1 : Int32) (x5 : Int32) (s : ST) : Option (Int32 × ST) :=
  gd (r0 < s.1 ∧ (kd s r0).1 = 1) <|
  bnd ((gi s r0 8) : Int32) fun v65 =>
  f_X1_cheats_b66 K20 r0 x1 x5 v65 1 s
def f_X1_cheats_b20 : Nat → Nat → Int32 → Int32 → Int32 → Int32 → ST → Option (Int32 × ST)
  | 0, _, _, _, _, _, _ => none
  | n + 1, r0, x1, x2, x3, x4, s =>
  gd (r0 < s.1 ∧ (kd s r0).1 = 1) <|
  if 9 < (gi s r0 8) then (bnd (pI s r0 8 x1) fun s81 =>
  bnd (pI s81 r0 12 0) fun s99 =>
  ob (f_X1_tell r0 ((x2 : Int32).toInt64) s99) fun _ s105 =>
  gd (r0 < s105.1 ∧ (kd s105 r0).1 = 1) <|
  ob (f_X1_tell r0 ((x3 : Int32).toInt64) s105) fun _ s111 =>
  ob (f_J8_bitCount x2 s111) fun v115 s115 =>
  some (v115, s115)) else ob (f_X1_liars r0 s) fun v30 s30 =>
  if x4 = 0 then (f_X1_cheats_b55 (f_X1_cheats_b20 n) r0 x1 v30 s30) else ob (f_J8_bitCount v30 s30) fun v42 s42 =>
  ob (f_J8_bitCount x2 s42) fun v46 s46 =>
  if v42 < v46 then (f_X1_cheats_b55 (f_X1_cheats_b20 n) r0 x1 v30 s46) else f_X1_cheats_b66 (f_X1_cheats_b20 n) r0 x1 x2 x3 x4 s46
def f_X1_cheats (o : Nat) (s : ST) : Option (Int32 × ST) :=
  gd (o < s.1 ∧ (kd s o).1 = 1) <|
  bnd ((gi s o 8) : Int32) fun v4 =>
  bnd (pI s o 8 (-9)) fun s17 =>
  f_X1_cheats_b20 fuel o v4 255 0 0 s17
set_option maxHeartbeats 4000000 in
theorem ct_X1_cheats (l : Launch) (G : GM) (a : Nat → Nat) (o : Nat) (s : ST) (rv : Int32) (sf : ST) (hf : f_X1_cheats o s = some (rv, sf)) : MD l G yX1_cheats (wsW_ yX1_cheats cX1_cheats 7 (some .int) [(14, 79, 87, 0), (87, 89, 87, 0)]) 4 [.ref (a o)] a s (some (.int rv)) sf := by
  refine md_ofW (d := 4) (lv := [(0, .ref (a o))]) (by decide) (Nat.le_of_ble_eq_true rfl) rfl ?_
  intro p e s0 m args below meth c ls A P hP hC hr hnm hW hl
  have hx := hC.1
  have hb := hC.2.1
  have hts := hC.2.2.2.2.1
  have B66 : ∀ (K20 : Nat → Int32 → Int32 → Int32 → Int32 → ST → Option (Int32 × ST)) (hK20 : ∀ (r0 : Nat) (x1 : Int32) (x2 : Int32) (x3 : Int32) (x4 : Int32) (s : ST), K20 r0 x1 x2 x3 x4 s = some (rv, sf) → ∀ (H : Heap) (locs : List Loc) (ls : Array Slot), lv_has ls 7 [(0, .ref (a r0)), (1, .int x1), (2, .int x2), (3, .int x3), (4, .int x4)] → AW G a A s s0.heap H locs → WB p l e (rmD 4) s0 m args below meth c H locs G A P 20 ls []), ∀ (r0 : Nat) (x1 : Int32) (x2 : Int32) (x3 : Int32) (x4 : Int32) (s : ST), f_X1_cheats_b66 K20 r0 x1 x2 x3 x4 s = some (rv, sf) → ∀ (H : Heap) (locs : List Loc) (ls : Array Slot), lv_has ls 7 [(0, .ref (a r0)), (1, .int x1), (2, .int x2), (3, .int x3), (4, .int x4)] → AW G a A s s0.heap H locs → WB p l e (rmD 4) s0 m args below meth c H locs G A P 66 ls [] := by
    intro K20 hK20 r0 x1 x2 x3 x4 s hf H locs ls hl hW
    unfold f_X1_cheats_b66 at hf
    refine lv_aload_n hx hb dX1_cheats_66 rfl (lv_at hl 0 rfl) ?_
    refine lv_dup hx hb dX1_cheats_67 rfl ?_
    obtain ⟨g68, hf⟩ := gd_some hf
    refine aw_gI hC hW g68 fl_X1_175 rfl dX1_cheats_68 ?_
    refine lv_iconst (v := 1) hx hb dX1_cheats_71 (by decide) ?_
    refine lv_iadd hx hb dX1_cheats_72 ?_
    obtain ⟨s73, e73, hf⟩ := bnd_some hf
    refine aw_pI e73 hC hW g68 fl_X1_175 (Or.inl fn_0_8) rfl rfl rfl dX1_cheats_73 (fun H locs hW => ?_)
    have g68 := ko_pI e73 g68
    refine lv_goto (tgt := 20) hx hb dX1_cheats_76 (by decide) ?_
    exact hK20 r0 x1 x2 x3 x4 s73 hf _ _ _ (lv_sub hl [0, 1, 2, 3, 4] rfl) hW
  have B55 : ∀ (K20 : Nat → Int32 → Int32 → Int32 → Int32 → ST → Option (Int32 × ST)) (hK20 : ∀ (r0 : Nat) (x1 : Int32) (x2 : Int32) (x3 : Int32) (x4 : Int32) (s : ST), K20 r0 x1 x2 x3 x4 s = some (rv, sf) → ∀ (H : Heap) (locs : List Loc) (ls : Array Slot), lv_has ls 7 [(0, .ref (a r0)), (1, .int x1), (2, .int x2), (3, .int x3), (4, .int x4)] → AW G a A s s0.heap H locs → WB p l e (rmD 4) s0 m args below meth c H locs G A P 20 ls []), ∀ (r0 : Nat) (x1 : Int32) (x5 : Int32) (s : ST), f_X1_cheats_b55 K20 r0 x1 x5 s = some (rv, sf) → ∀ (H : Heap) (locs : List Loc) (ls : Array Slot), lv_has ls 7 [(0, .ref (a r0)), (1, .int x1), (5, .int x5)] → AW G a A s s0.heap H locs → WB p l e (rmD 4) s0 m args below meth c H locs G A P 55 ls [] := by
    intro K20 hK20 r0 x1 x5 s hf H locs ls hl hW
    unfold f_X1_cheats_b55 at hf
    refine lv_iconst (v := 1) hx hb dX1_cheats_55 (by decide) ?_
    refine lv_istore (lv' := [(4, .int 1), (0, .ref (a r0)), (1, .int x1), (5, .int x5)]) hx hb dX1_cheats_56 hl (by decide) rfl (fun ls hl => ?_)
    refine lv_iload hx hb dX1_cheats_58 (lv_at hl 3 rfl) ?_
    refine lv_istore_n (lv' := [(2, .int x5), (4, .int 1), (0, .ref (a r0)), (1, .int x1), (5, .int x5)]) hx hb dX1_cheats_60 rfl hl (by decide) rfl (fun ls hl => ?_)
    refine lv_aload_n hx hb dX1_cheats_61 rfl (lv_at hl 2 rfl) ?_
    obtain ⟨g62, hf⟩ := gd_some hf
    refine aw_gI hC hW g62 fl_X1_175 rfl dX1_cheats_62 ?_
    obtain ⟨v65, ev65, hf⟩ := bnd_some hf
    refine top_i ev65 ?_
    refine lv_istore_n (lv' := [(3, .int v65), (2, .int x5), (4, .int 1), (0, .ref (a r0)), (1, .int x1), (5, .int x5)]) hx hb dX1_cheats_65 rfl hl (by decide) rfl (fun ls hl => ?_)
    exact B66 K20 hK20 r0 x1 x5 v65 1 s hf _ _ _ (lv_sub hl [3, 4, 1, 0, 2] rfl) hW
  have B20 : ∀ (n : Nat), ∀ (r0 : Nat) (x1 : Int32) (x2 : Int32) (x3 : Int32) (x4 : Int32) (s : ST), f_X1_cheats_b20 n r0 x1 x2 x3 x4 s = some (rv, sf) → ∀ (H : Heap) (locs : List Loc) (ls : Array Slot), lv_has ls 7 [(0, .ref (a r0)), (1, .int x1), (2, .int x2), (3, .int x3), (4, .int x4)] → AW G a A s s0.heap H locs → WB p l e (rmD 4) s0 m args below meth c H locs G A P 20 ls [] := by
    intro n
    induction n with
    | zero => intro r0 x1 x2 x3 x4 s hf; cases hf
    | succ n ih =>
      intro r0 x1 x2 x3 x4 s hf H locs ls hl hW
      rw [f_X1_cheats_b20] at hf
      refine lv_aload_n hx hb dX1_cheats_20 rfl (lv_at hl 0 rfl) ?_
      obtain ⟨g21, hf⟩ := gd_some hf
      refine aw_gI hC hW g21 fl_X1_175 rfl dX1_cheats_21 ?_
      refine lv_bipush (v := 9) hx hb dX1_cheats_24 (by decide) ?_
      refine lv_icmp_gt (tgt := 79) hx hb dX1_cheats_26 (by decide) (fun c26 => ?_) (fun c26 => ?_)
      · have hf := ifp c26 hf
        refine lv_aload_n hx hb dX1_cheats_79 rfl (lv_at hl 0 rfl) ?_
        refine lv_iload_n hx hb dX1_cheats_80 rfl (lv_at hl 1 rfl) ?_
        obtain ⟨s81, e81, hf⟩ := bnd_some hf
        refine aw_pI e81 hC hW g21 fl_X1_175 (Or.inl fn_0_8) rfl rfl rfl dX1_cheats_81 (fun H locs hW => ?_)
        have g21 := ko_pI e81 g21
        refine lv_goto (tgt := 97) hx hb dX1_cheats_84 (by decide) ?_
        refine lv_aload_n hx hb dX1_cheats_97 rfl (lv_at hl 0 rfl) ?_
        refine lv_iconst (v := 0) hx hb dX1_cheats_98 (by decide) ?_
        obtain ⟨s99, e99, hf⟩ := bnd_some hf
        refine aw_pI e99 hC hW g21 fl_X1_154 (Or.inl fn_0_12) rfl rfl rfl dX1_cheats_99 (fun H locs hW => ?_)
        have g21 := ko_pI e99 g21
        refine lv_aload_n hx hb dX1_cheats_102 rfl (lv_at hl 0 rfl) ?_
        refine lv_iload_n hx hb dX1_cheats_103 rfl (lv_at hl 2 rfl) ?_
        refine lv_i2l (v := (x2 : Int32).toInt64) hx hb dX1_cheats_104 rfl ?_
        obtain ⟨_, s105, h105, hf⟩ := ob_some hf
        refine aw_dV0 (r := r0) (As := [.long ((x2 : Int32).toInt64)]) (rest := []) (ct_X1_tell l G a r0 ((x2 : Int32).toInt64) s99 () s105 h105) hC hW hl.1 vy_X1_tell (Or.inl q1013) g21 rfl rfl rfl rfl (Nat.le_of_ble_eq_true rfl) ⟨Nat.le_of_ble_eq_true rfl, Nat.le_of_ble_eq_true rfl⟩ ⟨Nat.le_of_ble_eq_true rfl, Nat.le_of_ble_eq_true rfl⟩ dX1_cheats_105 (fun H locs hW => ?_)
        refine lv_aload_n hx hb dX1_cheats_108 rfl (lv_at hl 0 rfl) ?_
        refine lv_iload_n hx hb dX1_cheats_109 rfl (lv_at hl 3 rfl) ?_
        refine lv_i2l (v := (x3 : Int32).toInt64) hx hb dX1_cheats_110 rfl ?_
        obtain ⟨g111, hf⟩ := gd_some hf
        obtain ⟨_, s111, h111, hf⟩ := ob_some hf
        refine aw_dV0 (r := r0) (As := [.long ((x3 : Int32).toInt64)]) (rest := []) (ct_X1_tell l G a r0 ((x3 : Int32).toInt64) s105 () s111 h111) hC hW hl.1 vy_X1_tell (Or.inl q1013) g111 rfl rfl rfl rfl (Nat.le_of_ble_eq_true rfl) ⟨Nat.le_of_ble_eq_true rfl, Nat.le_of_ble_eq_true rfl⟩ ⟨Nat.le_of_ble_eq_true rfl, Nat.le_of_ble_eq_true rfl⟩ dX1_cheats_111 (fun H locs hW => ?_)
        refine lv_iload_n hx hb dX1_cheats_114 rfl (lv_at hl 2 rfl) ?_
        obtain ⟨v115, s115, h115, hf⟩ := ob_some hf
        refine aw_dS1 (As := [.int x2]) (rest := []) (ct_J8_bitCount l G a x2 s111 v115 s115 h115) hC hW hl.1 sy_J8_bitCount (Or.inl q1090) rfl rfl (Nat.le_of_ble_eq_true rfl) ⟨Nat.le_of_ble_eq_true rfl, Nat.le_of_ble_eq_true rfl⟩ ⟨Nat.le_of_ble_eq_true rfl, Nat.le_of_ble_eq_true rfl⟩ dX1_cheats_115 (fun H locs hW => ?_)
        obtain ⟨e1, e2⟩ := so_inj hf
        exact aw_iret hC hW hr rfl (p_eq hP (congrArg (fun z => some (Value.int z)) e1) e2) (Nat.le_of_ble_eq_true rfl) (Nat.le_of_ble_eq_true rfl) dX1_cheats_118
      · have hf := ifn c26 hf
        refine lv_aload_n hx hb dX1_cheats_29 rfl (lv_at hl 0 rfl) ?_
        obtain ⟨v30, s30, h30, hf⟩ := ob_some hf
        refine aw_dV1 (r := r0) (As := []) (rest := []) (ct_X1_liars l G a r0 s v30 s30 h30) hC hW hl.1 vy_X1_liars (Or.inl q1206) g21 rfl rfl rfl rfl (Nat.le_of_ble_eq_true rfl) ⟨Nat.le_of_ble_eq_true rfl, Nat.le_of_ble_eq_true rfl⟩ ⟨Nat.le_of_ble_eq_true rfl, Nat.le_of_ble_eq_true rfl⟩ dX1_cheats_30 (fun H locs hW => ?_)
        refine lv_istore (lv' := [(5, .int v30), (0, .ref (a r0)), (1, .int x1), (2, .int x2), (3, .int x3), (4, .int x4)]) hx hb dX1_cheats_33 hl (by decide) rfl (fun ls hl => ?_)
        refine lv_iload hx hb dX1_cheats_35 (lv_at hl 5 rfl) ?_
        refine lv_if_eq (tgt := 55) hx hb dX1_cheats_37 (by decide) (fun c37 => ?_) (fun c37 => ?_)
        · have hf := ifp c37 hf
          exact B55 (f_X1_cheats_b20 n) ih r0 x1 v30 s30 hf _ _ _ (lv_sub hl [1, 2, 0] rfl) hW
        · have hf := ifn c37 hf
          refine lv_iload hx hb dX1_cheats_40 (lv_at hl 0 rfl) ?_
          obtain ⟨v42, s42, h42, hf⟩ := ob_some hf
          refine aw_dS1 (As := [.int v30]) (rest := []) (ct_J8_bitCount l G a v30 s30 v42 s42 h42) hC hW hl.1 sy_J8_bitCount (Or.inl q1090) rfl rfl (Nat.le_of_ble_eq_true rfl) ⟨Nat.le_of_ble_eq_true rfl, Nat.le_of_ble_eq_true rfl⟩ ⟨Nat.le_of_ble_eq_true rfl, Nat.le_of_ble_eq_true rfl⟩ dX1_cheats_42 (fun H locs hW => ?_)
          refine lv_iload_n hx hb dX1_cheats_45 rfl (lv_at hl 3 rfl) ?_
          obtain ⟨v46, s46, h46, hf⟩ := ob_some hf
          refine aw_dS1 (As := [.int x2]) (rest := [.int v42]) (ct_J8_bitCount l G a x2 s42 v46 s46 h46) hC hW hl.1 sy_J8_bitCount (Or.inl q1090) rfl rfl (Nat.le_of_ble_eq_true rfl) ⟨Nat.le_of_ble_eq_true rfl, Nat.le_of_ble_eq_true rfl⟩ ⟨Nat.le_of_ble_eq_true rfl, Nat.le_of_ble_eq_true rfl⟩ dX1_cheats_46 (fun H locs hW => ?_)
          refine lv_icmp_lt (tgt := 55) hx hb dX1_cheats_49 (by decide) (fun c49 => ?_) (fun c49 => ?_)
          · have hf := ifp c49 hf
            exact B55 (f_X1_cheats_b20 n) ih r0 x1 v30 s46 hf _ _ _ (lv_sub hl [1, 2, 0] rfl) hW
          · have hf := ifn c49 hf
            refine lv_goto (tgt := 66) hx hb dX1_cheats_52 (by decide) ?_
            exact B66 (f_X1_cheats_b20 n) ih r0 x1 x2 x3 x4 s46 hf _ _ _ (lv_sub hl [1, 2, 3, 4, 5] rfl) hW
  unfold f_X1_cheats at hf
  refine lv_aload_n hx hb dX1_cheats_0 rfl (lv_at hl 0 rfl) ?_
  obtain ⟨g1, hf⟩ := gd_some hf
  refine aw_gI hC hW g1 fl_X1_175 rfl dX1_cheats_1 ?_
  obtain ⟨v4, ev4, hf⟩ := bnd_some hf
  refine top_i ev4 ?_
  refine lv_istore_n (lv' := [(1, .int v4), (0, .ref (a o))]) hx hb dX1_cheats_4 rfl hl (by decide) rfl (fun ls hl => ?_)
  refine lv_sipush (v := 255) hx hb dX1_cheats_5 (by decide) ?_
  refine lv_istore_n (lv' := [(2, .int 255), (1, .int v4), (0, .ref (a o))]) hx hb dX1_cheats_8 rfl hl (by decide) rfl (fun ls hl => ?_)
  refine lv_iconst (v := 0) hx hb dX1_cheats_9 (by decide) ?_
  refine lv_istore_n (lv' := [(3, .int 0), (2, .int 255), (1, .int v4), (0, .ref (a o))]) hx hb dX1_cheats_10 rfl hl (by decide) rfl (fun ls hl => ?_)
  refine lv_iconst (v := 0) hx hb dX1_cheats_11 (by decide) ?_
  refine lv_istore (lv' := [(4, .int 0), (3, .int 0), (2, .int 255), (1, .int v4), (0, .ref (a o))]) hx hb dX1_cheats_12 hl (by decide) rfl (fun ls hl => ?_)
  refine lv_aload_n hx hb dX1_cheats_14 rfl (lv_at hl 4 rfl) ?_
  refine lv_bipush (v := (-9)) hx hb dX1_cheats_15 (by decide) ?_
  obtain ⟨s17, e17, hf⟩ := bnd_some hf
  refine aw_pI e17 hC hW g1 fl_X1_175 (Or.inl fn_0_8) rfl rfl rfl dX1_cheats_17 (fun H locs hW => ?_)
  have g1 := ko_pI e17 g1
  exact B20 fuel o v4 255 0 0 s17 hf _ _ _ (lv_sub hl [4, 3, 2, 1, 0] rfl) hW
def f_X1_common_r (F : Int64 → Int64 → ST → Option (Int64 × ST)) (y0 : Int64) (y2 : Int64) (s : ST) : Option (Int64 × ST) :=
  if (lg_cmp y2 0) = 0 then (some (y0, s)) else gd (¬ y2 = 0) <|
  ob (F y2 (y0 - y0 / y2 * y2) s) fun v14 s14 =>
  some (v14, s14)
def f_X1_common : Nat → Int64 → Int64 → ST → Option (Int64 × ST)
  | 0, _, _, _ => none
  | d + 1, y0, y2, s => f_X1_common_r (f_X1_common d) y0 y2 s
set_option maxHeartbeats 4000000 in
theorem ct_X1_common (l : Launch) (G : GM) (a : Nat → Nat) (d : Nat) (y0 : Int64) (y2 : Int64) (s : ST) (rv : Int64) (sf : ST) (hf : f_X1_common d y0 y2 s = some (rv, sf)) : MD l G yX1_common (ws_ yX1_common cX1_common 4 (some .long)) (0 + d) [.long y0, .long y2] a s (some (.long rv)) sf := by
  induction d generalizing y0 y2 s rv sf with
  | zero => cases hf
  | succ d ih0 =>
    have hF := ih0
    generalize hFe : f_X1_common d = F at hF
    have hf : f_X1_common_r F y0 y2 s = some (rv, sf) := by rw [← hFe]; exact hf
    refine md_of (d := _) (lv := [(0, .long y0), (2, .long y2)]) (Or.inl (by decide)) (Nat.le_of_ble_eq_true rfl) rfl ?_
    intro p e s0 m args below meth c ls A P hP hC hr hnm hW hl
    have hx := hC.1
    have hb := hC.2.1
    have hts := hC.2.2.2.2.1
    unfold f_X1_common_r at hf
    refine lv_lload_n hx hb dX1_common_0 rfl (lv_at hl 1 rfl) ?_
    refine lv_lconst (v := 0) hx hb dX1_common_1 (by decide) ?_
    refine W.lcmp hx hb dX1_common_2 ?_
    refine lv_if_ne (tgt := 10) hx hb dX1_common_3 (by decide) (fun c3 => ?_) (fun c3 => ?_)
    · have hf := ifn c3 hf
      refine lv_lload_n hx hb dX1_common_10 rfl (lv_at hl 1 rfl) ?_
      refine lv_lload_n hx hb dX1_common_11 rfl (lv_at hl 0 rfl) ?_
      refine lv_lload_n hx hb dX1_common_12 rfl (lv_at hl 1 rfl) ?_
      obtain ⟨g13, hf⟩ := gd_some hf
      refine lv_lrem hx hb dX1_common_13 g13 ?_
      obtain ⟨v14, s14, h14, hf⟩ := ob_some hf
      refine aw_dS1 (As := [.long y2, .long (y0 - y0 / y2 * y2)]) (rest := []) (hF y2 (y0 - y0 / y2 * y2) s v14 s14 h14) hC hW hl.1 sy_X1_common (Or.inl q1261) rfl rfl (Nat.le_of_ble_eq_true rfl) ⟨(by show (0 + d) + 1 ≤ (0 + (d + 1)); omega), (by show 8 + (4 + 11) + 40 * (0 + d) ≤ 40 * (0 + (d + 1)); omega)⟩ ⟨Nat.le_of_ble_eq_true rfl, Nat.le_of_ble_eq_true rfl⟩ dX1_common_14 (fun H locs hW => ?_)
      obtain ⟨e1, e2⟩ := so_inj hf
      exact aw_lret hC hW hr (p_eq hP (congrArg (fun z => some (Value.long z)) e1) e2) (Nat.le_refl _) (Nat.le_refl _) dX1_common_17
    · have hf := ifp c3 hf
      refine lv_lload_n hx hb dX1_common_6 rfl (lv_at hl 0 rfl) ?_
      refine lv_goto (tgt := 17) hx hb dX1_common_7 (by decide) ?_
      obtain ⟨e1, e2⟩ := so_inj hf
      exact aw_lret hC hW hr (p_eq hP (congrArg (fun z => some (Value.long z)) e1) e2) (Nat.le_refl _) (Nat.le_refl _) dX1_common_17
def f_X1_count (o : Nat) (x1 : Int32) (s : ST) : Option (Int32 × ST) :=
  if x1 = 0 then (gd (o < s.1 ∧ (kd s o).1 = 1) <|
  some ((gi s o 4), s)) else
  if x1 = 1 then (gd (o < s.1 ∧ (kd s o).1 = 1) <|
  (gr s o 1).bind fun q78 =>
  gd (q78 < s.1 ∧ (kd s q78).1 = 2) <|
  some ((gi s q78 9), s)) else
  if x1 = 2 then (gd (o < s.1 ∧ (kd s o).1 = 1) <|
  (gr s o 1).bind fun q86 =>
  gd (q86 < s.1 ∧ (kd s q86).1 = 2) <|
  some ((gi s q86 7), s)) else
  if x1 = 3 then (gd (o < s.1 ∧ (kd s o).1 = 1) <|
  (gr s o 1).bind fun q94 =>
  gd (q94 < s.1 ∧ (kd s q94).1 = 2) <|
  some ((gi s q94 8), s)) else
  if x1 = 4 then (gd (o < s.1 ∧ (kd s o).1 = 1) <|
  (gr s o 1).bind fun q102 =>
  gd (q102 < s.1 ∧ (kd s q102).1 = 2) <|
  some ((gi s q102 10), s)) else
  if x1 = 5 then (gd (o < s.1 ∧ (kd s o).1 = 1) <|
  (gr s o 1).bind fun q110 =>
  gd (q110 < s.1 ∧ (kd s q110).1 = 2) <|
  ob (f_X2_holding q110 s) fun v113 s113 =>
  some (v113, s113)) else
  if x1 = 6 then (gd (o < s.1 ∧ (kd s o).1 = 1) <|
  (gr s o 1).bind fun q118 =>
  gd (q118 < s.1 ∧ (kd s q118).1 = 2) <|
  some ((gi s q118 6), s)) else
  if x1 = 7 then (gd (o < s.1 ∧ (kd s o).1 = 1) <|
  some ((gi s o 6), s)) else
  if x1 = 8 then (gd (o < s.1 ∧ (kd s o).1 = 1) <|
  some ((gi s o 32), s)) else
  if x1 = 9 then (gd (o < s.1 ∧ (kd s o).1 = 1) <|
  some ((gi s o 35), s)) else
  if x1 = 10 then (gd (o < s.1 ∧ (kd s o).1 = 1) <|
  some ((gi s o 12), s)) else
  if x1 = 11 then (gd (o < s.1 ∧ (kd s o).1 = 1) <|
  some ((gi s o 10), s)) else
  if x1 = 12 then (gd (o < s.1 ∧ (kd s o).1 = 1) <|
  some ((gi s o 7), s)) else
  if x1 = 13 then (gd (o < s.1 ∧ (kd s o).1 = 1) <|
  some ((gi s o 8), s)) else
  some ((-100), s)
set_option maxHeartbeats 4000000 in
theorem ct_X1_count (l : Launch) (G : GM) (a : Nat → Nat) (o : Nat) (x1 : Int32) (s : ST) (rv : Int32) (sf : ST) (hf : f_X1_count o x1 s = some (rv, sf)) : MD l G yX1_count (ws_ yX1_count cX1_count 2 (some .int)) 2 [.ref (a o), .int x1] a s (some (.int rv)) sf := by
  refine md_of (d := 2) (lv := [(0, .ref (a o)), (1, .int x1)]) (Or.inl (by decide)) (Nat.le_of_ble_eq_true rfl) rfl ?_
  intro p e s0 m args below meth c ls A P hP hC hr hnm hW hl
  have hx := hC.1
  have hb := hC.2.1
  have hts := hC.2.2.2.2.1
  unfold f_X1_count at hf
  refine lv_iload_n hx hb dX1_count_0 rfl (lv_at hl 1 rfl) ?_
  by_cases c1 : x1 = 0
  · have hf := ifp c1 hf
    refine lv_tableIn (tgt := 72) hx hb dX1_count_1 (by rw [c1]; decide) (by rw [c1]; decide) (by rw [c1]; rfl) (by decide) ?_
    refine lv_aload_n hx hb dX1_count_72 rfl (lv_at hl 0 rfl) ?_
    obtain ⟨g73, hf⟩ := gd_some hf
    refine aw_gI hC hW g73 fl_X1_157 rfl dX1_count_73 ?_
    obtain ⟨e1, e2⟩ := so_inj hf
    exact aw_iret hC hW hr rfl (p_eq hP (congrArg (fun z => some (Value.int z)) e1) e2) (Nat.le_of_ble_eq_true rfl) (Nat.le_of_ble_eq_true rfl) dX1_count_76
  have hf := ifn c1 hf
  by_cases c1_1 : x1 = 1
  · have hf := ifp c1_1 hf
    refine lv_tableIn (tgt := 77) hx hb dX1_count_1 (by rw [c1_1]; decide) (by rw [c1_1]; decide) (by rw [c1_1]; rfl) (by decide) ?_
    refine lv_aload_n hx hb dX1_count_77 rfl (lv_at hl 0 rfl) ?_
    obtain ⟨g78, hf⟩ := gd_some hf
    obtain ⟨q78, hq78, hf⟩ := bi_some hf
    refine aw_gR hC hW g78 fl_X1_18 rfl hq78 dX1_count_78 ?_
    obtain ⟨g81, hf⟩ := gd_some hf
    refine aw_gI hC hW g81 fl_X1_348 rfl dX1_count_81 ?_
    obtain ⟨e1, e2⟩ := so_inj hf
    exact aw_iret hC hW hr rfl (p_eq hP (congrArg (fun z => some (Value.int z)) e1) e2) (Nat.le_of_ble_eq_true rfl) (Nat.le_of_ble_eq_true rfl) dX1_count_84
  have hf := ifn c1_1 hf
  by_cases c1_2 : x1 = 2
  · have hf := ifp c1_2 hf
    refine lv_tableIn (tgt := 85) hx hb dX1_count_1 (by rw [c1_2]; decide) (by rw [c1_2]; decide) (by rw [c1_2]; rfl) (by decide) ?_
    refine lv_aload_n hx hb dX1_count_85 rfl (lv_at hl 0 rfl) ?_
    obtain ⟨g86, hf⟩ := gd_some hf
    obtain ⟨q86, hq86, hf⟩ := bi_some hf
    refine aw_gR hC hW g86 fl_X1_18 rfl hq86 dX1_count_86 ?_
    obtain ⟨g89, hf⟩ := gd_some hf
    refine aw_gI hC hW g89 fl_X1_315 rfl dX1_count_89 ?_
    obtain ⟨e1, e2⟩ := so_inj hf
    exact aw_iret hC hW hr rfl (p_eq hP (congrArg (fun z => some (Value.int z)) e1) e2) (Nat.le_of_ble_eq_true rfl) (Nat.le_of_ble_eq_true rfl) dX1_count_92
  have hf := ifn c1_2 hf
  by_cases c1_3 : x1 = 3
  · have hf := ifp c1_3 hf
    refine lv_tableIn (tgt := 93) hx hb dX1_count_1 (by rw [c1_3]; decide) (by rw [c1_3]; decide) (by rw [c1_3]; rfl) (by decide) ?_
    refine lv_aload_n hx hb dX1_count_93 rfl (lv_at hl 0 rfl) ?_
    obtain ⟨g94, hf⟩ := gd_some hf
    obtain ⟨q94, hq94, hf⟩ := bi_some hf
    refine aw_gR hC hW g94 fl_X1_18 rfl hq94 dX1_count_94 ?_
    obtain ⟨g97, hf⟩ := gd_some hf
    refine aw_gI hC hW g97 fl_X1_342 rfl dX1_count_97 ?_
    obtain ⟨e1, e2⟩ := so_inj hf
    exact aw_iret hC hW hr rfl (p_eq hP (congrArg (fun z => some (Value.int z)) e1) e2) (Nat.le_of_ble_eq_true rfl) (Nat.le_of_ble_eq_true rfl) dX1_count_100
  have hf := ifn c1_3 hf
  by_cases c1_4 : x1 = 4
  · have hf := ifp c1_4 hf
    refine lv_tableIn (tgt := 101) hx hb dX1_count_1 (by rw [c1_4]; decide) (by rw [c1_4]; decide) (by rw [c1_4]; rfl) (by decide) ?_
    refine lv_aload_n hx hb dX1_count_101 rfl (lv_at hl 0 rfl) ?_
    obtain ⟨g102, hf⟩ := gd_some hf
    obtain ⟨q102, hq102, hf⟩ := bi_some hf
    refine aw_gR hC hW g102 fl_X1_18 rfl hq102 dX1_count_102 ?_
    obtain ⟨g105, hf⟩ := gd_some hf
    refine aw_gI hC hW g105 fl_X1_388 rfl dX1_count_105 ?_
    obtain ⟨e1, e2⟩ := so_inj hf
    exact aw_iret hC hW hr rfl (p_eq hP (congrArg (fun z => some (Value.int z)) e1) e2) (Nat.le_of_ble_eq_true rfl) (Nat.le_of_ble_eq_true rfl) dX1_count_108
  have hf := ifn c1_4 hf
  by_cases c1_5 : x1 = 5
  · have hf := ifp c1_5 hf
    refine lv_tableIn (tgt := 109) hx hb dX1_count_1 (by rw [c1_5]; decide) (by rw [c1_5]; decide) (by rw [c1_5]; rfl) (by decide) ?_
    refine lv_aload_n hx hb dX1_count_109 rfl (lv_at hl 0 rfl) ?_
    obtain ⟨g110, hf⟩ := gd_some hf
    obtain ⟨q110, hq110, hf⟩ := bi_some hf
    refine aw_gR hC hW g110 fl_X1_18 rfl hq110 dX1_count_110 ?_
    obtain ⟨g113, hf⟩ := gd_some hf
    obtain ⟨v113, s113, h113, hf⟩ := ob_some hf
    refine aw_dV1 (r := q110) (As := []) (rest := []) (ct_X2_holding l G a q110 s v113 s113 h113) hC hW hl.1 vy_X2_holding (Or.inl q1300) g113 rfl rfl rfl rfl (Nat.le_of_ble_eq_true rfl) ⟨Nat.le_of_ble_eq_true rfl, Nat.le_of_ble_eq_true rfl⟩ ⟨Nat.le_of_ble_eq_true rfl, Nat.le_of_ble_eq_true rfl⟩ dX1_count_113 (fun H locs hW => ?_)
    obtain ⟨e1, e2⟩ := so_inj hf
    exact aw_iret hC hW hr rfl (p_eq hP (congrArg (fun z => some (Value.int z)) e1) e2) (Nat.le_of_ble_eq_true rfl) (Nat.le_of_ble_eq_true rfl) dX1_count_116
  have hf := ifn c1_5 hf
  by_cases c1_6 : x1 = 6
  · have hf := ifp c1_6 hf
    refine lv_tableIn (tgt := 117) hx hb dX1_count_1 (by rw [c1_6]; decide) (by rw [c1_6]; decide) (by rw [c1_6]; rfl) (by decide) ?_
    refine lv_aload_n hx hb dX1_count_117 rfl (lv_at hl 0 rfl) ?_
    obtain ⟨g118, hf⟩ := gd_some hf
    obtain ⟨q118, hq118, hf⟩ := bi_some hf
    refine aw_gR hC hW g118 fl_X1_18 rfl hq118 dX1_count_118 ?_
    obtain ⟨g121, hf⟩ := gd_some hf
    refine aw_gI hC hW g121 fl_X1_168 rfl dX1_count_121 ?_
    obtain ⟨e1, e2⟩ := so_inj hf
    exact aw_iret hC hW hr rfl (p_eq hP (congrArg (fun z => some (Value.int z)) e1) e2) (Nat.le_of_ble_eq_true rfl) (Nat.le_of_ble_eq_true rfl) dX1_count_124
  have hf := ifn c1_6 hf
  by_cases c1_7 : x1 = 7
  · have hf := ifp c1_7 hf
    refine lv_tableIn (tgt := 125) hx hb dX1_count_1 (by rw [c1_7]; decide) (by rw [c1_7]; decide) (by rw [c1_7]; rfl) (by decide) ?_
    refine lv_aload_n hx hb dX1_count_125 rfl (lv_at hl 0 rfl) ?_
    obtain ⟨g126, hf⟩ := gd_some hf
    refine aw_gI hC hW g126 fl_X1_245 rfl dX1_count_126 ?_
    obtain ⟨e1, e2⟩ := so_inj hf
    exact aw_iret hC hW hr rfl (p_eq hP (congrArg (fun z => some (Value.int z)) e1) e2) (Nat.le_of_ble_eq_true rfl) (Nat.le_of_ble_eq_true rfl) dX1_count_129
  have hf := ifn c1_7 hf
  by_cases c1_8 : x1 = 8
  · have hf := ifp c1_8 hf
    refine lv_tableIn (tgt := 130) hx hb dX1_count_1 (by rw [c1_8]; decide) (by rw [c1_8]; decide) (by rw [c1_8]; rfl) (by decide) ?_
    refine lv_aload_n hx hb dX1_count_130 rfl (lv_at hl 0 rfl) ?_
    obtain ⟨g131, hf⟩ := gd_some hf
    refine aw_gI hC hW g131 fl_X1_476 rfl dX1_count_131 ?_
    obtain ⟨e1, e2⟩ := so_inj hf
    exact aw_iret hC hW hr rfl (p_eq hP (congrArg (fun z => some (Value.int z)) e1) e2) (Nat.le_of_ble_eq_true rfl) (Nat.le_of_ble_eq_true rfl) dX1_count_134
  have hf := ifn c1_8 hf
  by_cases c1_9 : x1 = 9
  · have hf := ifp c1_9 hf
    refine lv_tableIn (tgt := 135) hx hb dX1_count_1 (by rw [c1_9]; decide) (by rw [c1_9]; decide) (by rw [c1_9]; rfl) (by decide) ?_
    refine lv_aload_n hx hb dX1_count_135 rfl (lv_at hl 0 rfl) ?_
    obtain ⟨g136, hf⟩ := gd_some hf
    refine aw_gI hC hW g136 fl_X1_488 rfl dX1_count_136 ?_
    obtain ⟨e1, e2⟩ := so_inj hf
    exact aw_iret hC hW hr rfl (p_eq hP (congrArg (fun z => some (Value.int z)) e1) e2) (Nat.le_of_ble_eq_true rfl) (Nat.le_of_ble_eq_true rfl) dX1_count_139
  have hf := ifn c1_9 hf
  by_cases c1_10 : x1 = 10
  · have hf := ifp c1_10 hf
    refine lv_tableIn (tgt := 140) hx hb dX1_count_1 (by rw [c1_10]; decide) (by rw [c1_10]; decide) (by rw [c1_10]; rfl) (by decide) ?_
    refine lv_aload_n hx hb dX1_count_140 rfl (lv_at hl 0 rfl) ?_
    obtain ⟨g141, hf⟩ := gd_some hf
    refine aw_gI hC hW g141 fl_X1_154 rfl dX1_count_141 ?_
    obtain ⟨e1, e2⟩ := so_inj hf
    exact aw_iret hC hW hr rfl (p_eq hP (congrArg (fun z => some (Value.int z)) e1) e2) (Nat.le_of_ble_eq_true rfl) (Nat.le_of_ble_eq_true rfl) dX1_count_144
  have hf := ifn c1_10 hf
  by_cases c1_11 : x1 = 11
  · have hf := ifp c1_11 hf
    refine lv_tableIn (tgt := 145) hx hb dX1_count_1 (by rw [c1_11]; decide) (by rw [c1_11]; decide) (by rw [c1_11]; rfl) (by decide) ?_
    refine lv_aload_n hx hb dX1_count_145 rfl (lv_at hl 0 rfl) ?_
    obtain ⟨g146, hf⟩ := gd_some hf
    refine aw_gI hC hW g146 fl_X1_186 rfl dX1_count_146 ?_
    obtain ⟨e1, e2⟩ := so_inj hf
    exact aw_iret hC hW hr rfl (p_eq hP (congrArg (fun z => some (Value.int z)) e1) e2) (Nat.le_of_ble_eq_true rfl) (Nat.le_of_ble_eq_true rfl) dX1_count_149
  have hf := ifn c1_11 hf
  by_cases c1_12 : x1 = 12
  · have hf := ifp c1_12 hf
    refine lv_tableIn (tgt := 150) hx hb dX1_count_1 (by rw [c1_12]; decide) (by rw [c1_12]; decide) (by rw [c1_12]; rfl) (by decide) ?_
    refine lv_aload_n hx hb dX1_count_150 rfl (lv_at hl 0 rfl) ?_
    obtain ⟨g151, hf⟩ := gd_some hf
    refine aw_gI hC hW g151 fl_X1_29 rfl dX1_count_151 ?_
    obtain ⟨e1, e2⟩ := so_inj hf
    exact aw_iret hC hW hr rfl (p_eq hP (congrArg (fun z => some (Value.int z)) e1) e2) (Nat.le_of_ble_eq_true rfl) (Nat.le_of_ble_eq_true rfl) dX1_count_154
  have hf := ifn c1_12 hf
  by_cases c1_13 : x1 = 13
  · have hf := ifp c1_13 hf
    refine lv_tableIn (tgt := 155) hx hb dX1_count_1 (by rw [c1_13]; decide) (by rw [c1_13]; decide) (by rw [c1_13]; rfl) (by decide) ?_
    refine lv_aload_n hx hb dX1_count_155 rfl (lv_at hl 0 rfl) ?_
    obtain ⟨g156, hf⟩ := gd_some hf
    refine aw_gI hC hW g156 fl_X1_175 rfl dX1_count_156 ?_
    obtain ⟨e1, e2⟩ := so_inj hf
    exact aw_iret hC hW hr rfl (p_eq hP (congrArg (fun z => some (Value.int z)) e1) e2) (Nat.le_of_ble_eq_true rfl) (Nat.le_of_ble_eq_true rfl) dX1_count_159
  have hf := ifn c1_13 hf
  have zc1 := lv_neT (a := 0) c1 (by decide)
  have zc1_1 := lv_neT (a := 1) c1_1 (by decide)
  have zc1_2 := lv_neT (a := 2) c1_2 (by decide)
  have zc1_3 := lv_neT (a := 3) c1_3 (by decide)
  have zc1_4 := lv_neT (a := 4) c1_4 (by decide)
  have zc1_5 := lv_neT (a := 5) c1_5 (by decide)
  have zc1_6 := lv_neT (a := 6) c1_6 (by decide)
  have zc1_7 := lv_neT (a := 7) c1_7 (by decide)
  have zc1_8 := lv_neT (a := 8) c1_8 (by decide)
  have zc1_9 := lv_neT (a := 9) c1_9 (by decide)
  have zc1_10 := lv_neT (a := 10) c1_10 (by decide)
  have zc1_11 := lv_neT (a := 11) c1_11 (by decide)
  have zc1_12 := lv_neT (a := 12) c1_12 (by decide)
  have zc1_13 := lv_neT (a := 13) c1_13 (by decide)
  refine lv_tableOut (tgt := 160) hx hb dX1_count_1 (by omega) (by decide) ?_
  refine lv_bipush (v := (-100)) hx hb dX1_count_160 (by decide) ?_
  obtain ⟨e1, e2⟩ := so_inj hf
  exact aw_iret hC hW hr rfl (p_eq hP (congrArg (fun z => some (Value.int z)) e1) e2) (Nat.le_of_ble_eq_true rfl) (Nat.le_of_ble_eq_true rfl) dX1_count_162
def f_X1_remember_b49 (r0 : Nat) (s : ST) : Option (Unit × ST) :=
  gd (r0 < s.1 ∧ (kd s r0).1 = 1) <|
  (gr s r0 3).bind fun q50 =>
  gd (q50 < s.1 ∧ (kd s q50).1 = 106 ∧ ¬ (((gi s r0 6) : Int32) < 0 ∨ (kd s q50).2 ≤ ((gi s r0 6) : Int32).toNatClampNeg)) <|
  (gr s q50 ((gi s r0 6) : Int32).toNatClampNeg).bind fun q57 =>
  (gr s r0 1).bind fun q59 =>
  gd (q57 < s.1 ∧ (kd s q57).1 = 2) <|
  ob (f_X2_be q57 q59 s) fun _ s62 =>
  gd (r0 < s62.1 ∧ (kd s62 r0).1 = 1) <|
  bnd (pI s62 r0 6 ((gi s62 r0 6) + 1)) fun s72 =>
  some ((), s72)
def f_X1_remember (o : Nat) (s : ST) : Option (Unit × ST) :=
  gd (o < s.1 ∧ (kd s o).1 = 1) <|
  if (gi s o 6) = 20 then ((gr s o 3).bind fun q10 =>
  gd (q10 < s.1 ∧ (kd s q10).1 = 106 ∧ ¬ ((0 : Int32) < 0 ∨ (kd s q10).2 ≤ (0 : Int32).toNatClampNeg)) <|
  (gr s q10 (0 : Int32).toNatClampNeg).bind fun q14 =>
  (gr s o 3).bind fun q17 =>
  (gr s o 3).bind fun q22 =>
  gd (q17 < s.1 ∧ (kd s q17).1 = 106) <|
  gd (q22 < s.1 ∧ (kd s q22).1 = 106) <|
  gd ((¬ (1 : Int32) < 0 ∧ ¬ (0 : Int32) < 0 ∧ ¬ (19 : Int32) < 0) ∧ (1 : Int32).toNatClampNeg + (19 : Int32).toNatClampNeg ≤ (kd s q17).2 ∧ (0 : Int32).toNatClampNeg + (19 : Int32).toNatClampNeg ≤ (kd s q22).2) <|
  gd (∀ k, k < (19 : Int32).toNatClampNeg → (gr s q17 ((1 : Int32).toNatClampNeg + k)).all (fun q => decide (q < s.1 ∧ (kd s q).1 = 2)) = true) <|
  bnd (pRr s q22 (va_cpy (gr s q17) (gr s q22) (1 : Int32).toNatClampNeg (0 : Int32).toNatClampNeg (19 : Int32).toNatClampNeg)) fun s28 =>
  (gr s28 o 3).bind fun q32 =>
  gd (q32 < s28.1 ∧ (kd s28 q32).1 = 106 ∧ ¬ ((19 : Int32) < 0 ∨ (kd s28 q32).2 ≤ (19 : Int32).toNatClampNeg)) <|
  gd (q14 < s28.1 ∧ (kd s28 q14).1 = 2) <|
  bnd (pR s28 q32 (19 : Int32).toNatClampNeg (some q14)) fun s38 =>
  bnd (pI s38 o 6 ((gi s38 o 6) - 1)) fun s46 =>
  f_X1_remember_b49 o s46) else f_X1_remember_b49 o s
set_option maxHeartbeats 4000000 in
theorem ct_X1_remember (l : Launch) (G : GM) (a : Nat → Nat) (o : Nat) (s : ST) (rv : Unit) (sf : ST) (hf : f_X1_remember o s = some (rv, sf)) : MD l G yX1_remember (ws_ yX1_remember cX1_remember 2 none) 2 [.ref (a o)] a s none sf := by
  refine md_of (d := 2) (lv := [(0, .ref (a o))]) (Or.inl (by decide)) (Nat.le_of_ble_eq_true rfl) rfl ?_
  intro p e s0 m args below meth c ls A P hP hC hr hnm hW hl
  have hx := hC.1
  have hb := hC.2.1
  have hts := hC.2.2.2.2.1
  have B49 : ∀ (r0 : Nat) (s : ST), f_X1_remember_b49 r0 s = some (rv, sf) → ∀ (H : Heap) (locs : List Loc) (ls : Array Slot), lv_has ls 2 [(0, .ref (a r0))] → AW G a A s s0.heap H locs → WB p l e (rmD 2) s0 m args below meth c H locs G A P 49 ls [] := by
    intro r0 s hf H locs ls hl hW
    unfold f_X1_remember_b49 at hf
    refine lv_aload_n hx hb dX1_remember_49 rfl (lv_at hl 0 rfl) ?_
    obtain ⟨g50, hf⟩ := gd_some hf
    obtain ⟨q50, hq50, hf⟩ := bi_some hf
    refine aw_gR hC hW g50 fl_X1_25 rfl hq50 dX1_remember_50 ?_
    refine lv_aload_n hx hb dX1_remember_53 rfl (lv_at hl 0 rfl) ?_
    refine aw_gI hC hW g50 fl_X1_245 rfl dX1_remember_54 ?_
    obtain ⟨g57, hf⟩ := gd_some hf
    obtain ⟨q57, hq57, hf⟩ := bi_some hf
    refine aw_aald (j := 1) hC hW (by decide) g57 hq57 dX1_remember_57 ?_
    refine lv_aload_n hx hb dX1_remember_58 rfl (lv_at hl 0 rfl) ?_
    obtain ⟨q59, hq59, hf⟩ := bi_some hf
    refine aw_gR hC hW g50 fl_X1_18 rfl hq59 dX1_remember_59 ?_
    obtain ⟨g62, hf⟩ := gd_some hf
    obtain ⟨_, s62, h62, hf⟩ := ob_some hf
    refine aw_dV0 (r := q57) (As := [.ref (a q59)]) (rest := []) (ct_X2_be l G a q57 q59 s () s62 h62) hC hW hl.1 vy_X2_be (Or.inl q917) g62 rfl rfl rfl rfl (Nat.le_of_ble_eq_true rfl) ⟨Nat.le_of_ble_eq_true rfl, Nat.le_of_ble_eq_true rfl⟩ ⟨Nat.le_of_ble_eq_true rfl, Nat.le_of_ble_eq_true rfl⟩ dX1_remember_62 (fun H locs hW => ?_)
    refine lv_aload_n hx hb dX1_remember_65 rfl (lv_at hl 0 rfl) ?_
    refine lv_dup hx hb dX1_remember_66 rfl ?_
    obtain ⟨g67, hf⟩ := gd_some hf
    refine aw_gI hC hW g67 fl_X1_245 rfl dX1_remember_67 ?_
    refine lv_iconst (v := 1) hx hb dX1_remember_70 (by decide) ?_
    refine lv_iadd hx hb dX1_remember_71 ?_
    obtain ⟨s72, e72, hf⟩ := bnd_some hf
    refine aw_pI e72 hC hW g67 fl_X1_245 (Or.inl fn_0_6) rfl rfl rfl dX1_remember_72 (fun H locs hW => ?_)
    have g67 := ko_pI e72 g67
    obtain ⟨e1, e2⟩ := so_inj hf
    exact aw_vret hC hW hr (p_eq hP rfl e2) (Nat.le_of_ble_eq_true rfl) (Nat.le_of_ble_eq_true rfl) dX1_remember_75
  unfold f_X1_remember at hf
  refine lv_aload_n hx hb dX1_remember_0 rfl (lv_at hl 0 rfl) ?_
  obtain ⟨g1, hf⟩ := gd_some hf
  refine aw_gI hC hW g1 fl_X1_245 rfl dX1_remember_1 ?_
  refine lv_bipush (v := 20) hx hb dX1_remember_4 (by decide) ?_
  refine lv_icmp_ne (tgt := 49) hx hb dX1_remember_6 (by decide) (fun c6 => ?_) (fun c6 => ?_)
  · have hf := ifn c6 hf
    exact B49 o s hf _ _ _ (lv_sub hl [0] rfl) hW
  · have hf := ifp c6 hf
    refine lv_aload_n hx hb dX1_remember_9 rfl (lv_at hl 0 rfl) ?_
    obtain ⟨q10, hq10, hf⟩ := bi_some hf
    refine aw_gR hC hW g1 fl_X1_25 rfl hq10 dX1_remember_10 ?_
    refine lv_iconst (v := 0) hx hb dX1_remember_13 (by decide) ?_
    obtain ⟨g14, hf⟩ := gd_some hf
    obtain ⟨q14, hq14, hf⟩ := bi_some hf
    refine aw_aald (j := 1) hC hW (by decide) g14 hq14 dX1_remember_14 ?_
    refine lv_astore_n (lv' := [(1, .ref (a q14)), (0, .ref (a o))]) hx hb dX1_remember_15 rfl hl (by decide) rfl (fun ls hl => ?_)
    refine lv_aload_n hx hb dX1_remember_16 rfl (lv_at hl 1 rfl) ?_
    obtain ⟨q17, hq17, hf⟩ := bi_some hf
    refine aw_gR hC hW g1 fl_X1_25 rfl hq17 dX1_remember_17 ?_
    refine lv_iconst (v := 1) hx hb dX1_remember_20 (by decide) ?_
    refine lv_aload_n hx hb dX1_remember_21 rfl (lv_at hl 1 rfl) ?_
    obtain ⟨q22, hq22, hf⟩ := bi_some hf
    refine aw_gR hC hW g1 fl_X1_25 rfl hq22 dX1_remember_22 ?_
    refine lv_iconst (v := 0) hx hb dX1_remember_25 (by decide) ?_
    refine lv_bipush (v := 19) hx hb dX1_remember_26 (by decide) ?_
    obtain ⟨g28, hf⟩ := gd_some hf
    obtain ⟨h28, hf⟩ := gd_some hf
    obtain ⟨z28, hf⟩ := gd_some hf
    obtain ⟨y28, hf⟩ := gd_some hf
    obtain ⟨s28, e28, hf⟩ := bnd_some hf
    refine aw_copyT e28 hC hW (by rw [hC.2.2.1]; exact hl.1.symm) q852 q666 q665 q94 g28 h28 z28 y28 (Nat.le_of_ble_eq_true rfl) (Nat.le_of_ble_eq_true rfl) dX1_remember_28 (fun H locs hW => ?_)
    have g1 := ko_pRr e28 g1
    refine lv_aload_n hx hb dX1_remember_31 rfl (lv_at hl 1 rfl) ?_
    obtain ⟨q32, hq32, hf⟩ := bi_some hf
    refine aw_gR hC hW g1 fl_X1_25 rfl hq32 dX1_remember_32 ?_
    refine lv_bipush (v := 19) hx hb dX1_remember_35 (by decide) ?_
    refine lv_aload_n hx hb dX1_remember_37 rfl (lv_at hl 0 rfl) ?_
    obtain ⟨g38, hf⟩ := gd_some hf
    obtain ⟨g38_1, hf⟩ := gd_some hf
    obtain ⟨s38, e38, hf⟩ := bnd_some hf
    refine aw_aast (j := 1) e38 hC hW (by decide) g38 g38_1 dX1_remember_38 (fun H locs hW => ?_)
    have g1 := ko_pR e38 g1
    have g38_1 := ko_pR e38 g38_1
    refine lv_aload_n hx hb dX1_remember_39 rfl (lv_at hl 1 rfl) ?_
    refine lv_dup hx hb dX1_remember_40 rfl ?_
    refine aw_gI hC hW g1 fl_X1_245 rfl dX1_remember_41 ?_
    refine lv_iconst (v := 1) hx hb dX1_remember_44 (by decide) ?_
    refine lv_isub hx hb dX1_remember_45 ?_
    obtain ⟨s46, e46, hf⟩ := bnd_some hf
    refine aw_pI e46 hC hW g1 fl_X1_245 (Or.inl fn_0_6) rfl rfl rfl dX1_remember_46 (fun H locs hW => ?_)
    have g1 := ko_pI e46 g1
    have g38_1 := ko_pI e46 g38_1
    exact B49 o s46 hf _ _ _ (lv_sub hl [1] rfl) hW
def f_X1_dies (o : Nat) (x1 : Int32) (s : ST) : Option (Int32 × ST) :=
  gd (o < s.1 ∧ (kd s o).1 = 1) <|
  ob (f_X1_isAlive o x1 s) fun v2 s2 =>
  if v2 = 0 then (some ((-1), s2)) else gd (o < s2.1 ∧ (kd s2 o).1 = 1) <|
  ob (f_X1_remember o s2) fun _ s11 =>
  gd (o < s11.1 ∧ (kd s11 o).1 = 1) <|
  (gr s11 o 1).bind fun q15 =>
  gd (q15 < s11.1 ∧ (kd s11 q15).1 = 2) <|
  bnd (pI s11 q15 6 ((gi s11 q15 6) &&& ((1 <<< (x1 &&& 31)) ^^^ (-1)))) fun s28 =>
  (gr s28 o 1).bind fun q32 =>
  gd (q32 < s28.1 ∧ (kd s28 q32).1 = 2) <|
  if (gi s28 q32 7) = x1 then ((gr s28 o 1).bind fun q45 =>
  gd (q45 < s28.1 ∧ (kd s28 q45).1 = 2) <|
  ob (f_X2_fall q45 x1 s28) fun v49 s49 =>
  gd (o < s49.1 ∧ (kd s49 o).1 = 1) <|
  (gr s49 o 1).bind fun q54 =>
  gd (q54 < s49.1 ∧ (kd s49 q54).1 = 2) <|
  bnd (pI s49 q54 7 (-1)) fun s58 =>
  (gr s58 o 1).bind fun q62 =>
  gd (q62 < s58.1 ∧ (kd s58 q62).1 = 2) <|
  bnd (pI s58 q62 8 0) fun s66 =>
  some (v49, s66)) else some (0, s28)
set_option maxHeartbeats 4000000 in
theorem ct_X1_dies (l : Launch) (G : GM) (a : Nat → Nat) (o : Nat) (x1 : Int32) (s : ST) (rv : Int32) (sf : ST) (hf : f_X1_dies o x1 s = some (rv, sf)) : MD l G yX1_dies (ws_ yX1_dies cX1_dies 3 (some .int)) 3 [.ref (a o), .int x1] a s (some (.int rv)) sf := by
  refine md_of (d := 3) (lv := [(0, .ref (a o)), (1, .int x1)]) (Or.inl (by decide)) (Nat.le_of_ble_eq_true rfl) rfl ?_
  intro p e s0 m args below meth c ls A P hP hC hr hnm hW hl
  have hx := hC.1
  have hb := hC.2.1
  have hts := hC.2.2.2.2.1
  unfold f_X1_dies at hf
  refine lv_aload_n hx hb dX1_dies_0 rfl (lv_at hl 0 rfl) ?_
  refine lv_iload_n hx hb dX1_dies_1 rfl (lv_at hl 1 rfl) ?_
  obtain ⟨g2, hf⟩ := gd_some hf
  obtain ⟨v2, s2, h2, hf⟩ := ob_some hf
  refine aw_dV1 (r := o) (As := [.int x1]) (rest := []) (ct_X1_isAlive l G a o x1 s v2 s2 h2) hC hW hl.1 vy_X1_isAlive (Or.inl q1040) g2 rfl rfl rfl rfl (Nat.le_of_ble_eq_true rfl) ⟨Nat.le_of_ble_eq_true rfl, Nat.le_of_ble_eq_true rfl⟩ ⟨Nat.le_of_ble_eq_true rfl, Nat.le_of_ble_eq_true rfl⟩ dX1_dies_2 (fun H locs hW => ?_)
  refine lv_if_ne (tgt := 10) hx hb dX1_dies_5 (by decide) (fun c5 => ?_) (fun c5 => ?_)
  · have hf := ifn c5 hf
    refine lv_aload_n hx hb dX1_dies_10 rfl (lv_at hl 0 rfl) ?_
    obtain ⟨g11, hf⟩ := gd_some hf
    obtain ⟨_, s11, h11, hf⟩ := ob_some hf
    refine aw_dV0 (r := o) (As := []) (rest := []) (ct_X1_remember l G a o s2 () s11 h11) hC hW hl.1 vy_X1_remember (Or.inl q913) g11 rfl rfl rfl rfl (Nat.le_of_ble_eq_true rfl) ⟨Nat.le_of_ble_eq_true rfl, Nat.le_of_ble_eq_true rfl⟩ ⟨Nat.le_of_ble_eq_true rfl, Nat.le_of_ble_eq_true rfl⟩ dX1_dies_11 (fun H locs hW => ?_)
    refine lv_aload_n hx hb dX1_dies_14 rfl (lv_at hl 0 rfl) ?_
    obtain ⟨g15, hf⟩ := gd_some hf
    obtain ⟨q15, hq15, hf⟩ := bi_some hf
    refine aw_gR hC hW g15 fl_X1_18 rfl hq15 dX1_dies_15 ?_
    refine lv_dup hx hb dX1_dies_18 rfl ?_
    obtain ⟨g19, hf⟩ := gd_some hf
    refine aw_gI hC hW g19 fl_X1_168 rfl dX1_dies_19 ?_
    refine lv_iconst (v := 1) hx hb dX1_dies_22 (by decide) ?_
    refine lv_iload_n hx hb dX1_dies_23 rfl (lv_at hl 1 rfl) ?_
    refine lv_ishl hx hb dX1_dies_24 ?_
    refine lv_iconst (v := (-1)) hx hb dX1_dies_25 (by decide) ?_
    refine lv_ixor hx hb dX1_dies_26 ?_
    refine lv_iand hx hb dX1_dies_27 ?_
    obtain ⟨s28, e28, hf⟩ := bnd_some hf
    refine aw_pI e28 hC hW g19 fl_X1_168 (Or.inl fn_1_6) rfl rfl rfl dX1_dies_28 (fun H locs hW => ?_)
    have g15 := ko_pI e28 g15
    have g19 := ko_pI e28 g19
    refine lv_aload_n hx hb dX1_dies_31 rfl (lv_at hl 0 rfl) ?_
    obtain ⟨q32, hq32, hf⟩ := bi_some hf
    refine aw_gR hC hW g15 fl_X1_18 rfl hq32 dX1_dies_32 ?_
    obtain ⟨g35, hf⟩ := gd_some hf
    refine aw_gI hC hW g35 fl_X1_315 rfl dX1_dies_35 ?_
    refine lv_iload_n hx hb dX1_dies_38 rfl (lv_at hl 1 rfl) ?_
    refine lv_icmp_eq (tgt := 44) hx hb dX1_dies_39 (by decide) (fun c39 => ?_) (fun c39 => ?_)
    · have hf := ifp c39 hf
      refine lv_aload_n hx hb dX1_dies_44 rfl (lv_at hl 0 rfl) ?_
      obtain ⟨q45, hq45, hf⟩ := bi_some hf
      refine aw_gR hC hW g15 fl_X1_18 rfl hq45 dX1_dies_45 ?_
      refine lv_iload_n hx hb dX1_dies_48 rfl (lv_at hl 1 rfl) ?_
      obtain ⟨g49, hf⟩ := gd_some hf
      obtain ⟨v49, s49, h49, hf⟩ := ob_some hf
      refine aw_dV1 (r := q45) (As := [.int x1]) (rest := []) (ct_X2_fall l G a q45 x1 s28 v49 s49 h49) hC hW hl.1 vy_X2_fall (Or.inl q1005) g49 rfl rfl rfl rfl (Nat.le_of_ble_eq_true rfl) ⟨Nat.le_of_ble_eq_true rfl, Nat.le_of_ble_eq_true rfl⟩ ⟨Nat.le_of_ble_eq_true rfl, Nat.le_of_ble_eq_true rfl⟩ dX1_dies_49 (fun H locs hW => ?_)
      refine lv_istore_n (lv' := [(2, .int v49), (0, .ref (a o)), (1, .int x1)]) hx hb dX1_dies_52 rfl hl (by decide) rfl (fun ls hl => ?_)
      refine lv_aload_n hx hb dX1_dies_53 rfl (lv_at hl 1 rfl) ?_
      obtain ⟨g54, hf⟩ := gd_some hf
      obtain ⟨q54, hq54, hf⟩ := bi_some hf
      refine aw_gR hC hW g54 fl_X1_18 rfl hq54 dX1_dies_54 ?_
      refine lv_iconst (v := (-1)) hx hb dX1_dies_57 (by decide) ?_
      obtain ⟨g58, hf⟩ := gd_some hf
      obtain ⟨s58, e58, hf⟩ := bnd_some hf
      refine aw_pI e58 hC hW g58 fl_X1_315 (Or.inl fn_1_7) rfl rfl rfl dX1_dies_58 (fun H locs hW => ?_)
      have g54 := ko_pI e58 g54
      have g58 := ko_pI e58 g58
      refine lv_aload_n hx hb dX1_dies_61 rfl (lv_at hl 1 rfl) ?_
      obtain ⟨q62, hq62, hf⟩ := bi_some hf
      refine aw_gR hC hW g54 fl_X1_18 rfl hq62 dX1_dies_62 ?_
      refine lv_iconst (v := 0) hx hb dX1_dies_65 (by decide) ?_
      obtain ⟨g66, hf⟩ := gd_some hf
      obtain ⟨s66, e66, hf⟩ := bnd_some hf
      refine aw_pI e66 hC hW g66 fl_X1_342 (Or.inl fn_1_8) rfl rfl rfl dX1_dies_66 (fun H locs hW => ?_)
      have g54 := ko_pI e66 g54
      have g58 := ko_pI e66 g58
      have g66 := ko_pI e66 g66
      refine lv_iload_n hx hb dX1_dies_69 rfl (lv_at hl 0 rfl) ?_
      obtain ⟨e1, e2⟩ := so_inj hf
      exact aw_iret hC hW hr rfl (p_eq hP (congrArg (fun z => some (Value.int z)) e1) e2) (Nat.le_of_ble_eq_true rfl) (Nat.le_of_ble_eq_true rfl) dX1_dies_70
    · have hf := ifn c39 hf
      refine lv_iconst (v := 0) hx hb dX1_dies_42 (by decide) ?_
      obtain ⟨e1, e2⟩ := so_inj hf
      exact aw_iret hC hW hr rfl (p_eq hP (congrArg (fun z => some (Value.int z)) e1) e2) (Nat.le_of_ble_eq_true rfl) (Nat.le_of_ble_eq_true rfl) dX1_dies_43
  · have hf := ifp c5 hf
    refine lv_iconst (v := (-1)) hx hb dX1_dies_8 (by decide) ?_
    obtain ⟨e1, e2⟩ := so_inj hf
    exact aw_iret hC hW hr rfl (p_eq hP (congrArg (fun z => some (Value.int z)) e1) e2) (Nat.le_of_ble_eq_true rfl) (Nat.le_of_ble_eq_true rfl) dX1_dies_9
def f_X1_end (o : Nat) (x1 : Int32) (s : ST) : Option (Int32 × ST) :=
  gd (o < s.1 ∧ (kd s o).1 = 1) <|
  bnd (p_in ((x1 : Int32).toInt64) 0 (((gi s o 10) : Int32).toInt64)) fun v8 =>
  if v8 = 0 then (some (0, s)) else bnd (pI s o 10 x1) fun s18 =>
  some (1, s18)
set_option maxHeartbeats 4000000 in
theorem ct_X1_end (l : Launch) (G : GM) (a : Nat → Nat) (o : Nat) (x1 : Int32) (s : ST) (rv : Int32) (sf : ST) (hf : f_X1_end o x1 s = some (rv, sf)) : MD l G yX1_end (ws_ yX1_end cX1_end 2 (some .boolean)) 1 [.ref (a o), .int x1] a s (some (.int rv)) sf := by
  refine md_of (d := 1) (lv := [(0, .ref (a o)), (1, .int x1)]) (Or.inl (by decide)) (Nat.le_of_ble_eq_true rfl) rfl ?_
  intro p e s0 m args below meth c ls A P hP hC hr hnm hW hl
  have hx := hC.1
  have hb := hC.2.1
  have hts := hC.2.2.2.2.1
  unfold f_X1_end at hf
  refine lv_iload_n hx hb dX1_end_0 rfl (lv_at hl 1 rfl) ?_
  refine lv_i2l (v := (x1 : Int32).toInt64) hx hb dX1_end_1 rfl ?_
  refine lv_lconst (v := 0) hx hb dX1_end_2 (by decide) ?_
  refine lv_aload_n hx hb dX1_end_3 rfl (lv_at hl 0 rfl) ?_
  obtain ⟨g4, hf⟩ := gd_some hf
  refine aw_gI hC hW g4 fl_X1_186 rfl dX1_end_4 ?_
  refine lv_i2l (v := ((gi s o 10) : Int32).toInt64) hx hb dX1_end_7 rfl ?_
  obtain ⟨v8, ev8, hf⟩ := bnd_some hf
  refine aw_dS1 (As := [.long ((x1 : Int32).toInt64), .long 0, .long (((gi s o 10) : Int32).toInt64)]) (rest := []) (pc_X1_in l G a ((x1 : Int32).toInt64) 0 (((gi s o 10) : Int32).toInt64) s) hC hW hl.1 sy_X1_in (Or.inl q514) rfl rfl (Nat.le_of_ble_eq_true rfl) ⟨Nat.le_of_ble_eq_true rfl, Nat.le_of_ble_eq_true rfl⟩ ⟨Nat.le_of_ble_eq_true rfl, Nat.le_of_ble_eq_true rfl⟩ dX1_end_8 (fun H locs hW => ?_)
  refine top_i ev8 ?_
  refine lv_if_ne (tgt := 16) hx hb dX1_end_11 (by decide) (fun c11 => ?_) (fun c11 => ?_)
  · have hf := ifn c11 hf
    refine lv_aload_n hx hb dX1_end_16 rfl (lv_at hl 0 rfl) ?_
    refine lv_iload_n hx hb dX1_end_17 rfl (lv_at hl 1 rfl) ?_
    obtain ⟨s18, e18, hf⟩ := bnd_some hf
    refine aw_pI e18 hC hW g4 fl_X1_186 (Or.inl fn_0_10) rfl rfl rfl dX1_end_18 (fun H locs hW => ?_)
    have g4 := ko_pI e18 g4
    refine lv_iconst (v := 1) hx hb dX1_end_21 (by decide) ?_
    obtain ⟨e1, e2⟩ := so_inj hf
    exact aw_iret hC hW hr rfl (p_eq hP (congrArg (fun z => some (Value.int z)) e1) e2) (Nat.le_of_ble_eq_true rfl) (Nat.le_of_ble_eq_true rfl) dX1_end_22
  · have hf := ifp c11 hf
    refine lv_iconst (v := 0) hx hb dX1_end_14 (by decide) ?_
    obtain ⟨e1, e2⟩ := so_inj hf
    exact aw_iret hC hW hr rfl (p_eq hP (congrArg (fun z => some (Value.int z)) e1) e2) (Nat.le_of_ble_eq_true rfl) (Nat.le_of_ble_eq_true rfl) dX1_end_15
def f_X1_entry (r0 : Nat) (x1 : Int32) (s : ST) : Option (Int32 × ST) :=
  if r0 < s.1 ∧ (kd s r0).1 = 101 then (gd (r0 < s.1 ∧ (kd s r0).1 = 101) <|
  gd (r0 < s.1 ∧ (kd s r0).1 = 101 ∧ ¬ ((x1 : Int32) < 0 ∨ (kd s r0).2 ≤ (x1 : Int32).toNatClampNeg)) <|
  some ((gi s r0 (x1 : Int32).toNatClampNeg), s)) else
  if r0 < s.1 ∧ (kd s r0).1 = 102 then (if r0 < s.1 ∧ (kd s r0).1 = 102 then (gd (r0 < s.1 ∧ (kd s r0).1 = 102) <|
  gd (r0 < s.1 ∧ (kd s r0).1 = 102 ∧ ¬ ((x1 : Int32) < 0 ∨ (kd s r0).2 ≤ (x1 : Int32).toNatClampNeg)) <|
  some ((gi s r0 (x1 : Int32).toNatClampNeg), s)) else
  if r0 < s.1 ∧ (kd s r0).1 = 100 then (gd (r0 < s.1 ∧ (kd s r0).1 = 100) <|
  gd (r0 < s.1 ∧ (kd s r0).1 = 100 ∧ ¬ ((x1 : Int32) < 0 ∨ (kd s r0).2 ≤ (x1 : Int32).toNatClampNeg)) <|
  some ((gi s r0 (x1 : Int32).toNatClampNeg), s)) else
  none) else
  if r0 < s.1 ∧ (kd s r0).1 = 100 then (if r0 < s.1 ∧ (kd s r0).1 = 102 then (gd (r0 < s.1 ∧ (kd s r0).1 = 102) <|
  gd (r0 < s.1 ∧ (kd s r0).1 = 102 ∧ ¬ ((x1 : Int32) < 0 ∨ (kd s r0).2 ≤ (x1 : Int32).toNatClampNeg)) <|
  some ((gi s r0 (x1 : Int32).toNatClampNeg), s)) else
  if r0 < s.1 ∧ (kd s r0).1 = 100 then (gd (r0 < s.1 ∧ (kd s r0).1 = 100) <|
  gd (r0 < s.1 ∧ (kd s r0).1 = 100 ∧ ¬ ((x1 : Int32) < 0 ∨ (kd s r0).2 ≤ (x1 : Int32).toNatClampNeg)) <|
  some ((gi s r0 (x1 : Int32).toNatClampNeg), s)) else
  none) else
  none
set_option maxHeartbeats 4000000 in
theorem ct_X1_entry (l : Launch) (G : GM) (a : Nat → Nat) (r0 : Nat) (x1 : Int32) (s : ST) (rv : Int32) (sf : ST) (hf : f_X1_entry r0 x1 s = some (rv, sf)) : MD l G yX1_entry (ws_ yX1_entry cX1_entry 2 (some .int)) 0 [.ref (a r0), .int x1] a s (some (.int rv)) sf := by
  refine md_of (d := 0) (lv := [(0, .ref (a r0)), (1, .int x1)]) (Or.inl (by decide)) (Nat.le_of_ble_eq_true rfl) rfl ?_
  intro p e s0 m args below meth c ls A P hP hC hr hnm hW hl
  have hx := hC.1
  have hb := hC.2.1
  have hts := hC.2.2.2.2.1
  unfold f_X1_entry at hf
  refine lv_aload_n hx hb dX1_entry_0 rfl (lv_at hl 0 rfl) ?_
  by_cases g1 : r0 < s.1 ∧ (kd s r0).1 = 101
  · have hf := ifp g1 hf
    refine aw_instA (j := 1) (by decide) hC hW g1 q677 dX1_entry_1 ?_
    refine lv_if_eq (tgt := 14) hx hb dX1_entry_4 (by decide) (fun c4 => absurd c4 (by decide)) (fun _ => ?_)
    refine lv_aload_n hx hb dX1_entry_7 rfl (lv_at hl 0 rfl) ?_
    obtain ⟨g8, hf⟩ := gd_some hf
    refine aw_castA (j := 1) (by decide) hC hW g8 q677 dX1_entry_8 ?_
    refine lv_iload_n hx hb dX1_entry_11 rfl (lv_at hl 1 rfl) ?_
    obtain ⟨g12, hf⟩ := gd_some hf
    refine aw_bald hC hW g12 dX1_entry_12 ?_
    obtain ⟨e1, e2⟩ := so_inj hf
    exact aw_iret hC hW hr rfl (p_eq hP (congrArg (fun z => some (Value.int z)) e1) e2) (Nat.le_of_ble_eq_true rfl) (Nat.le_of_ble_eq_true rfl) dX1_entry_13
  have hf := ifn g1 hf
  by_cases g1_1 : r0 < s.1 ∧ (kd s r0).1 = 102
  · have hf := ifp g1_1 hf
    refine aw_instN (j := 2) (i := 1) (by decide) hC hW g1_1 q677 dX1_entry_1 ?_
    refine lv_if_eq (tgt := 14) hx hb dX1_entry_4 (by decide) (fun _ => ?_) (fun c4_1 => absurd (by decide) c4_1)
    refine lv_aload_n hx hb dX1_entry_14 rfl (lv_at hl 0 rfl) ?_
    by_cases g15 : r0 < s.1 ∧ (kd s r0).1 = 102
    · have hf := ifp g15 hf
      refine aw_instA (j := 2) (by decide) hC hW g15 q904 dX1_entry_15 ?_
      refine lv_if_eq (tgt := 30) hx hb dX1_entry_18 (by decide) (fun c18 => absurd c18 (by decide)) (fun _ => ?_)
      refine lv_aload_n hx hb dX1_entry_21 rfl (lv_at hl 0 rfl) ?_
      obtain ⟨g22, hf⟩ := gd_some hf
      refine aw_castA (j := 2) (by decide) hC hW g22 q904 dX1_entry_22 ?_
      refine lv_iload_n hx hb dX1_entry_25 rfl (lv_at hl 1 rfl) ?_
      obtain ⟨g26, hf⟩ := gd_some hf
      refine aw_sald hC hW g26 dX1_entry_26 ?_
      refine lv_goto (tgt := 36) hx hb dX1_entry_27 (by decide) ?_
      obtain ⟨e1, e2⟩ := so_inj hf
      exact aw_iret hC hW hr rfl (p_eq hP (congrArg (fun z => some (Value.int z)) e1) e2) (Nat.le_of_ble_eq_true rfl) (Nat.le_of_ble_eq_true rfl) dX1_entry_36
    have hf := ifn g15 hf
    by_cases g15_1 : r0 < s.1 ∧ (kd s r0).1 = 100
    · have hf := ifp g15_1 hf
      refine aw_instN (j := 0) (i := 2) (by decide) hC hW g15_1 q904 dX1_entry_15 ?_
      refine lv_if_eq (tgt := 30) hx hb dX1_entry_18 (by decide) (fun _ => ?_) (fun c18_1 => absurd (by decide) c18_1)
      refine lv_aload_n hx hb dX1_entry_30 rfl (lv_at hl 0 rfl) ?_
      obtain ⟨g31, hf⟩ := gd_some hf
      refine aw_castA (j := 0) (by decide) hC hW g31 q905 dX1_entry_31 ?_
      refine lv_iload_n hx hb dX1_entry_34 rfl (lv_at hl 1 rfl) ?_
      obtain ⟨g35, hf⟩ := gd_some hf
      refine aw_iald hC hW g35 dX1_entry_35 ?_
      obtain ⟨e1, e2⟩ := so_inj hf
      exact aw_iret hC hW hr rfl (p_eq hP (congrArg (fun z => some (Value.int z)) e1) e2) (Nat.le_of_ble_eq_true rfl) (Nat.le_of_ble_eq_true rfl) dX1_entry_36
    have hf := ifn g15_1 hf
    cases hf
  have hf := ifn g1_1 hf
  by_cases g1_2 : r0 < s.1 ∧ (kd s r0).1 = 100
  · have hf := ifp g1_2 hf
    refine aw_instN (j := 0) (i := 1) (by decide) hC hW g1_2 q677 dX1_entry_1 ?_
    refine lv_if_eq (tgt := 14) hx hb dX1_entry_4 (by decide) (fun _ => ?_) (fun c4_2 => absurd (by decide) c4_2)
    refine lv_aload_n hx hb dX1_entry_14 rfl (lv_at hl 0 rfl) ?_
    by_cases g15_2 : r0 < s.1 ∧ (kd s r0).1 = 102
    · have hf := ifp g15_2 hf
      refine aw_instA (j := 2) (by decide) hC hW g15_2 q904 dX1_entry_15 ?_
      refine lv_if_eq (tgt := 30) hx hb dX1_entry_18 (by decide) (fun c18_2 => absurd c18_2 (by decide)) (fun _ => ?_)
      refine lv_aload_n hx hb dX1_entry_21 rfl (lv_at hl 0 rfl) ?_
      obtain ⟨g22_1, hf⟩ := gd_some hf
      refine aw_castA (j := 2) (by decide) hC hW g22_1 q904 dX1_entry_22 ?_
      refine lv_iload_n hx hb dX1_entry_25 rfl (lv_at hl 1 rfl) ?_
      obtain ⟨g26_1, hf⟩ := gd_some hf
      refine aw_sald hC hW g26_1 dX1_entry_26 ?_
      refine lv_goto (tgt := 36) hx hb dX1_entry_27 (by decide) ?_
      obtain ⟨e1, e2⟩ := so_inj hf
      exact aw_iret hC hW hr rfl (p_eq hP (congrArg (fun z => some (Value.int z)) e1) e2) (Nat.le_of_ble_eq_true rfl) (Nat.le_of_ble_eq_true rfl) dX1_entry_36
    have hf := ifn g15_2 hf
    by_cases g15_3 : r0 < s.1 ∧ (kd s r0).1 = 100
    · have hf := ifp g15_3 hf
      refine aw_instN (j := 0) (i := 2) (by decide) hC hW g15_3 q904 dX1_entry_15 ?_
      refine lv_if_eq (tgt := 30) hx hb dX1_entry_18 (by decide) (fun _ => ?_) (fun c18_3 => absurd (by decide) c18_3)
      refine lv_aload_n hx hb dX1_entry_30 rfl (lv_at hl 0 rfl) ?_
      obtain ⟨g31_1, hf⟩ := gd_some hf
      refine aw_castA (j := 0) (by decide) hC hW g31_1 q905 dX1_entry_31 ?_
      refine lv_iload_n hx hb dX1_entry_34 rfl (lv_at hl 1 rfl) ?_
      obtain ⟨g35_1, hf⟩ := gd_some hf
      refine aw_iald hC hW g35_1 dX1_entry_35 ?_
      obtain ⟨e1, e2⟩ := so_inj hf
      exact aw_iret hC hW hr rfl (p_eq hP (congrArg (fun z => some (Value.int z)) e1) e2) (Nat.le_of_ble_eq_true rfl) (Nat.le_of_ble_eq_true rfl) dX1_entry_36
    have hf := ifn g15_3 hf
    cases hf
  have hf := ifn g1_2 hf
  cases hf
def f_X1_fast (o : Nat) (x1 : Int32) (x2 : Int32) (s : ST) : Option (Int32 × ST) :=
  gd (o < s.1 ∧ (kd s o).1 = 1) <|
  ob (f_X1_isAlive o x1 s) fun v2 s2 =>
  if v2 = 0 then (some ((-1), s2)) else bnd (p_in ((x2 : Int32).toInt64) 1 99) fun v14 =>
  if v14 = 0 then (some ((-1), s2)) else gd (o < s2.1 ∧ (kd s2 o).1 = 1) <|
  ob (f_X1_remember o s2) fun _ s23 =>
  gd (o < s23.1 ∧ (kd s23 o).1 = 1) <|
  (gr s23 o 1).bind fun q27 =>
  gd (q27 < s23.1 ∧ (kd s23 q27).1 = 2) <|
  (gr s23 q27 0).bind fun q30 =>
  (gr s23 o 1).bind fun q36 =>
  gd (q36 < s23.1 ∧ (kd s23 q36).1 = 2) <|
  (gr s23 q36 0).bind fun q39 =>
  gd (q39 < s23.1 ∧ (kd s23 q39).1 = 100 ∧ ¬ ((x1 : Int32) < 0 ∨ (kd s23 q39).2 ≤ (x1 : Int32).toNatClampNeg)) <|
  bnd (p_max 1 ((gi s23 q39 (x1 : Int32).toNatClampNeg) - x2)) fun v46 =>
  gd (q30 < s23.1 ∧ (kd s23 q30).1 = 100 ∧ ¬ ((x1 : Int32) < 0 ∨ (kd s23 q30).2 ≤ (x1 : Int32).toNatClampNeg)) <|
  bnd (pI s23 q30 (x1 : Int32).toNatClampNeg v46) fun s49 =>
  (gr s49 o 1).bind fun q51 =>
  gd (q51 < s49.1 ∧ (kd s49 q51).1 = 2) <|
  (gr s49 q51 0).bind fun q54 =>
  gd (q54 < s49.1 ∧ (kd s49 q54).1 = 100 ∧ ¬ ((x1 : Int32) < 0 ∨ (kd s49 q54).2 ≤ (x1 : Int32).toNatClampNeg)) <|
  some ((gi s49 q54 (x1 : Int32).toNatClampNeg), s49)
set_option maxHeartbeats 4000000 in
theorem ct_X1_fast (l : Launch) (G : GM) (a : Nat → Nat) (o : Nat) (x1 : Int32) (x2 : Int32) (s : ST) (rv : Int32) (sf : ST) (hf : f_X1_fast o x1 x2 s = some (rv, sf)) : MD l G yX1_fast (ws_ yX1_fast cX1_fast 3 (some .int)) 3 [.ref (a o), .int x1, .int x2] a s (some (.int rv)) sf := by
  refine md_of (d := 3) (lv := [(0, .ref (a o)), (1, .int x1), (2, .int x2)]) (Or.inl (by decide)) (Nat.le_of_ble_eq_true rfl) rfl ?_
  intro p e s0 m args below meth c ls A P hP hC hr hnm hW hl
  have hx := hC.1
  have hb := hC.2.1
  have hts := hC.2.2.2.2.1
  unfold f_X1_fast at hf
  refine lv_aload_n hx hb dX1_fast_0 rfl (lv_at hl 0 rfl) ?_
  refine lv_iload_n hx hb dX1_fast_1 rfl (lv_at hl 1 rfl) ?_
  obtain ⟨g2, hf⟩ := gd_some hf
  obtain ⟨v2, s2, h2, hf⟩ := ob_some hf
  refine aw_dV1 (r := o) (As := [.int x1]) (rest := []) (ct_X1_isAlive l G a o x1 s v2 s2 h2) hC hW hl.1 vy_X1_isAlive (Or.inl q1040) g2 rfl rfl rfl rfl (Nat.le_of_ble_eq_true rfl) ⟨Nat.le_of_ble_eq_true rfl, Nat.le_of_ble_eq_true rfl⟩ ⟨Nat.le_of_ble_eq_true rfl, Nat.le_of_ble_eq_true rfl⟩ dX1_fast_2 (fun H locs hW => ?_)
  refine lv_if_eq (tgt := 20) hx hb dX1_fast_5 (by decide) (fun c5 => ?_) (fun c5 => ?_)
  · have hf := ifp c5 hf
    refine lv_iconst (v := (-1)) hx hb dX1_fast_20 (by decide) ?_
    obtain ⟨e1, e2⟩ := so_inj hf
    exact aw_iret hC hW hr rfl (p_eq hP (congrArg (fun z => some (Value.int z)) e1) e2) (Nat.le_of_ble_eq_true rfl) (Nat.le_of_ble_eq_true rfl) dX1_fast_21
  · have hf := ifn c5 hf
    refine lv_iload_n hx hb dX1_fast_8 rfl (lv_at hl 2 rfl) ?_
    refine lv_i2l (v := (x2 : Int32).toInt64) hx hb dX1_fast_9 rfl ?_
    refine lv_lconst (v := 1) hx hb dX1_fast_10 (by decide) ?_
    refine lv_ldc2 (v := 99) hx hb hC.2.2.2.1 (hts _ q1021) dX1_fast_11 ?_
    obtain ⟨v14, ev14, hf⟩ := bnd_some hf
    refine aw_dS1 (As := [.long ((x2 : Int32).toInt64), .long 1, .long 99]) (rest := []) (pc_X1_in l G a ((x2 : Int32).toInt64) 1 99 s2) hC hW hl.1 sy_X1_in (Or.inl q514) rfl rfl (Nat.le_of_ble_eq_true rfl) ⟨Nat.le_of_ble_eq_true rfl, Nat.le_of_ble_eq_true rfl⟩ ⟨Nat.le_of_ble_eq_true rfl, Nat.le_of_ble_eq_true rfl⟩ dX1_fast_14 (fun H locs hW => ?_)
    refine top_i ev14 ?_
    refine lv_if_ne (tgt := 22) hx hb dX1_fast_17 (by decide) (fun c17 => ?_) (fun c17 => ?_)
    · have hf := ifn c17 hf
      refine lv_aload_n hx hb dX1_fast_22 rfl (lv_at hl 0 rfl) ?_
      obtain ⟨g23, hf⟩ := gd_some hf
      obtain ⟨_, s23, h23, hf⟩ := ob_some hf
      refine aw_dV0 (r := o) (As := []) (rest := []) (ct_X1_remember l G a o s2 () s23 h23) hC hW hl.1 vy_X1_remember (Or.inl q913) g23 rfl rfl rfl rfl (Nat.le_of_ble_eq_true rfl) ⟨Nat.le_of_ble_eq_true rfl, Nat.le_of_ble_eq_true rfl⟩ ⟨Nat.le_of_ble_eq_true rfl, Nat.le_of_ble_eq_true rfl⟩ dX1_fast_23 (fun H locs hW => ?_)
      refine lv_aload_n hx hb dX1_fast_26 rfl (lv_at hl 0 rfl) ?_
      obtain ⟨g27, hf⟩ := gd_some hf
      obtain ⟨q27, hq27, hf⟩ := bi_some hf
      refine aw_gR hC hW g27 fl_X1_18 rfl hq27 dX1_fast_27 ?_
      obtain ⟨g30, hf⟩ := gd_some hf
      obtain ⟨q30, hq30, hf⟩ := bi_some hf
      refine aw_gR hC hW g30 fl_X1_236 rfl hq30 dX1_fast_30 ?_
      refine lv_iload_n hx hb dX1_fast_33 rfl (lv_at hl 1 rfl) ?_
      refine lv_iconst (v := 1) hx hb dX1_fast_34 (by decide) ?_
      refine lv_aload_n hx hb dX1_fast_35 rfl (lv_at hl 0 rfl) ?_
      obtain ⟨q36, hq36, hf⟩ := bi_some hf
      refine aw_gR hC hW g27 fl_X1_18 rfl hq36 dX1_fast_36 ?_
      obtain ⟨g39, hf⟩ := gd_some hf
      obtain ⟨q39, hq39, hf⟩ := bi_some hf
      refine aw_gR hC hW g39 fl_X1_236 rfl hq39 dX1_fast_39 ?_
      refine lv_iload_n hx hb dX1_fast_42 rfl (lv_at hl 1 rfl) ?_
      obtain ⟨g43, hf⟩ := gd_some hf
      refine aw_iald hC hW g43 dX1_fast_43 ?_
      refine lv_iload_n hx hb dX1_fast_44 rfl (lv_at hl 2 rfl) ?_
      refine lv_isub hx hb dX1_fast_45 ?_
      obtain ⟨v46, ev46, hf⟩ := bnd_some hf
      refine aw_dS1 (As := [.int 1, .int ((gi s23 q39 (x1 : Int32).toNatClampNeg) - x2)]) (rest := [.int x1, .ref (a q30)]) (pc_J0_max l G a 1 ((gi s23 q39 (x1 : Int32).toNatClampNeg) - x2) s23) hC hW hl.1 sy_J0_max (Or.inl q907) rfl rfl (Nat.le_of_ble_eq_true rfl) ⟨Nat.le_of_ble_eq_true rfl, Nat.le_of_ble_eq_true rfl⟩ ⟨Nat.le_of_ble_eq_true rfl, Nat.le_of_ble_eq_true rfl⟩ dX1_fast_46 (fun H locs hW => ?_)
      refine top_i ev46 ?_
      obtain ⟨g49, hf⟩ := gd_some hf
      obtain ⟨s49, e49, hf⟩ := bnd_some hf
      refine aw_iast e49 hC hW g49 dX1_fast_49 (fun H locs hW => ?_)
      have g27 := ko_pI e49 g27
      have g30 := ko_pI e49 g30
      have g39 := ko_pI e49 g39
      refine lv_aload_n hx hb dX1_fast_50 rfl (lv_at hl 0 rfl) ?_
      obtain ⟨q51, hq51, hf⟩ := bi_some hf
      refine aw_gR hC hW g27 fl_X1_18 rfl hq51 dX1_fast_51 ?_
      obtain ⟨g54, hf⟩ := gd_some hf
      obtain ⟨q54, hq54, hf⟩ := bi_some hf
      refine aw_gR hC hW g54 fl_X1_236 rfl hq54 dX1_fast_54 ?_
      refine lv_iload_n hx hb dX1_fast_57 rfl (lv_at hl 1 rfl) ?_
      obtain ⟨g58, hf⟩ := gd_some hf
      refine aw_iald hC hW g58 dX1_fast_58 ?_
      obtain ⟨e1, e2⟩ := so_inj hf
      exact aw_iret hC hW hr rfl (p_eq hP (congrArg (fun z => some (Value.int z)) e1) e2) (Nat.le_of_ble_eq_true rfl) (Nat.le_of_ble_eq_true rfl) dX1_fast_59
    · have hf := ifp c17 hf
      refine lv_iconst (v := (-1)) hx hb dX1_fast_20 (by decide) ?_
      obtain ⟨e1, e2⟩ := so_inj hf
      exact aw_iret hC hW hr rfl (p_eq hP (congrArg (fun z => some (Value.int z)) e1) e2) (Nat.le_of_ble_eq_true rfl) (Nat.le_of_ble_eq_true rfl) dX1_fast_21
