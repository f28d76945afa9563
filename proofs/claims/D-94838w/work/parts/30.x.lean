set_option maxRecDepth 100000
def f_X1_isOne (o : Nat) (x1 : Int32) (s : ST) : Option (Int32 × ST) :=
  gd (o < s.1 ∧ (kd s o).1 = 1) <|
  bnd (p_in ((x1 : Int32).toInt64) 0 ((((gi s o 4) - 1) : Int32).toInt64)) fun v10 =>
  gd (v10 = 0 ∨ v10 = 1) <|
  some (v10, s)
set_option maxHeartbeats 4000000 in
theorem ct_X1_isOne (l : Launch) (G : GM) (a : Nat → Nat) (o : Nat) (x1 : Int32) (s : ST) (rv : Int32) (sf : ST) (hf : f_X1_isOne o x1 s = some (rv, sf)) : MD l G yX1_isOne (ws_ yX1_isOne cX1_isOne 2 (some .boolean)) 1 [.ref (a o), .int x1] a s (some (.int rv)) sf := by
  refine md_of (d := 1) (lv := [(0, .ref (a o)), (1, .int x1)]) (Or.inl (by decide)) (Nat.le_of_ble_eq_true rfl) rfl ?_
  intro p e s0 m args below meth c ls A P hP hC hr hnm hW hl
  have hx := hC.1
  have hb := hC.2.1
  have hts := hC.2.2.2.2.1
  unfold f_X1_isOne at hf
  refine lv_iload_n hx hb dX1_isOne_0 rfl (lv_at hl 1 rfl) ?_
  refine lv_i2l (v := (x1 : Int32).toInt64) hx hb dX1_isOne_1 rfl ?_
  refine lv_lconst (v := 0) hx hb dX1_isOne_2 (by decide) ?_
  refine lv_aload_n hx hb dX1_isOne_3 rfl (lv_at hl 0 rfl) ?_
  obtain ⟨g4, hf⟩ := gd_some hf
  refine aw_gI hC hW g4 fl_X1_157 rfl dX1_isOne_4 ?_
  refine lv_iconst (v := 1) hx hb dX1_isOne_7 (by decide) ?_
  refine lv_isub hx hb dX1_isOne_8 ?_
  refine lv_i2l (v := (((gi s o 4) - 1) : Int32).toInt64) hx hb dX1_isOne_9 rfl ?_
  obtain ⟨v10, ev10, hf⟩ := bnd_some hf
  refine aw_dS1 (As := [.long ((x1 : Int32).toInt64), .long 0, .long ((((gi s o 4) - 1) : Int32).toInt64)]) (rest := []) (pc_X1_in l G a ((x1 : Int32).toInt64) 0 ((((gi s o 4) - 1) : Int32).toInt64) s) hC hW hl.1 sy_X1_in (Or.inl q514) rfl rfl (Nat.le_of_ble_eq_true rfl) ⟨Nat.le_of_ble_eq_true rfl, Nat.le_of_ble_eq_true rfl⟩ ⟨Nat.le_of_ble_eq_true rfl, Nat.le_of_ble_eq_true rfl⟩ dX1_isOne_10 (fun H locs hW => ?_)
  refine top_i ev10 ?_
  obtain ⟨gz13, hf⟩ := gd_some hf
  obtain ⟨e1, e2⟩ := so_inj hf
  exact aw_iret hC hW hr (nb01 gz13) (p_eq hP (congrArg (fun z => some (Value.int z)) e1) e2) (Nat.le_of_ble_eq_true rfl) (Nat.le_of_ble_eq_true rfl) dX1_isOne_13
def f_X1_change_b29  (s : ST) : Option (Int32 × ST) :=
  none
def f_X1_change (o : Nat) (x1 : Int32) (x2 : Int32) (s : ST) : Option (Int32 × ST) :=
  gd (o < s.1 ∧ (kd s o).1 = 1) <|
  ob (f_X1_isOne o x1 s) fun v2 s2 =>
  if v2 = 0 then (f_X1_change_b29 s2) else gd (o < s2.1 ∧ (kd s2 o).1 = 1) <|
  (gr s2 o 0).bind fun q12 =>
  gd (q12 < s2.1 ∧ (kd s2 q12).1 = 105 ∧ ¬ ((x1 : Int32) < 0 ∨ (kd s2 q12).2 ≤ (x1 : Int32).toNatClampNeg)) <|
  (gr s2 q12 (x1 : Int32).toNatClampNeg).bind fun q16 =>
  gd (q16 < s2.1 ∧ (kd s2 q16).1 = 3) <|
  bnd (p_in ((x2 : Int32).toInt64) 0 ((((gi s2 q16 2) - 1) : Int32).toInt64)) fun v23 =>
  if v23 = 0 then (f_X1_change_b29 s2) else (gr s2 o 0).bind fun q38 =>
  gd (q38 < s2.1 ∧ (kd s2 q38).1 = 105 ∧ ¬ ((x1 : Int32) < 0 ∨ (kd s2 q38).2 ≤ (x1 : Int32).toNatClampNeg)) <|
  (gr s2 q38 (x1 : Int32).toNatClampNeg).bind fun q42 =>
  gd (q42 < s2.1 ∧ (kd s2 q42).1 = 3) <|
  (gr s2 q42 3).bind fun q43 =>
  gd (q43 < s2.1 ∧ (kd s2 q43).1 = 100 ∧ ¬ ((x2 : Int32) < 0 ∨ (kd s2 q43).2 ≤ (x2 : Int32).toNatClampNeg)) <|
  some ((gi s2 q43 (x2 : Int32).toNatClampNeg), s2)
set_option maxHeartbeats 4000000 in
theorem ct_X1_change (l : Launch) (G : GM) (a : Nat → Nat) (o : Nat) (x1 : Int32) (x2 : Int32) (s : ST) (rv : Int32) (sf : ST) (hf : f_X1_change o x1 x2 s = some (rv, sf)) : MD l G yX1_change (ws_ yX1_change cX1_change 3 (some .int)) 2 [.ref (a o), .int x1, .int x2] a s (some (.int rv)) sf := by
  refine md_of (d := 2) (lv := [(0, .ref (a o)), (1, .int x1), (2, .int x2)]) (Or.inl (by decide)) (Nat.le_of_ble_eq_true rfl) rfl ?_
  intro p e s0 m args below meth c ls A P hP hC hr hnm hW hl
  have hx := hC.1
  have hb := hC.2.1
  have hts := hC.2.2.2.2.1
  have B29 : ∀  (s : ST), f_X1_change_b29  s = some (rv, sf) → ∀ (H : Heap) (locs : List Loc) (ls : Array Slot), lv_has ls 3 [] → AW G a A s s0.heap H locs → WB p l e (rmD 2) s0 m args below meth c H locs G A P 29 ls [] := by
    intro  s hf H locs ls hl hW
    unfold f_X1_change_b29 at hf
    cases hf
  unfold f_X1_change at hf
  refine lv_aload_n hx hb dX1_change_0 rfl (lv_at hl 0 rfl) ?_
  refine lv_iload_n hx hb dX1_change_1 rfl (lv_at hl 1 rfl) ?_
  obtain ⟨g2, hf⟩ := gd_some hf
  obtain ⟨v2, s2, h2, hf⟩ := ob_some hf
  refine aw_dV1 (r := o) (As := [.int x1]) (rest := []) (ct_X1_isOne l G a o x1 s v2 s2 h2) hC hW hl.1 vy_X1_isOne (Or.inl q848) g2 rfl rfl rfl rfl (Nat.le_of_ble_eq_true rfl) ⟨Nat.le_of_ble_eq_true rfl, Nat.le_of_ble_eq_true rfl⟩ ⟨Nat.le_of_ble_eq_true rfl, Nat.le_of_ble_eq_true rfl⟩ dX1_change_2 (fun H locs hW => ?_)
  refine lv_if_eq (tgt := 29) hx hb dX1_change_5 (by decide) (fun c5 => ?_) (fun c5 => ?_)
  · have hf := ifp c5 hf
    exact B29 s2 hf _ _ _ (lv_sub hl [] rfl) hW
  · have hf := ifn c5 hf
    refine lv_iload_n hx hb dX1_change_8 rfl (lv_at hl 2 rfl) ?_
    refine lv_i2l (v := (x2 : Int32).toInt64) hx hb dX1_change_9 rfl ?_
    refine lv_lconst (v := 0) hx hb dX1_change_10 (by decide) ?_
    refine lv_aload_n hx hb dX1_change_11 rfl (lv_at hl 0 rfl) ?_
    obtain ⟨g12, hf⟩ := gd_some hf
    obtain ⟨q12, hq12, hf⟩ := bi_some hf
    refine aw_gR hC hW g12 fl_X1_11 rfl hq12 dX1_change_12 ?_
    refine lv_iload_n hx hb dX1_change_15 rfl (lv_at hl 1 rfl) ?_
    obtain ⟨g16, hf⟩ := gd_some hf
    obtain ⟨q16, hq16, hf⟩ := bi_some hf
    refine aw_aald (j := 0) hC hW (by decide) g16 hq16 dX1_change_16 ?_
    obtain ⟨g17, hf⟩ := gd_some hf
    refine aw_gI hC hW g17 fl_X1_270 rfl dX1_change_17 ?_
    refine lv_iconst (v := 1) hx hb dX1_change_20 (by decide) ?_
    refine lv_isub hx hb dX1_change_21 ?_
    refine lv_i2l (v := (((gi s2 q16 2) - 1) : Int32).toInt64) hx hb dX1_change_22 rfl ?_
    obtain ⟨v23, ev23, hf⟩ := bnd_some hf
    refine aw_dS1 (As := [.long ((x2 : Int32).toInt64), .long 0, .long ((((gi s2 q16 2) - 1) : Int32).toInt64)]) (rest := []) (pc_X1_in l G a ((x2 : Int32).toInt64) 0 ((((gi s2 q16 2) - 1) : Int32).toInt64) s2) hC hW hl.1 sy_X1_in (Or.inl q514) rfl rfl (Nat.le_of_ble_eq_true rfl) ⟨Nat.le_of_ble_eq_true rfl, Nat.le_of_ble_eq_true rfl⟩ ⟨Nat.le_of_ble_eq_true rfl, Nat.le_of_ble_eq_true rfl⟩ dX1_change_23 (fun H locs hW => ?_)
    refine top_i ev23 ?_
    refine lv_if_ne (tgt := 37) hx hb dX1_change_26 (by decide) (fun c26 => ?_) (fun c26 => ?_)
    · have hf := ifn c26 hf
      refine lv_aload_n hx hb dX1_change_37 rfl (lv_at hl 0 rfl) ?_
      obtain ⟨q38, hq38, hf⟩ := bi_some hf
      refine aw_gR hC hW g12 fl_X1_11 rfl hq38 dX1_change_38 ?_
      refine lv_iload_n hx hb dX1_change_41 rfl (lv_at hl 1 rfl) ?_
      obtain ⟨g42, hf⟩ := gd_some hf
      obtain ⟨q42, hq42, hf⟩ := bi_some hf
      refine aw_aald (j := 0) hC hW (by decide) g42 hq42 dX1_change_42 ?_
      obtain ⟨g43, hf⟩ := gd_some hf
      obtain ⟨q43, hq43, hf⟩ := bi_some hf
      refine aw_gR hC hW g43 fl_X1_273 rfl hq43 dX1_change_43 ?_
      refine lv_iload_n hx hb dX1_change_46 rfl (lv_at hl 2 rfl) ?_
      obtain ⟨g47, hf⟩ := gd_some hf
      refine aw_iald hC hW g47 dX1_change_47 ?_
      obtain ⟨e1, e2⟩ := so_inj hf
      exact aw_iret hC hW hr rfl (p_eq hP (congrArg (fun z => some (Value.int z)) e1) e2) (Nat.le_of_ble_eq_true rfl) (Nat.le_of_ble_eq_true rfl) dX1_change_48
    · have hf := ifp c26 hf
      exact B29 s2 hf _ _ _ (lv_sub hl [] rfl) hW
def f_X2_be (o : Nat) (r1 : Nat) (s : ST) : Option (Unit × ST) :=
  gd (r1 < s.1 ∧ (kd s r1).1 = 2) <|
  (gr s r1 0).bind fun q1 =>
  gd (o < s.1 ∧ (kd s o).1 = 2) <|
  (gr s o 0).bind fun q6 =>
  gd (q1 < s.1 ∧ (kd s q1).1 = 100) <|
  gd (q6 < s.1 ∧ (kd s q6).1 = 100) <|
  gd ((¬ (0 : Int32) < 0 ∧ ¬ (0 : Int32) < 0 ∧ ¬ (8 : Int32) < 0) ∧ (0 : Int32).toNatClampNeg + (8 : Int32).toNatClampNeg ≤ (kd s q1).2 ∧ (0 : Int32).toNatClampNeg + (8 : Int32).toNatClampNeg ≤ (kd s q6).2) <|
  bnd (pIr s q6 (cpyI (gi s q1) (gi s q6) 0 0 8)) fun s12 =>
  (gr s12 r1 1).bind fun q16 =>
  (gr s12 o 1).bind fun q21 =>
  gd (q16 < s12.1 ∧ (kd s12 q16).1 = 100) <|
  gd (q21 < s12.1 ∧ (kd s12 q21).1 = 100) <|
  gd ((¬ (0 : Int32) < 0 ∧ ¬ (0 : Int32) < 0 ∧ ¬ (8 : Int32) < 0) ∧ (0 : Int32).toNatClampNeg + (8 : Int32).toNatClampNeg ≤ (kd s12 q16).2 ∧ (0 : Int32).toNatClampNeg + (8 : Int32).toNatClampNeg ≤ (kd s12 q21).2) <|
  bnd (pIr s12 q21 (cpyI (gi s12 q16) (gi s12 q21) 0 0 8)) fun s27 =>
  (gr s27 r1 2).bind fun q31 =>
  (gr s27 o 2).bind fun q36 =>
  gd (q31 < s27.1 ∧ (kd s27 q31).1 = 100) <|
  gd (q36 < s27.1 ∧ (kd s27 q36).1 = 100) <|
  gd ((¬ (0 : Int32) < 0 ∧ ¬ (0 : Int32) < 0 ∧ ¬ (12 : Int32) < 0) ∧ (0 : Int32).toNatClampNeg + (12 : Int32).toNatClampNeg ≤ (kd s27 q31).2 ∧ (0 : Int32).toNatClampNeg + (12 : Int32).toNatClampNeg ≤ (kd s27 q36).2) <|
  bnd (pIr s27 q36 (cpyI (gi s27 q31) (gi s27 q36) 0 0 12)) fun s42 =>
  (gr s42 r1 3).bind fun q46 =>
  (gr s42 o 3).bind fun q51 =>
  gd (q46 < s42.1 ∧ (kd s42 q46).1 = 100) <|
  gd (q51 < s42.1 ∧ (kd s42 q51).1 = 100) <|
  gd ((¬ (0 : Int32) < 0 ∧ ¬ (0 : Int32) < 0 ∧ ¬ (12 : Int32) < 0) ∧ (0 : Int32).toNatClampNeg + (12 : Int32).toNatClampNeg ≤ (kd s42 q46).2 ∧ (0 : Int32).toNatClampNeg + (12 : Int32).toNatClampNeg ≤ (kd s42 q51).2) <|
  bnd (pIr s42 q51 (cpyI (gi s42 q46) (gi s42 q51) 0 0 12)) fun s57 =>
  (gr s57 r1 4).bind fun q61 =>
  (gr s57 o 4).bind fun q66 =>
  gd (q61 < s57.1 ∧ (kd s57 q61).1 = 100) <|
  gd (q66 < s57.1 ∧ (kd s57 q66).1 = 100) <|
  gd ((¬ (0 : Int32) < 0 ∧ ¬ (0 : Int32) < 0 ∧ ¬ (12 : Int32) < 0) ∧ (0 : Int32).toNatClampNeg + (12 : Int32).toNatClampNeg ≤ (kd s57 q61).2 ∧ (0 : Int32).toNatClampNeg + (12 : Int32).toNatClampNeg ≤ (kd s57 q66).2) <|
  bnd (pIr s57 q66 (cpyI (gi s57 q61) (gi s57 q66) 0 0 12)) fun s72 =>
  (gr s72 r1 5).bind fun q76 =>
  (gr s72 o 5).bind fun q81 =>
  gd (q76 < s72.1 ∧ (kd s72 q76).1 = 100) <|
  gd (q81 < s72.1 ∧ (kd s72 q81).1 = 100) <|
  gd ((¬ (0 : Int32) < 0 ∧ ¬ (0 : Int32) < 0 ∧ ¬ (60 : Int32) < 0) ∧ (0 : Int32).toNatClampNeg + (60 : Int32).toNatClampNeg ≤ (kd s72 q76).2 ∧ (0 : Int32).toNatClampNeg + (60 : Int32).toNatClampNeg ≤ (kd s72 q81).2) <|
  bnd (pIr s72 q81 (cpyI (gi s72 q76) (gi s72 q81) 0 0 60)) fun s87 =>
  bnd (pI s87 o 6 (gi s87 r1 6)) fun s95 =>
  bnd (pI s95 o 7 (gi s95 r1 7)) fun s103 =>
  bnd (pI s103 o 8 (gi s103 r1 8)) fun s111 =>
  bnd (pI s111 o 9 (gi s111 r1 9)) fun s119 =>
  bnd (pI s119 o 10 (gi s119 r1 10)) fun s127 =>
  some ((), s127)
set_option maxHeartbeats 4000000 in
theorem ct_X2_be (l : Launch) (G : GM) (a : Nat → Nat) (o : Nat) (r1 : Nat) (s : ST) (rv : Unit) (sf : ST) (hf : f_X2_be o r1 s = some (rv, sf)) : MD l G yX2_be (ws_ yX2_be cX2_be 2 none) 1 [.ref (a o), .ref (a r1)] a s none sf := by
  refine md_of (d := 1) (lv := [(0, .ref (a o)), (1, .ref (a r1))]) (Or.inl (by decide)) (Nat.le_of_ble_eq_true rfl) rfl ?_
  intro p e s0 m args below meth c ls A P hP hC hr hnm hW hl
  have hx := hC.1
  have hb := hC.2.1
  have hts := hC.2.2.2.2.1
  unfold f_X2_be at hf
  refine lv_aload_n hx hb dX2_be_0 rfl (lv_at hl 1 rfl) ?_
  obtain ⟨g1, hf⟩ := gd_some hf
  obtain ⟨q1, hq1, hf⟩ := bi_some hf
  refine aw_gR hC hW g1 fl_X2_9 rfl hq1 dX2_be_1 ?_
  refine lv_iconst (v := 0) hx hb dX2_be_4 (by decide) ?_
  refine lv_aload_n hx hb dX2_be_5 rfl (lv_at hl 0 rfl) ?_
  obtain ⟨g6, hf⟩ := gd_some hf
  obtain ⟨q6, hq6, hf⟩ := bi_some hf
  refine aw_gR hC hW g6 fl_X2_9 rfl hq6 dX2_be_6 ?_
  refine lv_iconst (v := 0) hx hb dX2_be_9 (by decide) ?_
  refine lv_bipush (v := 8) hx hb dX2_be_10 (by decide) ?_
  obtain ⟨g12, hf⟩ := gd_some hf
  obtain ⟨h12, hf⟩ := gd_some hf
  obtain ⟨z12, hf⟩ := gd_some hf
  obtain ⟨s12, e12, hf⟩ := bnd_some hf
  refine aw_copyI e12 hC hW (by rw [hC.2.2.1]; exact hl.1.symm) q921 q666 q665 q94 g12 h12 z12 (Nat.le_of_ble_eq_true rfl) (Nat.le_of_ble_eq_true rfl) dX2_be_12 (fun H locs hW => ?_)
  have g1 := ko_pIr e12 g1
  have g6 := ko_pIr e12 g6
  refine lv_aload_n hx hb dX2_be_15 rfl (lv_at hl 1 rfl) ?_
  obtain ⟨q16, hq16, hf⟩ := bi_some hf
  refine aw_gR hC hW g1 fl_X2_15 rfl hq16 dX2_be_16 ?_
  refine lv_iconst (v := 0) hx hb dX2_be_19 (by decide) ?_
  refine lv_aload_n hx hb dX2_be_20 rfl (lv_at hl 0 rfl) ?_
  obtain ⟨q21, hq21, hf⟩ := bi_some hf
  refine aw_gR hC hW g6 fl_X2_15 rfl hq21 dX2_be_21 ?_
  refine lv_iconst (v := 0) hx hb dX2_be_24 (by decide) ?_
  refine lv_bipush (v := 8) hx hb dX2_be_25 (by decide) ?_
  obtain ⟨g27, hf⟩ := gd_some hf
  obtain ⟨h27, hf⟩ := gd_some hf
  obtain ⟨z27, hf⟩ := gd_some hf
  obtain ⟨s27, e27, hf⟩ := bnd_some hf
  refine aw_copyI e27 hC hW (by rw [hC.2.2.1]; exact hl.1.symm) q921 q666 q665 q94 g27 h27 z27 (Nat.le_of_ble_eq_true rfl) (Nat.le_of_ble_eq_true rfl) dX2_be_27 (fun H locs hW => ?_)
  have g1 := ko_pIr e27 g1
  have g6 := ko_pIr e27 g6
  refine lv_aload_n hx hb dX2_be_30 rfl (lv_at hl 1 rfl) ?_
  obtain ⟨q31, hq31, hf⟩ := bi_some hf
  refine aw_gR hC hW g1 fl_X2_18 rfl hq31 dX2_be_31 ?_
  refine lv_iconst (v := 0) hx hb dX2_be_34 (by decide) ?_
  refine lv_aload_n hx hb dX2_be_35 rfl (lv_at hl 0 rfl) ?_
  obtain ⟨q36, hq36, hf⟩ := bi_some hf
  refine aw_gR hC hW g6 fl_X2_18 rfl hq36 dX2_be_36 ?_
  refine lv_iconst (v := 0) hx hb dX2_be_39 (by decide) ?_
  refine lv_bipush (v := 12) hx hb dX2_be_40 (by decide) ?_
  obtain ⟨g42, hf⟩ := gd_some hf
  obtain ⟨h42, hf⟩ := gd_some hf
  obtain ⟨z42, hf⟩ := gd_some hf
  obtain ⟨s42, e42, hf⟩ := bnd_some hf
  refine aw_copyI e42 hC hW (by rw [hC.2.2.1]; exact hl.1.symm) q921 q666 q665 q94 g42 h42 z42 (Nat.le_of_ble_eq_true rfl) (Nat.le_of_ble_eq_true rfl) dX2_be_42 (fun H locs hW => ?_)
  have g1 := ko_pIr e42 g1
  have g6 := ko_pIr e42 g6
  refine lv_aload_n hx hb dX2_be_45 rfl (lv_at hl 1 rfl) ?_
  obtain ⟨q46, hq46, hf⟩ := bi_some hf
  refine aw_gR hC hW g1 fl_X2_21 rfl hq46 dX2_be_46 ?_
  refine lv_iconst (v := 0) hx hb dX2_be_49 (by decide) ?_
  refine lv_aload_n hx hb dX2_be_50 rfl (lv_at hl 0 rfl) ?_
  obtain ⟨q51, hq51, hf⟩ := bi_some hf
  refine aw_gR hC hW g6 fl_X2_21 rfl hq51 dX2_be_51 ?_
  refine lv_iconst (v := 0) hx hb dX2_be_54 (by decide) ?_
  refine lv_bipush (v := 12) hx hb dX2_be_55 (by decide) ?_
  obtain ⟨g57, hf⟩ := gd_some hf
  obtain ⟨h57, hf⟩ := gd_some hf
  obtain ⟨z57, hf⟩ := gd_some hf
  obtain ⟨s57, e57, hf⟩ := bnd_some hf
  refine aw_copyI e57 hC hW (by rw [hC.2.2.1]; exact hl.1.symm) q921 q666 q665 q94 g57 h57 z57 (Nat.le_of_ble_eq_true rfl) (Nat.le_of_ble_eq_true rfl) dX2_be_57 (fun H locs hW => ?_)
  have g1 := ko_pIr e57 g1
  have g6 := ko_pIr e57 g6
  refine lv_aload_n hx hb dX2_be_60 rfl (lv_at hl 1 rfl) ?_
  obtain ⟨q61, hq61, hf⟩ := bi_some hf
  refine aw_gR hC hW g1 fl_X2_24 rfl hq61 dX2_be_61 ?_
  refine lv_iconst (v := 0) hx hb dX2_be_64 (by decide) ?_
  refine lv_aload_n hx hb dX2_be_65 rfl (lv_at hl 0 rfl) ?_
  obtain ⟨q66, hq66, hf⟩ := bi_some hf
  refine aw_gR hC hW g6 fl_X2_24 rfl hq66 dX2_be_66 ?_
  refine lv_iconst (v := 0) hx hb dX2_be_69 (by decide) ?_
  refine lv_bipush (v := 12) hx hb dX2_be_70 (by decide) ?_
  obtain ⟨g72, hf⟩ := gd_some hf
  obtain ⟨h72, hf⟩ := gd_some hf
  obtain ⟨z72, hf⟩ := gd_some hf
  obtain ⟨s72, e72, hf⟩ := bnd_some hf
  refine aw_copyI e72 hC hW (by rw [hC.2.2.1]; exact hl.1.symm) q921 q666 q665 q94 g72 h72 z72 (Nat.le_of_ble_eq_true rfl) (Nat.le_of_ble_eq_true rfl) dX2_be_72 (fun H locs hW => ?_)
  have g1 := ko_pIr e72 g1
  have g6 := ko_pIr e72 g6
  refine lv_aload_n hx hb dX2_be_75 rfl (lv_at hl 1 rfl) ?_
  obtain ⟨q76, hq76, hf⟩ := bi_some hf
  refine aw_gR hC hW g1 fl_X2_27 rfl hq76 dX2_be_76 ?_
  refine lv_iconst (v := 0) hx hb dX2_be_79 (by decide) ?_
  refine lv_aload_n hx hb dX2_be_80 rfl (lv_at hl 0 rfl) ?_
  obtain ⟨q81, hq81, hf⟩ := bi_some hf
  refine aw_gR hC hW g6 fl_X2_27 rfl hq81 dX2_be_81 ?_
  refine lv_iconst (v := 0) hx hb dX2_be_84 (by decide) ?_
  refine lv_bipush (v := 60) hx hb dX2_be_85 (by decide) ?_
  obtain ⟨g87, hf⟩ := gd_some hf
  obtain ⟨h87, hf⟩ := gd_some hf
  obtain ⟨z87, hf⟩ := gd_some hf
  obtain ⟨s87, e87, hf⟩ := bnd_some hf
  refine aw_copyI e87 hC hW (by rw [hC.2.2.1]; exact hl.1.symm) q921 q666 q665 q94 g87 h87 z87 (Nat.le_of_ble_eq_true rfl) (Nat.le_of_ble_eq_true rfl) dX2_be_87 (fun H locs hW => ?_)
  have g1 := ko_pIr e87 g1
  have g6 := ko_pIr e87 g6
  refine lv_aload_n hx hb dX2_be_90 rfl (lv_at hl 0 rfl) ?_
  refine lv_aload_n hx hb dX2_be_91 rfl (lv_at hl 1 rfl) ?_
  refine aw_gI hC hW g1 fl_X2_40 rfl dX2_be_92 ?_
  obtain ⟨s95, e95, hf⟩ := bnd_some hf
  refine aw_pI e95 hC hW g6 fl_X2_40 (Or.inl fn_1_6) rfl rfl rfl dX2_be_95 (fun H locs hW => ?_)
  have g1 := ko_pI e95 g1
  have g6 := ko_pI e95 g6
  refine lv_aload_n hx hb dX2_be_98 rfl (lv_at hl 0 rfl) ?_
  refine lv_aload_n hx hb dX2_be_99 rfl (lv_at hl 1 rfl) ?_
  refine aw_gI hC hW g1 fl_X2_30 rfl dX2_be_100 ?_
  obtain ⟨s103, e103, hf⟩ := bnd_some hf
  refine aw_pI e103 hC hW g6 fl_X2_30 (Or.inl fn_1_7) rfl rfl rfl dX2_be_103 (fun H locs hW => ?_)
  have g1 := ko_pI e103 g1
  have g6 := ko_pI e103 g6
  refine lv_aload_n hx hb dX2_be_106 rfl (lv_at hl 0 rfl) ?_
  refine lv_aload_n hx hb dX2_be_107 rfl (lv_at hl 1 rfl) ?_
  refine aw_gI hC hW g1 fl_X2_43 rfl dX2_be_108 ?_
  obtain ⟨s111, e111, hf⟩ := bnd_some hf
  refine aw_pI e111 hC hW g6 fl_X2_43 (Or.inl fn_1_8) rfl rfl rfl dX2_be_111 (fun H locs hW => ?_)
  have g1 := ko_pI e111 g1
  have g6 := ko_pI e111 g6
  refine lv_aload_n hx hb dX2_be_114 rfl (lv_at hl 0 rfl) ?_
  refine lv_aload_n hx hb dX2_be_115 rfl (lv_at hl 1 rfl) ?_
  refine aw_gI hC hW g1 fl_X2_46 rfl dX2_be_116 ?_
  obtain ⟨s119, e119, hf⟩ := bnd_some hf
  refine aw_pI e119 hC hW g6 fl_X2_46 (Or.inl fn_1_9) rfl rfl rfl dX2_be_119 (fun H locs hW => ?_)
  have g1 := ko_pI e119 g1
  have g6 := ko_pI e119 g6
  refine lv_aload_n hx hb dX2_be_122 rfl (lv_at hl 0 rfl) ?_
  refine lv_aload_n hx hb dX2_be_123 rfl (lv_at hl 1 rfl) ?_
  refine aw_gI hC hW g1 fl_X2_49 rfl dX2_be_124 ?_
  obtain ⟨s127, e127, hf⟩ := bnd_some hf
  refine aw_pI e127 hC hW g6 fl_X2_49 (Or.inl fn_1_10) rfl rfl rfl dX2_be_127 (fun H locs hW => ?_)
  have g1 := ko_pI e127 g1
  have g6 := ko_pI e127 g6
  obtain ⟨e1, e2⟩ := so_inj hf
  exact aw_vret hC hW hr (p_eq hP rfl e2) (Nat.le_of_ble_eq_true rfl) (Nat.le_of_ble_eq_true rfl) dX2_be_130
def f_X2_holds (o : Nat) (x1 : Int32) (s : ST) : Option (Int32 × ST) :=
  gd (o < s.1 ∧ (kd s o).1 = 2) <|
  (gr s o 4).bind fun q1 =>
  gd (q1 < s.1 ∧ (kd s q1).1 = 100 ∧ ¬ ((x1 : Int32) < 0 ∨ (kd s q1).2 ≤ (x1 : Int32).toNatClampNeg)) <|
  if (gi s q1 (x1 : Int32).toNatClampNeg) = (-1) then (some (1, s)) else some (0, s)
set_option maxHeartbeats 4000000 in
theorem ct_X2_holds (l : Launch) (G : GM) (a : Nat → Nat) (o : Nat) (x1 : Int32) (s : ST) (rv : Int32) (sf : ST) (hf : f_X2_holds o x1 s = some (rv, sf)) : MD l G yX2_holds (ws_ yX2_holds cX2_holds 2 (some .boolean)) 0 [.ref (a o), .int x1] a s (some (.int rv)) sf := by
  refine md_of (d := 0) (lv := [(0, .ref (a o)), (1, .int x1)]) (Or.inl (by decide)) (Nat.le_of_ble_eq_true rfl) rfl ?_
  intro p e s0 m args below meth c ls A P hP hC hr hnm hW hl
  have hx := hC.1
  have hb := hC.2.1
  have hts := hC.2.2.2.2.1
  unfold f_X2_holds at hf
  refine lv_aload_n hx hb dX2_holds_0 rfl (lv_at hl 0 rfl) ?_
  obtain ⟨g1, hf⟩ := gd_some hf
  obtain ⟨q1, hq1, hf⟩ := bi_some hf
  refine aw_gR hC hW g1 fl_X2_24 rfl hq1 dX2_holds_1 ?_
  refine lv_iload_n hx hb dX2_holds_4 rfl (lv_at hl 1 rfl) ?_
  obtain ⟨g5, hf⟩ := gd_some hf
  refine aw_iald hC hW g5 dX2_holds_5 ?_
  refine lv_iconst (v := (-1)) hx hb dX2_holds_6 (by decide) ?_
  refine lv_icmp_ne (tgt := 14) hx hb dX2_holds_7 (by decide) (fun c7 => ?_) (fun c7 => ?_)
  · have hf := ifn c7 hf
    refine lv_iconst (v := 0) hx hb dX2_holds_14 (by decide) ?_
    obtain ⟨e1, e2⟩ := so_inj hf
    exact aw_iret hC hW hr rfl (p_eq hP (congrArg (fun z => some (Value.int z)) e1) e2) (Nat.le_of_ble_eq_true rfl) (Nat.le_of_ble_eq_true rfl) dX2_holds_15
  · have hf := ifp c7 hf
    refine lv_iconst (v := 1) hx hb dX2_holds_10 (by decide) ?_
    refine lv_goto (tgt := 15) hx hb dX2_holds_11 (by decide) ?_
    obtain ⟨e1, e2⟩ := so_inj hf
    exact aw_iret hC hW hr rfl (p_eq hP (congrArg (fun z => some (Value.int z)) e1) e2) (Nat.le_of_ble_eq_true rfl) (Nat.le_of_ble_eq_true rfl) dX2_holds_15
def f_X2_holding_b28 (K4 : Nat → Int32 → Int32 → ST → Option (Int32 × ST)) (r0 : Nat) (x2 : Int32) (t0 : Int32) (t1 : Int32) (s : ST) : Option (Int32 × ST) :=
  bnd ((t1 ||| t0) : Int32) fun v29 =>
  bnd (x2 + 1 : Int32) fun v30 =>
  K4 r0 v29 v30 s
def f_X2_holding_b4 : Nat → Nat → Int32 → Int32 → ST → Option (Int32 × ST)
  | 0, _, _, _, _ => none
  | n + 1, r0, x1, x2, s =>
  gd (r0 < s.1 ∧ (kd s r0).1 = 2) <|
  if (gi s r0 10) ≤ x2 then (some (x1, s)) else ob (f_X2_holds r0 x2 s) fun v15 s15 =>
  if v15 = 0 then (f_X2_holding_b28 (f_X2_holding_b4 n) r0 x2 0 x1 s15) else f_X2_holding_b28 (f_X2_holding_b4 n) r0 x2 (1 <<< (x2 &&& 31)) x1 s15
def f_X2_holding (o : Nat) (s : ST) : Option (Int32 × ST) :=
  f_X2_holding_b4 fuel o 0 0 s
set_option maxHeartbeats 4000000 in
theorem ct_X2_holding (l : Launch) (G : GM) (a : Nat → Nat) (o : Nat) (s : ST) (rv : Int32) (sf : ST) (hf : f_X2_holding o s = some (rv, sf)) : MD l G yX2_holding (ws_ yX2_holding cX2_holding 3 (some .int)) 1 [.ref (a o)] a s (some (.int rv)) sf := by
  refine md_of (d := 1) (lv := [(0, .ref (a o))]) (Or.inl (by decide)) (Nat.le_of_ble_eq_true rfl) rfl ?_
  intro p e s0 m args below meth c ls A P hP hC hr hnm hW hl
  have hx := hC.1
  have hb := hC.2.1
  have hts := hC.2.2.2.2.1
  have B28 : ∀ (K4 : Nat → Int32 → Int32 → ST → Option (Int32 × ST)) (hK4 : ∀ (r0 : Nat) (x1 : Int32) (x2 : Int32) (s : ST), K4 r0 x1 x2 s = some (rv, sf) → ∀ (H : Heap) (locs : List Loc) (ls : Array Slot), lv_has ls 3 [(0, .ref (a r0)), (1, .int x1), (2, .int x2)] → AW G a A s s0.heap H locs → WB p l e (rmD 1) s0 m args below meth c H locs G A P 4 ls []), ∀ (r0 : Nat) (x2 : Int32) (t0 : Int32) (t1 : Int32) (s : ST), f_X2_holding_b28 K4 r0 x2 t0 t1 s = some (rv, sf) → ∀ (H : Heap) (locs : List Loc) (ls : Array Slot), lv_has ls 3 [(0, .ref (a r0)), (2, .int x2)] → AW G a A s s0.heap H locs → WB p l e (rmD 1) s0 m args below meth c H locs G A P 28 ls [.int t0, .int t1] := by
    intro K4 hK4 r0 x2 t0 t1 s hf H locs ls hl hW
    unfold f_X2_holding_b28 at hf
    refine lv_ior hx hb dX2_holding_28 ?_
    obtain ⟨v29, ev29, hf⟩ := bnd_some hf
    refine top_i ev29 ?_
    refine lv_istore_n (lv' := [(1, .int v29), (0, .ref (a r0)), (2, .int x2)]) hx hb dX2_holding_29 rfl hl (by decide) rfl (fun ls hl => ?_)
    obtain ⟨v30, ev30, hf⟩ := bnd_some hf
    refine lv_iinc (v := v30) (lv' := [(2, .int v30), (1, .int v29), (0, .ref (a r0))]) hx hb dX2_holding_30 hl (k := 2) rfl (by rw [ev30]; rfl) (by decide) rfl (fun ls hl => ?_)
    refine lv_goto (tgt := 4) hx hb dX2_holding_33 (by decide) ?_
    exact hK4 r0 v29 v30 s hf _ _ _ (lv_sub hl [2, 1, 0] rfl) hW
  have B4 : ∀ (n : Nat), ∀ (r0 : Nat) (x1 : Int32) (x2 : Int32) (s : ST), f_X2_holding_b4 n r0 x1 x2 s = some (rv, sf) → ∀ (H : Heap) (locs : List Loc) (ls : Array Slot), lv_has ls 3 [(0, .ref (a r0)), (1, .int x1), (2, .int x2)] → AW G a A s s0.heap H locs → WB p l e (rmD 1) s0 m args below meth c H locs G A P 4 ls [] := by
    intro n
    induction n with
    | zero => intro r0 x1 x2 s hf; cases hf
    | succ n ih =>
      intro r0 x1 x2 s hf H locs ls hl hW
      rw [f_X2_holding_b4] at hf
      refine lv_iload_n hx hb dX2_holding_4 rfl (lv_at hl 2 rfl) ?_
      refine lv_aload_n hx hb dX2_holding_5 rfl (lv_at hl 0 rfl) ?_
      obtain ⟨g6, hf⟩ := gd_some hf
      refine aw_gI hC hW g6 fl_X2_49 rfl dX2_holding_6 ?_
      refine lv_icmp_ge (tgt := 36) hx hb dX2_holding_9 (by decide) (fun c9 => ?_) (fun c9 => ?_)
      · have hf := ifp c9 hf
        refine lv_iload_n hx hb dX2_holding_36 rfl (lv_at hl 1 rfl) ?_
        obtain ⟨e1, e2⟩ := so_inj hf
        exact aw_iret hC hW hr rfl (p_eq hP (congrArg (fun z => some (Value.int z)) e1) e2) (Nat.le_of_ble_eq_true rfl) (Nat.le_of_ble_eq_true rfl) dX2_holding_37
      · have hf := ifn c9 hf
        refine lv_iload_n hx hb dX2_holding_12 rfl (lv_at hl 1 rfl) ?_
        refine lv_aload_n hx hb dX2_holding_13 rfl (lv_at hl 0 rfl) ?_
        refine lv_iload_n hx hb dX2_holding_14 rfl (lv_at hl 2 rfl) ?_
        obtain ⟨v15, s15, h15, hf⟩ := ob_some hf
        refine aw_dV1 (r := r0) (As := [.int x2]) (rest := [.int x1]) (ct_X2_holds l G a r0 x2 s v15 s15 h15) hC hW hl.1 vy_X2_holds (Or.inl q830) g6 rfl rfl rfl rfl (Nat.le_of_ble_eq_true rfl) ⟨Nat.le_of_ble_eq_true rfl, Nat.le_of_ble_eq_true rfl⟩ ⟨Nat.le_of_ble_eq_true rfl, Nat.le_of_ble_eq_true rfl⟩ dX2_holding_15 (fun H locs hW => ?_)
        refine lv_if_eq (tgt := 27) hx hb dX2_holding_18 (by decide) (fun c18 => ?_) (fun c18 => ?_)
        · have hf := ifp c18 hf
          refine lv_iconst (v := 0) hx hb dX2_holding_27 (by decide) ?_
          exact B28 (f_X2_holding_b4 n) ih r0 x2 0 x1 s15 hf _ _ _ (lv_sub hl [0, 2] rfl) hW
        · have hf := ifn c18 hf
          refine lv_iconst (v := 1) hx hb dX2_holding_21 (by decide) ?_
          refine lv_iload_n hx hb dX2_holding_22 rfl (lv_at hl 2 rfl) ?_
          refine lv_ishl hx hb dX2_holding_23 ?_
          refine lv_goto (tgt := 28) hx hb dX2_holding_24 (by decide) ?_
          exact B28 (f_X2_holding_b4 n) ih r0 x2 (1 <<< (x2 &&& 31)) x1 s15 hf _ _ _ (lv_sub hl [0, 2] rfl) hW
  unfold f_X2_holding at hf
  refine lv_iconst (v := 0) hx hb dX2_holding_0 (by decide) ?_
  refine lv_istore_n (lv' := [(1, .int 0), (0, .ref (a o))]) hx hb dX2_holding_1 rfl hl (by decide) rfl (fun ls hl => ?_)
  refine lv_iconst (v := 0) hx hb dX2_holding_2 (by decide) ?_
  refine lv_istore_n (lv' := [(2, .int 0), (1, .int 0), (0, .ref (a o))]) hx hb dX2_holding_3 rfl hl (by decide) rfl (fun ls hl => ?_)
  exact B4 fuel o 0 0 s hf _ _ _ (lv_sub hl [2, 1, 0] rfl) hW
def f_X17_letter_b204 (r0 : Nat) (s : ST) : Option (Int32 × ST) :=
  gd (r0 < s.1 ∧ (kd s r0).1 = 17) <|
  (gr s r0 4).bind fun q205 =>
  gd (q205 < s.1 ∧ (kd s q205).1 = 2) <|
  (gr s q205 1).bind fun q208 =>
  gd (q208 < s.1 ∧ (kd s q208).1 = 100 ∧ ¬ (((gi s r0 5) : Int32) < 0 ∨ (kd s q208).2 ≤ ((gi s r0 5) : Int32).toNatClampNeg)) <|
  some ((gi s q208 ((gi s r0 5) : Int32).toNatClampNeg), s)
def f_X17_letter_b16 (r0 : Nat) (x1 : Int32) (t0 : Int32) (s : ST) : Option (Int32 × ST) :=
  if x1 = 105 then (gd (r0 < s.1 ∧ (kd s r0).1 = 17) <|
  some ((gi s r0 5), s)) else
  if x1 = 106 then (f_X17_letter_b204 r0 s) else
  if x1 = 107 then (f_X17_letter_b204 r0 s) else
  if x1 = 108 then (f_X17_letter_b204 r0 s) else
  if x1 = 109 then (f_X17_letter_b204 r0 s) else
  if x1 = 110 then (gd (r0 < s.1 ∧ (kd s r0).1 = 17) <|
  (gr s r0 4).bind fun q197 =>
  gd (q197 < s.1 ∧ (kd s q197).1 = 2) <|
  some ((gi s q197 9), s)) else
  if x1 = 111 then (f_X17_letter_b204 r0 s) else
  if x1 = 112 then (gd (r0 < s.1 ∧ (kd s r0).1 = 17) <|
  (gr s r0 6).bind fun q111 =>
  gd (q111 < s.1 ∧ (kd s q111).1 = 1) <|
  (gr s q111 0).bind fun q114 =>
  gd (q114 < s.1 ∧ (kd s q114).1 = 105 ∧ ¬ (((gi s r0 5) : Int32) < 0 ∨ (kd s q114).2 ≤ ((gi s r0 5) : Int32).toNatClampNeg)) <|
  (gr s q114 ((gi s r0 5) : Int32).toNatClampNeg).bind fun q121 =>
  gd (q121 < s.1 ∧ (kd s q121).1 = 3) <|
  some ((gi s q121 0), s)) else
  if x1 = 113 then (if t0 = 0 then (some ((-1), s)) else gd (r0 < s.1 ∧ (kd s r0).1 = 17) <|
  (gr s r0 6).bind fun q155 =>
  gd (q155 < s.1 ∧ (kd s q155).1 = 1) <|
  (gr s q155 0).bind fun q158 =>
  (gr s r0 4).bind fun q162 =>
  gd (q162 < s.1 ∧ (kd s q162).1 = 2) <|
  gd (q158 < s.1 ∧ (kd s q158).1 = 105 ∧ ¬ (((gi s q162 7) : Int32) < 0 ∨ (kd s q158).2 ≤ ((gi s q162 7) : Int32).toNatClampNeg)) <|
  (gr s q158 ((gi s q162 7) : Int32).toNatClampNeg).bind fun q168 =>
  gd (q168 < s.1 ∧ (kd s q168).1 = 3) <|
  some ((gi s q168 0), s)) else
  if x1 = 114 then (f_X17_letter_b204 r0 s) else
  if x1 = 115 then (gd (r0 < s.1 ∧ (kd s r0).1 = 17) <|
  (gr s r0 4).bind fun q178 =>
  gd (q178 < s.1 ∧ (kd s q178).1 = 2) <|
  some ((gi s q178 8), s)) else
  if x1 = 116 then (gd (r0 < s.1 ∧ (kd s r0).1 = 17) <|
  (gr s r0 4).bind fun q186 =>
  gd (q186 < s.1 ∧ (kd s q186).1 = 2) <|
  ob (f_X2_holding q186 s) fun v189 s189 =>
  ob (f_J8_bitCount v189 s189) fun v192 s192 =>
  some (v192, s192)) else
  if x1 = 117 then (f_X17_letter_b204 r0 s) else
  if x1 = 118 then (if t0 = 0 then (some (0, s)) else gd (r0 < s.1 ∧ (kd s r0).1 = 17) <|
  (gr s r0 4).bind fun q131 =>
  gd (q131 < s.1 ∧ (kd s q131).1 = 2) <|
  (gr s q131 0).bind fun q134 =>
  (gr s r0 4).bind fun q138 =>
  gd (q138 < s.1 ∧ (kd s q138).1 = 2) <|
  gd (q134 < s.1 ∧ (kd s q134).1 = 100 ∧ ¬ (((gi s q138 7) : Int32) < 0 ∨ (kd s q134).2 ≤ ((gi s q138 7) : Int32).toNatClampNeg)) <|
  some ((gi s q134 ((gi s q138 7) : Int32).toNatClampNeg), s)) else
  if x1 = 119 then (gd (r0 < s.1 ∧ (kd s r0).1 = 17) <|
  (gr s r0 4).bind fun q98 =>
  gd (q98 < s.1 ∧ (kd s q98).1 = 2) <|
  (gr s q98 0).bind fun q101 =>
  gd (q101 < s.1 ∧ (kd s q101).1 = 100 ∧ ¬ (((gi s r0 5) : Int32) < 0 ∨ (kd s q101).2 ≤ ((gi s r0 5) : Int32).toNatClampNeg)) <|
  some ((gi s q101 ((gi s r0 5) : Int32).toNatClampNeg), s)) else
  f_X17_letter_b204 r0 s
def f_X17_letter (o : Nat) (x1 : Int32) (s : ST) : Option (Int32 × ST) :=
  gd (o < s.1 ∧ (kd s o).1 = 17) <|
  (gr s o 4).bind fun q1 =>
  gd (q1 < s.1 ∧ (kd s q1).1 = 2) <|
  if (gi s q1 7) = (-1) then (f_X17_letter_b16 o x1 0 s) else f_X17_letter_b16 o x1 1 s
set_option maxHeartbeats 4000000 in
theorem ct_X17_letter (l : Launch) (G : GM) (a : Nat → Nat) (o : Nat) (x1 : Int32) (s : ST) (rv : Int32) (sf : ST) (hf : f_X17_letter o x1 s = some (rv, sf)) : MD l G yX17_letter (ws_ yX17_letter cX17_letter 3 (some .int)) 2 [.ref (a o), .int x1] a s (some (.int rv)) sf := by
  refine md_of (d := 2) (lv := [(0, .ref (a o)), (1, .int x1)]) (Or.inl (by decide)) (Nat.le_of_ble_eq_true rfl) rfl ?_
  intro p e s0 m args below meth c ls A P hP hC hr hnm hW hl
  have hx := hC.1
  have hb := hC.2.1
  have hts := hC.2.2.2.2.1
  have B204 : ∀ (r0 : Nat) (s : ST), f_X17_letter_b204 r0 s = some (rv, sf) → ∀ (H : Heap) (locs : List Loc) (ls : Array Slot), lv_has ls 3 [(0, .ref (a r0))] → AW G a A s s0.heap H locs → WB p l e (rmD 2) s0 m args below meth c H locs G A P 204 ls [] := by
    intro r0 s hf H locs ls hl hW
    unfold f_X17_letter_b204 at hf
    refine lv_aload_n hx hb dX17_letter_204 rfl (lv_at hl 0 rfl) ?_
    obtain ⟨g205, hf⟩ := gd_some hf
    obtain ⟨q205, hq205, hf⟩ := bi_some hf
    refine aw_gR hC hW g205 fl_X17_23 rfl hq205 dX17_letter_205 ?_
    obtain ⟨g208, hf⟩ := gd_some hf
    obtain ⟨q208, hq208, hf⟩ := bi_some hf
    refine aw_gR hC hW g208 fl_X17_111 rfl hq208 dX17_letter_208 ?_
    refine lv_aload_n hx hb dX17_letter_211 rfl (lv_at hl 0 rfl) ?_
    refine aw_gI hC hW g205 fl_X17_27 rfl dX17_letter_212 ?_
    obtain ⟨g215, hf⟩ := gd_some hf
    refine aw_iald hC hW g215 dX17_letter_215 ?_
    obtain ⟨e1, e2⟩ := so_inj hf
    exact aw_iret hC hW hr rfl (p_eq hP (congrArg (fun z => some (Value.int z)) e1) e2) (Nat.le_of_ble_eq_true rfl) (Nat.le_of_ble_eq_true rfl) dX17_letter_216
  have B16 : ∀ (r0 : Nat) (x1 : Int32) (t0 : Int32) (s : ST), f_X17_letter_b16 r0 x1 t0 s = some (rv, sf) → ∀ (H : Heap) (locs : List Loc) (ls : Array Slot), lv_has ls 3 [(0, .ref (a r0)), (1, .int x1)] → AW G a A s s0.heap H locs → WB p l e (rmD 2) s0 m args below meth c H locs G A P 16 ls [.int t0] := by
    intro r0 x1 t0 s hf H locs ls hl hW
    unfold f_X17_letter_b16 at hf
    refine lv_istore_n (lv' := [(2, .int t0), (0, .ref (a r0)), (1, .int x1)]) hx hb dX17_letter_16 rfl hl (by decide) rfl (fun ls hl => ?_)
    refine lv_iload_n hx hb dX17_letter_17 rfl (lv_at hl 2 rfl) ?_
    by_cases c18 : x1 = 105
    · have hf := ifp c18 hf
      refine lv_tableIn (tgt := 92) hx hb dX17_letter_18 (by rw [c18]; decide) (by rw [c18]; decide) (by rw [c18]; rfl) (by decide) ?_
      refine lv_aload_n hx hb dX17_letter_92 rfl (lv_at hl 1 rfl) ?_
      obtain ⟨g93, hf⟩ := gd_some hf
      refine aw_gI hC hW g93 fl_X17_27 rfl dX17_letter_93 ?_
      obtain ⟨e1, e2⟩ := so_inj hf
      exact aw_iret hC hW hr rfl (p_eq hP (congrArg (fun z => some (Value.int z)) e1) e2) (Nat.le_of_ble_eq_true rfl) (Nat.le_of_ble_eq_true rfl) dX17_letter_96
    have hf := ifn c18 hf
    by_cases c18_1 : x1 = 106
    · have hf := ifp c18_1 hf
      refine lv_tableIn (tgt := 204) hx hb dX17_letter_18 (by rw [c18_1]; decide) (by rw [c18_1]; decide) (by rw [c18_1]; rfl) (by decide) ?_
      exact B204 r0 s hf _ _ _ (lv_sub hl [1] rfl) hW
    have hf := ifn c18_1 hf
    by_cases c18_2 : x1 = 107
    · have hf := ifp c18_2 hf
      refine lv_tableIn (tgt := 204) hx hb dX17_letter_18 (by rw [c18_2]; decide) (by rw [c18_2]; decide) (by rw [c18_2]; rfl) (by decide) ?_
      exact B204 r0 s hf _ _ _ (lv_sub hl [1] rfl) hW
    have hf := ifn c18_2 hf
    by_cases c18_3 : x1 = 108
    · have hf := ifp c18_3 hf
      refine lv_tableIn (tgt := 204) hx hb dX17_letter_18 (by rw [c18_3]; decide) (by rw [c18_3]; decide) (by rw [c18_3]; rfl) (by decide) ?_
      exact B204 r0 s hf _ _ _ (lv_sub hl [1] rfl) hW
    have hf := ifn c18_3 hf
    by_cases c18_4 : x1 = 109
    · have hf := ifp c18_4 hf
      refine lv_tableIn (tgt := 204) hx hb dX17_letter_18 (by rw [c18_4]; decide) (by rw [c18_4]; decide) (by rw [c18_4]; rfl) (by decide) ?_
      exact B204 r0 s hf _ _ _ (lv_sub hl [1] rfl) hW
    have hf := ifn c18_4 hf
    by_cases c18_5 : x1 = 110
    · have hf := ifp c18_5 hf
      refine lv_tableIn (tgt := 196) hx hb dX17_letter_18 (by rw [c18_5]; decide) (by rw [c18_5]; decide) (by rw [c18_5]; rfl) (by decide) ?_
      refine lv_aload_n hx hb dX17_letter_196 rfl (lv_at hl 1 rfl) ?_
      obtain ⟨g197, hf⟩ := gd_some hf
      obtain ⟨q197, hq197, hf⟩ := bi_some hf
      refine aw_gR hC hW g197 fl_X17_23 rfl hq197 dX17_letter_197 ?_
      obtain ⟨g200, hf⟩ := gd_some hf
      refine aw_gI hC hW g200 fl_X17_108 rfl dX17_letter_200 ?_
      obtain ⟨e1, e2⟩ := so_inj hf
      exact aw_iret hC hW hr rfl (p_eq hP (congrArg (fun z => some (Value.int z)) e1) e2) (Nat.le_of_ble_eq_true rfl) (Nat.le_of_ble_eq_true rfl) dX17_letter_203
    have hf := ifn c18_5 hf
    by_cases c18_6 : x1 = 111
    · have hf := ifp c18_6 hf
      refine lv_tableIn (tgt := 204) hx hb dX17_letter_18 (by rw [c18_6]; decide) (by rw [c18_6]; decide) (by rw [c18_6]; rfl) (by decide) ?_
      exact B204 r0 s hf _ _ _ (lv_sub hl [1] rfl) hW
    have hf := ifn c18_6 hf
    by_cases c18_7 : x1 = 112
    · have hf := ifp c18_7 hf
      refine lv_tableIn (tgt := 110) hx hb dX17_letter_18 (by rw [c18_7]; decide) (by rw [c18_7]; decide) (by rw [c18_7]; rfl) (by decide) ?_
      refine lv_aload_n hx hb dX17_letter_110 rfl (lv_at hl 1 rfl) ?_
      obtain ⟨g111, hf⟩ := gd_some hf
      obtain ⟨q111, hq111, hf⟩ := bi_some hf
      refine aw_gR hC hW g111 fl_X17_3 rfl hq111 dX17_letter_111 ?_
      obtain ⟨g114, hf⟩ := gd_some hf
      obtain ⟨q114, hq114, hf⟩ := bi_some hf
      refine aw_gR hC hW g114 fl_X17_88 rfl hq114 dX17_letter_114 ?_
      refine lv_aload_n hx hb dX17_letter_117 rfl (lv_at hl 1 rfl) ?_
      refine aw_gI hC hW g111 fl_X17_27 rfl dX17_letter_118 ?_
      obtain ⟨g121, hf⟩ := gd_some hf
      obtain ⟨q121, hq121, hf⟩ := bi_some hf
      refine aw_aald (j := 0) hC hW (by decide) g121 hq121 dX17_letter_121 ?_
      obtain ⟨g122, hf⟩ := gd_some hf
      refine aw_gI hC hW g122 fl_X17_92 rfl dX17_letter_122 ?_
      obtain ⟨e1, e2⟩ := so_inj hf
      exact aw_iret hC hW hr rfl (p_eq hP (congrArg (fun z => some (Value.int z)) e1) e2) (Nat.le_of_ble_eq_true rfl) (Nat.le_of_ble_eq_true rfl) dX17_letter_125
    have hf := ifn c18_7 hf
    by_cases c18_8 : x1 = 113
    · have hf := ifp c18_8 hf
      refine lv_tableIn (tgt := 150) hx hb dX17_letter_18 (by rw [c18_8]; decide) (by rw [c18_8]; decide) (by rw [c18_8]; rfl) (by decide) ?_
      refine lv_iload_n hx hb dX17_letter_150 rfl (lv_at hl 0 rfl) ?_
      refine lv_if_eq (tgt := 175) hx hb dX17_letter_151 (by decide) (fun c151 => ?_) (fun c151 => ?_)
      · have hf := ifp c151 hf
        refine lv_iconst (v := (-1)) hx hb dX17_letter_175 (by decide) ?_
        obtain ⟨e1, e2⟩ := so_inj hf
        exact aw_iret hC hW hr rfl (p_eq hP (congrArg (fun z => some (Value.int z)) e1) e2) (Nat.le_of_ble_eq_true rfl) (Nat.le_of_ble_eq_true rfl) dX17_letter_176
      · have hf := ifn c151 hf
        refine lv_aload_n hx hb dX17_letter_154 rfl (lv_at hl 1 rfl) ?_
        obtain ⟨g155, hf⟩ := gd_some hf
        obtain ⟨q155, hq155, hf⟩ := bi_some hf
        refine aw_gR hC hW g155 fl_X17_3 rfl hq155 dX17_letter_155 ?_
        obtain ⟨g158, hf⟩ := gd_some hf
        obtain ⟨q158, hq158, hf⟩ := bi_some hf
        refine aw_gR hC hW g158 fl_X17_88 rfl hq158 dX17_letter_158 ?_
        refine lv_aload_n hx hb dX17_letter_161 rfl (lv_at hl 1 rfl) ?_
        obtain ⟨q162, hq162, hf⟩ := bi_some hf
        refine aw_gR hC hW g155 fl_X17_23 rfl hq162 dX17_letter_162 ?_
        obtain ⟨g165, hf⟩ := gd_some hf
        refine aw_gI hC hW g165 fl_X17_79 rfl dX17_letter_165 ?_
        obtain ⟨g168, hf⟩ := gd_some hf
        obtain ⟨q168, hq168, hf⟩ := bi_some hf
        refine aw_aald (j := 0) hC hW (by decide) g168 hq168 dX17_letter_168 ?_
        obtain ⟨g169, hf⟩ := gd_some hf
        refine aw_gI hC hW g169 fl_X17_92 rfl dX17_letter_169 ?_
        refine lv_goto (tgt := 176) hx hb dX17_letter_172 (by decide) ?_
        obtain ⟨e1, e2⟩ := so_inj hf
        exact aw_iret hC hW hr rfl (p_eq hP (congrArg (fun z => some (Value.int z)) e1) e2) (Nat.le_of_ble_eq_true rfl) (Nat.le_of_ble_eq_true rfl) dX17_letter_176
    have hf := ifn c18_8 hf
    by_cases c18_9 : x1 = 114
    · have hf := ifp c18_9 hf
      refine lv_tableIn (tgt := 204) hx hb dX17_letter_18 (by rw [c18_9]; decide) (by rw [c18_9]; decide) (by rw [c18_9]; rfl) (by decide) ?_
      exact B204 r0 s hf _ _ _ (lv_sub hl [1] rfl) hW
    have hf := ifn c18_9 hf
    by_cases c18_10 : x1 = 115
    · have hf := ifp c18_10 hf
      refine lv_tableIn (tgt := 177) hx hb dX17_letter_18 (by rw [c18_10]; decide) (by rw [c18_10]; decide) (by rw [c18_10]; rfl) (by decide) ?_
      refine lv_aload_n hx hb dX17_letter_177 rfl (lv_at hl 1 rfl) ?_
      obtain ⟨g178, hf⟩ := gd_some hf
      obtain ⟨q178, hq178, hf⟩ := bi_some hf
      refine aw_gR hC hW g178 fl_X17_23 rfl hq178 dX17_letter_178 ?_
      obtain ⟨g181, hf⟩ := gd_some hf
      refine aw_gI hC hW g181 fl_X17_97 rfl dX17_letter_181 ?_
      obtain ⟨e1, e2⟩ := so_inj hf
      exact aw_iret hC hW hr rfl (p_eq hP (congrArg (fun z => some (Value.int z)) e1) e2) (Nat.le_of_ble_eq_true rfl) (Nat.le_of_ble_eq_true rfl) dX17_letter_184
    have hf := ifn c18_10 hf
    by_cases c18_11 : x1 = 116
    · have hf := ifp c18_11 hf
      refine lv_tableIn (tgt := 185) hx hb dX17_letter_18 (by rw [c18_11]; decide) (by rw [c18_11]; decide) (by rw [c18_11]; rfl) (by decide) ?_
      refine lv_aload_n hx hb dX17_letter_185 rfl (lv_at hl 1 rfl) ?_
      obtain ⟨g186, hf⟩ := gd_some hf
      obtain ⟨q186, hq186, hf⟩ := bi_some hf
      refine aw_gR hC hW g186 fl_X17_23 rfl hq186 dX17_letter_186 ?_
      obtain ⟨g189, hf⟩ := gd_some hf
      obtain ⟨v189, s189, h189, hf⟩ := ob_some hf
      refine aw_dV1 (r := q186) (As := []) (rest := []) (ct_X2_holding l G a q186 s v189 s189 h189) hC hW hl.1 vy_X2_holding (Or.inl q826) g189 rfl rfl rfl rfl (Nat.le_of_ble_eq_true rfl) ⟨Nat.le_of_ble_eq_true rfl, Nat.le_of_ble_eq_true rfl⟩ ⟨Nat.le_of_ble_eq_true rfl, Nat.le_of_ble_eq_true rfl⟩ dX17_letter_189 (fun H locs hW => ?_)
      obtain ⟨v192, s192, h192, hf⟩ := ob_some hf
      refine aw_dS1 (As := [.int v189]) (rest := []) (ct_J8_bitCount l G a v189 s189 v192 s192 h192) hC hW hl.1 sy_J8_bitCount (Or.inl q834) rfl rfl (Nat.le_of_ble_eq_true rfl) ⟨Nat.le_of_ble_eq_true rfl, Nat.le_of_ble_eq_true rfl⟩ ⟨Nat.le_of_ble_eq_true rfl, Nat.le_of_ble_eq_true rfl⟩ dX17_letter_192 (fun H locs hW => ?_)
      obtain ⟨e1, e2⟩ := so_inj hf
      exact aw_iret hC hW hr rfl (p_eq hP (congrArg (fun z => some (Value.int z)) e1) e2) (Nat.le_of_ble_eq_true rfl) (Nat.le_of_ble_eq_true rfl) dX17_letter_195
    have hf := ifn c18_11 hf
    by_cases c18_12 : x1 = 117
    · have hf := ifp c18_12 hf
      refine lv_tableIn (tgt := 204) hx hb dX17_letter_18 (by rw [c18_12]; decide) (by rw [c18_12]; decide) (by rw [c18_12]; rfl) (by decide) ?_
      exact B204 r0 s hf _ _ _ (lv_sub hl [1] rfl) hW
    have hf := ifn c18_12 hf
    by_cases c18_13 : x1 = 118
    · have hf := ifp c18_13 hf
      refine lv_tableIn (tgt := 126) hx hb dX17_letter_18 (by rw [c18_13]; decide) (by rw [c18_13]; decide) (by rw [c18_13]; rfl) (by decide) ?_
      refine lv_iload_n hx hb dX17_letter_126 rfl (lv_at hl 0 rfl) ?_
      refine lv_if_eq (tgt := 148) hx hb dX17_letter_127 (by decide) (fun c127 => ?_) (fun c127 => ?_)
      · have hf := ifp c127 hf
        refine lv_iconst (v := 0) hx hb dX17_letter_148 (by decide) ?_
        obtain ⟨e1, e2⟩ := so_inj hf
        exact aw_iret hC hW hr rfl (p_eq hP (congrArg (fun z => some (Value.int z)) e1) e2) (Nat.le_of_ble_eq_true rfl) (Nat.le_of_ble_eq_true rfl) dX17_letter_149
      · have hf := ifn c127 hf
        refine lv_aload_n hx hb dX17_letter_130 rfl (lv_at hl 1 rfl) ?_
        obtain ⟨g131, hf⟩ := gd_some hf
        obtain ⟨q131, hq131, hf⟩ := bi_some hf
        refine aw_gR hC hW g131 fl_X17_23 rfl hq131 dX17_letter_131 ?_
        obtain ⟨g134, hf⟩ := gd_some hf
        obtain ⟨q134, hq134, hf⟩ := bi_some hf
        refine aw_gR hC hW g134 fl_X17_84 rfl hq134 dX17_letter_134 ?_
        refine lv_aload_n hx hb dX17_letter_137 rfl (lv_at hl 1 rfl) ?_
        obtain ⟨q138, hq138, hf⟩ := bi_some hf
        refine aw_gR hC hW g131 fl_X17_23 rfl hq138 dX17_letter_138 ?_
        obtain ⟨g141, hf⟩ := gd_some hf
        refine aw_gI hC hW g141 fl_X17_79 rfl dX17_letter_141 ?_
        obtain ⟨g144, hf⟩ := gd_some hf
        refine aw_iald hC hW g144 dX17_letter_144 ?_
        refine lv_goto (tgt := 149) hx hb dX17_letter_145 (by decide) ?_
        obtain ⟨e1, e2⟩ := so_inj hf
        exact aw_iret hC hW hr rfl (p_eq hP (congrArg (fun z => some (Value.int z)) e1) e2) (Nat.le_of_ble_eq_true rfl) (Nat.le_of_ble_eq_true rfl) dX17_letter_149
    have hf := ifn c18_13 hf
    by_cases c18_14 : x1 = 119
    · have hf := ifp c18_14 hf
      refine lv_tableIn (tgt := 97) hx hb dX17_letter_18 (by rw [c18_14]; decide) (by rw [c18_14]; decide) (by rw [c18_14]; rfl) (by decide) ?_
      refine lv_aload_n hx hb dX17_letter_97 rfl (lv_at hl 1 rfl) ?_
      obtain ⟨g98, hf⟩ := gd_some hf
      obtain ⟨q98, hq98, hf⟩ := bi_some hf
      refine aw_gR hC hW g98 fl_X17_23 rfl hq98 dX17_letter_98 ?_
      obtain ⟨g101, hf⟩ := gd_some hf
      obtain ⟨q101, hq101, hf⟩ := bi_some hf
      refine aw_gR hC hW g101 fl_X17_84 rfl hq101 dX17_letter_101 ?_
      refine lv_aload_n hx hb dX17_letter_104 rfl (lv_at hl 1 rfl) ?_
      refine aw_gI hC hW g98 fl_X17_27 rfl dX17_letter_105 ?_
      obtain ⟨g108, hf⟩ := gd_some hf
      refine aw_iald hC hW g108 dX17_letter_108 ?_
      obtain ⟨e1, e2⟩ := so_inj hf
      exact aw_iret hC hW hr rfl (p_eq hP (congrArg (fun z => some (Value.int z)) e1) e2) (Nat.le_of_ble_eq_true rfl) (Nat.le_of_ble_eq_true rfl) dX17_letter_109
    have hf := ifn c18_14 hf
    have zc18 := lv_neT (a := 105) c18 (by decide)
    have zc18_1 := lv_neT (a := 106) c18_1 (by decide)
    have zc18_2 := lv_neT (a := 107) c18_2 (by decide)
    have zc18_3 := lv_neT (a := 108) c18_3 (by decide)
    have zc18_4 := lv_neT (a := 109) c18_4 (by decide)
    have zc18_5 := lv_neT (a := 110) c18_5 (by decide)
    have zc18_6 := lv_neT (a := 111) c18_6 (by decide)
    have zc18_7 := lv_neT (a := 112) c18_7 (by decide)
    have zc18_8 := lv_neT (a := 113) c18_8 (by decide)
    have zc18_9 := lv_neT (a := 114) c18_9 (by decide)
    have zc18_10 := lv_neT (a := 115) c18_10 (by decide)
    have zc18_11 := lv_neT (a := 116) c18_11 (by decide)
    have zc18_12 := lv_neT (a := 117) c18_12 (by decide)
    have zc18_13 := lv_neT (a := 118) c18_13 (by decide)
    have zc18_14 := lv_neT (a := 119) c18_14 (by decide)
    refine lv_tableOut (tgt := 204) hx hb dX17_letter_18 (by omega) (by decide) ?_
    exact B204 r0 s hf _ _ _ (lv_sub hl [1] rfl) hW
  unfold f_X17_letter at hf
  refine lv_aload_n hx hb dX17_letter_0 rfl (lv_at hl 0 rfl) ?_
  obtain ⟨g1, hf⟩ := gd_some hf
  obtain ⟨q1, hq1, hf⟩ := bi_some hf
  refine aw_gR hC hW g1 fl_X17_23 rfl hq1 dX17_letter_1 ?_
  obtain ⟨g4, hf⟩ := gd_some hf
  refine aw_gI hC hW g4 fl_X17_79 rfl dX17_letter_4 ?_
  refine lv_iconst (v := (-1)) hx hb dX17_letter_7 (by decide) ?_
  refine lv_icmp_eq (tgt := 15) hx hb dX17_letter_8 (by decide) (fun c8 => ?_) (fun c8 => ?_)
  · have hf := ifp c8 hf
    refine lv_iconst (v := 0) hx hb dX17_letter_15 (by decide) ?_
    exact B16 o x1 0 s hf _ _ _ (lv_sub hl [0, 1] rfl) hW
  · have hf := ifn c8 hf
    refine lv_iconst (v := 1) hx hb dX17_letter_11 (by decide) ?_
    refine lv_goto (tgt := 16) hx hb dX17_letter_12 (by decide) ?_
    exact B16 o x1 1 s hf _ _ _ (lv_sub hl [0, 1] rfl) hW
def f_X5_stands (o : Nat) (r1 : Nat) (x2 : Int32) (s : ST) : Option (Int32 × ST) :=
  gd (o < s.1 ∧ (kd s o).1 = 5) <|
  bnd (p_has (gi s o 0) x2) fun v5 =>
  gd (v5 = 0 ∨ v5 = 1) <|
  some (v5, s)
set_option maxHeartbeats 4000000 in
theorem ct_X5_stands (l : Launch) (G : GM) (a : Nat → Nat) (o : Nat) (r1 : Nat) (x2 : Int32) (s : ST) (rv : Int32) (sf : ST) (hf : f_X5_stands o r1 x2 s = some (rv, sf)) : MD l G yX5_stands (ws_ yX5_stands cX5_stands 3 (some .boolean)) 1 [.ref (a o), .ref (a r1), .int x2] a s (some (.int rv)) sf := by
  refine md_of (d := 1) (lv := [(0, .ref (a o)), (1, .ref (a r1)), (2, .int x2)]) (Or.inl (by decide)) (Nat.le_of_ble_eq_true rfl) rfl ?_
  intro p e s0 m args below meth c ls A P hP hC hr hnm hW hl
  have hx := hC.1
  have hb := hC.2.1
  have hts := hC.2.2.2.2.1
  unfold f_X5_stands at hf
  refine lv_aload_n hx hb dX5_stands_0 rfl (lv_at hl 0 rfl) ?_
  obtain ⟨g1, hf⟩ := gd_some hf
  refine aw_gI hC hW g1 fl_X5_7 rfl dX5_stands_1 ?_
  refine lv_iload_n hx hb dX5_stands_4 rfl (lv_at hl 2 rfl) ?_
  obtain ⟨v5, ev5, hf⟩ := bnd_some hf
  refine aw_dS1 (As := [.int (gi s o 0), .int x2]) (rest := []) (pc_X1_has l G a (gi s o 0) x2 s) hC hW hl.1 sy_X1_has (Or.inr ⟨_, q989⟩) rfl rfl (Nat.le_of_ble_eq_true rfl) ⟨Nat.le_of_ble_eq_true rfl, Nat.le_of_ble_eq_true rfl⟩ ⟨Nat.le_of_ble_eq_true rfl, Nat.le_of_ble_eq_true rfl⟩ dX5_stands_5 (fun H locs hW => ?_)
  refine top_i ev5 ?_
  obtain ⟨gz8, hf⟩ := gd_some hf
  obtain ⟨e1, e2⟩ := so_inj hf
  exact aw_iret hC hW hr (nb01 gz8) (p_eq hP (congrArg (fun z => some (Value.int z)) e1) e2) (Nat.le_of_ble_eq_true rfl) (Nat.le_of_ble_eq_true rfl) dX5_stands_8
def f_X7_stands (o : Nat) (r1 : Nat) (x2 : Int32) (s : ST) : Option (Int32 × ST) :=
  gd (o < s.1 ∧ (kd s o).1 = 7) <|
  (gr s o 0).bind fun q1 =>
  gd (q1 < s.1 ∧ (kd s q1).1 = 100 ∧ ¬ ((x2 : Int32) < 0 ∨ (kd s q1).2 ≤ (x2 : Int32).toNatClampNeg)) <|
  gd (r1 < s.1 ∧ (kd s r1).1 = 2) <|
  bnd (p_has (gi s q1 (x2 : Int32).toNatClampNeg) ((gi s r1 9) - (gi s o 1))) fun v15 =>
  gd (v15 = 0 ∨ v15 = 1) <|
  some (v15, s)
set_option maxHeartbeats 4000000 in
theorem ct_X7_stands (l : Launch) (G : GM) (a : Nat → Nat) (o : Nat) (r1 : Nat) (x2 : Int32) (s : ST) (rv : Int32) (sf : ST) (hf : f_X7_stands o r1 x2 s = some (rv, sf)) : MD l G yX7_stands (ws_ yX7_stands cX7_stands 3 (some .boolean)) 1 [.ref (a o), .ref (a r1), .int x2] a s (some (.int rv)) sf := by
  refine md_of (d := 1) (lv := [(0, .ref (a o)), (1, .ref (a r1)), (2, .int x2)]) (Or.inl (by decide)) (Nat.le_of_ble_eq_true rfl) rfl ?_
  intro p e s0 m args below meth c ls A P hP hC hr hnm hW hl
  have hx := hC.1
  have hb := hC.2.1
  have hts := hC.2.2.2.2.1
  unfold f_X7_stands at hf
  refine lv_aload_n hx hb dX7_stands_0 rfl (lv_at hl 0 rfl) ?_
  obtain ⟨g1, hf⟩ := gd_some hf
  obtain ⟨q1, hq1, hf⟩ := bi_some hf
  refine aw_gR hC hW g1 fl_X7_9 rfl hq1 dX7_stands_1 ?_
  refine lv_iload_n hx hb dX7_stands_4 rfl (lv_at hl 2 rfl) ?_
  obtain ⟨g5, hf⟩ := gd_some hf
  refine aw_iald hC hW g5 dX7_stands_5 ?_
  refine lv_aload_n hx hb dX7_stands_6 rfl (lv_at hl 1 rfl) ?_
  obtain ⟨g7, hf⟩ := gd_some hf
  refine aw_gI hC hW g7 fl_X7_15 rfl dX7_stands_7 ?_
  refine lv_aload_n hx hb dX7_stands_10 rfl (lv_at hl 0 rfl) ?_
  refine aw_gI hC hW g1 fl_X7_21 rfl dX7_stands_11 ?_
  refine lv_isub hx hb dX7_stands_14 ?_
  obtain ⟨v15, ev15, hf⟩ := bnd_some hf
  refine aw_dS1 (As := [.int (gi s q1 (x2 : Int32).toNatClampNeg), .int ((gi s r1 9) - (gi s o 1))]) (rest := []) (pc_X1_has l G a (gi s q1 (x2 : Int32).toNatClampNeg) ((gi s r1 9) - (gi s o 1)) s) hC hW hl.1 sy_X1_has (Or.inr ⟨_, q943⟩) rfl rfl (Nat.le_of_ble_eq_true rfl) ⟨Nat.le_of_ble_eq_true rfl, Nat.le_of_ble_eq_true rfl⟩ ⟨Nat.le_of_ble_eq_true rfl, Nat.le_of_ble_eq_true rfl⟩ dX7_stands_15 (fun H locs hW => ?_)
  refine top_i ev15 ?_
  obtain ⟨gz18, hf⟩ := gd_some hf
  obtain ⟨e1, e2⟩ := so_inj hf
  exact aw_iret hC hW hr (nb01 gz18) (p_eq hP (congrArg (fun z => some (Value.int z)) e1) e2) (Nat.le_of_ble_eq_true rfl) (Nat.le_of_ble_eq_true rfl) dX7_stands_18
def f_X8_isOf (o : Nat) (r1 : Nat) (x2 : Int32) (s : ST) : Option (Int32 × ST) :=
  gd (o < s.1 ∧ (kd s o).1 = 8) <|
  (gr s o 2).bind fun q1 =>
  gd (q1 < s.1 ∧ (kd s q1).1 = 1) <|
  (gr s q1 0).bind fun q4 =>
  gd (q4 < s.1 ∧ (kd s q4).1 = 105 ∧ ¬ ((x2 : Int32) < 0 ∨ (kd s q4).2 ≤ (x2 : Int32).toNatClampNeg)) <|
  (gr s q4 (x2 : Int32).toNatClampNeg).bind fun q8 =>
  gd (q8 < s.1 ∧ (kd s q8).1 = 3) <|
  if (gi s q8 0) = (gi s o 0) then (gd (r1 < s.1 ∧ (kd s r1).1 = 2) <|
  bnd (p_has (gi s r1 6) x2) fun v24 =>
  if v24 = 0 then (some (0, s)) else some (1, s)) else some (0, s)
set_option maxHeartbeats 4000000 in
theorem ct_X8_isOf (l : Launch) (G : GM) (a : Nat → Nat) (o : Nat) (r1 : Nat) (x2 : Int32) (s : ST) (rv : Int32) (sf : ST) (hf : f_X8_isOf o r1 x2 s = some (rv, sf)) : MD l G yX8_isOf (ws_ yX8_isOf cX8_isOf 3 (some .boolean)) 1 [.ref (a o), .ref (a r1), .int x2] a s (some (.int rv)) sf := by
  refine md_of (d := 1) (lv := [(0, .ref (a o)), (1, .ref (a r1)), (2, .int x2)]) (Or.inl (by decide)) (Nat.le_of_ble_eq_true rfl) rfl ?_
  intro p e s0 m args below meth c ls A P hP hC hr hnm hW hl
  have hx := hC.1
  have hb := hC.2.1
  have hts := hC.2.2.2.2.1
  unfold f_X8_isOf at hf
  refine lv_aload_n hx hb dX8_isOf_0 rfl (lv_at hl 0 rfl) ?_
  obtain ⟨g1, hf⟩ := gd_some hf
  obtain ⟨q1, hq1, hf⟩ := bi_some hf
  refine aw_gR hC hW g1 fl_X8_3 rfl hq1 dX8_isOf_1 ?_
  obtain ⟨g4, hf⟩ := gd_some hf
  obtain ⟨q4, hq4, hf⟩ := bi_some hf
  refine aw_gR hC hW g4 fl_X8_15 rfl hq4 dX8_isOf_4 ?_
  refine lv_iload_n hx hb dX8_isOf_7 rfl (lv_at hl 2 rfl) ?_
  obtain ⟨g8, hf⟩ := gd_some hf
  obtain ⟨q8, hq8, hf⟩ := bi_some hf
  refine aw_aald (j := 0) hC hW (by decide) g8 hq8 dX8_isOf_8 ?_
  obtain ⟨g9, hf⟩ := gd_some hf
  refine aw_gI hC hW g9 fl_X8_19 rfl dX8_isOf_9 ?_
  refine lv_aload_n hx hb dX8_isOf_12 rfl (lv_at hl 0 rfl) ?_
  refine aw_gI hC hW g1 fl_X8_25 rfl dX8_isOf_13 ?_
  refine lv_icmp_ne (tgt := 34) hx hb dX8_isOf_16 (by decide) (fun c16 => ?_) (fun c16 => ?_)
  · have hf := ifn c16 hf
    refine lv_iconst (v := 0) hx hb dX8_isOf_34 (by decide) ?_
    obtain ⟨e1, e2⟩ := so_inj hf
    exact aw_iret hC hW hr rfl (p_eq hP (congrArg (fun z => some (Value.int z)) e1) e2) (Nat.le_of_ble_eq_true rfl) (Nat.le_of_ble_eq_true rfl) dX8_isOf_35
  · have hf := ifp c16 hf
    refine lv_aload_n hx hb dX8_isOf_19 rfl (lv_at hl 1 rfl) ?_
    obtain ⟨g20, hf⟩ := gd_some hf
    refine aw_gI hC hW g20 fl_X8_49 rfl dX8_isOf_20 ?_
    refine lv_iload_n hx hb dX8_isOf_23 rfl (lv_at hl 2 rfl) ?_
    obtain ⟨v24, ev24, hf⟩ := bnd_some hf
    refine aw_dS1 (As := [.int (gi s r1 6), .int x2]) (rest := []) (pc_X1_has l G a (gi s r1 6) x2 s) hC hW hl.1 sy_X1_has (Or.inr ⟨_, q973⟩) rfl rfl (Nat.le_of_ble_eq_true rfl) ⟨Nat.le_of_ble_eq_true rfl, Nat.le_of_ble_eq_true rfl⟩ ⟨Nat.le_of_ble_eq_true rfl, Nat.le_of_ble_eq_true rfl⟩ dX8_isOf_24 (fun H locs hW => ?_)
    refine top_i ev24 ?_
    refine lv_if_eq (tgt := 34) hx hb dX8_isOf_27 (by decide) (fun c27 => ?_) (fun c27 => ?_)
    · have hf := ifp c27 hf
      refine lv_iconst (v := 0) hx hb dX8_isOf_34 (by decide) ?_
      obtain ⟨e1, e2⟩ := so_inj hf
      exact aw_iret hC hW hr rfl (p_eq hP (congrArg (fun z => some (Value.int z)) e1) e2) (Nat.le_of_ble_eq_true rfl) (Nat.le_of_ble_eq_true rfl) dX8_isOf_35
    · have hf := ifn c27 hf
      refine lv_iconst (v := 1) hx hb dX8_isOf_30 (by decide) ?_
      refine lv_goto (tgt := 35) hx hb dX8_isOf_31 (by decide) ?_
      obtain ⟨e1, e2⟩ := so_inj hf
      exact aw_iret hC hW hr rfl (p_eq hP (congrArg (fun z => some (Value.int z)) e1) e2) (Nat.le_of_ble_eq_true rfl) (Nat.le_of_ble_eq_true rfl) dX8_isOf_35
def f_X8_turn_b96 (K61 : Nat → Nat → Int32 → Int32 → ST → Option (Int32 × ST)) (r0 : Nat) (r1 : Nat) (x3 : Int32) (x4 : Int32) (s : ST) : Option (Int32 × ST) :=
  bnd (x4 + 1 : Int32) fun v96 =>
  K61 r0 r1 x3 v96 s
def f_X8_turn_b61 : Nat → Nat → Nat → Int32 → Int32 → ST → Option (Int32 × ST)
  | 0, _, _, _, _, _ => none
  | n + 1, r0, r1, x3, x4, s =>
  gd (r0 < s.1 ∧ (kd s r0).1 = 8) <|
  (gr s r0 2).bind fun q64 =>
  gd (q64 < s.1 ∧ (kd s q64).1 = 1) <|
  if (gi s q64 4) ≤ x4 then (some ((-1), s)) else ob (f_X8_isOf r0 r1 x4 s) fun v77 s77 =>
  if v77 = 0 then (f_X8_turn_b96 (f_X8_turn_b61 n) r0 r1 x3 x4 s77) else if x3 = 0 then (some (x4, s77)) else bnd (x3 + (-1) : Int32) fun v93 =>
  f_X8_turn_b96 (f_X8_turn_b61 n) r0 r1 v93 x4 s77
def f_X8_turn_b57 (r0 : Nat) (r1 : Nat) (t0 : Int32) (s : ST) : Option (Int32 × ST) :=
  f_X8_turn_b61 fuel r0 r1 t0 0 s
def f_X8_turn_b30 (K4 : Nat → Nat → Int32 → Int32 → ST → Option (Int32 × ST)) (r0 : Nat) (r1 : Nat) (x3 : Int32) (t0 : Int32) (t1 : Int32) (s : ST) : Option (Int32 × ST) :=
  bnd ((t1 + t0) : Int32) fun v31 =>
  bnd (x3 + 1 : Int32) fun v32 =>
  K4 r0 r1 v31 v32 s
def f_X8_turn_b4 : Nat → Nat → Nat → Int32 → Int32 → ST → Option (Int32 × ST)
  | 0, _, _, _, _, _ => none
  | n + 1, r0, r1, x2, x3, s =>
  gd (r0 < s.1 ∧ (kd s r0).1 = 8) <|
  (gr s r0 2).bind fun q6 =>
  gd (q6 < s.1 ∧ (kd s q6).1 = 1) <|
  if (gi s q6 4) ≤ x3 then (if x2 = 0 then (f_X8_turn_b57 r0 r1 0 s) else gd (r1 < s.1 ∧ (kd s r1).1 = 2) <|
  gd (¬ x2 = 0) <|
  f_X8_turn_b57 r0 r1 (((gi s r1 9) - (gi s r0 1)) - ((gi s r1 9) - (gi s r0 1)) / x2 * x2) s) else ob (f_X8_isOf r0 r1 x3 s) fun v19 s19 =>
  if v19 = 0 then (f_X8_turn_b30 (f_X8_turn_b4 n) r0 r1 x3 0 x2 s19) else f_X8_turn_b30 (f_X8_turn_b4 n) r0 r1 x3 1 x2 s19
def f_X8_turn (o : Nat) (r1 : Nat) (s : ST) : Option (Int32 × ST) :=
  f_X8_turn_b4 fuel o r1 0 0 s
set_option maxHeartbeats 4000000 in
theorem ct_X8_turn (l : Launch) (G : GM) (a : Nat → Nat) (o : Nat) (r1 : Nat) (s : ST) (rv : Int32) (sf : ST) (hf : f_X8_turn o r1 s = some (rv, sf)) : MD l G yX8_turn (ws_ yX8_turn cX8_turn 5 (some .int)) 2 [.ref (a o), .ref (a r1)] a s (some (.int rv)) sf := by
  refine md_of (d := 2) (lv := [(0, .ref (a o)), (1, .ref (a r1))]) (Or.inl (by decide)) (Nat.le_of_ble_eq_true rfl) rfl ?_
  intro p e s0 m args below meth c ls A P hP hC hr hnm hW hl
  have hx := hC.1
  have hb := hC.2.1
  have hts := hC.2.2.2.2.1
  have B96 : ∀ (K61 : Nat → Nat → Int32 → Int32 → ST → Option (Int32 × ST)) (hK61 : ∀ (r0 : Nat) (r1 : Nat) (x3 : Int32) (x4 : Int32) (s : ST), K61 r0 r1 x3 x4 s = some (rv, sf) → ∀ (H : Heap) (locs : List Loc) (ls : Array Slot), lv_has ls 5 [(0, .ref (a r0)), (1, .ref (a r1)), (3, .int x3), (4, .int x4)] → AW G a A s s0.heap H locs → WB p l e (rmD 2) s0 m args below meth c H locs G A P 61 ls []), ∀ (r0 : Nat) (r1 : Nat) (x3 : Int32) (x4 : Int32) (s : ST), f_X8_turn_b96 K61 r0 r1 x3 x4 s = some (rv, sf) → ∀ (H : Heap) (locs : List Loc) (ls : Array Slot), lv_has ls 5 [(0, .ref (a r0)), (1, .ref (a r1)), (3, .int x3), (4, .int x4)] → AW G a A s s0.heap H locs → WB p l e (rmD 2) s0 m args below meth c H locs G A P 96 ls [] := by
    intro K61 hK61 r0 r1 x3 x4 s hf H locs ls hl hW
    unfold f_X8_turn_b96 at hf
    obtain ⟨v96, ev96, hf⟩ := bnd_some hf
    refine lv_iinc (v := v96) (lv' := [(4, .int v96), (0, .ref (a r0)), (1, .ref (a r1)), (3, .int x3)]) hx hb dX8_turn_96 hl (k := 3) rfl (by rw [ev96]; rfl) (by decide) rfl (fun ls hl => ?_)
    refine lv_goto (tgt := 61) hx hb dX8_turn_99 (by decide) ?_
    exact hK61 r0 r1 x3 v96 s hf _ _ _ (lv_sub hl [1, 2, 3, 0] rfl) hW
  have B61 : ∀ (n : Nat), ∀ (r0 : Nat) (r1 : Nat) (x3 : Int32) (x4 : Int32) (s : ST), f_X8_turn_b61 n r0 r1 x3 x4 s = some (rv, sf) → ∀ (H : Heap) (locs : List Loc) (ls : Array Slot), lv_has ls 5 [(0, .ref (a r0)), (1, .ref (a r1)), (3, .int x3), (4, .int x4)] → AW G a A s s0.heap H locs → WB p l e (rmD 2) s0 m args below meth c H locs G A P 61 ls [] := by
    intro n
    induction n with
    | zero => intro r0 r1 x3 x4 s hf; cases hf
    | succ n ih =>
      intro r0 r1 x3 x4 s hf H locs ls hl hW
      rw [f_X8_turn_b61] at hf
      refine lv_iload hx hb dX8_turn_61 (lv_at hl 3 rfl) ?_
      refine lv_aload_n hx hb dX8_turn_63 rfl (lv_at hl 0 rfl) ?_
      obtain ⟨g64, hf⟩ := gd_some hf
      obtain ⟨q64, hq64, hf⟩ := bi_some hf
      refine aw_gR hC hW g64 fl_X8_3 rfl hq64 dX8_turn_64 ?_
      obtain ⟨g67, hf⟩ := gd_some hf
      refine aw_gI hC hW g67 fl_X8_34 rfl dX8_turn_67 ?_
      refine lv_icmp_ge (tgt := 102) hx hb dX8_turn_70 (by decide) (fun c70 => ?_) (fun c70 => ?_)
      · have hf := ifp c70 hf
        refine lv_iconst (v := (-1)) hx hb dX8_turn_102 (by decide) ?_
        obtain ⟨e1, e2⟩ := so_inj hf
        exact aw_iret hC hW hr rfl (p_eq hP (congrArg (fun z => some (Value.int z)) e1) e2) (Nat.le_of_ble_eq_true rfl) (Nat.le_of_ble_eq_true rfl) dX8_turn_103
      · have hf := ifn c70 hf
        refine lv_aload_n hx hb dX8_turn_73 rfl (lv_at hl 0 rfl) ?_
        refine lv_aload_n hx hb dX8_turn_74 rfl (lv_at hl 1 rfl) ?_
        refine lv_iload hx hb dX8_turn_75 (lv_at hl 3 rfl) ?_
        obtain ⟨v77, s77, h77, hf⟩ := ob_some hf
        refine aw_dV1 (r := r0) (As := [.ref (a r1), .int x4]) (rest := []) (ct_X8_isOf l G a r0 r1 x4 s v77 s77 h77) hC hW hl.1 vy_X8_isOf (Or.inl q969) g64 rfl rfl rfl rfl (Nat.le_of_ble_eq_true rfl) ⟨Nat.le_of_ble_eq_true rfl, Nat.le_of_ble_eq_true rfl⟩ ⟨Nat.le_of_ble_eq_true rfl, Nat.le_of_ble_eq_true rfl⟩ dX8_turn_77 (fun H locs hW => ?_)
        refine lv_if_ne (tgt := 86) hx hb dX8_turn_80 (by decide) (fun c80 => ?_) (fun c80 => ?_)
        · have hf := ifn c80 hf
          refine lv_iload_n hx hb dX8_turn_86 rfl (lv_at hl 2 rfl) ?_
          refine lv_if_ne (tgt := 93) hx hb dX8_turn_87 (by decide) (fun c87 => ?_) (fun c87 => ?_)
          · have hf := ifn c87 hf
            obtain ⟨v93, ev93, hf⟩ := bnd_some hf
            refine lv_iinc (v := v93) (lv' := [(3, .int v93), (0, .ref (a r0)), (1, .ref (a r1)), (4, .int x4)]) hx hb dX8_turn_93 hl (k := 2) rfl (by rw [ev93]; rfl) (by decide) rfl (fun ls hl => ?_)
            exact B96 (f_X8_turn_b61 n) ih r0 r1 v93 x4 s77 hf _ _ _ (lv_sub hl [1, 2, 0, 3] rfl) hW
          · have hf := ifp c87 hf
            refine lv_iload hx hb dX8_turn_90 (lv_at hl 3 rfl) ?_
            obtain ⟨e1, e2⟩ := so_inj hf
            exact aw_iret hC hW hr rfl (p_eq hP (congrArg (fun z => some (Value.int z)) e1) e2) (Nat.le_of_ble_eq_true rfl) (Nat.le_of_ble_eq_true rfl) dX8_turn_92
        · have hf := ifp c80 hf
          refine lv_goto (tgt := 96) hx hb dX8_turn_83 (by decide) ?_
          exact B96 (f_X8_turn_b61 n) ih r0 r1 x3 x4 s77 hf _ _ _ (lv_sub hl [0, 1, 2, 3] rfl) hW
  have B57 : ∀ (r0 : Nat) (r1 : Nat) (t0 : Int32) (s : ST), f_X8_turn_b57 r0 r1 t0 s = some (rv, sf) → ∀ (H : Heap) (locs : List Loc) (ls : Array Slot), lv_has ls 5 [(0, .ref (a r0)), (1, .ref (a r1))] → AW G a A s s0.heap H locs → WB p l e (rmD 2) s0 m args below meth c H locs G A P 57 ls [.int t0] := by
    intro r0 r1 t0 s hf H locs ls hl hW
    unfold f_X8_turn_b57 at hf
    refine lv_istore_n (lv' := [(3, .int t0), (0, .ref (a r0)), (1, .ref (a r1))]) hx hb dX8_turn_57 rfl hl (by decide) rfl (fun ls hl => ?_)
    refine lv_iconst (v := 0) hx hb dX8_turn_58 (by decide) ?_
    refine lv_istore (lv' := [(4, .int 0), (3, .int t0), (0, .ref (a r0)), (1, .ref (a r1))]) hx hb dX8_turn_59 hl (by decide) rfl (fun ls hl => ?_)
    exact B61 fuel r0 r1 t0 0 s hf _ _ _ (lv_sub hl [2, 3, 1, 0] rfl) hW
  have B30 : ∀ (K4 : Nat → Nat → Int32 → Int32 → ST → Option (Int32 × ST)) (hK4 : ∀ (r0 : Nat) (r1 : Nat) (x2 : Int32) (x3 : Int32) (s : ST), K4 r0 r1 x2 x3 s = some (rv, sf) → ∀ (H : Heap) (locs : List Loc) (ls : Array Slot), lv_has ls 5 [(0, .ref (a r0)), (1, .ref (a r1)), (2, .int x2), (3, .int x3)] → AW G a A s s0.heap H locs → WB p l e (rmD 2) s0 m args below meth c H locs G A P 4 ls []), ∀ (r0 : Nat) (r1 : Nat) (x3 : Int32) (t0 : Int32) (t1 : Int32) (s : ST), f_X8_turn_b30 K4 r0 r1 x3 t0 t1 s = some (rv, sf) → ∀ (H : Heap) (locs : List Loc) (ls : Array Slot), lv_has ls 5 [(0, .ref (a r0)), (1, .ref (a r1)), (3, .int x3)] → AW G a A s s0.heap H locs → WB p l e (rmD 2) s0 m args below meth c H locs G A P 30 ls [.int t0, .int t1] := by
    intro K4 hK4 r0 r1 x3 t0 t1 s hf H locs ls hl hW
    unfold f_X8_turn_b30 at hf
    refine lv_iadd hx hb dX8_turn_30 ?_
    obtain ⟨v31, ev31, hf⟩ := bnd_some hf
    refine top_i ev31 ?_
    refine lv_istore_n (lv' := [(2, .int v31), (0, .ref (a r0)), (1, .ref (a r1)), (3, .int x3)]) hx hb dX8_turn_31 rfl hl (by decide) rfl (fun ls hl => ?_)
    obtain ⟨v32, ev32, hf⟩ := bnd_some hf
    refine lv_iinc (v := v32) (lv' := [(3, .int v32), (2, .int v31), (0, .ref (a r0)), (1, .ref (a r1))]) hx hb dX8_turn_32 hl (k := 3) rfl (by rw [ev32]; rfl) (by decide) rfl (fun ls hl => ?_)
    refine lv_goto (tgt := 4) hx hb dX8_turn_35 (by decide) ?_
    exact hK4 r0 r1 v31 v32 s hf _ _ _ (lv_sub hl [2, 3, 1, 0] rfl) hW
  have B4 : ∀ (n : Nat), ∀ (r0 : Nat) (r1 : Nat) (x2 : Int32) (x3 : Int32) (s : ST), f_X8_turn_b4 n r0 r1 x2 x3 s = some (rv, sf) → ∀ (H : Heap) (locs : List Loc) (ls : Array Slot), lv_has ls 5 [(0, .ref (a r0)), (1, .ref (a r1)), (2, .int x2), (3, .int x3)] → AW G a A s s0.heap H locs → WB p l e (rmD 2) s0 m args below meth c H locs G A P 4 ls [] := by
    intro n
    induction n with
    | zero => intro r0 r1 x2 x3 s hf; cases hf
    | succ n ih =>
      intro r0 r1 x2 x3 s hf H locs ls hl hW
      rw [f_X8_turn_b4] at hf
      refine lv_iload_n hx hb dX8_turn_4 rfl (lv_at hl 3 rfl) ?_
      refine lv_aload_n hx hb dX8_turn_5 rfl (lv_at hl 0 rfl) ?_
      obtain ⟨g6, hf⟩ := gd_some hf
      obtain ⟨q6, hq6, hf⟩ := bi_some hf
      refine aw_gR hC hW g6 fl_X8_3 rfl hq6 dX8_turn_6 ?_
      obtain ⟨g9, hf⟩ := gd_some hf
      refine aw_gI hC hW g9 fl_X8_34 rfl dX8_turn_9 ?_
      refine lv_icmp_ge (tgt := 38) hx hb dX8_turn_12 (by decide) (fun c12 => ?_) (fun c12 => ?_)
      · have hf := ifp c12 hf
        refine lv_iload_n hx hb dX8_turn_38 rfl (lv_at hl 2 rfl) ?_
        refine lv_if_ne (tgt := 46) hx hb dX8_turn_39 (by decide) (fun c39 => ?_) (fun c39 => ?_)
        · have hf := ifn c39 hf
          refine lv_aload_n hx hb dX8_turn_46 rfl (lv_at hl 1 rfl) ?_
          obtain ⟨g47, hf⟩ := gd_some hf
          refine aw_gI hC hW g47 fl_X8_41 rfl dX8_turn_47 ?_
          refine lv_aload_n hx hb dX8_turn_50 rfl (lv_at hl 0 rfl) ?_
          refine aw_gI hC hW g6 fl_X8_46 rfl dX8_turn_51 ?_
          refine lv_isub hx hb dX8_turn_54 ?_
          refine lv_iload_n hx hb dX8_turn_55 rfl (lv_at hl 2 rfl) ?_
          obtain ⟨g56, hf⟩ := gd_some hf
          refine lv_irem hx hb dX8_turn_56 g56 ?_
          exact B57 r0 r1 (((gi s r1 9) - (gi s r0 1)) - ((gi s r1 9) - (gi s r0 1)) / x2 * x2) s hf _ _ _ (lv_sub hl [0, 1] rfl) hW
        · have hf := ifp c39 hf
          refine lv_iconst (v := 0) hx hb dX8_turn_42 (by decide) ?_
          refine lv_goto (tgt := 57) hx hb dX8_turn_43 (by decide) ?_
          exact B57 r0 r1 0 s hf _ _ _ (lv_sub hl [0, 1] rfl) hW
      · have hf := ifn c12 hf
        refine lv_iload_n hx hb dX8_turn_15 rfl (lv_at hl 2 rfl) ?_
        refine lv_aload_n hx hb dX8_turn_16 rfl (lv_at hl 0 rfl) ?_
        refine lv_aload_n hx hb dX8_turn_17 rfl (lv_at hl 1 rfl) ?_
        refine lv_iload_n hx hb dX8_turn_18 rfl (lv_at hl 3 rfl) ?_
        obtain ⟨v19, s19, h19, hf⟩ := ob_some hf
        refine aw_dV1 (r := r0) (As := [.ref (a r1), .int x3]) (rest := [.int x2]) (ct_X8_isOf l G a r0 r1 x3 s v19 s19 h19) hC hW hl.1 vy_X8_isOf (Or.inl q969) g6 rfl rfl rfl rfl (Nat.le_of_ble_eq_true rfl) ⟨Nat.le_of_ble_eq_true rfl, Nat.le_of_ble_eq_true rfl⟩ ⟨Nat.le_of_ble_eq_true rfl, Nat.le_of_ble_eq_true rfl⟩ dX8_turn_19 (fun H locs hW => ?_)
        refine lv_if_eq (tgt := 29) hx hb dX8_turn_22 (by decide) (fun c22 => ?_) (fun c22 => ?_)
        · have hf := ifp c22 hf
          refine lv_iconst (v := 0) hx hb dX8_turn_29 (by decide) ?_
          exact B30 (f_X8_turn_b4 n) ih r0 r1 x3 0 x2 s19 hf _ _ _ (lv_sub hl [0, 1, 3] rfl) hW
        · have hf := ifn c22 hf
          refine lv_iconst (v := 1) hx hb dX8_turn_25 (by decide) ?_
          refine lv_goto (tgt := 30) hx hb dX8_turn_26 (by decide) ?_
          exact B30 (f_X8_turn_b4 n) ih r0 r1 x3 1 x2 s19 hf _ _ _ (lv_sub hl [0, 1, 3] rfl) hW
  unfold f_X8_turn at hf
  refine lv_iconst (v := 0) hx hb dX8_turn_0 (by decide) ?_
  refine lv_istore_n (lv' := [(2, .int 0), (0, .ref (a o)), (1, .ref (a r1))]) hx hb dX8_turn_1 rfl hl (by decide) rfl (fun ls hl => ?_)
  refine lv_iconst (v := 0) hx hb dX8_turn_2 (by decide) ?_
  refine lv_istore_n (lv' := [(3, .int 0), (2, .int 0), (0, .ref (a o)), (1, .ref (a r1))]) hx hb dX8_turn_3 rfl hl (by decide) rfl (fun ls hl => ?_)
  exact B4 fuel o r1 0 0 s hf _ _ _ (lv_sub hl [2, 3, 1, 0] rfl) hW
def f_X1_shows (o : Nat) (x1 : Int32) (s : ST) : Option (Int32 × ST) :=
  gd (o < s.1 ∧ (kd s o).1 = 1) <|
  bnd (p_max 0 (x1 + (gi s o 8))) fun v7 =>
  gd (¬ (gi s o 7) = 0) <|
  some ((v7 - (v7 - v7 / (gi s o 7) * (gi s o 7))), s)
set_option maxHeartbeats 4000000 in
theorem ct_X1_shows (l : Launch) (G : GM) (a : Nat → Nat) (o : Nat) (x1 : Int32) (s : ST) (rv : Int32) (sf : ST) (hf : f_X1_shows o x1 s = some (rv, sf)) : MD l G yX1_shows (ws_ yX1_shows cX1_shows 3 (some .int)) 1 [.ref (a o), .int x1] a s (some (.int rv)) sf := by
  refine md_of (d := 1) (lv := [(0, .ref (a o)), (1, .int x1)]) (Or.inl (by decide)) (Nat.le_of_ble_eq_true rfl) rfl ?_
  intro p e s0 m args below meth c ls A P hP hC hr hnm hW hl
  have hx := hC.1
  have hb := hC.2.1
  have hts := hC.2.2.2.2.1
  unfold f_X1_shows at hf
  refine lv_iconst (v := 0) hx hb dX1_shows_0 (by decide) ?_
  refine lv_iload_n hx hb dX1_shows_1 rfl (lv_at hl 1 rfl) ?_
  refine lv_aload_n hx hb dX1_shows_2 rfl (lv_at hl 0 rfl) ?_
  obtain ⟨g3, hf⟩ := gd_some hf
  refine aw_gI hC hW g3 fl_X1_175 rfl dX1_shows_3 ?_
  refine lv_iadd hx hb dX1_shows_6 ?_
  obtain ⟨v7, ev7, hf⟩ := bnd_some hf
  refine aw_dS1 (As := [.int 0, .int (x1 + (gi s o 8))]) (rest := []) (pc_J0_max l G a 0 (x1 + (gi s o 8)) s) hC hW hl.1 sy_J0_max (Or.inl q907) rfl rfl (Nat.le_of_ble_eq_true rfl) ⟨Nat.le_of_ble_eq_true rfl, Nat.le_of_ble_eq_true rfl⟩ ⟨Nat.le_of_ble_eq_true rfl, Nat.le_of_ble_eq_true rfl⟩ dX1_shows_7 (fun H locs hW => ?_)
  refine top_i ev7 ?_
  refine lv_istore_n (lv' := [(2, .int v7), (0, .ref (a o)), (1, .int x1)]) hx hb dX1_shows_10 rfl hl (by decide) rfl (fun ls hl => ?_)
  refine lv_iload_n hx hb dX1_shows_11 rfl (lv_at hl 0 rfl) ?_
  refine lv_iload_n hx hb dX1_shows_12 rfl (lv_at hl 0 rfl) ?_
  refine lv_aload_n hx hb dX1_shows_13 rfl (lv_at hl 1 rfl) ?_
  refine aw_gI hC hW g3 fl_X1_29 rfl dX1_shows_14 ?_
  obtain ⟨g17, hf⟩ := gd_some hf
  refine lv_irem hx hb dX1_shows_17 g17 ?_
  refine lv_isub hx hb dX1_shows_18 ?_
  obtain ⟨e1, e2⟩ := so_inj hf
  exact aw_iret hC hW hr rfl (p_eq hP (congrArg (fun z => some (Value.int z)) e1) e2) (Nat.le_of_ble_eq_true rfl) (Nat.le_of_ble_eq_true rfl) dX1_shows_19
def f_X2_fall_b46 (K4 : Nat → Int32 → Int32 → Int32 → ST → Option (Int32 × ST)) (r0 : Nat) (x1 : Int32) (x2 : Int32) (x3 : Int32) (s : ST) : Option (Int32 × ST) :=
  bnd (x3 + 1 : Int32) fun v46 =>
  K4 r0 x1 x2 v46 s
def f_X2_fall_b4 : Nat → Nat → Int32 → Int32 → Int32 → ST → Option (Int32 × ST)
  | 0, _, _, _, _, _ => none
  | n + 1, r0, x1, x2, x3, s =>
  gd (r0 < s.1 ∧ (kd s r0).1 = 2) <|
  if (gi s r0 10) ≤ x3 then (some (x2, s)) else ob (f_X2_holds r0 x3 s) fun v14 s14 =>
  if v14 = 0 then (f_X2_fall_b46 (f_X2_fall_b4 n) r0 x1 x2 x3 s14) else gd (r0 < s14.1 ∧ (kd s14 r0).1 = 2) <|
  (gr s14 r0 2).bind fun q21 =>
  gd (q21 < s14.1 ∧ (kd s14 q21).1 = 100 ∧ ¬ ((x3 : Int32) < 0 ∨ (kd s14 q21).2 ≤ (x3 : Int32).toNatClampNeg)) <|
  if (gi s14 q21 (x3 : Int32).toNatClampNeg) = x1 then ((gr s14 r0 4).bind fun q34 =>
  gd (q34 < s14.1 ∧ (kd s14 q34).1 = 100 ∧ ¬ ((x3 : Int32) < 0 ∨ (kd s14 q34).2 ≤ (x3 : Int32).toNatClampNeg)) <|
  bnd (pI s14 q34 (x3 : Int32).toNatClampNeg (gi s14 r0 9)) fun s42 =>
  bnd (x2 + 1 : Int32) fun v43 =>
  f_X2_fall_b46 (f_X2_fall_b4 n) r0 x1 v43 x3 s42) else f_X2_fall_b46 (f_X2_fall_b4 n) r0 x1 x2 x3 s14
def f_X2_fall (o : Nat) (x1 : Int32) (s : ST) : Option (Int32 × ST) :=
  f_X2_fall_b4 fuel o x1 0 0 s
set_option maxHeartbeats 4000000 in
theorem ct_X2_fall (l : Launch) (G : GM) (a : Nat → Nat) (o : Nat) (x1 : Int32) (s : ST) (rv : Int32) (sf : ST) (hf : f_X2_fall o x1 s = some (rv, sf)) : MD l G yX2_fall (ws_ yX2_fall cX2_fall 4 (some .int)) 1 [.ref (a o), .int x1] a s (some (.int rv)) sf := by
  refine md_of (d := 1) (lv := [(0, .ref (a o)), (1, .int x1)]) (Or.inl (by decide)) (Nat.le_of_ble_eq_true rfl) rfl ?_
  intro p e s0 m args below meth c ls A P hP hC hr hnm hW hl
  have hx := hC.1
  have hb := hC.2.1
  have hts := hC.2.2.2.2.1
  have B46 : ∀ (K4 : Nat → Int32 → Int32 → Int32 → ST → Option (Int32 × ST)) (hK4 : ∀ (r0 : Nat) (x1 : Int32) (x2 : Int32) (x3 : Int32) (s : ST), K4 r0 x1 x2 x3 s = some (rv, sf) → ∀ (H : Heap) (locs : List Loc) (ls : Array Slot), lv_has ls 4 [(0, .ref (a r0)), (1, .int x1), (2, .int x2), (3, .int x3)] → AW G a A s s0.heap H locs → WB p l e (rmD 1) s0 m args below meth c H locs G A P 4 ls []), ∀ (r0 : Nat) (x1 : Int32) (x2 : Int32) (x3 : Int32) (s : ST), f_X2_fall_b46 K4 r0 x1 x2 x3 s = some (rv, sf) → ∀ (H : Heap) (locs : List Loc) (ls : Array Slot), lv_has ls 4 [(0, .ref (a r0)), (1, .int x1), (2, .int x2), (3, .int x3)] → AW G a A s s0.heap H locs → WB p l e (rmD 1) s0 m args below meth c H locs G A P 46 ls [] := by
    intro K4 hK4 r0 x1 x2 x3 s hf H locs ls hl hW
    unfold f_X2_fall_b46 at hf
    obtain ⟨v46, ev46, hf⟩ := bnd_some hf
    refine lv_iinc (v := v46) (lv' := [(3, .int v46), (0, .ref (a r0)), (1, .int x1), (2, .int x2)]) hx hb dX2_fall_46 hl (k := 3) rfl (by rw [ev46]; rfl) (by decide) rfl (fun ls hl => ?_)
    refine lv_goto (tgt := 4) hx hb dX2_fall_49 (by decide) ?_
    exact hK4 r0 x1 x2 v46 s hf _ _ _ (lv_sub hl [1, 2, 3, 0] rfl) hW
  have B4 : ∀ (n : Nat), ∀ (r0 : Nat) (x1 : Int32) (x2 : Int32) (x3 : Int32) (s : ST), f_X2_fall_b4 n r0 x1 x2 x3 s = some (rv, sf) → ∀ (H : Heap) (locs : List Loc) (ls : Array Slot), lv_has ls 4 [(0, .ref (a r0)), (1, .int x1), (2, .int x2), (3, .int x3)] → AW G a A s s0.heap H locs → WB p l e (rmD 1) s0 m args below meth c H locs G A P 4 ls [] := by
    intro n
    induction n with
    | zero => intro r0 x1 x2 x3 s hf; cases hf
    | succ n ih =>
      intro r0 x1 x2 x3 s hf H locs ls hl hW
      rw [f_X2_fall_b4] at hf
      refine lv_iload_n hx hb dX2_fall_4 rfl (lv_at hl 3 rfl) ?_
      refine lv_aload_n hx hb dX2_fall_5 rfl (lv_at hl 0 rfl) ?_
      obtain ⟨g6, hf⟩ := gd_some hf
      refine aw_gI hC hW g6 fl_X2_49 rfl dX2_fall_6 ?_
      refine lv_icmp_ge (tgt := 52) hx hb dX2_fall_9 (by decide) (fun c9 => ?_) (fun c9 => ?_)
      · have hf := ifp c9 hf
        refine lv_iload_n hx hb dX2_fall_52 rfl (lv_at hl 2 rfl) ?_
        obtain ⟨e1, e2⟩ := so_inj hf
        exact aw_iret hC hW hr rfl (p_eq hP (congrArg (fun z => some (Value.int z)) e1) e2) (Nat.le_of_ble_eq_true rfl) (Nat.le_of_ble_eq_true rfl) dX2_fall_53
      · have hf := ifn c9 hf
        refine lv_aload_n hx hb dX2_fall_12 rfl (lv_at hl 0 rfl) ?_
        refine lv_iload_n hx hb dX2_fall_13 rfl (lv_at hl 3 rfl) ?_
        obtain ⟨v14, s14, h14, hf⟩ := ob_some hf
        refine aw_dV1 (r := r0) (As := [.int x3]) (rest := []) (ct_X2_holds l G a r0 x3 s v14 s14 h14) hC hW hl.1 vy_X2_holds (Or.inl q830) g6 rfl rfl rfl rfl (Nat.le_of_ble_eq_true rfl) ⟨Nat.le_of_ble_eq_true rfl, Nat.le_of_ble_eq_true rfl⟩ ⟨Nat.le_of_ble_eq_true rfl, Nat.le_of_ble_eq_true rfl⟩ dX2_fall_14 (fun H locs hW => ?_)
        refine lv_if_eq (tgt := 46) hx hb dX2_fall_17 (by decide) (fun c17 => ?_) (fun c17 => ?_)
        · have hf := ifp c17 hf
          exact B46 (f_X2_fall_b4 n) ih r0 x1 x2 x3 s14 hf _ _ _ (lv_sub hl [0, 1, 2, 3] rfl) hW
        · have hf := ifn c17 hf
          refine lv_aload_n hx hb dX2_fall_20 rfl (lv_at hl 0 rfl) ?_
          obtain ⟨g21, hf⟩ := gd_some hf
          obtain ⟨q21, hq21, hf⟩ := bi_some hf
          refine aw_gR hC hW g21 fl_X2_18 rfl hq21 dX2_fall_21 ?_
          refine lv_iload_n hx hb dX2_fall_24 rfl (lv_at hl 3 rfl) ?_
          obtain ⟨g25, hf⟩ := gd_some hf
          refine aw_iald hC hW g25 dX2_fall_25 ?_
          refine lv_iload_n hx hb dX2_fall_26 rfl (lv_at hl 1 rfl) ?_
          refine lv_icmp_eq (tgt := 33) hx hb dX2_fall_27 (by decide) (fun c27 => ?_) (fun c27 => ?_)
          · have hf := ifp c27 hf
            refine lv_aload_n hx hb dX2_fall_33 rfl (lv_at hl 0 rfl) ?_
            obtain ⟨q34, hq34, hf⟩ := bi_some hf
            refine aw_gR hC hW g21 fl_X2_24 rfl hq34 dX2_fall_34 ?_
            refine lv_iload_n hx hb dX2_fall_37 rfl (lv_at hl 3 rfl) ?_
            refine lv_aload_n hx hb dX2_fall_38 rfl (lv_at hl 0 rfl) ?_
            refine aw_gI hC hW g21 fl_X2_46 rfl dX2_fall_39 ?_
            obtain ⟨g42, hf⟩ := gd_some hf
            obtain ⟨s42, e42, hf⟩ := bnd_some hf
            refine aw_iast e42 hC hW g42 dX2_fall_42 (fun H locs hW => ?_)
            have g21 := ko_pI e42 g21
            obtain ⟨v43, ev43, hf⟩ := bnd_some hf
            refine lv_iinc (v := v43) (lv' := [(2, .int v43), (0, .ref (a r0)), (1, .int x1), (3, .int x3)]) hx hb dX2_fall_43 hl (k := 2) rfl (by rw [ev43]; rfl) (by decide) rfl (fun ls hl => ?_)
            exact B46 (f_X2_fall_b4 n) ih r0 x1 v43 x3 s42 hf _ _ _ (lv_sub hl [1, 2, 0, 3] rfl) hW
          · have hf := ifn c27 hf
            refine lv_goto (tgt := 46) hx hb dX2_fall_30 (by decide) ?_
            exact B46 (f_X2_fall_b4 n) ih r0 x1 x2 x3 s14 hf _ _ _ (lv_sub hl [0, 1, 2, 3] rfl) hW
  unfold f_X2_fall at hf
  refine lv_iconst (v := 0) hx hb dX2_fall_0 (by decide) ?_
  refine lv_istore_n (lv' := [(2, .int 0), (0, .ref (a o)), (1, .int x1)]) hx hb dX2_fall_1 rfl hl (by decide) rfl (fun ls hl => ?_)
  refine lv_iconst (v := 0) hx hb dX2_fall_2 (by decide) ?_
  refine lv_istore_n (lv' := [(3, .int 0), (2, .int 0), (0, .ref (a o)), (1, .int x1)]) hx hb dX2_fall_3 rfl hl (by decide) rfl (fun ls hl => ?_)
  exact B4 fuel o x1 0 0 s hf _ _ _ (lv_sub hl [2, 3, 1, 0] rfl) hW
def f_X1_changeIn (o : Nat) (x1 : Int32) (x2 : Int32) (s : ST) : Option (Int32 × ST) :=
  gd (o < s.1 ∧ (kd s o).1 = 1) <|
  (gr s o 0).bind fun q1 =>
  gd (q1 < s.1 ∧ (kd s q1).1 = 105 ∧ ¬ ((x1 : Int32) < 0 ∨ (kd s q1).2 ≤ (x1 : Int32).toNatClampNeg)) <|
  (gr s q1 (x1 : Int32).toNatClampNeg).bind fun q5 =>
  gd (q5 < s.1 ∧ (kd s q5).1 = 3) <|
  if (gi s q5 2) = 0 then (some (0, s)) else (gr s q5 3).bind fun q19 =>
  gd (¬ (gi s q5 2) = 0) <|
  gd (q19 < s.1 ∧ (kd s q19).1 = 100 ∧ ¬ (((x2 - x2 / (gi s q5 2) * (gi s q5 2)) : Int32) < 0 ∨ (kd s q19).2 ≤ ((x2 - x2 / (gi s q5 2) * (gi s q5 2)) : Int32).toNatClampNeg)) <|
  some ((gi s q19 ((x2 - x2 / (gi s q5 2) * (gi s q5 2)) : Int32).toNatClampNeg), s)
set_option maxHeartbeats 4000000 in
theorem ct_X1_changeIn (l : Launch) (G : GM) (a : Nat → Nat) (o : Nat) (x1 : Int32) (x2 : Int32) (s : ST) (rv : Int32) (sf : ST) (hf : f_X1_changeIn o x1 x2 s = some (rv, sf)) : MD l G yX1_changeIn (ws_ yX1_changeIn cX1_changeIn 4 (some .int)) 0 [.ref (a o), .int x1, .int x2] a s (some (.int rv)) sf := by
  refine md_of (d := 0) (lv := [(0, .ref (a o)), (1, .int x1), (2, .int x2)]) (Or.inl (by decide)) (Nat.le_of_ble_eq_true rfl) rfl ?_
  intro p e s0 m args below meth c ls A P hP hC hr hnm hW hl
  have hx := hC.1
  have hb := hC.2.1
  have hts := hC.2.2.2.2.1
  unfold f_X1_changeIn at hf
  refine lv_aload_n hx hb dX1_changeIn_0 rfl (lv_at hl 0 rfl) ?_
  obtain ⟨g1, hf⟩ := gd_some hf
  obtain ⟨q1, hq1, hf⟩ := bi_some hf
  refine aw_gR hC hW g1 fl_X1_11 rfl hq1 dX1_changeIn_1 ?_
  refine lv_iload_n hx hb dX1_changeIn_4 rfl (lv_at hl 1 rfl) ?_
  obtain ⟨g5, hf⟩ := gd_some hf
  obtain ⟨q5, hq5, hf⟩ := bi_some hf
  refine aw_aald (j := 0) hC hW (by decide) g5 hq5 dX1_changeIn_5 ?_
  refine lv_astore_n (lv' := [(3, .ref (a q5)), (0, .ref (a o)), (1, .int x1), (2, .int x2)]) hx hb dX1_changeIn_6 rfl hl (by decide) rfl (fun ls hl => ?_)
  refine lv_aload_n hx hb dX1_changeIn_7 rfl (lv_at hl 0 rfl) ?_
  obtain ⟨g8, hf⟩ := gd_some hf
  refine aw_gI hC hW g8 fl_X1_270 rfl dX1_changeIn_8 ?_
  refine lv_if_ne (tgt := 18) hx hb dX1_changeIn_11 (by decide) (fun c11 => ?_) (fun c11 => ?_)
  · have hf := ifn c11 hf
    refine lv_aload_n hx hb dX1_changeIn_18 rfl (lv_at hl 0 rfl) ?_
    obtain ⟨q19, hq19, hf⟩ := bi_some hf
    refine aw_gR hC hW g8 fl_X1_273 rfl hq19 dX1_changeIn_19 ?_
    refine lv_iload_n hx hb dX1_changeIn_22 rfl (lv_at hl 3 rfl) ?_
    refine lv_aload_n hx hb dX1_changeIn_23 rfl (lv_at hl 0 rfl) ?_
    refine aw_gI hC hW g8 fl_X1_270 rfl dX1_changeIn_24 ?_
    obtain ⟨g27, hf⟩ := gd_some hf
    refine lv_irem hx hb dX1_changeIn_27 g27 ?_
    obtain ⟨g28, hf⟩ := gd_some hf
    refine aw_iald hC hW g28 dX1_changeIn_28 ?_
    obtain ⟨e1, e2⟩ := so_inj hf
    exact aw_iret hC hW hr rfl (p_eq hP (congrArg (fun z => some (Value.int z)) e1) e2) (Nat.le_of_ble_eq_true rfl) (Nat.le_of_ble_eq_true rfl) dX1_changeIn_29
  · have hf := ifp c11 hf
    refine lv_iconst (v := 0) hx hb dX1_changeIn_14 (by decide) ?_
    refine lv_goto (tgt := 29) hx hb dX1_changeIn_15 (by decide) ?_
    obtain ⟨e1, e2⟩ := so_inj hf
    exact aw_iret hC hW hr rfl (p_eq hP (congrArg (fun z => some (Value.int z)) e1) e2) (Nat.le_of_ble_eq_true rfl) (Nat.le_of_ble_eq_true rfl) dX1_changeIn_29
def f_X1_comeTo_b156 (K105 : Nat → Nat → Int32 → ST → Option (Unit × ST)) (r0 : Nat) (r1 : Nat) (x3 : Int32) (s : ST) : Option (Unit × ST) :=
  bnd (x3 + 1 : Int32) fun v156 =>
  K105 r0 r1 v156 s
def f_X1_comeTo_b105 : Nat → Nat → Nat → Int32 → ST → Option (Unit × ST)
  | 0, _, _, _, _ => none
  | n + 1, r0, r1, x3, s =>
  gd (r0 < s.1 ∧ (kd s r0).1 = 1) <|
  if (gi s r0 4) ≤ x3 then (gd (r1 < s.1 ∧ (kd s r1).1 = 2) <|
  bnd (pI s r1 9 ((gi s r1 9) + 1)) fun s169 =>
  some ((), s169)) else gd (r1 < s.1 ∧ (kd s r1).1 = 2) <|
  bnd (p_has (gi s r1 6) x3) fun v118 =>
  if v118 = 0 then (f_X1_comeTo_b156 (f_X1_comeTo_b105 n) r0 r1 x3 s) else (gr s r1 0).bind fun q125 =>
  (gr s r1 0).bind fun q134 =>
  gd (q134 < s.1 ∧ (kd s q134).1 = 100 ∧ ¬ ((x3 : Int32) < 0 ∨ (kd s q134).2 ≤ (x3 : Int32).toNatClampNeg)) <|
  ob (f_X1_changeIn r0 x3 (gi s r1 9) s) fun v145 s145 =>
  bnd (p_min 999 ((gi s q134 (x3 : Int32).toNatClampNeg) + v145)) fun v149 =>
  bnd (p_max 1 v149) fun v152 =>
  gd (q125 < s145.1 ∧ (kd s145 q125).1 = 100 ∧ ¬ ((x3 : Int32) < 0 ∨ (kd s145 q125).2 ≤ (x3 : Int32).toNatClampNeg)) <|
  bnd (pI s145 q125 (x3 : Int32).toNatClampNeg v152) fun s155 =>
  f_X1_comeTo_b156 (f_X1_comeTo_b105 n) r0 r1 x3 s155
def f_X1_comeTo_b103 (r0 : Nat) (r1 : Nat) (s : ST) : Option (Unit × ST) :=
  f_X1_comeTo_b105 fuel r0 r1 0 s
def f_X1_comeTo_b56 (r0 : Nat) (r1 : Nat) (s : ST) : Option (Unit × ST) :=
  gd (r1 < s.1 ∧ (kd s r1).1 = 2) <|
  (gr s r1 5).bind fun q57 =>
  gd (q57 < s.1 ∧ (kd s q57).1 = 100 ∧ ¬ ((((gi s r1 9) - (gi s r1 9) / 60 * 60) : Int32) < 0 ∨ (kd s q57).2 ≤ (((gi s r1 9) - (gi s r1 9) / 60 * 60) : Int32).toNatClampNeg)) <|
  bnd (pI s q57 (((gi s r1 9) - (gi s r1 9) / 60 * 60) : Int32).toNatClampNeg (gi s r1 7)) fun s71 =>
  if (gi s71 r1 7) = (-1) then (f_X1_comeTo_b103 r0 r1 s71) else (gr s71 r1 1).bind fun q81 =>
  bnd ((gi s71 r1 7) : Int32) fun v88 =>
  gd (q81 < s71.1 ∧ (kd s71 q81).1 = 100 ∧ ¬ ((v88 : Int32) < 0 ∨ (kd s71 q81).2 ≤ (v88 : Int32).toNatClampNeg)) <|
  gd (q81 < s71.1 ∧ (kd s71 q81).1 = 100 ∧ ¬ ((v88 : Int32) < 0 ∨ (kd s71 q81).2 ≤ (v88 : Int32).toNatClampNeg)) <|
  bnd (pI s71 q81 (v88 : Int32).toNatClampNeg ((gi s71 q81 (v88 : Int32).toNatClampNeg) + 1)) fun s92 =>
  bnd (pI s92 r1 8 ((gi s92 r1 8) + 1)) fun s100 =>
  f_X1_comeTo_b103 r0 r1 s100
def f_X1_comeTo_b46 (r0 : Nat) (r1 : Nat) (x2 : Int32) (s : ST) : Option (Unit × ST) :=
  gd (r1 < s.1 ∧ (kd s r1).1 = 2) <|
  bnd (pI s r1 7 x2) fun s48 =>
  bnd (pI s48 r1 8 0) fun s53 =>
  f_X1_comeTo_b56 r0 r1 s53
def f_X1_comeTo_b11 (r0 : Nat) (r1 : Nat) (x2 : Int32) (t0 : Int32) (w1 : Nat) (s : ST) : Option (Unit × ST) :=
  gd (w1 < s.1 ∧ (kd s w1).1 = 1) <|
  gd (t0 = 0 ∨ t0 = 1) <|
  bnd (pI s w1 21 t0) fun s11 =>
  gd (r0 < s11.1 ∧ (kd s11 r0).1 = 1) <|
  bnd (pI s11 r0 22 0) fun s16 =>
  if (gi s16 r0 21) = 0 then (f_X1_comeTo_b56 r0 r1 s16) else gd (r1 < s16.1 ∧ (kd s16 r1).1 = 2) <|
  if (gi s16 r1 7) = (-1) then (f_X1_comeTo_b46 r0 r1 x2 s16) else ob (f_X2_fall r1 (gi s16 r1 7) s16) fun v40 s40 =>
  gd (r0 < s40.1 ∧ (kd s40 r0).1 = 1) <|
  bnd (pI s40 r0 22 v40) fun s43 =>
  f_X1_comeTo_b46 r0 r1 x2 s43
def f_X1_comeTo (o : Nat) (r1 : Nat) (x2 : Int32) (s : ST) : Option (Unit × ST) :=
  if x2 = (-1) then (f_X1_comeTo_b11 o r1 x2 0 o s) else f_X1_comeTo_b11 o r1 x2 1 o s
set_option maxHeartbeats 4000000 in
theorem ct_X1_comeTo (l : Launch) (G : GM) (a : Nat → Nat) (o : Nat) (r1 : Nat) (x2 : Int32) (s : ST) (rv : Unit) (sf : ST) (hf : f_X1_comeTo o r1 x2 s = some (rv, sf)) : MD l G yX1_comeTo (ws_ yX1_comeTo cX1_comeTo 4 none) 2 [.ref (a o), .ref (a r1), .int x2] a s none sf := by
  refine md_of (d := 2) (lv := [(0, .ref (a o)), (1, .ref (a r1)), (2, .int x2)]) (Or.inl (by decide)) (Nat.le_of_ble_eq_true rfl) rfl ?_
  intro p e s0 m args below meth c ls A P hP hC hr hnm hW hl
  have hx := hC.1
  have hb := hC.2.1
  have hts := hC.2.2.2.2.1
  have B156 : ∀ (K105 : Nat → Nat → Int32 → ST → Option (Unit × ST)) (hK105 : ∀ (r0 : Nat) (r1 : Nat) (x3 : Int32) (s : ST), K105 r0 r1 x3 s = some (rv, sf) → ∀ (H : Heap) (locs : List Loc) (ls : Array Slot), lv_has ls 4 [(0, .ref (a r0)), (1, .ref (a r1)), (3, .int x3)] → AW G a A s s0.heap H locs → WB p l e (rmD 2) s0 m args below meth c H locs G A P 105 ls []), ∀ (r0 : Nat) (r1 : Nat) (x3 : Int32) (s : ST), f_X1_comeTo_b156 K105 r0 r1 x3 s = some (rv, sf) → ∀ (H : Heap) (locs : List Loc) (ls : Array Slot), lv_has ls 4 [(0, .ref (a r0)), (1, .ref (a r1)), (3, .int x3)] → AW G a A s s0.heap H locs → WB p l e (rmD 2) s0 m args below meth c H locs G A P 156 ls [] := by
    intro K105 hK105 r0 r1 x3 s hf H locs ls hl hW
    unfold f_X1_comeTo_b156 at hf
    obtain ⟨v156, ev156, hf⟩ := bnd_some hf
    refine lv_iinc (v := v156) (lv' := [(3, .int v156), (0, .ref (a r0)), (1, .ref (a r1))]) hx hb dX1_comeTo_156 hl (k := 2) rfl (by rw [ev156]; rfl) (by decide) rfl (fun ls hl => ?_)
    refine lv_goto (tgt := 105) hx hb dX1_comeTo_159 (by decide) ?_
    exact hK105 r0 r1 v156 s hf _ _ _ (lv_sub hl [1, 2, 0] rfl) hW
  have B105 : ∀ (n : Nat), ∀ (r0 : Nat) (r1 : Nat) (x3 : Int32) (s : ST), f_X1_comeTo_b105 n r0 r1 x3 s = some (rv, sf) → ∀ (H : Heap) (locs : List Loc) (ls : Array Slot), lv_has ls 4 [(0, .ref (a r0)), (1, .ref (a r1)), (3, .int x3)] → AW G a A s s0.heap H locs → WB p l e (rmD 2) s0 m args below meth c H locs G A P 105 ls [] := by
    intro n
    induction n with
    | zero => intro r0 r1 x3 s hf; cases hf
    | succ n ih =>
      intro r0 r1 x3 s hf H locs ls hl hW
      rw [f_X1_comeTo_b105] at hf
      refine lv_iload_n hx hb dX1_comeTo_105 rfl (lv_at hl 2 rfl) ?_
      refine lv_aload_n hx hb dX1_comeTo_106 rfl (lv_at hl 0 rfl) ?_
      obtain ⟨g107, hf⟩ := gd_some hf
      refine aw_gI hC hW g107 fl_X1_157 rfl dX1_comeTo_107 ?_
      refine lv_icmp_ge (tgt := 162) hx hb dX1_comeTo_110 (by decide) (fun c110 => ?_) (fun c110 => ?_)
      · have hf := ifp c110 hf
        refine lv_aload_n hx hb dX1_comeTo_162 rfl (lv_at hl 1 rfl) ?_
        refine lv_dup hx hb dX1_comeTo_163 rfl ?_
        obtain ⟨g164, hf⟩ := gd_some hf
        refine aw_gI hC hW g164 fl_X1_348 rfl dX1_comeTo_164 ?_
        refine lv_iconst (v := 1) hx hb dX1_comeTo_167 (by decide) ?_
        refine lv_iadd hx hb dX1_comeTo_168 ?_
        obtain ⟨s169, e169, hf⟩ := bnd_some hf
        refine aw_pI e169 hC hW g164 fl_X1_348 (Or.inl fn_1_9) rfl rfl rfl dX1_comeTo_169 (fun H locs hW => ?_)
        have g107 := ko_pI e169 g107
        have g164 := ko_pI e169 g164
        obtain ⟨e1, e2⟩ := so_inj hf
        exact aw_vret hC hW hr (p_eq hP rfl e2) (Nat.le_of_ble_eq_true rfl) (Nat.le_of_ble_eq_true rfl) dX1_comeTo_172
      · have hf := ifn c110 hf
        refine lv_aload_n hx hb dX1_comeTo_113 rfl (lv_at hl 1 rfl) ?_
        obtain ⟨g114, hf⟩ := gd_some hf
        refine aw_gI hC hW g114 fl_X1_168 rfl dX1_comeTo_114 ?_
        refine lv_iload_n hx hb dX1_comeTo_117 rfl (lv_at hl 2 rfl) ?_
        obtain ⟨v118, ev118, hf⟩ := bnd_some hf
        refine aw_dS1 (As := [.int (gi s r1 6), .int x3]) (rest := []) (pc_X1_has l G a (gi s r1 6) x3 s) hC hW hl.1 sy_X1_has (Or.inl q930) rfl rfl (Nat.le_of_ble_eq_true rfl) ⟨Nat.le_of_ble_eq_true rfl, Nat.le_of_ble_eq_true rfl⟩ ⟨Nat.le_of_ble_eq_true rfl, Nat.le_of_ble_eq_true rfl⟩ dX1_comeTo_118 (fun H locs hW => ?_)
        refine top_i ev118 ?_
        refine lv_if_eq (tgt := 156) hx hb dX1_comeTo_121 (by decide) (fun c121 => ?_) (fun c121 => ?_)
        · have hf := ifp c121 hf
          exact B156 (f_X1_comeTo_b105 n) ih r0 r1 x3 s hf _ _ _ (lv_sub hl [0, 1, 2] rfl) hW
        · have hf := ifn c121 hf
          refine lv_aload_n hx hb dX1_comeTo_124 rfl (lv_at hl 1 rfl) ?_
          obtain ⟨q125, hq125, hf⟩ := bi_some hf
          refine aw_gR hC hW g114 fl_X1_236 rfl hq125 dX1_comeTo_125 ?_
          refine lv_iload_n hx hb dX1_comeTo_128 rfl (lv_at hl 2 rfl) ?_
          refine lv_iconst (v := 1) hx hb dX1_comeTo_129 (by decide) ?_
          refine lv_sipush (v := 999) hx hb dX1_comeTo_130 (by decide) ?_
          refine lv_aload_n hx hb dX1_comeTo_133 rfl (lv_at hl 1 rfl) ?_
          obtain ⟨q134, hq134, hf⟩ := bi_some hf
          refine aw_gR hC hW g114 fl_X1_236 rfl hq134 dX1_comeTo_134 ?_
          refine lv_iload_n hx hb dX1_comeTo_137 rfl (lv_at hl 2 rfl) ?_
          obtain ⟨g138, hf⟩ := gd_some hf
          refine aw_iald hC hW g138 dX1_comeTo_138 ?_
          refine lv_aload_n hx hb dX1_comeTo_139 rfl (lv_at hl 0 rfl) ?_
          refine lv_iload_n hx hb dX1_comeTo_140 rfl (lv_at hl 2 rfl) ?_
          refine lv_aload_n hx hb dX1_comeTo_141 rfl (lv_at hl 1 rfl) ?_
          refine aw_gI hC hW g114 fl_X1_348 rfl dX1_comeTo_142 ?_
          obtain ⟨v145, s145, h145, hf⟩ := ob_some hf
          refine aw_dV1 (r := r0) (As := [.int x3, .int (gi s r1 9)]) (rest := [.int (gi s q134 (x3 : Int32).toNatClampNeg), .int 999, .int 1, .int x3, .ref (a q125)]) (ct_X1_changeIn l G a r0 x3 (gi s r1 9) s v145 s145 h145) hC hW hl.1 vy_X1_changeIn (Or.inl q1009) g107 rfl rfl rfl rfl (Nat.le_of_ble_eq_true rfl) ⟨Nat.le_of_ble_eq_true rfl, Nat.le_of_ble_eq_true rfl⟩ ⟨Nat.le_of_ble_eq_true rfl, Nat.le_of_ble_eq_true rfl⟩ dX1_comeTo_145 (fun H locs hW => ?_)
          refine lv_iadd hx hb dX1_comeTo_148 ?_
          obtain ⟨v149, ev149, hf⟩ := bnd_some hf
          refine aw_dS1 (As := [.int 999, .int ((gi s q134 (x3 : Int32).toNatClampNeg) + v145)]) (rest := [.int 1, .int x3, .ref (a q125)]) (pc_J0_min l G a 999 ((gi s q134 (x3 : Int32).toNatClampNeg) + v145) s145) hC hW hl.1 sy_J0_min (Or.inl q906) rfl rfl (Nat.le_of_ble_eq_true rfl) ⟨Nat.le_of_ble_eq_true rfl, Nat.le_of_ble_eq_true rfl⟩ ⟨Nat.le_of_ble_eq_true rfl, Nat.le_of_ble_eq_true rfl⟩ dX1_comeTo_149 (fun H locs hW => ?_)
          refine top_i ev149 ?_
          obtain ⟨v152, ev152, hf⟩ := bnd_some hf
          refine aw_dS1 (As := [.int 1, .int v149]) (rest := [.int x3, .ref (a q125)]) (pc_J0_max l G a 1 v149 s145) hC hW hl.1 sy_J0_max (Or.inl q907) rfl rfl (Nat.le_of_ble_eq_true rfl) ⟨Nat.le_of_ble_eq_true rfl, Nat.le_of_ble_eq_true rfl⟩ ⟨Nat.le_of_ble_eq_true rfl, Nat.le_of_ble_eq_true rfl⟩ dX1_comeTo_152 (fun H locs hW => ?_)
          refine top_i ev152 ?_
          obtain ⟨g155, hf⟩ := gd_some hf
          obtain ⟨s155, e155, hf⟩ := bnd_some hf
          refine aw_iast e155 hC hW g155 dX1_comeTo_155 (fun H locs hW => ?_)
          exact B156 (f_X1_comeTo_b105 n) ih r0 r1 x3 s155 hf _ _ _ (lv_sub hl [0, 1, 2] rfl) hW
  have B103 : ∀ (r0 : Nat) (r1 : Nat) (s : ST), f_X1_comeTo_b103 r0 r1 s = some (rv, sf) → ∀ (H : Heap) (locs : List Loc) (ls : Array Slot), lv_has ls 4 [(0, .ref (a r0)), (1, .ref (a r1))] → AW G a A s s0.heap H locs → WB p l e (rmD 2) s0 m args below meth c H locs G A P 103 ls [] := by
    intro r0 r1 s hf H locs ls hl hW
    unfold f_X1_comeTo_b103 at hf
    refine lv_iconst (v := 0) hx hb dX1_comeTo_103 (by decide) ?_
    refine lv_istore_n (lv' := [(3, .int 0), (0, .ref (a r0)), (1, .ref (a r1))]) hx hb dX1_comeTo_104 rfl hl (by decide) rfl (fun ls hl => ?_)
    exact B105 fuel r0 r1 0 s hf _ _ _ (lv_sub hl [1, 2, 0] rfl) hW
  have B56 : ∀ (r0 : Nat) (r1 : Nat) (s : ST), f_X1_comeTo_b56 r0 r1 s = some (rv, sf) → ∀ (H : Heap) (locs : List Loc) (ls : Array Slot), lv_has ls 4 [(0, .ref (a r0)), (1, .ref (a r1))] → AW G a A s s0.heap H locs → WB p l e (rmD 2) s0 m args below meth c H locs G A P 56 ls [] := by
    intro r0 r1 s hf H locs ls hl hW
    unfold f_X1_comeTo_b56 at hf
    refine lv_aload_n hx hb dX1_comeTo_56 rfl (lv_at hl 1 rfl) ?_
    obtain ⟨g57, hf⟩ := gd_some hf
    obtain ⟨q57, hq57, hf⟩ := bi_some hf
    refine aw_gR hC hW g57 fl_X1_345 rfl hq57 dX1_comeTo_57 ?_
    refine lv_aload_n hx hb dX1_comeTo_60 rfl (lv_at hl 1 rfl) ?_
    refine aw_gI hC hW g57 fl_X1_348 rfl dX1_comeTo_61 ?_
    refine lv_bipush (v := 60) hx hb dX1_comeTo_64 (by decide) ?_
    refine lv_irem hx hb dX1_comeTo_66 (by decide) ?_
    refine lv_aload_n hx hb dX1_comeTo_67 rfl (lv_at hl 1 rfl) ?_
    refine aw_gI hC hW g57 fl_X1_315 rfl dX1_comeTo_68 ?_
    obtain ⟨g71, hf⟩ := gd_some hf
    obtain ⟨s71, e71, hf⟩ := bnd_some hf
    refine aw_iast e71 hC hW g71 dX1_comeTo_71 (fun H locs hW => ?_)
    have g57 := ko_pI e71 g57
    refine lv_aload_n hx hb dX1_comeTo_72 rfl (lv_at hl 1 rfl) ?_
    refine aw_gI hC hW g57 fl_X1_315 rfl dX1_comeTo_73 ?_
    refine lv_iconst (v := (-1)) hx hb dX1_comeTo_76 (by decide) ?_
    refine lv_icmp_eq (tgt := 103) hx hb dX1_comeTo_77 (by decide) (fun c77 => ?_) (fun c77 => ?_)
    · have hf := ifp c77 hf
      exact B103 r0 r1 s71 hf _ _ _ (lv_sub hl [0, 1] rfl) hW
    · have hf := ifn c77 hf
      refine lv_aload_n hx hb dX1_comeTo_80 rfl (lv_at hl 1 rfl) ?_
      obtain ⟨q81, hq81, hf⟩ := bi_some hf
      refine aw_gR hC hW g57 fl_X1_239 rfl hq81 dX1_comeTo_81 ?_
      refine lv_aload_n hx hb dX1_comeTo_84 rfl (lv_at hl 1 rfl) ?_
      refine aw_gI hC hW g57 fl_X1_315 rfl dX1_comeTo_85 ?_
      obtain ⟨v88, ev88, hf⟩ := bnd_some hf
      refine top_i ev88 ?_
      refine lv_dup2_11 hx hb dX1_comeTo_88 rfl rfl ?_
      obtain ⟨g89, hf⟩ := gd_some hf
      refine aw_iald hC hW g89 dX1_comeTo_89 ?_
      refine lv_iconst (v := 1) hx hb dX1_comeTo_90 (by decide) ?_
      refine lv_iadd hx hb dX1_comeTo_91 ?_
      obtain ⟨g92, hf⟩ := gd_some hf
      obtain ⟨s92, e92, hf⟩ := bnd_some hf
      refine aw_iast e92 hC hW g92 dX1_comeTo_92 (fun H locs hW => ?_)
      have g57 := ko_pI e92 g57
      refine lv_aload_n hx hb dX1_comeTo_93 rfl (lv_at hl 1 rfl) ?_
      refine lv_dup hx hb dX1_comeTo_94 rfl ?_
      refine aw_gI hC hW g57 fl_X1_342 rfl dX1_comeTo_95 ?_
      refine lv_iconst (v := 1) hx hb dX1_comeTo_98 (by decide) ?_
      refine lv_iadd hx hb dX1_comeTo_99 ?_
      obtain ⟨s100, e100, hf⟩ := bnd_some hf
      refine aw_pI e100 hC hW g57 fl_X1_342 (Or.inl fn_1_8) rfl rfl rfl dX1_comeTo_100 (fun H locs hW => ?_)
      have g57 := ko_pI e100 g57
      exact B103 r0 r1 s100 hf _ _ _ (lv_sub hl [0, 1] rfl) hW
  have B46 : ∀ (r0 : Nat) (r1 : Nat) (x2 : Int32) (s : ST), f_X1_comeTo_b46 r0 r1 x2 s = some (rv, sf) → ∀ (H : Heap) (locs : List Loc) (ls : Array Slot), lv_has ls 4 [(0, .ref (a r0)), (1, .ref (a r1)), (2, .int x2)] → AW G a A s s0.heap H locs → WB p l e (rmD 2) s0 m args below meth c H locs G A P 46 ls [] := by
    intro r0 r1 x2 s hf H locs ls hl hW
    unfold f_X1_comeTo_b46 at hf
    refine lv_aload_n hx hb dX1_comeTo_46 rfl (lv_at hl 1 rfl) ?_
    refine lv_iload_n hx hb dX1_comeTo_47 rfl (lv_at hl 2 rfl) ?_
    obtain ⟨g48, hf⟩ := gd_some hf
    obtain ⟨s48, e48, hf⟩ := bnd_some hf
    refine aw_pI e48 hC hW g48 fl_X1_315 (Or.inl fn_1_7) rfl rfl rfl dX1_comeTo_48 (fun H locs hW => ?_)
    have g48 := ko_pI e48 g48
    refine lv_aload_n hx hb dX1_comeTo_51 rfl (lv_at hl 1 rfl) ?_
    refine lv_iconst (v := 0) hx hb dX1_comeTo_52 (by decide) ?_
    obtain ⟨s53, e53, hf⟩ := bnd_some hf
    refine aw_pI e53 hC hW g48 fl_X1_342 (Or.inl fn_1_8) rfl rfl rfl dX1_comeTo_53 (fun H locs hW => ?_)
    have g48 := ko_pI e53 g48
    exact B56 r0 r1 s53 hf _ _ _ (lv_sub hl [0, 1] rfl) hW
  have B11 : ∀ (r0 : Nat) (r1 : Nat) (x2 : Int32) (t0 : Int32) (w1 : Nat) (s : ST), f_X1_comeTo_b11 r0 r1 x2 t0 w1 s = some (rv, sf) → ∀ (H : Heap) (locs : List Loc) (ls : Array Slot), lv_has ls 4 [(0, .ref (a r0)), (1, .ref (a r1)), (2, .int x2)] → AW G a A s s0.heap H locs → WB p l e (rmD 2) s0 m args below meth c H locs G A P 11 ls [.int t0, .ref (a w1)] := by
    intro r0 r1 x2 t0 w1 s hf H locs ls hl hW
    unfold f_X1_comeTo_b11 at hf
    obtain ⟨g11, hf⟩ := gd_some hf
    obtain ⟨gz11, hf⟩ := gd_some hf
    obtain ⟨s11, e11, hf⟩ := bnd_some hf
    refine aw_pI e11 hC hW g11 fl_X1_332 (Or.inl fn_0_21) rfl (nb01 gz11) (fb01 gz11) dX1_comeTo_11 (fun H locs hW => ?_)
    have g11 := ko_pI e11 g11
    refine lv_aload_n hx hb dX1_comeTo_14 rfl (lv_at hl 0 rfl) ?_
    refine lv_iconst (v := 0) hx hb dX1_comeTo_15 (by decide) ?_
    obtain ⟨g16, hf⟩ := gd_some hf
    obtain ⟨s16, e16, hf⟩ := bnd_some hf
    refine aw_pI e16 hC hW g16 fl_X1_336 (Or.inl fn_0_22) rfl rfl rfl dX1_comeTo_16 (fun H locs hW => ?_)
    have g11 := ko_pI e16 g11
    have g16 := ko_pI e16 g16
    refine lv_aload_n hx hb dX1_comeTo_19 rfl (lv_at hl 0 rfl) ?_
    refine aw_gI hC hW g16 fl_X1_332 rfl dX1_comeTo_20 ?_
    refine lv_if_eq (tgt := 56) hx hb dX1_comeTo_23 (by decide) (fun c23 => ?_) (fun c23 => ?_)
    · have hf := ifp c23 hf
      exact B56 r0 r1 s16 hf _ _ _ (lv_sub hl [0, 1] rfl) hW
    · have hf := ifn c23 hf
      refine lv_aload_n hx hb dX1_comeTo_26 rfl (lv_at hl 1 rfl) ?_
      obtain ⟨g27, hf⟩ := gd_some hf
      refine aw_gI hC hW g27 fl_X1_315 rfl dX1_comeTo_27 ?_
      refine lv_iconst (v := (-1)) hx hb dX1_comeTo_30 (by decide) ?_
      refine lv_icmp_eq (tgt := 46) hx hb dX1_comeTo_31 (by decide) (fun c31 => ?_) (fun c31 => ?_)
      · have hf := ifp c31 hf
        exact B46 r0 r1 x2 s16 hf _ _ _ (lv_sub hl [0, 1, 2] rfl) hW
      · have hf := ifn c31 hf
        refine lv_aload_n hx hb dX1_comeTo_34 rfl (lv_at hl 0 rfl) ?_
        refine lv_aload_n hx hb dX1_comeTo_35 rfl (lv_at hl 1 rfl) ?_
        refine lv_aload_n hx hb dX1_comeTo_36 rfl (lv_at hl 1 rfl) ?_
        refine aw_gI hC hW g27 fl_X1_315 rfl dX1_comeTo_37 ?_
        obtain ⟨v40, s40, h40, hf⟩ := ob_some hf
        refine aw_dV1 (r := r1) (As := [.int (gi s16 r1 7)]) (rest := [.ref (a r0)]) (ct_X2_fall l G a r1 (gi s16 r1 7) s16 v40 s40 h40) hC hW hl.1 vy_X2_fall (Or.inl q1005) g27 rfl rfl rfl rfl (Nat.le_of_ble_eq_true rfl) ⟨Nat.le_of_ble_eq_true rfl, Nat.le_of_ble_eq_true rfl⟩ ⟨Nat.le_of_ble_eq_true rfl, Nat.le_of_ble_eq_true rfl⟩ dX1_comeTo_40 (fun H locs hW => ?_)
        obtain ⟨g43, hf⟩ := gd_some hf
        obtain ⟨s43, e43, hf⟩ := bnd_some hf
        refine aw_pI e43 hC hW g43 fl_X1_336 (Or.inl fn_0_22) rfl rfl rfl dX1_comeTo_43 (fun H locs hW => ?_)
        have g43 := ko_pI e43 g43
        exact B46 r0 r1 x2 s43 hf _ _ _ (lv_sub hl [0, 1, 2] rfl) hW
  unfold f_X1_comeTo at hf
  refine lv_aload_n hx hb dX1_comeTo_0 rfl (lv_at hl 0 rfl) ?_
  refine lv_iload_n hx hb dX1_comeTo_1 rfl (lv_at hl 2 rfl) ?_
  refine lv_iconst (v := (-1)) hx hb dX1_comeTo_2 (by decide) ?_
  refine lv_icmp_eq (tgt := 10) hx hb dX1_comeTo_3 (by decide) (fun c3 => ?_) (fun c3 => ?_)
  · have hf := ifp c3 hf
    refine lv_iconst (v := 0) hx hb dX1_comeTo_10 (by decide) ?_
    exact B11 o r1 x2 0 o s hf _ _ _ (lv_sub hl [0, 1, 2] rfl) hW
  · have hf := ifn c3 hf
    refine lv_iconst (v := 1) hx hb dX1_comeTo_6 (by decide) ?_
    refine lv_goto (tgt := 11) hx hb dX1_comeTo_7 (by decide) ?_
    exact B11 o r1 x2 1 o s hf _ _ _ (lv_sub hl [0, 1, 2] rfl) hW
def f_X1_tell (o : Nat) (y1 : Int64) (s : ST) : Option (Unit × ST) :=
  gd (o < s.1 ∧ (kd s o).1 = 1) <|
  (gr s o 11).bind fun q1 =>
  gd (q1 < s.1 ∧ (kd s q1).1 = 104 ∧ ¬ (((gi s o 12) : Int32) < 0 ∨ (kd s q1).2 ≤ ((gi s o 12) : Int32).toNatClampNeg)) <|
  bnd (pL s q1 ((gi s o 12) : Int32).toNatClampNeg y1) fun s9 =>
  bnd (pI s9 o 12 ((gi s9 o 12) + 1)) fun s17 =>
  some ((), s17)
set_option maxHeartbeats 4000000 in
theorem ct_X1_tell (l : Launch) (G : GM) (a : Nat → Nat) (o : Nat) (y1 : Int64) (s : ST) (rv : Unit) (sf : ST) (hf : f_X1_tell o y1 s = some (rv, sf)) : MD l G yX1_tell (ws_ yX1_tell cX1_tell 3 none) 0 [.ref (a o), .long y1] a s none sf := by
  refine md_of (d := 0) (lv := [(0, .ref (a o)), (1, .long y1)]) (Or.inl (by decide)) (Nat.le_of_ble_eq_true rfl) rfl ?_
  intro p e s0 m args below meth c ls A P hP hC hr hnm hW hl
  have hx := hC.1
  have hb := hC.2.1
  have hts := hC.2.2.2.2.1
  unfold f_X1_tell at hf
  refine lv_aload_n hx hb dX1_tell_0 rfl (lv_at hl 0 rfl) ?_
  obtain ⟨g1, hf⟩ := gd_some hf
  obtain ⟨q1, hq1, hf⟩ := bi_some hf
  refine aw_gR hC hW g1 fl_X1_37 rfl hq1 dX1_tell_1 ?_
  refine lv_aload_n hx hb dX1_tell_4 rfl (lv_at hl 0 rfl) ?_
  refine aw_gI hC hW g1 fl_X1_154 rfl dX1_tell_5 ?_
  refine lv_lload_n hx hb dX1_tell_8 rfl (lv_at hl 1 rfl) ?_
  obtain ⟨g9, hf⟩ := gd_some hf
  obtain ⟨s9, e9, hf⟩ := bnd_some hf
  refine aw_last e9 hC hW g9 dX1_tell_9 (fun H locs hW => ?_)
  have g1 := ko_pL e9 g1
  refine lv_aload_n hx hb dX1_tell_10 rfl (lv_at hl 0 rfl) ?_
  refine lv_dup hx hb dX1_tell_11 rfl ?_
  refine aw_gI hC hW g1 fl_X1_154 rfl dX1_tell_12 ?_
  refine lv_iconst (v := 1) hx hb dX1_tell_15 (by decide) ?_
  refine lv_iadd hx hb dX1_tell_16 ?_
  obtain ⟨s17, e17, hf⟩ := bnd_some hf
  refine aw_pI e17 hC hW g1 fl_X1_154 (Or.inl fn_0_12) rfl rfl rfl dX1_tell_17 (fun H locs hW => ?_)
  have g1 := ko_pI e17 g1
  obtain ⟨e1, e2⟩ := so_inj hf
  exact aw_vret hC hW hr (p_eq hP rfl e2) (Nat.le_of_ble_eq_true rfl) (Nat.le_of_ble_eq_true rfl) dX1_tell_20
def f_X1_laws (o : Nat) (x1 : Int32) (x2 : Int32) (s : ST) : Option (Int32 × ST) :=
  gd (o < s.1 ∧ (kd s o).1 = 1) <|
  (gr s o 1).bind fun q4 =>
  gd (q4 < s.1 ∧ (kd s q4).1 = 2) <|
  bnd (p_in ((x1 : Int32).toInt64) 0 ((((gi s q4 10) - 1) : Int32).toInt64)) fun v13 =>
  if v13 = 0 then (none) else if x2 = 0 then ((gr s o 1).bind fun q61 =>
  gd (q61 < s.1 ∧ (kd s q61).1 = 2) <|
  (gr s q61 2).bind fun q64 =>
  gd (q64 < s.1 ∧ (kd s q64).1 = 100 ∧ ¬ ((x1 : Int32) < 0 ∨ (kd s q64).2 ≤ (x1 : Int32).toNatClampNeg)) <|
  some ((gi s q64 (x1 : Int32).toNatClampNeg), s)) else
  if x2 = 1 then ((gr s o 1).bind fun q71 =>
  gd (q71 < s.1 ∧ (kd s q71).1 = 2) <|
  (gr s q71 3).bind fun q74 =>
  gd (q74 < s.1 ∧ (kd s q74).1 = 100 ∧ ¬ ((x1 : Int32) < 0 ∨ (kd s q74).2 ≤ (x1 : Int32).toNatClampNeg)) <|
  some ((gi s q74 (x1 : Int32).toNatClampNeg), s)) else
  if x2 = 2 then ((gr s o 1).bind fun q81 =>
  gd (q81 < s.1 ∧ (kd s q81).1 = 2) <|
  ob (f_X2_holds q81 x1 s) fun v85 s85 =>
  if v85 = 0 then (some (0, s85)) else some (1, s85)) else
  if x2 = 3 then ((gr s o 1).bind fun q98 =>
  gd (q98 < s.1 ∧ (kd s q98).1 = 2) <|
  (gr s q98 4).bind fun q101 =>
  gd (q101 < s.1 ∧ (kd s q101).1 = 100 ∧ ¬ ((x1 : Int32) < 0 ∨ (kd s q101).2 ≤ (x1 : Int32).toNatClampNeg)) <|
  some ((gi s q101 (x1 : Int32).toNatClampNeg), s)) else
  none
set_option maxHeartbeats 4000000 in
theorem ct_X1_laws (l : Launch) (G : GM) (a : Nat → Nat) (o : Nat) (x1 : Int32) (x2 : Int32) (s : ST) (rv : Int32) (sf : ST) (hf : f_X1_laws o x1 x2 s = some (rv, sf)) : MD l G yX1_laws (ws_ yX1_laws cX1_laws 3 (some .int)) 1 [.ref (a o), .int x1, .int x2] a s (some (.int rv)) sf := by
  refine md_of (d := 1) (lv := [(0, .ref (a o)), (1, .int x1), (2, .int x2)]) (Or.inl (by decide)) (Nat.le_of_ble_eq_true rfl) rfl ?_
  intro p e s0 m args below meth c ls A P hP hC hr hnm hW hl
  have hx := hC.1
  have hb := hC.2.1
  have hts := hC.2.2.2.2.1
  unfold f_X1_laws at hf
  refine lv_iload_n hx hb dX1_laws_0 rfl (lv_at hl 1 rfl) ?_
  refine lv_i2l (v := (x1 : Int32).toInt64) hx hb dX1_laws_1 rfl ?_
  refine lv_lconst (v := 0) hx hb dX1_laws_2 (by decide) ?_
  refine lv_aload_n hx hb dX1_laws_3 rfl (lv_at hl 0 rfl) ?_
  obtain ⟨g4, hf⟩ := gd_some hf
  obtain ⟨q4, hq4, hf⟩ := bi_some hf
  refine aw_gR hC hW g4 fl_X1_18 rfl hq4 dX1_laws_4 ?_
  obtain ⟨g7, hf⟩ := gd_some hf
  refine aw_gI hC hW g7 fl_X1_388 rfl dX1_laws_7 ?_
  refine lv_iconst (v := 1) hx hb dX1_laws_10 (by decide) ?_
  refine lv_isub hx hb dX1_laws_11 ?_
  refine lv_i2l (v := (((gi s q4 10) - 1) : Int32).toInt64) hx hb dX1_laws_12 rfl ?_
  obtain ⟨v13, ev13, hf⟩ := bnd_some hf
  refine aw_dS1 (As := [.long ((x1 : Int32).toInt64), .long 0, .long ((((gi s q4 10) - 1) : Int32).toInt64)]) (rest := []) (pc_X1_in l G a ((x1 : Int32).toInt64) 0 ((((gi s q4 10) - 1) : Int32).toInt64) s) hC hW hl.1 sy_X1_in (Or.inl q514) rfl rfl (Nat.le_of_ble_eq_true rfl) ⟨Nat.le_of_ble_eq_true rfl, Nat.le_of_ble_eq_true rfl⟩ ⟨Nat.le_of_ble_eq_true rfl, Nat.le_of_ble_eq_true rfl⟩ dX1_laws_13 (fun H locs hW => ?_)
  refine top_i ev13 ?_
  refine lv_if_ne (tgt := 27) hx hb dX1_laws_16 (by decide) (fun c16 => ?_) (fun c16 => ?_)
  · have hf := ifn c16 hf
    refine lv_iload_n hx hb dX1_laws_27 rfl (lv_at hl 2 rfl) ?_
    by_cases c28 : x2 = 0
    · have hf := ifp c28 hf
      refine lv_tableIn (tgt := 60) hx hb dX1_laws_28 (by rw [c28]; decide) (by rw [c28]; decide) (by rw [c28]; rfl) (by decide) ?_
      refine lv_aload_n hx hb dX1_laws_60 rfl (lv_at hl 0 rfl) ?_
      obtain ⟨q61, hq61, hf⟩ := bi_some hf
      refine aw_gR hC hW g4 fl_X1_18 rfl hq61 dX1_laws_61 ?_
      obtain ⟨g64, hf⟩ := gd_some hf
      obtain ⟨q64, hq64, hf⟩ := bi_some hf
      refine aw_gR hC hW g64 fl_X1_391 rfl hq64 dX1_laws_64 ?_
      refine lv_iload_n hx hb dX1_laws_67 rfl (lv_at hl 1 rfl) ?_
      obtain ⟨g68, hf⟩ := gd_some hf
      refine aw_iald hC hW g68 dX1_laws_68 ?_
      obtain ⟨e1, e2⟩ := so_inj hf
      exact aw_iret hC hW hr rfl (p_eq hP (congrArg (fun z => some (Value.int z)) e1) e2) (Nat.le_of_ble_eq_true rfl) (Nat.le_of_ble_eq_true rfl) dX1_laws_69
    have hf := ifn c28 hf
    by_cases c28_1 : x2 = 1
    · have hf := ifp c28_1 hf
      refine lv_tableIn (tgt := 70) hx hb dX1_laws_28 (by rw [c28_1]; decide) (by rw [c28_1]; decide) (by rw [c28_1]; rfl) (by decide) ?_
      refine lv_aload_n hx hb dX1_laws_70 rfl (lv_at hl 0 rfl) ?_
      obtain ⟨q71, hq71, hf⟩ := bi_some hf
      refine aw_gR hC hW g4 fl_X1_18 rfl hq71 dX1_laws_71 ?_
      obtain ⟨g74, hf⟩ := gd_some hf
      obtain ⟨q74, hq74, hf⟩ := bi_some hf
      refine aw_gR hC hW g74 fl_X1_394 rfl hq74 dX1_laws_74 ?_
      refine lv_iload_n hx hb dX1_laws_77 rfl (lv_at hl 1 rfl) ?_
      obtain ⟨g78, hf⟩ := gd_some hf
      refine aw_iald hC hW g78 dX1_laws_78 ?_
      obtain ⟨e1, e2⟩ := so_inj hf
      exact aw_iret hC hW hr rfl (p_eq hP (congrArg (fun z => some (Value.int z)) e1) e2) (Nat.le_of_ble_eq_true rfl) (Nat.le_of_ble_eq_true rfl) dX1_laws_79
    have hf := ifn c28_1 hf
    by_cases c28_2 : x2 = 2
    · have hf := ifp c28_2 hf
      refine lv_tableIn (tgt := 80) hx hb dX1_laws_28 (by rw [c28_2]; decide) (by rw [c28_2]; decide) (by rw [c28_2]; rfl) (by decide) ?_
      refine lv_aload_n hx hb dX1_laws_80 rfl (lv_at hl 0 rfl) ?_
      obtain ⟨q81, hq81, hf⟩ := bi_some hf
      refine aw_gR hC hW g4 fl_X1_18 rfl hq81 dX1_laws_81 ?_
      refine lv_iload_n hx hb dX1_laws_84 rfl (lv_at hl 1 rfl) ?_
      obtain ⟨g85, hf⟩ := gd_some hf
      obtain ⟨v85, s85, h85, hf⟩ := ob_some hf
      refine aw_dV1 (r := q81) (As := [.int x1]) (rest := []) (ct_X2_holds l G a q81 x1 s v85 s85 h85) hC hW hl.1 vy_X2_holds (Or.inl q1341) g85 rfl rfl rfl rfl (Nat.le_of_ble_eq_true rfl) ⟨Nat.le_of_ble_eq_true rfl, Nat.le_of_ble_eq_true rfl⟩ ⟨Nat.le_of_ble_eq_true rfl, Nat.le_of_ble_eq_true rfl⟩ dX1_laws_85 (fun H locs hW => ?_)
      refine lv_if_eq (tgt := 95) hx hb dX1_laws_88 (by decide) (fun c88 => ?_) (fun c88 => ?_)
      · have hf := ifp c88 hf
        refine lv_iconst (v := 0) hx hb dX1_laws_95 (by decide) ?_
        obtain ⟨e1, e2⟩ := so_inj hf
        exact aw_iret hC hW hr rfl (p_eq hP (congrArg (fun z => some (Value.int z)) e1) e2) (Nat.le_of_ble_eq_true rfl) (Nat.le_of_ble_eq_true rfl) dX1_laws_96
      · have hf := ifn c88 hf
        refine lv_iconst (v := 1) hx hb dX1_laws_91 (by decide) ?_
        refine lv_goto (tgt := 96) hx hb dX1_laws_92 (by decide) ?_
        obtain ⟨e1, e2⟩ := so_inj hf
        exact aw_iret hC hW hr rfl (p_eq hP (congrArg (fun z => some (Value.int z)) e1) e2) (Nat.le_of_ble_eq_true rfl) (Nat.le_of_ble_eq_true rfl) dX1_laws_96
    have hf := ifn c28_2 hf
    by_cases c28_3 : x2 = 3
    · have hf := ifp c28_3 hf
      refine lv_tableIn (tgt := 97) hx hb dX1_laws_28 (by rw [c28_3]; decide) (by rw [c28_3]; decide) (by rw [c28_3]; rfl) (by decide) ?_
      refine lv_aload_n hx hb dX1_laws_97 rfl (lv_at hl 0 rfl) ?_
      obtain ⟨q98, hq98, hf⟩ := bi_some hf
      refine aw_gR hC hW g4 fl_X1_18 rfl hq98 dX1_laws_98 ?_
      obtain ⟨g101, hf⟩ := gd_some hf
      obtain ⟨q101, hq101, hf⟩ := bi_some hf
      refine aw_gR hC hW g101 fl_X1_397 rfl hq101 dX1_laws_101 ?_
      refine lv_iload_n hx hb dX1_laws_104 rfl (lv_at hl 1 rfl) ?_
      obtain ⟨g105, hf⟩ := gd_some hf
      refine aw_iald hC hW g105 dX1_laws_105 ?_
      obtain ⟨e1, e2⟩ := so_inj hf
      exact aw_iret hC hW hr rfl (p_eq hP (congrArg (fun z => some (Value.int z)) e1) e2) (Nat.le_of_ble_eq_true rfl) (Nat.le_of_ble_eq_true rfl) dX1_laws_106
    have hf := ifn c28_3 hf
    have zc28 := lv_neT (a := 0) c28 (by decide)
    have zc28_1 := lv_neT (a := 1) c28_1 (by decide)
    have zc28_2 := lv_neT (a := 2) c28_2 (by decide)
    have zc28_3 := lv_neT (a := 3) c28_3 (by decide)
    refine lv_tableOut (tgt := 107) hx hb dX1_laws_28 (by omega) (by decide) ?_
    cases hf
  · have hf := ifp c16 hf
    cases hf
def f_X1_row (o : Nat) (x1 : Int32) (s : ST) : Option (Int64 × ST) :=
  gd (o < s.1 ∧ (kd s o).1 = 1) <|
  bnd (p_in ((x1 : Int32).toInt64) 0 ((((gi s o 12) - 1) : Int32).toInt64)) fun v10 =>
  if v10 = 0 then (none) else (gr s o 11).bind fun q25 =>
  gd (q25 < s.1 ∧ (kd s q25).1 = 104 ∧ ¬ ((x1 : Int32) < 0 ∨ (kd s q25).2 ≤ (x1 : Int32).toNatClampNeg)) <|
  some ((gl s q25 (x1 : Int32).toNatClampNeg), s)
set_option maxHeartbeats 4000000 in
theorem ct_X1_row (l : Launch) (G : GM) (a : Nat → Nat) (o : Nat) (x1 : Int32) (s : ST) (rv : Int64) (sf : ST) (hf : f_X1_row o x1 s = some (rv, sf)) : MD l G yX1_row (ws_ yX1_row cX1_row 2 (some .long)) 1 [.ref (a o), .int x1] a s (some (.long rv)) sf := by
  refine md_of (d := 1) (lv := [(0, .ref (a o)), (1, .int x1)]) (Or.inl (by decide)) (Nat.le_of_ble_eq_true rfl) rfl ?_
  intro p e s0 m args below meth c ls A P hP hC hr hnm hW hl
  have hx := hC.1
  have hb := hC.2.1
  have hts := hC.2.2.2.2.1
  unfold f_X1_row at hf
  refine lv_iload_n hx hb dX1_row_0 rfl (lv_at hl 1 rfl) ?_
  refine lv_i2l (v := (x1 : Int32).toInt64) hx hb dX1_row_1 rfl ?_
  refine lv_lconst (v := 0) hx hb dX1_row_2 (by decide) ?_
  refine lv_aload_n hx hb dX1_row_3 rfl (lv_at hl 0 rfl) ?_
  obtain ⟨g4, hf⟩ := gd_some hf
  refine aw_gI hC hW g4 fl_X1_154 rfl dX1_row_4 ?_
  refine lv_iconst (v := 1) hx hb dX1_row_7 (by decide) ?_
  refine lv_isub hx hb dX1_row_8 ?_
  refine lv_i2l (v := (((gi s o 12) - 1) : Int32).toInt64) hx hb dX1_row_9 rfl ?_
  obtain ⟨v10, ev10, hf⟩ := bnd_some hf
  refine aw_dS1 (As := [.long ((x1 : Int32).toInt64), .long 0, .long ((((gi s o 12) - 1) : Int32).toInt64)]) (rest := []) (pc_X1_in l G a ((x1 : Int32).toInt64) 0 ((((gi s o 12) - 1) : Int32).toInt64) s) hC hW hl.1 sy_X1_in (Or.inl q514) rfl rfl (Nat.le_of_ble_eq_true rfl) ⟨Nat.le_of_ble_eq_true rfl, Nat.le_of_ble_eq_true rfl⟩ ⟨Nat.le_of_ble_eq_true rfl, Nat.le_of_ble_eq_true rfl⟩ dX1_row_10 (fun H locs hW => ?_)
  refine top_i ev10 ?_
  refine lv_if_ne (tgt := 24) hx hb dX1_row_13 (by decide) (fun c13 => ?_) (fun c13 => ?_)
  · have hf := ifn c13 hf
    refine lv_aload_n hx hb dX1_row_24 rfl (lv_at hl 0 rfl) ?_
    obtain ⟨q25, hq25, hf⟩ := bi_some hf
    refine aw_gR hC hW g4 fl_X1_37 rfl hq25 dX1_row_25 ?_
    refine lv_iload_n hx hb dX1_row_28 rfl (lv_at hl 1 rfl) ?_
    obtain ⟨g29, hf⟩ := gd_some hf
    refine aw_lald hC hW g29 dX1_row_29 ?_
    obtain ⟨e1, e2⟩ := so_inj hf
    exact aw_lret hC hW hr (p_eq hP (congrArg (fun z => some (Value.long z)) e1) e2) (Nat.le_refl _) (Nat.le_refl _) dX1_row_30
  · have hf := ifp c13 hf
    cases hf
