set_option maxRecDepth 100000
def f_X14_fool_b20 (r0 : Nat) (s : ST) : Option (Int32 × ST) :=
  gd (r0 < s.1 ∧ (kd s r0).1 = 14) <|
  ob (f_X14_refuse r0 s) fun v21 s21 =>
  some (v21, s21)
def f_X14_fool (o : Nat) (x1 : Int32) (x2 : Int32) (s : ST) : Option (Int32 × ST) :=
  gd (o < s.1 ∧ (kd s o).1 = 14) <|
  bnd (pI s o 0 0) fun s2 =>
  ob (f_X14_isPerson o x1 s2) fun v7 s7 =>
  if v7 = 0 then (f_X14_fool_b20 o s7) else ob (f_X14_areWeeks x2 s7) fun v14 s14 =>
  if v14 = 0 then (f_X14_fool_b20 o s14) else gd (o < s14.1 ∧ (kd s14 o).1 = 14) <|
  ob (f_X14_starts o s14) fun _ s26 =>
  gd (o < s26.1 ∧ (kd s26 o).1 = 14) <|
  ob (f_X14_goesBy o x2 0 s26) fun _ s32 =>
  gd (o < s32.1 ∧ (kd s32 o).1 = 14) <|
  (gr s32 o 4).bind fun q37 =>
  gd (q37 < s32.1 ∧ (kd s32 q37).1 = 100 ∧ ¬ ((x1 : Int32) < 0 ∨ (kd s32 q37).2 ≤ (x1 : Int32).toNatClampNeg)) <|
  ob (f_X14_servedBy o (gi s32 q37 (x1 : Int32).toNatClampNeg) s32) fun v42 s42 =>
  gd (o < s42.1 ∧ (kd s42 o).1 = 14) <|
  ob (f_X14_starts o s42) fun _ s47 =>
  gd (o < s47.1 ∧ (kd s47 o).1 = 14) <|
  ob (f_X14_goesBy o x2 (1 <<< (x1 &&& 31)) s47) fun _ s55 =>
  gd (o < s55.1 ∧ (kd s55 o).1 = 14) <|
  (gr s55 o 4).bind fun q60 =>
  gd (q60 < s55.1 ∧ (kd s55 q60).1 = 100 ∧ ¬ ((x1 : Int32) < 0 ∨ (kd s55 q60).2 ≤ (x1 : Int32).toNatClampNeg)) <|
  ob (f_X14_servedBy o (gi s55 q60 (x1 : Int32).toNatClampNeg) s55) fun v65 s65 =>
  gd (o < s65.1 ∧ (kd s65 o).1 = 14) <|
  bnd (pI s65 o 1 0) fun s72 =>
  ob (f_X14_enters o ((v42 : Int32).toInt64) s72) fun _ s78 =>
  gd (o < s78.1 ∧ (kd s78 o).1 = 14) <|
  ob (f_X14_enters o ((v65 : Int32).toInt64) s78) fun _ s85 =>
  some ((v42 - v65), s85)
set_option maxHeartbeats 4000000 in
theorem ct_X14_fool (l : Launch) (G : GM) (a : Nat → Nat) (o : Nat) (x1 : Int32) (x2 : Int32) (s : ST) (rv : Int32) (sf : ST) (hf : f_X14_fool o x1 x2 s = some (rv, sf)) : MD l G yX14_fool (ws_ yX14_fool cX14_fool 5 (some .int)) 6 [.ref (a o), .int x1, .int x2] a s (some (.int rv)) sf := by
  refine md_of (d := 6) (lv := [(0, .ref (a o)), (1, .int x1), (2, .int x2)]) (Or.inl (by decide)) (Nat.le_of_ble_eq_true rfl) rfl ?_
  intro p e s0 m args below meth c ls A P hP hC hr hnm hW hl
  have hx := hC.1
  have hb := hC.2.1
  have hts := hC.2.2.2.2.1
  have B20 : ∀ (r0 : Nat) (s : ST), f_X14_fool_b20 r0 s = some (rv, sf) → ∀ (H : Heap) (locs : List Loc) (ls : Array Slot), lv_has ls 5 [(0, .ref (a r0))] → AW G a A s s0.heap H locs → WB p l e (rmD 6) s0 m args below meth c H locs G A P 20 ls [] := by
    intro r0 s hf H locs ls hl hW
    unfold f_X14_fool_b20 at hf
    refine lv_aload_n hx hb dX14_fool_20 rfl (lv_at hl 0 rfl) ?_
    obtain ⟨g21, hf⟩ := gd_some hf
    obtain ⟨v21, s21, h21, hf⟩ := ob_some hf
    refine aw_dV1 (r := r0) (As := []) (rest := []) (ct_X14_refuse l G a r0 s v21 s21 h21) hC hW hl.1 vy_X14_refuse (Or.inl q1622) g21 rfl rfl rfl rfl (Nat.le_of_ble_eq_true rfl) ⟨Nat.le_of_ble_eq_true rfl, Nat.le_of_ble_eq_true rfl⟩ ⟨Nat.le_of_ble_eq_true rfl, Nat.le_of_ble_eq_true rfl⟩ dX14_fool_21 (fun H locs hW => ?_)
    obtain ⟨e1, e2⟩ := so_inj hf
    exact aw_iret hC hW hr rfl (p_eq hP (congrArg (fun z => some (Value.int z)) e1) e2) (Nat.le_of_ble_eq_true rfl) (Nat.le_of_ble_eq_true rfl) dX14_fool_24
  unfold f_X14_fool at hf
  refine lv_aload_n hx hb dX14_fool_0 rfl (lv_at hl 0 rfl) ?_
  refine lv_iconst (v := 0) hx hb dX14_fool_1 (by decide) ?_
  obtain ⟨g2, hf⟩ := gd_some hf
  obtain ⟨s2, e2, hf⟩ := bnd_some hf
  refine aw_pI e2 hC hW g2 fl_X14_3 (Or.inl fn_13_0) rfl rfl rfl dX14_fool_2 (fun H locs hW => ?_)
  have g2 := ko_pI e2 g2
  refine lv_aload_n hx hb dX14_fool_5 rfl (lv_at hl 0 rfl) ?_
  refine lv_iload_n hx hb dX14_fool_6 rfl (lv_at hl 1 rfl) ?_
  obtain ⟨v7, s7, h7, hf⟩ := ob_some hf
  refine aw_dV1 (r := o) (As := [.int x1]) (rest := []) (ct_X14_isPerson l G a o x1 s2 v7 s7 h7) hC hW hl.1 vy_X14_isPerson (Or.inl q1594) g2 rfl rfl rfl rfl (Nat.le_of_ble_eq_true rfl) ⟨Nat.le_of_ble_eq_true rfl, Nat.le_of_ble_eq_true rfl⟩ ⟨Nat.le_of_ble_eq_true rfl, Nat.le_of_ble_eq_true rfl⟩ dX14_fool_7 (fun H locs hW => ?_)
  refine lv_if_eq (tgt := 20) hx hb dX14_fool_10 (by decide) (fun c10 => ?_) (fun c10 => ?_)
  · have hf := ifp c10 hf
    exact B20 o s7 hf _ _ _ (lv_sub hl [0] rfl) hW
  · have hf := ifn c10 hf
    refine lv_iload_n hx hb dX14_fool_13 rfl (lv_at hl 2 rfl) ?_
    obtain ⟨v14, s14, h14, hf⟩ := ob_some hf
    refine aw_dS1 (As := [.int x2]) (rest := []) (ct_X14_areWeeks l G a x2 s7 v14 s14 h14) hC hW hl.1 sy_X14_areWeeks (Or.inl q1746) rfl rfl (Nat.le_of_ble_eq_true rfl) ⟨Nat.le_of_ble_eq_true rfl, Nat.le_of_ble_eq_true rfl⟩ ⟨Nat.le_of_ble_eq_true rfl, Nat.le_of_ble_eq_true rfl⟩ dX14_fool_14 (fun H locs hW => ?_)
    refine lv_if_ne (tgt := 25) hx hb dX14_fool_17 (by decide) (fun c17 => ?_) (fun c17 => ?_)
    · have hf := ifn c17 hf
      refine lv_aload_n hx hb dX14_fool_25 rfl (lv_at hl 0 rfl) ?_
      obtain ⟨g26, hf⟩ := gd_some hf
      obtain ⟨_, s26, h26, hf⟩ := ob_some hf
      refine aw_dV0 (r := o) (As := []) (rest := []) (ct_X14_starts l G a o s14 () s26 h26) hC hW hl.1 vy_X14_starts (Or.inl q1749) g26 rfl rfl rfl rfl (Nat.le_of_ble_eq_true rfl) ⟨Nat.le_of_ble_eq_true rfl, Nat.le_of_ble_eq_true rfl⟩ ⟨Nat.le_of_ble_eq_true rfl, Nat.le_of_ble_eq_true rfl⟩ dX14_fool_26 (fun H locs hW => ?_)
      refine lv_aload_n hx hb dX14_fool_29 rfl (lv_at hl 0 rfl) ?_
      refine lv_iload_n hx hb dX14_fool_30 rfl (lv_at hl 2 rfl) ?_
      refine lv_iconst (v := 0) hx hb dX14_fool_31 (by decide) ?_
      obtain ⟨g32, hf⟩ := gd_some hf
      obtain ⟨_, s32, h32, hf⟩ := ob_some hf
      refine aw_dV0 (r := o) (As := [.int x2, .int 0]) (rest := []) (ct_X14_goesBy l G a o x2 0 s26 () s32 h32) hC hW hl.1 vy_X14_goesBy (Or.inl q1756) g32 rfl rfl rfl rfl (Nat.le_of_ble_eq_true rfl) ⟨Nat.le_of_ble_eq_true rfl, Nat.le_of_ble_eq_true rfl⟩ ⟨Nat.le_of_ble_eq_true rfl, Nat.le_of_ble_eq_true rfl⟩ dX14_fool_32 (fun H locs hW => ?_)
      refine lv_aload_n hx hb dX14_fool_35 rfl (lv_at hl 0 rfl) ?_
      refine lv_aload_n hx hb dX14_fool_36 rfl (lv_at hl 0 rfl) ?_
      obtain ⟨g37, hf⟩ := gd_some hf
      obtain ⟨q37, hq37, hf⟩ := bi_some hf
      refine aw_gR hC hW g37 fl_X14_28 rfl hq37 dX14_fool_37 ?_
      refine lv_iload_n hx hb dX14_fool_40 rfl (lv_at hl 1 rfl) ?_
      obtain ⟨g41, hf⟩ := gd_some hf
      refine aw_iald hC hW g41 dX14_fool_41 ?_
      obtain ⟨v42, s42, h42, hf⟩ := ob_some hf
      refine aw_dV1 (r := o) (As := [.int (gi s32 q37 (x1 : Int32).toNatClampNeg)]) (rest := []) (ct_X14_servedBy l G a o (gi s32 q37 (x1 : Int32).toNatClampNeg) s32 v42 s42 h42) hC hW hl.1 vy_X14_servedBy (Or.inl q1801) g37 rfl rfl rfl rfl (Nat.le_of_ble_eq_true rfl) ⟨Nat.le_of_ble_eq_true rfl, Nat.le_of_ble_eq_true rfl⟩ ⟨Nat.le_of_ble_eq_true rfl, Nat.le_of_ble_eq_true rfl⟩ dX14_fool_42 (fun H locs hW => ?_)
      refine lv_istore_n (lv' := [(3, .int v42), (0, .ref (a o)), (1, .int x1), (2, .int x2)]) hx hb dX14_fool_45 rfl hl (by decide) rfl (fun ls hl => ?_)
      refine lv_aload_n hx hb dX14_fool_46 rfl (lv_at hl 1 rfl) ?_
      obtain ⟨g47, hf⟩ := gd_some hf
      obtain ⟨_, s47, h47, hf⟩ := ob_some hf
      refine aw_dV0 (r := o) (As := []) (rest := []) (ct_X14_starts l G a o s42 () s47 h47) hC hW hl.1 vy_X14_starts (Or.inl q1749) g47 rfl rfl rfl rfl (Nat.le_of_ble_eq_true rfl) ⟨Nat.le_of_ble_eq_true rfl, Nat.le_of_ble_eq_true rfl⟩ ⟨Nat.le_of_ble_eq_true rfl, Nat.le_of_ble_eq_true rfl⟩ dX14_fool_47 (fun H locs hW => ?_)
      refine lv_aload_n hx hb dX14_fool_50 rfl (lv_at hl 1 rfl) ?_
      refine lv_iload_n hx hb dX14_fool_51 rfl (lv_at hl 3 rfl) ?_
      refine lv_iconst (v := 1) hx hb dX14_fool_52 (by decide) ?_
      refine lv_iload_n hx hb dX14_fool_53 rfl (lv_at hl 2 rfl) ?_
      refine lv_ishl hx hb dX14_fool_54 ?_
      obtain ⟨g55, hf⟩ := gd_some hf
      obtain ⟨_, s55, h55, hf⟩ := ob_some hf
      refine aw_dV0 (r := o) (As := [.int x2, .int (1 <<< (x1 &&& 31))]) (rest := []) (ct_X14_goesBy l G a o x2 (1 <<< (x1 &&& 31)) s47 () s55 h55) hC hW hl.1 vy_X14_goesBy (Or.inl q1756) g55 rfl rfl rfl rfl (Nat.le_of_ble_eq_true rfl) ⟨Nat.le_of_ble_eq_true rfl, Nat.le_of_ble_eq_true rfl⟩ ⟨Nat.le_of_ble_eq_true rfl, Nat.le_of_ble_eq_true rfl⟩ dX14_fool_55 (fun H locs hW => ?_)
      refine lv_aload_n hx hb dX14_fool_58 rfl (lv_at hl 1 rfl) ?_
      refine lv_aload_n hx hb dX14_fool_59 rfl (lv_at hl 1 rfl) ?_
      obtain ⟨g60, hf⟩ := gd_some hf
      obtain ⟨q60, hq60, hf⟩ := bi_some hf
      refine aw_gR hC hW g60 fl_X14_28 rfl hq60 dX14_fool_60 ?_
      refine lv_iload_n hx hb dX14_fool_63 rfl (lv_at hl 2 rfl) ?_
      obtain ⟨g64, hf⟩ := gd_some hf
      refine aw_iald hC hW g64 dX14_fool_64 ?_
      obtain ⟨v65, s65, h65, hf⟩ := ob_some hf
      refine aw_dV1 (r := o) (As := [.int (gi s55 q60 (x1 : Int32).toNatClampNeg)]) (rest := []) (ct_X14_servedBy l G a o (gi s55 q60 (x1 : Int32).toNatClampNeg) s55 v65 s65 h65) hC hW hl.1 vy_X14_servedBy (Or.inl q1801) g60 rfl rfl rfl rfl (Nat.le_of_ble_eq_true rfl) ⟨Nat.le_of_ble_eq_true rfl, Nat.le_of_ble_eq_true rfl⟩ ⟨Nat.le_of_ble_eq_true rfl, Nat.le_of_ble_eq_true rfl⟩ dX14_fool_65 (fun H locs hW => ?_)
      refine lv_istore (lv' := [(4, .int v65), (3, .int v42), (0, .ref (a o)), (1, .int x1), (2, .int x2)]) hx hb dX14_fool_68 hl (by decide) rfl (fun ls hl => ?_)
      refine lv_aload_n hx hb dX14_fool_70 rfl (lv_at hl 2 rfl) ?_
      refine lv_iconst (v := 0) hx hb dX14_fool_71 (by decide) ?_
      obtain ⟨g72, hf⟩ := gd_some hf
      obtain ⟨s72, e72, hf⟩ := bnd_some hf
      refine aw_pI e72 hC hW g72 fl_X14_15 (Or.inl fn_13_1) rfl rfl rfl dX14_fool_72 (fun H locs hW => ?_)
      have g72 := ko_pI e72 g72
      refine lv_aload_n hx hb dX14_fool_75 rfl (lv_at hl 2 rfl) ?_
      refine lv_iload_n hx hb dX14_fool_76 rfl (lv_at hl 1 rfl) ?_
      refine lv_i2l (v := (v42 : Int32).toInt64) hx hb dX14_fool_77 rfl ?_
      obtain ⟨_, s78, h78, hf⟩ := ob_some hf
      refine aw_dV0 (r := o) (As := [.long ((v42 : Int32).toInt64)]) (rest := []) (ct_X14_enters l G a o ((v42 : Int32).toInt64) s72 () s78 h78) hC hW hl.1 vy_X14_enters (Or.inl q1689) g72 rfl rfl rfl rfl (Nat.le_of_ble_eq_true rfl) ⟨Nat.le_of_ble_eq_true rfl, Nat.le_of_ble_eq_true rfl⟩ ⟨Nat.le_of_ble_eq_true rfl, Nat.le_of_ble_eq_true rfl⟩ dX14_fool_78 (fun H locs hW => ?_)
      refine lv_aload_n hx hb dX14_fool_81 rfl (lv_at hl 2 rfl) ?_
      refine lv_iload hx hb dX14_fool_82 (lv_at hl 0 rfl) ?_
      refine lv_i2l (v := (v65 : Int32).toInt64) hx hb dX14_fool_84 rfl ?_
      obtain ⟨g85, hf⟩ := gd_some hf
      obtain ⟨_, s85, h85, hf⟩ := ob_some hf
      refine aw_dV0 (r := o) (As := [.long ((v65 : Int32).toInt64)]) (rest := []) (ct_X14_enters l G a o ((v65 : Int32).toInt64) s78 () s85 h85) hC hW hl.1 vy_X14_enters (Or.inl q1689) g85 rfl rfl rfl rfl (Nat.le_of_ble_eq_true rfl) ⟨Nat.le_of_ble_eq_true rfl, Nat.le_of_ble_eq_true rfl⟩ ⟨Nat.le_of_ble_eq_true rfl, Nat.le_of_ble_eq_true rfl⟩ dX14_fool_85 (fun H locs hW => ?_)
      refine lv_iload_n hx hb dX14_fool_88 rfl (lv_at hl 1 rfl) ?_
      refine lv_iload hx hb dX14_fool_89 (lv_at hl 0 rfl) ?_
      refine lv_isub hx hb dX14_fool_91 ?_
      obtain ⟨e1, e2⟩ := so_inj hf
      exact aw_iret hC hW hr rfl (p_eq hP (congrArg (fun z => some (Value.int z)) e1) e2) (Nat.le_of_ble_eq_true rfl) (Nat.le_of_ble_eq_true rfl) dX14_fool_92
    · have hf := ifp c17 hf
      exact B20 o s14 hf _ _ _ (lv_sub hl [0] rfl) hW
def f_X14_forget (o : Nat) (s : ST) : Option (Int32 × ST) :=
  gd (o < s.1 ∧ (kd s o).1 = 14) <|
  bnd (pI s o 0 0) fun s2 =>
  if (gi s2 o 34) = 0 then (some ((-1), s2)) else bnd (pI s2 o 34 ((gi s2 o 34) - 1)) fun s21 =>
  some ((gi s21 o 34), s21)
set_option maxHeartbeats 4000000 in
theorem ct_X14_forget (l : Launch) (G : GM) (a : Nat → Nat) (o : Nat) (s : ST) (rv : Int32) (sf : ST) (hf : f_X14_forget o s = some (rv, sf)) : MD l G yX14_forget (ws_ yX14_forget cX14_forget 1 (some .int)) 0 [.ref (a o)] a s (some (.int rv)) sf := by
  refine md_of (d := 0) (lv := [(0, .ref (a o))]) (Or.inl (by decide)) (Nat.le_of_ble_eq_true rfl) rfl ?_
  intro p e s0 m args below meth c ls A P hP hC hr hnm hW hl
  have hx := hC.1
  have hb := hC.2.1
  have hts := hC.2.2.2.2.1
  unfold f_X14_forget at hf
  refine lv_aload_n hx hb dX14_forget_0 rfl (lv_at hl 0 rfl) ?_
  refine lv_iconst (v := 0) hx hb dX14_forget_1 (by decide) ?_
  obtain ⟨g2, hf⟩ := gd_some hf
  obtain ⟨s2, e2, hf⟩ := bnd_some hf
  refine aw_pI e2 hC hW g2 fl_X14_3 (Or.inl fn_13_0) rfl rfl rfl dX14_forget_2 (fun H locs hW => ?_)
  have g2 := ko_pI e2 g2
  refine lv_aload_n hx hb dX14_forget_5 rfl (lv_at hl 0 rfl) ?_
  refine aw_gI hC hW g2 fl_X14_351 rfl dX14_forget_6 ?_
  refine lv_if_ne (tgt := 14) hx hb dX14_forget_9 (by decide) (fun c9 => ?_) (fun c9 => ?_)
  · have hf := ifn c9 hf
    refine lv_aload_n hx hb dX14_forget_14 rfl (lv_at hl 0 rfl) ?_
    refine lv_dup hx hb dX14_forget_15 rfl ?_
    refine aw_gI hC hW g2 fl_X14_351 rfl dX14_forget_16 ?_
    refine lv_iconst (v := 1) hx hb dX14_forget_19 (by decide) ?_
    refine lv_isub hx hb dX14_forget_20 ?_
    obtain ⟨s21, e21, hf⟩ := bnd_some hf
    refine aw_pI e21 hC hW g2 fl_X14_351 (Or.inl fn_13_34) rfl rfl rfl dX14_forget_21 (fun H locs hW => ?_)
    have g2 := ko_pI e21 g2
    refine lv_aload_n hx hb dX14_forget_24 rfl (lv_at hl 0 rfl) ?_
    refine aw_gI hC hW g2 fl_X14_351 rfl dX14_forget_25 ?_
    obtain ⟨e1, e2⟩ := so_inj hf
    exact aw_iret hC hW hr rfl (p_eq hP (congrArg (fun z => some (Value.int z)) e1) e2) (Nat.le_of_ble_eq_true rfl) (Nat.le_of_ble_eq_true rfl) dX14_forget_28
  · have hf := ifp c9 hf
    refine lv_iconst (v := (-1)) hx hb dX14_forget_12 (by decide) ?_
    obtain ⟨e1, e2⟩ := so_inj hf
    exact aw_iret hC hW hr rfl (p_eq hP (congrArg (fun z => some (Value.int z)) e1) e2) (Nat.le_of_ble_eq_true rfl) (Nat.le_of_ble_eq_true rfl) dX14_forget_13
def f_X14_weightsOf_b49 (K11 : Nat → Int32 → Int32 → Int32 → Int32 → Int32 → Int32 → ST → Option (Int32 × ST)) (r0 : Nat) (x1 : Int32) (x2 : Int32) (x3 : Int32) (x4 : Int32) (x5 : Int32) (x6 : Int32) (s : ST) : Option (Int32 × ST) :=
  bnd (x6 + 1 : Int32) fun v49 =>
  K11 r0 x1 x2 x3 x4 x5 v49 s
def f_X14_weightsOf_b40 (K11 : Nat → Int32 → Int32 → Int32 → Int32 → Int32 → Int32 → ST → Option (Int32 × ST)) (r0 : Nat) (x1 : Int32) (x2 : Int32) (x3 : Int32) (x6 : Int32) (t0 : Int32) (s : ST) : Option (Int32 × ST) :=
  bnd (x3 + 1 : Int32) fun v46 =>
  f_X14_weightsOf_b49 K11 r0 x1 x2 v46 t0 x6 x6 s
def f_X14_weightsOf_b11 : Nat → Nat → Int32 → Int32 → Int32 → Int32 → Int32 → Int32 → ST → Option (Int32 × ST)
  | 0, _, _, _, _, _, _, _, _ => none
  | n + 1, r0, x1, x2, x3, x4, x5, x6, s =>
  if 999 < x6 then (if x2 = 0 then (some (x3, s)) else gd (r0 < s.1 ∧ (kd s r0).1 = 14) <|
  ob (f_X14_tellsSpan r0 x3 x4 x5 s) fun _ s65 =>
  some (x3, s65)) else gd (r0 < s.1 ∧ (kd s r0).1 = 14) <|
  ob (f_X14_canBe r0 x1 x6 s) fun v23 s23 =>
  if v23 = 0 then (f_X14_weightsOf_b49 (f_X14_weightsOf_b11 n) r0 x1 x2 x3 x4 x5 x6 s23) else if x3 = 0 then (f_X14_weightsOf_b40 (f_X14_weightsOf_b11 n) r0 x1 x2 x3 x6 x6 s23) else f_X14_weightsOf_b40 (f_X14_weightsOf_b11 n) r0 x1 x2 x3 x6 x4 s23
def f_X14_weightsOf (o : Nat) (x1 : Int32) (x2 : Int32) (s : ST) : Option (Int32 × ST) :=
  f_X14_weightsOf_b11 fuel o x1 x2 0 0 0 1 s
set_option maxHeartbeats 4000000 in
theorem ct_X14_weightsOf (l : Launch) (G : GM) (a : Nat → Nat) (o : Nat) (x1 : Int32) (x2 : Int32) (s : ST) (rv : Int32) (sf : ST) (hf : f_X14_weightsOf o x1 x2 s = some (rv, sf)) : MD l G yX14_weightsOf (ws_ yX14_weightsOf cX14_weightsOf 7 (some .int)) 3 [.ref (a o), .int x1, .int x2] a s (some (.int rv)) sf := by
  refine md_of (d := 3) (lv := [(0, .ref (a o)), (1, .int x1), (2, .int x2)]) (Or.inl (by decide)) (Nat.le_of_ble_eq_true rfl) rfl ?_
  intro p e s0 m args below meth c ls A P hP hC hr hnm hW hl
  have hx := hC.1
  have hb := hC.2.1
  have hts := hC.2.2.2.2.1
  have B49 : ∀ (K11 : Nat → Int32 → Int32 → Int32 → Int32 → Int32 → Int32 → ST → Option (Int32 × ST)) (hK11 : ∀ (r0 : Nat) (x1 : Int32) (x2 : Int32) (x3 : Int32) (x4 : Int32) (x5 : Int32) (x6 : Int32) (s : ST), K11 r0 x1 x2 x3 x4 x5 x6 s = some (rv, sf) → ∀ (H : Heap) (locs : List Loc) (ls : Array Slot), lv_has ls 7 [(0, .ref (a r0)), (1, .int x1), (2, .int x2), (3, .int x3), (4, .int x4), (5, .int x5), (6, .int x6)] → AW G a A s s0.heap H locs → WB p l e (rmD 3) s0 m args below meth c H locs G A P 11 ls []), ∀ (r0 : Nat) (x1 : Int32) (x2 : Int32) (x3 : Int32) (x4 : Int32) (x5 : Int32) (x6 : Int32) (s : ST), f_X14_weightsOf_b49 K11 r0 x1 x2 x3 x4 x5 x6 s = some (rv, sf) → ∀ (H : Heap) (locs : List Loc) (ls : Array Slot), lv_has ls 7 [(0, .ref (a r0)), (1, .int x1), (2, .int x2), (3, .int x3), (4, .int x4), (5, .int x5), (6, .int x6)] → AW G a A s s0.heap H locs → WB p l e (rmD 3) s0 m args below meth c H locs G A P 49 ls [] := by
    intro K11 hK11 r0 x1 x2 x3 x4 x5 x6 s hf H locs ls hl hW
    unfold f_X14_weightsOf_b49 at hf
    obtain ⟨v49, ev49, hf⟩ := bnd_some hf
    refine lv_iinc (v := v49) (lv' := [(6, .int v49), (0, .ref (a r0)), (1, .int x1), (2, .int x2), (3, .int x3), (4, .int x4), (5, .int x5)]) hx hb dX14_weightsOf_49 hl (k := 6) rfl (by rw [ev49]; rfl) (by decide) rfl (fun ls hl => ?_)
    refine lv_goto (tgt := 11) hx hb dX14_weightsOf_52 (by decide) ?_
    exact hK11 r0 x1 x2 x3 x4 x5 v49 s hf _ _ _ (lv_sub hl [1, 2, 3, 4, 5, 6, 0] rfl) hW
  have B40 : ∀ (K11 : Nat → Int32 → Int32 → Int32 → Int32 → Int32 → Int32 → ST → Option (Int32 × ST)) (hK11 : ∀ (r0 : Nat) (x1 : Int32) (x2 : Int32) (x3 : Int32) (x4 : Int32) (x5 : Int32) (x6 : Int32) (s : ST), K11 r0 x1 x2 x3 x4 x5 x6 s = some (rv, sf) → ∀ (H : Heap) (locs : List Loc) (ls : Array Slot), lv_has ls 7 [(0, .ref (a r0)), (1, .int x1), (2, .int x2), (3, .int x3), (4, .int x4), (5, .int x5), (6, .int x6)] → AW G a A s s0.heap H locs → WB p l e (rmD 3) s0 m args below meth c H locs G A P 11 ls []), ∀ (r0 : Nat) (x1 : Int32) (x2 : Int32) (x3 : Int32) (x6 : Int32) (t0 : Int32) (s : ST), f_X14_weightsOf_b40 K11 r0 x1 x2 x3 x6 t0 s = some (rv, sf) → ∀ (H : Heap) (locs : List Loc) (ls : Array Slot), lv_has ls 7 [(0, .ref (a r0)), (1, .int x1), (2, .int x2), (3, .int x3), (6, .int x6)] → AW G a A s s0.heap H locs → WB p l e (rmD 3) s0 m args below meth c H locs G A P 40 ls [.int t0] := by
    intro K11 hK11 r0 x1 x2 x3 x6 t0 s hf H locs ls hl hW
    unfold f_X14_weightsOf_b40 at hf
    refine lv_istore (lv' := [(4, .int t0), (0, .ref (a r0)), (1, .int x1), (2, .int x2), (3, .int x3), (6, .int x6)]) hx hb dX14_weightsOf_40 hl (by decide) rfl (fun ls hl => ?_)
    refine lv_iload hx hb dX14_weightsOf_42 (lv_at hl 5 rfl) ?_
    refine lv_istore (lv' := [(5, .int x6), (4, .int t0), (0, .ref (a r0)), (1, .int x1), (2, .int x2), (3, .int x3), (6, .int x6)]) hx hb dX14_weightsOf_44 hl (by decide) rfl (fun ls hl => ?_)
    obtain ⟨v46, ev46, hf⟩ := bnd_some hf
    refine lv_iinc (v := v46) (lv' := [(3, .int v46), (5, .int x6), (4, .int t0), (0, .ref (a r0)), (1, .int x1), (2, .int x2), (6, .int x6)]) hx hb dX14_weightsOf_46 hl (k := 5) rfl (by rw [ev46]; rfl) (by decide) rfl (fun ls hl => ?_)
    exact B49 K11 hK11 r0 x1 x2 v46 t0 x6 x6 s hf _ _ _ (lv_sub hl [3, 4, 5, 0, 2, 1, 6] rfl) hW
  have B11 : ∀ (n : Nat), ∀ (r0 : Nat) (x1 : Int32) (x2 : Int32) (x3 : Int32) (x4 : Int32) (x5 : Int32) (x6 : Int32) (s : ST), f_X14_weightsOf_b11 n r0 x1 x2 x3 x4 x5 x6 s = some (rv, sf) → ∀ (H : Heap) (locs : List Loc) (ls : Array Slot), lv_has ls 7 [(0, .ref (a r0)), (1, .int x1), (2, .int x2), (3, .int x3), (4, .int x4), (5, .int x5), (6, .int x6)] → AW G a A s s0.heap H locs → WB p l e (rmD 3) s0 m args below meth c H locs G A P 11 ls [] := by
    intro n
    induction n with
    | zero => intro r0 x1 x2 x3 x4 x5 x6 s hf; cases hf
    | succ n ih =>
      intro r0 x1 x2 x3 x4 x5 x6 s hf H locs ls hl hW
      rw [f_X14_weightsOf_b11] at hf
      refine lv_iload hx hb dX14_weightsOf_11 (lv_at hl 6 rfl) ?_
      refine lv_sipush (v := 999) hx hb dX14_weightsOf_13 (by decide) ?_
      refine lv_icmp_gt (tgt := 55) hx hb dX14_weightsOf_16 (by decide) (fun c16 => ?_) (fun c16 => ?_)
      · have hf := ifp c16 hf
        refine lv_iload_n hx hb dX14_weightsOf_55 rfl (lv_at hl 2 rfl) ?_
        refine lv_if_eq (tgt := 68) hx hb dX14_weightsOf_56 (by decide) (fun c56 => ?_) (fun c56 => ?_)
        · have hf := ifp c56 hf
          refine lv_iload_n hx hb dX14_weightsOf_68 rfl (lv_at hl 3 rfl) ?_
          obtain ⟨e1, e2⟩ := so_inj hf
          exact aw_iret hC hW hr rfl (p_eq hP (congrArg (fun z => some (Value.int z)) e1) e2) (Nat.le_of_ble_eq_true rfl) (Nat.le_of_ble_eq_true rfl) dX14_weightsOf_69
        · have hf := ifn c56 hf
          refine lv_aload_n hx hb dX14_weightsOf_59 rfl (lv_at hl 0 rfl) ?_
          refine lv_iload_n hx hb dX14_weightsOf_60 rfl (lv_at hl 3 rfl) ?_
          refine lv_iload hx hb dX14_weightsOf_61 (lv_at hl 4 rfl) ?_
          refine lv_iload hx hb dX14_weightsOf_63 (lv_at hl 5 rfl) ?_
          obtain ⟨g65, hf⟩ := gd_some hf
          obtain ⟨_, s65, h65, hf⟩ := ob_some hf
          refine aw_dV0 (r := r0) (As := [.int x3, .int x4, .int x5]) (rest := []) (ct_X14_tellsSpan l G a r0 x3 x4 x5 s () s65 h65) hC hW hl.1 vy_X14_tellsSpan (Or.inl q1858) g65 rfl rfl rfl rfl (Nat.le_of_ble_eq_true rfl) ⟨Nat.le_of_ble_eq_true rfl, Nat.le_of_ble_eq_true rfl⟩ ⟨Nat.le_of_ble_eq_true rfl, Nat.le_of_ble_eq_true rfl⟩ dX14_weightsOf_65 (fun H locs hW => ?_)
          refine lv_iload_n hx hb dX14_weightsOf_68 rfl (lv_at hl 3 rfl) ?_
          obtain ⟨e1, e2⟩ := so_inj hf
          exact aw_iret hC hW hr rfl (p_eq hP (congrArg (fun z => some (Value.int z)) e1) e2) (Nat.le_of_ble_eq_true rfl) (Nat.le_of_ble_eq_true rfl) dX14_weightsOf_69
      · have hf := ifn c16 hf
        refine lv_aload_n hx hb dX14_weightsOf_19 rfl (lv_at hl 0 rfl) ?_
        refine lv_iload_n hx hb dX14_weightsOf_20 rfl (lv_at hl 1 rfl) ?_
        refine lv_iload hx hb dX14_weightsOf_21 (lv_at hl 6 rfl) ?_
        obtain ⟨g23, hf⟩ := gd_some hf
        obtain ⟨v23, s23, h23, hf⟩ := ob_some hf
        refine aw_dV1 (r := r0) (As := [.int x1, .int x6]) (rest := []) (ct_X14_canBe l G a r0 x1 x6 s v23 s23 h23) hC hW hl.1 vy_X14_canBe (Or.inl q1854) g23 rfl rfl rfl rfl (Nat.le_of_ble_eq_true rfl) ⟨Nat.le_of_ble_eq_true rfl, Nat.le_of_ble_eq_true rfl⟩ ⟨Nat.le_of_ble_eq_true rfl, Nat.le_of_ble_eq_true rfl⟩ dX14_weightsOf_23 (fun H locs hW => ?_)
        refine lv_if_eq (tgt := 49) hx hb dX14_weightsOf_26 (by decide) (fun c26 => ?_) (fun c26 => ?_)
        · have hf := ifp c26 hf
          exact B49 (f_X14_weightsOf_b11 n) ih r0 x1 x2 x3 x4 x5 x6 s23 hf _ _ _ (lv_sub hl [0, 1, 2, 3, 4, 5, 6] rfl) hW
        · have hf := ifn c26 hf
          refine lv_iload_n hx hb dX14_weightsOf_29 rfl (lv_at hl 3 rfl) ?_
          refine lv_if_ne (tgt := 38) hx hb dX14_weightsOf_30 (by decide) (fun c30 => ?_) (fun c30 => ?_)
          · have hf := ifn c30 hf
            refine lv_iload hx hb dX14_weightsOf_38 (lv_at hl 4 rfl) ?_
            exact B40 (f_X14_weightsOf_b11 n) ih r0 x1 x2 x3 x6 x4 s23 hf _ _ _ (lv_sub hl [0, 1, 2, 3, 6] rfl) hW
          · have hf := ifp c30 hf
            refine lv_iload hx hb dX14_weightsOf_33 (lv_at hl 6 rfl) ?_
            refine lv_goto (tgt := 40) hx hb dX14_weightsOf_35 (by decide) ?_
            exact B40 (f_X14_weightsOf_b11 n) ih r0 x1 x2 x3 x6 x6 s23 hf _ _ _ (lv_sub hl [0, 1, 2, 3, 6] rfl) hW
  unfold f_X14_weightsOf at hf
  refine lv_iconst (v := 0) hx hb dX14_weightsOf_0 (by decide) ?_
  refine lv_istore_n (lv' := [(3, .int 0), (0, .ref (a o)), (1, .int x1), (2, .int x2)]) hx hb dX14_weightsOf_1 rfl hl (by decide) rfl (fun ls hl => ?_)
  refine lv_iconst (v := 0) hx hb dX14_weightsOf_2 (by decide) ?_
  refine lv_istore (lv' := [(4, .int 0), (3, .int 0), (0, .ref (a o)), (1, .int x1), (2, .int x2)]) hx hb dX14_weightsOf_3 hl (by decide) rfl (fun ls hl => ?_)
  refine lv_iconst (v := 0) hx hb dX14_weightsOf_5 (by decide) ?_
  refine lv_istore (lv' := [(5, .int 0), (4, .int 0), (3, .int 0), (0, .ref (a o)), (1, .int x1), (2, .int x2)]) hx hb dX14_weightsOf_6 hl (by decide) rfl (fun ls hl => ?_)
  refine lv_iconst (v := 1) hx hb dX14_weightsOf_8 (by decide) ?_
  refine lv_istore (lv' := [(6, .int 1), (5, .int 0), (4, .int 0), (3, .int 0), (0, .ref (a o)), (1, .int x1), (2, .int x2)]) hx hb dX14_weightsOf_9 hl (by decide) rfl (fun ls hl => ?_)
  exact B11 fuel o x1 x2 0 0 0 1 s hf _ _ _ (lv_sub hl [4, 5, 6, 3, 2, 1, 0] rfl) hW
def f_X14_grains_b81 (K14 : Nat → Int32 → Int32 → Int32 → ST → Option (Int32 × ST)) (r0 : Nat) (x1 : Int32) (x3 : Int32) (t0 : Int32) (t1 : Int32) (s : ST) : Option (Int32 × ST) :=
  bnd ((t1 ||| t0) : Int32) fun v82 =>
  bnd (x3 + 1 : Int32) fun v83 =>
  K14 r0 x1 v82 v83 s
def f_X14_grains_b60 (K31 : Nat → Int32 → Int32 → Int32 → Int32 → Int32 → ST → Option (Int32 × ST)) (r0 : Nat) (x1 : Int32) (x2 : Int32) (x3 : Int32) (x5 : Int32) (t0 : Int32) (s : ST) : Option (Int32 × ST) :=
  bnd (x5 + 1 : Int32) fun v62 =>
  K31 r0 x1 x2 x3 t0 v62 s
def f_X14_grains_b59 (K31 : Nat → Int32 → Int32 → Int32 → Int32 → Int32 → ST → Option (Int32 × ST)) (r0 : Nat) (x1 : Int32) (x2 : Int32) (x3 : Int32) (x5 : Int32) (s : ST) : Option (Int32 × ST) :=
  f_X14_grains_b60 K31 r0 x1 x2 x3 x5 0 s
def f_X14_grains_b31 (K14 : Nat → Int32 → Int32 → Int32 → ST → Option (Int32 × ST)) : Nat → Nat → Int32 → Int32 → Int32 → Int32 → Int32 → ST → Option (Int32 × ST)
  | 0, _, _, _, _, _, _, _ => none
  | n + 1, r0, x1, x2, x3, x4, x5, s =>
  gd (r0 < s.1 ∧ (kd s r0).1 = 14) <|
  if (gi s r0 3) ≤ x5 then (if x4 = 0 then (f_X14_grains_b81 K14 r0 x1 x3 0 x2 s) else f_X14_grains_b81 K14 r0 x1 x3 (1 <<< (x3 &&& 31)) x2 s) else if x4 = 0 then (f_X14_grains_b59 (f_X14_grains_b31 K14 n) r0 x1 x2 x3 x5 s) else ob (f_X14_weightsOf r0 x5 0 s) fun v49 s49 =>
  if v49 ≤ 0 then (f_X14_grains_b59 (f_X14_grains_b31 K14 n) r0 x1 x2 x3 x5 s49) else f_X14_grains_b60 (f_X14_grains_b31 K14 n) r0 x1 x2 x3 x5 1 s49
def f_X14_grains_b14 : Nat → Nat → Int32 → Int32 → Int32 → ST → Option (Int32 × ST)
  | 0, _, _, _, _, _ => none
  | n + 1, r0, x1, x2, x3, s =>
  if 9 < x3 then (gd (r0 < s.1 ∧ (kd s r0).1 = 14) <|
  bnd (pI s r0 8 x1) fun s91 =>
  some (x2, s91)) else gd (r0 < s.1 ∧ (kd s r0).1 = 14) <|
  bnd (pI s r0 8 x3) fun s22 =>
  f_X14_grains_b31 (f_X14_grains_b14 n) fuel r0 x1 x2 x3 1 0 s22
def f_X14_grains (o : Nat) (s : ST) : Option (Int32 × ST) :=
  gd (o < s.1 ∧ (kd s o).1 = 14) <|
  bnd (pI s o 0 0) fun s2 =>
  bnd ((gi s2 o 8) : Int32) fun v9 =>
  f_X14_grains_b14 fuel o v9 0 1 s2
set_option maxHeartbeats 4000000 in
theorem ct_X14_grains (l : Launch) (G : GM) (a : Nat → Nat) (o : Nat) (s : ST) (rv : Int32) (sf : ST) (hf : f_X14_grains o s = some (rv, sf)) : MD l G yX14_grains (ws_ yX14_grains cX14_grains 6 (some .int)) 4 [.ref (a o)] a s (some (.int rv)) sf := by
  refine md_of (d := 4) (lv := [(0, .ref (a o))]) (Or.inl (by decide)) (Nat.le_of_ble_eq_true rfl) rfl ?_
  intro p e s0 m args below meth c ls A P hP hC hr hnm hW hl
  have hx := hC.1
  have hb := hC.2.1
  have hts := hC.2.2.2.2.1
  have B81 : ∀ (K14 : Nat → Int32 → Int32 → Int32 → ST → Option (Int32 × ST)) (hK14 : ∀ (r0 : Nat) (x1 : Int32) (x2 : Int32) (x3 : Int32) (s : ST), K14 r0 x1 x2 x3 s = some (rv, sf) → ∀ (H : Heap) (locs : List Loc) (ls : Array Slot), lv_has ls 6 [(0, .ref (a r0)), (1, .int x1), (2, .int x2), (3, .int x3)] → AW G a A s s0.heap H locs → WB p l e (rmD 4) s0 m args below meth c H locs G A P 14 ls []), ∀ (r0 : Nat) (x1 : Int32) (x3 : Int32) (t0 : Int32) (t1 : Int32) (s : ST), f_X14_grains_b81 K14 r0 x1 x3 t0 t1 s = some (rv, sf) → ∀ (H : Heap) (locs : List Loc) (ls : Array Slot), lv_has ls 6 [(0, .ref (a r0)), (1, .int x1), (3, .int x3)] → AW G a A s s0.heap H locs → WB p l e (rmD 4) s0 m args below meth c H locs G A P 81 ls [.int t0, .int t1] := by
    intro K14 hK14 r0 x1 x3 t0 t1 s hf H locs ls hl hW
    unfold f_X14_grains_b81 at hf
    refine lv_ior hx hb dX14_grains_81 ?_
    obtain ⟨v82, ev82, hf⟩ := bnd_some hf
    refine top_i ev82 ?_
    refine lv_istore_n (lv' := [(2, .int v82), (0, .ref (a r0)), (1, .int x1), (3, .int x3)]) hx hb dX14_grains_82 rfl hl (by decide) rfl (fun ls hl => ?_)
    obtain ⟨v83, ev83, hf⟩ := bnd_some hf
    refine lv_iinc (v := v83) (lv' := [(3, .int v83), (2, .int v82), (0, .ref (a r0)), (1, .int x1)]) hx hb dX14_grains_83 hl (k := 3) rfl (by rw [ev83]; rfl) (by decide) rfl (fun ls hl => ?_)
    refine lv_goto (tgt := 14) hx hb dX14_grains_86 (by decide) ?_
    exact hK14 r0 x1 v82 v83 s hf _ _ _ (lv_sub hl [2, 3, 1, 0] rfl) hW
  have B60 : ∀ (K31 : Nat → Int32 → Int32 → Int32 → Int32 → Int32 → ST → Option (Int32 × ST)) (hK31 : ∀ (r0 : Nat) (x1 : Int32) (x2 : Int32) (x3 : Int32) (x4 : Int32) (x5 : Int32) (s : ST), K31 r0 x1 x2 x3 x4 x5 s = some (rv, sf) → ∀ (H : Heap) (locs : List Loc) (ls : Array Slot), lv_has ls 6 [(0, .ref (a r0)), (1, .int x1), (2, .int x2), (3, .int x3), (4, .int x4), (5, .int x5)] → AW G a A s s0.heap H locs → WB p l e (rmD 4) s0 m args below meth c H locs G A P 31 ls []), ∀ (r0 : Nat) (x1 : Int32) (x2 : Int32) (x3 : Int32) (x5 : Int32) (t0 : Int32) (s : ST), f_X14_grains_b60 K31 r0 x1 x2 x3 x5 t0 s = some (rv, sf) → ∀ (H : Heap) (locs : List Loc) (ls : Array Slot), lv_has ls 6 [(0, .ref (a r0)), (1, .int x1), (2, .int x2), (3, .int x3), (5, .int x5)] → AW G a A s s0.heap H locs → WB p l e (rmD 4) s0 m args below meth c H locs G A P 60 ls [.int t0] := by
    intro K31 hK31 r0 x1 x2 x3 x5 t0 s hf H locs ls hl hW
    unfold f_X14_grains_b60 at hf
    refine lv_istore (lv' := [(4, .int t0), (0, .ref (a r0)), (1, .int x1), (2, .int x2), (3, .int x3), (5, .int x5)]) hx hb dX14_grains_60 hl (by decide) rfl (fun ls hl => ?_)
    obtain ⟨v62, ev62, hf⟩ := bnd_some hf
    refine lv_iinc (v := v62) (lv' := [(5, .int v62), (4, .int t0), (0, .ref (a r0)), (1, .int x1), (2, .int x2), (3, .int x3)]) hx hb dX14_grains_62 hl (k := 5) rfl (by rw [ev62]; rfl) (by decide) rfl (fun ls hl => ?_)
    refine lv_goto (tgt := 31) hx hb dX14_grains_65 (by decide) ?_
    exact hK31 r0 x1 x2 x3 t0 v62 s hf _ _ _ (lv_sub hl [2, 3, 4, 5, 1, 0] rfl) hW
  have B59 : ∀ (K31 : Nat → Int32 → Int32 → Int32 → Int32 → Int32 → ST → Option (Int32 × ST)) (hK31 : ∀ (r0 : Nat) (x1 : Int32) (x2 : Int32) (x3 : Int32) (x4 : Int32) (x5 : Int32) (s : ST), K31 r0 x1 x2 x3 x4 x5 s = some (rv, sf) → ∀ (H : Heap) (locs : List Loc) (ls : Array Slot), lv_has ls 6 [(0, .ref (a r0)), (1, .int x1), (2, .int x2), (3, .int x3), (4, .int x4), (5, .int x5)] → AW G a A s s0.heap H locs → WB p l e (rmD 4) s0 m args below meth c H locs G A P 31 ls []), ∀ (r0 : Nat) (x1 : Int32) (x2 : Int32) (x3 : Int32) (x5 : Int32) (s : ST), f_X14_grains_b59 K31 r0 x1 x2 x3 x5 s = some (rv, sf) → ∀ (H : Heap) (locs : List Loc) (ls : Array Slot), lv_has ls 6 [(0, .ref (a r0)), (1, .int x1), (2, .int x2), (3, .int x3), (5, .int x5)] → AW G a A s s0.heap H locs → WB p l e (rmD 4) s0 m args below meth c H locs G A P 59 ls [] := by
    intro K31 hK31 r0 x1 x2 x3 x5 s hf H locs ls hl hW
    unfold f_X14_grains_b59 at hf
    refine lv_iconst (v := 0) hx hb dX14_grains_59 (by decide) ?_
    exact B60 K31 hK31 r0 x1 x2 x3 x5 0 s hf _ _ _ (lv_sub hl [0, 1, 2, 3, 4] rfl) hW
  have B31 : ∀ (K14 : Nat → Int32 → Int32 → Int32 → ST → Option (Int32 × ST)) (hK14 : ∀ (r0 : Nat) (x1 : Int32) (x2 : Int32) (x3 : Int32) (s : ST), K14 r0 x1 x2 x3 s = some (rv, sf) → ∀ (H : Heap) (locs : List Loc) (ls : Array Slot), lv_has ls 6 [(0, .ref (a r0)), (1, .int x1), (2, .int x2), (3, .int x3)] → AW G a A s s0.heap H locs → WB p l e (rmD 4) s0 m args below meth c H locs G A P 14 ls []), ∀ (n : Nat), ∀ (r0 : Nat) (x1 : Int32) (x2 : Int32) (x3 : Int32) (x4 : Int32) (x5 : Int32) (s : ST), f_X14_grains_b31 K14 n r0 x1 x2 x3 x4 x5 s = some (rv, sf) → ∀ (H : Heap) (locs : List Loc) (ls : Array Slot), lv_has ls 6 [(0, .ref (a r0)), (1, .int x1), (2, .int x2), (3, .int x3), (4, .int x4), (5, .int x5)] → AW G a A s s0.heap H locs → WB p l e (rmD 4) s0 m args below meth c H locs G A P 31 ls [] := by
    intro K14 hK14
    intro n
    induction n with
    | zero => intro r0 x1 x2 x3 x4 x5 s hf; cases hf
    | succ n ih =>
      intro r0 x1 x2 x3 x4 x5 s hf H locs ls hl hW
      rw [f_X14_grains_b31] at hf
      refine lv_iload hx hb dX14_grains_31 (lv_at hl 5 rfl) ?_
      refine lv_aload_n hx hb dX14_grains_33 rfl (lv_at hl 0 rfl) ?_
      obtain ⟨g34, hf⟩ := gd_some hf
      refine aw_gI hC hW g34 fl_X14_117 rfl dX14_grains_34 ?_
      refine lv_icmp_ge (tgt := 68) hx hb dX14_grains_37 (by decide) (fun c37 => ?_) (fun c37 => ?_)
      · have hf := ifp c37 hf
        refine lv_iload_n hx hb dX14_grains_68 rfl (lv_at hl 2 rfl) ?_
        refine lv_iload hx hb dX14_grains_69 (lv_at hl 4 rfl) ?_
        refine lv_if_eq (tgt := 80) hx hb dX14_grains_71 (by decide) (fun c71 => ?_) (fun c71 => ?_)
        · have hf := ifp c71 hf
          refine lv_iconst (v := 0) hx hb dX14_grains_80 (by decide) ?_
          exact B81 K14 hK14 r0 x1 x3 0 x2 s hf _ _ _ (lv_sub hl [0, 1, 3] rfl) hW
        · have hf := ifn c71 hf
          refine lv_iconst (v := 1) hx hb dX14_grains_74 (by decide) ?_
          refine lv_iload_n hx hb dX14_grains_75 rfl (lv_at hl 3 rfl) ?_
          refine lv_ishl hx hb dX14_grains_76 ?_
          refine lv_goto (tgt := 81) hx hb dX14_grains_77 (by decide) ?_
          exact B81 K14 hK14 r0 x1 x3 (1 <<< (x3 &&& 31)) x2 s hf _ _ _ (lv_sub hl [0, 1, 3] rfl) hW
      · have hf := ifn c37 hf
        refine lv_iload hx hb dX14_grains_40 (lv_at hl 4 rfl) ?_
        refine lv_if_eq (tgt := 59) hx hb dX14_grains_42 (by decide) (fun c42 => ?_) (fun c42 => ?_)
        · have hf := ifp c42 hf
          exact B59 (f_X14_grains_b31 K14 n) ih r0 x1 x2 x3 x5 s hf _ _ _ (lv_sub hl [0, 1, 2, 3, 5] rfl) hW
        · have hf := ifn c42 hf
          refine lv_aload_n hx hb dX14_grains_45 rfl (lv_at hl 0 rfl) ?_
          refine lv_iload hx hb dX14_grains_46 (lv_at hl 5 rfl) ?_
          refine lv_iconst (v := 0) hx hb dX14_grains_48 (by decide) ?_
          obtain ⟨v49, s49, h49, hf⟩ := ob_some hf
          refine aw_dV1 (r := r0) (As := [.int x5, .int 0]) (rest := []) (ct_X14_weightsOf l G a r0 x5 0 s v49 s49 h49) hC hW hl.1 vy_X14_weightsOf (Or.inl q1850) g34 rfl rfl rfl rfl (Nat.le_of_ble_eq_true rfl) ⟨Nat.le_of_ble_eq_true rfl, Nat.le_of_ble_eq_true rfl⟩ ⟨Nat.le_of_ble_eq_true rfl, Nat.le_of_ble_eq_true rfl⟩ dX14_grains_49 (fun H locs hW => ?_)
          refine lv_if_le (tgt := 59) hx hb dX14_grains_52 (by decide) (fun c52 => ?_) (fun c52 => ?_)
          · have hf := ifp c52 hf
            exact B59 (f_X14_grains_b31 K14 n) ih r0 x1 x2 x3 x5 s49 hf _ _ _ (lv_sub hl [0, 1, 2, 3, 5] rfl) hW
          · have hf := ifn c52 hf
            refine lv_iconst (v := 1) hx hb dX14_grains_55 (by decide) ?_
            refine lv_goto (tgt := 60) hx hb dX14_grains_56 (by decide) ?_
            exact B60 (f_X14_grains_b31 K14 n) ih r0 x1 x2 x3 x5 1 s49 hf _ _ _ (lv_sub hl [0, 1, 2, 3, 5] rfl) hW
  have B14 : ∀ (n : Nat), ∀ (r0 : Nat) (x1 : Int32) (x2 : Int32) (x3 : Int32) (s : ST), f_X14_grains_b14 n r0 x1 x2 x3 s = some (rv, sf) → ∀ (H : Heap) (locs : List Loc) (ls : Array Slot), lv_has ls 6 [(0, .ref (a r0)), (1, .int x1), (2, .int x2), (3, .int x3)] → AW G a A s s0.heap H locs → WB p l e (rmD 4) s0 m args below meth c H locs G A P 14 ls [] := by
    intro n
    induction n with
    | zero => intro r0 x1 x2 x3 s hf; cases hf
    | succ n ih =>
      intro r0 x1 x2 x3 s hf H locs ls hl hW
      rw [f_X14_grains_b14] at hf
      refine lv_iload_n hx hb dX14_grains_14 rfl (lv_at hl 3 rfl) ?_
      refine lv_bipush (v := 9) hx hb dX14_grains_15 (by decide) ?_
      refine lv_icmp_gt (tgt := 89) hx hb dX14_grains_17 (by decide) (fun c17 => ?_) (fun c17 => ?_)
      · have hf := ifp c17 hf
        refine lv_aload_n hx hb dX14_grains_89 rfl (lv_at hl 0 rfl) ?_
        refine lv_iload_n hx hb dX14_grains_90 rfl (lv_at hl 1 rfl) ?_
        obtain ⟨g91, hf⟩ := gd_some hf
        obtain ⟨s91, e91, hf⟩ := bnd_some hf
        refine aw_pI e91 hC hW g91 fl_X14_41 (Or.inl fn_13_8) rfl rfl rfl dX14_grains_91 (fun H locs hW => ?_)
        have g91 := ko_pI e91 g91
        refine lv_iload_n hx hb dX14_grains_94 rfl (lv_at hl 2 rfl) ?_
        obtain ⟨e1, e2⟩ := so_inj hf
        exact aw_iret hC hW hr rfl (p_eq hP (congrArg (fun z => some (Value.int z)) e1) e2) (Nat.le_of_ble_eq_true rfl) (Nat.le_of_ble_eq_true rfl) dX14_grains_95
      · have hf := ifn c17 hf
        refine lv_aload_n hx hb dX14_grains_20 rfl (lv_at hl 0 rfl) ?_
        refine lv_iload_n hx hb dX14_grains_21 rfl (lv_at hl 3 rfl) ?_
        obtain ⟨g22, hf⟩ := gd_some hf
        obtain ⟨s22, e22, hf⟩ := bnd_some hf
        refine aw_pI e22 hC hW g22 fl_X14_41 (Or.inl fn_13_8) rfl rfl rfl dX14_grains_22 (fun H locs hW => ?_)
        have g22 := ko_pI e22 g22
        refine lv_iconst (v := 1) hx hb dX14_grains_25 (by decide) ?_
        refine lv_istore (lv' := [(4, .int 1), (0, .ref (a r0)), (1, .int x1), (2, .int x2), (3, .int x3)]) hx hb dX14_grains_26 hl (by decide) rfl (fun ls hl => ?_)
        refine lv_iconst (v := 0) hx hb dX14_grains_28 (by decide) ?_
        refine lv_istore (lv' := [(5, .int 0), (4, .int 1), (0, .ref (a r0)), (1, .int x1), (2, .int x2), (3, .int x3)]) hx hb dX14_grains_29 hl (by decide) rfl (fun ls hl => ?_)
        exact B31 (f_X14_grains_b14 n) ih fuel r0 x1 x2 x3 1 0 s22 hf _ _ _ (lv_sub hl [2, 3, 4, 5, 1, 0] rfl) hW
  unfold f_X14_grains at hf
  refine lv_aload_n hx hb dX14_grains_0 rfl (lv_at hl 0 rfl) ?_
  refine lv_iconst (v := 0) hx hb dX14_grains_1 (by decide) ?_
  obtain ⟨g2, hf⟩ := gd_some hf
  obtain ⟨s2, e2, hf⟩ := bnd_some hf
  refine aw_pI e2 hC hW g2 fl_X14_3 (Or.inl fn_13_0) rfl rfl rfl dX14_grains_2 (fun H locs hW => ?_)
  have g2 := ko_pI e2 g2
  refine lv_aload_n hx hb dX14_grains_5 rfl (lv_at hl 0 rfl) ?_
  refine aw_gI hC hW g2 fl_X14_41 rfl dX14_grains_6 ?_
  obtain ⟨v9, ev9, hf⟩ := bnd_some hf
  refine top_i ev9 ?_
  refine lv_istore_n (lv' := [(1, .int v9), (0, .ref (a o))]) hx hb dX14_grains_9 rfl hl (by decide) rfl (fun ls hl => ?_)
  refine lv_iconst (v := 0) hx hb dX14_grains_10 (by decide) ?_
  refine lv_istore_n (lv' := [(2, .int 0), (1, .int v9), (0, .ref (a o))]) hx hb dX14_grains_11 rfl hl (by decide) rfl (fun ls hl => ?_)
  refine lv_iconst (v := 1) hx hb dX14_grains_12 (by decide) ?_
  refine lv_istore_n (lv' := [(3, .int 1), (2, .int 0), (1, .int v9), (0, .ref (a o))]) hx hb dX14_grains_13 rfl hl (by decide) rfl (fun ls hl => ?_)
  exact B14 fuel o v9 0 1 s2 hf _ _ _ (lv_sub hl [3, 2, 1, 0] rfl) hW
def f_X14_takes_b29 (r0 : Nat) (t0 : Int32) (s : ST) : Option (Int32 × ST) :=
  gd (r0 < s.1 ∧ (kd s r0).1 = 14) <|
  bnd (p_flag t0) fun v36 =>
  bnd (pI s r0 14 ((gi s r0 14) + v36)) fun s40 =>
  gd (t0 = 0 ∨ t0 = 1) <|
  some (t0, s40)
def f_X14_takes_b28 (r0 : Nat) (s : ST) : Option (Int32 × ST) :=
  f_X14_takes_b29 r0 0 s
def f_X14_takes (o : Nat) (x1 : Int32) (s : ST) : Option (Int32 × ST) :=
  gd (o < s.1 ∧ (kd s o).1 = 14) <|
  if (gi s o 15) ≤ (gi s o 14) then (f_X14_takes_b28 o s) else (gr s o 12).bind fun q12 =>
  gd (q12 < s.1 ∧ (kd s q12).1 = 100 ∧ ¬ (((gi s o 14) : Int32) < 0 ∨ (kd s q12).2 ≤ ((gi s o 14) : Int32).toNatClampNeg)) <|
  if (gi s q12 ((gi s o 14) : Int32).toNatClampNeg) = x1 then (f_X14_takes_b29 o 1 s) else f_X14_takes_b28 o s
set_option maxHeartbeats 4000000 in
theorem ct_X14_takes (l : Launch) (G : GM) (a : Nat → Nat) (o : Nat) (x1 : Int32) (s : ST) (rv : Int32) (sf : ST) (hf : f_X14_takes o x1 s = some (rv, sf)) : MD l G yX14_takes (ws_ yX14_takes cX14_takes 3 (some .boolean)) 1 [.ref (a o), .int x1] a s (some (.int rv)) sf := by
  refine md_of (d := 1) (lv := [(0, .ref (a o)), (1, .int x1)]) (Or.inl (by decide)) (Nat.le_of_ble_eq_true rfl) rfl ?_
  intro p e s0 m args below meth c ls A P hP hC hr hnm hW hl
  have hx := hC.1
  have hb := hC.2.1
  have hts := hC.2.2.2.2.1
  have B29 : ∀ (r0 : Nat) (t0 : Int32) (s : ST), f_X14_takes_b29 r0 t0 s = some (rv, sf) → ∀ (H : Heap) (locs : List Loc) (ls : Array Slot), lv_has ls 3 [(0, .ref (a r0))] → AW G a A s s0.heap H locs → WB p l e (rmD 1) s0 m args below meth c H locs G A P 29 ls [.int t0] := by
    intro r0 t0 s hf H locs ls hl hW
    unfold f_X14_takes_b29 at hf
    refine lv_istore_n (lv' := [(2, .int t0), (0, .ref (a r0))]) hx hb dX14_takes_29 rfl hl (by decide) rfl (fun ls hl => ?_)
    refine lv_aload_n hx hb dX14_takes_30 rfl (lv_at hl 1 rfl) ?_
    refine lv_dup hx hb dX14_takes_31 rfl ?_
    obtain ⟨g32, hf⟩ := gd_some hf
    refine aw_gI hC hW g32 fl_X14_135 rfl dX14_takes_32 ?_
    refine lv_iload_n hx hb dX14_takes_35 rfl (lv_at hl 0 rfl) ?_
    obtain ⟨v36, ev36, hf⟩ := bnd_some hf
    refine aw_dS1 (As := [.int t0]) (rest := [.int (gi s r0 14), .ref (a r0)]) (pc_X14_flag l G a t0 s) hC hW hl.1 sy_X14_flag (Or.inl q1544) rfl rfl (Nat.le_of_ble_eq_true rfl) ⟨Nat.le_of_ble_eq_true rfl, Nat.le_of_ble_eq_true rfl⟩ ⟨Nat.le_of_ble_eq_true rfl, Nat.le_of_ble_eq_true rfl⟩ dX14_takes_36 (fun H locs hW => ?_)
    refine top_i ev36 ?_
    refine lv_iadd hx hb dX14_takes_39 ?_
    obtain ⟨s40, e40, hf⟩ := bnd_some hf
    refine aw_pI e40 hC hW g32 fl_X14_135 (Or.inl fn_13_14) rfl rfl rfl dX14_takes_40 (fun H locs hW => ?_)
    have g32 := ko_pI e40 g32
    refine lv_iload_n hx hb dX14_takes_43 rfl (lv_at hl 0 rfl) ?_
    obtain ⟨gz44, hf⟩ := gd_some hf
    obtain ⟨e1, e2⟩ := so_inj hf
    exact aw_iret hC hW hr (nb01 gz44) (p_eq hP (congrArg (fun z => some (Value.int z)) e1) e2) (Nat.le_of_ble_eq_true rfl) (Nat.le_of_ble_eq_true rfl) dX14_takes_44
  have B28 : ∀ (r0 : Nat) (s : ST), f_X14_takes_b28 r0 s = some (rv, sf) → ∀ (H : Heap) (locs : List Loc) (ls : Array Slot), lv_has ls 3 [(0, .ref (a r0))] → AW G a A s s0.heap H locs → WB p l e (rmD 1) s0 m args below meth c H locs G A P 28 ls [] := by
    intro r0 s hf H locs ls hl hW
    unfold f_X14_takes_b28 at hf
    refine lv_iconst (v := 0) hx hb dX14_takes_28 (by decide) ?_
    exact B29 r0 0 s hf _ _ _ (lv_sub hl [0] rfl) hW
  unfold f_X14_takes at hf
  refine lv_aload_n hx hb dX14_takes_0 rfl (lv_at hl 0 rfl) ?_
  obtain ⟨g1, hf⟩ := gd_some hf
  refine aw_gI hC hW g1 fl_X14_135 rfl dX14_takes_1 ?_
  refine lv_aload_n hx hb dX14_takes_4 rfl (lv_at hl 0 rfl) ?_
  refine aw_gI hC hW g1 fl_X14_147 rfl dX14_takes_5 ?_
  refine lv_icmp_ge (tgt := 28) hx hb dX14_takes_8 (by decide) (fun c8 => ?_) (fun c8 => ?_)
  · have hf := ifp c8 hf
    exact B28 o s hf _ _ _ (lv_sub hl [0] rfl) hW
  · have hf := ifn c8 hf
    refine lv_aload_n hx hb dX14_takes_11 rfl (lv_at hl 0 rfl) ?_
    obtain ⟨q12, hq12, hf⟩ := bi_some hf
    refine aw_gR hC hW g1 fl_X14_50 rfl hq12 dX14_takes_12 ?_
    refine lv_aload_n hx hb dX14_takes_15 rfl (lv_at hl 0 rfl) ?_
    refine aw_gI hC hW g1 fl_X14_135 rfl dX14_takes_16 ?_
    obtain ⟨g19, hf⟩ := gd_some hf
    refine aw_iald hC hW g19 dX14_takes_19 ?_
    refine lv_iload_n hx hb dX14_takes_20 rfl (lv_at hl 1 rfl) ?_
    refine lv_icmp_ne (tgt := 28) hx hb dX14_takes_21 (by decide) (fun c21 => ?_) (fun c21 => ?_)
    · have hf := ifn c21 hf
      exact B28 o s hf _ _ _ (lv_sub hl [0] rfl) hW
    · have hf := ifp c21 hf
      refine lv_iconst (v := 1) hx hb dX14_takes_24 (by decide) ?_
      refine lv_goto (tgt := 29) hx hb dX14_takes_25 (by decide) ?_
      exact B29 o 1 s hf _ _ _ (lv_sub hl [0] rfl) hW
def f_X14_isDigit (o : Nat) (s : ST) : Option (Int32 × ST) :=
  gd (o < s.1 ∧ (kd s o).1 = 14) <|
  if (gi s o 15) ≤ (gi s o 14) then (some (0, s)) else (gr s o 12).bind fun q12 =>
  gd (q12 < s.1 ∧ (kd s q12).1 = 100 ∧ ¬ (((gi s o 14) : Int32) < 0 ∨ (kd s q12).2 ≤ ((gi s o 14) : Int32).toNatClampNeg)) <|
  bnd (p_in (((gi s q12 ((gi s o 14) : Int32).toNatClampNeg) : Int32).toInt64) 48 57) fun v27 =>
  if v27 = 0 then (some (0, s)) else some (1, s)
set_option maxHeartbeats 4000000 in
theorem ct_X14_isDigit (l : Launch) (G : GM) (a : Nat → Nat) (o : Nat) (s : ST) (rv : Int32) (sf : ST) (hf : f_X14_isDigit o s = some (rv, sf)) : MD l G yX14_isDigit (ws_ yX14_isDigit cX14_isDigit 1 (some .boolean)) 1 [.ref (a o)] a s (some (.int rv)) sf := by
  refine md_of (d := 1) (lv := [(0, .ref (a o))]) (Or.inl (by decide)) (Nat.le_of_ble_eq_true rfl) rfl ?_
  intro p e s0 m args below meth c ls A P hP hC hr hnm hW hl
  have hx := hC.1
  have hb := hC.2.1
  have hts := hC.2.2.2.2.1
  unfold f_X14_isDigit at hf
  refine lv_aload_n hx hb dX14_isDigit_0 rfl (lv_at hl 0 rfl) ?_
  obtain ⟨g1, hf⟩ := gd_some hf
  refine aw_gI hC hW g1 fl_X14_135 rfl dX14_isDigit_1 ?_
  refine lv_aload_n hx hb dX14_isDigit_4 rfl (lv_at hl 0 rfl) ?_
  refine aw_gI hC hW g1 fl_X14_147 rfl dX14_isDigit_5 ?_
  refine lv_icmp_ge (tgt := 37) hx hb dX14_isDigit_8 (by decide) (fun c8 => ?_) (fun c8 => ?_)
  · have hf := ifp c8 hf
    refine lv_iconst (v := 0) hx hb dX14_isDigit_37 (by decide) ?_
    obtain ⟨e1, e2⟩ := so_inj hf
    exact aw_iret hC hW hr rfl (p_eq hP (congrArg (fun z => some (Value.int z)) e1) e2) (Nat.le_of_ble_eq_true rfl) (Nat.le_of_ble_eq_true rfl) dX14_isDigit_38
  · have hf := ifn c8 hf
    refine lv_aload_n hx hb dX14_isDigit_11 rfl (lv_at hl 0 rfl) ?_
    obtain ⟨q12, hq12, hf⟩ := bi_some hf
    refine aw_gR hC hW g1 fl_X14_50 rfl hq12 dX14_isDigit_12 ?_
    refine lv_aload_n hx hb dX14_isDigit_15 rfl (lv_at hl 0 rfl) ?_
    refine aw_gI hC hW g1 fl_X14_135 rfl dX14_isDigit_16 ?_
    obtain ⟨g19, hf⟩ := gd_some hf
    refine aw_iald hC hW g19 dX14_isDigit_19 ?_
    refine lv_i2l (v := ((gi s q12 ((gi s o 14) : Int32).toNatClampNeg) : Int32).toInt64) hx hb dX14_isDigit_20 rfl ?_
    refine lv_ldc2 (v := 48) hx hb hC.2.2.2.1 (hts _ q1534) dX14_isDigit_21 ?_
    refine lv_ldc2 (v := 57) hx hb hC.2.2.2.1 (hts _ q1535) dX14_isDigit_24 ?_
    obtain ⟨v27, ev27, hf⟩ := bnd_some hf
    refine aw_dS1 (As := [.long (((gi s q12 ((gi s o 14) : Int32).toNatClampNeg) : Int32).toInt64), .long 48, .long 57]) (rest := []) (pc_X14_in l G a (((gi s q12 ((gi s o 14) : Int32).toNatClampNeg) : Int32).toInt64) 48 57 s) hC hW hl.1 sy_X14_in (Or.inl q1514) rfl rfl (Nat.le_of_ble_eq_true rfl) ⟨Nat.le_of_ble_eq_true rfl, Nat.le_of_ble_eq_true rfl⟩ ⟨Nat.le_of_ble_eq_true rfl, Nat.le_of_ble_eq_true rfl⟩ dX14_isDigit_27 (fun H locs hW => ?_)
    refine top_i ev27 ?_
    refine lv_if_eq (tgt := 37) hx hb dX14_isDigit_30 (by decide) (fun c30 => ?_) (fun c30 => ?_)
    · have hf := ifp c30 hf
      refine lv_iconst (v := 0) hx hb dX14_isDigit_37 (by decide) ?_
      obtain ⟨e1, e2⟩ := so_inj hf
      exact aw_iret hC hW hr rfl (p_eq hP (congrArg (fun z => some (Value.int z)) e1) e2) (Nat.le_of_ble_eq_true rfl) (Nat.le_of_ble_eq_true rfl) dX14_isDigit_38
    · have hf := ifn c30 hf
      refine lv_iconst (v := 1) hx hb dX14_isDigit_33 (by decide) ?_
      refine lv_goto (tgt := 38) hx hb dX14_isDigit_34 (by decide) ?_
      obtain ⟨e1, e2⟩ := so_inj hf
      exact aw_iret hC hW hr rfl (p_eq hP (congrArg (fun z => some (Value.int z)) e1) e2) (Nat.le_of_ble_eq_true rfl) (Nat.le_of_ble_eq_true rfl) dX14_isDigit_38
def f_X14_number_b4 : Nat → Nat → Int32 → Int32 → Int32 → ST → Option (Int32 × ST)
  | 0, _, _, _, _, _ => none
  | n + 1, r0, x1, x2, x3, s =>
  if x1 ≤ x3 then (some (x2, s)) else gd (r0 < s.1 ∧ (kd s r0).1 = 14) <|
  ob (f_X14_isDigit r0 s) fun v10 s10 =>
  if v10 = 0 then (some (x2, s10)) else gd (r0 < s10.1 ∧ (kd s10 r0).1 = 14) <|
  (gr s10 r0 12).bind fun q21 =>
  gd (q21 < s10.1 ∧ (kd s10 q21).1 = 100 ∧ ¬ (((gi s10 r0 14) : Int32) < 0 ∨ (kd s10 q21).2 ≤ ((gi s10 r0 14) : Int32).toNatClampNeg)) <|
  bnd ((((10 * x2) + (gi s10 q21 ((gi s10 r0 14) : Int32).toNatClampNeg)) - 48) : Int32) fun v33 =>
  bnd (pI s10 r0 14 ((gi s10 r0 14) + 1)) fun s41 =>
  bnd (x3 + 1 : Int32) fun v44 =>
  f_X14_number_b4 n r0 x1 v33 v44 s41
def f_X14_number (o : Nat) (x1 : Int32) (s : ST) : Option (Int32 × ST) :=
  f_X14_number_b4 fuel o x1 0 0 s
set_option maxHeartbeats 4000000 in
theorem ct_X14_number (l : Launch) (G : GM) (a : Nat → Nat) (o : Nat) (x1 : Int32) (s : ST) (rv : Int32) (sf : ST) (hf : f_X14_number o x1 s = some (rv, sf)) : MD l G yX14_number (ws_ yX14_number cX14_number 4 (some .int)) 2 [.ref (a o), .int x1] a s (some (.int rv)) sf := by
  refine md_of (d := 2) (lv := [(0, .ref (a o)), (1, .int x1)]) (Or.inl (by decide)) (Nat.le_of_ble_eq_true rfl) rfl ?_
  intro p e s0 m args below meth c ls A P hP hC hr hnm hW hl
  have hx := hC.1
  have hb := hC.2.1
  have hts := hC.2.2.2.2.1
  have B4 : ∀ (n : Nat), ∀ (r0 : Nat) (x1 : Int32) (x2 : Int32) (x3 : Int32) (s : ST), f_X14_number_b4 n r0 x1 x2 x3 s = some (rv, sf) → ∀ (H : Heap) (locs : List Loc) (ls : Array Slot), lv_has ls 4 [(0, .ref (a r0)), (1, .int x1), (2, .int x2), (3, .int x3)] → AW G a A s s0.heap H locs → WB p l e (rmD 2) s0 m args below meth c H locs G A P 4 ls [] := by
    intro n
    induction n with
    | zero => intro r0 x1 x2 x3 s hf; cases hf
    | succ n ih =>
      intro r0 x1 x2 x3 s hf H locs ls hl hW
      rw [f_X14_number_b4] at hf
      refine lv_iload_n hx hb dX14_number_4 rfl (lv_at hl 3 rfl) ?_
      refine lv_iload_n hx hb dX14_number_5 rfl (lv_at hl 1 rfl) ?_
      refine lv_icmp_ge (tgt := 50) hx hb dX14_number_6 (by decide) (fun c6 => ?_) (fun c6 => ?_)
      · have hf := ifp c6 hf
        refine lv_iload_n hx hb dX14_number_50 rfl (lv_at hl 2 rfl) ?_
        obtain ⟨e1, e2⟩ := so_inj hf
        exact aw_iret hC hW hr rfl (p_eq hP (congrArg (fun z => some (Value.int z)) e1) e2) (Nat.le_of_ble_eq_true rfl) (Nat.le_of_ble_eq_true rfl) dX14_number_51
      · have hf := ifn c6 hf
        refine lv_aload_n hx hb dX14_number_9 rfl (lv_at hl 0 rfl) ?_
        obtain ⟨g10, hf⟩ := gd_some hf
        obtain ⟨v10, s10, h10, hf⟩ := ob_some hf
        refine aw_dV1 (r := r0) (As := []) (rest := []) (ct_X14_isDigit l G a r0 s v10 s10 h10) hC hW hl.1 vy_X14_isDigit (Or.inl q1530) g10 rfl rfl rfl rfl (Nat.le_of_ble_eq_true rfl) ⟨Nat.le_of_ble_eq_true rfl, Nat.le_of_ble_eq_true rfl⟩ ⟨Nat.le_of_ble_eq_true rfl, Nat.le_of_ble_eq_true rfl⟩ dX14_number_10 (fun H locs hW => ?_)
        refine lv_if_eq (tgt := 50) hx hb dX14_number_13 (by decide) (fun c13 => ?_) (fun c13 => ?_)
        · have hf := ifp c13 hf
          refine lv_iload_n hx hb dX14_number_50 rfl (lv_at hl 2 rfl) ?_
          obtain ⟨e1, e2⟩ := so_inj hf
          exact aw_iret hC hW hr rfl (p_eq hP (congrArg (fun z => some (Value.int z)) e1) e2) (Nat.le_of_ble_eq_true rfl) (Nat.le_of_ble_eq_true rfl) dX14_number_51
        · have hf := ifn c13 hf
          refine lv_bipush (v := 10) hx hb dX14_number_16 (by decide) ?_
          refine lv_iload_n hx hb dX14_number_18 rfl (lv_at hl 2 rfl) ?_
          refine lv_imul hx hb dX14_number_19 ?_
          refine lv_aload_n hx hb dX14_number_20 rfl (lv_at hl 0 rfl) ?_
          obtain ⟨g21, hf⟩ := gd_some hf
          obtain ⟨q21, hq21, hf⟩ := bi_some hf
          refine aw_gR hC hW g21 fl_X14_50 rfl hq21 dX14_number_21 ?_
          refine lv_aload_n hx hb dX14_number_24 rfl (lv_at hl 0 rfl) ?_
          refine aw_gI hC hW g21 fl_X14_135 rfl dX14_number_25 ?_
          obtain ⟨g28, hf⟩ := gd_some hf
          refine aw_iald hC hW g28 dX14_number_28 ?_
          refine lv_iadd hx hb dX14_number_29 ?_
          refine lv_bipush (v := 48) hx hb dX14_number_30 (by decide) ?_
          refine lv_isub hx hb dX14_number_32 ?_
          obtain ⟨v33, ev33, hf⟩ := bnd_some hf
          refine top_i ev33 ?_
          refine lv_istore_n (lv' := [(2, .int v33), (0, .ref (a r0)), (1, .int x1), (3, .int x3)]) hx hb dX14_number_33 rfl hl (by decide) rfl (fun ls hl => ?_)
          refine lv_aload_n hx hb dX14_number_34 rfl (lv_at hl 1 rfl) ?_
          refine lv_dup hx hb dX14_number_35 rfl ?_
          refine aw_gI hC hW g21 fl_X14_135 rfl dX14_number_36 ?_
          refine lv_iconst (v := 1) hx hb dX14_number_39 (by decide) ?_
          refine lv_iadd hx hb dX14_number_40 ?_
          obtain ⟨s41, e41, hf⟩ := bnd_some hf
          refine aw_pI e41 hC hW g21 fl_X14_135 (Or.inl fn_13_14) rfl rfl rfl dX14_number_41 (fun H locs hW => ?_)
          have g21 := ko_pI e41 g21
          obtain ⟨v44, ev44, hf⟩ := bnd_some hf
          refine lv_iinc (v := v44) (lv' := [(3, .int v44), (2, .int v33), (0, .ref (a r0)), (1, .int x1)]) hx hb dX14_number_44 hl (k := 3) rfl (by rw [ev44]; rfl) (by decide) rfl (fun ls hl => ?_)
          refine lv_goto (tgt := 4) hx hb dX14_number_47 (by decide) ?_
          exact ih r0 x1 v33 v44 s41 hf _ _ _ (lv_sub hl [2, 3, 1, 0] rfl) hW
  unfold f_X14_number at hf
  refine lv_iconst (v := 0) hx hb dX14_number_0 (by decide) ?_
  refine lv_istore_n (lv' := [(2, .int 0), (0, .ref (a o)), (1, .int x1)]) hx hb dX14_number_1 rfl hl (by decide) rfl (fun ls hl => ?_)
  refine lv_iconst (v := 0) hx hb dX14_number_2 (by decide) ?_
  refine lv_istore_n (lv' := [(3, .int 0), (2, .int 0), (0, .ref (a o)), (1, .int x1)]) hx hb dX14_number_3 rfl hl (by decide) rfl (fun ls hl => ?_)
  exact B4 fuel o x1 0 0 s hf _ _ _ (lv_sub hl [2, 3, 1, 0] rfl) hW
def f_X14_readsHabit_b86 (r0 : Nat) (x1 : Int32) (x2 : Int32) (s : ST) : Option (Int32 × ST) :=
  gd (r0 < s.1 ∧ (kd s r0).1 = 14) <|
  (gr s r0 20).bind fun q87 =>
  gd (q87 < s.1 ∧ (kd s q87).1 = 100 ∧ ¬ ((x1 : Int32) < 0 ∨ (kd s q87).2 ≤ (x1 : Int32).toNatClampNeg)) <|
  bnd (pI s q87 (x1 : Int32).toNatClampNeg x2) fun s92 =>
  some (1, s92)
def f_X14_readsHabit_b46 (K2 : Nat → Int32 → Int32 → ST → Option (Int32 × ST)) (r0 : Nat) (x1 : Int32) (x2 : Int32) (x3 : Int32) (t0 : Int32) (t1 : Int32) (w2 : Nat) (s : ST) : Option (Int32 × ST) :=
  bnd (p_flag t0) fun v46 =>
  gd (w2 < s.1 ∧ (kd s w2).1 = 14) <|
  bnd (pI s w2 14 (t1 + v46)) fun s50 =>
  gd (r0 < s50.1 ∧ (kd s50 r0).1 = 14) <|
  ob (f_X14_isDigit r0 s50) fun v54 s54 =>
  if v54 = 0 then (some (0, s54)) else gd (r0 < s54.1 ∧ (kd s54 r0).1 = 14) <|
  (gr s54 r0 19).bind fun q63 =>
  ob (f_X14_number r0 1 s54) fun v75 s75 =>
  gd (q63 < s75.1 ∧ (kd s75 q63).1 = 100 ∧ ¬ ((((6 * x1) + x2) : Int32) < 0 ∨ (kd s75 q63).2 ≤ (((6 * x1) + x2) : Int32).toNatClampNeg)) <|
  bnd (pI s75 q63 (((6 * x1) + x2) : Int32).toNatClampNeg (x3 * v75)) fun s79 =>
  bnd (x2 + 1 : Int32) fun v80 =>
  K2 r0 x1 v80 s79
def f_X14_readsHabit_b31 (K2 : Nat → Int32 → Int32 → ST → Option (Int32 × ST)) (r0 : Nat) (x1 : Int32) (x2 : Int32) (t0 : Int32) (s : ST) : Option (Int32 × ST) :=
  gd (r0 < s.1 ∧ (kd s r0).1 = 14) <|
  if 0 ≤ t0 then (f_X14_readsHabit_b46 K2 r0 x1 x2 t0 0 (gi s r0 14) r0 s) else f_X14_readsHabit_b46 K2 r0 x1 x2 t0 1 (gi s r0 14) r0 s
def f_X14_readsHabit_b2 : Nat → Nat → Int32 → Int32 → ST → Option (Int32 × ST)
  | 0, _, _, _, _ => none
  | n + 1, r0, x1, x2, s =>
  if 6 ≤ x2 then (f_X14_readsHabit_b86 r0 x1 x2 s) else gd (r0 < s.1 ∧ (kd s r0).1 = 14) <|
  ob (f_X14_among r0 1 s) fun v11 s11 =>
  if v11 < 0 then (f_X14_readsHabit_b86 r0 x1 x2 s11) else gd (r0 < s11.1 ∧ (kd s11 r0).1 = 14) <|
  ob (f_X14_takes r0 43 s11) fun v20 s20 =>
  if v20 = 0 then (f_X14_readsHabit_b31 (f_X14_readsHabit_b2 n) r0 x1 x2 (-1) s20) else f_X14_readsHabit_b31 (f_X14_readsHabit_b2 n) r0 x1 x2 1 s20
def f_X14_readsHabit (o : Nat) (x1 : Int32) (s : ST) : Option (Int32 × ST) :=
  f_X14_readsHabit_b2 fuel o x1 0 s
set_option maxHeartbeats 4000000 in
theorem ct_X14_readsHabit (l : Launch) (G : GM) (a : Nat → Nat) (o : Nat) (x1 : Int32) (s : ST) (rv : Int32) (sf : ST) (hf : f_X14_readsHabit o x1 s = some (rv, sf)) : MD l G yX14_readsHabit (ws_ yX14_readsHabit cX14_readsHabit 4 (some .boolean)) 5 [.ref (a o), .int x1] a s (some (.int rv)) sf := by
  refine md_of (d := 5) (lv := [(0, .ref (a o)), (1, .int x1)]) (Or.inl (by decide)) (Nat.le_of_ble_eq_true rfl) rfl ?_
  intro p e s0 m args below meth c ls A P hP hC hr hnm hW hl
  have hx := hC.1
  have hb := hC.2.1
  have hts := hC.2.2.2.2.1
  have B86 : ∀ (r0 : Nat) (x1 : Int32) (x2 : Int32) (s : ST), f_X14_readsHabit_b86 r0 x1 x2 s = some (rv, sf) → ∀ (H : Heap) (locs : List Loc) (ls : Array Slot), lv_has ls 4 [(0, .ref (a r0)), (1, .int x1), (2, .int x2)] → AW G a A s s0.heap H locs → WB p l e (rmD 5) s0 m args below meth c H locs G A P 86 ls [] := by
    intro r0 x1 x2 s hf H locs ls hl hW
    unfold f_X14_readsHabit_b86 at hf
    refine lv_aload_n hx hb dX14_readsHabit_86 rfl (lv_at hl 0 rfl) ?_
    obtain ⟨g87, hf⟩ := gd_some hf
    obtain ⟨q87, hq87, hf⟩ := bi_some hf
    refine aw_gR hC hW g87 fl_X14_62 rfl hq87 dX14_readsHabit_87 ?_
    refine lv_iload_n hx hb dX14_readsHabit_90 rfl (lv_at hl 1 rfl) ?_
    refine lv_iload_n hx hb dX14_readsHabit_91 rfl (lv_at hl 2 rfl) ?_
    obtain ⟨g92, hf⟩ := gd_some hf
    obtain ⟨s92, e92, hf⟩ := bnd_some hf
    refine aw_iast e92 hC hW g92 dX14_readsHabit_92 (fun H locs hW => ?_)
    have g87 := ko_pI e92 g87
    refine lv_iconst (v := 1) hx hb dX14_readsHabit_93 (by decide) ?_
    obtain ⟨e1, e2⟩ := so_inj hf
    exact aw_iret hC hW hr rfl (p_eq hP (congrArg (fun z => some (Value.int z)) e1) e2) (Nat.le_of_ble_eq_true rfl) (Nat.le_of_ble_eq_true rfl) dX14_readsHabit_94
  have B46 : ∀ (K2 : Nat → Int32 → Int32 → ST → Option (Int32 × ST)) (hK2 : ∀ (r0 : Nat) (x1 : Int32) (x2 : Int32) (s : ST), K2 r0 x1 x2 s = some (rv, sf) → ∀ (H : Heap) (locs : List Loc) (ls : Array Slot), lv_has ls 4 [(0, .ref (a r0)), (1, .int x1), (2, .int x2)] → AW G a A s s0.heap H locs → WB p l e (rmD 5) s0 m args below meth c H locs G A P 2 ls []), ∀ (r0 : Nat) (x1 : Int32) (x2 : Int32) (x3 : Int32) (t0 : Int32) (t1 : Int32) (w2 : Nat) (s : ST), f_X14_readsHabit_b46 K2 r0 x1 x2 x3 t0 t1 w2 s = some (rv, sf) → ∀ (H : Heap) (locs : List Loc) (ls : Array Slot), lv_has ls 4 [(0, .ref (a r0)), (1, .int x1), (2, .int x2), (3, .int x3)] → AW G a A s s0.heap H locs → WB p l e (rmD 5) s0 m args below meth c H locs G A P 46 ls [.int t0, .int t1, .ref (a w2)] := by
    intro K2 hK2 r0 x1 x2 x3 t0 t1 w2 s hf H locs ls hl hW
    unfold f_X14_readsHabit_b46 at hf
    obtain ⟨v46, ev46, hf⟩ := bnd_some hf
    refine aw_dS1 (As := [.int t0]) (rest := [.int t1, .ref (a w2)]) (pc_X14_flag l G a t0 s) hC hW hl.1 sy_X14_flag (Or.inl q1544) rfl rfl (Nat.le_of_ble_eq_true rfl) ⟨Nat.le_of_ble_eq_true rfl, Nat.le_of_ble_eq_true rfl⟩ ⟨Nat.le_of_ble_eq_true rfl, Nat.le_of_ble_eq_true rfl⟩ dX14_readsHabit_46 (fun H locs hW => ?_)
    refine top_i ev46 ?_
    refine lv_iadd hx hb dX14_readsHabit_49 ?_
    obtain ⟨g50, hf⟩ := gd_some hf
    obtain ⟨s50, e50, hf⟩ := bnd_some hf
    refine aw_pI e50 hC hW g50 fl_X14_135 (Or.inl fn_13_14) rfl rfl rfl dX14_readsHabit_50 (fun H locs hW => ?_)
    have g50 := ko_pI e50 g50
    refine lv_aload_n hx hb dX14_readsHabit_53 rfl (lv_at hl 0 rfl) ?_
    obtain ⟨g54, hf⟩ := gd_some hf
    obtain ⟨v54, s54, h54, hf⟩ := ob_some hf
    refine aw_dV1 (r := r0) (As := []) (rest := []) (ct_X14_isDigit l G a r0 s50 v54 s54 h54) hC hW hl.1 vy_X14_isDigit (Or.inl q1530) g54 rfl rfl rfl rfl (Nat.le_of_ble_eq_true rfl) ⟨Nat.le_of_ble_eq_true rfl, Nat.le_of_ble_eq_true rfl⟩ ⟨Nat.le_of_ble_eq_true rfl, Nat.le_of_ble_eq_true rfl⟩ dX14_readsHabit_54 (fun H locs hW => ?_)
    refine lv_if_ne (tgt := 62) hx hb dX14_readsHabit_57 (by decide) (fun c57 => ?_) (fun c57 => ?_)
    · have hf := ifn c57 hf
      refine lv_aload_n hx hb dX14_readsHabit_62 rfl (lv_at hl 0 rfl) ?_
      obtain ⟨g63, hf⟩ := gd_some hf
      obtain ⟨q63, hq63, hf⟩ := bi_some hf
      refine aw_gR hC hW g63 fl_X14_59 rfl hq63 dX14_readsHabit_63 ?_
      refine lv_bipush (v := 6) hx hb dX14_readsHabit_66 (by decide) ?_
      refine lv_iload_n hx hb dX14_readsHabit_68 rfl (lv_at hl 1 rfl) ?_
      refine lv_imul hx hb dX14_readsHabit_69 ?_
      refine lv_iload_n hx hb dX14_readsHabit_70 rfl (lv_at hl 2 rfl) ?_
      refine lv_iadd hx hb dX14_readsHabit_71 ?_
      refine lv_iload_n hx hb dX14_readsHabit_72 rfl (lv_at hl 3 rfl) ?_
      refine lv_aload_n hx hb dX14_readsHabit_73 rfl (lv_at hl 0 rfl) ?_
      refine lv_iconst (v := 1) hx hb dX14_readsHabit_74 (by decide) ?_
      obtain ⟨v75, s75, h75, hf⟩ := ob_some hf
      refine aw_dV1 (r := r0) (As := [.int 1]) (rest := [.int x3, .int ((6 * x1) + x2), .ref (a q63)]) (ct_X14_number l G a r0 1 s54 v75 s75 h75) hC hW hl.1 vy_X14_number (Or.inl q1536) g63 rfl rfl rfl rfl (Nat.le_of_ble_eq_true rfl) ⟨Nat.le_of_ble_eq_true rfl, Nat.le_of_ble_eq_true rfl⟩ ⟨Nat.le_of_ble_eq_true rfl, Nat.le_of_ble_eq_true rfl⟩ dX14_readsHabit_75 (fun H locs hW => ?_)
      refine lv_imul hx hb dX14_readsHabit_78 ?_
      obtain ⟨g79, hf⟩ := gd_some hf
      obtain ⟨s79, e79, hf⟩ := bnd_some hf
      refine aw_iast e79 hC hW g79 dX14_readsHabit_79 (fun H locs hW => ?_)
      obtain ⟨v80, ev80, hf⟩ := bnd_some hf
      refine lv_iinc (v := v80) (lv' := [(2, .int v80), (0, .ref (a r0)), (1, .int x1), (3, .int x3)]) hx hb dX14_readsHabit_80 hl (k := 2) rfl (by rw [ev80]; rfl) (by decide) rfl (fun ls hl => ?_)
      refine lv_goto (tgt := 2) hx hb dX14_readsHabit_83 (by decide) ?_
      exact hK2 r0 x1 v80 s79 hf _ _ _ (lv_sub hl [1, 2, 0] rfl) hW
    · have hf := ifp c57 hf
      refine lv_iconst (v := 0) hx hb dX14_readsHabit_60 (by decide) ?_
      obtain ⟨e1, e2⟩ := so_inj hf
      exact aw_iret hC hW hr rfl (p_eq hP (congrArg (fun z => some (Value.int z)) e1) e2) (Nat.le_of_ble_eq_true rfl) (Nat.le_of_ble_eq_true rfl) dX14_readsHabit_61
  have B31 : ∀ (K2 : Nat → Int32 → Int32 → ST → Option (Int32 × ST)) (hK2 : ∀ (r0 : Nat) (x1 : Int32) (x2 : Int32) (s : ST), K2 r0 x1 x2 s = some (rv, sf) → ∀ (H : Heap) (locs : List Loc) (ls : Array Slot), lv_has ls 4 [(0, .ref (a r0)), (1, .int x1), (2, .int x2)] → AW G a A s s0.heap H locs → WB p l e (rmD 5) s0 m args below meth c H locs G A P 2 ls []), ∀ (r0 : Nat) (x1 : Int32) (x2 : Int32) (t0 : Int32) (s : ST), f_X14_readsHabit_b31 K2 r0 x1 x2 t0 s = some (rv, sf) → ∀ (H : Heap) (locs : List Loc) (ls : Array Slot), lv_has ls 4 [(0, .ref (a r0)), (1, .int x1), (2, .int x2)] → AW G a A s s0.heap H locs → WB p l e (rmD 5) s0 m args below meth c H locs G A P 31 ls [.int t0] := by
    intro K2 hK2 r0 x1 x2 t0 s hf H locs ls hl hW
    unfold f_X14_readsHabit_b31 at hf
    refine lv_istore_n (lv' := [(3, .int t0), (0, .ref (a r0)), (1, .int x1), (2, .int x2)]) hx hb dX14_readsHabit_31 rfl hl (by decide) rfl (fun ls hl => ?_)
    refine lv_aload_n hx hb dX14_readsHabit_32 rfl (lv_at hl 1 rfl) ?_
    refine lv_dup hx hb dX14_readsHabit_33 rfl ?_
    obtain ⟨g34, hf⟩ := gd_some hf
    refine aw_gI hC hW g34 fl_X14_135 rfl dX14_readsHabit_34 ?_
    refine lv_iload_n hx hb dX14_readsHabit_37 rfl (lv_at hl 0 rfl) ?_
    refine lv_if_ge (tgt := 45) hx hb dX14_readsHabit_38 (by decide) (fun c38 => ?_) (fun c38 => ?_)
    · have hf := ifp c38 hf
      refine lv_iconst (v := 0) hx hb dX14_readsHabit_45 (by decide) ?_
      exact B46 K2 hK2 r0 x1 x2 t0 0 (gi s r0 14) r0 s hf _ _ _ (lv_sub hl [1, 2, 3, 0] rfl) hW
    · have hf := ifn c38 hf
      refine lv_iconst (v := 1) hx hb dX14_readsHabit_41 (by decide) ?_
      refine lv_goto (tgt := 46) hx hb dX14_readsHabit_42 (by decide) ?_
      exact B46 K2 hK2 r0 x1 x2 t0 1 (gi s r0 14) r0 s hf _ _ _ (lv_sub hl [1, 2, 3, 0] rfl) hW
  have B2 : ∀ (n : Nat), ∀ (r0 : Nat) (x1 : Int32) (x2 : Int32) (s : ST), f_X14_readsHabit_b2 n r0 x1 x2 s = some (rv, sf) → ∀ (H : Heap) (locs : List Loc) (ls : Array Slot), lv_has ls 4 [(0, .ref (a r0)), (1, .int x1), (2, .int x2)] → AW G a A s s0.heap H locs → WB p l e (rmD 5) s0 m args below meth c H locs G A P 2 ls [] := by
    intro n
    induction n with
    | zero => intro r0 x1 x2 s hf; cases hf
    | succ n ih =>
      intro r0 x1 x2 s hf H locs ls hl hW
      rw [f_X14_readsHabit_b2] at hf
      refine lv_iload_n hx hb dX14_readsHabit_2 rfl (lv_at hl 2 rfl) ?_
      refine lv_bipush (v := 6) hx hb dX14_readsHabit_3 (by decide) ?_
      refine lv_icmp_ge (tgt := 86) hx hb dX14_readsHabit_5 (by decide) (fun c5 => ?_) (fun c5 => ?_)
      · have hf := ifp c5 hf
        exact B86 r0 x1 x2 s hf _ _ _ (lv_sub hl [0, 1, 2] rfl) hW
      · have hf := ifn c5 hf
        refine lv_aload_n hx hb dX14_readsHabit_8 rfl (lv_at hl 0 rfl) ?_
        refine aw_ldcS 1 (by decide) rfl rfl hC dX14_readsHabit_9 ?_
        obtain ⟨g11, hf⟩ := gd_some hf
        obtain ⟨v11, s11, h11, hf⟩ := ob_some hf
        refine aw_dV1 (r := r0) (As := [.ref (G.2.2.2.1 1)]) (rest := []) (ct_X14_among l G a r0 1 s v11 s11 h11) hC hW hl.1 vy_X14_among (Or.inl q1548) g11 rfl rfl rfl rfl (Nat.le_of_ble_eq_true rfl) ⟨Nat.le_of_ble_eq_true rfl, Nat.le_of_ble_eq_true rfl⟩ ⟨Nat.le_of_ble_eq_true rfl, Nat.le_of_ble_eq_true rfl⟩ dX14_readsHabit_11 (fun H locs hW => ?_)
        refine lv_if_lt (tgt := 86) hx hb dX14_readsHabit_14 (by decide) (fun c14 => ?_) (fun c14 => ?_)
        · have hf := ifp c14 hf
          exact B86 r0 x1 x2 s11 hf _ _ _ (lv_sub hl [0, 1, 2] rfl) hW
        · have hf := ifn c14 hf
          refine lv_aload_n hx hb dX14_readsHabit_17 rfl (lv_at hl 0 rfl) ?_
          refine lv_bipush (v := 43) hx hb dX14_readsHabit_18 (by decide) ?_
          obtain ⟨g20, hf⟩ := gd_some hf
          obtain ⟨v20, s20, h20, hf⟩ := ob_some hf
          refine aw_dV1 (r := r0) (As := [.int 43]) (rest := []) (ct_X14_takes l G a r0 43 s11 v20 s20 h20) hC hW hl.1 vy_X14_takes (Or.inl q1540) g20 rfl rfl rfl rfl (Nat.le_of_ble_eq_true rfl) ⟨Nat.le_of_ble_eq_true rfl, Nat.le_of_ble_eq_true rfl⟩ ⟨Nat.le_of_ble_eq_true rfl, Nat.le_of_ble_eq_true rfl⟩ dX14_readsHabit_20 (fun H locs hW => ?_)
          refine lv_if_eq (tgt := 30) hx hb dX14_readsHabit_23 (by decide) (fun c23 => ?_) (fun c23 => ?_)
          · have hf := ifp c23 hf
            refine lv_iconst (v := (-1)) hx hb dX14_readsHabit_30 (by decide) ?_
            exact B31 (f_X14_readsHabit_b2 n) ih r0 x1 x2 (-1) s20 hf _ _ _ (lv_sub hl [0, 1, 2] rfl) hW
          · have hf := ifn c23 hf
            refine lv_iconst (v := 1) hx hb dX14_readsHabit_26 (by decide) ?_
            refine lv_goto (tgt := 31) hx hb dX14_readsHabit_27 (by decide) ?_
            exact B31 (f_X14_readsHabit_b2 n) ih r0 x1 x2 1 s20 hf _ _ _ (lv_sub hl [0, 1, 2] rfl) hW
  unfold f_X14_readsHabit at hf
  refine lv_iconst (v := 0) hx hb dX14_readsHabit_0 (by decide) ?_
  refine lv_istore_n (lv' := [(2, .int 0), (0, .ref (a o)), (1, .int x1)]) hx hb dX14_readsHabit_1 rfl hl (by decide) rfl (fun ls hl => ?_)
  exact B2 fuel o x1 0 s hf _ _ _ (lv_sub hl [1, 2, 0] rfl) hW
def f_X14_habit (o : Nat) (x1 : Int32) (s : ST) : Option (Int32 × ST) :=
  gd (o < s.1 ∧ (kd s o).1 = 14) <|
  bnd (pI s o 0 0) fun s2 =>
  ob (f_X14_begins o 12 s2) fun v8 s8 =>
  gd (o < s8.1 ∧ (kd s8 o).1 = 14) <|
  ob (f_X14_isPerson o x1 s8) fun v14 s14 =>
  if v14 = 0 then (some ((-100), s14)) else gd (o < s14.1 ∧ (kd s14 o).1 = 14) <|
  ob (f_X14_readsHabit o 8 s14) fun v26 s26 =>
  gd (o < s26.1 ∧ (kd s26 o).1 = 14) <|
  ob (f_X14_faultOf o v8 12 v26 s26) fun v35 s35 =>
  if 0 ≤ v35 then (gd (o < s35.1 ∧ (kd s35 o).1 = 14) <|
  ob (f_X14_putsHabit o x1 8 s35) fun _ s52 =>
  gd (o < s52.1 ∧ (kd s52 o).1 = 14) <|
  (gr s52 o 7).bind fun q56 =>
  gd (q56 < s52.1 ∧ (kd s52 q56).1 = 100 ∧ ¬ ((x1 : Int32) < 0 ∨ (kd s52 q56).2 ≤ (x1 : Int32).toNatClampNeg)) <|
  some ((gi s52 q56 (x1 : Int32).toNatClampNeg), s52)) else some (v35, s35)
set_option maxHeartbeats 4000000 in
theorem ct_X14_habit (l : Launch) (G : GM) (a : Nat → Nat) (o : Nat) (x1 : Int32) (s : ST) (rv : Int32) (sf : ST) (hf : f_X14_habit o x1 s = some (rv, sf)) : MD l G yX14_habit (ws_ yX14_habit cX14_habit 5 (some .int)) 6 [.ref (a o), .int x1] a s (some (.int rv)) sf := by
  refine md_of (d := 6) (lv := [(0, .ref (a o)), (1, .int x1)]) (Or.inl (by decide)) (Nat.le_of_ble_eq_true rfl) rfl ?_
  intro p e s0 m args below meth c ls A P hP hC hr hnm hW hl
  have hx := hC.1
  have hb := hC.2.1
  have hts := hC.2.2.2.2.1
  unfold f_X14_habit at hf
  refine lv_aload_n hx hb dX14_habit_0 rfl (lv_at hl 0 rfl) ?_
  refine lv_iconst (v := 0) hx hb dX14_habit_1 (by decide) ?_
  obtain ⟨g2, hf⟩ := gd_some hf
  obtain ⟨s2, e2, hf⟩ := bnd_some hf
  refine aw_pI e2 hC hW g2 fl_X14_3 (Or.inl fn_13_0) rfl rfl rfl dX14_habit_2 (fun H locs hW => ?_)
  have g2 := ko_pI e2 g2
  refine lv_aload_n hx hb dX14_habit_5 rfl (lv_at hl 0 rfl) ?_
  refine lv_bipush (v := 12) hx hb dX14_habit_6 (by decide) ?_
  obtain ⟨v8, s8, h8, hf⟩ := ob_some hf
  refine aw_dV1 (r := o) (As := [.int 12]) (rest := []) (ct_X14_begins l G a o 12 s2 v8 s8 h8) hC hW hl.1 vy_X14_begins (Or.inl q1521) g2 rfl rfl rfl rfl (Nat.le_of_ble_eq_true rfl) ⟨Nat.le_of_ble_eq_true rfl, Nat.le_of_ble_eq_true rfl⟩ ⟨Nat.le_of_ble_eq_true rfl, Nat.le_of_ble_eq_true rfl⟩ dX14_habit_8 (fun H locs hW => ?_)
  refine lv_istore_n (lv' := [(2, .int v8), (0, .ref (a o)), (1, .int x1)]) hx hb dX14_habit_11 rfl hl (by decide) rfl (fun ls hl => ?_)
  refine lv_aload_n hx hb dX14_habit_12 rfl (lv_at hl 1 rfl) ?_
  refine lv_iload_n hx hb dX14_habit_13 rfl (lv_at hl 2 rfl) ?_
  obtain ⟨g14, hf⟩ := gd_some hf
  obtain ⟨v14, s14, h14, hf⟩ := ob_some hf
  refine aw_dV1 (r := o) (As := [.int x1]) (rest := []) (ct_X14_isPerson l G a o x1 s8 v14 s14 h14) hC hW hl.1 vy_X14_isPerson (Or.inl q1594) g14 rfl rfl rfl rfl (Nat.le_of_ble_eq_true rfl) ⟨Nat.le_of_ble_eq_true rfl, Nat.le_of_ble_eq_true rfl⟩ ⟨Nat.le_of_ble_eq_true rfl, Nat.le_of_ble_eq_true rfl⟩ dX14_habit_14 (fun H locs hW => ?_)
  refine lv_if_ne (tgt := 23) hx hb dX14_habit_17 (by decide) (fun c17 => ?_) (fun c17 => ?_)
  · have hf := ifn c17 hf
    refine lv_aload_n hx hb dX14_habit_23 rfl (lv_at hl 1 rfl) ?_
    refine lv_bipush (v := 8) hx hb dX14_habit_24 (by decide) ?_
    obtain ⟨g26, hf⟩ := gd_some hf
    obtain ⟨v26, s26, h26, hf⟩ := ob_some hf
    refine aw_dV1 (r := o) (As := [.int 8]) (rest := []) (ct_X14_readsHabit l G a o 8 s14 v26 s26 h26) hC hW hl.1 vy_X14_readsHabit (Or.inl q1573) g26 rfl rfl rfl rfl (Nat.le_of_ble_eq_true rfl) ⟨Nat.le_of_ble_eq_true rfl, Nat.le_of_ble_eq_true rfl⟩ ⟨Nat.le_of_ble_eq_true rfl, Nat.le_of_ble_eq_true rfl⟩ dX14_habit_26 (fun H locs hW => ?_)
    refine lv_istore_n (lv' := [(3, .int v26), (2, .int v8), (0, .ref (a o)), (1, .int x1)]) hx hb dX14_habit_29 rfl hl (by decide) rfl (fun ls hl => ?_)
    refine lv_aload_n hx hb dX14_habit_30 rfl (lv_at hl 2 rfl) ?_
    refine lv_iload_n hx hb dX14_habit_31 rfl (lv_at hl 1 rfl) ?_
    refine lv_bipush (v := 12) hx hb dX14_habit_32 (by decide) ?_
    refine lv_iload_n hx hb dX14_habit_34 rfl (lv_at hl 0 rfl) ?_
    obtain ⟨g35, hf⟩ := gd_some hf
    obtain ⟨v35, s35, h35, hf⟩ := ob_some hf
    refine aw_dV1 (r := o) (As := [.int v8, .int 12, .int v26]) (rest := []) (ct_X14_faultOf l G a o v8 12 v26 s26 v35 s35 h35) hC hW hl.1 vy_X14_faultOf (Or.inl q1578) g35 rfl rfl rfl rfl (Nat.le_of_ble_eq_true rfl) ⟨Nat.le_of_ble_eq_true rfl, Nat.le_of_ble_eq_true rfl⟩ ⟨Nat.le_of_ble_eq_true rfl, Nat.le_of_ble_eq_true rfl⟩ dX14_habit_35 (fun H locs hW => ?_)
    refine lv_istore (lv' := [(4, .int v35), (3, .int v26), (2, .int v8), (0, .ref (a o)), (1, .int x1)]) hx hb dX14_habit_38 hl (by decide) rfl (fun ls hl => ?_)
    refine lv_iload hx hb dX14_habit_40 (lv_at hl 0 rfl) ?_
    refine lv_if_ge (tgt := 48) hx hb dX14_habit_42 (by decide) (fun c42 => ?_) (fun c42 => ?_)
    · have hf := ifp c42 hf
      refine lv_aload_n hx hb dX14_habit_48 rfl (lv_at hl 3 rfl) ?_
      refine lv_iload_n hx hb dX14_habit_49 rfl (lv_at hl 4 rfl) ?_
      refine lv_bipush (v := 8) hx hb dX14_habit_50 (by decide) ?_
      obtain ⟨g52, hf⟩ := gd_some hf
      obtain ⟨_, s52, h52, hf⟩ := ob_some hf
      refine aw_dV0 (r := o) (As := [.int x1, .int 8]) (rest := []) (ct_X14_putsHabit l G a o x1 8 s35 () s52 h52) hC hW hl.1 vy_X14_putsHabit (Or.inl q1586) g52 rfl rfl rfl rfl (Nat.le_of_ble_eq_true rfl) ⟨Nat.le_of_ble_eq_true rfl, Nat.le_of_ble_eq_true rfl⟩ ⟨Nat.le_of_ble_eq_true rfl, Nat.le_of_ble_eq_true rfl⟩ dX14_habit_52 (fun H locs hW => ?_)
      refine lv_aload_n hx hb dX14_habit_55 rfl (lv_at hl 3 rfl) ?_
      obtain ⟨g56, hf⟩ := gd_some hf
      obtain ⟨q56, hq56, hf⟩ := bi_some hf
      refine aw_gR hC hW g56 fl_X14_38 rfl hq56 dX14_habit_56 ?_
      refine lv_iload_n hx hb dX14_habit_59 rfl (lv_at hl 4 rfl) ?_
      obtain ⟨g60, hf⟩ := gd_some hf
      refine aw_iald hC hW g60 dX14_habit_60 ?_
      obtain ⟨e1, e2⟩ := so_inj hf
      exact aw_iret hC hW hr rfl (p_eq hP (congrArg (fun z => some (Value.int z)) e1) e2) (Nat.le_of_ble_eq_true rfl) (Nat.le_of_ble_eq_true rfl) dX14_habit_61
    · have hf := ifn c42 hf
      refine lv_iload hx hb dX14_habit_45 (lv_at hl 0 rfl) ?_
      obtain ⟨e1, e2⟩ := so_inj hf
      exact aw_iret hC hW hr rfl (p_eq hP (congrArg (fun z => some (Value.int z)) e1) e2) (Nat.le_of_ble_eq_true rfl) (Nat.le_of_ble_eq_true rfl) dX14_habit_47
  · have hf := ifp c17 hf
    refine lv_bipush (v := (-100)) hx hb dX14_habit_20 (by decide) ?_
    obtain ⟨e1, e2⟩ := so_inj hf
    exact aw_iret hC hW hr rfl (p_eq hP (congrArg (fun z => some (Value.int z)) e1) e2) (Nat.le_of_ble_eq_true rfl) (Nat.le_of_ble_eq_true rfl) dX14_habit_22
def f_X14_hold_b31 : Nat → Nat → Int32 → Int32 → Int32 → ST → Option (Int32 × ST)
  | 0, _, _, _, _, _ => none
  | n + 1, r0, x1, x2, x3, s =>
  if 999 < x3 then (some ((-2), s)) else gd (r0 < s.1 ∧ (kd s r0).1 = 14) <|
  ob (f_X14_startsWith r0 x2 x3 s) fun _ s41 =>
  gd (r0 < s41.1 ∧ (kd s41 r0).1 = 14) <|
  ob (f_X14_goesBy r0 x1 0 s41) fun _ s47 =>
  gd (r0 < s47.1 ∧ (kd s47 r0).1 = 14) <|
  (gr s47 r0 32).bind fun q51 =>
  gd (q51 < s47.1 ∧ (kd s47 q51).1 = 100 ∧ ¬ ((x2 : Int32) < 0 ∨ (kd s47 q51).2 ≤ (x2 : Int32).toNatClampNeg)) <|
  if (gi s47 q51 (x2 : Int32).toNatClampNeg) = x1 then (some (x3, s47)) else bnd (x3 + 1 : Int32) fun v62 =>
  f_X14_hold_b31 n r0 x1 x2 v62 s47
def f_X14_hold (o : Nat) (x1 : Int32) (s : ST) : Option (Int32 × ST) :=
  gd (o < s.1 ∧ (kd s o).1 = 14) <|
  bnd (pI s o 0 0) fun s2 =>
  ob (f_X14_areSixty x1 s2) fun v6 s6 =>
  if v6 = 0 then (some ((-1), s6)) else gd (o < s6.1 ∧ (kd s6 o).1 = 14) <|
  (gr s6 o 10).bind fun q15 =>
  gd (q15 < s6.1 ∧ (kd s6 q15).1 = 100 ∧ ¬ ((17 : Int32) < 0 ∨ (kd s6 q15).2 ≤ (17 : Int32).toNatClampNeg)) <|
  bnd ((gi s6 q15 (17 : Int32).toNatClampNeg) : Int32) fun v21 =>
  if 0 ≤ v21 then (f_X14_hold_b31 fuel o x1 v21 0 s6) else some ((-3), s6)
set_option maxHeartbeats 4000000 in
theorem ct_X14_hold (l : Launch) (G : GM) (a : Nat → Nat) (o : Nat) (x1 : Int32) (s : ST) (rv : Int32) (sf : ST) (hf : f_X14_hold o x1 s = some (rv, sf)) : MD l G yX14_hold (ws_ yX14_hold cX14_hold 4 (some .int)) 6 [.ref (a o), .int x1] a s (some (.int rv)) sf := by
  refine md_of (d := 6) (lv := [(0, .ref (a o)), (1, .int x1)]) (Or.inl (by decide)) (Nat.le_of_ble_eq_true rfl) rfl ?_
  intro p e s0 m args below meth c ls A P hP hC hr hnm hW hl
  have hx := hC.1
  have hb := hC.2.1
  have hts := hC.2.2.2.2.1
  have B31 : ∀ (n : Nat), ∀ (r0 : Nat) (x1 : Int32) (x2 : Int32) (x3 : Int32) (s : ST), f_X14_hold_b31 n r0 x1 x2 x3 s = some (rv, sf) → ∀ (H : Heap) (locs : List Loc) (ls : Array Slot), lv_has ls 4 [(0, .ref (a r0)), (1, .int x1), (2, .int x2), (3, .int x3)] → AW G a A s s0.heap H locs → WB p l e (rmD 6) s0 m args below meth c H locs G A P 31 ls [] := by
    intro n
    induction n with
    | zero => intro r0 x1 x2 x3 s hf; cases hf
    | succ n ih =>
      intro r0 x1 x2 x3 s hf H locs ls hl hW
      rw [f_X14_hold_b31] at hf
      refine lv_iload_n hx hb dX14_hold_31 rfl (lv_at hl 3 rfl) ?_
      refine lv_sipush (v := 999) hx hb dX14_hold_32 (by decide) ?_
      refine lv_icmp_gt (tgt := 68) hx hb dX14_hold_35 (by decide) (fun c35 => ?_) (fun c35 => ?_)
      · have hf := ifp c35 hf
        refine lv_bipush (v := (-2)) hx hb dX14_hold_68 (by decide) ?_
        obtain ⟨e1, e2⟩ := so_inj hf
        exact aw_iret hC hW hr rfl (p_eq hP (congrArg (fun z => some (Value.int z)) e1) e2) (Nat.le_of_ble_eq_true rfl) (Nat.le_of_ble_eq_true rfl) dX14_hold_70
      · have hf := ifn c35 hf
        refine lv_aload_n hx hb dX14_hold_38 rfl (lv_at hl 0 rfl) ?_
        refine lv_iload_n hx hb dX14_hold_39 rfl (lv_at hl 2 rfl) ?_
        refine lv_iload_n hx hb dX14_hold_40 rfl (lv_at hl 3 rfl) ?_
        obtain ⟨g41, hf⟩ := gd_some hf
        obtain ⟨_, s41, h41, hf⟩ := ob_some hf
        refine aw_dV0 (r := r0) (As := [.int x2, .int x3]) (rest := []) (ct_X14_startsWith l G a r0 x2 x3 s () s41 h41) hC hW hl.1 vy_X14_startsWith (Or.inl q1821) g41 rfl rfl rfl rfl (Nat.le_of_ble_eq_true rfl) ⟨Nat.le_of_ble_eq_true rfl, Nat.le_of_ble_eq_true rfl⟩ ⟨Nat.le_of_ble_eq_true rfl, Nat.le_of_ble_eq_true rfl⟩ dX14_hold_41 (fun H locs hW => ?_)
        refine lv_aload_n hx hb dX14_hold_44 rfl (lv_at hl 0 rfl) ?_
        refine lv_iload_n hx hb dX14_hold_45 rfl (lv_at hl 1 rfl) ?_
        refine lv_iconst (v := 0) hx hb dX14_hold_46 (by decide) ?_
        obtain ⟨g47, hf⟩ := gd_some hf
        obtain ⟨_, s47, h47, hf⟩ := ob_some hf
        refine aw_dV0 (r := r0) (As := [.int x1, .int 0]) (rest := []) (ct_X14_goesBy l G a r0 x1 0 s41 () s47 h47) hC hW hl.1 vy_X14_goesBy (Or.inl q1756) g47 rfl rfl rfl rfl (Nat.le_of_ble_eq_true rfl) ⟨Nat.le_of_ble_eq_true rfl, Nat.le_of_ble_eq_true rfl⟩ ⟨Nat.le_of_ble_eq_true rfl, Nat.le_of_ble_eq_true rfl⟩ dX14_hold_47 (fun H locs hW => ?_)
        refine lv_aload_n hx hb dX14_hold_50 rfl (lv_at hl 0 rfl) ?_
        obtain ⟨g51, hf⟩ := gd_some hf
        obtain ⟨q51, hq51, hf⟩ := bi_some hf
        refine aw_gR hC hW g51 fl_X14_80 rfl hq51 dX14_hold_51 ?_
        refine lv_iload_n hx hb dX14_hold_54 rfl (lv_at hl 2 rfl) ?_
        obtain ⟨g55, hf⟩ := gd_some hf
        refine aw_iald hC hW g55 dX14_hold_55 ?_
        refine lv_iload_n hx hb dX14_hold_56 rfl (lv_at hl 1 rfl) ?_
        refine lv_icmp_ne (tgt := 62) hx hb dX14_hold_57 (by decide) (fun c57 => ?_) (fun c57 => ?_)
        · have hf := ifn c57 hf
          obtain ⟨v62, ev62, hf⟩ := bnd_some hf
          refine lv_iinc (v := v62) (lv' := [(3, .int v62), (0, .ref (a r0)), (1, .int x1), (2, .int x2)]) hx hb dX14_hold_62 hl (k := 3) rfl (by rw [ev62]; rfl) (by decide) rfl (fun ls hl => ?_)
          refine lv_goto (tgt := 31) hx hb dX14_hold_65 (by decide) ?_
          exact ih r0 x1 x2 v62 s47 hf _ _ _ (lv_sub hl [1, 2, 3, 0] rfl) hW
        · have hf := ifp c57 hf
          refine lv_iload_n hx hb dX14_hold_60 rfl (lv_at hl 3 rfl) ?_
          obtain ⟨e1, e2⟩ := so_inj hf
          exact aw_iret hC hW hr rfl (p_eq hP (congrArg (fun z => some (Value.int z)) e1) e2) (Nat.le_of_ble_eq_true rfl) (Nat.le_of_ble_eq_true rfl) dX14_hold_61
  unfold f_X14_hold at hf
  refine lv_aload_n hx hb dX14_hold_0 rfl (lv_at hl 0 rfl) ?_
  refine lv_iconst (v := 0) hx hb dX14_hold_1 (by decide) ?_
  obtain ⟨g2, hf⟩ := gd_some hf
  obtain ⟨s2, e2, hf⟩ := bnd_some hf
  refine aw_pI e2 hC hW g2 fl_X14_3 (Or.inl fn_13_0) rfl rfl rfl dX14_hold_2 (fun H locs hW => ?_)
  have g2 := ko_pI e2 g2
  refine lv_iload_n hx hb dX14_hold_5 rfl (lv_at hl 1 rfl) ?_
  obtain ⟨v6, s6, h6, hf⟩ := ob_some hf
  refine aw_dS1 (As := [.int x1]) (rest := []) (ct_X14_areSixty l G a x1 s2 v6 s6 h6) hC hW hl.1 sy_X14_areSixty (Or.inl q1817) rfl rfl (Nat.le_of_ble_eq_true rfl) ⟨Nat.le_of_ble_eq_true rfl, Nat.le_of_ble_eq_true rfl⟩ ⟨Nat.le_of_ble_eq_true rfl, Nat.le_of_ble_eq_true rfl⟩ dX14_hold_6 (fun H locs hW => ?_)
  refine lv_if_ne (tgt := 14) hx hb dX14_hold_9 (by decide) (fun c9 => ?_) (fun c9 => ?_)
  · have hf := ifn c9 hf
    refine lv_aload_n hx hb dX14_hold_14 rfl (lv_at hl 0 rfl) ?_
    obtain ⟨g15, hf⟩ := gd_some hf
    obtain ⟨q15, hq15, hf⟩ := bi_some hf
    refine aw_gR hC hW g15 fl_X14_44 rfl hq15 dX14_hold_15 ?_
    refine lv_bipush (v := 17) hx hb dX14_hold_18 (by decide) ?_
    obtain ⟨g20, hf⟩ := gd_some hf
    refine aw_iald hC hW g20 dX14_hold_20 ?_
    obtain ⟨v21, ev21, hf⟩ := bnd_some hf
    refine top_i ev21 ?_
    refine lv_istore_n (lv' := [(2, .int v21), (0, .ref (a o)), (1, .int x1)]) hx hb dX14_hold_21 rfl hl (by decide) rfl (fun ls hl => ?_)
    refine lv_iload_n hx hb dX14_hold_22 rfl (lv_at hl 0 rfl) ?_
    refine lv_if_ge (tgt := 29) hx hb dX14_hold_23 (by decide) (fun c23 => ?_) (fun c23 => ?_)
    · have hf := ifp c23 hf
      refine lv_iconst (v := 0) hx hb dX14_hold_29 (by decide) ?_
      refine lv_istore_n (lv' := [(3, .int 0), (2, .int v21), (0, .ref (a o)), (1, .int x1)]) hx hb dX14_hold_30 rfl hl (by decide) rfl (fun ls hl => ?_)
      exact B31 fuel o x1 v21 0 s6 hf _ _ _ (lv_sub hl [2, 3, 1, 0] rfl) hW
    · have hf := ifn c23 hf
      refine lv_bipush (v := (-3)) hx hb dX14_hold_26 (by decide) ?_
      obtain ⟨e1, e2⟩ := so_inj hf
      exact aw_iret hC hW hr rfl (p_eq hP (congrArg (fun z => some (Value.int z)) e1) e2) (Nat.le_of_ble_eq_true rfl) (Nat.le_of_ble_eq_true rfl) dX14_hold_28
  · have hf := ifp c9 hf
    refine lv_iconst (v := (-1)) hx hb dX14_hold_12 (by decide) ?_
    obtain ⟨e1, e2⟩ := so_inj hf
    exact aw_iret hC hW hr rfl (p_eq hP (congrArg (fun z => some (Value.int z)) e1) e2) (Nat.le_of_ble_eq_true rfl) (Nat.le_of_ble_eq_true rfl) dX14_hold_13
def f_X14_keep_b38 : Nat → Nat → Int32 → Int32 → ST → Option (Int32 × ST)
  | 0, _, _, _, _ => none
  | n + 1, r0, x1, x2, s =>
  if 117 ≤ x2 then (some (1, s)) else gd (r0 < s.1 ∧ (kd s r0).1 = 14) <|
  (gr s r0 45).bind fun q45 =>
  (gr s r0 10).bind fun q55 =>
  gd (q55 < s.1 ∧ (kd s q55).1 = 100 ∧ ¬ ((x2 : Int32) < 0 ∨ (kd s q55).2 ≤ (x2 : Int32).toNatClampNeg)) <|
  gd (q45 < s.1 ∧ (kd s q45).1 = 100 ∧ ¬ ((((117 * x1) + x2) : Int32) < 0 ∨ (kd s q45).2 ≤ (((117 * x1) + x2) : Int32).toNatClampNeg)) <|
  bnd (pI s q45 (((117 * x1) + x2) : Int32).toNatClampNeg (gi s q55 (x2 : Int32).toNatClampNeg)) fun s60 =>
  bnd (x2 + 1 : Int32) fun v61 =>
  f_X14_keep_b38 n r0 x1 v61 s60
def f_X14_keep (o : Nat) (x1 : Int32) (s : ST) : Option (Int32 × ST) :=
  gd (o < s.1 ∧ (kd s o).1 = 14) <|
  bnd (pI s o 0 0) fun s2 =>
  bnd (p_in ((x1 : Int32).toInt64) 0 2) fun v11 =>
  if v11 = 0 then (some (0, s2)) else (gr s2 o 43).bind fun q20 =>
  gd (q20 < s2.1 ∧ (kd s2 q20).1 = 103 ∧ ¬ ((x1 : Int32) < 0 ∨ (kd s2 q20).2 ≤ (x1 : Int32).toNatClampNeg)) <|
  bnd (pI s2 q20 (x1 : Int32).toNatClampNeg (vp_nar .boolean 1)) fun s25 =>
  (gr s25 o 44).bind fun q27 =>
  gd (q27 < s25.1 ∧ (kd s25 q27).1 = 100 ∧ ¬ ((x1 : Int32) < 0 ∨ (kd s25 q27).2 ≤ (x1 : Int32).toNatClampNeg)) <|
  bnd (pI s25 q27 (x1 : Int32).toNatClampNeg (gi s25 o 3)) fun s35 =>
  f_X14_keep_b38 fuel o x1 0 s35
set_option maxHeartbeats 4000000 in
theorem ct_X14_keep (l : Launch) (G : GM) (a : Nat → Nat) (o : Nat) (x1 : Int32) (s : ST) (rv : Int32) (sf : ST) (hf : f_X14_keep o x1 s = some (rv, sf)) : MD l G yX14_keep (ws_ yX14_keep cX14_keep 3 (some .boolean)) 1 [.ref (a o), .int x1] a s (some (.int rv)) sf := by
  refine md_of (d := 1) (lv := [(0, .ref (a o)), (1, .int x1)]) (Or.inl (by decide)) (Nat.le_of_ble_eq_true rfl) rfl ?_
  intro p e s0 m args below meth c ls A P hP hC hr hnm hW hl
  have hx := hC.1
  have hb := hC.2.1
  have hts := hC.2.2.2.2.1
  have B38 : ∀ (n : Nat), ∀ (r0 : Nat) (x1 : Int32) (x2 : Int32) (s : ST), f_X14_keep_b38 n r0 x1 x2 s = some (rv, sf) → ∀ (H : Heap) (locs : List Loc) (ls : Array Slot), lv_has ls 3 [(0, .ref (a r0)), (1, .int x1), (2, .int x2)] → AW G a A s s0.heap H locs → WB p l e (rmD 1) s0 m args below meth c H locs G A P 38 ls [] := by
    intro n
    induction n with
    | zero => intro r0 x1 x2 s hf; cases hf
    | succ n ih =>
      intro r0 x1 x2 s hf H locs ls hl hW
      rw [f_X14_keep_b38] at hf
      refine lv_iload_n hx hb dX14_keep_38 rfl (lv_at hl 2 rfl) ?_
      refine lv_bipush (v := 117) hx hb dX14_keep_39 (by decide) ?_
      refine lv_icmp_ge (tgt := 67) hx hb dX14_keep_41 (by decide) (fun c41 => ?_) (fun c41 => ?_)
      · have hf := ifp c41 hf
        refine lv_iconst (v := 1) hx hb dX14_keep_67 (by decide) ?_
        obtain ⟨e1, e2⟩ := so_inj hf
        exact aw_iret hC hW hr rfl (p_eq hP (congrArg (fun z => some (Value.int z)) e1) e2) (Nat.le_of_ble_eq_true rfl) (Nat.le_of_ble_eq_true rfl) dX14_keep_68
      · have hf := ifn c41 hf
        refine lv_aload_n hx hb dX14_keep_44 rfl (lv_at hl 0 rfl) ?_
        obtain ⟨g45, hf⟩ := gd_some hf
        obtain ⟨q45, hq45, hf⟩ := bi_some hf
        refine aw_gR hC hW g45 fl_X14_114 rfl hq45 dX14_keep_45 ?_
        refine lv_bipush (v := 117) hx hb dX14_keep_48 (by decide) ?_
        refine lv_iload_n hx hb dX14_keep_50 rfl (lv_at hl 1 rfl) ?_
        refine lv_imul hx hb dX14_keep_51 ?_
        refine lv_iload_n hx hb dX14_keep_52 rfl (lv_at hl 2 rfl) ?_
        refine lv_iadd hx hb dX14_keep_53 ?_
        refine lv_aload_n hx hb dX14_keep_54 rfl (lv_at hl 0 rfl) ?_
        obtain ⟨q55, hq55, hf⟩ := bi_some hf
        refine aw_gR hC hW g45 fl_X14_44 rfl hq55 dX14_keep_55 ?_
        refine lv_iload_n hx hb dX14_keep_58 rfl (lv_at hl 2 rfl) ?_
        obtain ⟨g59, hf⟩ := gd_some hf
        refine aw_iald hC hW g59 dX14_keep_59 ?_
        obtain ⟨g60, hf⟩ := gd_some hf
        obtain ⟨s60, e60, hf⟩ := bnd_some hf
        refine aw_iast e60 hC hW g60 dX14_keep_60 (fun H locs hW => ?_)
        have g45 := ko_pI e60 g45
        obtain ⟨v61, ev61, hf⟩ := bnd_some hf
        refine lv_iinc (v := v61) (lv' := [(2, .int v61), (0, .ref (a r0)), (1, .int x1)]) hx hb dX14_keep_61 hl (k := 2) rfl (by rw [ev61]; rfl) (by decide) rfl (fun ls hl => ?_)
        refine lv_goto (tgt := 38) hx hb dX14_keep_64 (by decide) ?_
        exact ih r0 x1 v61 s60 hf _ _ _ (lv_sub hl [1, 2, 0] rfl) hW
  unfold f_X14_keep at hf
  refine lv_aload_n hx hb dX14_keep_0 rfl (lv_at hl 0 rfl) ?_
  refine lv_iconst (v := 0) hx hb dX14_keep_1 (by decide) ?_
  obtain ⟨g2, hf⟩ := gd_some hf
  obtain ⟨s2, e2, hf⟩ := bnd_some hf
  refine aw_pI e2 hC hW g2 fl_X14_3 (Or.inl fn_13_0) rfl rfl rfl dX14_keep_2 (fun H locs hW => ?_)
  have g2 := ko_pI e2 g2
  refine lv_iload_n hx hb dX14_keep_5 rfl (lv_at hl 1 rfl) ?_
  refine lv_i2l (v := (x1 : Int32).toInt64) hx hb dX14_keep_6 rfl ?_
  refine lv_lconst (v := 0) hx hb dX14_keep_7 (by decide) ?_
  refine lv_ldc2 (v := 2) hx hb hC.2.2.2.1 (hts _ q1906) dX14_keep_8 ?_
  obtain ⟨v11, ev11, hf⟩ := bnd_some hf
  refine aw_dS1 (As := [.long ((x1 : Int32).toInt64), .long 0, .long 2]) (rest := []) (pc_X14_in l G a ((x1 : Int32).toInt64) 0 2 s2) hC hW hl.1 sy_X14_in (Or.inl q1514) rfl rfl (Nat.le_of_ble_eq_true rfl) ⟨Nat.le_of_ble_eq_true rfl, Nat.le_of_ble_eq_true rfl⟩ ⟨Nat.le_of_ble_eq_true rfl, Nat.le_of_ble_eq_true rfl⟩ dX14_keep_11 (fun H locs hW => ?_)
  refine top_i ev11 ?_
  refine lv_if_ne (tgt := 19) hx hb dX14_keep_14 (by decide) (fun c14 => ?_) (fun c14 => ?_)
  · have hf := ifn c14 hf
    refine lv_aload_n hx hb dX14_keep_19 rfl (lv_at hl 0 rfl) ?_
    obtain ⟨q20, hq20, hf⟩ := bi_some hf
    refine aw_gR hC hW g2 fl_X14_107 rfl hq20 dX14_keep_20 ?_
    refine lv_iload_n hx hb dX14_keep_23 rfl (lv_at hl 1 rfl) ?_
    refine lv_iconst (v := 1) hx hb dX14_keep_24 (by decide) ?_
    obtain ⟨g25, hf⟩ := gd_some hf
    obtain ⟨s25, e25, hf⟩ := bnd_some hf
    refine aw_zast e25 hC hW g25 dX14_keep_25 (fun H locs hW => ?_)
    have g2 := ko_pI e25 g2
    refine lv_aload_n hx hb dX14_keep_26 rfl (lv_at hl 0 rfl) ?_
    obtain ⟨q27, hq27, hf⟩ := bi_some hf
    refine aw_gR hC hW g2 fl_X14_111 rfl hq27 dX14_keep_27 ?_
    refine lv_iload_n hx hb dX14_keep_30 rfl (lv_at hl 1 rfl) ?_
    refine lv_aload_n hx hb dX14_keep_31 rfl (lv_at hl 0 rfl) ?_
    refine aw_gI hC hW g2 fl_X14_117 rfl dX14_keep_32 ?_
    obtain ⟨g35, hf⟩ := gd_some hf
    obtain ⟨s35, e35, hf⟩ := bnd_some hf
    refine aw_iast e35 hC hW g35 dX14_keep_35 (fun H locs hW => ?_)
    have g2 := ko_pI e35 g2
    refine lv_iconst (v := 0) hx hb dX14_keep_36 (by decide) ?_
    refine lv_istore_n (lv' := [(2, .int 0), (0, .ref (a o)), (1, .int x1)]) hx hb dX14_keep_37 rfl hl (by decide) rfl (fun ls hl => ?_)
    exact B38 fuel o x1 0 s35 hf _ _ _ (lv_sub hl [1, 2, 0] rfl) hW
  · have hf := ifp c14 hf
    refine lv_iconst (v := 0) hx hb dX14_keep_17 (by decide) ?_
    obtain ⟨e1, e2⟩ := so_inj hf
    exact aw_iret hC hW hr rfl (p_eq hP (congrArg (fun z => some (Value.int z)) e1) e2) (Nat.le_of_ble_eq_true rfl) (Nat.le_of_ble_eq_true rfl) dX14_keep_18
def f_X14_later (o : Nat) (x1 : Int32) (x2 : Int32) (s : ST) : Option (Int32 × ST) :=
  gd (o < s.1 ∧ (kd s o).1 = 14) <|
  bnd (pI s o 0 0) fun s2 =>
  ob (f_X14_isAlive o x1 s2) fun v7 s7 =>
  if v7 = 0 then (some ((-1), s7)) else ob (f_X14_areWeeks x2 s7) fun v14 s14 =>
  if v14 = 0 then (some ((-1), s14)) else gd (o < s14.1 ∧ (kd s14 o).1 = 14) <|
  ob (f_X14_starts o s14) fun _ s23 =>
  gd (o < s23.1 ∧ (kd s23 o).1 = 14) <|
  ob (f_X14_goesBy o x2 0 s23) fun _ s29 =>
  gd (o < s29.1 ∧ (kd s29 o).1 = 14) <|
  (gr s29 o 11).bind fun q33 =>
  gd (q33 < s29.1 ∧ (kd s29 q33).1 = 100 ∧ ¬ ((x1 : Int32) < 0 ∨ (kd s29 q33).2 ≤ (x1 : Int32).toNatClampNeg)) <|
  some ((gi s29 q33 (x1 : Int32).toNatClampNeg), s29)
set_option maxHeartbeats 4000000 in
theorem ct_X14_later (l : Launch) (G : GM) (a : Nat → Nat) (o : Nat) (x1 : Int32) (x2 : Int32) (s : ST) (rv : Int32) (sf : ST) (hf : f_X14_later o x1 x2 s = some (rv, sf)) : MD l G yX14_later (ws_ yX14_later cX14_later 3 (some .int)) 6 [.ref (a o), .int x1, .int x2] a s (some (.int rv)) sf := by
  refine md_of (d := 6) (lv := [(0, .ref (a o)), (1, .int x1), (2, .int x2)]) (Or.inl (by decide)) (Nat.le_of_ble_eq_true rfl) rfl ?_
  intro p e s0 m args below meth c ls A P hP hC hr hnm hW hl
  have hx := hC.1
  have hb := hC.2.1
  have hts := hC.2.2.2.2.1
  unfold f_X14_later at hf
  refine lv_aload_n hx hb dX14_later_0 rfl (lv_at hl 0 rfl) ?_
  refine lv_iconst (v := 0) hx hb dX14_later_1 (by decide) ?_
  obtain ⟨g2, hf⟩ := gd_some hf
  obtain ⟨s2, e2, hf⟩ := bnd_some hf
  refine aw_pI e2 hC hW g2 fl_X14_3 (Or.inl fn_13_0) rfl rfl rfl dX14_later_2 (fun H locs hW => ?_)
  have g2 := ko_pI e2 g2
  refine lv_aload_n hx hb dX14_later_5 rfl (lv_at hl 0 rfl) ?_
  refine lv_iload_n hx hb dX14_later_6 rfl (lv_at hl 1 rfl) ?_
  obtain ⟨v7, s7, h7, hf⟩ := ob_some hf
  refine aw_dV1 (r := o) (As := [.int x1]) (rest := []) (ct_X14_isAlive l G a o x1 s2 v7 s7 h7) hC hW hl.1 vy_X14_isAlive (Or.inl q1722) g2 rfl rfl rfl rfl (Nat.le_of_ble_eq_true rfl) ⟨Nat.le_of_ble_eq_true rfl, Nat.le_of_ble_eq_true rfl⟩ ⟨Nat.le_of_ble_eq_true rfl, Nat.le_of_ble_eq_true rfl⟩ dX14_later_7 (fun H locs hW => ?_)
  refine lv_if_eq (tgt := 20) hx hb dX14_later_10 (by decide) (fun c10 => ?_) (fun c10 => ?_)
  · have hf := ifp c10 hf
    refine lv_iconst (v := (-1)) hx hb dX14_later_20 (by decide) ?_
    obtain ⟨e1, e2⟩ := so_inj hf
    exact aw_iret hC hW hr rfl (p_eq hP (congrArg (fun z => some (Value.int z)) e1) e2) (Nat.le_of_ble_eq_true rfl) (Nat.le_of_ble_eq_true rfl) dX14_later_21
  · have hf := ifn c10 hf
    refine lv_iload_n hx hb dX14_later_13 rfl (lv_at hl 2 rfl) ?_
    obtain ⟨v14, s14, h14, hf⟩ := ob_some hf
    refine aw_dS1 (As := [.int x2]) (rest := []) (ct_X14_areWeeks l G a x2 s7 v14 s14 h14) hC hW hl.1 sy_X14_areWeeks (Or.inl q1746) rfl rfl (Nat.le_of_ble_eq_true rfl) ⟨Nat.le_of_ble_eq_true rfl, Nat.le_of_ble_eq_true rfl⟩ ⟨Nat.le_of_ble_eq_true rfl, Nat.le_of_ble_eq_true rfl⟩ dX14_later_14 (fun H locs hW => ?_)
    refine lv_if_ne (tgt := 22) hx hb dX14_later_17 (by decide) (fun c17 => ?_) (fun c17 => ?_)
    · have hf := ifn c17 hf
      refine lv_aload_n hx hb dX14_later_22 rfl (lv_at hl 0 rfl) ?_
      obtain ⟨g23, hf⟩ := gd_some hf
      obtain ⟨_, s23, h23, hf⟩ := ob_some hf
      refine aw_dV0 (r := o) (As := []) (rest := []) (ct_X14_starts l G a o s14 () s23 h23) hC hW hl.1 vy_X14_starts (Or.inl q1749) g23 rfl rfl rfl rfl (Nat.le_of_ble_eq_true rfl) ⟨Nat.le_of_ble_eq_true rfl, Nat.le_of_ble_eq_true rfl⟩ ⟨Nat.le_of_ble_eq_true rfl, Nat.le_of_ble_eq_true rfl⟩ dX14_later_23 (fun H locs hW => ?_)
      refine lv_aload_n hx hb dX14_later_26 rfl (lv_at hl 0 rfl) ?_
      refine lv_iload_n hx hb dX14_later_27 rfl (lv_at hl 2 rfl) ?_
      refine lv_iconst (v := 0) hx hb dX14_later_28 (by decide) ?_
      obtain ⟨g29, hf⟩ := gd_some hf
      obtain ⟨_, s29, h29, hf⟩ := ob_some hf
      refine aw_dV0 (r := o) (As := [.int x2, .int 0]) (rest := []) (ct_X14_goesBy l G a o x2 0 s23 () s29 h29) hC hW hl.1 vy_X14_goesBy (Or.inl q1756) g29 rfl rfl rfl rfl (Nat.le_of_ble_eq_true rfl) ⟨Nat.le_of_ble_eq_true rfl, Nat.le_of_ble_eq_true rfl⟩ ⟨Nat.le_of_ble_eq_true rfl, Nat.le_of_ble_eq_true rfl⟩ dX14_later_29 (fun H locs hW => ?_)
      refine lv_aload_n hx hb dX14_later_32 rfl (lv_at hl 0 rfl) ?_
      obtain ⟨g33, hf⟩ := gd_some hf
      obtain ⟨q33, hq33, hf⟩ := bi_some hf
      refine aw_gR hC hW g33 fl_X14_47 rfl hq33 dX14_later_33 ?_
      refine lv_iload_n hx hb dX14_later_36 rfl (lv_at hl 1 rfl) ?_
      obtain ⟨g37, hf⟩ := gd_some hf
      refine aw_iald hC hW g37 dX14_later_37 ?_
      obtain ⟨e1, e2⟩ := so_inj hf
      exact aw_iret hC hW hr rfl (p_eq hP (congrArg (fun z => some (Value.int z)) e1) e2) (Nat.le_of_ble_eq_true rfl) (Nat.le_of_ble_eq_true rfl) dX14_later_38
    · have hf := ifp c17 hf
      refine lv_iconst (v := (-1)) hx hb dX14_later_20 (by decide) ?_
      obtain ⟨e1, e2⟩ := so_inj hf
      exact aw_iret hC hW hr rfl (p_eq hP (congrArg (fun z => some (Value.int z)) e1) e2) (Nat.le_of_ble_eq_true rfl) (Nat.le_of_ble_eq_true rfl) dX14_later_21
def f_X14_law (o : Nat) (s : ST) : Option (Int32 × ST) :=
  gd (o < s.1 ∧ (kd s o).1 = 14) <|
  bnd (pI s o 0 0) fun s2 =>
  (gr s2 o 10).bind fun q6 =>
  gd (q6 < s2.1 ∧ (kd s2 q6).1 = 100 ∧ ¬ ((17 : Int32) < 0 ∨ (kd s2 q6).2 ≤ (17 : Int32).toNatClampNeg)) <|
  if 0 ≤ (gi s2 q6 (17 : Int32).toNatClampNeg) then ((gr s2 o 10).bind fun q19 =>
  gd (q19 < s2.1 ∧ (kd s2 q19).1 = 100 ∧ ¬ ((20 : Int32) < 0 ∨ (kd s2 q19).2 ≤ (20 : Int32).toNatClampNeg)) <|
  if (gi s2 q19 (20 : Int32).toNatClampNeg) = 12 then (some ((-3), s2)) else ob (f_X14_putsBy o s2) fun _ s34 =>
  gd (o < s34.1 ∧ (kd s34 o).1 = 14) <|
  (gr s34 o 10).bind fun q38 =>
  gd (q38 < s34.1 ∧ (kd s34 q38).1 = 100 ∧ ¬ ((20 : Int32) < 0 ∨ (kd s34 q38).2 ≤ (20 : Int32).toNatClampNeg)) <|
  bnd ((gi s34 q38 (20 : Int32).toNatClampNeg) : Int32) fun v44 =>
  (gr s34 o 10).bind fun q46 =>
  (gr s34 o 10).bind fun q54 =>
  gd (q54 < s34.1 ∧ (kd s34 q54).1 = 100 ∧ ¬ ((17 : Int32) < 0 ∨ (kd s34 q54).2 ≤ (17 : Int32).toNatClampNeg)) <|
  gd (q46 < s34.1 ∧ (kd s34 q46).1 = 100 ∧ ¬ (((21 + v44) : Int32) < 0 ∨ (kd s34 q46).2 ≤ ((21 + v44) : Int32).toNatClampNeg)) <|
  bnd (pI s34 q46 ((21 + v44) : Int32).toNatClampNeg (gi s34 q54 (17 : Int32).toNatClampNeg)) fun s60 =>
  (gr s60 o 10).bind fun q62 =>
  (gr s60 o 10).bind fun q70 =>
  gd (q70 < s60.1 ∧ (kd s60 q70).1 = 100 ∧ ¬ ((19 : Int32) < 0 ∨ (kd s60 q70).2 ≤ (19 : Int32).toNatClampNeg)) <|
  gd (q62 < s60.1 ∧ (kd s60 q62).1 = 100 ∧ ¬ (((33 + v44) : Int32) < 0 ∨ (kd s60 q62).2 ≤ ((33 + v44) : Int32).toNatClampNeg)) <|
  bnd (pI s60 q62 ((33 + v44) : Int32).toNatClampNeg (gi s60 q70 (19 : Int32).toNatClampNeg)) fun s76 =>
  (gr s76 o 10).bind fun q78 =>
  gd (q78 < s76.1 ∧ (kd s76 q78).1 = 100 ∧ ¬ (((45 + v44) : Int32) < 0 ∨ (kd s76 q78).2 ≤ ((45 + v44) : Int32).toNatClampNeg)) <|
  bnd (pI s76 q78 ((45 + v44) : Int32).toNatClampNeg (-1)) fun s86 =>
  (gr s86 o 10).bind fun q88 =>
  gd (q88 < s86.1 ∧ (kd s86 q88).1 = 100 ∧ ¬ ((20 : Int32) < 0 ∨ (kd s86 q88).2 ≤ (20 : Int32).toNatClampNeg)) <|
  gd (q88 < s86.1 ∧ (kd s86 q88).1 = 100 ∧ ¬ ((20 : Int32) < 0 ∨ (kd s86 q88).2 ≤ (20 : Int32).toNatClampNeg)) <|
  bnd (pI s86 q88 (20 : Int32).toNatClampNeg ((gi s86 q88 (20 : Int32).toNatClampNeg) + 1)) fun s97 =>
  some (v44, s97)) else some ((-2), s2)
set_option maxHeartbeats 4000000 in
theorem ct_X14_law (l : Launch) (G : GM) (a : Nat → Nat) (o : Nat) (s : ST) (rv : Int32) (sf : ST) (hf : f_X14_law o s = some (rv, sf)) : MD l G yX14_law (ws_ yX14_law cX14_law 2 (some .int)) 1 [.ref (a o)] a s (some (.int rv)) sf := by
  refine md_of (d := 1) (lv := [(0, .ref (a o))]) (Or.inl (by decide)) (Nat.le_of_ble_eq_true rfl) rfl ?_
  intro p e s0 m args below meth c ls A P hP hC hr hnm hW hl
  have hx := hC.1
  have hb := hC.2.1
  have hts := hC.2.2.2.2.1
  unfold f_X14_law at hf
  refine lv_aload_n hx hb dX14_law_0 rfl (lv_at hl 0 rfl) ?_
  refine lv_iconst (v := 0) hx hb dX14_law_1 (by decide) ?_
  obtain ⟨g2, hf⟩ := gd_some hf
  obtain ⟨s2, e2, hf⟩ := bnd_some hf
  refine aw_pI e2 hC hW g2 fl_X14_3 (Or.inl fn_13_0) rfl rfl rfl dX14_law_2 (fun H locs hW => ?_)
  have g2 := ko_pI e2 g2
  refine lv_aload_n hx hb dX14_law_5 rfl (lv_at hl 0 rfl) ?_
  obtain ⟨q6, hq6, hf⟩ := bi_some hf
  refine aw_gR hC hW g2 fl_X14_44 rfl hq6 dX14_law_6 ?_
  refine lv_bipush (v := 17) hx hb dX14_law_9 (by decide) ?_
  obtain ⟨g11, hf⟩ := gd_some hf
  refine aw_iald hC hW g11 dX14_law_11 ?_
  refine lv_if_ge (tgt := 18) hx hb dX14_law_12 (by decide) (fun c12 => ?_) (fun c12 => ?_)
  · have hf := ifp c12 hf
    refine lv_aload_n hx hb dX14_law_18 rfl (lv_at hl 0 rfl) ?_
    obtain ⟨q19, hq19, hf⟩ := bi_some hf
    refine aw_gR hC hW g2 fl_X14_44 rfl hq19 dX14_law_19 ?_
    refine lv_bipush (v := 20) hx hb dX14_law_22 (by decide) ?_
    obtain ⟨g24, hf⟩ := gd_some hf
    refine aw_iald hC hW g24 dX14_law_24 ?_
    refine lv_bipush (v := 12) hx hb dX14_law_25 (by decide) ?_
    refine lv_icmp_ne (tgt := 33) hx hb dX14_law_27 (by decide) (fun c27 => ?_) (fun c27 => ?_)
    · have hf := ifn c27 hf
      refine lv_aload_n hx hb dX14_law_33 rfl (lv_at hl 0 rfl) ?_
      obtain ⟨_, s34, h34, hf⟩ := ob_some hf
      refine aw_dV0 (r := o) (As := []) (rest := []) (ct_X14_putsBy l G a o s2 () s34 h34) hC hW hl.1 vy_X14_putsBy (Or.inl q1677) g2 rfl rfl rfl rfl (Nat.le_of_ble_eq_true rfl) ⟨Nat.le_of_ble_eq_true rfl, Nat.le_of_ble_eq_true rfl⟩ ⟨Nat.le_of_ble_eq_true rfl, Nat.le_of_ble_eq_true rfl⟩ dX14_law_34 (fun H locs hW => ?_)
      refine lv_aload_n hx hb dX14_law_37 rfl (lv_at hl 0 rfl) ?_
      obtain ⟨g38, hf⟩ := gd_some hf
      obtain ⟨q38, hq38, hf⟩ := bi_some hf
      refine aw_gR hC hW g38 fl_X14_44 rfl hq38 dX14_law_38 ?_
      refine lv_bipush (v := 20) hx hb dX14_law_41 (by decide) ?_
      obtain ⟨g43, hf⟩ := gd_some hf
      refine aw_iald hC hW g43 dX14_law_43 ?_
      obtain ⟨v44, ev44, hf⟩ := bnd_some hf
      refine top_i ev44 ?_
      refine lv_istore_n (lv' := [(1, .int v44), (0, .ref (a o))]) hx hb dX14_law_44 rfl hl (by decide) rfl (fun ls hl => ?_)
      refine lv_aload_n hx hb dX14_law_45 rfl (lv_at hl 1 rfl) ?_
      obtain ⟨q46, hq46, hf⟩ := bi_some hf
      refine aw_gR hC hW g38 fl_X14_44 rfl hq46 dX14_law_46 ?_
      refine lv_bipush (v := 21) hx hb dX14_law_49 (by decide) ?_
      refine lv_iload_n hx hb dX14_law_51 rfl (lv_at hl 0 rfl) ?_
      refine lv_iadd hx hb dX14_law_52 ?_
      refine lv_aload_n hx hb dX14_law_53 rfl (lv_at hl 1 rfl) ?_
      obtain ⟨q54, hq54, hf⟩ := bi_some hf
      refine aw_gR hC hW g38 fl_X14_44 rfl hq54 dX14_law_54 ?_
      refine lv_bipush (v := 17) hx hb dX14_law_57 (by decide) ?_
      obtain ⟨g59, hf⟩ := gd_some hf
      refine aw_iald hC hW g59 dX14_law_59 ?_
      obtain ⟨g60, hf⟩ := gd_some hf
      obtain ⟨s60, e60, hf⟩ := bnd_some hf
      refine aw_iast e60 hC hW g60 dX14_law_60 (fun H locs hW => ?_)
      have g38 := ko_pI e60 g38
      refine lv_aload_n hx hb dX14_law_61 rfl (lv_at hl 1 rfl) ?_
      obtain ⟨q62, hq62, hf⟩ := bi_some hf
      refine aw_gR hC hW g38 fl_X14_44 rfl hq62 dX14_law_62 ?_
      refine lv_bipush (v := 33) hx hb dX14_law_65 (by decide) ?_
      refine lv_iload_n hx hb dX14_law_67 rfl (lv_at hl 0 rfl) ?_
      refine lv_iadd hx hb dX14_law_68 ?_
      refine lv_aload_n hx hb dX14_law_69 rfl (lv_at hl 1 rfl) ?_
      obtain ⟨q70, hq70, hf⟩ := bi_some hf
      refine aw_gR hC hW g38 fl_X14_44 rfl hq70 dX14_law_70 ?_
      refine lv_bipush (v := 19) hx hb dX14_law_73 (by decide) ?_
      obtain ⟨g75, hf⟩ := gd_some hf
      refine aw_iald hC hW g75 dX14_law_75 ?_
      obtain ⟨g76, hf⟩ := gd_some hf
      obtain ⟨s76, e76, hf⟩ := bnd_some hf
      refine aw_iast e76 hC hW g76 dX14_law_76 (fun H locs hW => ?_)
      have g38 := ko_pI e76 g38
      refine lv_aload_n hx hb dX14_law_77 rfl (lv_at hl 1 rfl) ?_
      obtain ⟨q78, hq78, hf⟩ := bi_some hf
      refine aw_gR hC hW g38 fl_X14_44 rfl hq78 dX14_law_78 ?_
      refine lv_bipush (v := 45) hx hb dX14_law_81 (by decide) ?_
      refine lv_iload_n hx hb dX14_law_83 rfl (lv_at hl 0 rfl) ?_
      refine lv_iadd hx hb dX14_law_84 ?_
      refine lv_iconst (v := (-1)) hx hb dX14_law_85 (by decide) ?_
      obtain ⟨g86, hf⟩ := gd_some hf
      obtain ⟨s86, e86, hf⟩ := bnd_some hf
      refine aw_iast e86 hC hW g86 dX14_law_86 (fun H locs hW => ?_)
      have g38 := ko_pI e86 g38
      refine lv_aload_n hx hb dX14_law_87 rfl (lv_at hl 1 rfl) ?_
      obtain ⟨q88, hq88, hf⟩ := bi_some hf
      refine aw_gR hC hW g38 fl_X14_44 rfl hq88 dX14_law_88 ?_
      refine lv_bipush (v := 20) hx hb dX14_law_91 (by decide) ?_
      refine lv_dup2_11 hx hb dX14_law_93 rfl rfl ?_
      obtain ⟨g94, hf⟩ := gd_some hf
      refine aw_iald hC hW g94 dX14_law_94 ?_
      refine lv_iconst (v := 1) hx hb dX14_law_95 (by decide) ?_
      refine lv_iadd hx hb dX14_law_96 ?_
      obtain ⟨g97, hf⟩ := gd_some hf
      obtain ⟨s97, e97, hf⟩ := bnd_some hf
      refine aw_iast e97 hC hW g97 dX14_law_97 (fun H locs hW => ?_)
      have g38 := ko_pI e97 g38
      refine lv_iload_n hx hb dX14_law_98 rfl (lv_at hl 0 rfl) ?_
      obtain ⟨e1, e2⟩ := so_inj hf
      exact aw_iret hC hW hr rfl (p_eq hP (congrArg (fun z => some (Value.int z)) e1) e2) (Nat.le_of_ble_eq_true rfl) (Nat.le_of_ble_eq_true rfl) dX14_law_99
    · have hf := ifp c27 hf
      refine lv_bipush (v := (-3)) hx hb dX14_law_30 (by decide) ?_
      obtain ⟨e1, e2⟩ := so_inj hf
      exact aw_iret hC hW hr rfl (p_eq hP (congrArg (fun z => some (Value.int z)) e1) e2) (Nat.le_of_ble_eq_true rfl) (Nat.le_of_ble_eq_true rfl) dX14_law_32
  · have hf := ifn c12 hf
    refine lv_bipush (v := (-2)) hx hb dX14_law_15 (by decide) ?_
    obtain ⟨e1, e2⟩ := so_inj hf
    exact aw_iret hC hW hr rfl (p_eq hP (congrArg (fun z => some (Value.int z)) e1) e2) (Nat.le_of_ble_eq_true rfl) (Nat.le_of_ble_eq_true rfl) dX14_law_17
