set_option maxRecDepth 100000
def f_X1_habit (o : Nat) (x1 : Int32) (s : ST) : Option (Int32 × ST) :=
  gd (o < s.1 ∧ (kd s o).1 = 1) <|
  gd (o < s.1) <|
  ob (f_X1_words o 12 s) fun v3 s3 =>
  gd (o < s3.1 ∧ (kd s3 o).1 = 1) <|
  ob (f_X1_isOne o x1 s3) fun v9 s9 =>
  gd (s3.1 ≤ s9.1) <|
  if v9 = 0 then (some ((-100), s9)) else gd (o < s9.1 ∧ (kd s9 o).1 = 1) <|
  (gr s9 o 13).bind fun q19 =>
  gd (q19 < s9.1 ∧ (kd s9 q19).1 = 105 ∧ ¬ ((0 : Int32) < 0 ∨ (kd s9 q19).2 ≤ (0 : Int32).toNatClampNeg)) <|
  (gr s9 q19 (0 : Int32).toNatClampNeg).bind fun q23 =>
  gd (v3 < s9.1 ∧ (kd s9 v3).1 = 15) <|
  oh (t_X15_habit v3 q23 s9) (fun pl27 sx27 => gd (s9.1 ≤ sx27.1) <| some (((-1) - pl27), sx27)) <|
  ob (f_X15_habit v3 q23 s9) fun _ s27 =>
  gd (s9.1 ≤ s27.1) <|
  gd (v3 < s27.1 ∧ (kd s27 v3).1 = 15) <|
  oh (t_X15_needEnd v3 s27) (fun pl31 sx31 => gd (s27.1 ≤ sx31.1) <| some (((-1) - pl31), sx31)) <|
  ob (f_X15_needEnd v3 s27) fun _ s31 =>
  gd (s27.1 ≤ s31.1) <|
  gd (o < s31.1 ∧ (kd s31 o).1 = 1) <|
  (gr s31 o 0).bind fun q48 =>
  gd (q48 < s31.1 ∧ (kd s31 q48).1 = 105 ∧ ¬ ((x1 : Int32) < 0 ∨ (kd s31 q48).2 ≤ (x1 : Int32).toNatClampNeg)) <|
  (gr s31 q48 (x1 : Int32).toNatClampNeg).bind fun q52 =>
  gd (q23 < s31.1 ∧ (kd s31 q23).1 = 3) <|
  gd (q52 < s31.1 ∧ (kd s31 q52).1 = 3) <|
  bnd (pI s31 q52 2 (gi s31 q23 2)) fun s57 =>
  (gr s57 q23 3).bind fun q61 =>
  (gr s57 o 0).bind fun q66 =>
  gd (q66 < s57.1 ∧ (kd s57 q66).1 = 105 ∧ ¬ ((x1 : Int32) < 0 ∨ (kd s57 q66).2 ≤ (x1 : Int32).toNatClampNeg)) <|
  (gr s57 q66 (x1 : Int32).toNatClampNeg).bind fun q70 =>
  gd (q70 < s57.1 ∧ (kd s57 q70).1 = 3) <|
  (gr s57 q70 3).bind fun q71 =>
  gd (q61 < s57.1 ∧ (kd s57 q61).1 = 100) <|
  gd (q71 < s57.1 ∧ (kd s57 q71).1 = 100) <|
  gd ((¬ (0 : Int32) < 0 ∧ ¬ (0 : Int32) < 0 ∧ ¬ (6 : Int32) < 0) ∧ (0 : Int32).toNatClampNeg + (6 : Int32).toNatClampNeg ≤ (kd s57 q61).2 ∧ (0 : Int32).toNatClampNeg + (6 : Int32).toNatClampNeg ≤ (kd s57 q71).2) <|
  bnd (pIr s57 q71 (cpyI (gi s57 q61) (gi s57 q71) 0 0 6)) fun s77 =>
  some ((gi s77 q23 2), s77)
set_option maxHeartbeats 4000000 in
theorem cta_X1_habit (l : Launch) (hlt : l.stackTraces = false) (G : GM) (a : Nat → Nat) (o : Nat) (x1 : Int32) (s : ST) (rv : Int32) (sf : ST) (hf : f_X1_habit o x1 s = some (rv, sf)) : MA l G yX1_habit (wsW_ yX1_habit cX1_habit 5 (some .int) [(25, 34, 37, 228)]) 8 2 11 [.ref (a o), .int x1] a s (fun _ => (some (.int rv))) sf := by
  refine ma_ofH (d := 8) (mc := 2) (ms := 11) (lv := [(0, .ref (a o)), (1, .int x1)]) (by decide) (Nat.le_of_ble_eq_true rfl) rfl ?_
  intro p e s0 m args below meth c ls A P hP hC hTab hr hnm hW hl
  have hx := hC.1
  have hb := hC.2.1
  have hts := hC.2.2.2.2.1
  obtain ⟨N0, hN0⟩ : ∃ N0, N0 = s.1 := ⟨_, rfl⟩
  rw [← hN0] at hP
  have hE : EX a a N0 := EX.rf
  have hN : N0 ≤ s.1 := Nat.le_of_eq hN0
  unfold f_X1_habit at hf
  refine lv_aload_n hx hb dX1_habit_0 rfl (lv_at hl 0 rfl) ?_
  refine lv_bipush (v := 12) hx hb dX1_habit_1 (by decide) ?_
  obtain ⟨g3, hf⟩ := gd_some hf
  obtain ⟨gr3, hf⟩ := gd_some hf
  obtain ⟨v3, s3, h3, hf⟩ := ob_some hf
  refine aw_run hC hW (aw_runV hC hW hl.1 (r := o) (As := [.int 12]) (rest := []) (cta_X1_words l G a o 12 s v3 s3 h3) vy_X1_words (Or.inl q522) g3 rfl rfl rfl rfl (Nat.le_of_ble_eq_true rfl) ⟨Nat.le_of_ble_eq_true rfl, Nat.le_of_ble_eq_true rfl⟩ ⟨Nat.le_of_ble_eq_true rfl, Nat.le_of_ble_eq_true rfl⟩ dX1_habit_3) (fun v9 a3 s9 H locs hp9 hW => ?_)
  obtain ⟨rfl, h9s, hE1, hN1⟩ := hp9
  rw [h9s] at hW
  have hE : EX a a3 N0 := hE.trans hE1 hN
  have hN := Nat.le_trans hN hN1
  have hl : lv_has ls 5 [(0, .ref (a3 o)), (1, .int x1)] := by simp only [hE1 _ gr3]; exact hl
  refine W.eq (g2 := F0 m 6 ls [.ref (a3 v3)]) rfl ?_
  refine W.widen (k := 1) (n := 4) (Nat.le_of_ble_eq_true rfl) (Nat.le_of_ble_eq_true rfl) ?_
  refine lv_astore_n (lv' := [(2, .ref (a3 v3)), (0, .ref (a3 o)), (1, .int x1)]) hx hb dX1_habit_6 rfl hl (by decide) rfl (fun ls hl => ?_)
  refine lv_aload_n hx hb dX1_habit_7 rfl (lv_at hl 1 rfl) ?_
  refine lv_iload_n hx hb dX1_habit_8 rfl (lv_at hl 2 rfl) ?_
  obtain ⟨g9, hf⟩ := gd_some hf
  obtain ⟨v9, s9, h9, hf⟩ := ob_some hf
  obtain ⟨hN1, hf⟩ := gd_some hf
  have hN := Nat.le_trans hN hN1
  refine aw_dV1 (r := o) (As := [.int x1]) (rest := []) (ct_X1_isOne l G a3 o x1 s3 v9 s9 h9) hC hW hl.1 vy_X1_isOne (Or.inl q848) g9 rfl rfl rfl rfl (Nat.le_of_ble_eq_true rfl) ⟨Nat.le_of_ble_eq_true rfl, Nat.le_of_ble_eq_true rfl⟩ ⟨Nat.le_of_ble_eq_true rfl, Nat.le_of_ble_eq_true rfl⟩ dX1_habit_9 (fun H locs hW => ?_)
  refine lv_if_ne (tgt := 18) hx hb dX1_habit_12 (by decide) (fun c12 => ?_) (fun c12 => ?_)
  · have hf := ifn c12 hf
    refine lv_aload_n hx hb dX1_habit_18 rfl (lv_at hl 1 rfl) ?_
    obtain ⟨g19, hf⟩ := gd_some hf
    obtain ⟨q19, hq19, hf⟩ := bi_some hf
    refine aw_gR hC hW g19 fl_X1_42 rfl hq19 dX1_habit_19 ?_
    refine lv_iconst (v := 0) hx hb dX1_habit_22 (by decide) ?_
    obtain ⟨g23, hf⟩ := gd_some hf
    obtain ⟨q23, hq23, hf⟩ := bi_some hf
    refine aw_aald (j := 0) hC hW (by decide) g23 hq23 dX1_habit_23 ?_
    refine lv_astore_n (lv' := [(3, .ref (a3 q23)), (2, .ref (a3 v3)), (0, .ref (a3 o)), (1, .int x1)]) hx hb dX1_habit_24 rfl hl (by decide) rfl (fun ls hl => ?_)
    refine lv_aload_n hx hb dX1_habit_25 rfl (lv_at hl 1 rfl) ?_
    refine lv_aload_n hx hb dX1_habit_26 rfl (lv_at hl 0 rfl) ?_
    obtain ⟨g27, hf⟩ := gd_some hf
    rcases oh_cases hf with ⟨pl27, sx27, ht27, hf⟩ | hf
    · refine aw_trunX (aw_trV (r := v3) (As := [.ref (a3 q23)]) (rest := []) (tt_X15_habit l hlt G a3 v3 q23 s9 pl27 sx27 ht27) hC hW hl.1 vy_X15_habit q643 g27 rfl rfl rfl rfl (Nat.le_of_ble_eq_true rfl) ⟨Nat.le_of_ble_eq_true rfl, Nat.le_of_ble_eq_true rfl⟩ ⟨Nat.le_of_ble_eq_true rfl, Nat.le_of_ble_eq_true rfl⟩ dX1_habit_27) hC hW (fun q9 H locs hW hF9 => aw_catchF hC hTab hF9 ⟨Nat.le_of_ble_eq_true rfl, Nat.le_of_ble_eq_true rfl, by decide⟩ q521 ?_)
      obtain ⟨hN1, hf⟩ := gd_some hf
      have hN := Nat.le_trans hN hN1
      refine lv_astore (lv' := [(4, .ref q9), (3, .ref (a3 q23)), (2, .ref (a3 v3)), (0, .ref (a3 o)), (1, .int x1)]) hx hb dX1_habit_37 hl (by decide) rfl (fun ls hl => ?_)
      refine lv_iconst (v := (-1)) hx hb dX1_habit_39 (by decide) ?_
      refine lv_aload hx hb dX1_habit_40 (lv_at hl 0 rfl) ?_
      refine aw_gX hC hF9 q605 dX1_habit_42 ?_
      refine lv_isub hx hb dX1_habit_45 ?_
      obtain ⟨e1, e2⟩ := so_inj hf
      exact aw_iret hC hW hr rfl (p_eq (hP _ hE (e2 ▸ hN)) (congrArg (fun z => some (Value.int z)) e1) e2) (Nat.le_of_ble_eq_true rfl) (Nat.le_of_ble_eq_true rfl) dX1_habit_46
    obtain ⟨_, s27, h27, hf⟩ := ob_some hf
    obtain ⟨hN1, hf⟩ := gd_some hf
    have hN := Nat.le_trans hN hN1
    refine aw_dV0 (r := v3) (As := [.ref (a3 q23)]) (rest := []) (ct_X15_habit l G a3 v3 q23 s9 () s27 h27) hC hW hl.1 vy_X15_habit (Or.inl q643) g27 rfl rfl rfl rfl (Nat.le_of_ble_eq_true rfl) ⟨Nat.le_of_ble_eq_true rfl, Nat.le_of_ble_eq_true rfl⟩ ⟨Nat.le_of_ble_eq_true rfl, Nat.le_of_ble_eq_true rfl⟩ dX1_habit_27 (fun H locs hW => ?_)
    refine lv_aload_n hx hb dX1_habit_30 rfl (lv_at hl 1 rfl) ?_
    obtain ⟨g31, hf⟩ := gd_some hf
    rcases oh_cases hf with ⟨pl31, sx31, ht31, hf⟩ | hf
    · refine aw_trunX (aw_trV (r := v3) (As := []) (rest := []) (tt_X15_needEnd l hlt G a3 v3 s27 pl31 sx31 ht31) hC hW hl.1 vy_X15_needEnd q650 g31 rfl rfl rfl rfl (Nat.le_of_ble_eq_true rfl) ⟨Nat.le_of_ble_eq_true rfl, Nat.le_of_ble_eq_true rfl⟩ ⟨Nat.le_of_ble_eq_true rfl, Nat.le_of_ble_eq_true rfl⟩ dX1_habit_31) hC hW (fun q9 H locs hW hF9 => aw_catchF hC hTab hF9 ⟨Nat.le_of_ble_eq_true rfl, Nat.le_of_ble_eq_true rfl, by decide⟩ q521 ?_)
      obtain ⟨hN1, hf⟩ := gd_some hf
      have hN := Nat.le_trans hN hN1
      refine lv_astore (lv' := [(4, .ref q9), (3, .ref (a3 q23)), (2, .ref (a3 v3)), (0, .ref (a3 o)), (1, .int x1)]) hx hb dX1_habit_37 hl (by decide) rfl (fun ls hl => ?_)
      refine lv_iconst (v := (-1)) hx hb dX1_habit_39 (by decide) ?_
      refine lv_aload hx hb dX1_habit_40 (lv_at hl 0 rfl) ?_
      refine aw_gX hC hF9 q605 dX1_habit_42 ?_
      refine lv_isub hx hb dX1_habit_45 ?_
      obtain ⟨e1, e2⟩ := so_inj hf
      exact aw_iret hC hW hr rfl (p_eq (hP _ hE (e2 ▸ hN)) (congrArg (fun z => some (Value.int z)) e1) e2) (Nat.le_of_ble_eq_true rfl) (Nat.le_of_ble_eq_true rfl) dX1_habit_46
    obtain ⟨_, s31, h31, hf⟩ := ob_some hf
    obtain ⟨hN1, hf⟩ := gd_some hf
    have hN := Nat.le_trans hN hN1
    refine aw_dV0 (r := v3) (As := []) (rest := []) (ct_X15_needEnd l G a3 v3 s27 () s31 h31) hC hW hl.1 vy_X15_needEnd (Or.inl q650) g31 rfl rfl rfl rfl (Nat.le_of_ble_eq_true rfl) ⟨Nat.le_of_ble_eq_true rfl, Nat.le_of_ble_eq_true rfl⟩ ⟨Nat.le_of_ble_eq_true rfl, Nat.le_of_ble_eq_true rfl⟩ dX1_habit_31 (fun H locs hW => ?_)
    refine lv_goto (tgt := 47) hx hb dX1_habit_34 (by decide) ?_
    refine lv_aload_n hx hb dX1_habit_47 rfl (lv_at hl 2 rfl) ?_
    obtain ⟨g48, hf⟩ := gd_some hf
    obtain ⟨q48, hq48, hf⟩ := bi_some hf
    refine aw_gR hC hW g48 fl_X1_11 rfl hq48 dX1_habit_48 ?_
    refine lv_iload_n hx hb dX1_habit_51 rfl (lv_at hl 3 rfl) ?_
    obtain ⟨g52, hf⟩ := gd_some hf
    obtain ⟨q52, hq52, hf⟩ := bi_some hf
    refine aw_aald (j := 0) hC hW (by decide) g52 hq52 dX1_habit_52 ?_
    refine lv_aload_n hx hb dX1_habit_53 rfl (lv_at hl 0 rfl) ?_
    obtain ⟨g54, hf⟩ := gd_some hf
    refine aw_gI hC hW g54 fl_X1_270 rfl dX1_habit_54 ?_
    obtain ⟨g57, hf⟩ := gd_some hf
    obtain ⟨s57, e57, hf⟩ := bnd_some hf
    refine aw_pI e57 hC hW g57 fl_X1_270 (Or.inl fn_2_2) rfl rfl rfl dX1_habit_57 (fun H locs hW => ?_)
    have hN := n_pI e57 hN
    have g48 := ko_pI e57 g48
    have g54 := ko_pI e57 g54
    have g57 := ko_pI e57 g57
    refine lv_aload_n hx hb dX1_habit_60 rfl (lv_at hl 0 rfl) ?_
    obtain ⟨q61, hq61, hf⟩ := bi_some hf
    refine aw_gR hC hW g54 fl_X1_273 rfl hq61 dX1_habit_61 ?_
    refine lv_iconst (v := 0) hx hb dX1_habit_64 (by decide) ?_
    refine lv_aload_n hx hb dX1_habit_65 rfl (lv_at hl 2 rfl) ?_
    obtain ⟨q66, hq66, hf⟩ := bi_some hf
    refine aw_gR hC hW g48 fl_X1_11 rfl hq66 dX1_habit_66 ?_
    refine lv_iload_n hx hb dX1_habit_69 rfl (lv_at hl 3 rfl) ?_
    obtain ⟨g70, hf⟩ := gd_some hf
    obtain ⟨q70, hq70, hf⟩ := bi_some hf
    refine aw_aald (j := 0) hC hW (by decide) g70 hq70 dX1_habit_70 ?_
    obtain ⟨g71, hf⟩ := gd_some hf
    obtain ⟨q71, hq71, hf⟩ := bi_some hf
    refine aw_gR hC hW g71 fl_X1_273 rfl hq71 dX1_habit_71 ?_
    refine lv_iconst (v := 0) hx hb dX1_habit_74 (by decide) ?_
    refine lv_bipush (v := 6) hx hb dX1_habit_75 (by decide) ?_
    obtain ⟨g77, hf⟩ := gd_some hf
    obtain ⟨h77, hf⟩ := gd_some hf
    obtain ⟨z77, hf⟩ := gd_some hf
    obtain ⟨s77, e77, hf⟩ := bnd_some hf
    refine aw_copyI e77 hC hW (by rw [hC.2.2.1]; exact hl.1.symm) q852 q666 q665 q94 g77 h77 z77 (Nat.le_of_ble_eq_true rfl) (Nat.le_of_ble_eq_true rfl) dX1_habit_77 (fun H locs hW => ?_)
    have hN := n_pIr e77 hN
    have g48 := ko_pIr e77 g48
    have g54 := ko_pIr e77 g54
    have g57 := ko_pIr e77 g57
    have g71 := ko_pIr e77 g71
    refine lv_aload_n hx hb dX1_habit_80 rfl (lv_at hl 0 rfl) ?_
    refine aw_gI hC hW g54 fl_X1_270 rfl dX1_habit_81 ?_
    obtain ⟨e1, e2⟩ := so_inj hf
    exact aw_iret hC hW hr rfl (p_eq (hP _ hE (e2 ▸ hN)) (congrArg (fun z => some (Value.int z)) e1) e2) (Nat.le_of_ble_eq_true rfl) (Nat.le_of_ble_eq_true rfl) dX1_habit_84
  · have hf := ifp c12 hf
    refine lv_bipush (v := (-100)) hx hb dX1_habit_15 (by decide) ?_
    obtain ⟨e1, e2⟩ := so_inj hf
    exact aw_iret hC hW hr rfl (p_eq (hP _ hE (e2 ▸ hN)) (congrArg (fun z => some (Value.int z)) e1) e2) (Nat.le_of_ble_eq_true rfl) (Nat.le_of_ble_eq_true rfl) dX1_habit_17
def f_X1_town_b112 : Nat → Nat → Int32 → Int32 → ST → Option (Int32 × ST)
  | 0, _, _, _, _ => none
  | n + 1, r0, x2, x3, s =>
  if x2 ≤ x3 then (some (x2, s)) else gd (r0 < s.1 ∧ (kd s r0).1 = 1) <|
  (gr s r0 13).bind fun q119 =>
  gd (q119 < s.1 ∧ (kd s q119).1 = 105 ∧ ¬ ((x3 : Int32) < 0 ∨ (kd s q119).2 ≤ (x3 : Int32).toNatClampNeg)) <|
  (gr s q119 (x3 : Int32).toNatClampNeg).bind fun q123 =>
  (gr s r0 14).bind fun q125 =>
  gd (q125 < s.1 ∧ (kd s q125).1 = 100 ∧ ¬ ((x3 : Int32) < 0 ∨ (kd s q125).2 ≤ (x3 : Int32).toNatClampNeg)) <|
  ob (f_X1_add r0 q123 (gi s q125 (x3 : Int32).toNatClampNeg) s) fun _ s130 =>
  gd (s.1 ≤ s130.1) <|
  bnd (x3 + 1 : Int32) fun v133 =>
  f_X1_town_b112 n r0 x2 v133 s130
def f_X1_town_b81 (K18 : Nat → Nat → Int32 → ST → Option (Int32 × ST)) (r0 : Nat) (r1 : Nat) (x2 : Int32) (r3 : Nat) (t0 : Int32) (w1 : Nat) (s : ST) : Option (Int32 × ST) :=
  gd (w1 < s.1 ∧ (kd s w1).1 = 3) <|
  bnd (pI s w1 0 t0) fun s81 =>
  gd (r3 < s81.1 ∧ (kd s81 r3).1 = 3) <|
  bnd (pI s81 r3 1 0) fun s86 =>
  gd (r1 < s86.1 ∧ (kd s86 r1).1 = 15) <|
  oh (t_X15_habit r1 r3 s86) (fun pl91 sx91 => gd (s86.1 ≤ sx91.1) <| some (((-1) - pl91), sx91)) <|
  ob (f_X15_habit r1 r3 s86) fun _ s91 =>
  gd (s86.1 ≤ s91.1) <|
  bnd (x2 + 1 : Int32) fun v94 =>
  gd (r1 < s91.1 ∧ (kd s91 r1).1 = 15) <|
  ob (f_X15_passes r1 59 s91) fun v100 s100 =>
  gd (s91.1 ≤ s100.1) <|
  if v100 = 0 then (gd (r1 < s100.1 ∧ (kd s100 r1).1 = 15) <|
  oh (t_X15_needEnd r1 s100) (fun pl107 sx107 => gd (s100.1 ≤ sx107.1) <| some (((-1) - pl107), sx107)) <|
  ob (f_X15_needEnd r1 s100) fun _ s107 =>
  gd (s100.1 ≤ s107.1) <|
  f_X1_town_b112 fuel r0 v94 0 s107) else K18 r0 r1 v94 s100
def f_X1_town_b35 (K18 : Nat → Nat → Int32 → ST → Option (Int32 × ST)) (r0 : Nat) (r1 : Nat) (x2 : Int32) (t0 : Int32) (w1 : Nat) (s : ST) : Option (Int32 × ST) :=
  gd (w1 < s.1 ∧ (kd s w1).1 = 15) <|
  oh (t_X15_need w1 t0 s) (fun pl35 sx35 => gd (s.1 ≤ sx35.1) <| some (((-1) - pl35), sx35)) <|
  ob (f_X15_need w1 t0 s) fun _ s35 =>
  gd (s.1 ≤ s35.1) <|
  gd (r0 < s35.1 ∧ (kd s35 r0).1 = 1) <|
  (gr s35 r0 13).bind fun q39 =>
  gd (q39 < s35.1 ∧ (kd s35 q39).1 = 105 ∧ ¬ ((x2 : Int32) < 0 ∨ (kd s35 q39).2 ≤ (x2 : Int32).toNatClampNeg)) <|
  (gr s35 q39 (x2 : Int32).toNatClampNeg).bind fun q43 =>
  (gr s35 r0 14).bind fun q46 =>
  gd (r1 < s35.1 ∧ (kd s35 r1).1 = 15) <|
  oh (t_X15_number r1 3 1 999 s35) (fun pl56 sx56 => gd (s35.1 ≤ sx56.1) <| some (((-1) - pl56), sx56)) <|
  ob (f_X15_number r1 3 1 999 s35) fun v56 s56 =>
  gd (s35.1 ≤ s56.1) <|
  gd (q46 < s56.1 ∧ (kd s56 q46).1 = 100 ∧ ¬ ((x2 : Int32) < 0 ∨ (kd s56 q46).2 ≤ (x2 : Int32).toNatClampNeg)) <|
  bnd (pI s56 q46 (x2 : Int32).toNatClampNeg v56) fun s59 =>
  gd (r1 < s59.1 ∧ (kd s59 r1).1 = 15) <|
  ob (f_X15_passes r1 42 s59) fun v64 s64 =>
  gd (s59.1 ≤ s64.1) <|
  if v64 = 0 then (f_X1_town_b81 K18 r0 r1 x2 q43 0 q43 s64) else gd (r1 < s64.1 ∧ (kd s64 r1).1 = 15) <|
  oh (t_X15_number r1 1 0 3 s64) (fun pl74 sx74 => gd (s64.1 ≤ sx74.1) <| some (((-1) - pl74), sx74)) <|
  ob (f_X15_number r1 1 0 3 s64) fun v74 s74 =>
  gd (s64.1 ≤ s74.1) <|
  f_X1_town_b81 K18 r0 r1 x2 q43 v74 q43 s74
def f_X1_town_b18 : Nat → Nat → Nat → Int32 → ST → Option (Int32 × ST)
  | 0, _, _, _, _ => none
  | n + 1, r0, r1, x2, s =>
  gd (r0 < s.1 ∧ (kd s r0).1 = 1) <|
  if 8 ≤ ((gi s r0 4) + x2) then (f_X1_town_b35 (f_X1_town_b18 n) r0 r1 x2 0 r1 s) else f_X1_town_b35 (f_X1_town_b18 n) r0 r1 x2 1 r1 s
def f_X1_town (o : Nat) (s : ST) : Option (Int32 × ST) :=
  gd (o < s.1 ∧ (kd s o).1 = 1) <|
  gd (o < s.1) <|
  ob (f_X1_words o 76 s) fun v3 s3 =>
  gd (v3 < s3.1 ∧ (kd s3 v3).1 = 15) <|
  if (gi s3 v3 1) = 0 then (some (0, s3)) else f_X1_town_b18 fuel o v3 0 s3
set_option maxHeartbeats 4000000 in
theorem cta_X1_town (l : Launch) (hlt : l.stackTraces = false) (G : GM) (a : Nat → Nat) (o : Nat) (s : ST) (rv : Int32) (sf : ST) (hf : f_X1_town o s = some (rv, sf)) : MA l G yX1_town (wsW_ yX1_town cX1_town 4 (some .int) [(16, 140, 141, 228)]) 8 2 11 [.ref (a o)] a s (fun _ => (some (.int rv))) sf := by
  refine ma_ofH (d := 8) (mc := 2) (ms := 11) (lv := [(0, .ref (a o))]) (by decide) (Nat.le_of_ble_eq_true rfl) rfl ?_
  intro p e s0 m args below meth c ls A P hP hC hTab hr hnm hW hl
  have hx := hC.1
  have hb := hC.2.1
  have hts := hC.2.2.2.2.1
  obtain ⟨N0, hN0⟩ : ∃ N0, N0 = s.1 := ⟨_, rfl⟩
  rw [← hN0] at hP
  have hE : EX a a N0 := EX.rf
  have hN : N0 ≤ s.1 := Nat.le_of_eq hN0
  have B112 : ∀ (n : Nat), ∀ (ab : Nat → Nat) (hE : EX a ab N0) (r0 : Nat) (x2 : Int32) (x3 : Int32) (s : ST) (hN : N0 ≤ s.1), f_X1_town_b112 n r0 x2 x3 s = some (rv, sf) → ∀ (H : Heap) (locs : List Loc) (ls : Array Slot), lv_has ls 4 [(0, .ref (ab r0)), (2, .int x2), (3, .int x3)] → AW G ab A s s0.heap H locs → WBA p l e (rmA 8 2 11) s0 m args below meth c H locs G A P 1 4 2 11 112 ls [] := by
    intro n
    induction n with
    | zero => intro ab hE r0 x2 x3 s hN hf; cases hf
    | succ n ih =>
      intro ab hE r0 x2 x3 s hN hf H locs ls hl hW
      rw [f_X1_town_b112] at hf
      refine lv_iload_n hx hb dX1_town_112 rfl (lv_at hl 2 rfl) ?_
      refine lv_iload_n hx hb dX1_town_113 rfl (lv_at hl 1 rfl) ?_
      refine lv_icmp_ge (tgt := 139) hx hb dX1_town_114 (by decide) (fun c114 => ?_) (fun c114 => ?_)
      · have hf := ifp c114 hf
        refine lv_iload_n hx hb dX1_town_139 rfl (lv_at hl 1 rfl) ?_
        obtain ⟨e1, e2⟩ := so_inj hf
        exact aw_iret hC hW hr rfl (p_eq (hP _ hE (e2 ▸ hN)) (congrArg (fun z => some (Value.int z)) e1) e2) (Nat.le_of_ble_eq_true rfl) (Nat.le_of_ble_eq_true rfl) dX1_town_140
      · have hf := ifn c114 hf
        refine lv_aload_n hx hb dX1_town_117 rfl (lv_at hl 0 rfl) ?_
        refine lv_aload_n hx hb dX1_town_118 rfl (lv_at hl 0 rfl) ?_
        obtain ⟨g119, hf⟩ := gd_some hf
        obtain ⟨q119, hq119, hf⟩ := bi_some hf
        refine aw_gR hC hW g119 fl_X1_42 rfl hq119 dX1_town_119 ?_
        refine lv_iload_n hx hb dX1_town_122 rfl (lv_at hl 2 rfl) ?_
        obtain ⟨g123, hf⟩ := gd_some hf
        obtain ⟨q123, hq123, hf⟩ := bi_some hf
        refine aw_aald (j := 0) hC hW (by decide) g123 hq123 dX1_town_123 ?_
        refine lv_aload_n hx hb dX1_town_124 rfl (lv_at hl 0 rfl) ?_
        obtain ⟨q125, hq125, hf⟩ := bi_some hf
        refine aw_gR hC hW g119 fl_X1_45 rfl hq125 dX1_town_125 ?_
        refine lv_iload_n hx hb dX1_town_128 rfl (lv_at hl 2 rfl) ?_
        obtain ⟨g129, hf⟩ := gd_some hf
        refine aw_iald hC hW g129 dX1_town_129 ?_
        obtain ⟨_, s130, h130, hf⟩ := ob_some hf
        obtain ⟨hN1, hf⟩ := gd_some hf
        have hN := Nat.le_trans hN hN1
        refine aw_dV0 (r := r0) (As := [.ref (ab q123), .int (gi s q125 (x3 : Int32).toNatClampNeg)]) (rest := []) (ct_X1_add l G ab r0 q123 (gi s q125 (x3 : Int32).toNatClampNeg) s () s130 h130) hC hW hl.1 vy_X1_add (Or.inl q656) g119 rfl rfl rfl rfl (Nat.le_of_ble_eq_true rfl) ⟨Nat.le_of_ble_eq_true rfl, Nat.le_of_ble_eq_true rfl⟩ ⟨Nat.le_of_ble_eq_true rfl, Nat.le_of_ble_eq_true rfl⟩ dX1_town_130 (fun H locs hW => ?_)
        obtain ⟨v133, ev133, hf⟩ := bnd_some hf
        refine lv_iinc (v := v133) (lv' := [(3, .int v133), (0, .ref (ab r0)), (2, .int x2)]) hx hb dX1_town_133 hl (k := 2) rfl (by rw [ev133]; rfl) (by decide) rfl (fun ls hl => ?_)
        refine lv_goto (tgt := 112) hx hb dX1_town_136 (by decide) ?_
        exact ih ab hE r0 x2 v133 s130 hN hf _ _ _ (lv_sub hl [1, 2, 0] rfl) hW
  have B81 : ∀ (K18 : Nat → Nat → Int32 → ST → Option (Int32 × ST)) (hK18 : ∀ (ab : Nat → Nat) (hE : EX a ab N0) (r0 : Nat) (r1 : Nat) (x2 : Int32) (s : ST) (hN : N0 ≤ s.1), K18 r0 r1 x2 s = some (rv, sf) → ∀ (H : Heap) (locs : List Loc) (ls : Array Slot), lv_has ls 4 [(0, .ref (ab r0)), (1, .ref (ab r1)), (2, .int x2)] → AW G ab A s s0.heap H locs → WBA p l e (rmA 8 2 11) s0 m args below meth c H locs G A P 1 4 2 11 18 ls []), ∀ (ab : Nat → Nat) (hE : EX a ab N0) (r0 : Nat) (r1 : Nat) (x2 : Int32) (r3 : Nat) (t0 : Int32) (w1 : Nat) (s : ST) (hN : N0 ≤ s.1), f_X1_town_b81 K18 r0 r1 x2 r3 t0 w1 s = some (rv, sf) → ∀ (H : Heap) (locs : List Loc) (ls : Array Slot), lv_has ls 4 [(0, .ref (ab r0)), (1, .ref (ab r1)), (2, .int x2), (3, .ref (ab r3))] → AW G ab A s s0.heap H locs → WBA p l e (rmA 8 2 11) s0 m args below meth c H locs G A P 1 4 2 11 81 ls [.int t0, .ref (ab w1)] := by
    intro K18 hK18 ab hE r0 r1 x2 r3 t0 w1 s hN hf H locs ls hl hW
    unfold f_X1_town_b81 at hf
    obtain ⟨g81, hf⟩ := gd_some hf
    obtain ⟨s81, e81, hf⟩ := bnd_some hf
    refine aw_pI e81 hC hW g81 fl_X1_211 (Or.inl fn_2_0) rfl rfl rfl dX1_town_81 (fun H locs hW => ?_)
    have hN := n_pI e81 hN
    have g81 := ko_pI e81 g81
    refine lv_aload_n hx hb dX1_town_84 rfl (lv_at hl 3 rfl) ?_
    refine lv_iconst (v := 0) hx hb dX1_town_85 (by decide) ?_
    obtain ⟨g86, hf⟩ := gd_some hf
    obtain ⟨s86, e86, hf⟩ := bnd_some hf
    refine aw_pI e86 hC hW g86 fl_X1_214 (Or.inl fn_2_1) rfl rfl rfl dX1_town_86 (fun H locs hW => ?_)
    have hN := n_pI e86 hN
    have g81 := ko_pI e86 g81
    have g86 := ko_pI e86 g86
    refine lv_aload_n hx hb dX1_town_89 rfl (lv_at hl 1 rfl) ?_
    refine lv_aload_n hx hb dX1_town_90 rfl (lv_at hl 3 rfl) ?_
    obtain ⟨g91, hf⟩ := gd_some hf
    rcases oh_cases hf with ⟨pl91, sx91, ht91, hf⟩ | hf
    · refine aw_trunX (aw_trV (r := r1) (As := [.ref (ab r3)]) (rest := []) (tt_X15_habit l hlt G ab r1 r3 s86 pl91 sx91 ht91) hC hW hl.1 vy_X15_habit q643 g91 rfl rfl rfl rfl (Nat.le_of_ble_eq_true rfl) ⟨Nat.le_of_ble_eq_true rfl, Nat.le_of_ble_eq_true rfl⟩ ⟨Nat.le_of_ble_eq_true rfl, Nat.le_of_ble_eq_true rfl⟩ dX1_town_91) hC hW (fun q9 H locs hW hF9 => aw_catchF hC hTab hF9 ⟨Nat.le_of_ble_eq_true rfl, Nat.le_of_ble_eq_true rfl, by decide⟩ q521 ?_)
      obtain ⟨hN1, hf⟩ := gd_some hf
      have hN := Nat.le_trans hN hN1
      refine lv_astore_n (lv' := [(2, .ref q9), (0, .ref (ab r0)), (1, .ref (ab r1)), (3, .ref (ab r3))]) hx hb dX1_town_141 rfl hl (by decide) rfl (fun ls hl => ?_)
      refine lv_iconst (v := (-1)) hx hb dX1_town_142 (by decide) ?_
      refine lv_aload_n hx hb dX1_town_143 rfl (lv_at hl 0 rfl) ?_
      refine aw_gX hC hF9 q605 dX1_town_144 ?_
      refine lv_isub hx hb dX1_town_147 ?_
      obtain ⟨e1, e2⟩ := so_inj hf
      exact aw_iret hC hW hr rfl (p_eq (hP _ hE (e2 ▸ hN)) (congrArg (fun z => some (Value.int z)) e1) e2) (Nat.le_of_ble_eq_true rfl) (Nat.le_of_ble_eq_true rfl) dX1_town_148
    obtain ⟨_, s91, h91, hf⟩ := ob_some hf
    obtain ⟨hN1, hf⟩ := gd_some hf
    have hN := Nat.le_trans hN hN1
    refine aw_dV0 (r := r1) (As := [.ref (ab r3)]) (rest := []) (ct_X15_habit l G ab r1 r3 s86 () s91 h91) hC hW hl.1 vy_X15_habit (Or.inl q643) g91 rfl rfl rfl rfl (Nat.le_of_ble_eq_true rfl) ⟨Nat.le_of_ble_eq_true rfl, Nat.le_of_ble_eq_true rfl⟩ ⟨Nat.le_of_ble_eq_true rfl, Nat.le_of_ble_eq_true rfl⟩ dX1_town_91 (fun H locs hW => ?_)
    obtain ⟨v94, ev94, hf⟩ := bnd_some hf
    refine lv_iinc (v := v94) (lv' := [(2, .int v94), (0, .ref (ab r0)), (1, .ref (ab r1)), (3, .ref (ab r3))]) hx hb dX1_town_94 hl (k := 2) rfl (by rw [ev94]; rfl) (by decide) rfl (fun ls hl => ?_)
    refine lv_aload_n hx hb dX1_town_97 rfl (lv_at hl 2 rfl) ?_
    refine lv_bipush (v := 59) hx hb dX1_town_98 (by decide) ?_
    obtain ⟨g100, hf⟩ := gd_some hf
    obtain ⟨v100, s100, h100, hf⟩ := ob_some hf
    obtain ⟨hN1, hf⟩ := gd_some hf
    have hN := Nat.le_trans hN hN1
    refine aw_dV1 (r := r1) (As := [.int 59]) (rest := []) (ct_X15_passes l G ab r1 59 s91 v100 s100 h100) hC hW hl.1 vy_X15_passes (Or.inl q637) g100 rfl rfl rfl rfl (Nat.le_of_ble_eq_true rfl) ⟨Nat.le_of_ble_eq_true rfl, Nat.le_of_ble_eq_true rfl⟩ ⟨Nat.le_of_ble_eq_true rfl, Nat.le_of_ble_eq_true rfl⟩ dX1_town_100 (fun H locs hW => ?_)
    refine lv_if_ne (tgt := 18) hx hb dX1_town_103 (by decide) (fun c103 => ?_) (fun c103 => ?_)
    · have hf := ifn c103 hf
      exact hK18 ab hE r0 r1 v94 s100 hN hf _ _ _ (lv_sub hl [1, 2, 0] rfl) hW
    · have hf := ifp c103 hf
      refine lv_aload_n hx hb dX1_town_106 rfl (lv_at hl 2 rfl) ?_
      obtain ⟨g107, hf⟩ := gd_some hf
      rcases oh_cases hf with ⟨pl107, sx107, ht107, hf⟩ | hf
      · refine aw_trunX (aw_trV (r := r1) (As := []) (rest := []) (tt_X15_needEnd l hlt G ab r1 s100 pl107 sx107 ht107) hC hW hl.1 vy_X15_needEnd q650 g107 rfl rfl rfl rfl (Nat.le_of_ble_eq_true rfl) ⟨Nat.le_of_ble_eq_true rfl, Nat.le_of_ble_eq_true rfl⟩ ⟨Nat.le_of_ble_eq_true rfl, Nat.le_of_ble_eq_true rfl⟩ dX1_town_107) hC hW (fun q9 H locs hW hF9 => aw_catchF hC hTab hF9 ⟨Nat.le_of_ble_eq_true rfl, Nat.le_of_ble_eq_true rfl, by decide⟩ q521 ?_)
        obtain ⟨hN1, hf⟩ := gd_some hf
        have hN := Nat.le_trans hN hN1
        refine lv_astore_n (lv' := [(2, .ref q9), (0, .ref (ab r0)), (1, .ref (ab r1)), (3, .ref (ab r3))]) hx hb dX1_town_141 rfl hl (by decide) rfl (fun ls hl => ?_)
        refine lv_iconst (v := (-1)) hx hb dX1_town_142 (by decide) ?_
        refine lv_aload_n hx hb dX1_town_143 rfl (lv_at hl 0 rfl) ?_
        refine aw_gX hC hF9 q605 dX1_town_144 ?_
        refine lv_isub hx hb dX1_town_147 ?_
        obtain ⟨e1, e2⟩ := so_inj hf
        exact aw_iret hC hW hr rfl (p_eq (hP _ hE (e2 ▸ hN)) (congrArg (fun z => some (Value.int z)) e1) e2) (Nat.le_of_ble_eq_true rfl) (Nat.le_of_ble_eq_true rfl) dX1_town_148
      obtain ⟨_, s107, h107, hf⟩ := ob_some hf
      obtain ⟨hN1, hf⟩ := gd_some hf
      have hN := Nat.le_trans hN hN1
      refine aw_dV0 (r := r1) (As := []) (rest := []) (ct_X15_needEnd l G ab r1 s100 () s107 h107) hC hW hl.1 vy_X15_needEnd (Or.inl q650) g107 rfl rfl rfl rfl (Nat.le_of_ble_eq_true rfl) ⟨Nat.le_of_ble_eq_true rfl, Nat.le_of_ble_eq_true rfl⟩ ⟨Nat.le_of_ble_eq_true rfl, Nat.le_of_ble_eq_true rfl⟩ dX1_town_107 (fun H locs hW => ?_)
      refine lv_iconst (v := 0) hx hb dX1_town_110 (by decide) ?_
      refine lv_istore_n (lv' := [(3, .int 0), (2, .int v94), (0, .ref (ab r0)), (1, .ref (ab r1))]) hx hb dX1_town_111 rfl hl (by decide) rfl (fun ls hl => ?_)
      refine W.widen (k := 1) (n := 4) (Nat.le_of_ble_eq_true rfl) (Nat.le_of_ble_eq_true rfl) ?_
      exact B112 fuel ab hE r0 v94 0 s107 hN hf _ _ _ (lv_sub hl [2, 1, 0] rfl) hW
  have B35 : ∀ (K18 : Nat → Nat → Int32 → ST → Option (Int32 × ST)) (hK18 : ∀ (ab : Nat → Nat) (hE : EX a ab N0) (r0 : Nat) (r1 : Nat) (x2 : Int32) (s : ST) (hN : N0 ≤ s.1), K18 r0 r1 x2 s = some (rv, sf) → ∀ (H : Heap) (locs : List Loc) (ls : Array Slot), lv_has ls 4 [(0, .ref (ab r0)), (1, .ref (ab r1)), (2, .int x2)] → AW G ab A s s0.heap H locs → WBA p l e (rmA 8 2 11) s0 m args below meth c H locs G A P 1 4 2 11 18 ls []), ∀ (ab : Nat → Nat) (hE : EX a ab N0) (r0 : Nat) (r1 : Nat) (x2 : Int32) (t0 : Int32) (w1 : Nat) (s : ST) (hN : N0 ≤ s.1), f_X1_town_b35 K18 r0 r1 x2 t0 w1 s = some (rv, sf) → ∀ (H : Heap) (locs : List Loc) (ls : Array Slot), lv_has ls 4 [(0, .ref (ab r0)), (1, .ref (ab r1)), (2, .int x2)] → AW G ab A s s0.heap H locs → WBA p l e (rmA 8 2 11) s0 m args below meth c H locs G A P 1 4 2 11 35 ls [.int t0, .ref (ab w1)] := by
    intro K18 hK18 ab hE r0 r1 x2 t0 w1 s hN hf H locs ls hl hW
    unfold f_X1_town_b35 at hf
    obtain ⟨g35, hf⟩ := gd_some hf
    rcases oh_cases hf with ⟨pl35, sx35, ht35, hf⟩ | hf
    · refine aw_trunX (aw_trV (r := w1) (As := [.int t0]) (rest := []) (tt_X15_need l hlt G ab w1 t0 s pl35 sx35 ht35) hC hW hl.1 vy_X15_need q552 g35 rfl rfl rfl rfl (Nat.le_of_ble_eq_true rfl) ⟨Nat.le_of_ble_eq_true rfl, Nat.le_of_ble_eq_true rfl⟩ ⟨Nat.le_of_ble_eq_true rfl, Nat.le_of_ble_eq_true rfl⟩ dX1_town_35) hC hW (fun q9 H locs hW hF9 => aw_catchF hC hTab hF9 ⟨Nat.le_of_ble_eq_true rfl, Nat.le_of_ble_eq_true rfl, by decide⟩ q521 ?_)
      obtain ⟨hN1, hf⟩ := gd_some hf
      have hN := Nat.le_trans hN hN1
      refine lv_astore_n (lv' := [(2, .ref q9), (0, .ref (ab r0)), (1, .ref (ab r1))]) hx hb dX1_town_141 rfl hl (by decide) rfl (fun ls hl => ?_)
      refine lv_iconst (v := (-1)) hx hb dX1_town_142 (by decide) ?_
      refine lv_aload_n hx hb dX1_town_143 rfl (lv_at hl 0 rfl) ?_
      refine aw_gX hC hF9 q605 dX1_town_144 ?_
      refine lv_isub hx hb dX1_town_147 ?_
      obtain ⟨e1, e2⟩ := so_inj hf
      exact aw_iret hC hW hr rfl (p_eq (hP _ hE (e2 ▸ hN)) (congrArg (fun z => some (Value.int z)) e1) e2) (Nat.le_of_ble_eq_true rfl) (Nat.le_of_ble_eq_true rfl) dX1_town_148
    obtain ⟨_, s35, h35, hf⟩ := ob_some hf
    obtain ⟨hN1, hf⟩ := gd_some hf
    have hN := Nat.le_trans hN hN1
    refine aw_dV0 (r := w1) (As := [.int t0]) (rest := []) (ct_X15_need l G ab w1 t0 s () s35 h35) hC hW hl.1 vy_X15_need (Or.inl q552) g35 rfl rfl rfl rfl (Nat.le_of_ble_eq_true rfl) ⟨Nat.le_of_ble_eq_true rfl, Nat.le_of_ble_eq_true rfl⟩ ⟨Nat.le_of_ble_eq_true rfl, Nat.le_of_ble_eq_true rfl⟩ dX1_town_35 (fun H locs hW => ?_)
    refine lv_aload_n hx hb dX1_town_38 rfl (lv_at hl 0 rfl) ?_
    obtain ⟨g39, hf⟩ := gd_some hf
    obtain ⟨q39, hq39, hf⟩ := bi_some hf
    refine aw_gR hC hW g39 fl_X1_42 rfl hq39 dX1_town_39 ?_
    refine lv_iload_n hx hb dX1_town_42 rfl (lv_at hl 2 rfl) ?_
    obtain ⟨g43, hf⟩ := gd_some hf
    obtain ⟨q43, hq43, hf⟩ := bi_some hf
    refine aw_aald (j := 0) hC hW (by decide) g43 hq43 dX1_town_43 ?_
    refine lv_astore_n (lv' := [(3, .ref (ab q43)), (0, .ref (ab r0)), (1, .ref (ab r1)), (2, .int x2)]) hx hb dX1_town_44 rfl hl (by decide) rfl (fun ls hl => ?_)
    refine lv_aload_n hx hb dX1_town_45 rfl (lv_at hl 1 rfl) ?_
    obtain ⟨q46, hq46, hf⟩ := bi_some hf
    refine aw_gR hC hW g39 fl_X1_45 rfl hq46 dX1_town_46 ?_
    refine lv_iload_n hx hb dX1_town_49 rfl (lv_at hl 3 rfl) ?_
    refine lv_aload_n hx hb dX1_town_50 rfl (lv_at hl 2 rfl) ?_
    refine lv_iconst (v := 3) hx hb dX1_town_51 (by decide) ?_
    refine lv_iconst (v := 1) hx hb dX1_town_52 (by decide) ?_
    refine lv_sipush (v := 999) hx hb dX1_town_53 (by decide) ?_
    obtain ⟨g56, hf⟩ := gd_some hf
    rcases oh_cases hf with ⟨pl56, sx56, ht56, hf⟩ | hf
    · refine aw_trunX (aw_trV (r := r1) (As := [.int 3, .int 1, .int 999]) (rest := [.int x2, .ref (ab q46)]) (tt_X15_number l hlt G ab r1 3 1 999 s35 pl56 sx56 ht56) hC hW hl.1 vy_X15_number q621 g56 rfl rfl rfl rfl (Nat.le_of_ble_eq_true rfl) ⟨Nat.le_of_ble_eq_true rfl, Nat.le_of_ble_eq_true rfl⟩ ⟨Nat.le_of_ble_eq_true rfl, Nat.le_of_ble_eq_true rfl⟩ dX1_town_56) hC hW (fun q9 H locs hW hF9 => aw_catchF hC hTab hF9 ⟨Nat.le_of_ble_eq_true rfl, Nat.le_of_ble_eq_true rfl, by decide⟩ q521 ?_)
      obtain ⟨hN1, hf⟩ := gd_some hf
      have hN := Nat.le_trans hN hN1
      refine lv_astore_n (lv' := [(2, .ref q9), (3, .ref (ab q43)), (0, .ref (ab r0)), (1, .ref (ab r1))]) hx hb dX1_town_141 rfl hl (by decide) rfl (fun ls hl => ?_)
      refine lv_iconst (v := (-1)) hx hb dX1_town_142 (by decide) ?_
      refine lv_aload_n hx hb dX1_town_143 rfl (lv_at hl 0 rfl) ?_
      refine aw_gX hC hF9 q605 dX1_town_144 ?_
      refine lv_isub hx hb dX1_town_147 ?_
      obtain ⟨e1, e2⟩ := so_inj hf
      exact aw_iret hC hW hr rfl (p_eq (hP _ hE (e2 ▸ hN)) (congrArg (fun z => some (Value.int z)) e1) e2) (Nat.le_of_ble_eq_true rfl) (Nat.le_of_ble_eq_true rfl) dX1_town_148
    obtain ⟨v56, s56, h56, hf⟩ := ob_some hf
    obtain ⟨hN1, hf⟩ := gd_some hf
    have hN := Nat.le_trans hN hN1
    refine aw_dV1 (r := r1) (As := [.int 3, .int 1, .int 999]) (rest := [.int x2, .ref (ab q46)]) (ct_X15_number l G ab r1 3 1 999 s35 v56 s56 h56) hC hW hl.1 vy_X15_number (Or.inl q621) g56 rfl rfl rfl rfl (Nat.le_of_ble_eq_true rfl) ⟨Nat.le_of_ble_eq_true rfl, Nat.le_of_ble_eq_true rfl⟩ ⟨Nat.le_of_ble_eq_true rfl, Nat.le_of_ble_eq_true rfl⟩ dX1_town_56 (fun H locs hW => ?_)
    obtain ⟨g59, hf⟩ := gd_some hf
    obtain ⟨s59, e59, hf⟩ := bnd_some hf
    refine aw_iast e59 hC hW g59 dX1_town_59 (fun H locs hW => ?_)
    have hN := n_pI e59 hN
    refine lv_aload_n hx hb dX1_town_60 rfl (lv_at hl 0 rfl) ?_
    refine lv_aload_n hx hb dX1_town_61 rfl (lv_at hl 2 rfl) ?_
    refine lv_bipush (v := 42) hx hb dX1_town_62 (by decide) ?_
    obtain ⟨g64, hf⟩ := gd_some hf
    obtain ⟨v64, s64, h64, hf⟩ := ob_some hf
    obtain ⟨hN1, hf⟩ := gd_some hf
    have hN := Nat.le_trans hN hN1
    refine aw_dV1 (r := r1) (As := [.int 42]) (rest := [.ref (ab q43)]) (ct_X15_passes l G ab r1 42 s59 v64 s64 h64) hC hW hl.1 vy_X15_passes (Or.inl q637) g64 rfl rfl rfl rfl (Nat.le_of_ble_eq_true rfl) ⟨Nat.le_of_ble_eq_true rfl, Nat.le_of_ble_eq_true rfl⟩ ⟨Nat.le_of_ble_eq_true rfl, Nat.le_of_ble_eq_true rfl⟩ dX1_town_64 (fun H locs hW => ?_)
    refine lv_if_eq (tgt := 80) hx hb dX1_town_67 (by decide) (fun c67 => ?_) (fun c67 => ?_)
    · have hf := ifp c67 hf
      refine lv_iconst (v := 0) hx hb dX1_town_80 (by decide) ?_
      refine W.widen (k := 1) (n := 4) (Nat.le_of_ble_eq_true rfl) (Nat.le_of_ble_eq_true rfl) ?_
      exact B81 K18 hK18 ab hE r0 r1 x2 q43 0 q43 s64 hN hf _ _ _ (lv_sub hl [1, 2, 3, 0] rfl) hW
    · have hf := ifn c67 hf
      refine lv_aload_n hx hb dX1_town_70 rfl (lv_at hl 2 rfl) ?_
      refine lv_iconst (v := 1) hx hb dX1_town_71 (by decide) ?_
      refine lv_iconst (v := 0) hx hb dX1_town_72 (by decide) ?_
      refine lv_iconst (v := 3) hx hb dX1_town_73 (by decide) ?_
      obtain ⟨g74, hf⟩ := gd_some hf
      rcases oh_cases hf with ⟨pl74, sx74, ht74, hf⟩ | hf
      · refine aw_trunX (aw_trV (r := r1) (As := [.int 1, .int 0, .int 3]) (rest := [.ref (ab q43)]) (tt_X15_number l hlt G ab r1 1 0 3 s64 pl74 sx74 ht74) hC hW hl.1 vy_X15_number q621 g74 rfl rfl rfl rfl (Nat.le_of_ble_eq_true rfl) ⟨Nat.le_of_ble_eq_true rfl, Nat.le_of_ble_eq_true rfl⟩ ⟨Nat.le_of_ble_eq_true rfl, Nat.le_of_ble_eq_true rfl⟩ dX1_town_74) hC hW (fun q9 H locs hW hF9 => aw_catchF hC hTab hF9 ⟨Nat.le_of_ble_eq_true rfl, Nat.le_of_ble_eq_true rfl, by decide⟩ q521 ?_)
        obtain ⟨hN1, hf⟩ := gd_some hf
        have hN := Nat.le_trans hN hN1
        refine lv_astore_n (lv' := [(2, .ref q9), (3, .ref (ab q43)), (0, .ref (ab r0)), (1, .ref (ab r1))]) hx hb dX1_town_141 rfl hl (by decide) rfl (fun ls hl => ?_)
        refine lv_iconst (v := (-1)) hx hb dX1_town_142 (by decide) ?_
        refine lv_aload_n hx hb dX1_town_143 rfl (lv_at hl 0 rfl) ?_
        refine aw_gX hC hF9 q605 dX1_town_144 ?_
        refine lv_isub hx hb dX1_town_147 ?_
        obtain ⟨e1, e2⟩ := so_inj hf
        exact aw_iret hC hW hr rfl (p_eq (hP _ hE (e2 ▸ hN)) (congrArg (fun z => some (Value.int z)) e1) e2) (Nat.le_of_ble_eq_true rfl) (Nat.le_of_ble_eq_true rfl) dX1_town_148
      obtain ⟨v74, s74, h74, hf⟩ := ob_some hf
      obtain ⟨hN1, hf⟩ := gd_some hf
      have hN := Nat.le_trans hN hN1
      refine aw_dV1 (r := r1) (As := [.int 1, .int 0, .int 3]) (rest := [.ref (ab q43)]) (ct_X15_number l G ab r1 1 0 3 s64 v74 s74 h74) hC hW hl.1 vy_X15_number (Or.inl q621) g74 rfl rfl rfl rfl (Nat.le_of_ble_eq_true rfl) ⟨Nat.le_of_ble_eq_true rfl, Nat.le_of_ble_eq_true rfl⟩ ⟨Nat.le_of_ble_eq_true rfl, Nat.le_of_ble_eq_true rfl⟩ dX1_town_74 (fun H locs hW => ?_)
      refine lv_goto (tgt := 81) hx hb dX1_town_77 (by decide) ?_
      refine W.widen (k := 1) (n := 4) (Nat.le_of_ble_eq_true rfl) (Nat.le_of_ble_eq_true rfl) ?_
      exact B81 K18 hK18 ab hE r0 r1 x2 q43 v74 q43 s74 hN hf _ _ _ (lv_sub hl [1, 2, 3, 0] rfl) hW
  have B18 : ∀ (n : Nat), ∀ (ab : Nat → Nat) (hE : EX a ab N0) (r0 : Nat) (r1 : Nat) (x2 : Int32) (s : ST) (hN : N0 ≤ s.1), f_X1_town_b18 n r0 r1 x2 s = some (rv, sf) → ∀ (H : Heap) (locs : List Loc) (ls : Array Slot), lv_has ls 4 [(0, .ref (ab r0)), (1, .ref (ab r1)), (2, .int x2)] → AW G ab A s s0.heap H locs → WBA p l e (rmA 8 2 11) s0 m args below meth c H locs G A P 1 4 2 11 18 ls [] := by
    intro n
    induction n with
    | zero => intro ab hE r0 r1 x2 s hN hf; cases hf
    | succ n ih =>
      intro ab hE r0 r1 x2 s hN hf H locs ls hl hW
      rw [f_X1_town_b18] at hf
      refine lv_aload_n hx hb dX1_town_18 rfl (lv_at hl 1 rfl) ?_
      refine lv_aload_n hx hb dX1_town_19 rfl (lv_at hl 0 rfl) ?_
      obtain ⟨g20, hf⟩ := gd_some hf
      refine aw_gI hC hW g20 fl_X1_157 rfl dX1_town_20 ?_
      refine lv_iload_n hx hb dX1_town_23 rfl (lv_at hl 2 rfl) ?_
      refine lv_iadd hx hb dX1_town_24 ?_
      refine lv_bipush (v := 8) hx hb dX1_town_25 (by decide) ?_
      refine lv_icmp_ge (tgt := 34) hx hb dX1_town_27 (by decide) (fun c27 => ?_) (fun c27 => ?_)
      · have hf := ifp c27 hf
        refine lv_iconst (v := 0) hx hb dX1_town_34 (by decide) ?_
        refine W.widen (k := 1) (n := 4) (Nat.le_of_ble_eq_true rfl) (Nat.le_of_ble_eq_true rfl) ?_
        exact B35 (f_X1_town_b18 n) ih ab hE r0 r1 x2 0 r1 s hN hf _ _ _ (lv_sub hl [0, 1, 2] rfl) hW
      · have hf := ifn c27 hf
        refine lv_iconst (v := 1) hx hb dX1_town_30 (by decide) ?_
        refine lv_goto (tgt := 35) hx hb dX1_town_31 (by decide) ?_
        refine W.widen (k := 1) (n := 4) (Nat.le_of_ble_eq_true rfl) (Nat.le_of_ble_eq_true rfl) ?_
        exact B35 (f_X1_town_b18 n) ih ab hE r0 r1 x2 1 r1 s hN hf _ _ _ (lv_sub hl [0, 1, 2] rfl) hW
  unfold f_X1_town at hf
  refine lv_aload_n hx hb dX1_town_0 rfl (lv_at hl 0 rfl) ?_
  refine lv_bipush (v := 76) hx hb dX1_town_1 (by decide) ?_
  obtain ⟨g3, hf⟩ := gd_some hf
  obtain ⟨gr3, hf⟩ := gd_some hf
  obtain ⟨v3, s3, h3, hf⟩ := ob_some hf
  refine aw_run hC hW (aw_runV hC hW hl.1 (r := o) (As := [.int 76]) (rest := []) (cta_X1_words l G a o 76 s v3 s3 h3) vy_X1_words (Or.inl q522) g3 rfl rfl rfl rfl (Nat.le_of_ble_eq_true rfl) ⟨Nat.le_of_ble_eq_true rfl, Nat.le_of_ble_eq_true rfl⟩ ⟨Nat.le_of_ble_eq_true rfl, Nat.le_of_ble_eq_true rfl⟩ dX1_town_3) (fun v9 a3 s9 H locs hp9 hW => ?_)
  obtain ⟨rfl, h9s, hE1, hN1⟩ := hp9
  rw [h9s] at hW
  have hE : EX a a3 N0 := hE.trans hE1 hN
  have hN := Nat.le_trans hN hN1
  have hl : lv_has ls 4 [(0, .ref (a3 o))] := by simp only [hE1 _ gr3]; exact hl
  refine W.eq (g2 := F0 m 6 ls [.ref (a3 v3)]) rfl ?_
  refine W.widen (k := 1) (n := 4) (Nat.le_of_ble_eq_true rfl) (Nat.le_of_ble_eq_true rfl) ?_
  refine lv_astore_n (lv' := [(1, .ref (a3 v3)), (0, .ref (a3 o))]) hx hb dX1_town_6 rfl hl (by decide) rfl (fun ls hl => ?_)
  refine lv_aload_n hx hb dX1_town_7 rfl (lv_at hl 0 rfl) ?_
  obtain ⟨g8, hf⟩ := gd_some hf
  refine aw_gI hC hW g8 fl_X1_196 rfl dX1_town_8 ?_
  refine lv_if_ne (tgt := 16) hx hb dX1_town_11 (by decide) (fun c11 => ?_) (fun c11 => ?_)
  · have hf := ifn c11 hf
    refine lv_iconst (v := 0) hx hb dX1_town_16 (by decide) ?_
    refine lv_istore_n (lv' := [(2, .int 0), (1, .ref (a3 v3)), (0, .ref (a3 o))]) hx hb dX1_town_17 rfl hl (by decide) rfl (fun ls hl => ?_)
    refine W.widen (k := 1) (n := 4) (Nat.le_of_ble_eq_true rfl) (Nat.le_of_ble_eq_true rfl) ?_
    exact B18 fuel a3 hE o v3 0 s3 hN hf _ _ _ (lv_sub hl [2, 1, 0] rfl) hW
  · have hf := ifp c11 hf
    refine lv_iconst (v := 0) hx hb dX1_town_14 (by decide) ?_
    obtain ⟨e1, e2⟩ := so_inj hf
    exact aw_iret hC hW hr rfl (p_eq (hP _ hE (e2 ▸ hN)) (congrArg (fun z => some (Value.int z)) e1) e2) (Nat.le_of_ble_eq_true rfl) (Nat.le_of_ble_eq_true rfl) dX1_town_15
def f_X1_will (o : Nat) (s : ST) : Option (Int32 × ST) :=
  gd (o < s.1 ∧ (kd s o).1 = 1) <|
  (gr s o 9).bind fun q1 =>
  gd (q1 < s.1 ∧ (kd s q1).1 = 101) <|
  gd ((kd s q1).2 = 80) <|
  gd (∀ i, i < (kd s q1).2 → fits .byte (.int (gi s q1 i)) = true) <|
  gd (o < s.1) <|
  bnd (nw s 101 80 (gi s q1)) fun s4 =>
  gd (s.1 < s4.1 ∧ (kd s4 s.1).1 = 101) <|
  bnd ((gi s4 o 10) : Int32) fun v15 =>
  bnd (pI s4 o 10 0) fun s18 =>
  if v15 = 0 then (bnd (pR s18 o 15 none) fun s27 =>
  some (0, s27)) else gd (s.1 < s18.1) <|
  gd (o < s18.1) <|
  bnd (nw s18 17 0 (fun _ => 0)) fun s33 =>
  ob (f_X17_init s18.1 o s.1 v15 s33) fun _ s40 =>
  gd (s33.1 ≤ s40.1) <|
  gd (s18.1 < s40.1 ∧ (kd s40 s18.1).1 = 17) <|
  oh (t_X17_read s18.1 s40) (fun pl43 sx43 => gd (s40.1 ≤ sx43.1) <| some (((-1) - pl43), sx43)) <|
  ob (f_X17_read s18.1 s40) fun v43 s43 =>
  gd (s40.1 ≤ s43.1) <|
  gd (o < s43.1 ∧ (kd s43 o).1 = 1) <|
  gd (v43 < s43.1) <|
  bnd (pR s43 o 15 (some v43)) fun s46 =>
  some (0, s46)
set_option maxHeartbeats 4000000 in
theorem cta_X1_will (l : Launch) (hlt : l.stackTraces = false) (G : GM) (a : Nat → Nat) (o : Nat) (s : ST) (rv : Int32) (sf : ST) (hf : f_X1_will o s = some (rv, sf)) : MA l G yX1_will (wsW_ yX1_will cX1_will 4 (some .int) [(32, 50, 51, 228)]) 227 3 94 [.ref (a o)] a s (fun _ => (some (.int rv))) sf := by
  refine ma_ofH (d := 227) (mc := 3) (ms := 94) (lv := [(0, .ref (a o))]) (by decide) (Nat.le_of_ble_eq_true rfl) rfl ?_
  intro p e s0 m args below meth c ls A P hP hC hTab hr hnm hW hl
  have hx := hC.1
  have hb := hC.2.1
  have hts := hC.2.2.2.2.1
  obtain ⟨N0, hN0⟩ : ∃ N0, N0 = s.1 := ⟨_, rfl⟩
  rw [← hN0] at hP
  have hE : EX a a N0 := EX.rf
  have hN : N0 ≤ s.1 := Nat.le_of_eq hN0
  unfold f_X1_will at hf
  refine lv_aload_n hx hb dX1_will_0 rfl (lv_at hl 0 rfl) ?_
  obtain ⟨g1, hf⟩ := gd_some hf
  obtain ⟨q1, hq1, hf⟩ := bi_some hf
  refine aw_gR hC hW g1 fl_X1_33 rfl hq1 dX1_will_1 ?_
  obtain ⟨g4, hf⟩ := gd_some hf
  obtain ⟨gn4, hf⟩ := gd_some hf
  obtain ⟨gf4, hf⟩ := gd_some hf
  obtain ⟨gr4, hf⟩ := gd_some hf
  obtain ⟨s4, e4, hf⟩ := bnd_some hf
  refine aw_clone hC hW hl.1 g4 gn4 gf4 q671 (Nat.le_of_ble_eq_true rfl) (Nat.le_of_ble_eq_true rfl) (Nat.le_of_ble_eq_true rfl) (Nat.le_of_ble_eq_true rfl) (Nat.le_of_ble_eq_true rfl) dX1_will_4 (fun a4 H hE1 hW => ?_)
  have hE : EX a a4 N0 := hE.trans hE1 hN
  have hN := n_nw e4 hN
  have g1 := ko_nw e4 g1
  have hW := aw_eq e4 hW
  have hl : lv_has ls 4 [(0, .ref (a4 o))] := by simp only [hE1 _ gr4]; exact hl
  refine W.eq (g2 := F0 m 7 ls [.ref (a4 s.1)]) rfl ?_
  refine W.widen (k := 1) (n := 80) (Nat.le_of_ble_eq_true rfl) (Nat.le_of_ble_eq_true rfl) ?_
  obtain ⟨g7, hf⟩ := gd_some hf
  refine aw_castA (j := 1) (by decide) hC hW g7 q677 dX1_will_7 ?_
  refine lv_astore_n (lv' := [(1, .ref (a4 s.1)), (0, .ref (a4 o))]) hx hb dX1_will_10 rfl hl (by decide) rfl (fun ls hl => ?_)
  refine lv_aload_n hx hb dX1_will_11 rfl (lv_at hl 1 rfl) ?_
  refine aw_gI hC hW g1 fl_X1_186 rfl dX1_will_12 ?_
  obtain ⟨v15, ev15, hf⟩ := bnd_some hf
  refine top_i ev15 ?_
  refine lv_istore_n (lv' := [(2, .int v15), (1, .ref (a4 s.1)), (0, .ref (a4 o))]) hx hb dX1_will_15 rfl hl (by decide) rfl (fun ls hl => ?_)
  refine lv_aload_n hx hb dX1_will_16 rfl (lv_at hl 2 rfl) ?_
  refine lv_iconst (v := 0) hx hb dX1_will_17 (by decide) ?_
  obtain ⟨s18, e18, hf⟩ := bnd_some hf
  refine aw_pI e18 hC hW g1 fl_X1_186 (Or.inl fn_0_10) rfl rfl rfl dX1_will_18 (fun H locs hW => ?_)
  have hN := n_pI e18 hN
  have g1 := ko_pI e18 g1
  refine lv_iload_n hx hb dX1_will_21 rfl (lv_at hl 0 rfl) ?_
  refine lv_if_ne (tgt := 32) hx hb dX1_will_22 (by decide) (fun c22 => ?_) (fun c22 => ?_)
  · have hf := ifn c22 hf
    refine lv_aload_n hx hb dX1_will_32 rfl (lv_at hl 2 rfl) ?_
    obtain ⟨gr33, hf⟩ := gd_some hf
    obtain ⟨gr33_1, hf⟩ := gd_some hf
    obtain ⟨s33, e33, hf⟩ := bnd_some hf
    refine aw_new (q := (RX17, TX17, 7)) (ci := 16) hC hW rfl q678 q679 q99 okT_X17 (Nat.le_of_ble_eq_true rfl) (Nat.le_of_ble_eq_true rfl) dX1_will_33 (fun a33 H hE1 hW => ?_)
    have hE : EX a a33 N0 := hE.trans hE1 hN
    have hN := n_nw e33 hN
    have g1 := ko_nw e33 g1
    have hW := aw_eq e33 hW
    have hl : lv_has ls 4 [(2, .int v15), (1, .ref (a33 s.1)), (0, .ref (a33 o))] := by simp only [hE1 _ gr33, hE1 _ gr33_1]; exact hl
    refine W.eq (g2 := F0 m 36 ls [.ref (a33 s18.1), .ref (a33 o)]) (by simp only [hE1 _ gr33, hE1 _ gr33_1]) ?_
    refine W.widen (k := 2) (n := 87) (Nat.le_of_ble_eq_true rfl) (Nat.le_of_ble_eq_true rfl) ?_
    have gn33 := ko_new e33
    refine lv_dup hx hb dX1_will_36 rfl ?_
    refine lv_aload_n hx hb dX1_will_37 rfl (lv_at hl 2 rfl) ?_
    refine lv_aload_n hx hb dX1_will_38 rfl (lv_at hl 1 rfl) ?_
    refine lv_iload_n hx hb dX1_will_39 rfl (lv_at hl 0 rfl) ?_
    obtain ⟨_, s40, h40, hf⟩ := ob_some hf
    obtain ⟨hN1, hf⟩ := gd_some hf
    have hN := Nat.le_trans hN hN1
    refine aw_dI0 (r := s18.1) (As := [.ref (a33 o), .ref (a33 s.1), .int v15]) (rest := [.ref (a33 s18.1), .ref (a33 o)]) (ct_X17_init l G a33 s18.1 o s.1 v15 s33 () s40 h40) hC hW hl.1 iy_X17_init (Or.inl q680) rfl rfl (Nat.le_of_ble_eq_true rfl) ⟨Nat.le_of_ble_eq_true rfl, Nat.le_of_ble_eq_true rfl⟩ ⟨Nat.le_of_ble_eq_true rfl, Nat.le_of_ble_eq_true rfl⟩ dX1_will_40 (fun H locs hW => ?_)
    obtain ⟨g43, hf⟩ := gd_some hf
    rcases oh_cases hf with ⟨pl43, sx43, ht43, hf⟩ | hf
    · refine aw_trunX (aw_trV (r := s18.1) (As := []) (rest := [.ref (a33 o)]) (tt_X17_read l hlt G a33 s18.1 s40 pl43 sx43 ht43) hC hW hl.1 vy_X17_read q698 g43 rfl rfl rfl rfl (Nat.le_of_ble_eq_true rfl) ⟨Nat.le_of_ble_eq_true rfl, Nat.le_of_ble_eq_true rfl⟩ ⟨Nat.le_of_ble_eq_true rfl, Nat.le_of_ble_eq_true rfl⟩ dX1_will_43) hC hW (fun q9 H locs hW hF9 => aw_catchF hC hTab hF9 ⟨Nat.le_of_ble_eq_true rfl, Nat.le_of_ble_eq_true rfl, by decide⟩ q521 ?_)
      obtain ⟨hN1, hf⟩ := gd_some hf
      have hN := Nat.le_trans hN hN1
      refine lv_astore_n (lv' := [(3, .ref q9), (2, .int v15), (1, .ref (a33 s.1)), (0, .ref (a33 o))]) hx hb dX1_will_51 rfl hl (by decide) rfl (fun ls hl => ?_)
      refine lv_iconst (v := (-1)) hx hb dX1_will_52 (by decide) ?_
      refine lv_aload_n hx hb dX1_will_53 rfl (lv_at hl 0 rfl) ?_
      refine aw_gX hC hF9 q605 dX1_will_54 ?_
      refine lv_isub hx hb dX1_will_57 ?_
      obtain ⟨e1, e2⟩ := so_inj hf
      exact aw_iret hC hW hr rfl (p_eq (hP _ hE (e2 ▸ hN)) (congrArg (fun z => some (Value.int z)) e1) e2) (Nat.le_of_ble_eq_true rfl) (Nat.le_of_ble_eq_true rfl) dX1_will_58
    obtain ⟨v43, s43, h43, hf⟩ := ob_some hf
    obtain ⟨hN1, hf⟩ := gd_some hf
    have hN := Nat.le_trans hN hN1
    refine aw_dV1 (r := s18.1) (As := []) (rest := [.ref (a33 o)]) (ct_X17_read l G a33 s18.1 s40 v43 s43 h43) hC hW hl.1 vy_X17_read (Or.inl q698) g43 rfl rfl rfl rfl (Nat.le_of_ble_eq_true rfl) ⟨Nat.le_of_ble_eq_true rfl, Nat.le_of_ble_eq_true rfl⟩ ⟨Nat.le_of_ble_eq_true rfl, Nat.le_of_ble_eq_true rfl⟩ dX1_will_43 (fun H locs hW => ?_)
    obtain ⟨g46, hf⟩ := gd_some hf
    obtain ⟨gq46, hf⟩ := gd_some hf
    obtain ⟨s46, e46, hf⟩ := bnd_some hf
    refine aw_pR e46 hC hW g46 gq46 fl_X1_253 (Or.inl fn_0_15) rfl dX1_will_46 (fun H locs hW => ?_)
    have hN := n_pR e46 hN
    have g46 := ko_pR e46 g46
    refine lv_iconst (v := 0) hx hb dX1_will_49 (by decide) ?_
    obtain ⟨e1, e2⟩ := so_inj hf
    exact aw_iret hC hW hr rfl (p_eq (hP _ hE (e2 ▸ hN)) (congrArg (fun z => some (Value.int z)) e1) e2) (Nat.le_of_ble_eq_true rfl) (Nat.le_of_ble_eq_true rfl) dX1_will_50
  · have hf := ifp c22 hf
    refine lv_aload_n hx hb dX1_will_25 rfl (lv_at hl 2 rfl) ?_
    refine lv_null hx hb dX1_will_26 ?_
    obtain ⟨s27, e27, hf⟩ := bnd_some hf
    refine aw_pN e27 hC hW g1 fl_X1_253 (Or.inl fn_0_15) rfl dX1_will_27 (fun H locs hW => ?_)
    have hN := n_pR e27 hN
    have g1 := ko_pR e27 g1
    refine lv_iconst (v := 0) hx hb dX1_will_30 (by decide) ?_
    obtain ⟨e1, e2⟩ := so_inj hf
    exact aw_iret hC hW hr rfl (p_eq (hP _ hE (e2 ▸ hN)) (congrArg (fun z => some (Value.int z)) e1) e2) (Nat.le_of_ble_eq_true rfl) (Nat.le_of_ble_eq_true rfl) dX1_will_31
def f_X1_year_b150 (x3 : Int32) (u0 : Int64) (w1 : Nat) (s : ST) : Option (Int32 × ST) :=
  gd (w1 < s.1 ∧ (kd s w1).1 = 1) <|
  ob (f_X1_tell w1 u0 s) fun _ s150 =>
  gd (s.1 ≤ s150.1) <|
  some (x3, s150)
def f_X1_year_b122 (r0 : Nat) (x2 : Int32) (x3 : Int32) (s : ST) : Option (Int32 × ST) :=
  gd (r0 < s.1 ∧ (kd s r0).1 = 1) <|
  bnd (pI s r0 12 0) fun s124 =>
  (gr s124 r0 1).bind fun q129 =>
  gd (q129 < s124.1 ∧ (kd s124 q129).1 = 2) <|
  ob (f_X1_tell r0 (((gi s124 q129 7) : Int32).toInt64) s124) fun _ s136 =>
  gd (s124.1 ≤ s136.1) <|
  if x2 ≤ x3 then (f_X1_year_b150 x3 0 r0 s136) else f_X1_year_b150 x3 1 r0 s136
def f_X1_year_b91 (K55 : Nat → Int32 → Int32 → ST → Option (Int32 × ST)) (r0 : Nat) (x2 : Int32) (x3 : Int32) (s : ST) : Option (Int32 × ST) :=
  gd (r0 < s.1 ∧ (kd s r0).1 = 1) <|
  (gr s r0 17).bind fun q92 =>
  (gr s r0 23).bind fun q96 =>
  gd (q96 < s.1 ∧ (kd s q96).1 = 100 ∧ ¬ ((x3 : Int32) < 0 ∨ (kd s q96).2 ≤ (x3 : Int32).toNatClampNeg)) <|
  gd (q92 < s.1 ∧ (kd s q92).1 = 5) <|
  bnd (pI s q92 0 (gi s q96 (x3 : Int32).toNatClampNeg)) fun s101 =>
  (gr s101 r0 1).bind fun q106 =>
  (gr s101 r0 17).bind fun q110 =>
  ob (f_X1_goes r0 q106 q110 s101) fun _ s113 =>
  gd (s101.1 ≤ s113.1) <|
  bnd (x3 + 1 : Int32) fun v116 =>
  K55 r0 x2 v116 s113
def f_X1_year_b55 : Nat → Nat → Int32 → Int32 → ST → Option (Int32 × ST)
  | 0, _, _, _, _ => none
  | n + 1, r0, x2, x3, s =>
  if x2 ≤ x3 then (f_X1_year_b122 r0 x2 x3 s) else gd (r0 < s.1 ∧ (kd s r0).1 = 1) <|
  (gr s r0 23).bind fun q61 =>
  gd (q61 < s.1 ∧ (kd s q61).1 = 100 ∧ ¬ ((x3 : Int32) < 0 ∨ (kd s q61).2 ≤ (x3 : Int32).toNatClampNeg)) <|
  bnd (p_in (((gi s q61 (x3 : Int32).toNatClampNeg) : Int32).toInt64) 0 ((((1 <<< ((gi s r0 4) &&& 31)) - 1) : Int32).toInt64)) fun v77 =>
  if v77 = 0 then (f_X1_year_b122 r0 x2 x3 s) else if x3 = 0 then (ob (f_X1_remember r0 s) fun _ s88 =>
  gd (s.1 ≤ s88.1) <|
  f_X1_year_b91 (f_X1_year_b55 n) r0 x2 x3 s88) else f_X1_year_b91 (f_X1_year_b55 n) r0 x2 x3 s
def f_X1_year_b38 (r0 : Nat) (r1 : Nat) (x2 : Int32) (s : ST) : Option (Int32 × ST) :=
  gd (r1 < s.1 ∧ (kd s r1).1 = 15) <|
  oh (t_X15_needEnd r1 s) (fun pl39 sx39 => gd (s.1 ≤ sx39.1) <| some (((-1) - pl39), sx39)) <|
  ob (f_X15_needEnd r1 s) fun _ s39 =>
  gd (s.1 ≤ s39.1) <|
  f_X1_year_b55 fuel r0 x2 0 s39
def f_X1_year_b16 : Nat → Nat → Nat → Int32 → ST → Option (Int32 × ST)
  | 0, _, _, _, _ => none
  | n + 1, r0, r1, x2, s =>
  gd (r0 < s.1 ∧ (kd s r0).1 = 1) <|
  (gr s r0 23).bind fun q17 =>
  oh (t_X1_letters r1 s) (fun pl22 sx22 => gd (s.1 ≤ sx22.1) <| some (((-1) - pl22), sx22)) <|
  ob (f_X1_letters r1 s) fun v22 s22 =>
  gd (s.1 ≤ s22.1) <|
  gd (q17 < s22.1 ∧ (kd s22 q17).1 = 100 ∧ ¬ ((x2 : Int32) < 0 ∨ (kd s22 q17).2 ≤ (x2 : Int32).toNatClampNeg)) <|
  bnd (pI s22 q17 (x2 : Int32).toNatClampNeg v22) fun s25 =>
  bnd (x2 + 1 : Int32) fun v26 =>
  gd (r1 < s25.1 ∧ (kd s25 r1).1 = 15) <|
  ob (f_X15_passes r1 59 s25) fun v32 s32 =>
  gd (s25.1 ≤ s32.1) <|
  if v32 = 0 then (f_X1_year_b38 r0 r1 v26 s32) else f_X1_year_b16 n r0 r1 v26 s32
def f_X1_year (o : Nat) (s : ST) : Option (Int32 × ST) :=
  gd (o < s.1 ∧ (kd s o).1 = 1) <|
  gd (o < s.1) <|
  ob (f_X1_words o 60 s) fun v3 s3 =>
  gd (v3 < s3.1 ∧ (kd s3 v3).1 = 15) <|
  if (gi s3 v3 1) ≤ 0 then (f_X1_year_b38 o v3 0 s3) else f_X1_year_b16 fuel o v3 0 s3
set_option maxHeartbeats 4000000 in
theorem cta_X1_year (l : Launch) (hlt : l.stackTraces = false) (G : GM) (a : Nat → Nat) (o : Nat) (s : ST) (rv : Int32) (sf : ST) (hf : f_X1_year o s = some (rv, sf)) : MA l G yX1_year (wsW_ yX1_year cX1_year 4 (some .int) [(9, 42, 45, 228)]) 127 2 11 [.ref (a o)] a s (fun _ => (some (.int rv))) sf := by
  refine ma_ofH (d := 127) (mc := 2) (ms := 11) (lv := [(0, .ref (a o))]) (by decide) (Nat.le_of_ble_eq_true rfl) rfl ?_
  intro p e s0 m args below meth c ls A P hP hC hTab hr hnm hW hl
  have hx := hC.1
  have hb := hC.2.1
  have hts := hC.2.2.2.2.1
  obtain ⟨N0, hN0⟩ : ∃ N0, N0 = s.1 := ⟨_, rfl⟩
  rw [← hN0] at hP
  have hE : EX a a N0 := EX.rf
  have hN : N0 ≤ s.1 := Nat.le_of_eq hN0
  have B150 : ∀ (ab : Nat → Nat) (hE : EX a ab N0) (x3 : Int32) (u0 : Int64) (w1 : Nat) (s : ST) (hN : N0 ≤ s.1), f_X1_year_b150 x3 u0 w1 s = some (rv, sf) → ∀ (H : Heap) (locs : List Loc) (ls : Array Slot), lv_has ls 4 [(3, .int x3)] → AW G ab A s s0.heap H locs → WBA p l e (rmA 127 2 11) s0 m args below meth c H locs G A P 1 4 2 11 150 ls [.long u0, .ref (ab w1)] := by
    intro ab hE x3 u0 w1 s hN hf H locs ls hl hW
    unfold f_X1_year_b150 at hf
    obtain ⟨g150, hf⟩ := gd_some hf
    obtain ⟨_, s150, h150, hf⟩ := ob_some hf
    obtain ⟨hN1, hf⟩ := gd_some hf
    have hN := Nat.le_trans hN hN1
    refine aw_dV0 (r := w1) (As := [.long u0]) (rest := []) (ct_X1_tell l G ab w1 u0 s () s150 h150) hC hW hl.1 vy_X1_tell (Or.inl q1013) g150 rfl rfl rfl rfl (Nat.le_of_ble_eq_true rfl) ⟨Nat.le_of_ble_eq_true rfl, Nat.le_of_ble_eq_true rfl⟩ ⟨Nat.le_of_ble_eq_true rfl, Nat.le_of_ble_eq_true rfl⟩ dX1_year_150 (fun H locs hW => ?_)
    refine lv_iload_n hx hb dX1_year_153 rfl (lv_at hl 0 rfl) ?_
    obtain ⟨e1, e2⟩ := so_inj hf
    exact aw_iret hC hW hr rfl (p_eq (hP _ hE (e2 ▸ hN)) (congrArg (fun z => some (Value.int z)) e1) e2) (Nat.le_of_ble_eq_true rfl) (Nat.le_of_ble_eq_true rfl) dX1_year_154
  have B122 : ∀ (ab : Nat → Nat) (hE : EX a ab N0) (r0 : Nat) (x2 : Int32) (x3 : Int32) (s : ST) (hN : N0 ≤ s.1), f_X1_year_b122 r0 x2 x3 s = some (rv, sf) → ∀ (H : Heap) (locs : List Loc) (ls : Array Slot), lv_has ls 4 [(0, .ref (ab r0)), (2, .int x2), (3, .int x3)] → AW G ab A s s0.heap H locs → WBA p l e (rmA 127 2 11) s0 m args below meth c H locs G A P 1 4 2 11 122 ls [] := by
    intro ab hE r0 x2 x3 s hN hf H locs ls hl hW
    unfold f_X1_year_b122 at hf
    refine lv_aload_n hx hb dX1_year_122 rfl (lv_at hl 0 rfl) ?_
    refine lv_iconst (v := 0) hx hb dX1_year_123 (by decide) ?_
    obtain ⟨g124, hf⟩ := gd_some hf
    obtain ⟨s124, e124, hf⟩ := bnd_some hf
    refine aw_pI e124 hC hW g124 fl_X1_154 (Or.inl fn_0_12) rfl rfl rfl dX1_year_124 (fun H locs hW => ?_)
    have hN := n_pI e124 hN
    have g124 := ko_pI e124 g124
    refine lv_aload_n hx hb dX1_year_127 rfl (lv_at hl 0 rfl) ?_
    refine lv_aload_n hx hb dX1_year_128 rfl (lv_at hl 0 rfl) ?_
    obtain ⟨q129, hq129, hf⟩ := bi_some hf
    refine aw_gR hC hW g124 fl_X1_18 rfl hq129 dX1_year_129 ?_
    obtain ⟨g132, hf⟩ := gd_some hf
    refine aw_gI hC hW g132 fl_X1_315 rfl dX1_year_132 ?_
    refine lv_i2l (v := ((gi s124 q129 7) : Int32).toInt64) hx hb dX1_year_135 rfl ?_
    obtain ⟨_, s136, h136, hf⟩ := ob_some hf
    obtain ⟨hN1, hf⟩ := gd_some hf
    have hN := Nat.le_trans hN hN1
    refine aw_dV0 (r := r0) (As := [.long (((gi s124 q129 7) : Int32).toInt64)]) (rest := []) (ct_X1_tell l G ab r0 (((gi s124 q129 7) : Int32).toInt64) s124 () s136 h136) hC hW hl.1 vy_X1_tell (Or.inl q1013) g124 rfl rfl rfl rfl (Nat.le_of_ble_eq_true rfl) ⟨Nat.le_of_ble_eq_true rfl, Nat.le_of_ble_eq_true rfl⟩ ⟨Nat.le_of_ble_eq_true rfl, Nat.le_of_ble_eq_true rfl⟩ dX1_year_136 (fun H locs hW => ?_)
    refine lv_aload_n hx hb dX1_year_139 rfl (lv_at hl 0 rfl) ?_
    refine lv_iload_n hx hb dX1_year_140 rfl (lv_at hl 2 rfl) ?_
    refine lv_iload_n hx hb dX1_year_141 rfl (lv_at hl 1 rfl) ?_
    refine lv_icmp_ge (tgt := 149) hx hb dX1_year_142 (by decide) (fun c142 => ?_) (fun c142 => ?_)
    · have hf := ifp c142 hf
      refine lv_lconst (v := 0) hx hb dX1_year_149 (by decide) ?_
      refine W.widen (k := 1) (n := 4) (Nat.le_of_ble_eq_true rfl) (Nat.le_of_ble_eq_true rfl) ?_
      exact B150 ab hE x3 0 r0 s136 hN hf _ _ _ (lv_sub hl [2] rfl) hW
    · have hf := ifn c142 hf
      refine lv_lconst (v := 1) hx hb dX1_year_145 (by decide) ?_
      refine lv_goto (tgt := 150) hx hb dX1_year_146 (by decide) ?_
      refine W.widen (k := 1) (n := 4) (Nat.le_of_ble_eq_true rfl) (Nat.le_of_ble_eq_true rfl) ?_
      exact B150 ab hE x3 1 r0 s136 hN hf _ _ _ (lv_sub hl [2] rfl) hW
  have B91 : ∀ (K55 : Nat → Int32 → Int32 → ST → Option (Int32 × ST)) (hK55 : ∀ (ab : Nat → Nat) (hE : EX a ab N0) (r0 : Nat) (x2 : Int32) (x3 : Int32) (s : ST) (hN : N0 ≤ s.1), K55 r0 x2 x3 s = some (rv, sf) → ∀ (H : Heap) (locs : List Loc) (ls : Array Slot), lv_has ls 4 [(0, .ref (ab r0)), (2, .int x2), (3, .int x3)] → AW G ab A s s0.heap H locs → WBA p l e (rmA 127 2 11) s0 m args below meth c H locs G A P 1 4 2 11 55 ls []), ∀ (ab : Nat → Nat) (hE : EX a ab N0) (r0 : Nat) (x2 : Int32) (x3 : Int32) (s : ST) (hN : N0 ≤ s.1), f_X1_year_b91 K55 r0 x2 x3 s = some (rv, sf) → ∀ (H : Heap) (locs : List Loc) (ls : Array Slot), lv_has ls 4 [(0, .ref (ab r0)), (2, .int x2), (3, .int x3)] → AW G ab A s s0.heap H locs → WBA p l e (rmA 127 2 11) s0 m args below meth c H locs G A P 1 4 2 11 91 ls [] := by
    intro K55 hK55 ab hE r0 x2 x3 s hN hf H locs ls hl hW
    unfold f_X1_year_b91 at hf
    refine lv_aload_n hx hb dX1_year_91 rfl (lv_at hl 0 rfl) ?_
    obtain ⟨g92, hf⟩ := gd_some hf
    obtain ⟨q92, hq92, hf⟩ := bi_some hf
    refine aw_gR hC hW g92 fl_X1_61 rfl hq92 dX1_year_92 ?_
    refine lv_aload_n hx hb dX1_year_95 rfl (lv_at hl 0 rfl) ?_
    obtain ⟨q96, hq96, hf⟩ := bi_some hf
    refine aw_gR hC hW g92 fl_X1_86 rfl hq96 dX1_year_96 ?_
    refine lv_iload_n hx hb dX1_year_99 rfl (lv_at hl 2 rfl) ?_
    obtain ⟨g100, hf⟩ := gd_some hf
    refine aw_iald hC hW g100 dX1_year_100 ?_
    obtain ⟨g101, hf⟩ := gd_some hf
    obtain ⟨s101, e101, hf⟩ := bnd_some hf
    refine aw_pI e101 hC hW g101 fl_X1_360 (Or.inl fn_4_0) rfl rfl rfl dX1_year_101 (fun H locs hW => ?_)
    have hN := n_pI e101 hN
    have g92 := ko_pI e101 g92
    have g101 := ko_pI e101 g101
    refine lv_aload_n hx hb dX1_year_104 rfl (lv_at hl 0 rfl) ?_
    refine lv_aload_n hx hb dX1_year_105 rfl (lv_at hl 0 rfl) ?_
    obtain ⟨q106, hq106, hf⟩ := bi_some hf
    refine aw_gR hC hW g92 fl_X1_18 rfl hq106 dX1_year_106 ?_
    refine lv_aload_n hx hb dX1_year_109 rfl (lv_at hl 0 rfl) ?_
    obtain ⟨q110, hq110, hf⟩ := bi_some hf
    refine aw_gR hC hW g92 fl_X1_61 rfl hq110 dX1_year_110 ?_
    obtain ⟨_, s113, h113, hf⟩ := ob_some hf
    obtain ⟨hN1, hf⟩ := gd_some hf
    have hN := Nat.le_trans hN hN1
    refine aw_dV0 (r := r0) (As := [.ref (ab q106), .ref (ab q110)]) (rest := []) (ct_X1_goes l G ab r0 q106 q110 s101 () s113 h113) hC hW hl.1 vy_X1_goes (Or.inl q922) g92 rfl rfl rfl rfl (Nat.le_of_ble_eq_true rfl) ⟨Nat.le_of_ble_eq_true rfl, Nat.le_of_ble_eq_true rfl⟩ ⟨Nat.le_of_ble_eq_true rfl, Nat.le_of_ble_eq_true rfl⟩ dX1_year_113 (fun H locs hW => ?_)
    obtain ⟨v116, ev116, hf⟩ := bnd_some hf
    refine lv_iinc (v := v116) (lv' := [(3, .int v116), (0, .ref (ab r0)), (2, .int x2)]) hx hb dX1_year_116 hl (k := 2) rfl (by rw [ev116]; rfl) (by decide) rfl (fun ls hl => ?_)
    refine lv_goto (tgt := 55) hx hb dX1_year_119 (by decide) ?_
    exact hK55 ab hE r0 x2 v116 s113 hN hf _ _ _ (lv_sub hl [1, 2, 0] rfl) hW
  have B55 : ∀ (n : Nat), ∀ (ab : Nat → Nat) (hE : EX a ab N0) (r0 : Nat) (x2 : Int32) (x3 : Int32) (s : ST) (hN : N0 ≤ s.1), f_X1_year_b55 n r0 x2 x3 s = some (rv, sf) → ∀ (H : Heap) (locs : List Loc) (ls : Array Slot), lv_has ls 4 [(0, .ref (ab r0)), (2, .int x2), (3, .int x3)] → AW G ab A s s0.heap H locs → WBA p l e (rmA 127 2 11) s0 m args below meth c H locs G A P 1 4 2 11 55 ls [] := by
    intro n
    induction n with
    | zero => intro ab hE r0 x2 x3 s hN hf; cases hf
    | succ n ih =>
      intro ab hE r0 x2 x3 s hN hf H locs ls hl hW
      rw [f_X1_year_b55] at hf
      refine lv_iload_n hx hb dX1_year_55 rfl (lv_at hl 2 rfl) ?_
      refine lv_iload_n hx hb dX1_year_56 rfl (lv_at hl 1 rfl) ?_
      refine lv_icmp_ge (tgt := 122) hx hb dX1_year_57 (by decide) (fun c57 => ?_) (fun c57 => ?_)
      · have hf := ifp c57 hf
        refine W.widen (k := 1) (n := 4) (Nat.le_of_ble_eq_true rfl) (Nat.le_of_ble_eq_true rfl) ?_
        exact B122 ab hE r0 x2 x3 s hN hf _ _ _ (lv_sub hl [0, 1, 2] rfl) hW
      · have hf := ifn c57 hf
        refine lv_aload_n hx hb dX1_year_60 rfl (lv_at hl 0 rfl) ?_
        obtain ⟨g61, hf⟩ := gd_some hf
        obtain ⟨q61, hq61, hf⟩ := bi_some hf
        refine aw_gR hC hW g61 fl_X1_86 rfl hq61 dX1_year_61 ?_
        refine lv_iload_n hx hb dX1_year_64 rfl (lv_at hl 2 rfl) ?_
        obtain ⟨g65, hf⟩ := gd_some hf
        refine aw_iald hC hW g65 dX1_year_65 ?_
        refine lv_i2l (v := ((gi s q61 (x3 : Int32).toNatClampNeg) : Int32).toInt64) hx hb dX1_year_66 rfl ?_
        refine lv_lconst (v := 0) hx hb dX1_year_67 (by decide) ?_
        refine lv_iconst (v := 1) hx hb dX1_year_68 (by decide) ?_
        refine lv_aload_n hx hb dX1_year_69 rfl (lv_at hl 0 rfl) ?_
        refine aw_gI hC hW g61 fl_X1_157 rfl dX1_year_70 ?_
        refine lv_ishl hx hb dX1_year_73 ?_
        refine lv_iconst (v := 1) hx hb dX1_year_74 (by decide) ?_
        refine lv_isub hx hb dX1_year_75 ?_
        refine lv_i2l (v := (((1 <<< ((gi s r0 4) &&& 31)) - 1) : Int32).toInt64) hx hb dX1_year_76 rfl ?_
        obtain ⟨v77, ev77, hf⟩ := bnd_some hf
        refine aw_dS1 (As := [.long (((gi s q61 (x3 : Int32).toNatClampNeg) : Int32).toInt64), .long 0, .long ((((1 <<< ((gi s r0 4) &&& 31)) - 1) : Int32).toInt64)]) (rest := []) (pc_X1_in l G ab (((gi s q61 (x3 : Int32).toNatClampNeg) : Int32).toInt64) 0 ((((1 <<< ((gi s r0 4) &&& 31)) - 1) : Int32).toInt64) s) hC hW hl.1 sy_X1_in (Or.inl q514) rfl rfl (Nat.le_of_ble_eq_true rfl) ⟨Nat.le_of_ble_eq_true rfl, Nat.le_of_ble_eq_true rfl⟩ ⟨Nat.le_of_ble_eq_true rfl, Nat.le_of_ble_eq_true rfl⟩ dX1_year_77 (fun H locs hW => ?_)
        refine top_i ev77 ?_
        refine lv_if_eq (tgt := 122) hx hb dX1_year_80 (by decide) (fun c80 => ?_) (fun c80 => ?_)
        · have hf := ifp c80 hf
          refine W.widen (k := 1) (n := 4) (Nat.le_of_ble_eq_true rfl) (Nat.le_of_ble_eq_true rfl) ?_
          exact B122 ab hE r0 x2 x3 s hN hf _ _ _ (lv_sub hl [0, 1, 2] rfl) hW
        · have hf := ifn c80 hf
          refine lv_iload_n hx hb dX1_year_83 rfl (lv_at hl 2 rfl) ?_
          refine lv_if_ne (tgt := 91) hx hb dX1_year_84 (by decide) (fun c84 => ?_) (fun c84 => ?_)
          · have hf := ifn c84 hf
            refine W.widen (k := 1) (n := 4) (Nat.le_of_ble_eq_true rfl) (Nat.le_of_ble_eq_true rfl) ?_
            exact B91 (f_X1_year_b55 n) ih ab hE r0 x2 x3 s hN hf _ _ _ (lv_sub hl [0, 1, 2] rfl) hW
          · have hf := ifp c84 hf
            refine lv_aload_n hx hb dX1_year_87 rfl (lv_at hl 0 rfl) ?_
            obtain ⟨_, s88, h88, hf⟩ := ob_some hf
            obtain ⟨hN1, hf⟩ := gd_some hf
            have hN := Nat.le_trans hN hN1
            refine aw_dV0 (r := r0) (As := []) (rest := []) (ct_X1_remember l G ab r0 s () s88 h88) hC hW hl.1 vy_X1_remember (Or.inl q913) g61 rfl rfl rfl rfl (Nat.le_of_ble_eq_true rfl) ⟨Nat.le_of_ble_eq_true rfl, Nat.le_of_ble_eq_true rfl⟩ ⟨Nat.le_of_ble_eq_true rfl, Nat.le_of_ble_eq_true rfl⟩ dX1_year_88 (fun H locs hW => ?_)
            refine W.widen (k := 1) (n := 4) (Nat.le_of_ble_eq_true rfl) (Nat.le_of_ble_eq_true rfl) ?_
            exact B91 (f_X1_year_b55 n) ih ab hE r0 x2 x3 s88 hN hf _ _ _ (lv_sub hl [0, 1, 2] rfl) hW
  have B38 : ∀ (ab : Nat → Nat) (hE : EX a ab N0) (r0 : Nat) (r1 : Nat) (x2 : Int32) (s : ST) (hN : N0 ≤ s.1), f_X1_year_b38 r0 r1 x2 s = some (rv, sf) → ∀ (H : Heap) (locs : List Loc) (ls : Array Slot), lv_has ls 4 [(0, .ref (ab r0)), (1, .ref (ab r1)), (2, .int x2)] → AW G ab A s s0.heap H locs → WBA p l e (rmA 127 2 11) s0 m args below meth c H locs G A P 1 4 2 11 38 ls [] := by
    intro ab hE r0 r1 x2 s hN hf H locs ls hl hW
    unfold f_X1_year_b38 at hf
    refine lv_aload_n hx hb dX1_year_38 rfl (lv_at hl 1 rfl) ?_
    obtain ⟨g39, hf⟩ := gd_some hf
    rcases oh_cases hf with ⟨pl39, sx39, ht39, hf⟩ | hf
    · refine aw_trunX (aw_trV (r := r1) (As := []) (rest := []) (tt_X15_needEnd l hlt G ab r1 s pl39 sx39 ht39) hC hW hl.1 vy_X15_needEnd q650 g39 rfl rfl rfl rfl (Nat.le_of_ble_eq_true rfl) ⟨Nat.le_of_ble_eq_true rfl, Nat.le_of_ble_eq_true rfl⟩ ⟨Nat.le_of_ble_eq_true rfl, Nat.le_of_ble_eq_true rfl⟩ dX1_year_39) hC hW (fun q9 H locs hW hF9 => aw_catchF hC hTab hF9 ⟨Nat.le_of_ble_eq_true rfl, Nat.le_of_ble_eq_true rfl, by decide⟩ q521 ?_)
      obtain ⟨hN1, hf⟩ := gd_some hf
      have hN := Nat.le_trans hN hN1
      refine lv_astore_n (lv' := [(3, .ref q9), (0, .ref (ab r0)), (1, .ref (ab r1)), (2, .int x2)]) hx hb dX1_year_45 rfl hl (by decide) rfl (fun ls hl => ?_)
      refine lv_iconst (v := (-1)) hx hb dX1_year_46 (by decide) ?_
      refine lv_aload_n hx hb dX1_year_47 rfl (lv_at hl 0 rfl) ?_
      refine aw_gX hC hF9 q605 dX1_year_48 ?_
      refine lv_isub hx hb dX1_year_51 ?_
      obtain ⟨e1, e2⟩ := so_inj hf
      exact aw_iret hC hW hr rfl (p_eq (hP _ hE (e2 ▸ hN)) (congrArg (fun z => some (Value.int z)) e1) e2) (Nat.le_of_ble_eq_true rfl) (Nat.le_of_ble_eq_true rfl) dX1_year_52
    obtain ⟨_, s39, h39, hf⟩ := ob_some hf
    obtain ⟨hN1, hf⟩ := gd_some hf
    have hN := Nat.le_trans hN hN1
    refine aw_dV0 (r := r1) (As := []) (rest := []) (ct_X15_needEnd l G ab r1 s () s39 h39) hC hW hl.1 vy_X15_needEnd (Or.inl q650) g39 rfl rfl rfl rfl (Nat.le_of_ble_eq_true rfl) ⟨Nat.le_of_ble_eq_true rfl, Nat.le_of_ble_eq_true rfl⟩ ⟨Nat.le_of_ble_eq_true rfl, Nat.le_of_ble_eq_true rfl⟩ dX1_year_39 (fun H locs hW => ?_)
    refine lv_goto (tgt := 53) hx hb dX1_year_42 (by decide) ?_
    refine lv_iconst (v := 0) hx hb dX1_year_53 (by decide) ?_
    refine lv_istore_n (lv' := [(3, .int 0), (0, .ref (ab r0)), (1, .ref (ab r1)), (2, .int x2)]) hx hb dX1_year_54 rfl hl (by decide) rfl (fun ls hl => ?_)
    refine W.widen (k := 1) (n := 4) (Nat.le_of_ble_eq_true rfl) (Nat.le_of_ble_eq_true rfl) ?_
    exact B55 fuel ab hE r0 x2 0 s39 hN hf _ _ _ (lv_sub hl [1, 3, 0] rfl) hW
  have B16 : ∀ (n : Nat), ∀ (ab : Nat → Nat) (hE : EX a ab N0) (r0 : Nat) (r1 : Nat) (x2 : Int32) (s : ST) (hN : N0 ≤ s.1), f_X1_year_b16 n r0 r1 x2 s = some (rv, sf) → ∀ (H : Heap) (locs : List Loc) (ls : Array Slot), lv_has ls 4 [(0, .ref (ab r0)), (1, .ref (ab r1)), (2, .int x2)] → AW G ab A s s0.heap H locs → WBA p l e (rmA 127 2 11) s0 m args below meth c H locs G A P 1 4 2 11 16 ls [] := by
    intro n
    induction n with
    | zero => intro ab hE r0 r1 x2 s hN hf; cases hf
    | succ n ih =>
      intro ab hE r0 r1 x2 s hN hf H locs ls hl hW
      rw [f_X1_year_b16] at hf
      refine lv_aload_n hx hb dX1_year_16 rfl (lv_at hl 0 rfl) ?_
      obtain ⟨g17, hf⟩ := gd_some hf
      obtain ⟨q17, hq17, hf⟩ := bi_some hf
      refine aw_gR hC hW g17 fl_X1_86 rfl hq17 dX1_year_17 ?_
      refine lv_iload_n hx hb dX1_year_20 rfl (lv_at hl 2 rfl) ?_
      refine lv_aload_n hx hb dX1_year_21 rfl (lv_at hl 1 rfl) ?_
      rcases oh_cases hf with ⟨pl22, sx22, ht22, hf⟩ | hf
      · refine aw_trunX (aw_trS (As := [.ref (ab r1)]) (rest := [.int x2, .ref (ab q17)]) (tt_X1_letters l hlt G ab r1 s pl22 sx22 ht22) hC hW hl.1 sy_X1_letters q1026 rfl rfl (Nat.le_of_ble_eq_true rfl) ⟨Nat.le_of_ble_eq_true rfl, Nat.le_of_ble_eq_true rfl⟩ ⟨Nat.le_of_ble_eq_true rfl, Nat.le_of_ble_eq_true rfl⟩ dX1_year_22) hC hW (fun q9 H locs hW hF9 => aw_catchF hC hTab hF9 ⟨Nat.le_of_ble_eq_true rfl, Nat.le_of_ble_eq_true rfl, by decide⟩ q521 ?_)
        obtain ⟨hN1, hf⟩ := gd_some hf
        have hN := Nat.le_trans hN hN1
        refine lv_astore_n (lv' := [(3, .ref q9), (0, .ref (ab r0)), (1, .ref (ab r1)), (2, .int x2)]) hx hb dX1_year_45 rfl hl (by decide) rfl (fun ls hl => ?_)
        refine lv_iconst (v := (-1)) hx hb dX1_year_46 (by decide) ?_
        refine lv_aload_n hx hb dX1_year_47 rfl (lv_at hl 0 rfl) ?_
        refine aw_gX hC hF9 q605 dX1_year_48 ?_
        refine lv_isub hx hb dX1_year_51 ?_
        obtain ⟨e1, e2⟩ := so_inj hf
        exact aw_iret hC hW hr rfl (p_eq (hP _ hE (e2 ▸ hN)) (congrArg (fun z => some (Value.int z)) e1) e2) (Nat.le_of_ble_eq_true rfl) (Nat.le_of_ble_eq_true rfl) dX1_year_52
      obtain ⟨v22, s22, h22, hf⟩ := ob_some hf
      obtain ⟨hN1, hf⟩ := gd_some hf
      have hN := Nat.le_trans hN hN1
      refine aw_dS1 (As := [.ref (ab r1)]) (rest := [.int x2, .ref (ab q17)]) (ct_X1_letters l G ab r1 s v22 s22 h22) hC hW hl.1 sy_X1_letters (Or.inl q1026) rfl rfl (Nat.le_of_ble_eq_true rfl) ⟨Nat.le_of_ble_eq_true rfl, Nat.le_of_ble_eq_true rfl⟩ ⟨Nat.le_of_ble_eq_true rfl, Nat.le_of_ble_eq_true rfl⟩ dX1_year_22 (fun H locs hW => ?_)
      obtain ⟨g25, hf⟩ := gd_some hf
      obtain ⟨s25, e25, hf⟩ := bnd_some hf
      refine aw_iast e25 hC hW g25 dX1_year_25 (fun H locs hW => ?_)
      have hN := n_pI e25 hN
      obtain ⟨v26, ev26, hf⟩ := bnd_some hf
      refine lv_iinc (v := v26) (lv' := [(2, .int v26), (0, .ref (ab r0)), (1, .ref (ab r1))]) hx hb dX1_year_26 hl (k := 2) rfl (by rw [ev26]; rfl) (by decide) rfl (fun ls hl => ?_)
      refine lv_aload_n hx hb dX1_year_29 rfl (lv_at hl 2 rfl) ?_
      refine lv_bipush (v := 59) hx hb dX1_year_30 (by decide) ?_
      obtain ⟨g32, hf⟩ := gd_some hf
      obtain ⟨v32, s32, h32, hf⟩ := ob_some hf
      obtain ⟨hN1, hf⟩ := gd_some hf
      have hN := Nat.le_trans hN hN1
      refine aw_dV1 (r := r1) (As := [.int 59]) (rest := []) (ct_X15_passes l G ab r1 59 s25 v32 s32 h32) hC hW hl.1 vy_X15_passes (Or.inl q637) g32 rfl rfl rfl rfl (Nat.le_of_ble_eq_true rfl) ⟨Nat.le_of_ble_eq_true rfl, Nat.le_of_ble_eq_true rfl⟩ ⟨Nat.le_of_ble_eq_true rfl, Nat.le_of_ble_eq_true rfl⟩ dX1_year_32 (fun H locs hW => ?_)
      refine lv_if_ne (tgt := 16) hx hb dX1_year_35 (by decide) (fun c35 => ?_) (fun c35 => ?_)
      · have hf := ifn c35 hf
        exact ih ab hE r0 r1 v26 s32 hN hf _ _ _ (lv_sub hl [1, 2, 0] rfl) hW
      · have hf := ifp c35 hf
        refine W.widen (k := 1) (n := 4) (Nat.le_of_ble_eq_true rfl) (Nat.le_of_ble_eq_true rfl) ?_
        exact B38 ab hE r0 r1 v26 s32 hN hf _ _ _ (lv_sub hl [1, 2, 0] rfl) hW
  unfold f_X1_year at hf
  refine lv_aload_n hx hb dX1_year_0 rfl (lv_at hl 0 rfl) ?_
  refine lv_bipush (v := 60) hx hb dX1_year_1 (by decide) ?_
  obtain ⟨g3, hf⟩ := gd_some hf
  obtain ⟨gr3, hf⟩ := gd_some hf
  obtain ⟨v3, s3, h3, hf⟩ := ob_some hf
  refine aw_run hC hW (aw_runV hC hW hl.1 (r := o) (As := [.int 60]) (rest := []) (cta_X1_words l G a o 60 s v3 s3 h3) vy_X1_words (Or.inl q522) g3 rfl rfl rfl rfl (Nat.le_of_ble_eq_true rfl) ⟨Nat.le_of_ble_eq_true rfl, Nat.le_of_ble_eq_true rfl⟩ ⟨Nat.le_of_ble_eq_true rfl, Nat.le_of_ble_eq_true rfl⟩ dX1_year_3) (fun v9 a3 s9 H locs hp9 hW => ?_)
  obtain ⟨rfl, h9s, hE1, hN1⟩ := hp9
  rw [h9s] at hW
  have hE : EX a a3 N0 := hE.trans hE1 hN
  have hN := Nat.le_trans hN hN1
  have hl : lv_has ls 4 [(0, .ref (a3 o))] := by simp only [hE1 _ gr3]; exact hl
  refine W.eq (g2 := F0 m 6 ls [.ref (a3 v3)]) rfl ?_
  refine W.widen (k := 1) (n := 4) (Nat.le_of_ble_eq_true rfl) (Nat.le_of_ble_eq_true rfl) ?_
  refine lv_astore_n (lv' := [(1, .ref (a3 v3)), (0, .ref (a3 o))]) hx hb dX1_year_6 rfl hl (by decide) rfl (fun ls hl => ?_)
  refine lv_iconst (v := 0) hx hb dX1_year_7 (by decide) ?_
  refine lv_istore_n (lv' := [(2, .int 0), (1, .ref (a3 v3)), (0, .ref (a3 o))]) hx hb dX1_year_8 rfl hl (by decide) rfl (fun ls hl => ?_)
  refine lv_aload_n hx hb dX1_year_9 rfl (lv_at hl 1 rfl) ?_
  obtain ⟨g10, hf⟩ := gd_some hf
  refine aw_gI hC hW g10 fl_X1_196 rfl dX1_year_10 ?_
  refine lv_if_le (tgt := 38) hx hb dX1_year_13 (by decide) (fun c13 => ?_) (fun c13 => ?_)
  · have hf := ifp c13 hf
    refine W.widen (k := 1) (n := 4) (Nat.le_of_ble_eq_true rfl) (Nat.le_of_ble_eq_true rfl) ?_
    exact B38 a3 hE o v3 0 s3 hN hf _ _ _ (lv_sub hl [2, 1, 0] rfl) hW
  · have hf := ifn c13 hf
    refine W.widen (k := 1) (n := 4) (Nat.le_of_ble_eq_true rfl) (Nat.le_of_ble_eq_true rfl) ?_
    exact B16 fuel a3 hE o v3 0 s3 hN hf _ _ _ (lv_sub hl [2, 1, 0] rfl) hW
