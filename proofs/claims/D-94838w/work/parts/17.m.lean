set_option maxRecDepth 100000
def f_X14_of_b25 (r0 : Nat) (s : ST) : Option (Int32 × ST) :=
  gd (r0 < s.1 ∧ (kd s r0).1 = 14) <|
  ob (f_X14_refuse r0 s) fun v26 s26 =>
  some (v26, s26)
def f_X14_of (o : Nat) (x1 : Int32) (x2 : Int32) (s : ST) : Option (Int32 × ST) :=
  gd (o < s.1 ∧ (kd s o).1 = 14) <|
  bnd (pI s o 0 0) fun s2 =>
  ob (f_X14_isPerson o x1 s2) fun v7 s7 =>
  if v7 = 0 then (f_X14_of_b25 o s7) else bnd (p_in ((x2 : Int32).toInt64) 0 7) fun v19 =>
  if v19 = 0 then (f_X14_of_b25 o s7) else if x2 = 0 then (gd (o < s7.1 ∧ (kd s7 o).1 = 14) <|
  (gr s7 o 10).bind fun q73 =>
  gd (q73 < s7.1 ∧ (kd s7 q73).1 = 100 ∧ ¬ ((x1 : Int32) < 0 ∨ (kd s7 q73).2 ≤ (x1 : Int32).toNatClampNeg)) <|
  some ((gi s7 q73 (x1 : Int32).toNatClampNeg), s7)) else
  if x2 = 1 then (gd (o < s7.1 ∧ (kd s7 o).1 = 14) <|
  (gr s7 o 4).bind fun q80 =>
  gd (q80 < s7.1 ∧ (kd s7 q80).1 = 100 ∧ ¬ ((x1 : Int32) < 0 ∨ (kd s7 q80).2 ≤ (x1 : Int32).toNatClampNeg)) <|
  some ((gi s7 q80 (x1 : Int32).toNatClampNeg), s7)) else
  if x2 = 2 then (gd (o < s7.1 ∧ (kd s7 o).1 = 14) <|
  (gr s7 o 5).bind fun q87 =>
  gd (q87 < s7.1 ∧ (kd s7 q87).1 = 100 ∧ ¬ ((x1 : Int32) < 0 ∨ (kd s7 q87).2 ≤ (x1 : Int32).toNatClampNeg)) <|
  some ((gi s7 q87 (x1 : Int32).toNatClampNeg), s7)) else
  if x2 = 3 then (gd (o < s7.1 ∧ (kd s7 o).1 = 14) <|
  (gr s7 o 10).bind fun q94 =>
  gd (q94 < s7.1 ∧ (kd s7 q94).1 = 100 ∧ ¬ ((16 : Int32) < 0 ∨ (kd s7 q94).2 ≤ (16 : Int32).toNatClampNeg)) <|
  bnd (p_has (gi s7 q94 (16 : Int32).toNatClampNeg) x1) fun v101 =>
  bnd (p_flag v101) fun v104 =>
  some (v104, s7)) else
  if x2 = 4 then (gd (o < s7.1 ∧ (kd s7 o).1 = 14) <|
  (gr s7 o 10).bind fun q109 =>
  gd (q109 < s7.1 ∧ (kd s7 q109).1 = 100 ∧ ¬ (((8 + x1) : Int32) < 0 ∨ (kd s7 q109).2 ≤ ((8 + x1) : Int32).toNatClampNeg)) <|
  some ((gi s7 q109 ((8 + x1) : Int32).toNatClampNeg), s7)) else
  if x2 = 5 then (gd (o < s7.1 ∧ (kd s7 o).1 = 14) <|
  (gr s7 o 10).bind fun q120 =>
  gd (q120 < s7.1 ∧ (kd s7 q120).1 = 100 ∧ ¬ ((x1 : Int32) < 0 ∨ (kd s7 q120).2 ≤ (x1 : Int32).toNatClampNeg)) <|
  ob (f_X14_shows o (gi s7 q120 (x1 : Int32).toNatClampNeg) s7) fun v125 s125 =>
  some (v125, s125)) else
  if x2 = 6 then (gd (o < s7.1 ∧ (kd s7 o).1 = 14) <|
  (gr s7 o 10).bind fun q131 =>
  ob (f_X14_willOf o q131 x1 s7) fun v135 s135 =>
  some (v135, s135)) else
  gd (o < s7.1 ∧ (kd s7 o).1 = 14) <|
  (gr s7 o 7).bind fun q140 =>
  gd (q140 < s7.1 ∧ (kd s7 q140).1 = 100 ∧ ¬ ((x1 : Int32) < 0 ∨ (kd s7 q140).2 ≤ (x1 : Int32).toNatClampNeg)) <|
  some ((gi s7 q140 (x1 : Int32).toNatClampNeg), s7)
set_option maxHeartbeats 4000000 in
theorem ct_X14_of (l : Launch) (G : GM) (a : Nat → Nat) (o : Nat) (x1 : Int32) (x2 : Int32) (s : ST) (rv : Int32) (sf : ST) (hf : f_X14_of o x1 x2 s = some (rv, sf)) : MD l G yX14_of (ws_ yX14_of cX14_of 3 (some .int)) 4 [.ref (a o), .int x1, .int x2] a s (some (.int rv)) sf := by
  refine md_of (d := 4) (lv := [(0, .ref (a o)), (1, .int x1), (2, .int x2)]) (Or.inl (by decide)) (Nat.le_of_ble_eq_true rfl) rfl ?_
  intro p e s0 m args below meth c ls A P hP hC hr hnm hW hl
  have hx := hC.1
  have hb := hC.2.1
  have hts := hC.2.2.2.2.1
  have B25 : ∀ (r0 : Nat) (s : ST), f_X14_of_b25 r0 s = some (rv, sf) → ∀ (H : Heap) (locs : List Loc) (ls : Array Slot), lv_has ls 3 [(0, .ref (a r0))] → AW G a A s s0.heap H locs → WB p l e (rmD 4) s0 m args below meth c H locs G A P 25 ls [] := by
    intro r0 s hf H locs ls hl hW
    unfold f_X14_of_b25 at hf
    refine lv_aload_n hx hb dX14_of_25 rfl (lv_at hl 0 rfl) ?_
    obtain ⟨g26, hf⟩ := gd_some hf
    obtain ⟨v26, s26, h26, hf⟩ := ob_some hf
    refine aw_dV1 (r := r0) (As := []) (rest := []) (ct_X14_refuse l G a r0 s v26 s26 h26) hC hW hl.1 vy_X14_refuse (Or.inl q1622) g26 rfl rfl rfl rfl (Nat.le_of_ble_eq_true rfl) ⟨Nat.le_of_ble_eq_true rfl, Nat.le_of_ble_eq_true rfl⟩ ⟨Nat.le_of_ble_eq_true rfl, Nat.le_of_ble_eq_true rfl⟩ dX14_of_26 (fun H locs hW => ?_)
    obtain ⟨e1, e2⟩ := so_inj hf
    exact aw_iret hC hW hr rfl (p_eq hP (congrArg (fun z => some (Value.int z)) e1) e2) (Nat.le_of_ble_eq_true rfl) (Nat.le_of_ble_eq_true rfl) dX14_of_29
  unfold f_X14_of at hf
  refine lv_aload_n hx hb dX14_of_0 rfl (lv_at hl 0 rfl) ?_
  refine lv_iconst (v := 0) hx hb dX14_of_1 (by decide) ?_
  obtain ⟨g2, hf⟩ := gd_some hf
  obtain ⟨s2, e2, hf⟩ := bnd_some hf
  refine aw_pI e2 hC hW g2 fl_X14_3 (Or.inl fn_13_0) rfl rfl rfl dX14_of_2 (fun H locs hW => ?_)
  have g2 := ko_pI e2 g2
  refine lv_aload_n hx hb dX14_of_5 rfl (lv_at hl 0 rfl) ?_
  refine lv_iload_n hx hb dX14_of_6 rfl (lv_at hl 1 rfl) ?_
  obtain ⟨v7, s7, h7, hf⟩ := ob_some hf
  refine aw_dV1 (r := o) (As := [.int x1]) (rest := []) (ct_X14_isPerson l G a o x1 s2 v7 s7 h7) hC hW hl.1 vy_X14_isPerson (Or.inl q1594) g2 rfl rfl rfl rfl (Nat.le_of_ble_eq_true rfl) ⟨Nat.le_of_ble_eq_true rfl, Nat.le_of_ble_eq_true rfl⟩ ⟨Nat.le_of_ble_eq_true rfl, Nat.le_of_ble_eq_true rfl⟩ dX14_of_7 (fun H locs hW => ?_)
  refine lv_if_eq (tgt := 25) hx hb dX14_of_10 (by decide) (fun c10 => ?_) (fun c10 => ?_)
  · have hf := ifp c10 hf
    exact B25 o s7 hf _ _ _ (lv_sub hl [0] rfl) hW
  · have hf := ifn c10 hf
    refine lv_iload_n hx hb dX14_of_13 rfl (lv_at hl 2 rfl) ?_
    refine lv_i2l (v := (x2 : Int32).toInt64) hx hb dX14_of_14 rfl ?_
    refine lv_lconst (v := 0) hx hb dX14_of_15 (by decide) ?_
    refine lv_ldc2 (v := 7) hx hb hC.2.2.2.1 (hts _ q1621) dX14_of_16 ?_
    obtain ⟨v19, ev19, hf⟩ := bnd_some hf
    refine aw_dS1 (As := [.long ((x2 : Int32).toInt64), .long 0, .long 7]) (rest := []) (pc_X14_in l G a ((x2 : Int32).toInt64) 0 7 s7) hC hW hl.1 sy_X14_in (Or.inl q1514) rfl rfl (Nat.le_of_ble_eq_true rfl) ⟨Nat.le_of_ble_eq_true rfl, Nat.le_of_ble_eq_true rfl⟩ ⟨Nat.le_of_ble_eq_true rfl, Nat.le_of_ble_eq_true rfl⟩ dX14_of_19 (fun H locs hW => ?_)
    refine top_i ev19 ?_
    refine lv_if_ne (tgt := 30) hx hb dX14_of_22 (by decide) (fun c22 => ?_) (fun c22 => ?_)
    · have hf := ifn c22 hf
      refine lv_iload_n hx hb dX14_of_30 rfl (lv_at hl 2 rfl) ?_
      by_cases c31 : x2 = 0
      · have hf := ifp c31 hf
        refine lv_tableIn (tgt := 72) hx hb dX14_of_31 (by rw [c31]; decide) (by rw [c31]; decide) (by rw [c31]; rfl) (by decide) ?_
        refine lv_aload_n hx hb dX14_of_72 rfl (lv_at hl 0 rfl) ?_
        obtain ⟨g73, hf⟩ := gd_some hf
        obtain ⟨q73, hq73, hf⟩ := bi_some hf
        refine aw_gR hC hW g73 fl_X14_44 rfl hq73 dX14_of_73 ?_
        refine lv_iload_n hx hb dX14_of_76 rfl (lv_at hl 1 rfl) ?_
        obtain ⟨g77, hf⟩ := gd_some hf
        refine aw_iald hC hW g77 dX14_of_77 ?_
        obtain ⟨e1, e2⟩ := so_inj hf
        exact aw_iret hC hW hr rfl (p_eq hP (congrArg (fun z => some (Value.int z)) e1) e2) (Nat.le_of_ble_eq_true rfl) (Nat.le_of_ble_eq_true rfl) dX14_of_78
      have hf := ifn c31 hf
      by_cases c31_1 : x2 = 1
      · have hf := ifp c31_1 hf
        refine lv_tableIn (tgt := 79) hx hb dX14_of_31 (by rw [c31_1]; decide) (by rw [c31_1]; decide) (by rw [c31_1]; rfl) (by decide) ?_
        refine lv_aload_n hx hb dX14_of_79 rfl (lv_at hl 0 rfl) ?_
        obtain ⟨g80, hf⟩ := gd_some hf
        obtain ⟨q80, hq80, hf⟩ := bi_some hf
        refine aw_gR hC hW g80 fl_X14_28 rfl hq80 dX14_of_80 ?_
        refine lv_iload_n hx hb dX14_of_83 rfl (lv_at hl 1 rfl) ?_
        obtain ⟨g84, hf⟩ := gd_some hf
        refine aw_iald hC hW g84 dX14_of_84 ?_
        obtain ⟨e1, e2⟩ := so_inj hf
        exact aw_iret hC hW hr rfl (p_eq hP (congrArg (fun z => some (Value.int z)) e1) e2) (Nat.le_of_ble_eq_true rfl) (Nat.le_of_ble_eq_true rfl) dX14_of_85
      have hf := ifn c31_1 hf
      by_cases c31_2 : x2 = 2
      · have hf := ifp c31_2 hf
        refine lv_tableIn (tgt := 86) hx hb dX14_of_31 (by rw [c31_2]; decide) (by rw [c31_2]; decide) (by rw [c31_2]; rfl) (by decide) ?_
        refine lv_aload_n hx hb dX14_of_86 rfl (lv_at hl 0 rfl) ?_
        obtain ⟨g87, hf⟩ := gd_some hf
        obtain ⟨q87, hq87, hf⟩ := bi_some hf
        refine aw_gR hC hW g87 fl_X14_32 rfl hq87 dX14_of_87 ?_
        refine lv_iload_n hx hb dX14_of_90 rfl (lv_at hl 1 rfl) ?_
        obtain ⟨g91, hf⟩ := gd_some hf
        refine aw_iald hC hW g91 dX14_of_91 ?_
        obtain ⟨e1, e2⟩ := so_inj hf
        exact aw_iret hC hW hr rfl (p_eq hP (congrArg (fun z => some (Value.int z)) e1) e2) (Nat.le_of_ble_eq_true rfl) (Nat.le_of_ble_eq_true rfl) dX14_of_92
      have hf := ifn c31_2 hf
      by_cases c31_3 : x2 = 3
      · have hf := ifp c31_3 hf
        refine lv_tableIn (tgt := 93) hx hb dX14_of_31 (by rw [c31_3]; decide) (by rw [c31_3]; decide) (by rw [c31_3]; rfl) (by decide) ?_
        refine lv_aload_n hx hb dX14_of_93 rfl (lv_at hl 0 rfl) ?_
        obtain ⟨g94, hf⟩ := gd_some hf
        obtain ⟨q94, hq94, hf⟩ := bi_some hf
        refine aw_gR hC hW g94 fl_X14_44 rfl hq94 dX14_of_94 ?_
        refine lv_bipush (v := 16) hx hb dX14_of_97 (by decide) ?_
        obtain ⟨g99, hf⟩ := gd_some hf
        refine aw_iald hC hW g99 dX14_of_99 ?_
        refine lv_iload_n hx hb dX14_of_100 rfl (lv_at hl 1 rfl) ?_
        obtain ⟨v101, ev101, hf⟩ := bnd_some hf
        refine aw_dS1 (As := [.int (gi s7 q94 (16 : Int32).toNatClampNeg), .int x1]) (rest := []) (pc_X14_has l G a (gi s7 q94 (16 : Int32).toNatClampNeg) x1 s7) hC hW hl.1 sy_X14_has (Or.inl q1626) rfl rfl (Nat.le_of_ble_eq_true rfl) ⟨Nat.le_of_ble_eq_true rfl, Nat.le_of_ble_eq_true rfl⟩ ⟨Nat.le_of_ble_eq_true rfl, Nat.le_of_ble_eq_true rfl⟩ dX14_of_101 (fun H locs hW => ?_)
        refine top_i ev101 ?_
        obtain ⟨v104, ev104, hf⟩ := bnd_some hf
        refine aw_dS1 (As := [.int v101]) (rest := []) (pc_X14_flag l G a v101 s7) hC hW hl.1 sy_X14_flag (Or.inl q1544) rfl rfl (Nat.le_of_ble_eq_true rfl) ⟨Nat.le_of_ble_eq_true rfl, Nat.le_of_ble_eq_true rfl⟩ ⟨Nat.le_of_ble_eq_true rfl, Nat.le_of_ble_eq_true rfl⟩ dX14_of_104 (fun H locs hW => ?_)
        refine top_i ev104 ?_
        obtain ⟨e1, e2⟩ := so_inj hf
        exact aw_iret hC hW hr rfl (p_eq hP (congrArg (fun z => some (Value.int z)) e1) e2) (Nat.le_of_ble_eq_true rfl) (Nat.le_of_ble_eq_true rfl) dX14_of_107
      have hf := ifn c31_3 hf
      by_cases c31_4 : x2 = 4
      · have hf := ifp c31_4 hf
        refine lv_tableIn (tgt := 108) hx hb dX14_of_31 (by rw [c31_4]; decide) (by rw [c31_4]; decide) (by rw [c31_4]; rfl) (by decide) ?_
        refine lv_aload_n hx hb dX14_of_108 rfl (lv_at hl 0 rfl) ?_
        obtain ⟨g109, hf⟩ := gd_some hf
        obtain ⟨q109, hq109, hf⟩ := bi_some hf
        refine aw_gR hC hW g109 fl_X14_44 rfl hq109 dX14_of_109 ?_
        refine lv_bipush (v := 8) hx hb dX14_of_112 (by decide) ?_
        refine lv_iload_n hx hb dX14_of_114 rfl (lv_at hl 1 rfl) ?_
        refine lv_iadd hx hb dX14_of_115 ?_
        obtain ⟨g116, hf⟩ := gd_some hf
        refine aw_iald hC hW g116 dX14_of_116 ?_
        obtain ⟨e1, e2⟩ := so_inj hf
        exact aw_iret hC hW hr rfl (p_eq hP (congrArg (fun z => some (Value.int z)) e1) e2) (Nat.le_of_ble_eq_true rfl) (Nat.le_of_ble_eq_true rfl) dX14_of_117
      have hf := ifn c31_4 hf
      by_cases c31_5 : x2 = 5
      · have hf := ifp c31_5 hf
        refine lv_tableIn (tgt := 118) hx hb dX14_of_31 (by rw [c31_5]; decide) (by rw [c31_5]; decide) (by rw [c31_5]; rfl) (by decide) ?_
        refine lv_aload_n hx hb dX14_of_118 rfl (lv_at hl 0 rfl) ?_
        refine lv_aload_n hx hb dX14_of_119 rfl (lv_at hl 0 rfl) ?_
        obtain ⟨g120, hf⟩ := gd_some hf
        obtain ⟨q120, hq120, hf⟩ := bi_some hf
        refine aw_gR hC hW g120 fl_X14_44 rfl hq120 dX14_of_120 ?_
        refine lv_iload_n hx hb dX14_of_123 rfl (lv_at hl 1 rfl) ?_
        obtain ⟨g124, hf⟩ := gd_some hf
        refine aw_iald hC hW g124 dX14_of_124 ?_
        obtain ⟨v125, s125, h125, hf⟩ := ob_some hf
        refine aw_dV1 (r := o) (As := [.int (gi s7 q120 (x1 : Int32).toNatClampNeg)]) (rest := []) (ct_X14_shows l G a o (gi s7 q120 (x1 : Int32).toNatClampNeg) s7 v125 s125 h125) hC hW hl.1 vy_X14_shows (Or.inl q1629) g120 rfl rfl rfl rfl (Nat.le_of_ble_eq_true rfl) ⟨Nat.le_of_ble_eq_true rfl, Nat.le_of_ble_eq_true rfl⟩ ⟨Nat.le_of_ble_eq_true rfl, Nat.le_of_ble_eq_true rfl⟩ dX14_of_125 (fun H locs hW => ?_)
        obtain ⟨e1, e2⟩ := so_inj hf
        exact aw_iret hC hW hr rfl (p_eq hP (congrArg (fun z => some (Value.int z)) e1) e2) (Nat.le_of_ble_eq_true rfl) (Nat.le_of_ble_eq_true rfl) dX14_of_128
      have hf := ifn c31_5 hf
      by_cases c31_6 : x2 = 6
      · have hf := ifp c31_6 hf
        refine lv_tableIn (tgt := 129) hx hb dX14_of_31 (by rw [c31_6]; decide) (by rw [c31_6]; decide) (by rw [c31_6]; rfl) (by decide) ?_
        refine lv_aload_n hx hb dX14_of_129 rfl (lv_at hl 0 rfl) ?_
        refine lv_aload_n hx hb dX14_of_130 rfl (lv_at hl 0 rfl) ?_
        obtain ⟨g131, hf⟩ := gd_some hf
        obtain ⟨q131, hq131, hf⟩ := bi_some hf
        refine aw_gR hC hW g131 fl_X14_44 rfl hq131 dX14_of_131 ?_
        refine lv_iload_n hx hb dX14_of_134 rfl (lv_at hl 1 rfl) ?_
        obtain ⟨v135, s135, h135, hf⟩ := ob_some hf
        refine aw_dV1 (r := o) (As := [.ref (a q131), .int x1]) (rest := []) (ct_X14_willOf l G a o q131 x1 s7 v135 s135 h135) hC hW hl.1 vy_X14_willOf (Or.inl q1634) g131 rfl rfl rfl rfl (Nat.le_of_ble_eq_true rfl) ⟨Nat.le_of_ble_eq_true rfl, Nat.le_of_ble_eq_true rfl⟩ ⟨Nat.le_of_ble_eq_true rfl, Nat.le_of_ble_eq_true rfl⟩ dX14_of_135 (fun H locs hW => ?_)
        obtain ⟨e1, e2⟩ := so_inj hf
        exact aw_iret hC hW hr rfl (p_eq hP (congrArg (fun z => some (Value.int z)) e1) e2) (Nat.le_of_ble_eq_true rfl) (Nat.le_of_ble_eq_true rfl) dX14_of_138
      have hf := ifn c31_6 hf
      have zc31 := lv_neT (a := 0) c31 (by decide)
      have zc31_1 := lv_neT (a := 1) c31_1 (by decide)
      have zc31_2 := lv_neT (a := 2) c31_2 (by decide)
      have zc31_3 := lv_neT (a := 3) c31_3 (by decide)
      have zc31_4 := lv_neT (a := 4) c31_4 (by decide)
      have zc31_5 := lv_neT (a := 5) c31_5 (by decide)
      have zc31_6 := lv_neT (a := 6) c31_6 (by decide)
      refine lv_tableOut (tgt := 139) hx hb dX14_of_31 (by omega) (by decide) ?_
      refine lv_aload_n hx hb dX14_of_139 rfl (lv_at hl 0 rfl) ?_
      obtain ⟨g140, hf⟩ := gd_some hf
      obtain ⟨q140, hq140, hf⟩ := bi_some hf
      refine aw_gR hC hW g140 fl_X14_38 rfl hq140 dX14_of_140 ?_
      refine lv_iload_n hx hb dX14_of_143 rfl (lv_at hl 1 rfl) ?_
      obtain ⟨g144, hf⟩ := gd_some hf
      refine aw_iald hC hW g144 dX14_of_144 ?_
      obtain ⟨e1, e2⟩ := so_inj hf
      exact aw_iret hC hW hr rfl (p_eq hP (congrArg (fun z => some (Value.int z)) e1) e2) (Nat.le_of_ble_eq_true rfl) (Nat.le_of_ble_eq_true rfl) dX14_of_145
    · have hf := ifp c22 hf
      exact B25 o s7 hf _ _ _ (lv_sub hl [0] rfl) hW
def f_X14_offs_b61 (K23 : Nat → Int32 → Int32 → Int32 → Int32 → ST → Option (Int32 × ST)) (r0 : Nat) (x1 : Int32) (x2 : Int32) (x3 : Int32) (x4 : Int32) (s : ST) : Option (Int32 × ST) :=
  gd (r0 < s.1 ∧ (kd s r0).1 = 14) <|
  bnd (pI s r0 9 ((gi s r0 9) + 1)) fun s68 =>
  K23 r0 x1 x2 x3 x4 s68
def f_X14_offs_b51 (K23 : Nat → Int32 → Int32 → Int32 → Int32 → ST → Option (Int32 × ST)) (r0 : Nat) (x1 : Int32) (x2 : Int32) (t0 : Int32) (s : ST) : Option (Int32 × ST) :=
  gd (r0 < s.1 ∧ (kd s r0).1 = 14) <|
  bnd ((gi s r0 9) : Int32) fun v56 =>
  bnd (x2 + 1 : Int32) fun v58 =>
  f_X14_offs_b61 K23 r0 x1 v58 t0 v56 s
def f_X14_offs_b23 : Nat → Nat → Int32 → Int32 → Int32 → Int32 → ST → Option (Int32 × ST)
  | 0, _, _, _, _, _, _ => none
  | n + 1, r0, x1, x2, x3, x4, s =>
  gd (r0 < s.1 ∧ (kd s r0).1 = 14) <|
  if 9 < (gi s r0 9) then (bnd (pI s r0 9 x1) fun s76 =>
  ob (f_X14_tellsSpan r0 x2 x3 x4 s76) fun _ s84 =>
  some (x2, s84)) else ob (f_X14_wrong r0 s) fun v33 s33 =>
  if v33 = 0 then (if x2 = 0 then (gd (r0 < s33.1 ∧ (kd s33 r0).1 = 14) <|
  f_X14_offs_b51 (f_X14_offs_b23 n) r0 x1 x2 (gi s33 r0 9) s33) else f_X14_offs_b51 (f_X14_offs_b23 n) r0 x1 x2 x3 s33) else f_X14_offs_b61 (f_X14_offs_b23 n) r0 x1 x2 x3 x4 s33
def f_X14_offs (o : Nat) (s : ST) : Option (Int32 × ST) :=
  gd (o < s.1 ∧ (kd s o).1 = 14) <|
  bnd (pI s o 0 0) fun s2 =>
  bnd ((gi s2 o 9) : Int32) fun v9 =>
  bnd (pI s2 o 9 (-9)) fun s20 =>
  f_X14_offs_b23 fuel o v9 0 0 0 s20
set_option maxHeartbeats 4000000 in
theorem ct_X14_offs (l : Launch) (G : GM) (a : Nat → Nat) (o : Nat) (s : ST) (rv : Int32) (sf : ST) (hf : f_X14_offs o s = some (rv, sf)) : MD l G yX14_offs (ws_ yX14_offs cX14_offs 5 (some .int)) 4 [.ref (a o)] a s (some (.int rv)) sf := by
  refine md_of (d := 4) (lv := [(0, .ref (a o))]) (Or.inl (by decide)) (Nat.le_of_ble_eq_true rfl) rfl ?_
  intro p e s0 m args below meth c ls A P hP hC hr hnm hW hl
  have hx := hC.1
  have hb := hC.2.1
  have hts := hC.2.2.2.2.1
  have B61 : ∀ (K23 : Nat → Int32 → Int32 → Int32 → Int32 → ST → Option (Int32 × ST)) (hK23 : ∀ (r0 : Nat) (x1 : Int32) (x2 : Int32) (x3 : Int32) (x4 : Int32) (s : ST), K23 r0 x1 x2 x3 x4 s = some (rv, sf) → ∀ (H : Heap) (locs : List Loc) (ls : Array Slot), lv_has ls 5 [(0, .ref (a r0)), (1, .int x1), (2, .int x2), (3, .int x3), (4, .int x4)] → AW G a A s s0.heap H locs → WB p l e (rmD 4) s0 m args below meth c H locs G A P 23 ls []), ∀ (r0 : Nat) (x1 : Int32) (x2 : Int32) (x3 : Int32) (x4 : Int32) (s : ST), f_X14_offs_b61 K23 r0 x1 x2 x3 x4 s = some (rv, sf) → ∀ (H : Heap) (locs : List Loc) (ls : Array Slot), lv_has ls 5 [(0, .ref (a r0)), (1, .int x1), (2, .int x2), (3, .int x3), (4, .int x4)] → AW G a A s s0.heap H locs → WB p l e (rmD 4) s0 m args below meth c H locs G A P 61 ls [] := by
    intro K23 hK23 r0 x1 x2 x3 x4 s hf H locs ls hl hW
    unfold f_X14_offs_b61 at hf
    refine lv_aload_n hx hb dX14_offs_61 rfl (lv_at hl 0 rfl) ?_
    refine lv_dup hx hb dX14_offs_62 rfl ?_
    obtain ⟨g63, hf⟩ := gd_some hf
    refine aw_gI hC hW g63 fl_X14_251 rfl dX14_offs_63 ?_
    refine lv_iconst (v := 1) hx hb dX14_offs_66 (by decide) ?_
    refine lv_iadd hx hb dX14_offs_67 ?_
    obtain ⟨s68, e68, hf⟩ := bnd_some hf
    refine aw_pI e68 hC hW g63 fl_X14_251 (Or.inl fn_13_9) rfl rfl rfl dX14_offs_68 (fun H locs hW => ?_)
    have g63 := ko_pI e68 g63
    refine lv_goto (tgt := 23) hx hb dX14_offs_71 (by decide) ?_
    exact hK23 r0 x1 x2 x3 x4 s68 hf _ _ _ (lv_sub hl [0, 1, 2, 3, 4] rfl) hW
  have B51 : ∀ (K23 : Nat → Int32 → Int32 → Int32 → Int32 → ST → Option (Int32 × ST)) (hK23 : ∀ (r0 : Nat) (x1 : Int32) (x2 : Int32) (x3 : Int32) (x4 : Int32) (s : ST), K23 r0 x1 x2 x3 x4 s = some (rv, sf) → ∀ (H : Heap) (locs : List Loc) (ls : Array Slot), lv_has ls 5 [(0, .ref (a r0)), (1, .int x1), (2, .int x2), (3, .int x3), (4, .int x4)] → AW G a A s s0.heap H locs → WB p l e (rmD 4) s0 m args below meth c H locs G A P 23 ls []), ∀ (r0 : Nat) (x1 : Int32) (x2 : Int32) (t0 : Int32) (s : ST), f_X14_offs_b51 K23 r0 x1 x2 t0 s = some (rv, sf) → ∀ (H : Heap) (locs : List Loc) (ls : Array Slot), lv_has ls 5 [(0, .ref (a r0)), (1, .int x1), (2, .int x2)] → AW G a A s s0.heap H locs → WB p l e (rmD 4) s0 m args below meth c H locs G A P 51 ls [.int t0] := by
    intro K23 hK23 r0 x1 x2 t0 s hf H locs ls hl hW
    unfold f_X14_offs_b51 at hf
    refine lv_istore_n (lv' := [(3, .int t0), (0, .ref (a r0)), (1, .int x1), (2, .int x2)]) hx hb dX14_offs_51 rfl hl (by decide) rfl (fun ls hl => ?_)
    refine lv_aload_n hx hb dX14_offs_52 rfl (lv_at hl 1 rfl) ?_
    obtain ⟨g53, hf⟩ := gd_some hf
    refine aw_gI hC hW g53 fl_X14_251 rfl dX14_offs_53 ?_
    obtain ⟨v56, ev56, hf⟩ := bnd_some hf
    refine top_i ev56 ?_
    refine lv_istore (lv' := [(4, .int v56), (3, .int t0), (0, .ref (a r0)), (1, .int x1), (2, .int x2)]) hx hb dX14_offs_56 hl (by decide) rfl (fun ls hl => ?_)
    obtain ⟨v58, ev58, hf⟩ := bnd_some hf
    refine lv_iinc (v := v58) (lv' := [(2, .int v58), (4, .int v56), (3, .int t0), (0, .ref (a r0)), (1, .int x1)]) hx hb dX14_offs_58 hl (k := 4) rfl (by rw [ev58]; rfl) (by decide) rfl (fun ls hl => ?_)
    exact B61 K23 hK23 r0 x1 v58 t0 v56 s hf _ _ _ (lv_sub hl [3, 4, 0, 2, 1] rfl) hW
  have B23 : ∀ (n : Nat), ∀ (r0 : Nat) (x1 : Int32) (x2 : Int32) (x3 : Int32) (x4 : Int32) (s : ST), f_X14_offs_b23 n r0 x1 x2 x3 x4 s = some (rv, sf) → ∀ (H : Heap) (locs : List Loc) (ls : Array Slot), lv_has ls 5 [(0, .ref (a r0)), (1, .int x1), (2, .int x2), (3, .int x3), (4, .int x4)] → AW G a A s s0.heap H locs → WB p l e (rmD 4) s0 m args below meth c H locs G A P 23 ls [] := by
    intro n
    induction n with
    | zero => intro r0 x1 x2 x3 x4 s hf; cases hf
    | succ n ih =>
      intro r0 x1 x2 x3 x4 s hf H locs ls hl hW
      rw [f_X14_offs_b23] at hf
      refine lv_aload_n hx hb dX14_offs_23 rfl (lv_at hl 0 rfl) ?_
      obtain ⟨g24, hf⟩ := gd_some hf
      refine aw_gI hC hW g24 fl_X14_251 rfl dX14_offs_24 ?_
      refine lv_bipush (v := 9) hx hb dX14_offs_27 (by decide) ?_
      refine lv_icmp_gt (tgt := 74) hx hb dX14_offs_29 (by decide) (fun c29 => ?_) (fun c29 => ?_)
      · have hf := ifp c29 hf
        refine lv_aload_n hx hb dX14_offs_74 rfl (lv_at hl 0 rfl) ?_
        refine lv_iload_n hx hb dX14_offs_75 rfl (lv_at hl 1 rfl) ?_
        obtain ⟨s76, e76, hf⟩ := bnd_some hf
        refine aw_pI e76 hC hW g24 fl_X14_251 (Or.inl fn_13_9) rfl rfl rfl dX14_offs_76 (fun H locs hW => ?_)
        have g24 := ko_pI e76 g24
        refine lv_aload_n hx hb dX14_offs_79 rfl (lv_at hl 0 rfl) ?_
        refine lv_iload_n hx hb dX14_offs_80 rfl (lv_at hl 2 rfl) ?_
        refine lv_iload_n hx hb dX14_offs_81 rfl (lv_at hl 3 rfl) ?_
        refine lv_iload hx hb dX14_offs_82 (lv_at hl 4 rfl) ?_
        obtain ⟨_, s84, h84, hf⟩ := ob_some hf
        refine aw_dV0 (r := r0) (As := [.int x2, .int x3, .int x4]) (rest := []) (ct_X14_tellsSpan l G a r0 x2 x3 x4 s76 () s84 h84) hC hW hl.1 vy_X14_tellsSpan (Or.inl q1858) g24 rfl rfl rfl rfl (Nat.le_of_ble_eq_true rfl) ⟨Nat.le_of_ble_eq_true rfl, Nat.le_of_ble_eq_true rfl⟩ ⟨Nat.le_of_ble_eq_true rfl, Nat.le_of_ble_eq_true rfl⟩ dX14_offs_84 (fun H locs hW => ?_)
        refine lv_iload_n hx hb dX14_offs_87 rfl (lv_at hl 2 rfl) ?_
        obtain ⟨e1, e2⟩ := so_inj hf
        exact aw_iret hC hW hr rfl (p_eq hP (congrArg (fun z => some (Value.int z)) e1) e2) (Nat.le_of_ble_eq_true rfl) (Nat.le_of_ble_eq_true rfl) dX14_offs_88
      · have hf := ifn c29 hf
        refine lv_aload_n hx hb dX14_offs_32 rfl (lv_at hl 0 rfl) ?_
        obtain ⟨v33, s33, h33, hf⟩ := ob_some hf
        refine aw_dV1 (r := r0) (As := []) (rest := []) (ct_X14_wrong l G a r0 s v33 s33 h33) hC hW hl.1 vy_X14_wrong (Or.inl q1870) g24 rfl rfl rfl rfl (Nat.le_of_ble_eq_true rfl) ⟨Nat.le_of_ble_eq_true rfl, Nat.le_of_ble_eq_true rfl⟩ ⟨Nat.le_of_ble_eq_true rfl, Nat.le_of_ble_eq_true rfl⟩ dX14_offs_33 (fun H locs hW => ?_)
        refine lv_if_ne (tgt := 61) hx hb dX14_offs_36 (by decide) (fun c36 => ?_) (fun c36 => ?_)
        · have hf := ifn c36 hf
          exact B61 (f_X14_offs_b23 n) ih r0 x1 x2 x3 x4 s33 hf _ _ _ (lv_sub hl [0, 1, 2, 3, 4] rfl) hW
        · have hf := ifp c36 hf
          refine lv_iload_n hx hb dX14_offs_39 rfl (lv_at hl 2 rfl) ?_
          refine lv_if_ne (tgt := 50) hx hb dX14_offs_40 (by decide) (fun c40 => ?_) (fun c40 => ?_)
          · have hf := ifn c40 hf
            refine lv_iload_n hx hb dX14_offs_50 rfl (lv_at hl 3 rfl) ?_
            exact B51 (f_X14_offs_b23 n) ih r0 x1 x2 x3 s33 hf _ _ _ (lv_sub hl [0, 1, 2] rfl) hW
          · have hf := ifp c40 hf
            refine lv_aload_n hx hb dX14_offs_43 rfl (lv_at hl 0 rfl) ?_
            obtain ⟨g44, hf⟩ := gd_some hf
            refine aw_gI hC hW g44 fl_X14_251 rfl dX14_offs_44 ?_
            refine lv_goto (tgt := 51) hx hb dX14_offs_47 (by decide) ?_
            exact B51 (f_X14_offs_b23 n) ih r0 x1 x2 (gi s33 r0 9) s33 hf _ _ _ (lv_sub hl [0, 1, 2] rfl) hW
  unfold f_X14_offs at hf
  refine lv_aload_n hx hb dX14_offs_0 rfl (lv_at hl 0 rfl) ?_
  refine lv_iconst (v := 0) hx hb dX14_offs_1 (by decide) ?_
  obtain ⟨g2, hf⟩ := gd_some hf
  obtain ⟨s2, e2, hf⟩ := bnd_some hf
  refine aw_pI e2 hC hW g2 fl_X14_3 (Or.inl fn_13_0) rfl rfl rfl dX14_offs_2 (fun H locs hW => ?_)
  have g2 := ko_pI e2 g2
  refine lv_aload_n hx hb dX14_offs_5 rfl (lv_at hl 0 rfl) ?_
  refine aw_gI hC hW g2 fl_X14_251 rfl dX14_offs_6 ?_
  obtain ⟨v9, ev9, hf⟩ := bnd_some hf
  refine top_i ev9 ?_
  refine lv_istore_n (lv' := [(1, .int v9), (0, .ref (a o))]) hx hb dX14_offs_9 rfl hl (by decide) rfl (fun ls hl => ?_)
  refine lv_iconst (v := 0) hx hb dX14_offs_10 (by decide) ?_
  refine lv_istore_n (lv' := [(2, .int 0), (1, .int v9), (0, .ref (a o))]) hx hb dX14_offs_11 rfl hl (by decide) rfl (fun ls hl => ?_)
  refine lv_iconst (v := 0) hx hb dX14_offs_12 (by decide) ?_
  refine lv_istore_n (lv' := [(3, .int 0), (2, .int 0), (1, .int v9), (0, .ref (a o))]) hx hb dX14_offs_13 rfl hl (by decide) rfl (fun ls hl => ?_)
  refine lv_iconst (v := 0) hx hb dX14_offs_14 (by decide) ?_
  refine lv_istore (lv' := [(4, .int 0), (3, .int 0), (2, .int 0), (1, .int v9), (0, .ref (a o))]) hx hb dX14_offs_15 hl (by decide) rfl (fun ls hl => ?_)
  refine lv_aload_n hx hb dX14_offs_17 rfl (lv_at hl 4 rfl) ?_
  refine lv_bipush (v := (-9)) hx hb dX14_offs_18 (by decide) ?_
  obtain ⟨s20, e20, hf⟩ := bnd_some hf
  refine aw_pI e20 hC hW g2 fl_X14_251 (Or.inl fn_13_9) rfl rfl rfl dX14_offs_20 (fun H locs hW => ?_)
  have g2 := ko_pI e20 g2
  exact B23 fuel o v9 0 0 0 s20 hf _ _ _ (lv_sub hl [4, 3, 2, 1, 0] rfl) hW
def f_X14_party_b119 (K90 : Nat → Int32 → Int32 → Int32 → ST → Option (Int32 × ST)) (r0 : Nat) (x2 : Int32) (x5 : Int32) (t0 : Int32) (t1 : Int32) (s : ST) : Option (Int32 × ST) :=
  bnd ((t1 ||| t0) : Int32) fun v120 =>
  bnd (x5 + 1 : Int32) fun v122 =>
  K90 r0 x2 v120 v122 s
def f_X14_party_b90 : Nat → Nat → Int32 → Int32 → Int32 → ST → Option (Int32 × ST)
  | 0, _, _, _, _, _ => none
  | n + 1, r0, x2, x4, x5, s =>
  gd (r0 < s.1 ∧ (kd s r0).1 = 14) <|
  if (gi s r0 3) ≤ x5 then (ob (f_X14_enters r0 ((x4 : Int32).toInt64) s) fun _ s132 =>
  some (x2, s132)) else (gr s r0 32).bind fun q102 =>
  gd (q102 < s.1 ∧ (kd s q102).1 = 100 ∧ ¬ ((x5 : Int32) < 0 ∨ (kd s q102).2 ≤ (x5 : Int32).toNatClampNeg)) <|
  if (gi s q102 (x5 : Int32).toNatClampNeg) ≤ 0 then (f_X14_party_b119 (f_X14_party_b90 n) r0 x2 x5 0 x4 s) else f_X14_party_b119 (f_X14_party_b90 n) r0 x2 x5 (1 <<< (x5 &&& 31)) x4 s
def f_X14_party_b73 (K40 : Nat → Int32 → Int32 → Int32 → Int32 → ST → Option (Int32 × ST)) (r0 : Nat) (x3 : Int32) (x4 : Int32) (x5 : Int32) (x6 : Int32) (t0 : Int32) (s : ST) : Option (Int32 × ST) :=
  bnd (p_max x3 x6) fun v77 =>
  bnd (x5 + 1 : Int32) fun v81 =>
  K40 r0 t0 v77 x4 v81 s
def f_X14_party_b40 : Nat → Nat → Int32 → Int32 → Int32 → Int32 → ST → Option (Int32 × ST)
  | 0, _, _, _, _, _, _ => none
  | n + 1, r0, x2, x3, x4, x5, s =>
  if 4 ≤ x5 then (f_X14_party_b90 fuel r0 x2 x4 0 s) else gd (r0 < s.1 ∧ (kd s r0).1 = 14) <|
  ob (f_X14_servedBy r0 x5 s) fun v49 s49 =>
  gd (r0 < s49.1 ∧ (kd s49 r0).1 = 14) <|
  ob (f_X14_enters r0 ((v49 : Int32).toInt64) s49) fun _ s58 =>
  if v49 ≤ x3 then (f_X14_party_b73 (f_X14_party_b40 n) r0 x3 x4 x5 v49 x2 s58) else f_X14_party_b73 (f_X14_party_b40 n) r0 x3 x4 x5 v49 x5 s58
def f_X14_party (o : Nat) (x1 : Int32) (s : ST) : Option (Int32 × ST) :=
  gd (o < s.1 ∧ (kd s o).1 = 14) <|
  bnd (pI s o 0 0) fun s2 =>
  ob (f_X14_areWeeks x1 s2) fun v6 s6 =>
  if v6 = 0 then (some ((-2), s6)) else gd (o < s6.1 ∧ (kd s6 o).1 = 14) <|
  ob (f_X14_starts o s6) fun _ s16 =>
  gd (o < s16.1 ∧ (kd s16 o).1 = 14) <|
  ob (f_X14_goesBy o x1 0 s16) fun _ s22 =>
  gd (o < s22.1 ∧ (kd s22 o).1 = 14) <|
  bnd (pI s22 o 1 0) fun s34 =>
  f_X14_party_b40 fuel o (-1) 0 0 0 s34
set_option maxHeartbeats 4000000 in
theorem ct_X14_party (l : Launch) (G : GM) (a : Nat → Nat) (o : Nat) (x1 : Int32) (s : ST) (rv : Int32) (sf : ST) (hf : f_X14_party o x1 s = some (rv, sf)) : MD l G yX14_party (ws_ yX14_party cX14_party 7 (some .int)) 6 [.ref (a o), .int x1] a s (some (.int rv)) sf := by
  refine md_of (d := 6) (lv := [(0, .ref (a o)), (1, .int x1)]) (Or.inl (by decide)) (Nat.le_of_ble_eq_true rfl) rfl ?_
  intro p e s0 m args below meth c ls A P hP hC hr hnm hW hl
  have hx := hC.1
  have hb := hC.2.1
  have hts := hC.2.2.2.2.1
  have B119 : ∀ (K90 : Nat → Int32 → Int32 → Int32 → ST → Option (Int32 × ST)) (hK90 : ∀ (r0 : Nat) (x2 : Int32) (x4 : Int32) (x5 : Int32) (s : ST), K90 r0 x2 x4 x5 s = some (rv, sf) → ∀ (H : Heap) (locs : List Loc) (ls : Array Slot), lv_has ls 7 [(0, .ref (a r0)), (2, .int x2), (4, .int x4), (5, .int x5)] → AW G a A s s0.heap H locs → WB p l e (rmD 6) s0 m args below meth c H locs G A P 90 ls []), ∀ (r0 : Nat) (x2 : Int32) (x5 : Int32) (t0 : Int32) (t1 : Int32) (s : ST), f_X14_party_b119 K90 r0 x2 x5 t0 t1 s = some (rv, sf) → ∀ (H : Heap) (locs : List Loc) (ls : Array Slot), lv_has ls 7 [(0, .ref (a r0)), (2, .int x2), (5, .int x5)] → AW G a A s s0.heap H locs → WB p l e (rmD 6) s0 m args below meth c H locs G A P 119 ls [.int t0, .int t1] := by
    intro K90 hK90 r0 x2 x5 t0 t1 s hf H locs ls hl hW
    unfold f_X14_party_b119 at hf
    refine lv_ior hx hb dX14_party_119 ?_
    obtain ⟨v120, ev120, hf⟩ := bnd_some hf
    refine top_i ev120 ?_
    refine lv_istore (lv' := [(4, .int v120), (0, .ref (a r0)), (2, .int x2), (5, .int x5)]) hx hb dX14_party_120 hl (by decide) rfl (fun ls hl => ?_)
    obtain ⟨v122, ev122, hf⟩ := bnd_some hf
    refine lv_iinc (v := v122) (lv' := [(5, .int v122), (4, .int v120), (0, .ref (a r0)), (2, .int x2)]) hx hb dX14_party_122 hl (k := 3) rfl (by rw [ev122]; rfl) (by decide) rfl (fun ls hl => ?_)
    refine lv_goto (tgt := 90) hx hb dX14_party_125 (by decide) ?_
    exact hK90 r0 x2 v120 v122 s hf _ _ _ (lv_sub hl [2, 3, 1, 0] rfl) hW
  have B90 : ∀ (n : Nat), ∀ (r0 : Nat) (x2 : Int32) (x4 : Int32) (x5 : Int32) (s : ST), f_X14_party_b90 n r0 x2 x4 x5 s = some (rv, sf) → ∀ (H : Heap) (locs : List Loc) (ls : Array Slot), lv_has ls 7 [(0, .ref (a r0)), (2, .int x2), (4, .int x4), (5, .int x5)] → AW G a A s s0.heap H locs → WB p l e (rmD 6) s0 m args below meth c H locs G A P 90 ls [] := by
    intro n
    induction n with
    | zero => intro r0 x2 x4 x5 s hf; cases hf
    | succ n ih =>
      intro r0 x2 x4 x5 s hf H locs ls hl hW
      rw [f_X14_party_b90] at hf
      refine lv_iload hx hb dX14_party_90 (lv_at hl 3 rfl) ?_
      refine lv_aload_n hx hb dX14_party_92 rfl (lv_at hl 0 rfl) ?_
      obtain ⟨g93, hf⟩ := gd_some hf
      refine aw_gI hC hW g93 fl_X14_117 rfl dX14_party_93 ?_
      refine lv_icmp_ge (tgt := 128) hx hb dX14_party_96 (by decide) (fun c96 => ?_) (fun c96 => ?_)
      · have hf := ifp c96 hf
        refine lv_aload_n hx hb dX14_party_128 rfl (lv_at hl 0 rfl) ?_
        refine lv_iload hx hb dX14_party_129 (lv_at hl 2 rfl) ?_
        refine lv_i2l (v := (x4 : Int32).toInt64) hx hb dX14_party_131 rfl ?_
        obtain ⟨_, s132, h132, hf⟩ := ob_some hf
        refine aw_dV0 (r := r0) (As := [.long ((x4 : Int32).toInt64)]) (rest := []) (ct_X14_enters l G a r0 ((x4 : Int32).toInt64) s () s132 h132) hC hW hl.1 vy_X14_enters (Or.inl q1689) g93 rfl rfl rfl rfl (Nat.le_of_ble_eq_true rfl) ⟨Nat.le_of_ble_eq_true rfl, Nat.le_of_ble_eq_true rfl⟩ ⟨Nat.le_of_ble_eq_true rfl, Nat.le_of_ble_eq_true rfl⟩ dX14_party_132 (fun H locs hW => ?_)
        refine lv_iload_n hx hb dX14_party_135 rfl (lv_at hl 1 rfl) ?_
        obtain ⟨e1, e2⟩ := so_inj hf
        exact aw_iret hC hW hr rfl (p_eq hP (congrArg (fun z => some (Value.int z)) e1) e2) (Nat.le_of_ble_eq_true rfl) (Nat.le_of_ble_eq_true rfl) dX14_party_136
      · have hf := ifn c96 hf
        refine lv_iload hx hb dX14_party_99 (lv_at hl 2 rfl) ?_
        refine lv_aload_n hx hb dX14_party_101 rfl (lv_at hl 0 rfl) ?_
        obtain ⟨q102, hq102, hf⟩ := bi_some hf
        refine aw_gR hC hW g93 fl_X14_80 rfl hq102 dX14_party_102 ?_
        refine lv_iload hx hb dX14_party_105 (lv_at hl 3 rfl) ?_
        obtain ⟨g107, hf⟩ := gd_some hf
        refine aw_iald hC hW g107 dX14_party_107 ?_
        refine lv_if_le (tgt := 118) hx hb dX14_party_108 (by decide) (fun c108 => ?_) (fun c108 => ?_)
        · have hf := ifp c108 hf
          refine lv_iconst (v := 0) hx hb dX14_party_118 (by decide) ?_
          exact B119 (f_X14_party_b90 n) ih r0 x2 x5 0 x4 s hf _ _ _ (lv_sub hl [0, 1, 3] rfl) hW
        · have hf := ifn c108 hf
          refine lv_iconst (v := 1) hx hb dX14_party_111 (by decide) ?_
          refine lv_iload hx hb dX14_party_112 (lv_at hl 3 rfl) ?_
          refine lv_ishl hx hb dX14_party_114 ?_
          refine lv_goto (tgt := 119) hx hb dX14_party_115 (by decide) ?_
          exact B119 (f_X14_party_b90 n) ih r0 x2 x5 (1 <<< (x5 &&& 31)) x4 s hf _ _ _ (lv_sub hl [0, 1, 3] rfl) hW
  have B73 : ∀ (K40 : Nat → Int32 → Int32 → Int32 → Int32 → ST → Option (Int32 × ST)) (hK40 : ∀ (r0 : Nat) (x2 : Int32) (x3 : Int32) (x4 : Int32) (x5 : Int32) (s : ST), K40 r0 x2 x3 x4 x5 s = some (rv, sf) → ∀ (H : Heap) (locs : List Loc) (ls : Array Slot), lv_has ls 7 [(0, .ref (a r0)), (2, .int x2), (3, .int x3), (4, .int x4), (5, .int x5)] → AW G a A s s0.heap H locs → WB p l e (rmD 6) s0 m args below meth c H locs G A P 40 ls []), ∀ (r0 : Nat) (x3 : Int32) (x4 : Int32) (x5 : Int32) (x6 : Int32) (t0 : Int32) (s : ST), f_X14_party_b73 K40 r0 x3 x4 x5 x6 t0 s = some (rv, sf) → ∀ (H : Heap) (locs : List Loc) (ls : Array Slot), lv_has ls 7 [(0, .ref (a r0)), (3, .int x3), (4, .int x4), (5, .int x5), (6, .int x6)] → AW G a A s s0.heap H locs → WB p l e (rmD 6) s0 m args below meth c H locs G A P 73 ls [.int t0] := by
    intro K40 hK40 r0 x3 x4 x5 x6 t0 s hf H locs ls hl hW
    unfold f_X14_party_b73 at hf
    refine lv_istore_n (lv' := [(2, .int t0), (0, .ref (a r0)), (3, .int x3), (4, .int x4), (5, .int x5), (6, .int x6)]) hx hb dX14_party_73 rfl hl (by decide) rfl (fun ls hl => ?_)
    refine lv_iload_n hx hb dX14_party_74 rfl (lv_at hl 2 rfl) ?_
    refine lv_iload hx hb dX14_party_75 (lv_at hl 5 rfl) ?_
    obtain ⟨v77, ev77, hf⟩ := bnd_some hf
    refine aw_dS1 (As := [.int x3, .int x6]) (rest := []) (pc_J0_max l G a x3 x6 s) hC hW hl.1 sy_J0_max (Or.inl q1633) rfl rfl (Nat.le_of_ble_eq_true rfl) ⟨Nat.le_of_ble_eq_true rfl, Nat.le_of_ble_eq_true rfl⟩ ⟨Nat.le_of_ble_eq_true rfl, Nat.le_of_ble_eq_true rfl⟩ dX14_party_77 (fun H locs hW => ?_)
    refine top_i ev77 ?_
    refine lv_istore_n (lv' := [(3, .int v77), (2, .int t0), (0, .ref (a r0)), (4, .int x4), (5, .int x5), (6, .int x6)]) hx hb dX14_party_80 rfl hl (by decide) rfl (fun ls hl => ?_)
    obtain ⟨v81, ev81, hf⟩ := bnd_some hf
    refine lv_iinc (v := v81) (lv' := [(5, .int v81), (3, .int v77), (2, .int t0), (0, .ref (a r0)), (4, .int x4), (6, .int x6)]) hx hb dX14_party_81 hl (k := 4) rfl (by rw [ev81]; rfl) (by decide) rfl (fun ls hl => ?_)
    refine lv_goto (tgt := 40) hx hb dX14_party_84 (by decide) ?_
    exact hK40 r0 t0 v77 x4 v81 s hf _ _ _ (lv_sub hl [3, 2, 1, 4, 0] rfl) hW
  have B40 : ∀ (n : Nat), ∀ (r0 : Nat) (x2 : Int32) (x3 : Int32) (x4 : Int32) (x5 : Int32) (s : ST), f_X14_party_b40 n r0 x2 x3 x4 x5 s = some (rv, sf) → ∀ (H : Heap) (locs : List Loc) (ls : Array Slot), lv_has ls 7 [(0, .ref (a r0)), (2, .int x2), (3, .int x3), (4, .int x4), (5, .int x5)] → AW G a A s s0.heap H locs → WB p l e (rmD 6) s0 m args below meth c H locs G A P 40 ls [] := by
    intro n
    induction n with
    | zero => intro r0 x2 x3 x4 x5 s hf; cases hf
    | succ n ih =>
      intro r0 x2 x3 x4 x5 s hf H locs ls hl hW
      rw [f_X14_party_b40] at hf
      refine lv_iload hx hb dX14_party_40 (lv_at hl 4 rfl) ?_
      refine lv_iconst (v := 4) hx hb dX14_party_42 (by decide) ?_
      refine lv_icmp_ge (tgt := 87) hx hb dX14_party_43 (by decide) (fun c43 => ?_) (fun c43 => ?_)
      · have hf := ifp c43 hf
        refine lv_iconst (v := 0) hx hb dX14_party_87 (by decide) ?_
        refine lv_istore (lv' := [(5, .int 0), (0, .ref (a r0)), (2, .int x2), (3, .int x3), (4, .int x4)]) hx hb dX14_party_88 hl (by decide) rfl (fun ls hl => ?_)
        exact B90 fuel r0 x2 x4 0 s hf _ _ _ (lv_sub hl [1, 2, 4, 0] rfl) hW
      · have hf := ifn c43 hf
        refine lv_aload_n hx hb dX14_party_46 rfl (lv_at hl 0 rfl) ?_
        refine lv_iload hx hb dX14_party_47 (lv_at hl 4 rfl) ?_
        obtain ⟨g49, hf⟩ := gd_some hf
        obtain ⟨v49, s49, h49, hf⟩ := ob_some hf
        refine aw_dV1 (r := r0) (As := [.int x5]) (rest := []) (ct_X14_servedBy l G a r0 x5 s v49 s49 h49) hC hW hl.1 vy_X14_servedBy (Or.inl q1801) g49 rfl rfl rfl rfl (Nat.le_of_ble_eq_true rfl) ⟨Nat.le_of_ble_eq_true rfl, Nat.le_of_ble_eq_true rfl⟩ ⟨Nat.le_of_ble_eq_true rfl, Nat.le_of_ble_eq_true rfl⟩ dX14_party_49 (fun H locs hW => ?_)
        refine lv_istore (lv' := [(6, .int v49), (0, .ref (a r0)), (2, .int x2), (3, .int x3), (4, .int x4), (5, .int x5)]) hx hb dX14_party_52 hl (by decide) rfl (fun ls hl => ?_)
        refine lv_aload_n hx hb dX14_party_54 rfl (lv_at hl 1 rfl) ?_
        refine lv_iload hx hb dX14_party_55 (lv_at hl 0 rfl) ?_
        refine lv_i2l (v := (v49 : Int32).toInt64) hx hb dX14_party_57 rfl ?_
        obtain ⟨g58, hf⟩ := gd_some hf
        obtain ⟨_, s58, h58, hf⟩ := ob_some hf
        refine aw_dV0 (r := r0) (As := [.long ((v49 : Int32).toInt64)]) (rest := []) (ct_X14_enters l G a r0 ((v49 : Int32).toInt64) s49 () s58 h58) hC hW hl.1 vy_X14_enters (Or.inl q1689) g58 rfl rfl rfl rfl (Nat.le_of_ble_eq_true rfl) ⟨Nat.le_of_ble_eq_true rfl, Nat.le_of_ble_eq_true rfl⟩ ⟨Nat.le_of_ble_eq_true rfl, Nat.le_of_ble_eq_true rfl⟩ dX14_party_58 (fun H locs hW => ?_)
        refine lv_iload hx hb dX14_party_61 (lv_at hl 0 rfl) ?_
        refine lv_iload_n hx hb dX14_party_63 rfl (lv_at hl 3 rfl) ?_
        refine lv_icmp_le (tgt := 72) hx hb dX14_party_64 (by decide) (fun c64 => ?_) (fun c64 => ?_)
        · have hf := ifp c64 hf
          refine lv_iload_n hx hb dX14_party_72 rfl (lv_at hl 2 rfl) ?_
          exact B73 (f_X14_party_b40 n) ih r0 x3 x4 x5 v49 x2 s58 hf _ _ _ (lv_sub hl [1, 3, 4, 5, 0] rfl) hW
        · have hf := ifn c64 hf
          refine lv_iload hx hb dX14_party_67 (lv_at hl 5 rfl) ?_
          refine lv_goto (tgt := 73) hx hb dX14_party_69 (by decide) ?_
          exact B73 (f_X14_party_b40 n) ih r0 x3 x4 x5 v49 x5 s58 hf _ _ _ (lv_sub hl [1, 3, 4, 5, 0] rfl) hW
  unfold f_X14_party at hf
  refine lv_aload_n hx hb dX14_party_0 rfl (lv_at hl 0 rfl) ?_
  refine lv_iconst (v := 0) hx hb dX14_party_1 (by decide) ?_
  obtain ⟨g2, hf⟩ := gd_some hf
  obtain ⟨s2, e2, hf⟩ := bnd_some hf
  refine aw_pI e2 hC hW g2 fl_X14_3 (Or.inl fn_13_0) rfl rfl rfl dX14_party_2 (fun H locs hW => ?_)
  have g2 := ko_pI e2 g2
  refine lv_iload_n hx hb dX14_party_5 rfl (lv_at hl 1 rfl) ?_
  obtain ⟨v6, s6, h6, hf⟩ := ob_some hf
  refine aw_dS1 (As := [.int x1]) (rest := []) (ct_X14_areWeeks l G a x1 s2 v6 s6 h6) hC hW hl.1 sy_X14_areWeeks (Or.inl q1746) rfl rfl (Nat.le_of_ble_eq_true rfl) ⟨Nat.le_of_ble_eq_true rfl, Nat.le_of_ble_eq_true rfl⟩ ⟨Nat.le_of_ble_eq_true rfl, Nat.le_of_ble_eq_true rfl⟩ dX14_party_6 (fun H locs hW => ?_)
  refine lv_if_ne (tgt := 15) hx hb dX14_party_9 (by decide) (fun c9 => ?_) (fun c9 => ?_)
  · have hf := ifn c9 hf
    refine lv_aload_n hx hb dX14_party_15 rfl (lv_at hl 0 rfl) ?_
    obtain ⟨g16, hf⟩ := gd_some hf
    obtain ⟨_, s16, h16, hf⟩ := ob_some hf
    refine aw_dV0 (r := o) (As := []) (rest := []) (ct_X14_starts l G a o s6 () s16 h16) hC hW hl.1 vy_X14_starts (Or.inl q1749) g16 rfl rfl rfl rfl (Nat.le_of_ble_eq_true rfl) ⟨Nat.le_of_ble_eq_true rfl, Nat.le_of_ble_eq_true rfl⟩ ⟨Nat.le_of_ble_eq_true rfl, Nat.le_of_ble_eq_true rfl⟩ dX14_party_16 (fun H locs hW => ?_)
    refine lv_aload_n hx hb dX14_party_19 rfl (lv_at hl 0 rfl) ?_
    refine lv_iload_n hx hb dX14_party_20 rfl (lv_at hl 1 rfl) ?_
    refine lv_iconst (v := 0) hx hb dX14_party_21 (by decide) ?_
    obtain ⟨g22, hf⟩ := gd_some hf
    obtain ⟨_, s22, h22, hf⟩ := ob_some hf
    refine aw_dV0 (r := o) (As := [.int x1, .int 0]) (rest := []) (ct_X14_goesBy l G a o x1 0 s16 () s22 h22) hC hW hl.1 vy_X14_goesBy (Or.inl q1756) g22 rfl rfl rfl rfl (Nat.le_of_ble_eq_true rfl) ⟨Nat.le_of_ble_eq_true rfl, Nat.le_of_ble_eq_true rfl⟩ ⟨Nat.le_of_ble_eq_true rfl, Nat.le_of_ble_eq_true rfl⟩ dX14_party_22 (fun H locs hW => ?_)
    refine lv_iconst (v := (-1)) hx hb dX14_party_25 (by decide) ?_
    refine lv_istore_n (lv' := [(2, .int (-1)), (0, .ref (a o)), (1, .int x1)]) hx hb dX14_party_26 rfl hl (by decide) rfl (fun ls hl => ?_)
    refine lv_iconst (v := 0) hx hb dX14_party_27 (by decide) ?_
    refine lv_istore_n (lv' := [(3, .int 0), (2, .int (-1)), (0, .ref (a o)), (1, .int x1)]) hx hb dX14_party_28 rfl hl (by decide) rfl (fun ls hl => ?_)
    refine lv_iconst (v := 0) hx hb dX14_party_29 (by decide) ?_
    refine lv_istore (lv' := [(4, .int 0), (3, .int 0), (2, .int (-1)), (0, .ref (a o)), (1, .int x1)]) hx hb dX14_party_30 hl (by decide) rfl (fun ls hl => ?_)
    refine lv_aload_n hx hb dX14_party_32 rfl (lv_at hl 3 rfl) ?_
    refine lv_iconst (v := 0) hx hb dX14_party_33 (by decide) ?_
    obtain ⟨g34, hf⟩ := gd_some hf
    obtain ⟨s34, e34, hf⟩ := bnd_some hf
    refine aw_pI e34 hC hW g34 fl_X14_15 (Or.inl fn_13_1) rfl rfl rfl dX14_party_34 (fun H locs hW => ?_)
    have g34 := ko_pI e34 g34
    refine lv_iconst (v := 0) hx hb dX14_party_37 (by decide) ?_
    refine lv_istore (lv' := [(5, .int 0), (4, .int 0), (3, .int 0), (2, .int (-1)), (0, .ref (a o)), (1, .int x1)]) hx hb dX14_party_38 hl (by decide) rfl (fun ls hl => ?_)
    exact B40 fuel o (-1) 0 0 0 s34 hf _ _ _ (lv_sub hl [4, 3, 2, 1, 0] rfl) hW
  · have hf := ifp c9 hf
    refine lv_bipush (v := (-2)) hx hb dX14_party_12 (by decide) ?_
    obtain ⟨e1, e2⟩ := so_inj hf
    exact aw_iret hC hW hr rfl (p_eq hP (congrArg (fun z => some (Value.int z)) e1) e2) (Nat.le_of_ble_eq_true rfl) (Nat.le_of_ble_eq_true rfl) dX14_party_14
def f_X14_plans_b59 (K21 : Nat → Int32 → Int32 → Int32 → Int32 → Int32 → Int32 → ST → Option (Int32 × ST)) (r0 : Nat) (x1 : Int32) (x2 : Int32) (x3 : Int32) (x5 : Int32) (x6 : Int32) (x7 : Int32) (t0 : Int32) (s : ST) : Option (Int32 × ST) :=
  bnd (p_max x5 x7) fun v65 =>
  bnd (x6 + 1 : Int32) fun v70 =>
  K21 r0 x1 x2 x3 t0 v65 v70 s
def f_X14_plans_b21 : Nat → Nat → Int32 → Int32 → Int32 → Int32 → Int32 → Int32 → ST → Option (Int32 × ST)
  | 0, _, _, _, _, _, _, _, _ => none
  | n + 1, r0, x1, x2, x3, x4, x5, x6, s =>
  if (1 <<< (x2 &&& 31)) ≤ x6 then (gd (r0 < s.1 ∧ (kd s r0).1 = 14) <|
  (gr s r0 33).bind fun q77 =>
  gd (q77 < s.1 ∧ (kd s q77).1 = 100 ∧ ¬ ((x1 : Int32) < 0 ∨ (kd s q77).2 ≤ (x1 : Int32).toNatClampNeg)) <|
  bnd (pI s q77 (x1 : Int32).toNatClampNeg x4) fun s83 =>
  if x4 = x3 then (some (0, s83)) else some (1, s83)) else gd (r0 < s.1 ∧ (kd s r0).1 = 14) <|
  (gr s r0 33).bind fun q30 =>
  gd (q30 < s.1 ∧ (kd s q30).1 = 100 ∧ ¬ ((x1 : Int32) < 0 ∨ (kd s q30).2 ≤ (x1 : Int32).toNatClampNeg)) <|
  bnd (pI s q30 (x1 : Int32).toNatClampNeg x6) fun s36 =>
  ob (f_X14_byPlans r0 x1 x2 s36) fun v40 s40 =>
  if v40 ≤ x5 then (f_X14_plans_b59 (f_X14_plans_b21 n) r0 x1 x2 x3 x5 x6 v40 x4 s40) else f_X14_plans_b59 (f_X14_plans_b21 n) r0 x1 x2 x3 x5 x6 v40 x6 s40
def f_X14_plans (o : Nat) (x1 : Int32) (x2 : Int32) (s : ST) : Option (Int32 × ST) :=
  gd (o < s.1 ∧ (kd s o).1 = 14) <|
  (gr s o 33).bind fun q1 =>
  gd (q1 < s.1 ∧ (kd s q1).1 = 100 ∧ ¬ ((x1 : Int32) < 0 ∨ (kd s q1).2 ≤ (x1 : Int32).toNatClampNeg)) <|
  bnd ((gi s q1 (x1 : Int32).toNatClampNeg) : Int32) fun v6 =>
  ob (f_X14_byPlans o x1 x2 s) fun v13 s13 =>
  f_X14_plans_b21 fuel o x1 x2 v6 v6 v13 0 s13
set_option maxHeartbeats 4000000 in
theorem ct_X14_plans (l : Launch) (G : GM) (a : Nat → Nat) (o : Nat) (x1 : Int32) (x2 : Int32) (s : ST) (rv : Int32) (sf : ST) (hf : f_X14_plans o x1 x2 s = some (rv, sf)) : MD l G yX14_plans (ws_ yX14_plans cX14_plans 8 (some .boolean)) 5 [.ref (a o), .int x1, .int x2] a s (some (.int rv)) sf := by
  refine md_of (d := 5) (lv := [(0, .ref (a o)), (1, .int x1), (2, .int x2)]) (Or.inl (by decide)) (Nat.le_of_ble_eq_true rfl) rfl ?_
  intro p e s0 m args below meth c ls A P hP hC hr hnm hW hl
  have hx := hC.1
  have hb := hC.2.1
  have hts := hC.2.2.2.2.1
  have B59 : ∀ (K21 : Nat → Int32 → Int32 → Int32 → Int32 → Int32 → Int32 → ST → Option (Int32 × ST)) (hK21 : ∀ (r0 : Nat) (x1 : Int32) (x2 : Int32) (x3 : Int32) (x4 : Int32) (x5 : Int32) (x6 : Int32) (s : ST), K21 r0 x1 x2 x3 x4 x5 x6 s = some (rv, sf) → ∀ (H : Heap) (locs : List Loc) (ls : Array Slot), lv_has ls 8 [(0, .ref (a r0)), (1, .int x1), (2, .int x2), (3, .int x3), (4, .int x4), (5, .int x5), (6, .int x6)] → AW G a A s s0.heap H locs → WB p l e (rmD 5) s0 m args below meth c H locs G A P 21 ls []), ∀ (r0 : Nat) (x1 : Int32) (x2 : Int32) (x3 : Int32) (x5 : Int32) (x6 : Int32) (x7 : Int32) (t0 : Int32) (s : ST), f_X14_plans_b59 K21 r0 x1 x2 x3 x5 x6 x7 t0 s = some (rv, sf) → ∀ (H : Heap) (locs : List Loc) (ls : Array Slot), lv_has ls 8 [(0, .ref (a r0)), (1, .int x1), (2, .int x2), (3, .int x3), (5, .int x5), (6, .int x6), (7, .int x7)] → AW G a A s s0.heap H locs → WB p l e (rmD 5) s0 m args below meth c H locs G A P 59 ls [.int t0] := by
    intro K21 hK21 r0 x1 x2 x3 x5 x6 x7 t0 s hf H locs ls hl hW
    unfold f_X14_plans_b59 at hf
    refine lv_istore (lv' := [(4, .int t0), (0, .ref (a r0)), (1, .int x1), (2, .int x2), (3, .int x3), (5, .int x5), (6, .int x6), (7, .int x7)]) hx hb dX14_plans_59 hl (by decide) rfl (fun ls hl => ?_)
    refine lv_iload hx hb dX14_plans_61 (lv_at hl 5 rfl) ?_
    refine lv_iload hx hb dX14_plans_63 (lv_at hl 7 rfl) ?_
    obtain ⟨v65, ev65, hf⟩ := bnd_some hf
    refine aw_dS1 (As := [.int x5, .int x7]) (rest := []) (pc_J0_max l G a x5 x7 s) hC hW hl.1 sy_J0_max (Or.inl q1633) rfl rfl (Nat.le_of_ble_eq_true rfl) ⟨Nat.le_of_ble_eq_true rfl, Nat.le_of_ble_eq_true rfl⟩ ⟨Nat.le_of_ble_eq_true rfl, Nat.le_of_ble_eq_true rfl⟩ dX14_plans_65 (fun H locs hW => ?_)
    refine top_i ev65 ?_
    refine lv_istore (lv' := [(5, .int v65), (4, .int t0), (0, .ref (a r0)), (1, .int x1), (2, .int x2), (3, .int x3), (6, .int x6), (7, .int x7)]) hx hb dX14_plans_68 hl (by decide) rfl (fun ls hl => ?_)
    obtain ⟨v70, ev70, hf⟩ := bnd_some hf
    refine lv_iinc (v := v70) (lv' := [(6, .int v70), (5, .int v65), (4, .int t0), (0, .ref (a r0)), (1, .int x1), (2, .int x2), (3, .int x3), (7, .int x7)]) hx hb dX14_plans_70 hl (k := 6) rfl (by rw [ev70]; rfl) (by decide) rfl (fun ls hl => ?_)
    refine lv_goto (tgt := 21) hx hb dX14_plans_73 (by decide) ?_
    exact hK21 r0 x1 x2 x3 t0 v65 v70 s hf _ _ _ (lv_sub hl [3, 4, 5, 6, 2, 1, 0] rfl) hW
  have B21 : ∀ (n : Nat), ∀ (r0 : Nat) (x1 : Int32) (x2 : Int32) (x3 : Int32) (x4 : Int32) (x5 : Int32) (x6 : Int32) (s : ST), f_X14_plans_b21 n r0 x1 x2 x3 x4 x5 x6 s = some (rv, sf) → ∀ (H : Heap) (locs : List Loc) (ls : Array Slot), lv_has ls 8 [(0, .ref (a r0)), (1, .int x1), (2, .int x2), (3, .int x3), (4, .int x4), (5, .int x5), (6, .int x6)] → AW G a A s s0.heap H locs → WB p l e (rmD 5) s0 m args below meth c H locs G A P 21 ls [] := by
    intro n
    induction n with
    | zero => intro r0 x1 x2 x3 x4 x5 x6 s hf; cases hf
    | succ n ih =>
      intro r0 x1 x2 x3 x4 x5 x6 s hf H locs ls hl hW
      rw [f_X14_plans_b21] at hf
      refine lv_iload hx hb dX14_plans_21 (lv_at hl 6 rfl) ?_
      refine lv_iconst (v := 1) hx hb dX14_plans_23 (by decide) ?_
      refine lv_iload_n hx hb dX14_plans_24 rfl (lv_at hl 2 rfl) ?_
      refine lv_ishl hx hb dX14_plans_25 ?_
      refine lv_icmp_ge (tgt := 76) hx hb dX14_plans_26 (by decide) (fun c26 => ?_) (fun c26 => ?_)
      · have hf := ifp c26 hf
        refine lv_aload_n hx hb dX14_plans_76 rfl (lv_at hl 0 rfl) ?_
        obtain ⟨g77, hf⟩ := gd_some hf
        obtain ⟨q77, hq77, hf⟩ := bi_some hf
        refine aw_gR hC hW g77 fl_X14_83 rfl hq77 dX14_plans_77 ?_
        refine lv_iload_n hx hb dX14_plans_80 rfl (lv_at hl 1 rfl) ?_
        refine lv_iload hx hb dX14_plans_81 (lv_at hl 4 rfl) ?_
        obtain ⟨g83, hf⟩ := gd_some hf
        obtain ⟨s83, e83, hf⟩ := bnd_some hf
        refine aw_iast e83 hC hW g83 dX14_plans_83 (fun H locs hW => ?_)
        have g77 := ko_pI e83 g77
        refine lv_iload hx hb dX14_plans_84 (lv_at hl 4 rfl) ?_
        refine lv_iload_n hx hb dX14_plans_86 rfl (lv_at hl 3 rfl) ?_
        refine lv_icmp_eq (tgt := 94) hx hb dX14_plans_87 (by decide) (fun c87 => ?_) (fun c87 => ?_)
        · have hf := ifp c87 hf
          refine lv_iconst (v := 0) hx hb dX14_plans_94 (by decide) ?_
          obtain ⟨e1, e2⟩ := so_inj hf
          exact aw_iret hC hW hr rfl (p_eq hP (congrArg (fun z => some (Value.int z)) e1) e2) (Nat.le_of_ble_eq_true rfl) (Nat.le_of_ble_eq_true rfl) dX14_plans_95
        · have hf := ifn c87 hf
          refine lv_iconst (v := 1) hx hb dX14_plans_90 (by decide) ?_
          refine lv_goto (tgt := 95) hx hb dX14_plans_91 (by decide) ?_
          obtain ⟨e1, e2⟩ := so_inj hf
          exact aw_iret hC hW hr rfl (p_eq hP (congrArg (fun z => some (Value.int z)) e1) e2) (Nat.le_of_ble_eq_true rfl) (Nat.le_of_ble_eq_true rfl) dX14_plans_95
      · have hf := ifn c26 hf
        refine lv_aload_n hx hb dX14_plans_29 rfl (lv_at hl 0 rfl) ?_
        obtain ⟨g30, hf⟩ := gd_some hf
        obtain ⟨q30, hq30, hf⟩ := bi_some hf
        refine aw_gR hC hW g30 fl_X14_83 rfl hq30 dX14_plans_30 ?_
        refine lv_iload_n hx hb dX14_plans_33 rfl (lv_at hl 1 rfl) ?_
        refine lv_iload hx hb dX14_plans_34 (lv_at hl 6 rfl) ?_
        obtain ⟨g36, hf⟩ := gd_some hf
        obtain ⟨s36, e36, hf⟩ := bnd_some hf
        refine aw_iast e36 hC hW g36 dX14_plans_36 (fun H locs hW => ?_)
        have g30 := ko_pI e36 g30
        refine lv_aload_n hx hb dX14_plans_37 rfl (lv_at hl 0 rfl) ?_
        refine lv_iload_n hx hb dX14_plans_38 rfl (lv_at hl 1 rfl) ?_
        refine lv_iload_n hx hb dX14_plans_39 rfl (lv_at hl 2 rfl) ?_
        obtain ⟨v40, s40, h40, hf⟩ := ob_some hf
        refine aw_dV1 (r := r0) (As := [.int x1, .int x2]) (rest := []) (ct_X14_byPlans l G a r0 x1 x2 s36 v40 s40 h40) hC hW hl.1 vy_X14_byPlans (Or.inl q1793) g30 rfl rfl rfl rfl (Nat.le_of_ble_eq_true rfl) ⟨Nat.le_of_ble_eq_true rfl, Nat.le_of_ble_eq_true rfl⟩ ⟨Nat.le_of_ble_eq_true rfl, Nat.le_of_ble_eq_true rfl⟩ dX14_plans_40 (fun H locs hW => ?_)
        refine lv_istore (lv' := [(7, .int v40), (0, .ref (a r0)), (1, .int x1), (2, .int x2), (3, .int x3), (4, .int x4), (5, .int x5), (6, .int x6)]) hx hb dX14_plans_43 hl (by decide) rfl (fun ls hl => ?_)
        refine lv_iload hx hb dX14_plans_45 (lv_at hl 0 rfl) ?_
        refine lv_iload hx hb dX14_plans_47 (lv_at hl 6 rfl) ?_
        refine lv_icmp_le (tgt := 57) hx hb dX14_plans_49 (by decide) (fun c49 => ?_) (fun c49 => ?_)
        · have hf := ifp c49 hf
          refine lv_iload hx hb dX14_plans_57 (lv_at hl 5 rfl) ?_
          exact B59 (f_X14_plans_b21 n) ih r0 x1 x2 x3 x5 x6 v40 x4 s40 hf _ _ _ (lv_sub hl [1, 2, 3, 4, 6, 7, 0] rfl) hW
        · have hf := ifn c49 hf
          refine lv_iload hx hb dX14_plans_52 (lv_at hl 7 rfl) ?_
          refine lv_goto (tgt := 59) hx hb dX14_plans_54 (by decide) ?_
          exact B59 (f_X14_plans_b21 n) ih r0 x1 x2 x3 x5 x6 v40 x6 s40 hf _ _ _ (lv_sub hl [1, 2, 3, 4, 6, 7, 0] rfl) hW
  unfold f_X14_plans at hf
  refine lv_aload_n hx hb dX14_plans_0 rfl (lv_at hl 0 rfl) ?_
  obtain ⟨g1, hf⟩ := gd_some hf
  obtain ⟨q1, hq1, hf⟩ := bi_some hf
  refine aw_gR hC hW g1 fl_X14_83 rfl hq1 dX14_plans_1 ?_
  refine lv_iload_n hx hb dX14_plans_4 rfl (lv_at hl 1 rfl) ?_
  obtain ⟨g5, hf⟩ := gd_some hf
  refine aw_iald hC hW g5 dX14_plans_5 ?_
  obtain ⟨v6, ev6, hf⟩ := bnd_some hf
  refine top_i ev6 ?_
  refine lv_istore_n (lv' := [(3, .int v6), (0, .ref (a o)), (1, .int x1), (2, .int x2)]) hx hb dX14_plans_6 rfl hl (by decide) rfl (fun ls hl => ?_)
  refine lv_iload_n hx hb dX14_plans_7 rfl (lv_at hl 0 rfl) ?_
  refine lv_istore (lv' := [(4, .int v6), (3, .int v6), (0, .ref (a o)), (1, .int x1), (2, .int x2)]) hx hb dX14_plans_8 hl (by decide) rfl (fun ls hl => ?_)
  refine lv_aload_n hx hb dX14_plans_10 rfl (lv_at hl 2 rfl) ?_
  refine lv_iload_n hx hb dX14_plans_11 rfl (lv_at hl 3 rfl) ?_
  refine lv_iload_n hx hb dX14_plans_12 rfl (lv_at hl 4 rfl) ?_
  obtain ⟨v13, s13, h13, hf⟩ := ob_some hf
  refine aw_dV1 (r := o) (As := [.int x1, .int x2]) (rest := []) (ct_X14_byPlans l G a o x1 x2 s v13 s13 h13) hC hW hl.1 vy_X14_byPlans (Or.inl q1793) g1 rfl rfl rfl rfl (Nat.le_of_ble_eq_true rfl) ⟨Nat.le_of_ble_eq_true rfl, Nat.le_of_ble_eq_true rfl⟩ ⟨Nat.le_of_ble_eq_true rfl, Nat.le_of_ble_eq_true rfl⟩ dX14_plans_13 (fun H locs hW => ?_)
  refine lv_istore (lv' := [(5, .int v13), (4, .int v6), (3, .int v6), (0, .ref (a o)), (1, .int x1), (2, .int x2)]) hx hb dX14_plans_16 hl (by decide) rfl (fun ls hl => ?_)
  refine lv_iconst (v := 0) hx hb dX14_plans_18 (by decide) ?_
  refine lv_istore (lv' := [(6, .int 0), (5, .int v13), (4, .int v6), (3, .int v6), (0, .ref (a o)), (1, .int x1), (2, .int x2)]) hx hb dX14_plans_19 hl (by decide) rfl (fun ls hl => ?_)
  exact B21 fuel o x1 x2 v6 v6 v13 0 s13 hf _ _ _ (lv_sub hl [4, 5, 6, 3, 2, 1, 0] rfl) hW
def f_X14_readsPerson_b95 (r0 : Nat) (x1 : Int32) (s : ST) : Option (Int32 × ST) :=
  gd (r0 < s.1 ∧ (kd s r0).1 = 14) <|
  bnd (pI s r0 21 ((gi s r0 21) + 1)) fun s102 =>
  ob (f_X14_readsHabit r0 x1 s102) fun v107 s107 =>
  gd (v107 = 0 ∨ v107 = 1) <|
  some (v107, s107)
def f_X14_readsPerson (o : Nat) (s : ST) : Option (Int32 × ST) :=
  gd (o < s.1 ∧ (kd s o).1 = 14) <|
  bnd (((gi s o 3) + (gi s o 21)) : Int32) fun v9 =>
  ob (f_X14_isDigit o s) fun v11 s11 =>
  if v11 = 0 then (some (0, s11)) else if v9 = 8 then (some (0, s11)) else gd (o < s11.1 ∧ (kd s11 o).1 = 14) <|
  (gr s11 o 17).bind fun q26 =>
  ob (f_X14_number o 3 s11) fun v32 s32 =>
  gd (q26 < s32.1 ∧ (kd s32 q26).1 = 100 ∧ ¬ ((v9 : Int32) < 0 ∨ (kd s32 q26).2 ≤ (v9 : Int32).toNatClampNeg)) <|
  bnd (pI s32 q26 (v9 : Int32).toNatClampNeg v32) fun s35 =>
  gd (o < s35.1 ∧ (kd s35 o).1 = 14) <|
  (gr s35 o 17).bind fun q37 =>
  gd (q37 < s35.1 ∧ (kd s35 q37).1 = 100 ∧ ¬ ((v9 : Int32) < 0 ∨ (kd s35 q37).2 ≤ (v9 : Int32).toNatClampNeg)) <|
  if (gi s35 q37 (v9 : Int32).toNatClampNeg) = 0 then (bnd (pI s35 o 14 ((gi s35 o 14) - 1)) fun s52 =>
  some (0, s52)) else (gr s35 o 18).bind fun q58 =>
  gd (q58 < s35.1 ∧ (kd s35 q58).1 = 100 ∧ ¬ ((v9 : Int32) < 0 ∨ (kd s35 q58).2 ≤ (v9 : Int32).toNatClampNeg)) <|
  bnd (pI s35 q58 (v9 : Int32).toNatClampNeg 0) fun s63 =>
  ob (f_X14_takes o 42 s63) fun v67 s67 =>
  if v67 = 0 then (f_X14_readsPerson_b95 o v9 s67) else gd (o < s67.1 ∧ (kd s67 o).1 = 14) <|
  ob (f_X14_among o 0 s67) fun v76 s76 =>
  if 0 ≤ v76 then (gd (o < s76.1 ∧ (kd s76 o).1 = 14) <|
  (gr s76 o 18).bind fun q85 =>
  ob (f_X14_number o 1 s76) fun v91 s91 =>
  gd (q85 < s91.1 ∧ (kd s91 q85).1 = 100 ∧ ¬ ((v9 : Int32) < 0 ∨ (kd s91 q85).2 ≤ (v9 : Int32).toNatClampNeg)) <|
  bnd (pI s91 q85 (v9 : Int32).toNatClampNeg v91) fun s94 =>
  f_X14_readsPerson_b95 o v9 s94) else some (0, s76)
set_option maxHeartbeats 4000000 in
theorem ct_X14_readsPerson (l : Launch) (G : GM) (a : Nat → Nat) (o : Nat) (s : ST) (rv : Int32) (sf : ST) (hf : f_X14_readsPerson o s = some (rv, sf)) : MD l G yX14_readsPerson (ws_ yX14_readsPerson cX14_readsPerson 2 (some .boolean)) 6 [.ref (a o)] a s (some (.int rv)) sf := by
  refine md_of (d := 6) (lv := [(0, .ref (a o))]) (Or.inl (by decide)) (Nat.le_of_ble_eq_true rfl) rfl ?_
  intro p e s0 m args below meth c ls A P hP hC hr hnm hW hl
  have hx := hC.1
  have hb := hC.2.1
  have hts := hC.2.2.2.2.1
  have B95 : ∀ (r0 : Nat) (x1 : Int32) (s : ST), f_X14_readsPerson_b95 r0 x1 s = some (rv, sf) → ∀ (H : Heap) (locs : List Loc) (ls : Array Slot), lv_has ls 2 [(0, .ref (a r0)), (1, .int x1)] → AW G a A s s0.heap H locs → WB p l e (rmD 6) s0 m args below meth c H locs G A P 95 ls [] := by
    intro r0 x1 s hf H locs ls hl hW
    unfold f_X14_readsPerson_b95 at hf
    refine lv_aload_n hx hb dX14_readsPerson_95 rfl (lv_at hl 0 rfl) ?_
    refine lv_dup hx hb dX14_readsPerson_96 rfl ?_
    obtain ⟨g97, hf⟩ := gd_some hf
    refine aw_gI hC hW g97 fl_X14_185 rfl dX14_readsPerson_97 ?_
    refine lv_iconst (v := 1) hx hb dX14_readsPerson_100 (by decide) ?_
    refine lv_iadd hx hb dX14_readsPerson_101 ?_
    obtain ⟨s102, e102, hf⟩ := bnd_some hf
    refine aw_pI e102 hC hW g97 fl_X14_185 (Or.inl fn_13_21) rfl rfl rfl dX14_readsPerson_102 (fun H locs hW => ?_)
    have g97 := ko_pI e102 g97
    refine lv_aload_n hx hb dX14_readsPerson_105 rfl (lv_at hl 0 rfl) ?_
    refine lv_iload_n hx hb dX14_readsPerson_106 rfl (lv_at hl 1 rfl) ?_
    obtain ⟨v107, s107, h107, hf⟩ := ob_some hf
    refine aw_dV1 (r := r0) (As := [.int x1]) (rest := []) (ct_X14_readsHabit l G a r0 x1 s102 v107 s107 h107) hC hW hl.1 vy_X14_readsHabit (Or.inl q1573) g97 rfl rfl rfl rfl (Nat.le_of_ble_eq_true rfl) ⟨Nat.le_of_ble_eq_true rfl, Nat.le_of_ble_eq_true rfl⟩ ⟨Nat.le_of_ble_eq_true rfl, Nat.le_of_ble_eq_true rfl⟩ dX14_readsPerson_107 (fun H locs hW => ?_)
    obtain ⟨gz110, hf⟩ := gd_some hf
    obtain ⟨e1, e2⟩ := so_inj hf
    exact aw_iret hC hW hr (nb01 gz110) (p_eq hP (congrArg (fun z => some (Value.int z)) e1) e2) (Nat.le_of_ble_eq_true rfl) (Nat.le_of_ble_eq_true rfl) dX14_readsPerson_110
  unfold f_X14_readsPerson at hf
  refine lv_aload_n hx hb dX14_readsPerson_0 rfl (lv_at hl 0 rfl) ?_
  obtain ⟨g1, hf⟩ := gd_some hf
  refine aw_gI hC hW g1 fl_X14_117 rfl dX14_readsPerson_1 ?_
  refine lv_aload_n hx hb dX14_readsPerson_4 rfl (lv_at hl 0 rfl) ?_
  refine aw_gI hC hW g1 fl_X14_185 rfl dX14_readsPerson_5 ?_
  refine lv_iadd hx hb dX14_readsPerson_8 ?_
  obtain ⟨v9, ev9, hf⟩ := bnd_some hf
  refine top_i ev9 ?_
  refine lv_istore_n (lv' := [(1, .int v9), (0, .ref (a o))]) hx hb dX14_readsPerson_9 rfl hl (by decide) rfl (fun ls hl => ?_)
  refine lv_aload_n hx hb dX14_readsPerson_10 rfl (lv_at hl 1 rfl) ?_
  obtain ⟨v11, s11, h11, hf⟩ := ob_some hf
  refine aw_dV1 (r := o) (As := []) (rest := []) (ct_X14_isDigit l G a o s v11 s11 h11) hC hW hl.1 vy_X14_isDigit (Or.inl q1530) g1 rfl rfl rfl rfl (Nat.le_of_ble_eq_true rfl) ⟨Nat.le_of_ble_eq_true rfl, Nat.le_of_ble_eq_true rfl⟩ ⟨Nat.le_of_ble_eq_true rfl, Nat.le_of_ble_eq_true rfl⟩ dX14_readsPerson_11 (fun H locs hW => ?_)
  refine lv_if_eq (tgt := 23) hx hb dX14_readsPerson_14 (by decide) (fun c14 => ?_) (fun c14 => ?_)
  · have hf := ifp c14 hf
    refine lv_iconst (v := 0) hx hb dX14_readsPerson_23 (by decide) ?_
    obtain ⟨e1, e2⟩ := so_inj hf
    exact aw_iret hC hW hr rfl (p_eq hP (congrArg (fun z => some (Value.int z)) e1) e2) (Nat.le_of_ble_eq_true rfl) (Nat.le_of_ble_eq_true rfl) dX14_readsPerson_24
  · have hf := ifn c14 hf
    refine lv_iload_n hx hb dX14_readsPerson_17 rfl (lv_at hl 0 rfl) ?_
    refine lv_bipush (v := 8) hx hb dX14_readsPerson_18 (by decide) ?_
    refine lv_icmp_ne (tgt := 25) hx hb dX14_readsPerson_20 (by decide) (fun c20 => ?_) (fun c20 => ?_)
    · have hf := ifn c20 hf
      refine lv_aload_n hx hb dX14_readsPerson_25 rfl (lv_at hl 1 rfl) ?_
      obtain ⟨g26, hf⟩ := gd_some hf
      obtain ⟨q26, hq26, hf⟩ := bi_some hf
      refine aw_gR hC hW g26 fl_X14_53 rfl hq26 dX14_readsPerson_26 ?_
      refine lv_iload_n hx hb dX14_readsPerson_29 rfl (lv_at hl 0 rfl) ?_
      refine lv_aload_n hx hb dX14_readsPerson_30 rfl (lv_at hl 1 rfl) ?_
      refine lv_iconst (v := 3) hx hb dX14_readsPerson_31 (by decide) ?_
      obtain ⟨v32, s32, h32, hf⟩ := ob_some hf
      refine aw_dV1 (r := o) (As := [.int 3]) (rest := [.int v9, .ref (a q26)]) (ct_X14_number l G a o 3 s11 v32 s32 h32) hC hW hl.1 vy_X14_number (Or.inl q1536) g26 rfl rfl rfl rfl (Nat.le_of_ble_eq_true rfl) ⟨Nat.le_of_ble_eq_true rfl, Nat.le_of_ble_eq_true rfl⟩ ⟨Nat.le_of_ble_eq_true rfl, Nat.le_of_ble_eq_true rfl⟩ dX14_readsPerson_32 (fun H locs hW => ?_)
      obtain ⟨g35, hf⟩ := gd_some hf
      obtain ⟨s35, e35, hf⟩ := bnd_some hf
      refine aw_iast e35 hC hW g35 dX14_readsPerson_35 (fun H locs hW => ?_)
      refine lv_aload_n hx hb dX14_readsPerson_36 rfl (lv_at hl 1 rfl) ?_
      obtain ⟨g37, hf⟩ := gd_some hf
      obtain ⟨q37, hq37, hf⟩ := bi_some hf
      refine aw_gR hC hW g37 fl_X14_53 rfl hq37 dX14_readsPerson_37 ?_
      refine lv_iload_n hx hb dX14_readsPerson_40 rfl (lv_at hl 0 rfl) ?_
      obtain ⟨g41, hf⟩ := gd_some hf
      refine aw_iald hC hW g41 dX14_readsPerson_41 ?_
      refine lv_if_ne (tgt := 57) hx hb dX14_readsPerson_42 (by decide) (fun c42 => ?_) (fun c42 => ?_)
      · have hf := ifn c42 hf
        refine lv_aload_n hx hb dX14_readsPerson_57 rfl (lv_at hl 1 rfl) ?_
        obtain ⟨q58, hq58, hf⟩ := bi_some hf
        refine aw_gR hC hW g37 fl_X14_56 rfl hq58 dX14_readsPerson_58 ?_
        refine lv_iload_n hx hb dX14_readsPerson_61 rfl (lv_at hl 0 rfl) ?_
        refine lv_iconst (v := 0) hx hb dX14_readsPerson_62 (by decide) ?_
        obtain ⟨g63, hf⟩ := gd_some hf
        obtain ⟨s63, e63, hf⟩ := bnd_some hf
        refine aw_iast e63 hC hW g63 dX14_readsPerson_63 (fun H locs hW => ?_)
        have g37 := ko_pI e63 g37
        refine lv_aload_n hx hb dX14_readsPerson_64 rfl (lv_at hl 1 rfl) ?_
        refine lv_bipush (v := 42) hx hb dX14_readsPerson_65 (by decide) ?_
        obtain ⟨v67, s67, h67, hf⟩ := ob_some hf
        refine aw_dV1 (r := o) (As := [.int 42]) (rest := []) (ct_X14_takes l G a o 42 s63 v67 s67 h67) hC hW hl.1 vy_X14_takes (Or.inl q1540) g37 rfl rfl rfl rfl (Nat.le_of_ble_eq_true rfl) ⟨Nat.le_of_ble_eq_true rfl, Nat.le_of_ble_eq_true rfl⟩ ⟨Nat.le_of_ble_eq_true rfl, Nat.le_of_ble_eq_true rfl⟩ dX14_readsPerson_67 (fun H locs hW => ?_)
        refine lv_if_eq (tgt := 95) hx hb dX14_readsPerson_70 (by decide) (fun c70 => ?_) (fun c70 => ?_)
        · have hf := ifp c70 hf
          exact B95 o v9 s67 hf _ _ _ (lv_sub hl [1, 0] rfl) hW
        · have hf := ifn c70 hf
          refine lv_aload_n hx hb dX14_readsPerson_73 rfl (lv_at hl 1 rfl) ?_
          refine aw_ldcS 0 (by decide) rfl rfl hC dX14_readsPerson_74 ?_
          obtain ⟨g76, hf⟩ := gd_some hf
          obtain ⟨v76, s76, h76, hf⟩ := ob_some hf
          refine aw_dV1 (r := o) (As := [.ref (G.2.2.2.1 0)]) (rest := []) (ct_X14_among l G a o 0 s67 v76 s76 h76) hC hW hl.1 vy_X14_among (Or.inl q1548) g76 rfl rfl rfl rfl (Nat.le_of_ble_eq_true rfl) ⟨Nat.le_of_ble_eq_true rfl, Nat.le_of_ble_eq_true rfl⟩ ⟨Nat.le_of_ble_eq_true rfl, Nat.le_of_ble_eq_true rfl⟩ dX14_readsPerson_76 (fun H locs hW => ?_)
          refine lv_if_ge (tgt := 84) hx hb dX14_readsPerson_79 (by decide) (fun c79 => ?_) (fun c79 => ?_)
          · have hf := ifp c79 hf
            refine lv_aload_n hx hb dX14_readsPerson_84 rfl (lv_at hl 1 rfl) ?_
            obtain ⟨g85, hf⟩ := gd_some hf
            obtain ⟨q85, hq85, hf⟩ := bi_some hf
            refine aw_gR hC hW g85 fl_X14_56 rfl hq85 dX14_readsPerson_85 ?_
            refine lv_iload_n hx hb dX14_readsPerson_88 rfl (lv_at hl 0 rfl) ?_
            refine lv_aload_n hx hb dX14_readsPerson_89 rfl (lv_at hl 1 rfl) ?_
            refine lv_iconst (v := 1) hx hb dX14_readsPerson_90 (by decide) ?_
            obtain ⟨v91, s91, h91, hf⟩ := ob_some hf
            refine aw_dV1 (r := o) (As := [.int 1]) (rest := [.int v9, .ref (a q85)]) (ct_X14_number l G a o 1 s76 v91 s91 h91) hC hW hl.1 vy_X14_number (Or.inl q1536) g85 rfl rfl rfl rfl (Nat.le_of_ble_eq_true rfl) ⟨Nat.le_of_ble_eq_true rfl, Nat.le_of_ble_eq_true rfl⟩ ⟨Nat.le_of_ble_eq_true rfl, Nat.le_of_ble_eq_true rfl⟩ dX14_readsPerson_91 (fun H locs hW => ?_)
            obtain ⟨g94, hf⟩ := gd_some hf
            obtain ⟨s94, e94, hf⟩ := bnd_some hf
            refine aw_iast e94 hC hW g94 dX14_readsPerson_94 (fun H locs hW => ?_)
            exact B95 o v9 s94 hf _ _ _ (lv_sub hl [1, 0] rfl) hW
          · have hf := ifn c79 hf
            refine lv_iconst (v := 0) hx hb dX14_readsPerson_82 (by decide) ?_
            obtain ⟨e1, e2⟩ := so_inj hf
            exact aw_iret hC hW hr rfl (p_eq hP (congrArg (fun z => some (Value.int z)) e1) e2) (Nat.le_of_ble_eq_true rfl) (Nat.le_of_ble_eq_true rfl) dX14_readsPerson_83
      · have hf := ifp c42 hf
        refine lv_aload_n hx hb dX14_readsPerson_45 rfl (lv_at hl 1 rfl) ?_
        refine lv_dup hx hb dX14_readsPerson_46 rfl ?_
        refine aw_gI hC hW g37 fl_X14_135 rfl dX14_readsPerson_47 ?_
        refine lv_iconst (v := 1) hx hb dX14_readsPerson_50 (by decide) ?_
        refine lv_isub hx hb dX14_readsPerson_51 ?_
        obtain ⟨s52, e52, hf⟩ := bnd_some hf
        refine aw_pI e52 hC hW g37 fl_X14_135 (Or.inl fn_13_14) rfl rfl rfl dX14_readsPerson_52 (fun H locs hW => ?_)
        have g37 := ko_pI e52 g37
        refine lv_iconst (v := 0) hx hb dX14_readsPerson_55 (by decide) ?_
        obtain ⟨e1, e2⟩ := so_inj hf
        exact aw_iret hC hW hr rfl (p_eq hP (congrArg (fun z => some (Value.int z)) e1) e2) (Nat.le_of_ble_eq_true rfl) (Nat.le_of_ble_eq_true rfl) dX14_readsPerson_56
    · have hf := ifp c20 hf
      refine lv_iconst (v := 0) hx hb dX14_readsPerson_23 (by decide) ?_
      obtain ⟨e1, e2⟩ := so_inj hf
      exact aw_iret hC hW hr rfl (p_eq hP (congrArg (fun z => some (Value.int z)) e1) e2) (Nat.le_of_ble_eq_true rfl) (Nat.le_of_ble_eq_true rfl) dX14_readsPerson_24
def f_X14_readsWeek_b73 (r0 : Nat) (x2 : Int32) (s : ST) : Option (Unit × ST) :=
  gd (r0 < s.1 ∧ (kd s r0).1 = 14) <|
  (gr s r0 30).bind fun q74 =>
  gd (q74 < s.1 ∧ (kd s q74).1 = 100 ∧ ¬ (((gi s r0 31) : Int32) < 0 ∨ (kd s q74).2 ≤ ((gi s r0 31) : Int32).toNatClampNeg)) <|
  bnd (pI s q74 ((gi s r0 31) : Int32).toNatClampNeg x2) fun s82 =>
  bnd (pI s82 r0 31 ((gi s82 r0 31) + 1)) fun s90 =>
  some ((), s90)
def f_X14_readsWeek_b4 : Nat → Nat → Int32 → Int32 → ST → Option (Unit × ST)
  | 0, _, _, _, _ => none
  | n + 1, r0, x1, x2, s =>
  gd (r0 < s.1 ∧ (kd s r0).1 = 14) <|
  if (gi s r0 15) ≤ (gi s r0 14) then (f_X14_readsWeek_b73 r0 x2 s) else (gr s r0 12).bind fun q16 =>
  gd (q16 < s.1 ∧ (kd s q16).1 = 100 ∧ ¬ (((gi s r0 14) : Int32) < 0 ∨ (kd s q16).2 ≤ ((gi s r0 14) : Int32).toNatClampNeg)) <|
  bnd (p_in ((((gi s q16 ((gi s r0 14) : Int32).toNatClampNeg) - 97) : Int32).toInt64) (((x1 + 1) : Int32).toInt64) 7) fun v35 =>
  if v35 = 0 then (f_X14_readsWeek_b73 r0 x2 s) else (gr s r0 12).bind fun q42 =>
  gd (q42 < s.1 ∧ (kd s q42).1 = 100 ∧ ¬ (((gi s r0 14) : Int32) < 0 ∨ (kd s q42).2 ≤ ((gi s r0 14) : Int32).toNatClampNeg)) <|
  bnd (((gi s q42 ((gi s r0 14) : Int32).toNatClampNeg) - 97) : Int32) fun v53 =>
  bnd ((x2 ||| (1 <<< (v53 &&& 31))) : Int32) fun v59 =>
  bnd (pI s r0 14 ((gi s r0 14) + 1)) fun s67 =>
  f_X14_readsWeek_b4 n r0 v53 v59 s67
def f_X14_readsWeek (o : Nat) (s : ST) : Option (Unit × ST) :=
  f_X14_readsWeek_b4 fuel o (-1) 0 s
set_option maxHeartbeats 4000000 in
theorem ct_X14_readsWeek (l : Launch) (G : GM) (a : Nat → Nat) (o : Nat) (s : ST) (rv : Unit) (sf : ST) (hf : f_X14_readsWeek o s = some (rv, sf)) : MD l G yX14_readsWeek (ws_ yX14_readsWeek cX14_readsWeek 3 none) 1 [.ref (a o)] a s none sf := by
  refine md_of (d := 1) (lv := [(0, .ref (a o))]) (Or.inl (by decide)) (Nat.le_of_ble_eq_true rfl) rfl ?_
  intro p e s0 m args below meth c ls A P hP hC hr hnm hW hl
  have hx := hC.1
  have hb := hC.2.1
  have hts := hC.2.2.2.2.1
  have B73 : ∀ (r0 : Nat) (x2 : Int32) (s : ST), f_X14_readsWeek_b73 r0 x2 s = some (rv, sf) → ∀ (H : Heap) (locs : List Loc) (ls : Array Slot), lv_has ls 3 [(0, .ref (a r0)), (2, .int x2)] → AW G a A s s0.heap H locs → WB p l e (rmD 1) s0 m args below meth c H locs G A P 73 ls [] := by
    intro r0 x2 s hf H locs ls hl hW
    unfold f_X14_readsWeek_b73 at hf
    refine lv_aload_n hx hb dX14_readsWeek_73 rfl (lv_at hl 0 rfl) ?_
    obtain ⟨g74, hf⟩ := gd_some hf
    obtain ⟨q74, hq74, hf⟩ := bi_some hf
    refine aw_gR hC hW g74 fl_X14_77 rfl hq74 dX14_readsWeek_74 ?_
    refine lv_aload_n hx hb dX14_readsWeek_77 rfl (lv_at hl 0 rfl) ?_
    refine aw_gI hC hW g74 fl_X14_291 rfl dX14_readsWeek_78 ?_
    refine lv_iload_n hx hb dX14_readsWeek_81 rfl (lv_at hl 1 rfl) ?_
    obtain ⟨g82, hf⟩ := gd_some hf
    obtain ⟨s82, e82, hf⟩ := bnd_some hf
    refine aw_iast e82 hC hW g82 dX14_readsWeek_82 (fun H locs hW => ?_)
    have g74 := ko_pI e82 g74
    refine lv_aload_n hx hb dX14_readsWeek_83 rfl (lv_at hl 0 rfl) ?_
    refine lv_dup hx hb dX14_readsWeek_84 rfl ?_
    refine aw_gI hC hW g74 fl_X14_291 rfl dX14_readsWeek_85 ?_
    refine lv_iconst (v := 1) hx hb dX14_readsWeek_88 (by decide) ?_
    refine lv_iadd hx hb dX14_readsWeek_89 ?_
    obtain ⟨s90, e90, hf⟩ := bnd_some hf
    refine aw_pI e90 hC hW g74 fl_X14_291 (Or.inl fn_13_31) rfl rfl rfl dX14_readsWeek_90 (fun H locs hW => ?_)
    have g74 := ko_pI e90 g74
    obtain ⟨e1, e2⟩ := so_inj hf
    exact aw_vret hC hW hr (p_eq hP rfl e2) (Nat.le_of_ble_eq_true rfl) (Nat.le_of_ble_eq_true rfl) dX14_readsWeek_93
  have B4 : ∀ (n : Nat), ∀ (r0 : Nat) (x1 : Int32) (x2 : Int32) (s : ST), f_X14_readsWeek_b4 n r0 x1 x2 s = some (rv, sf) → ∀ (H : Heap) (locs : List Loc) (ls : Array Slot), lv_has ls 3 [(0, .ref (a r0)), (1, .int x1), (2, .int x2)] → AW G a A s s0.heap H locs → WB p l e (rmD 1) s0 m args below meth c H locs G A P 4 ls [] := by
    intro n
    induction n with
    | zero => intro r0 x1 x2 s hf; cases hf
    | succ n ih =>
      intro r0 x1 x2 s hf H locs ls hl hW
      rw [f_X14_readsWeek_b4] at hf
      refine lv_aload_n hx hb dX14_readsWeek_4 rfl (lv_at hl 0 rfl) ?_
      obtain ⟨g5, hf⟩ := gd_some hf
      refine aw_gI hC hW g5 fl_X14_135 rfl dX14_readsWeek_5 ?_
      refine lv_aload_n hx hb dX14_readsWeek_8 rfl (lv_at hl 0 rfl) ?_
      refine aw_gI hC hW g5 fl_X14_147 rfl dX14_readsWeek_9 ?_
      refine lv_icmp_ge (tgt := 73) hx hb dX14_readsWeek_12 (by decide) (fun c12 => ?_) (fun c12 => ?_)
      · have hf := ifp c12 hf
        exact B73 r0 x2 s hf _ _ _ (lv_sub hl [0, 2] rfl) hW
      · have hf := ifn c12 hf
        refine lv_aload_n hx hb dX14_readsWeek_15 rfl (lv_at hl 0 rfl) ?_
        obtain ⟨q16, hq16, hf⟩ := bi_some hf
        refine aw_gR hC hW g5 fl_X14_50 rfl hq16 dX14_readsWeek_16 ?_
        refine lv_aload_n hx hb dX14_readsWeek_19 rfl (lv_at hl 0 rfl) ?_
        refine aw_gI hC hW g5 fl_X14_135 rfl dX14_readsWeek_20 ?_
        obtain ⟨g23, hf⟩ := gd_some hf
        refine aw_iald hC hW g23 dX14_readsWeek_23 ?_
        refine lv_bipush (v := 97) hx hb dX14_readsWeek_24 (by decide) ?_
        refine lv_isub hx hb dX14_readsWeek_26 ?_
        refine lv_i2l (v := (((gi s q16 ((gi s r0 14) : Int32).toNatClampNeg) - 97) : Int32).toInt64) hx hb dX14_readsWeek_27 rfl ?_
        refine lv_iload_n hx hb dX14_readsWeek_28 rfl (lv_at hl 1 rfl) ?_
        refine lv_iconst (v := 1) hx hb dX14_readsWeek_29 (by decide) ?_
        refine lv_iadd hx hb dX14_readsWeek_30 ?_
        refine lv_i2l (v := ((x1 + 1) : Int32).toInt64) hx hb dX14_readsWeek_31 rfl ?_
        refine lv_ldc2 (v := 7) hx hb hC.2.2.2.1 (hts _ q1621) dX14_readsWeek_32 ?_
        obtain ⟨v35, ev35, hf⟩ := bnd_some hf
        refine aw_dS1 (As := [.long ((((gi s q16 ((gi s r0 14) : Int32).toNatClampNeg) - 97) : Int32).toInt64), .long (((x1 + 1) : Int32).toInt64), .long 7]) (rest := []) (pc_X14_in l G a ((((gi s q16 ((gi s r0 14) : Int32).toNatClampNeg) - 97) : Int32).toInt64) (((x1 + 1) : Int32).toInt64) 7 s) hC hW hl.1 sy_X14_in (Or.inl q1514) rfl rfl (Nat.le_of_ble_eq_true rfl) ⟨Nat.le_of_ble_eq_true rfl, Nat.le_of_ble_eq_true rfl⟩ ⟨Nat.le_of_ble_eq_true rfl, Nat.le_of_ble_eq_true rfl⟩ dX14_readsWeek_35 (fun H locs hW => ?_)
        refine top_i ev35 ?_
        refine lv_if_eq (tgt := 73) hx hb dX14_readsWeek_38 (by decide) (fun c38 => ?_) (fun c38 => ?_)
        · have hf := ifp c38 hf
          exact B73 r0 x2 s hf _ _ _ (lv_sub hl [0, 2] rfl) hW
        · have hf := ifn c38 hf
          refine lv_aload_n hx hb dX14_readsWeek_41 rfl (lv_at hl 0 rfl) ?_
          obtain ⟨q42, hq42, hf⟩ := bi_some hf
          refine aw_gR hC hW g5 fl_X14_50 rfl hq42 dX14_readsWeek_42 ?_
          refine lv_aload_n hx hb dX14_readsWeek_45 rfl (lv_at hl 0 rfl) ?_
          refine aw_gI hC hW g5 fl_X14_135 rfl dX14_readsWeek_46 ?_
          obtain ⟨g49, hf⟩ := gd_some hf
          refine aw_iald hC hW g49 dX14_readsWeek_49 ?_
          refine lv_bipush (v := 97) hx hb dX14_readsWeek_50 (by decide) ?_
          refine lv_isub hx hb dX14_readsWeek_52 ?_
          obtain ⟨v53, ev53, hf⟩ := bnd_some hf
          refine top_i ev53 ?_
          refine lv_istore_n (lv' := [(1, .int v53), (0, .ref (a r0)), (2, .int x2)]) hx hb dX14_readsWeek_53 rfl hl (by decide) rfl (fun ls hl => ?_)
          refine lv_iload_n hx hb dX14_readsWeek_54 rfl (lv_at hl 2 rfl) ?_
          refine lv_iconst (v := 1) hx hb dX14_readsWeek_55 (by decide) ?_
          refine lv_iload_n hx hb dX14_readsWeek_56 rfl (lv_at hl 0 rfl) ?_
          refine lv_ishl hx hb dX14_readsWeek_57 ?_
          refine lv_ior hx hb dX14_readsWeek_58 ?_
          obtain ⟨v59, ev59, hf⟩ := bnd_some hf
          refine top_i ev59 ?_
          refine lv_istore_n (lv' := [(2, .int v59), (1, .int v53), (0, .ref (a r0))]) hx hb dX14_readsWeek_59 rfl hl (by decide) rfl (fun ls hl => ?_)
          refine lv_aload_n hx hb dX14_readsWeek_60 rfl (lv_at hl 2 rfl) ?_
          refine lv_dup hx hb dX14_readsWeek_61 rfl ?_
          refine aw_gI hC hW g5 fl_X14_135 rfl dX14_readsWeek_62 ?_
          refine lv_iconst (v := 1) hx hb dX14_readsWeek_65 (by decide) ?_
          refine lv_iadd hx hb dX14_readsWeek_66 ?_
          obtain ⟨s67, e67, hf⟩ := bnd_some hf
          refine aw_pI e67 hC hW g5 fl_X14_135 (Or.inl fn_13_14) rfl rfl rfl dX14_readsWeek_67 (fun H locs hW => ?_)
          have g5 := ko_pI e67 g5
          refine lv_goto (tgt := 4) hx hb dX14_readsWeek_70 (by decide) ?_
          exact ih r0 v53 v59 s67 hf _ _ _ (lv_sub hl [2, 1, 0] rfl) hW
  unfold f_X14_readsWeek at hf
  refine lv_iconst (v := (-1)) hx hb dX14_readsWeek_0 (by decide) ?_
  refine lv_istore_n (lv' := [(1, .int (-1)), (0, .ref (a o))]) hx hb dX14_readsWeek_1 rfl hl (by decide) rfl (fun ls hl => ?_)
  refine lv_iconst (v := 0) hx hb dX14_readsWeek_2 (by decide) ?_
  refine lv_istore_n (lv' := [(2, .int 0), (1, .int (-1)), (0, .ref (a o))]) hx hb dX14_readsWeek_3 rfl hl (by decide) rfl (fun ls hl => ?_)
  exact B4 fuel o (-1) 0 s hf _ _ _ (lv_sub hl [2, 1, 0] rfl) hW
def f_X14_rests_b147 : Nat → Nat → Int32 → Int32 → ST → Option (Int32 × ST)
  | 0, _, _, _, _ => none
  | n + 1, r0, x3, x5, s =>
  gd (r0 < s.1 ∧ (kd s r0).1 = 14) <|
  if (gi s r0 3) ≤ x5 then (some (x3, s)) else (gr s r0 33).bind fun q158 =>
  gd (q158 < s.1 ∧ (kd s q158).1 = 100 ∧ ¬ ((x5 : Int32) < 0 ∨ (kd s q158).2 ≤ (x5 : Int32).toNatClampNeg)) <|
  ob (f_X14_enters r0 (((gi s q158 (x5 : Int32).toNatClampNeg) : Int32).toInt64) s) fun _ s165 =>
  bnd (x5 + 1 : Int32) fun v168 =>
  f_X14_rests_b147 n r0 x3 v168 s165
def f_X14_rests_b129 (r0 : Nat) (x3 : Int32) (x4 : Int32) (s : ST) : Option (Int32 × ST) :=
  gd (r0 < s.1 ∧ (kd s r0).1 = 14) <|
  bnd (pI s r0 1 0) fun s131 =>
  bnd (p_flag x4) fun v137 =>
  ob (f_X14_enters r0 ((v137 : Int32).toInt64) s131) fun _ s141 =>
  f_X14_rests_b147 fuel r0 x3 0 s141
def f_X14_rests_b115 (K77 : Nat → Int32 → Int32 → Int32 → Int32 → Int32 → ST → Option (Int32 × ST)) (r0 : Nat) (x1 : Int32) (x2 : Int32) (x3 : Int32) (x5 : Int32) (t0 : Int32) (s : ST) : Option (Int32 × ST) :=
  bnd (x5 + 1 : Int32) fun v117 =>
  K77 r0 x1 x2 x3 t0 v117 s
def f_X14_rests_b114 (K77 : Nat → Int32 → Int32 → Int32 → Int32 → Int32 → ST → Option (Int32 × ST)) (r0 : Nat) (x1 : Int32) (x2 : Int32) (x3 : Int32) (x5 : Int32) (s : ST) : Option (Int32 × ST) :=
  f_X14_rests_b115 K77 r0 x1 x2 x3 x5 0 s
def f_X14_rests_b105 (K77 : Nat → Int32 → Int32 → Int32 → Int32 → Int32 → ST → Option (Int32 × ST)) (r0 : Nat) (x1 : Int32) (x2 : Int32) (x3 : Int32) (x4 : Int32) (x5 : Int32) (s : ST) : Option (Int32 × ST) :=
  if x4 = 0 then (f_X14_rests_b114 K77 r0 x1 x2 x3 x5 s) else f_X14_rests_b115 K77 r0 x1 x2 x3 x5 1 s
def f_X14_rests_b77 (K61 : Nat → Int32 → Int32 → Int32 → Int32 → ST → Option (Int32 × ST)) : Nat → Nat → Int32 → Int32 → Int32 → Int32 → Int32 → ST → Option (Int32 × ST)
  | 0, _, _, _, _, _, _, _ => none
  | n + 1, r0, x1, x2, x3, x4, x5, s =>
  gd (r0 < s.1 ∧ (kd s r0).1 = 14) <|
  if (gi s r0 3) ≤ x5 then (bnd (x3 + 1 : Int32) fun v123 =>
  K61 r0 x1 x2 v123 x4 s) else ob (f_X14_isAlive r0 x5 s) fun v89 s89 =>
  if v89 = 0 then (f_X14_rests_b105 (f_X14_rests_b77 K61 n) r0 x1 x2 x3 x4 x5 s89) else gd (r0 < s89.1 ∧ (kd s89 r0).1 = 14) <|
  ob (f_X14_plans r0 x5 x1 s89) fun v99 s99 =>
  if v99 = 0 then (f_X14_rests_b105 (f_X14_rests_b77 K61 n) r0 x1 x2 x3 x4 x5 s99) else f_X14_rests_b114 (f_X14_rests_b77 K61 n) r0 x1 x2 x3 x5 s99
def f_X14_rests_b61 : Nat → Nat → Int32 → Int32 → Int32 → Int32 → ST → Option (Int32 × ST)
  | 0, _, _, _, _, _, _ => none
  | n + 1, r0, x1, x2, x3, x4, s =>
  if x2 ≤ x3 then (f_X14_rests_b129 r0 x3 x4 s) else if x4 = 0 then (f_X14_rests_b77 (f_X14_rests_b61 n) fuel r0 x1 x2 x3 1 0 s) else f_X14_rests_b129 r0 x3 x4 s
def f_X14_rests_b33 : Nat → Nat → Int32 → Int32 → Int32 → ST → Option (Int32 × ST)
  | 0, _, _, _, _, _ => none
  | n + 1, r0, x1, x2, x3, s =>
  if 8 ≤ x3 then (f_X14_rests_b61 fuel r0 x1 x2 0 0 s) else gd (r0 < s.1 ∧ (kd s r0).1 = 14) <|
  (gr s r0 33).bind fun q40 =>
  gd (q40 < s.1 ∧ (kd s q40).1 = 100 ∧ ¬ ((x3 : Int32) < 0 ∨ (kd s q40).2 ≤ (x3 : Int32).toNatClampNeg)) <|
  bnd (pI s q40 (x3 : Int32).toNatClampNeg ((1 <<< (x1 &&& 31)) - 1)) fun s49 =>
  bnd (x3 + 1 : Int32) fun v50 =>
  f_X14_rests_b33 n r0 x1 x2 v50 s49
def f_X14_rests (o : Nat) (x1 : Int32) (x2 : Int32) (s : ST) : Option (Int32 × ST) :=
  gd (o < s.1 ∧ (kd s o).1 = 14) <|
  bnd (pI s o 0 0) fun s2 =>
  bnd (p_in ((x1 : Int32).toInt64) 1 4) fun v11 =>
  if v11 = 0 then (some ((-1), s2)) else bnd (p_in ((x2 : Int32).toInt64) 0 20) fun v23 =>
  if v23 = 0 then (some ((-1), s2)) else f_X14_rests_b33 fuel o x1 x2 0 s2
set_option maxHeartbeats 4000000 in
theorem ct_X14_rests (l : Launch) (G : GM) (a : Nat → Nat) (o : Nat) (x1 : Int32) (x2 : Int32) (s : ST) (rv : Int32) (sf : ST) (hf : f_X14_rests o x1 x2 s = some (rv, sf)) : MD l G yX14_rests (ws_ yX14_rests cX14_rests 6 (some .int)) 6 [.ref (a o), .int x1, .int x2] a s (some (.int rv)) sf := by
  refine md_of (d := 6) (lv := [(0, .ref (a o)), (1, .int x1), (2, .int x2)]) (Or.inl (by decide)) (Nat.le_of_ble_eq_true rfl) rfl ?_
  intro p e s0 m args below meth c ls A P hP hC hr hnm hW hl
  have hx := hC.1
  have hb := hC.2.1
  have hts := hC.2.2.2.2.1
  have B147 : ∀ (n : Nat), ∀ (r0 : Nat) (x3 : Int32) (x5 : Int32) (s : ST), f_X14_rests_b147 n r0 x3 x5 s = some (rv, sf) → ∀ (H : Heap) (locs : List Loc) (ls : Array Slot), lv_has ls 6 [(0, .ref (a r0)), (3, .int x3), (5, .int x5)] → AW G a A s s0.heap H locs → WB p l e (rmD 6) s0 m args below meth c H locs G A P 147 ls [] := by
    intro n
    induction n with
    | zero => intro r0 x3 x5 s hf; cases hf
    | succ n ih =>
      intro r0 x3 x5 s hf H locs ls hl hW
      rw [f_X14_rests_b147] at hf
      refine lv_iload hx hb dX14_rests_147 (lv_at hl 2 rfl) ?_
      refine lv_aload_n hx hb dX14_rests_149 rfl (lv_at hl 0 rfl) ?_
      obtain ⟨g150, hf⟩ := gd_some hf
      refine aw_gI hC hW g150 fl_X14_117 rfl dX14_rests_150 ?_
      refine lv_icmp_ge (tgt := 174) hx hb dX14_rests_153 (by decide) (fun c153 => ?_) (fun c153 => ?_)
      · have hf := ifp c153 hf
        refine lv_iload_n hx hb dX14_rests_174 rfl (lv_at hl 1 rfl) ?_
        obtain ⟨e1, e2⟩ := so_inj hf
        exact aw_iret hC hW hr rfl (p_eq hP (congrArg (fun z => some (Value.int z)) e1) e2) (Nat.le_of_ble_eq_true rfl) (Nat.le_of_ble_eq_true rfl) dX14_rests_175
      · have hf := ifn c153 hf
        refine lv_aload_n hx hb dX14_rests_156 rfl (lv_at hl 0 rfl) ?_
        refine lv_aload_n hx hb dX14_rests_157 rfl (lv_at hl 0 rfl) ?_
        obtain ⟨q158, hq158, hf⟩ := bi_some hf
        refine aw_gR hC hW g150 fl_X14_83 rfl hq158 dX14_rests_158 ?_
        refine lv_iload hx hb dX14_rests_161 (lv_at hl 2 rfl) ?_
        obtain ⟨g163, hf⟩ := gd_some hf
        refine aw_iald hC hW g163 dX14_rests_163 ?_
        refine lv_i2l (v := ((gi s q158 (x5 : Int32).toNatClampNeg) : Int32).toInt64) hx hb dX14_rests_164 rfl ?_
        obtain ⟨_, s165, h165, hf⟩ := ob_some hf
        refine aw_dV0 (r := r0) (As := [.long (((gi s q158 (x5 : Int32).toNatClampNeg) : Int32).toInt64)]) (rest := []) (ct_X14_enters l G a r0 (((gi s q158 (x5 : Int32).toNatClampNeg) : Int32).toInt64) s () s165 h165) hC hW hl.1 vy_X14_enters (Or.inl q1689) g150 rfl rfl rfl rfl (Nat.le_of_ble_eq_true rfl) ⟨Nat.le_of_ble_eq_true rfl, Nat.le_of_ble_eq_true rfl⟩ ⟨Nat.le_of_ble_eq_true rfl, Nat.le_of_ble_eq_true rfl⟩ dX14_rests_165 (fun H locs hW => ?_)
        obtain ⟨v168, ev168, hf⟩ := bnd_some hf
        refine lv_iinc (v := v168) (lv' := [(5, .int v168), (0, .ref (a r0)), (3, .int x3)]) hx hb dX14_rests_168 hl (k := 2) rfl (by rw [ev168]; rfl) (by decide) rfl (fun ls hl => ?_)
        refine lv_goto (tgt := 147) hx hb dX14_rests_171 (by decide) ?_
        exact ih r0 x3 v168 s165 hf _ _ _ (lv_sub hl [1, 2, 0] rfl) hW
  have B129 : ∀ (r0 : Nat) (x3 : Int32) (x4 : Int32) (s : ST), f_X14_rests_b129 r0 x3 x4 s = some (rv, sf) → ∀ (H : Heap) (locs : List Loc) (ls : Array Slot), lv_has ls 6 [(0, .ref (a r0)), (3, .int x3), (4, .int x4)] → AW G a A s s0.heap H locs → WB p l e (rmD 6) s0 m args below meth c H locs G A P 129 ls [] := by
    intro r0 x3 x4 s hf H locs ls hl hW
    unfold f_X14_rests_b129 at hf
    refine lv_aload_n hx hb dX14_rests_129 rfl (lv_at hl 0 rfl) ?_
    refine lv_iconst (v := 0) hx hb dX14_rests_130 (by decide) ?_
    obtain ⟨g131, hf⟩ := gd_some hf
    obtain ⟨s131, e131, hf⟩ := bnd_some hf
    refine aw_pI e131 hC hW g131 fl_X14_15 (Or.inl fn_13_1) rfl rfl rfl dX14_rests_131 (fun H locs hW => ?_)
    have g131 := ko_pI e131 g131
    refine lv_aload_n hx hb dX14_rests_134 rfl (lv_at hl 0 rfl) ?_
    refine lv_iload hx hb dX14_rests_135 (lv_at hl 2 rfl) ?_
    obtain ⟨v137, ev137, hf⟩ := bnd_some hf
    refine aw_dS1 (As := [.int x4]) (rest := [.ref (a r0)]) (pc_X14_flag l G a x4 s131) hC hW hl.1 sy_X14_flag (Or.inl q1544) rfl rfl (Nat.le_of_ble_eq_true rfl) ⟨Nat.le_of_ble_eq_true rfl, Nat.le_of_ble_eq_true rfl⟩ ⟨Nat.le_of_ble_eq_true rfl, Nat.le_of_ble_eq_true rfl⟩ dX14_rests_137 (fun H locs hW => ?_)
    refine top_i ev137 ?_
    refine lv_i2l (v := (v137 : Int32).toInt64) hx hb dX14_rests_140 rfl ?_
    obtain ⟨_, s141, h141, hf⟩ := ob_some hf
    refine aw_dV0 (r := r0) (As := [.long ((v137 : Int32).toInt64)]) (rest := []) (ct_X14_enters l G a r0 ((v137 : Int32).toInt64) s131 () s141 h141) hC hW hl.1 vy_X14_enters (Or.inl q1689) g131 rfl rfl rfl rfl (Nat.le_of_ble_eq_true rfl) ⟨Nat.le_of_ble_eq_true rfl, Nat.le_of_ble_eq_true rfl⟩ ⟨Nat.le_of_ble_eq_true rfl, Nat.le_of_ble_eq_true rfl⟩ dX14_rests_141 (fun H locs hW => ?_)
    refine lv_iconst (v := 0) hx hb dX14_rests_144 (by decide) ?_
    refine lv_istore (lv' := [(5, .int 0), (0, .ref (a r0)), (3, .int x3), (4, .int x4)]) hx hb dX14_rests_145 hl (by decide) rfl (fun ls hl => ?_)
    exact B147 fuel r0 x3 0 s141 hf _ _ _ (lv_sub hl [1, 2, 0] rfl) hW
  have B115 : ∀ (K77 : Nat → Int32 → Int32 → Int32 → Int32 → Int32 → ST → Option (Int32 × ST)) (hK77 : ∀ (r0 : Nat) (x1 : Int32) (x2 : Int32) (x3 : Int32) (x4 : Int32) (x5 : Int32) (s : ST), K77 r0 x1 x2 x3 x4 x5 s = some (rv, sf) → ∀ (H : Heap) (locs : List Loc) (ls : Array Slot), lv_has ls 6 [(0, .ref (a r0)), (1, .int x1), (2, .int x2), (3, .int x3), (4, .int x4), (5, .int x5)] → AW G a A s s0.heap H locs → WB p l e (rmD 6) s0 m args below meth c H locs G A P 77 ls []), ∀ (r0 : Nat) (x1 : Int32) (x2 : Int32) (x3 : Int32) (x5 : Int32) (t0 : Int32) (s : ST), f_X14_rests_b115 K77 r0 x1 x2 x3 x5 t0 s = some (rv, sf) → ∀ (H : Heap) (locs : List Loc) (ls : Array Slot), lv_has ls 6 [(0, .ref (a r0)), (1, .int x1), (2, .int x2), (3, .int x3), (5, .int x5)] → AW G a A s s0.heap H locs → WB p l e (rmD 6) s0 m args below meth c H locs G A P 115 ls [.int t0] := by
    intro K77 hK77 r0 x1 x2 x3 x5 t0 s hf H locs ls hl hW
    unfold f_X14_rests_b115 at hf
    refine lv_istore (lv' := [(4, .int t0), (0, .ref (a r0)), (1, .int x1), (2, .int x2), (3, .int x3), (5, .int x5)]) hx hb dX14_rests_115 hl (by decide) rfl (fun ls hl => ?_)
    obtain ⟨v117, ev117, hf⟩ := bnd_some hf
    refine lv_iinc (v := v117) (lv' := [(5, .int v117), (4, .int t0), (0, .ref (a r0)), (1, .int x1), (2, .int x2), (3, .int x3)]) hx hb dX14_rests_117 hl (k := 5) rfl (by rw [ev117]; rfl) (by decide) rfl (fun ls hl => ?_)
    refine lv_goto (tgt := 77) hx hb dX14_rests_120 (by decide) ?_
    exact hK77 r0 x1 x2 x3 t0 v117 s hf _ _ _ (lv_sub hl [2, 3, 4, 5, 1, 0] rfl) hW
  have B114 : ∀ (K77 : Nat → Int32 → Int32 → Int32 → Int32 → Int32 → ST → Option (Int32 × ST)) (hK77 : ∀ (r0 : Nat) (x1 : Int32) (x2 : Int32) (x3 : Int32) (x4 : Int32) (x5 : Int32) (s : ST), K77 r0 x1 x2 x3 x4 x5 s = some (rv, sf) → ∀ (H : Heap) (locs : List Loc) (ls : Array Slot), lv_has ls 6 [(0, .ref (a r0)), (1, .int x1), (2, .int x2), (3, .int x3), (4, .int x4), (5, .int x5)] → AW G a A s s0.heap H locs → WB p l e (rmD 6) s0 m args below meth c H locs G A P 77 ls []), ∀ (r0 : Nat) (x1 : Int32) (x2 : Int32) (x3 : Int32) (x5 : Int32) (s : ST), f_X14_rests_b114 K77 r0 x1 x2 x3 x5 s = some (rv, sf) → ∀ (H : Heap) (locs : List Loc) (ls : Array Slot), lv_has ls 6 [(0, .ref (a r0)), (1, .int x1), (2, .int x2), (3, .int x3), (5, .int x5)] → AW G a A s s0.heap H locs → WB p l e (rmD 6) s0 m args below meth c H locs G A P 114 ls [] := by
    intro K77 hK77 r0 x1 x2 x3 x5 s hf H locs ls hl hW
    unfold f_X14_rests_b114 at hf
    refine lv_iconst (v := 0) hx hb dX14_rests_114 (by decide) ?_
    exact B115 K77 hK77 r0 x1 x2 x3 x5 0 s hf _ _ _ (lv_sub hl [0, 1, 2, 3, 4] rfl) hW
  have B105 : ∀ (K77 : Nat → Int32 → Int32 → Int32 → Int32 → Int32 → ST → Option (Int32 × ST)) (hK77 : ∀ (r0 : Nat) (x1 : Int32) (x2 : Int32) (x3 : Int32) (x4 : Int32) (x5 : Int32) (s : ST), K77 r0 x1 x2 x3 x4 x5 s = some (rv, sf) → ∀ (H : Heap) (locs : List Loc) (ls : Array Slot), lv_has ls 6 [(0, .ref (a r0)), (1, .int x1), (2, .int x2), (3, .int x3), (4, .int x4), (5, .int x5)] → AW G a A s s0.heap H locs → WB p l e (rmD 6) s0 m args below meth c H locs G A P 77 ls []), ∀ (r0 : Nat) (x1 : Int32) (x2 : Int32) (x3 : Int32) (x4 : Int32) (x5 : Int32) (s : ST), f_X14_rests_b105 K77 r0 x1 x2 x3 x4 x5 s = some (rv, sf) → ∀ (H : Heap) (locs : List Loc) (ls : Array Slot), lv_has ls 6 [(0, .ref (a r0)), (1, .int x1), (2, .int x2), (3, .int x3), (4, .int x4), (5, .int x5)] → AW G a A s s0.heap H locs → WB p l e (rmD 6) s0 m args below meth c H locs G A P 105 ls [] := by
    intro K77 hK77 r0 x1 x2 x3 x4 x5 s hf H locs ls hl hW
    unfold f_X14_rests_b105 at hf
    refine lv_iload hx hb dX14_rests_105 (lv_at hl 4 rfl) ?_
    refine lv_if_eq (tgt := 114) hx hb dX14_rests_107 (by decide) (fun c107 => ?_) (fun c107 => ?_)
    · have hf := ifp c107 hf
      exact B114 K77 hK77 r0 x1 x2 x3 x5 s hf _ _ _ (lv_sub hl [0, 1, 2, 3, 5] rfl) hW
    · have hf := ifn c107 hf
      refine lv_iconst (v := 1) hx hb dX14_rests_110 (by decide) ?_
      refine lv_goto (tgt := 115) hx hb dX14_rests_111 (by decide) ?_
      exact B115 K77 hK77 r0 x1 x2 x3 x5 1 s hf _ _ _ (lv_sub hl [0, 1, 2, 3, 5] rfl) hW
  have B77 : ∀ (K61 : Nat → Int32 → Int32 → Int32 → Int32 → ST → Option (Int32 × ST)) (hK61 : ∀ (r0 : Nat) (x1 : Int32) (x2 : Int32) (x3 : Int32) (x4 : Int32) (s : ST), K61 r0 x1 x2 x3 x4 s = some (rv, sf) → ∀ (H : Heap) (locs : List Loc) (ls : Array Slot), lv_has ls 6 [(0, .ref (a r0)), (1, .int x1), (2, .int x2), (3, .int x3), (4, .int x4)] → AW G a A s s0.heap H locs → WB p l e (rmD 6) s0 m args below meth c H locs G A P 61 ls []), ∀ (n : Nat), ∀ (r0 : Nat) (x1 : Int32) (x2 : Int32) (x3 : Int32) (x4 : Int32) (x5 : Int32) (s : ST), f_X14_rests_b77 K61 n r0 x1 x2 x3 x4 x5 s = some (rv, sf) → ∀ (H : Heap) (locs : List Loc) (ls : Array Slot), lv_has ls 6 [(0, .ref (a r0)), (1, .int x1), (2, .int x2), (3, .int x3), (4, .int x4), (5, .int x5)] → AW G a A s s0.heap H locs → WB p l e (rmD 6) s0 m args below meth c H locs G A P 77 ls [] := by
    intro K61 hK61
    intro n
    induction n with
    | zero => intro r0 x1 x2 x3 x4 x5 s hf; cases hf
    | succ n ih =>
      intro r0 x1 x2 x3 x4 x5 s hf H locs ls hl hW
      rw [f_X14_rests_b77] at hf
      refine lv_iload hx hb dX14_rests_77 (lv_at hl 5 rfl) ?_
      refine lv_aload_n hx hb dX14_rests_79 rfl (lv_at hl 0 rfl) ?_
      obtain ⟨g80, hf⟩ := gd_some hf
      refine aw_gI hC hW g80 fl_X14_117 rfl dX14_rests_80 ?_
      refine lv_icmp_ge (tgt := 123) hx hb dX14_rests_83 (by decide) (fun c83 => ?_) (fun c83 => ?_)
      · have hf := ifp c83 hf
        obtain ⟨v123, ev123, hf⟩ := bnd_some hf
        refine lv_iinc (v := v123) (lv' := [(3, .int v123), (0, .ref (a r0)), (1, .int x1), (2, .int x2), (4, .int x4), (5, .int x5)]) hx hb dX14_rests_123 hl (k := 3) rfl (by rw [ev123]; rfl) (by decide) rfl (fun ls hl => ?_)
        refine lv_goto (tgt := 61) hx hb dX14_rests_126 (by decide) ?_
        exact hK61 r0 x1 x2 v123 x4 s hf _ _ _ (lv_sub hl [1, 2, 3, 0, 4] rfl) hW
      · have hf := ifn c83 hf
        refine lv_aload_n hx hb dX14_rests_86 rfl (lv_at hl 0 rfl) ?_
        refine lv_iload hx hb dX14_rests_87 (lv_at hl 5 rfl) ?_
        obtain ⟨v89, s89, h89, hf⟩ := ob_some hf
        refine aw_dV1 (r := r0) (As := [.int x5]) (rest := []) (ct_X14_isAlive l G a r0 x5 s v89 s89 h89) hC hW hl.1 vy_X14_isAlive (Or.inl q1722) g80 rfl rfl rfl rfl (Nat.le_of_ble_eq_true rfl) ⟨Nat.le_of_ble_eq_true rfl, Nat.le_of_ble_eq_true rfl⟩ ⟨Nat.le_of_ble_eq_true rfl, Nat.le_of_ble_eq_true rfl⟩ dX14_rests_89 (fun H locs hW => ?_)
        refine lv_if_eq (tgt := 105) hx hb dX14_rests_92 (by decide) (fun c92 => ?_) (fun c92 => ?_)
        · have hf := ifp c92 hf
          exact B105 (f_X14_rests_b77 K61 n) ih r0 x1 x2 x3 x4 x5 s89 hf _ _ _ (lv_sub hl [0, 1, 2, 3, 4, 5] rfl) hW
        · have hf := ifn c92 hf
          refine lv_aload_n hx hb dX14_rests_95 rfl (lv_at hl 0 rfl) ?_
          refine lv_iload hx hb dX14_rests_96 (lv_at hl 5 rfl) ?_
          refine lv_iload_n hx hb dX14_rests_98 rfl (lv_at hl 1 rfl) ?_
          obtain ⟨g99, hf⟩ := gd_some hf
          obtain ⟨v99, s99, h99, hf⟩ := ob_some hf
          refine aw_dV1 (r := r0) (As := [.int x5, .int x1]) (rest := []) (ct_X14_plans l G a r0 x5 x1 s89 v99 s99 h99) hC hW hl.1 vy_X14_plans (Or.inl q1789) g99 rfl rfl rfl rfl (Nat.le_of_ble_eq_true rfl) ⟨Nat.le_of_ble_eq_true rfl, Nat.le_of_ble_eq_true rfl⟩ ⟨Nat.le_of_ble_eq_true rfl, Nat.le_of_ble_eq_true rfl⟩ dX14_rests_99 (fun H locs hW => ?_)
          refine lv_if_ne (tgt := 114) hx hb dX14_rests_102 (by decide) (fun c102 => ?_) (fun c102 => ?_)
          · have hf := ifn c102 hf
            exact B114 (f_X14_rests_b77 K61 n) ih r0 x1 x2 x3 x5 s99 hf _ _ _ (lv_sub hl [0, 1, 2, 3, 5] rfl) hW
          · have hf := ifp c102 hf
            exact B105 (f_X14_rests_b77 K61 n) ih r0 x1 x2 x3 x4 x5 s99 hf _ _ _ (lv_sub hl [0, 1, 2, 3, 4, 5] rfl) hW
  have B61 : ∀ (n : Nat), ∀ (r0 : Nat) (x1 : Int32) (x2 : Int32) (x3 : Int32) (x4 : Int32) (s : ST), f_X14_rests_b61 n r0 x1 x2 x3 x4 s = some (rv, sf) → ∀ (H : Heap) (locs : List Loc) (ls : Array Slot), lv_has ls 6 [(0, .ref (a r0)), (1, .int x1), (2, .int x2), (3, .int x3), (4, .int x4)] → AW G a A s s0.heap H locs → WB p l e (rmD 6) s0 m args below meth c H locs G A P 61 ls [] := by
    intro n
    induction n with
    | zero => intro r0 x1 x2 x3 x4 s hf; cases hf
    | succ n ih =>
      intro r0 x1 x2 x3 x4 s hf H locs ls hl hW
      rw [f_X14_rests_b61] at hf
      refine lv_iload_n hx hb dX14_rests_61 rfl (lv_at hl 3 rfl) ?_
      refine lv_iload_n hx hb dX14_rests_62 rfl (lv_at hl 2 rfl) ?_
      refine lv_icmp_ge (tgt := 129) hx hb dX14_rests_63 (by decide) (fun c63 => ?_) (fun c63 => ?_)
      · have hf := ifp c63 hf
        exact B129 r0 x3 x4 s hf _ _ _ (lv_sub hl [0, 3, 4] rfl) hW
      · have hf := ifn c63 hf
        refine lv_iload hx hb dX14_rests_66 (lv_at hl 4 rfl) ?_
        refine lv_if_ne (tgt := 129) hx hb dX14_rests_68 (by decide) (fun c68 => ?_) (fun c68 => ?_)
        · have hf := ifn c68 hf
          exact B129 r0 x3 x4 s hf _ _ _ (lv_sub hl [0, 3, 4] rfl) hW
        · have hf := ifp c68 hf
          refine lv_iconst (v := 1) hx hb dX14_rests_71 (by decide) ?_
          refine lv_istore (lv' := [(4, .int 1), (0, .ref (a r0)), (1, .int x1), (2, .int x2), (3, .int x3)]) hx hb dX14_rests_72 hl (by decide) rfl (fun ls hl => ?_)
          refine lv_iconst (v := 0) hx hb dX14_rests_74 (by decide) ?_
          refine lv_istore (lv' := [(5, .int 0), (4, .int 1), (0, .ref (a r0)), (1, .int x1), (2, .int x2), (3, .int x3)]) hx hb dX14_rests_75 hl (by decide) rfl (fun ls hl => ?_)
          exact B77 (f_X14_rests_b61 n) ih fuel r0 x1 x2 x3 1 0 s hf _ _ _ (lv_sub hl [2, 3, 4, 5, 1, 0] rfl) hW
  have B33 : ∀ (n : Nat), ∀ (r0 : Nat) (x1 : Int32) (x2 : Int32) (x3 : Int32) (s : ST), f_X14_rests_b33 n r0 x1 x2 x3 s = some (rv, sf) → ∀ (H : Heap) (locs : List Loc) (ls : Array Slot), lv_has ls 6 [(0, .ref (a r0)), (1, .int x1), (2, .int x2), (3, .int x3)] → AW G a A s s0.heap H locs → WB p l e (rmD 6) s0 m args below meth c H locs G A P 33 ls [] := by
    intro n
    induction n with
    | zero => intro r0 x1 x2 x3 s hf; cases hf
    | succ n ih =>
      intro r0 x1 x2 x3 s hf H locs ls hl hW
      rw [f_X14_rests_b33] at hf
      refine lv_iload_n hx hb dX14_rests_33 rfl (lv_at hl 3 rfl) ?_
      refine lv_bipush (v := 8) hx hb dX14_rests_34 (by decide) ?_
      refine lv_icmp_ge (tgt := 56) hx hb dX14_rests_36 (by decide) (fun c36 => ?_) (fun c36 => ?_)
      · have hf := ifp c36 hf
        refine lv_iconst (v := 0) hx hb dX14_rests_56 (by decide) ?_
        refine lv_istore_n (lv' := [(3, .int 0), (0, .ref (a r0)), (1, .int x1), (2, .int x2)]) hx hb dX14_rests_57 rfl hl (by decide) rfl (fun ls hl => ?_)
        refine lv_iconst (v := 0) hx hb dX14_rests_58 (by decide) ?_
        refine lv_istore (lv' := [(4, .int 0), (3, .int 0), (0, .ref (a r0)), (1, .int x1), (2, .int x2)]) hx hb dX14_rests_59 hl (by decide) rfl (fun ls hl => ?_)
        exact B61 fuel r0 x1 x2 0 0 s hf _ _ _ (lv_sub hl [2, 3, 4, 1, 0] rfl) hW
      · have hf := ifn c36 hf
        refine lv_aload_n hx hb dX14_rests_39 rfl (lv_at hl 0 rfl) ?_
        obtain ⟨g40, hf⟩ := gd_some hf
        obtain ⟨q40, hq40, hf⟩ := bi_some hf
        refine aw_gR hC hW g40 fl_X14_83 rfl hq40 dX14_rests_40 ?_
        refine lv_iload_n hx hb dX14_rests_43 rfl (lv_at hl 3 rfl) ?_
        refine lv_iconst (v := 1) hx hb dX14_rests_44 (by decide) ?_
        refine lv_iload_n hx hb dX14_rests_45 rfl (lv_at hl 1 rfl) ?_
        refine lv_ishl hx hb dX14_rests_46 ?_
        refine lv_iconst (v := 1) hx hb dX14_rests_47 (by decide) ?_
        refine lv_isub hx hb dX14_rests_48 ?_
        obtain ⟨g49, hf⟩ := gd_some hf
        obtain ⟨s49, e49, hf⟩ := bnd_some hf
        refine aw_iast e49 hC hW g49 dX14_rests_49 (fun H locs hW => ?_)
        have g40 := ko_pI e49 g40
        obtain ⟨v50, ev50, hf⟩ := bnd_some hf
        refine lv_iinc (v := v50) (lv' := [(3, .int v50), (0, .ref (a r0)), (1, .int x1), (2, .int x2)]) hx hb dX14_rests_50 hl (k := 3) rfl (by rw [ev50]; rfl) (by decide) rfl (fun ls hl => ?_)
        refine lv_goto (tgt := 33) hx hb dX14_rests_53 (by decide) ?_
        exact ih r0 x1 x2 v50 s49 hf _ _ _ (lv_sub hl [1, 2, 3, 0] rfl) hW
  unfold f_X14_rests at hf
  refine lv_aload_n hx hb dX14_rests_0 rfl (lv_at hl 0 rfl) ?_
  refine lv_iconst (v := 0) hx hb dX14_rests_1 (by decide) ?_
  obtain ⟨g2, hf⟩ := gd_some hf
  obtain ⟨s2, e2, hf⟩ := bnd_some hf
  refine aw_pI e2 hC hW g2 fl_X14_3 (Or.inl fn_13_0) rfl rfl rfl dX14_rests_2 (fun H locs hW => ?_)
  have g2 := ko_pI e2 g2
  refine lv_iload_n hx hb dX14_rests_5 rfl (lv_at hl 1 rfl) ?_
  refine lv_i2l (v := (x1 : Int32).toInt64) hx hb dX14_rests_6 rfl ?_
  refine lv_lconst (v := 1) hx hb dX14_rests_7 (by decide) ?_
  refine lv_ldc2 (v := 4) hx hb hC.2.2.2.1 (hts _ q1787) dX14_rests_8 ?_
  obtain ⟨v11, ev11, hf⟩ := bnd_some hf
  refine aw_dS1 (As := [.long ((x1 : Int32).toInt64), .long 1, .long 4]) (rest := []) (pc_X14_in l G a ((x1 : Int32).toInt64) 1 4 s2) hC hW hl.1 sy_X14_in (Or.inl q1514) rfl rfl (Nat.le_of_ble_eq_true rfl) ⟨Nat.le_of_ble_eq_true rfl, Nat.le_of_ble_eq_true rfl⟩ ⟨Nat.le_of_ble_eq_true rfl, Nat.le_of_ble_eq_true rfl⟩ dX14_rests_11 (fun H locs hW => ?_)
  refine top_i ev11 ?_
  refine lv_if_eq (tgt := 29) hx hb dX14_rests_14 (by decide) (fun c14 => ?_) (fun c14 => ?_)
  · have hf := ifp c14 hf
    refine lv_iconst (v := (-1)) hx hb dX14_rests_29 (by decide) ?_
    obtain ⟨e1, e2⟩ := so_inj hf
    exact aw_iret hC hW hr rfl (p_eq hP (congrArg (fun z => some (Value.int z)) e1) e2) (Nat.le_of_ble_eq_true rfl) (Nat.le_of_ble_eq_true rfl) dX14_rests_30
  · have hf := ifn c14 hf
    refine lv_iload_n hx hb dX14_rests_17 rfl (lv_at hl 2 rfl) ?_
    refine lv_i2l (v := (x2 : Int32).toInt64) hx hb dX14_rests_18 rfl ?_
    refine lv_lconst (v := 0) hx hb dX14_rests_19 (by decide) ?_
    refine lv_ldc2 (v := 20) hx hb hC.2.2.2.1 (hts _ q1788) dX14_rests_20 ?_
    obtain ⟨v23, ev23, hf⟩ := bnd_some hf
    refine aw_dS1 (As := [.long ((x2 : Int32).toInt64), .long 0, .long 20]) (rest := []) (pc_X14_in l G a ((x2 : Int32).toInt64) 0 20 s2) hC hW hl.1 sy_X14_in (Or.inl q1514) rfl rfl (Nat.le_of_ble_eq_true rfl) ⟨Nat.le_of_ble_eq_true rfl, Nat.le_of_ble_eq_true rfl⟩ ⟨Nat.le_of_ble_eq_true rfl, Nat.le_of_ble_eq_true rfl⟩ dX14_rests_23 (fun H locs hW => ?_)
    refine top_i ev23 ?_
    refine lv_if_ne (tgt := 31) hx hb dX14_rests_26 (by decide) (fun c26 => ?_) (fun c26 => ?_)
    · have hf := ifn c26 hf
      refine lv_iconst (v := 0) hx hb dX14_rests_31 (by decide) ?_
      refine lv_istore_n (lv' := [(3, .int 0), (0, .ref (a o)), (1, .int x1), (2, .int x2)]) hx hb dX14_rests_32 rfl hl (by decide) rfl (fun ls hl => ?_)
      exact B33 fuel o x1 x2 0 s2 hf _ _ _ (lv_sub hl [1, 2, 3, 0] rfl) hW
    · have hf := ifp c26 hf
      refine lv_iconst (v := (-1)) hx hb dX14_rests_29 (by decide) ?_
      obtain ⟨e1, e2⟩ := so_inj hf
      exact aw_iret hC hW hr rfl (p_eq hP (congrArg (fun z => some (Value.int z)) e1) e2) (Nat.le_of_ble_eq_true rfl) (Nat.le_of_ble_eq_true rfl) dX14_rests_30
def f_X14_row (o : Nat) (x1 : Int32) (s : ST) : Option (Int64 × ST) :=
  gd (o < s.1 ∧ (kd s o).1 = 14) <|
  bnd (pI s o 0 0) fun s2 =>
  bnd (p_in ((x1 : Int32).toInt64) 0 ((((gi s2 o 1) - 1) : Int32).toInt64)) fun v15 =>
  if v15 = 0 then (bnd (pI s2 o 0 1) fun s23 =>
  some (0, s23)) else (gr s2 o 2).bind fun q29 =>
  gd (q29 < s2.1 ∧ (kd s2 q29).1 = 104 ∧ ¬ ((x1 : Int32) < 0 ∨ (kd s2 q29).2 ≤ (x1 : Int32).toNatClampNeg)) <|
  some ((gl s2 q29 (x1 : Int32).toNatClampNeg), s2)
set_option maxHeartbeats 4000000 in
theorem ct_X14_row (l : Launch) (G : GM) (a : Nat → Nat) (o : Nat) (x1 : Int32) (s : ST) (rv : Int64) (sf : ST) (hf : f_X14_row o x1 s = some (rv, sf)) : MD l G yX14_row (ws_ yX14_row cX14_row 2 (some .long)) 1 [.ref (a o), .int x1] a s (some (.long rv)) sf := by
  refine md_of (d := 1) (lv := [(0, .ref (a o)), (1, .int x1)]) (Or.inl (by decide)) (Nat.le_of_ble_eq_true rfl) rfl ?_
  intro p e s0 m args below meth c ls A P hP hC hr hnm hW hl
  have hx := hC.1
  have hb := hC.2.1
  have hts := hC.2.2.2.2.1
  unfold f_X14_row at hf
  refine lv_aload_n hx hb dX14_row_0 rfl (lv_at hl 0 rfl) ?_
  refine lv_iconst (v := 0) hx hb dX14_row_1 (by decide) ?_
  obtain ⟨g2, hf⟩ := gd_some hf
  obtain ⟨s2, e2, hf⟩ := bnd_some hf
  refine aw_pI e2 hC hW g2 fl_X14_3 (Or.inl fn_13_0) rfl rfl rfl dX14_row_2 (fun H locs hW => ?_)
  have g2 := ko_pI e2 g2
  refine lv_iload_n hx hb dX14_row_5 rfl (lv_at hl 1 rfl) ?_
  refine lv_i2l (v := (x1 : Int32).toInt64) hx hb dX14_row_6 rfl ?_
  refine lv_lconst (v := 0) hx hb dX14_row_7 (by decide) ?_
  refine lv_aload_n hx hb dX14_row_8 rfl (lv_at hl 0 rfl) ?_
  refine aw_gI hC hW g2 fl_X14_15 rfl dX14_row_9 ?_
  refine lv_iconst (v := 1) hx hb dX14_row_12 (by decide) ?_
  refine lv_isub hx hb dX14_row_13 ?_
  refine lv_i2l (v := (((gi s2 o 1) - 1) : Int32).toInt64) hx hb dX14_row_14 rfl ?_
  obtain ⟨v15, ev15, hf⟩ := bnd_some hf
  refine aw_dS1 (As := [.long ((x1 : Int32).toInt64), .long 0, .long ((((gi s2 o 1) - 1) : Int32).toInt64)]) (rest := []) (pc_X14_in l G a ((x1 : Int32).toInt64) 0 ((((gi s2 o 1) - 1) : Int32).toInt64) s2) hC hW hl.1 sy_X14_in (Or.inl q1514) rfl rfl (Nat.le_of_ble_eq_true rfl) ⟨Nat.le_of_ble_eq_true rfl, Nat.le_of_ble_eq_true rfl⟩ ⟨Nat.le_of_ble_eq_true rfl, Nat.le_of_ble_eq_true rfl⟩ dX14_row_15 (fun H locs hW => ?_)
  refine top_i ev15 ?_
  refine lv_if_ne (tgt := 28) hx hb dX14_row_18 (by decide) (fun c18 => ?_) (fun c18 => ?_)
  · have hf := ifn c18 hf
    refine lv_aload_n hx hb dX14_row_28 rfl (lv_at hl 0 rfl) ?_
    obtain ⟨q29, hq29, hf⟩ := bi_some hf
    refine aw_gR hC hW g2 fl_X14_11 rfl hq29 dX14_row_29 ?_
    refine lv_iload_n hx hb dX14_row_32 rfl (lv_at hl 1 rfl) ?_
    obtain ⟨g33, hf⟩ := gd_some hf
    refine aw_lald hC hW g33 dX14_row_33 ?_
    obtain ⟨e1, e2⟩ := so_inj hf
    exact aw_lret hC hW hr (p_eq hP (congrArg (fun z => some (Value.long z)) e1) e2) (Nat.le_refl _) (Nat.le_refl _) dX14_row_34
  · have hf := ifp c18 hf
    refine lv_aload_n hx hb dX14_row_21 rfl (lv_at hl 0 rfl) ?_
    refine lv_iconst (v := 1) hx hb dX14_row_22 (by decide) ?_
    obtain ⟨s23, e23, hf⟩ := bnd_some hf
    refine aw_pI e23 hC hW g2 fl_X14_3 (Or.inl fn_13_0) rfl rfl rfl dX14_row_23 (fun H locs hW => ?_)
    have g2 := ko_pI e23 g2
    refine lv_lconst (v := 0) hx hb dX14_row_26 (by decide) ?_
    obtain ⟨e1, e2⟩ := so_inj hf
    exact aw_lret hC hW hr (p_eq hP (congrArg (fun z => some (Value.long z)) e1) e2) (Nat.le_refl _) (Nat.le_refl _) dX14_row_27
def f_X14_scale_b28 (r0 : Nat) (x1 : Int32) (x2 : Int32) (s : ST) : Option (Int32 × ST) :=
  if x1 = 1 then (bnd (p_in ((x2 : Int32).toInt64) (-9) 9) fun v41 =>
  if v41 = 0 then (some (0, s)) else gd (r0 < s.1 ∧ (kd s r0).1 = 14) <|
  bnd (pI s r0 9 x2) fun s49 =>
  some (1, s49)) else some (0, s)
def f_X14_scale (o : Nat) (x1 : Int32) (x2 : Int32) (s : ST) : Option (Int32 × ST) :=
  gd (o < s.1 ∧ (kd s o).1 = 14) <|
  bnd (pI s o 0 0) fun s2 =>
  if x1 = 0 then (bnd (p_in ((x2 : Int32).toInt64) 1 9) fun v15 =>
  if v15 = 0 then (f_X14_scale_b28 o x1 x2 s2) else bnd (pI s2 o 8 x2) fun s23 =>
  some (1, s23)) else f_X14_scale_b28 o x1 x2 s2
set_option maxHeartbeats 4000000 in
theorem ct_X14_scale (l : Launch) (G : GM) (a : Nat → Nat) (o : Nat) (x1 : Int32) (x2 : Int32) (s : ST) (rv : Int32) (sf : ST) (hf : f_X14_scale o x1 x2 s = some (rv, sf)) : MD l G yX14_scale (ws_ yX14_scale cX14_scale 3 (some .boolean)) 1 [.ref (a o), .int x1, .int x2] a s (some (.int rv)) sf := by
  refine md_of (d := 1) (lv := [(0, .ref (a o)), (1, .int x1), (2, .int x2)]) (Or.inl (by decide)) (Nat.le_of_ble_eq_true rfl) rfl ?_
  intro p e s0 m args below meth c ls A P hP hC hr hnm hW hl
  have hx := hC.1
  have hb := hC.2.1
  have hts := hC.2.2.2.2.1
  have B28 : ∀ (r0 : Nat) (x1 : Int32) (x2 : Int32) (s : ST), f_X14_scale_b28 r0 x1 x2 s = some (rv, sf) → ∀ (H : Heap) (locs : List Loc) (ls : Array Slot), lv_has ls 3 [(0, .ref (a r0)), (1, .int x1), (2, .int x2)] → AW G a A s s0.heap H locs → WB p l e (rmD 1) s0 m args below meth c H locs G A P 28 ls [] := by
    intro r0 x1 x2 s hf H locs ls hl hW
    unfold f_X14_scale_b28 at hf
    refine lv_iload_n hx hb dX14_scale_28 rfl (lv_at hl 1 rfl) ?_
    refine lv_iconst (v := 1) hx hb dX14_scale_29 (by decide) ?_
    refine lv_icmp_ne (tgt := 54) hx hb dX14_scale_30 (by decide) (fun c30 => ?_) (fun c30 => ?_)
    · have hf := ifn c30 hf
      refine lv_iconst (v := 0) hx hb dX14_scale_54 (by decide) ?_
      obtain ⟨e1, e2⟩ := so_inj hf
      exact aw_iret hC hW hr rfl (p_eq hP (congrArg (fun z => some (Value.int z)) e1) e2) (Nat.le_of_ble_eq_true rfl) (Nat.le_of_ble_eq_true rfl) dX14_scale_55
    · have hf := ifp c30 hf
      refine lv_iload_n hx hb dX14_scale_33 rfl (lv_at hl 2 rfl) ?_
      refine lv_i2l (v := (x2 : Int32).toInt64) hx hb dX14_scale_34 rfl ?_
      refine lv_ldc2 (v := (-9)) hx hb hC.2.2.2.1 (hts _ q1664) dX14_scale_35 ?_
      refine lv_ldc2 (v := 9) hx hb hC.2.2.2.1 (hts _ q1659) dX14_scale_38 ?_
      obtain ⟨v41, ev41, hf⟩ := bnd_some hf
      refine aw_dS1 (As := [.long ((x2 : Int32).toInt64), .long (-9), .long 9]) (rest := []) (pc_X14_in l G a ((x2 : Int32).toInt64) (-9) 9 s) hC hW hl.1 sy_X14_in (Or.inl q1514) rfl rfl (Nat.le_of_ble_eq_true rfl) ⟨Nat.le_of_ble_eq_true rfl, Nat.le_of_ble_eq_true rfl⟩ ⟨Nat.le_of_ble_eq_true rfl, Nat.le_of_ble_eq_true rfl⟩ dX14_scale_41 (fun H locs hW => ?_)
      refine top_i ev41 ?_
      refine lv_if_eq (tgt := 54) hx hb dX14_scale_44 (by decide) (fun c44 => ?_) (fun c44 => ?_)
      · have hf := ifp c44 hf
        refine lv_iconst (v := 0) hx hb dX14_scale_54 (by decide) ?_
        obtain ⟨e1, e2⟩ := so_inj hf
        exact aw_iret hC hW hr rfl (p_eq hP (congrArg (fun z => some (Value.int z)) e1) e2) (Nat.le_of_ble_eq_true rfl) (Nat.le_of_ble_eq_true rfl) dX14_scale_55
      · have hf := ifn c44 hf
        refine lv_aload_n hx hb dX14_scale_47 rfl (lv_at hl 0 rfl) ?_
        refine lv_iload_n hx hb dX14_scale_48 rfl (lv_at hl 2 rfl) ?_
        obtain ⟨g49, hf⟩ := gd_some hf
        obtain ⟨s49, e49, hf⟩ := bnd_some hf
        refine aw_pI e49 hC hW g49 fl_X14_251 (Or.inl fn_13_9) rfl rfl rfl dX14_scale_49 (fun H locs hW => ?_)
        have g49 := ko_pI e49 g49
        refine lv_iconst (v := 1) hx hb dX14_scale_52 (by decide) ?_
        obtain ⟨e1, e2⟩ := so_inj hf
        exact aw_iret hC hW hr rfl (p_eq hP (congrArg (fun z => some (Value.int z)) e1) e2) (Nat.le_of_ble_eq_true rfl) (Nat.le_of_ble_eq_true rfl) dX14_scale_53
  unfold f_X14_scale at hf
  refine lv_aload_n hx hb dX14_scale_0 rfl (lv_at hl 0 rfl) ?_
  refine lv_iconst (v := 0) hx hb dX14_scale_1 (by decide) ?_
  obtain ⟨g2, hf⟩ := gd_some hf
  obtain ⟨s2, e2, hf⟩ := bnd_some hf
  refine aw_pI e2 hC hW g2 fl_X14_3 (Or.inl fn_13_0) rfl rfl rfl dX14_scale_2 (fun H locs hW => ?_)
  have g2 := ko_pI e2 g2
  refine lv_iload_n hx hb dX14_scale_5 rfl (lv_at hl 1 rfl) ?_
  refine lv_if_ne (tgt := 28) hx hb dX14_scale_6 (by decide) (fun c6 => ?_) (fun c6 => ?_)
  · have hf := ifn c6 hf
    exact B28 o x1 x2 s2 hf _ _ _ (lv_sub hl [0, 1, 2] rfl) hW
  · have hf := ifp c6 hf
    refine lv_iload_n hx hb dX14_scale_9 rfl (lv_at hl 2 rfl) ?_
    refine lv_i2l (v := (x2 : Int32).toInt64) hx hb dX14_scale_10 rfl ?_
    refine lv_lconst (v := 1) hx hb dX14_scale_11 (by decide) ?_
    refine lv_ldc2 (v := 9) hx hb hC.2.2.2.1 (hts _ q1659) dX14_scale_12 ?_
    obtain ⟨v15, ev15, hf⟩ := bnd_some hf
    refine aw_dS1 (As := [.long ((x2 : Int32).toInt64), .long 1, .long 9]) (rest := []) (pc_X14_in l G a ((x2 : Int32).toInt64) 1 9 s2) hC hW hl.1 sy_X14_in (Or.inl q1514) rfl rfl (Nat.le_of_ble_eq_true rfl) ⟨Nat.le_of_ble_eq_true rfl, Nat.le_of_ble_eq_true rfl⟩ ⟨Nat.le_of_ble_eq_true rfl, Nat.le_of_ble_eq_true rfl⟩ dX14_scale_15 (fun H locs hW => ?_)
    refine top_i ev15 ?_
    refine lv_if_eq (tgt := 28) hx hb dX14_scale_18 (by decide) (fun c18 => ?_) (fun c18 => ?_)
    · have hf := ifp c18 hf
      exact B28 o x1 x2 s2 hf _ _ _ (lv_sub hl [0, 1, 2] rfl) hW
    · have hf := ifn c18 hf
      refine lv_aload_n hx hb dX14_scale_21 rfl (lv_at hl 0 rfl) ?_
      refine lv_iload_n hx hb dX14_scale_22 rfl (lv_at hl 2 rfl) ?_
      obtain ⟨s23, e23, hf⟩ := bnd_some hf
      refine aw_pI e23 hC hW g2 fl_X14_41 (Or.inl fn_13_8) rfl rfl rfl dX14_scale_23 (fun H locs hW => ?_)
      have g2 := ko_pI e23 g2
      refine lv_iconst (v := 1) hx hb dX14_scale_26 (by decide) ?_
      obtain ⟨e1, e2⟩ := so_inj hf
      exact aw_iret hC hW hr rfl (p_eq hP (congrArg (fun z => some (Value.int z)) e1) e2) (Nat.le_of_ble_eq_true rfl) (Nat.le_of_ble_eq_true rfl) dX14_scale_27
