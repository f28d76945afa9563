set_option maxRecDepth 100000
def f_X14_served (o : Nat) (x1 : Int32) (s : ST) : Option (Int32 × ST) :=
  gd (o < s.1 ∧ (kd s o).1 = 14) <|
  bnd (pI s o 0 0) fun s2 =>
  (gr s2 o 10).bind fun q9 =>
  gd (q9 < s2.1 ∧ (kd s2 q9).1 = 100 ∧ ¬ ((19 : Int32) < 0 ∨ (kd s2 q9).2 ≤ (19 : Int32).toNatClampNeg)) <|
  bnd (p_max 0 ((gi s2 q9 (19 : Int32).toNatClampNeg) - 60)) fun v18 =>
  (gr s2 o 10).bind fun q23 =>
  gd (q23 < s2.1 ∧ (kd s2 q23).1 = 100 ∧ ¬ ((19 : Int32) < 0 ∨ (kd s2 q23).2 ≤ (19 : Int32).toNatClampNeg)) <|
  bnd (p_in ((x1 : Int32).toInt64) ((v18 : Int32).toInt64) ((((gi s2 q23 (19 : Int32).toNatClampNeg) - 1) : Int32).toInt64)) fun v32 =>
  if v32 = 0 then (some ((-2), s2)) else (gr s2 o 10).bind fun q42 =>
  gd (q42 < s2.1 ∧ (kd s2 q42).1 = 100 ∧ ¬ (((57 + (x1 - x1 / 60 * 60)) : Int32) < 0 ∨ (kd s2 q42).2 ≤ ((57 + (x1 - x1 / 60 * 60)) : Int32).toNatClampNeg)) <|
  some ((gi s2 q42 ((57 + (x1 - x1 / 60 * 60)) : Int32).toNatClampNeg), s2)
set_option maxHeartbeats 4000000 in
theorem ct_X14_served (l : Launch) (G : GM) (a : Nat → Nat) (o : Nat) (x1 : Int32) (s : ST) (rv : Int32) (sf : ST) (hf : f_X14_served o x1 s = some (rv, sf)) : MD l G yX14_served (ws_ yX14_served cX14_served 2 (some .int)) 1 [.ref (a o), .int x1] a s (some (.int rv)) sf := by
  refine md_of (d := 1) (lv := [(0, .ref (a o)), (1, .int x1)]) (Or.inl (by decide)) (Nat.le_of_ble_eq_true rfl) rfl ?_
  intro p e s0 m args below meth c ls A P hP hC hr hnm hW hl
  have hx := hC.1
  have hb := hC.2.1
  have hts := hC.2.2.2.2.1
  unfold f_X14_served at hf
  refine lv_aload_n hx hb dX14_served_0 rfl (lv_at hl 0 rfl) ?_
  refine lv_iconst (v := 0) hx hb dX14_served_1 (by decide) ?_
  obtain ⟨g2, hf⟩ := gd_some hf
  obtain ⟨s2, e2, hf⟩ := bnd_some hf
  refine aw_pI e2 hC hW g2 fl_X14_3 (Or.inl fn_13_0) rfl rfl rfl dX14_served_2 (fun H locs hW => ?_)
  have g2 := ko_pI e2 g2
  refine lv_iload_n hx hb dX14_served_5 rfl (lv_at hl 1 rfl) ?_
  refine lv_i2l (v := (x1 : Int32).toInt64) hx hb dX14_served_6 rfl ?_
  refine lv_iconst (v := 0) hx hb dX14_served_7 (by decide) ?_
  refine lv_aload_n hx hb dX14_served_8 rfl (lv_at hl 0 rfl) ?_
  obtain ⟨q9, hq9, hf⟩ := bi_some hf
  refine aw_gR hC hW g2 fl_X14_44 rfl hq9 dX14_served_9 ?_
  refine lv_bipush (v := 19) hx hb dX14_served_12 (by decide) ?_
  obtain ⟨g14, hf⟩ := gd_some hf
  refine aw_iald hC hW g14 dX14_served_14 ?_
  refine lv_bipush (v := 60) hx hb dX14_served_15 (by decide) ?_
  refine lv_isub hx hb dX14_served_17 ?_
  obtain ⟨v18, ev18, hf⟩ := bnd_some hf
  refine aw_dS1 (As := [.int 0, .int ((gi s2 q9 (19 : Int32).toNatClampNeg) - 60)]) (rest := [.long ((x1 : Int32).toInt64)]) (pc_J0_max l G a 0 ((gi s2 q9 (19 : Int32).toNatClampNeg) - 60) s2) hC hW hl.1 sy_J0_max (Or.inl q1633) rfl rfl (Nat.le_of_ble_eq_true rfl) ⟨Nat.le_of_ble_eq_true rfl, Nat.le_of_ble_eq_true rfl⟩ ⟨Nat.le_of_ble_eq_true rfl, Nat.le_of_ble_eq_true rfl⟩ dX14_served_18 (fun H locs hW => ?_)
  refine top_i ev18 ?_
  refine lv_i2l (v := (v18 : Int32).toInt64) hx hb dX14_served_21 rfl ?_
  refine lv_aload_n hx hb dX14_served_22 rfl (lv_at hl 0 rfl) ?_
  obtain ⟨q23, hq23, hf⟩ := bi_some hf
  refine aw_gR hC hW g2 fl_X14_44 rfl hq23 dX14_served_23 ?_
  refine lv_bipush (v := 19) hx hb dX14_served_26 (by decide) ?_
  obtain ⟨g28, hf⟩ := gd_some hf
  refine aw_iald hC hW g28 dX14_served_28 ?_
  refine lv_iconst (v := 1) hx hb dX14_served_29 (by decide) ?_
  refine lv_isub hx hb dX14_served_30 ?_
  refine lv_i2l (v := (((gi s2 q23 (19 : Int32).toNatClampNeg) - 1) : Int32).toInt64) hx hb dX14_served_31 rfl ?_
  obtain ⟨v32, ev32, hf⟩ := bnd_some hf
  refine aw_dS1 (As := [.long ((x1 : Int32).toInt64), .long ((v18 : Int32).toInt64), .long ((((gi s2 q23 (19 : Int32).toNatClampNeg) - 1) : Int32).toInt64)]) (rest := []) (pc_X14_in l G a ((x1 : Int32).toInt64) ((v18 : Int32).toInt64) ((((gi s2 q23 (19 : Int32).toNatClampNeg) - 1) : Int32).toInt64) s2) hC hW hl.1 sy_X14_in (Or.inl q1514) rfl rfl (Nat.le_of_ble_eq_true rfl) ⟨Nat.le_of_ble_eq_true rfl, Nat.le_of_ble_eq_true rfl⟩ ⟨Nat.le_of_ble_eq_true rfl, Nat.le_of_ble_eq_true rfl⟩ dX14_served_32 (fun H locs hW => ?_)
  refine top_i ev32 ?_
  refine lv_if_ne (tgt := 41) hx hb dX14_served_35 (by decide) (fun c35 => ?_) (fun c35 => ?_)
  · have hf := ifn c35 hf
    refine lv_aload_n hx hb dX14_served_41 rfl (lv_at hl 0 rfl) ?_
    obtain ⟨q42, hq42, hf⟩ := bi_some hf
    refine aw_gR hC hW g2 fl_X14_44 rfl hq42 dX14_served_42 ?_
    refine lv_bipush (v := 57) hx hb dX14_served_45 (by decide) ?_
    refine lv_iload_n hx hb dX14_served_47 rfl (lv_at hl 1 rfl) ?_
    refine lv_bipush (v := 60) hx hb dX14_served_48 (by decide) ?_
    refine lv_irem hx hb dX14_served_50 (by decide) ?_
    refine lv_iadd hx hb dX14_served_51 ?_
    obtain ⟨g52, hf⟩ := gd_some hf
    refine aw_iald hC hW g52 dX14_served_52 ?_
    obtain ⟨e1, e2⟩ := so_inj hf
    exact aw_iret hC hW hr rfl (p_eq hP (congrArg (fun z => some (Value.int z)) e1) e2) (Nat.le_of_ble_eq_true rfl) (Nat.le_of_ble_eq_true rfl) dX14_served_53
  · have hf := ifp c35 hf
    refine lv_bipush (v := (-2)) hx hb dX14_served_38 (by decide) ?_
    obtain ⟨e1, e2⟩ := so_inj hf
    exact aw_iret hC hW hr rfl (p_eq hP (congrArg (fun z => some (Value.int z)) e1) e2) (Nat.le_of_ble_eq_true rfl) (Nat.le_of_ble_eq_true rfl) dX14_served_40
def f_X14_set_b104 (x2 : Int32) (x3 : Int32) (w0 : Nat) (s : ST) : Option (Int32 × ST) :=
  gd (w0 < s.1 ∧ (kd s w0).1 = 100 ∧ ¬ ((x2 : Int32) < 0 ∨ (kd s w0).2 ≤ (x2 : Int32).toNatClampNeg)) <|
  bnd ((gi s w0 (x2 : Int32).toNatClampNeg) : Int32) fun v110 =>
  gd (w0 < s.1 ∧ (kd s w0).1 = 100 ∧ ¬ ((x2 : Int32) < 0 ∨ (kd s w0).2 ≤ (x2 : Int32).toNatClampNeg)) <|
  bnd (pI s w0 (x2 : Int32).toNatClampNeg x3) fun s116 =>
  some (v110, s116)
def f_X14_set_b60 (r0 : Nat) (x1 : Int32) (x2 : Int32) (x3 : Int32) (t0 : Int32) (s : ST) : Option (Int32 × ST) :=
  gd (r0 < s.1 ∧ (kd s r0).1 = 14) <|
  ob (f_X14_isPerson r0 x2 s) fun v64 s64 =>
  if v64 = 0 then (some ((-1), s64)) else if t0 = 0 then (some ((-1), s64)) else if x1 = 0 then (gd (r0 < s64.1 ∧ (kd s64 r0).1 = 14) <|
  (gr s64 r0 10).bind fun q82 =>
  f_X14_set_b104 x2 x3 q82 s64) else if x1 = 1 then (gd (r0 < s64.1 ∧ (kd s64 r0).1 = 14) <|
  (gr s64 r0 4).bind fun q94 =>
  f_X14_set_b104 x2 x3 q94 s64) else gd (r0 < s64.1 ∧ (kd s64 r0).1 = 14) <|
  (gr s64 r0 5).bind fun q101 =>
  f_X14_set_b104 x2 x3 q101 s64
def f_X14_set_b59 (r0 : Nat) (x1 : Int32) (x2 : Int32) (x3 : Int32) (s : ST) : Option (Int32 × ST) :=
  f_X14_set_b60 r0 x1 x2 x3 0 s
def f_X14_set (o : Nat) (x1 : Int32) (x2 : Int32) (x3 : Int32) (s : ST) : Option (Int32 × ST) :=
  gd (o < s.1 ∧ (kd s o).1 = 14) <|
  bnd (pI s o 0 0) fun s2 =>
  if x1 = 0 then (bnd (p_in ((x3 : Int32).toInt64) 1 999) fun v15 =>
  f_X14_set_b60 o x1 x2 x3 v15 s2) else if x1 = 1 then (bnd (p_in ((x3 : Int32).toInt64) 0 3) fun v32 =>
  f_X14_set_b60 o x1 x2 x3 v32 s2) else if x1 = 2 then (bnd (p_in ((x3 : Int32).toInt64) 0 9) fun v49 =>
  if v49 = 0 then (f_X14_set_b59 o x1 x2 x3 s2) else f_X14_set_b60 o x1 x2 x3 1 s2) else f_X14_set_b59 o x1 x2 x3 s2
set_option maxHeartbeats 4000000 in
theorem ct_X14_set (l : Launch) (G : GM) (a : Nat → Nat) (o : Nat) (x1 : Int32) (x2 : Int32) (x3 : Int32) (s : ST) (rv : Int32) (sf : ST) (hf : f_X14_set o x1 x2 x3 s = some (rv, sf)) : MD l G yX14_set (ws_ yX14_set cX14_set 7 (some .int)) 2 [.ref (a o), .int x1, .int x2, .int x3] a s (some (.int rv)) sf := by
  refine md_of (d := 2) (lv := [(0, .ref (a o)), (1, .int x1), (2, .int x2), (3, .int x3)]) (Or.inl (by decide)) (Nat.le_of_ble_eq_true rfl) rfl ?_
  intro p e s0 m args below meth c ls A P hP hC hr hnm hW hl
  have hx := hC.1
  have hb := hC.2.1
  have hts := hC.2.2.2.2.1
  have B104 : ∀ (x2 : Int32) (x3 : Int32) (w0 : Nat) (s : ST), f_X14_set_b104 x2 x3 w0 s = some (rv, sf) → ∀ (H : Heap) (locs : List Loc) (ls : Array Slot), lv_has ls 7 [(2, .int x2), (3, .int x3)] → AW G a A s s0.heap H locs → WB p l e (rmD 2) s0 m args below meth c H locs G A P 104 ls [.ref (a w0)] := by
    intro x2 x3 w0 s hf H locs ls hl hW
    unfold f_X14_set_b104 at hf
    refine lv_astore (lv' := [(5, .ref (a w0)), (2, .int x2), (3, .int x3)]) hx hb dX14_set_104 hl (by decide) rfl (fun ls hl => ?_)
    refine lv_aload hx hb dX14_set_106 (lv_at hl 0 rfl) ?_
    refine lv_iload_n hx hb dX14_set_108 rfl (lv_at hl 1 rfl) ?_
    obtain ⟨g109, hf⟩ := gd_some hf
    refine aw_iald hC hW g109 dX14_set_109 ?_
    obtain ⟨v110, ev110, hf⟩ := bnd_some hf
    refine top_i ev110 ?_
    refine lv_istore (lv' := [(6, .int v110), (5, .ref (a w0)), (2, .int x2), (3, .int x3)]) hx hb dX14_set_110 hl (by decide) rfl (fun ls hl => ?_)
    refine lv_aload hx hb dX14_set_112 (lv_at hl 1 rfl) ?_
    refine lv_iload_n hx hb dX14_set_114 rfl (lv_at hl 2 rfl) ?_
    refine lv_iload_n hx hb dX14_set_115 rfl (lv_at hl 3 rfl) ?_
    obtain ⟨g116, hf⟩ := gd_some hf
    obtain ⟨s116, e116, hf⟩ := bnd_some hf
    refine aw_iast e116 hC hW g116 dX14_set_116 (fun H locs hW => ?_)
    refine lv_iload hx hb dX14_set_117 (lv_at hl 0 rfl) ?_
    obtain ⟨e1, e2⟩ := so_inj hf
    exact aw_iret hC hW hr rfl (p_eq hP (congrArg (fun z => some (Value.int z)) e1) e2) (Nat.le_of_ble_eq_true rfl) (Nat.le_of_ble_eq_true rfl) dX14_set_119
  have B60 : ∀ (r0 : Nat) (x1 : Int32) (x2 : Int32) (x3 : Int32) (t0 : Int32) (s : ST), f_X14_set_b60 r0 x1 x2 x3 t0 s = some (rv, sf) → ∀ (H : Heap) (locs : List Loc) (ls : Array Slot), lv_has ls 7 [(0, .ref (a r0)), (1, .int x1), (2, .int x2), (3, .int x3)] → AW G a A s s0.heap H locs → WB p l e (rmD 2) s0 m args below meth c H locs G A P 60 ls [.int t0] := by
    intro r0 x1 x2 x3 t0 s hf H locs ls hl hW
    unfold f_X14_set_b60 at hf
    refine lv_istore (lv' := [(4, .int t0), (0, .ref (a r0)), (1, .int x1), (2, .int x2), (3, .int x3)]) hx hb dX14_set_60 hl (by decide) rfl (fun ls hl => ?_)
    refine lv_aload_n hx hb dX14_set_62 rfl (lv_at hl 1 rfl) ?_
    refine lv_iload_n hx hb dX14_set_63 rfl (lv_at hl 3 rfl) ?_
    obtain ⟨g64, hf⟩ := gd_some hf
    obtain ⟨v64, s64, h64, hf⟩ := ob_some hf
    refine aw_dV1 (r := r0) (As := [.int x2]) (rest := []) (ct_X14_isPerson l G a r0 x2 s v64 s64 h64) hC hW hl.1 vy_X14_isPerson (Or.inl q1594) g64 rfl rfl rfl rfl (Nat.le_of_ble_eq_true rfl) ⟨Nat.le_of_ble_eq_true rfl, Nat.le_of_ble_eq_true rfl⟩ ⟨Nat.le_of_ble_eq_true rfl, Nat.le_of_ble_eq_true rfl⟩ dX14_set_64 (fun H locs hW => ?_)
    refine lv_if_eq (tgt := 75) hx hb dX14_set_67 (by decide) (fun c67 => ?_) (fun c67 => ?_)
    · have hf := ifp c67 hf
      refine lv_iconst (v := (-1)) hx hb dX14_set_75 (by decide) ?_
      obtain ⟨e1, e2⟩ := so_inj hf
      exact aw_iret hC hW hr rfl (p_eq hP (congrArg (fun z => some (Value.int z)) e1) e2) (Nat.le_of_ble_eq_true rfl) (Nat.le_of_ble_eq_true rfl) dX14_set_76
    · have hf := ifn c67 hf
      refine lv_iload hx hb dX14_set_70 (lv_at hl 0 rfl) ?_
      refine lv_if_ne (tgt := 77) hx hb dX14_set_72 (by decide) (fun c72 => ?_) (fun c72 => ?_)
      · have hf := ifn c72 hf
        refine lv_iload_n hx hb dX14_set_77 rfl (lv_at hl 2 rfl) ?_
        refine lv_if_ne (tgt := 88) hx hb dX14_set_78 (by decide) (fun c78 => ?_) (fun c78 => ?_)
        · have hf := ifn c78 hf
          refine lv_iload_n hx hb dX14_set_88 rfl (lv_at hl 2 rfl) ?_
          refine lv_iconst (v := 1) hx hb dX14_set_89 (by decide) ?_
          refine lv_icmp_ne (tgt := 100) hx hb dX14_set_90 (by decide) (fun c90 => ?_) (fun c90 => ?_)
          · have hf := ifn c90 hf
            refine lv_aload_n hx hb dX14_set_100 rfl (lv_at hl 1 rfl) ?_
            obtain ⟨g101, hf⟩ := gd_some hf
            obtain ⟨q101, hq101, hf⟩ := bi_some hf
            refine aw_gR hC hW g101 fl_X14_32 rfl hq101 dX14_set_101 ?_
            exact B104 x2 x3 q101 s64 hf _ _ _ (lv_sub hl [3, 4] rfl) hW
          · have hf := ifp c90 hf
            refine lv_aload_n hx hb dX14_set_93 rfl (lv_at hl 1 rfl) ?_
            obtain ⟨g94, hf⟩ := gd_some hf
            obtain ⟨q94, hq94, hf⟩ := bi_some hf
            refine aw_gR hC hW g94 fl_X14_28 rfl hq94 dX14_set_94 ?_
            refine lv_goto (tgt := 104) hx hb dX14_set_97 (by decide) ?_
            exact B104 x2 x3 q94 s64 hf _ _ _ (lv_sub hl [3, 4] rfl) hW
        · have hf := ifp c78 hf
          refine lv_aload_n hx hb dX14_set_81 rfl (lv_at hl 1 rfl) ?_
          obtain ⟨g82, hf⟩ := gd_some hf
          obtain ⟨q82, hq82, hf⟩ := bi_some hf
          refine aw_gR hC hW g82 fl_X14_44 rfl hq82 dX14_set_82 ?_
          refine lv_goto (tgt := 104) hx hb dX14_set_85 (by decide) ?_
          exact B104 x2 x3 q82 s64 hf _ _ _ (lv_sub hl [3, 4] rfl) hW
      · have hf := ifp c72 hf
        refine lv_iconst (v := (-1)) hx hb dX14_set_75 (by decide) ?_
        obtain ⟨e1, e2⟩ := so_inj hf
        exact aw_iret hC hW hr rfl (p_eq hP (congrArg (fun z => some (Value.int z)) e1) e2) (Nat.le_of_ble_eq_true rfl) (Nat.le_of_ble_eq_true rfl) dX14_set_76
  have B59 : ∀ (r0 : Nat) (x1 : Int32) (x2 : Int32) (x3 : Int32) (s : ST), f_X14_set_b59 r0 x1 x2 x3 s = some (rv, sf) → ∀ (H : Heap) (locs : List Loc) (ls : Array Slot), lv_has ls 7 [(0, .ref (a r0)), (1, .int x1), (2, .int x2), (3, .int x3)] → AW G a A s s0.heap H locs → WB p l e (rmD 2) s0 m args below meth c H locs G A P 59 ls [] := by
    intro r0 x1 x2 x3 s hf H locs ls hl hW
    unfold f_X14_set_b59 at hf
    refine lv_iconst (v := 0) hx hb dX14_set_59 (by decide) ?_
    exact B60 r0 x1 x2 x3 0 s hf _ _ _ (lv_sub hl [0, 1, 2, 3] rfl) hW
  unfold f_X14_set at hf
  refine lv_aload_n hx hb dX14_set_0 rfl (lv_at hl 0 rfl) ?_
  refine lv_iconst (v := 0) hx hb dX14_set_1 (by decide) ?_
  obtain ⟨g2, hf⟩ := gd_some hf
  obtain ⟨s2, e2, hf⟩ := bnd_some hf
  refine aw_pI e2 hC hW g2 fl_X14_3 (Or.inl fn_13_0) rfl rfl rfl dX14_set_2 (fun H locs hW => ?_)
  have g2 := ko_pI e2 g2
  refine lv_iload_n hx hb dX14_set_5 rfl (lv_at hl 1 rfl) ?_
  refine lv_if_ne (tgt := 21) hx hb dX14_set_6 (by decide) (fun c6 => ?_) (fun c6 => ?_)
  · have hf := ifn c6 hf
    refine lv_iload_n hx hb dX14_set_21 rfl (lv_at hl 1 rfl) ?_
    refine lv_iconst (v := 1) hx hb dX14_set_22 (by decide) ?_
    refine lv_icmp_ne (tgt := 38) hx hb dX14_set_23 (by decide) (fun c23 => ?_) (fun c23 => ?_)
    · have hf := ifn c23 hf
      refine lv_iload_n hx hb dX14_set_38 rfl (lv_at hl 1 rfl) ?_
      refine lv_iconst (v := 2) hx hb dX14_set_39 (by decide) ?_
      refine lv_icmp_ne (tgt := 59) hx hb dX14_set_40 (by decide) (fun c40 => ?_) (fun c40 => ?_)
      · have hf := ifn c40 hf
        exact B59 o x1 x2 x3 s2 hf _ _ _ (lv_sub hl [0, 1, 2, 3] rfl) hW
      · have hf := ifp c40 hf
        refine lv_iload_n hx hb dX14_set_43 rfl (lv_at hl 3 rfl) ?_
        refine lv_i2l (v := (x3 : Int32).toInt64) hx hb dX14_set_44 rfl ?_
        refine lv_lconst (v := 0) hx hb dX14_set_45 (by decide) ?_
        refine lv_ldc2 (v := 9) hx hb hC.2.2.2.1 (hts _ q1659) dX14_set_46 ?_
        obtain ⟨v49, ev49, hf⟩ := bnd_some hf
        refine aw_dS1 (As := [.long ((x3 : Int32).toInt64), .long 0, .long 9]) (rest := []) (pc_X14_in l G a ((x3 : Int32).toInt64) 0 9 s2) hC hW hl.1 sy_X14_in (Or.inl q1514) rfl rfl (Nat.le_of_ble_eq_true rfl) ⟨Nat.le_of_ble_eq_true rfl, Nat.le_of_ble_eq_true rfl⟩ ⟨Nat.le_of_ble_eq_true rfl, Nat.le_of_ble_eq_true rfl⟩ dX14_set_49 (fun H locs hW => ?_)
        refine top_i ev49 ?_
        refine lv_if_eq (tgt := 59) hx hb dX14_set_52 (by decide) (fun c52 => ?_) (fun c52 => ?_)
        · have hf := ifp c52 hf
          exact B59 o x1 x2 x3 s2 hf _ _ _ (lv_sub hl [0, 1, 2, 3] rfl) hW
        · have hf := ifn c52 hf
          refine lv_iconst (v := 1) hx hb dX14_set_55 (by decide) ?_
          refine lv_goto (tgt := 60) hx hb dX14_set_56 (by decide) ?_
          exact B60 o x1 x2 x3 1 s2 hf _ _ _ (lv_sub hl [0, 1, 2, 3] rfl) hW
    · have hf := ifp c23 hf
      refine lv_iload_n hx hb dX14_set_26 rfl (lv_at hl 3 rfl) ?_
      refine lv_i2l (v := (x3 : Int32).toInt64) hx hb dX14_set_27 rfl ?_
      refine lv_lconst (v := 0) hx hb dX14_set_28 (by decide) ?_
      refine lv_ldc2 (v := 3) hx hb hC.2.2.2.1 (hts _ q1658) dX14_set_29 ?_
      obtain ⟨v32, ev32, hf⟩ := bnd_some hf
      refine aw_dS1 (As := [.long ((x3 : Int32).toInt64), .long 0, .long 3]) (rest := []) (pc_X14_in l G a ((x3 : Int32).toInt64) 0 3 s2) hC hW hl.1 sy_X14_in (Or.inl q1514) rfl rfl (Nat.le_of_ble_eq_true rfl) ⟨Nat.le_of_ble_eq_true rfl, Nat.le_of_ble_eq_true rfl⟩ ⟨Nat.le_of_ble_eq_true rfl, Nat.le_of_ble_eq_true rfl⟩ dX14_set_32 (fun H locs hW => ?_)
      refine top_i ev32 ?_
      refine lv_goto (tgt := 60) hx hb dX14_set_35 (by decide) ?_
      exact B60 o x1 x2 x3 v32 s2 hf _ _ _ (lv_sub hl [0, 1, 2, 3] rfl) hW
  · have hf := ifp c6 hf
    refine lv_iload_n hx hb dX14_set_9 rfl (lv_at hl 3 rfl) ?_
    refine lv_i2l (v := (x3 : Int32).toInt64) hx hb dX14_set_10 rfl ?_
    refine lv_lconst (v := 1) hx hb dX14_set_11 (by decide) ?_
    refine lv_ldc2 (v := 999) hx hb hC.2.2.2.1 (hts _ q1657) dX14_set_12 ?_
    obtain ⟨v15, ev15, hf⟩ := bnd_some hf
    refine aw_dS1 (As := [.long ((x3 : Int32).toInt64), .long 1, .long 999]) (rest := []) (pc_X14_in l G a ((x3 : Int32).toInt64) 1 999 s2) hC hW hl.1 sy_X14_in (Or.inl q1514) rfl rfl (Nat.le_of_ble_eq_true rfl) ⟨Nat.le_of_ble_eq_true rfl, Nat.le_of_ble_eq_true rfl⟩ ⟨Nat.le_of_ble_eq_true rfl, Nat.le_of_ble_eq_true rfl⟩ dX14_set_15 (fun H locs hW => ?_)
    refine top_i ev15 ?_
    refine lv_goto (tgt := 60) hx hb dX14_set_18 (by decide) ?_
    exact B60 o x1 x2 x3 v15 s2 hf _ _ _ (lv_sub hl [0, 1, 2, 3] rfl) hW
def f_X14_sheet_b113 (K46 : Nat → Int32 → Int32 → Int32 → Int32 → Int32 → Int32 → ST → Option (Int32 × ST)) (r0 : Nat) (x1 : Int32) (x2 : Int32) (x4 : Int32) (x5 : Int32) (x6 : Int32) (x7 : Int32) (t0 : Int32) (t1 : Int32) (w2 : Nat) (s : ST) : Option (Int32 × ST) :=
  gd (w2 < s.1 ∧ (kd s w2).1 = 100 ∧ ¬ ((t1 : Int32) < 0 ∨ (kd s w2).2 ≤ (t1 : Int32).toNatClampNeg)) <|
  bnd (pI s w2 (t1 : Int32).toNatClampNeg t0) fun s113 =>
  gd (r0 < s113.1 ∧ (kd s113 r0).1 = 14) <|
  (gr s113 r0 10).bind fun q117 =>
  gd (q117 < s113.1 ∧ (kd s113 q117).1 = 100 ∧ ¬ ((x7 : Int32) < 0 ∨ (kd s113 q117).2 ≤ (x7 : Int32).toNatClampNeg)) <|
  bnd ((x5 + (gi s113 q117 (x7 : Int32).toNatClampNeg)) : Int32) fun v124 =>
  bnd ((x6 + x4) : Int32) fun v131 =>
  bnd (x7 + 1 : Int32) fun v133 =>
  K46 r0 x1 x2 x4 v124 v131 v133 s113
def f_X14_sheet_b97 (K46 : Nat → Int32 → Int32 → Int32 → Int32 → Int32 → Int32 → ST → Option (Int32 × ST)) (r0 : Nat) (x1 : Int32) (x2 : Int32) (x4 : Int32) (x5 : Int32) (x6 : Int32) (x7 : Int32) (t0 : Int32) (w1 : Nat) (s : ST) : Option (Int32 × ST) :=
  f_X14_sheet_b113 K46 r0 x1 x2 x4 x5 x6 x7 1 t0 w1 s
def f_X14_sheet_b78 (K46 : Nat → Int32 → Int32 → Int32 → Int32 → Int32 → Int32 → ST → Option (Int32 × ST)) (r0 : Nat) (x1 : Int32) (x2 : Int32) (x4 : Int32) (x5 : Int32) (x6 : Int32) (x7 : Int32) (t0 : Int32) (s : ST) : Option (Int32 × ST) :=
  gd (r0 < s.1 ∧ (kd s r0).1 = 14) <|
  (gr s r0 10).bind fun q81 =>
  if x1 = 3 then (f_X14_sheet_b97 K46 r0 x1 x2 x4 x5 x6 x7 x7 q81 s) else if x7 < x2 then (bnd (p_min 999 t0) fun v107 =>
  bnd (p_max 1 v107) fun v110 =>
  f_X14_sheet_b113 K46 r0 x1 x2 x4 x5 x6 x7 v110 x7 q81 s) else f_X14_sheet_b97 K46 r0 x1 x2 x4 x5 x6 x7 x7 q81 s
def f_X14_sheet_b46 : Nat → Nat → Int32 → Int32 → Int32 → Int32 → Int32 → Int32 → ST → Option (Int32 × ST)
  | 0, _, _, _, _, _, _, _, _ => none
  | n + 1, r0, x1, x2, x4, x5, x6, x7, s =>
  gd (r0 < s.1 ∧ (kd s r0).1 = 14) <|
  if (gi s r0 3) ≤ x7 then (if x1 = 3 then (some ((-3), s)) else some (x5, s)) else if x1 = 0 then (f_X14_sheet_b78 (f_X14_sheet_b46 n) r0 x1 x2 x4 x5 x6 x7 ((x6 : Int32).toInt8.toInt32) s) else if x1 = 1 then (f_X14_sheet_b78 (f_X14_sheet_b46 n) r0 x1 x2 x4 x5 x6 x7 ((x6 : Int32).toInt16.toInt32) s) else f_X14_sheet_b78 (f_X14_sheet_b46 n) r0 x1 x2 x4 x5 x6 x7 x6 s
def f_X14_sheet_b37 (r0 : Nat) (x1 : Int32) (x2 : Int32) (x3 : Int32) (x4 : Int32) (s : ST) : Option (Int32 × ST) :=
  f_X14_sheet_b46 fuel r0 x1 x2 x4 0 x3 0 s
def f_X14_sheet (o : Nat) (x1 : Int32) (x2 : Int32) (x3 : Int32) (x4 : Int32) (s : ST) : Option (Int32 × ST) :=
  gd (o < s.1 ∧ (kd s o).1 = 14) <|
  bnd (pI s o 0 0) fun s2 =>
  bnd (p_in ((x1 : Int32).toInt64) 0 3) fun v11 =>
  if v11 = 0 then (some ((-1), s2)) else if x2 ≤ 8 then (if x1 = 3 then (f_X14_sheet_b37 o x1 x2 x3 x4 s2) else if 0 ≤ x2 then (f_X14_sheet_b37 o x1 x2 x3 x4 s2) else some ((-2), s2)) else some ((-1), s2)
set_option maxHeartbeats 4000000 in
theorem ct_X14_sheet (l : Launch) (G : GM) (a : Nat → Nat) (o : Nat) (x1 : Int32) (x2 : Int32) (x3 : Int32) (x4 : Int32) (s : ST) (rv : Int32) (sf : ST) (hf : f_X14_sheet o x1 x2 x3 x4 s = some (rv, sf)) : MD l G yX14_sheet (ws_ yX14_sheet cX14_sheet 9 (some .int)) 1 [.ref (a o), .int x1, .int x2, .int x3, .int x4] a s (some (.int rv)) sf := by
  refine md_of (d := 1) (lv := [(0, .ref (a o)), (1, .int x1), (2, .int x2), (3, .int x3), (4, .int x4)]) (Or.inl (by decide)) (Nat.le_of_ble_eq_true rfl) rfl ?_
  intro p e s0 m args below meth c ls A P hP hC hr hnm hW hl
  have hx := hC.1
  have hb := hC.2.1
  have hts := hC.2.2.2.2.1
  have B113 : ∀ (K46 : Nat → Int32 → Int32 → Int32 → Int32 → Int32 → Int32 → ST → Option (Int32 × ST)) (hK46 : ∀ (r0 : Nat) (x1 : Int32) (x2 : Int32) (x4 : Int32) (x5 : Int32) (x6 : Int32) (x7 : Int32) (s : ST), K46 r0 x1 x2 x4 x5 x6 x7 s = some (rv, sf) → ∀ (H : Heap) (locs : List Loc) (ls : Array Slot), lv_has ls 9 [(0, .ref (a r0)), (1, .int x1), (2, .int x2), (4, .int x4), (5, .int x5), (6, .int x6), (7, .int x7)] → AW G a A s s0.heap H locs → WB p l e (rmD 1) s0 m args below meth c H locs G A P 46 ls []), ∀ (r0 : Nat) (x1 : Int32) (x2 : Int32) (x4 : Int32) (x5 : Int32) (x6 : Int32) (x7 : Int32) (t0 : Int32) (t1 : Int32) (w2 : Nat) (s : ST), f_X14_sheet_b113 K46 r0 x1 x2 x4 x5 x6 x7 t0 t1 w2 s = some (rv, sf) → ∀ (H : Heap) (locs : List Loc) (ls : Array Slot), lv_has ls 9 [(0, .ref (a r0)), (1, .int x1), (2, .int x2), (4, .int x4), (5, .int x5), (6, .int x6), (7, .int x7)] → AW G a A s s0.heap H locs → WB p l e (rmD 1) s0 m args below meth c H locs G A P 113 ls [.int t0, .int t1, .ref (a w2)] := by
    intro K46 hK46 r0 x1 x2 x4 x5 x6 x7 t0 t1 w2 s hf H locs ls hl hW
    unfold f_X14_sheet_b113 at hf
    obtain ⟨g113, hf⟩ := gd_some hf
    obtain ⟨s113, e113, hf⟩ := bnd_some hf
    refine aw_iast e113 hC hW g113 dX14_sheet_113 (fun H locs hW => ?_)
    refine lv_iload hx hb dX14_sheet_114 (lv_at hl 4 rfl) ?_
    refine lv_aload_n hx hb dX14_sheet_116 rfl (lv_at hl 0 rfl) ?_
    obtain ⟨g117, hf⟩ := gd_some hf
    obtain ⟨q117, hq117, hf⟩ := bi_some hf
    refine aw_gR hC hW g117 fl_X14_44 rfl hq117 dX14_sheet_117 ?_
    refine lv_iload hx hb dX14_sheet_120 (lv_at hl 6 rfl) ?_
    obtain ⟨g122, hf⟩ := gd_some hf
    refine aw_iald hC hW g122 dX14_sheet_122 ?_
    refine lv_iadd hx hb dX14_sheet_123 ?_
    obtain ⟨v124, ev124, hf⟩ := bnd_some hf
    refine top_i ev124 ?_
    refine lv_istore (lv' := [(5, .int v124), (0, .ref (a r0)), (1, .int x1), (2, .int x2), (4, .int x4), (6, .int x6), (7, .int x7)]) hx hb dX14_sheet_124 hl (by decide) rfl (fun ls hl => ?_)
    refine lv_iload hx hb dX14_sheet_126 (lv_at hl 5 rfl) ?_
    refine lv_iload hx hb dX14_sheet_128 (lv_at hl 4 rfl) ?_
    refine lv_iadd hx hb dX14_sheet_130 ?_
    obtain ⟨v131, ev131, hf⟩ := bnd_some hf
    refine top_i ev131 ?_
    refine lv_istore (lv' := [(6, .int v131), (5, .int v124), (0, .ref (a r0)), (1, .int x1), (2, .int x2), (4, .int x4), (7, .int x7)]) hx hb dX14_sheet_131 hl (by decide) rfl (fun ls hl => ?_)
    obtain ⟨v133, ev133, hf⟩ := bnd_some hf
    refine lv_iinc (v := v133) (lv' := [(7, .int v133), (6, .int v131), (5, .int v124), (0, .ref (a r0)), (1, .int x1), (2, .int x2), (4, .int x4)]) hx hb dX14_sheet_133 hl (k := 6) rfl (by rw [ev133]; rfl) (by decide) rfl (fun ls hl => ?_)
    refine lv_goto (tgt := 46) hx hb dX14_sheet_136 (by decide) ?_
    exact hK46 r0 x1 x2 x4 v124 v131 v133 s113 hf _ _ _ (lv_sub hl [3, 4, 5, 6, 2, 1, 0] rfl) hW
  have B97 : ∀ (K46 : Nat → Int32 → Int32 → Int32 → Int32 → Int32 → Int32 → ST → Option (Int32 × ST)) (hK46 : ∀ (r0 : Nat) (x1 : Int32) (x2 : Int32) (x4 : Int32) (x5 : Int32) (x6 : Int32) (x7 : Int32) (s : ST), K46 r0 x1 x2 x4 x5 x6 x7 s = some (rv, sf) → ∀ (H : Heap) (locs : List Loc) (ls : Array Slot), lv_has ls 9 [(0, .ref (a r0)), (1, .int x1), (2, .int x2), (4, .int x4), (5, .int x5), (6, .int x6), (7, .int x7)] → AW G a A s s0.heap H locs → WB p l e (rmD 1) s0 m args below meth c H locs G A P 46 ls []), ∀ (r0 : Nat) (x1 : Int32) (x2 : Int32) (x4 : Int32) (x5 : Int32) (x6 : Int32) (x7 : Int32) (t0 : Int32) (w1 : Nat) (s : ST), f_X14_sheet_b97 K46 r0 x1 x2 x4 x5 x6 x7 t0 w1 s = some (rv, sf) → ∀ (H : Heap) (locs : List Loc) (ls : Array Slot), lv_has ls 9 [(0, .ref (a r0)), (1, .int x1), (2, .int x2), (4, .int x4), (5, .int x5), (6, .int x6), (7, .int x7)] → AW G a A s s0.heap H locs → WB p l e (rmD 1) s0 m args below meth c H locs G A P 97 ls [.int t0, .ref (a w1)] := by
    intro K46 hK46 r0 x1 x2 x4 x5 x6 x7 t0 w1 s hf H locs ls hl hW
    unfold f_X14_sheet_b97 at hf
    refine lv_iconst (v := 1) hx hb dX14_sheet_97 (by decide) ?_
    refine lv_goto (tgt := 113) hx hb dX14_sheet_98 (by decide) ?_
    exact B113 K46 hK46 r0 x1 x2 x4 x5 x6 x7 1 t0 w1 s hf _ _ _ (lv_sub hl [0, 1, 2, 3, 4, 5, 6] rfl) hW
  have B78 : ∀ (K46 : Nat → Int32 → Int32 → Int32 → Int32 → Int32 → Int32 → ST → Option (Int32 × ST)) (hK46 : ∀ (r0 : Nat) (x1 : Int32) (x2 : Int32) (x4 : Int32) (x5 : Int32) (x6 : Int32) (x7 : Int32) (s : ST), K46 r0 x1 x2 x4 x5 x6 x7 s = some (rv, sf) → ∀ (H : Heap) (locs : List Loc) (ls : Array Slot), lv_has ls 9 [(0, .ref (a r0)), (1, .int x1), (2, .int x2), (4, .int x4), (5, .int x5), (6, .int x6), (7, .int x7)] → AW G a A s s0.heap H locs → WB p l e (rmD 1) s0 m args below meth c H locs G A P 46 ls []), ∀ (r0 : Nat) (x1 : Int32) (x2 : Int32) (x4 : Int32) (x5 : Int32) (x6 : Int32) (x7 : Int32) (t0 : Int32) (s : ST), f_X14_sheet_b78 K46 r0 x1 x2 x4 x5 x6 x7 t0 s = some (rv, sf) → ∀ (H : Heap) (locs : List Loc) (ls : Array Slot), lv_has ls 9 [(0, .ref (a r0)), (1, .int x1), (2, .int x2), (4, .int x4), (5, .int x5), (6, .int x6), (7, .int x7)] → AW G a A s s0.heap H locs → WB p l e (rmD 1) s0 m args below meth c H locs G A P 78 ls [.int t0] := by
    intro K46 hK46 r0 x1 x2 x4 x5 x6 x7 t0 s hf H locs ls hl hW
    unfold f_X14_sheet_b78 at hf
    refine lv_istore (lv' := [(8, .int t0), (0, .ref (a r0)), (1, .int x1), (2, .int x2), (4, .int x4), (5, .int x5), (6, .int x6), (7, .int x7)]) hx hb dX14_sheet_78 hl (by decide) rfl (fun ls hl => ?_)
    refine lv_aload_n hx hb dX14_sheet_80 rfl (lv_at hl 1 rfl) ?_
    obtain ⟨g81, hf⟩ := gd_some hf
    obtain ⟨q81, hq81, hf⟩ := bi_some hf
    refine aw_gR hC hW g81 fl_X14_44 rfl hq81 dX14_sheet_81 ?_
    refine lv_iload hx hb dX14_sheet_84 (lv_at hl 7 rfl) ?_
    refine lv_iload_n hx hb dX14_sheet_86 rfl (lv_at hl 2 rfl) ?_
    refine lv_iconst (v := 3) hx hb dX14_sheet_87 (by decide) ?_
    refine lv_icmp_eq (tgt := 97) hx hb dX14_sheet_88 (by decide) (fun c88 => ?_) (fun c88 => ?_)
    · have hf := ifp c88 hf
      exact B97 K46 hK46 r0 x1 x2 x4 x5 x6 x7 x7 q81 s hf _ _ _ (lv_sub hl [1, 2, 3, 4, 5, 6, 7] rfl) hW
    · have hf := ifn c88 hf
      refine lv_iload hx hb dX14_sheet_91 (lv_at hl 7 rfl) ?_
      refine lv_iload_n hx hb dX14_sheet_93 rfl (lv_at hl 3 rfl) ?_
      refine lv_icmp_lt (tgt := 101) hx hb dX14_sheet_94 (by decide) (fun c94 => ?_) (fun c94 => ?_)
      · have hf := ifp c94 hf
        refine lv_iconst (v := 1) hx hb dX14_sheet_101 (by decide) ?_
        refine lv_sipush (v := 999) hx hb dX14_sheet_102 (by decide) ?_
        refine lv_iload hx hb dX14_sheet_105 (lv_at hl 0 rfl) ?_
        obtain ⟨v107, ev107, hf⟩ := bnd_some hf
        refine aw_dS1 (As := [.int 999, .int t0]) (rest := [.int 1, .int x7, .ref (a q81)]) (pc_J0_min l G a 999 t0 s) hC hW hl.1 sy_J0_min (Or.inl q1525) rfl rfl (Nat.le_of_ble_eq_true rfl) ⟨Nat.le_of_ble_eq_true rfl, Nat.le_of_ble_eq_true rfl⟩ ⟨Nat.le_of_ble_eq_true rfl, Nat.le_of_ble_eq_true rfl⟩ dX14_sheet_107 (fun H locs hW => ?_)
        refine top_i ev107 ?_
        obtain ⟨v110, ev110, hf⟩ := bnd_some hf
        refine aw_dS1 (As := [.int 1, .int v107]) (rest := [.int x7, .ref (a q81)]) (pc_J0_max l G a 1 v107 s) hC hW hl.1 sy_J0_max (Or.inl q1633) rfl rfl (Nat.le_of_ble_eq_true rfl) ⟨Nat.le_of_ble_eq_true rfl, Nat.le_of_ble_eq_true rfl⟩ ⟨Nat.le_of_ble_eq_true rfl, Nat.le_of_ble_eq_true rfl⟩ dX14_sheet_110 (fun H locs hW => ?_)
        refine top_i ev110 ?_
        exact B113 K46 hK46 r0 x1 x2 x4 x5 x6 x7 v110 x7 q81 s hf _ _ _ (lv_sub hl [1, 2, 3, 4, 5, 6, 7] rfl) hW
      · have hf := ifn c94 hf
        exact B97 K46 hK46 r0 x1 x2 x4 x5 x6 x7 x7 q81 s hf _ _ _ (lv_sub hl [1, 2, 3, 4, 5, 6, 7] rfl) hW
  have B46 : ∀ (n : Nat), ∀ (r0 : Nat) (x1 : Int32) (x2 : Int32) (x4 : Int32) (x5 : Int32) (x6 : Int32) (x7 : Int32) (s : ST), f_X14_sheet_b46 n r0 x1 x2 x4 x5 x6 x7 s = some (rv, sf) → ∀ (H : Heap) (locs : List Loc) (ls : Array Slot), lv_has ls 9 [(0, .ref (a r0)), (1, .int x1), (2, .int x2), (4, .int x4), (5, .int x5), (6, .int x6), (7, .int x7)] → AW G a A s s0.heap H locs → WB p l e (rmD 1) s0 m args below meth c H locs G A P 46 ls [] := by
    intro n
    induction n with
    | zero => intro r0 x1 x2 x4 x5 x6 x7 s hf; cases hf
    | succ n ih =>
      intro r0 x1 x2 x4 x5 x6 x7 s hf H locs ls hl hW
      rw [f_X14_sheet_b46] at hf
      refine lv_iload hx hb dX14_sheet_46 (lv_at hl 6 rfl) ?_
      refine lv_aload_n hx hb dX14_sheet_48 rfl (lv_at hl 0 rfl) ?_
      obtain ⟨g49, hf⟩ := gd_some hf
      refine aw_gI hC hW g49 fl_X14_117 rfl dX14_sheet_49 ?_
      refine lv_icmp_ge (tgt := 139) hx hb dX14_sheet_52 (by decide) (fun c52 => ?_) (fun c52 => ?_)
      · have hf := ifp c52 hf
        refine lv_iload_n hx hb dX14_sheet_139 rfl (lv_at hl 1 rfl) ?_
        refine lv_iconst (v := 3) hx hb dX14_sheet_140 (by decide) ?_
        refine lv_icmp_ne (tgt := 149) hx hb dX14_sheet_141 (by decide) (fun c141 => ?_) (fun c141 => ?_)
        · have hf := ifn c141 hf
          refine lv_iload hx hb dX14_sheet_149 (lv_at hl 4 rfl) ?_
          obtain ⟨e1, e2⟩ := so_inj hf
          exact aw_iret hC hW hr rfl (p_eq hP (congrArg (fun z => some (Value.int z)) e1) e2) (Nat.le_of_ble_eq_true rfl) (Nat.le_of_ble_eq_true rfl) dX14_sheet_151
        · have hf := ifp c141 hf
          refine lv_bipush (v := (-3)) hx hb dX14_sheet_144 (by decide) ?_
          refine lv_goto (tgt := 151) hx hb dX14_sheet_146 (by decide) ?_
          obtain ⟨e1, e2⟩ := so_inj hf
          exact aw_iret hC hW hr rfl (p_eq hP (congrArg (fun z => some (Value.int z)) e1) e2) (Nat.le_of_ble_eq_true rfl) (Nat.le_of_ble_eq_true rfl) dX14_sheet_151
      · have hf := ifn c52 hf
        refine lv_iload_n hx hb dX14_sheet_55 rfl (lv_at hl 1 rfl) ?_
        refine lv_if_ne (tgt := 65) hx hb dX14_sheet_56 (by decide) (fun c56 => ?_) (fun c56 => ?_)
        · have hf := ifn c56 hf
          refine lv_iload_n hx hb dX14_sheet_65 rfl (lv_at hl 1 rfl) ?_
          refine lv_iconst (v := 1) hx hb dX14_sheet_66 (by decide) ?_
          refine lv_icmp_ne (tgt := 76) hx hb dX14_sheet_67 (by decide) (fun c67 => ?_) (fun c67 => ?_)
          · have hf := ifn c67 hf
            refine lv_iload hx hb dX14_sheet_76 (lv_at hl 5 rfl) ?_
            exact B78 (f_X14_sheet_b46 n) ih r0 x1 x2 x4 x5 x6 x7 x6 s hf _ _ _ (lv_sub hl [0, 1, 2, 3, 4, 5, 6] rfl) hW
          · have hf := ifp c67 hf
            refine lv_iload hx hb dX14_sheet_70 (lv_at hl 5 rfl) ?_
            refine lv_i2s (v := (x6 : Int32).toInt16.toInt32) hx hb dX14_sheet_72 rfl ?_
            refine lv_goto (tgt := 78) hx hb dX14_sheet_73 (by decide) ?_
            exact B78 (f_X14_sheet_b46 n) ih r0 x1 x2 x4 x5 x6 x7 ((x6 : Int32).toInt16.toInt32) s hf _ _ _ (lv_sub hl [0, 1, 2, 3, 4, 5, 6] rfl) hW
        · have hf := ifp c56 hf
          refine lv_iload hx hb dX14_sheet_59 (lv_at hl 5 rfl) ?_
          refine lv_i2b (v := (x6 : Int32).toInt8.toInt32) hx hb dX14_sheet_61 rfl ?_
          refine lv_goto (tgt := 78) hx hb dX14_sheet_62 (by decide) ?_
          exact B78 (f_X14_sheet_b46 n) ih r0 x1 x2 x4 x5 x6 x7 ((x6 : Int32).toInt8.toInt32) s hf _ _ _ (lv_sub hl [0, 1, 2, 3, 4, 5, 6] rfl) hW
  have B37 : ∀ (r0 : Nat) (x1 : Int32) (x2 : Int32) (x3 : Int32) (x4 : Int32) (s : ST), f_X14_sheet_b37 r0 x1 x2 x3 x4 s = some (rv, sf) → ∀ (H : Heap) (locs : List Loc) (ls : Array Slot), lv_has ls 9 [(0, .ref (a r0)), (1, .int x1), (2, .int x2), (3, .int x3), (4, .int x4)] → AW G a A s s0.heap H locs → WB p l e (rmD 1) s0 m args below meth c H locs G A P 37 ls [] := by
    intro r0 x1 x2 x3 x4 s hf H locs ls hl hW
    unfold f_X14_sheet_b37 at hf
    refine lv_iconst (v := 0) hx hb dX14_sheet_37 (by decide) ?_
    refine lv_istore (lv' := [(5, .int 0), (0, .ref (a r0)), (1, .int x1), (2, .int x2), (3, .int x3), (4, .int x4)]) hx hb dX14_sheet_38 hl (by decide) rfl (fun ls hl => ?_)
    refine lv_iload_n hx hb dX14_sheet_40 rfl (lv_at hl 4 rfl) ?_
    refine lv_istore (lv' := [(6, .int x3), (5, .int 0), (0, .ref (a r0)), (1, .int x1), (2, .int x2), (3, .int x3), (4, .int x4)]) hx hb dX14_sheet_41 hl (by decide) rfl (fun ls hl => ?_)
    refine lv_iconst (v := 0) hx hb dX14_sheet_43 (by decide) ?_
    refine lv_istore (lv' := [(7, .int 0), (6, .int x3), (5, .int 0), (0, .ref (a r0)), (1, .int x1), (2, .int x2), (3, .int x3), (4, .int x4)]) hx hb dX14_sheet_44 hl (by decide) rfl (fun ls hl => ?_)
    exact B46 fuel r0 x1 x2 x4 0 x3 0 s hf _ _ _ (lv_sub hl [3, 4, 5, 7, 2, 1, 0] rfl) hW
  unfold f_X14_sheet at hf
  refine lv_aload_n hx hb dX14_sheet_0 rfl (lv_at hl 0 rfl) ?_
  refine lv_iconst (v := 0) hx hb dX14_sheet_1 (by decide) ?_
  obtain ⟨g2, hf⟩ := gd_some hf
  obtain ⟨s2, e2, hf⟩ := bnd_some hf
  refine aw_pI e2 hC hW g2 fl_X14_3 (Or.inl fn_13_0) rfl rfl rfl dX14_sheet_2 (fun H locs hW => ?_)
  have g2 := ko_pI e2 g2
  refine lv_iload_n hx hb dX14_sheet_5 rfl (lv_at hl 1 rfl) ?_
  refine lv_i2l (v := (x1 : Int32).toInt64) hx hb dX14_sheet_6 rfl ?_
  refine lv_lconst (v := 0) hx hb dX14_sheet_7 (by decide) ?_
  refine lv_ldc2 (v := 3) hx hb hC.2.2.2.1 (hts _ q1658) dX14_sheet_8 ?_
  obtain ⟨v11, ev11, hf⟩ := bnd_some hf
  refine aw_dS1 (As := [.long ((x1 : Int32).toInt64), .long 0, .long 3]) (rest := []) (pc_X14_in l G a ((x1 : Int32).toInt64) 0 3 s2) hC hW hl.1 sy_X14_in (Or.inl q1514) rfl rfl (Nat.le_of_ble_eq_true rfl) ⟨Nat.le_of_ble_eq_true rfl, Nat.le_of_ble_eq_true rfl⟩ ⟨Nat.le_of_ble_eq_true rfl, Nat.le_of_ble_eq_true rfl⟩ dX14_sheet_11 (fun H locs hW => ?_)
  refine top_i ev11 ?_
  refine lv_if_eq (tgt := 23) hx hb dX14_sheet_14 (by decide) (fun c14 => ?_) (fun c14 => ?_)
  · have hf := ifp c14 hf
    refine lv_iconst (v := (-1)) hx hb dX14_sheet_23 (by decide) ?_
    obtain ⟨e1, e2⟩ := so_inj hf
    exact aw_iret hC hW hr rfl (p_eq hP (congrArg (fun z => some (Value.int z)) e1) e2) (Nat.le_of_ble_eq_true rfl) (Nat.le_of_ble_eq_true rfl) dX14_sheet_24
  · have hf := ifn c14 hf
    refine lv_iload_n hx hb dX14_sheet_17 rfl (lv_at hl 2 rfl) ?_
    refine lv_bipush (v := 8) hx hb dX14_sheet_18 (by decide) ?_
    refine lv_icmp_le (tgt := 25) hx hb dX14_sheet_20 (by decide) (fun c20 => ?_) (fun c20 => ?_)
    · have hf := ifp c20 hf
      refine lv_iload_n hx hb dX14_sheet_25 rfl (lv_at hl 1 rfl) ?_
      refine lv_iconst (v := 3) hx hb dX14_sheet_26 (by decide) ?_
      refine lv_icmp_eq (tgt := 37) hx hb dX14_sheet_27 (by decide) (fun c27 => ?_) (fun c27 => ?_)
      · have hf := ifp c27 hf
        exact B37 o x1 x2 x3 x4 s2 hf _ _ _ (lv_sub hl [0, 1, 2, 3, 4] rfl) hW
      · have hf := ifn c27 hf
        refine lv_iload_n hx hb dX14_sheet_30 rfl (lv_at hl 2 rfl) ?_
        refine lv_if_ge (tgt := 37) hx hb dX14_sheet_31 (by decide) (fun c31 => ?_) (fun c31 => ?_)
        · have hf := ifp c31 hf
          exact B37 o x1 x2 x3 x4 s2 hf _ _ _ (lv_sub hl [0, 1, 2, 3, 4] rfl) hW
        · have hf := ifn c31 hf
          refine lv_bipush (v := (-2)) hx hb dX14_sheet_34 (by decide) ?_
          obtain ⟨e1, e2⟩ := so_inj hf
          exact aw_iret hC hW hr rfl (p_eq hP (congrArg (fun z => some (Value.int z)) e1) e2) (Nat.le_of_ble_eq_true rfl) (Nat.le_of_ble_eq_true rfl) dX14_sheet_36
    · have hf := ifn c20 hf
      refine lv_iconst (v := (-1)) hx hb dX14_sheet_23 (by decide) ?_
      obtain ⟨e1, e2⟩ := so_inj hf
      exact aw_iret hC hW hr rfl (p_eq hP (congrArg (fun z => some (Value.int z)) e1) e2) (Nat.le_of_ble_eq_true rfl) (Nat.le_of_ble_eq_true rfl) dX14_sheet_24
def f_X14_sign_b18 : Nat → Nat → Int32 → Int32 → ST → Option (Int32 × ST)
  | 0, _, _, _, _ => none
  | n + 1, r0, x1, x2, s =>
  if 4 ≤ x2 then (gd (r0 < s.1 ∧ (kd s r0).1 = 14) <|
  bnd (pI s r0 13 ((gi s r0 13) + 4)) fun s60 =>
  some ((gi s60 r0 13), s60)) else gd (r0 < s.1 ∧ (kd s r0).1 = 14) <|
  (gr s r0 12).bind fun q24 =>
  gd (q24 < s.1 ∧ (kd s q24).1 = 100 ∧ ¬ ((((gi s r0 13) + x2) : Int32) < 0 ∨ (kd s q24).2 ≤ (((gi s r0 13) + x2) : Int32).toNatClampNeg)) <|
  bnd (pI s q24 (((gi s r0 13) + x2) : Int32).toNatClampNeg ((x1 >>> ((24 - (8 * x2)) &&& 31)) &&& 255)) fun s46 =>
  bnd (x2 + 1 : Int32) fun v47 =>
  f_X14_sign_b18 n r0 x1 v47 s46
def f_X14_sign (o : Nat) (x1 : Int32) (s : ST) : Option (Int32 × ST) :=
  gd (o < s.1 ∧ (kd s o).1 = 14) <|
  bnd (pI s o 0 0) fun s2 =>
  if (gi s2 o 13) ≤ 76 then (f_X14_sign_b18 fuel o x1 0 s2) else some ((-1), s2)
set_option maxHeartbeats 4000000 in
theorem ct_X14_sign (l : Launch) (G : GM) (a : Nat → Nat) (o : Nat) (x1 : Int32) (s : ST) (rv : Int32) (sf : ST) (hf : f_X14_sign o x1 s = some (rv, sf)) : MD l G yX14_sign (ws_ yX14_sign cX14_sign 3 (some .int)) 0 [.ref (a o), .int x1] a s (some (.int rv)) sf := by
  refine md_of (d := 0) (lv := [(0, .ref (a o)), (1, .int x1)]) (Or.inl (by decide)) (Nat.le_of_ble_eq_true rfl) rfl ?_
  intro p e s0 m args below meth c ls A P hP hC hr hnm hW hl
  have hx := hC.1
  have hb := hC.2.1
  have hts := hC.2.2.2.2.1
  have B18 : ∀ (n : Nat), ∀ (r0 : Nat) (x1 : Int32) (x2 : Int32) (s : ST), f_X14_sign_b18 n r0 x1 x2 s = some (rv, sf) → ∀ (H : Heap) (locs : List Loc) (ls : Array Slot), lv_has ls 3 [(0, .ref (a r0)), (1, .int x1), (2, .int x2)] → AW G a A s s0.heap H locs → WB p l e (rmD 0) s0 m args below meth c H locs G A P 18 ls [] := by
    intro n
    induction n with
    | zero => intro r0 x1 x2 s hf; cases hf
    | succ n ih =>
      intro r0 x1 x2 s hf H locs ls hl hW
      rw [f_X14_sign_b18] at hf
      refine lv_iload_n hx hb dX14_sign_18 rfl (lv_at hl 2 rfl) ?_
      refine lv_iconst (v := 4) hx hb dX14_sign_19 (by decide) ?_
      refine lv_icmp_ge (tgt := 53) hx hb dX14_sign_20 (by decide) (fun c20 => ?_) (fun c20 => ?_)
      · have hf := ifp c20 hf
        refine lv_aload_n hx hb dX14_sign_53 rfl (lv_at hl 0 rfl) ?_
        refine lv_dup hx hb dX14_sign_54 rfl ?_
        obtain ⟨g55, hf⟩ := gd_some hf
        refine aw_gI hC hW g55 fl_X14_132 rfl dX14_sign_55 ?_
        refine lv_iconst (v := 4) hx hb dX14_sign_58 (by decide) ?_
        refine lv_iadd hx hb dX14_sign_59 ?_
        obtain ⟨s60, e60, hf⟩ := bnd_some hf
        refine aw_pI e60 hC hW g55 fl_X14_132 (Or.inl fn_13_13) rfl rfl rfl dX14_sign_60 (fun H locs hW => ?_)
        have g55 := ko_pI e60 g55
        refine lv_aload_n hx hb dX14_sign_63 rfl (lv_at hl 0 rfl) ?_
        refine aw_gI hC hW g55 fl_X14_132 rfl dX14_sign_64 ?_
        obtain ⟨e1, e2⟩ := so_inj hf
        exact aw_iret hC hW hr rfl (p_eq hP (congrArg (fun z => some (Value.int z)) e1) e2) (Nat.le_of_ble_eq_true rfl) (Nat.le_of_ble_eq_true rfl) dX14_sign_67
      · have hf := ifn c20 hf
        refine lv_aload_n hx hb dX14_sign_23 rfl (lv_at hl 0 rfl) ?_
        obtain ⟨g24, hf⟩ := gd_some hf
        obtain ⟨q24, hq24, hf⟩ := bi_some hf
        refine aw_gR hC hW g24 fl_X14_50 rfl hq24 dX14_sign_24 ?_
        refine lv_aload_n hx hb dX14_sign_27 rfl (lv_at hl 0 rfl) ?_
        refine aw_gI hC hW g24 fl_X14_132 rfl dX14_sign_28 ?_
        refine lv_iload_n hx hb dX14_sign_31 rfl (lv_at hl 2 rfl) ?_
        refine lv_iadd hx hb dX14_sign_32 ?_
        refine lv_iload_n hx hb dX14_sign_33 rfl (lv_at hl 1 rfl) ?_
        refine lv_bipush (v := 24) hx hb dX14_sign_34 (by decide) ?_
        refine lv_bipush (v := 8) hx hb dX14_sign_36 (by decide) ?_
        refine lv_iload_n hx hb dX14_sign_38 rfl (lv_at hl 2 rfl) ?_
        refine lv_imul hx hb dX14_sign_39 ?_
        refine lv_isub hx hb dX14_sign_40 ?_
        refine lv_ishr hx hb dX14_sign_41 ?_
        refine lv_sipush (v := 255) hx hb dX14_sign_42 (by decide) ?_
        refine lv_iand hx hb dX14_sign_45 ?_
        obtain ⟨g46, hf⟩ := gd_some hf
        obtain ⟨s46, e46, hf⟩ := bnd_some hf
        refine aw_iast e46 hC hW g46 dX14_sign_46 (fun H locs hW => ?_)
        have g24 := ko_pI e46 g24
        obtain ⟨v47, ev47, hf⟩ := bnd_some hf
        refine lv_iinc (v := v47) (lv' := [(2, .int v47), (0, .ref (a r0)), (1, .int x1)]) hx hb dX14_sign_47 hl (k := 2) rfl (by rw [ev47]; rfl) (by decide) rfl (fun ls hl => ?_)
        refine lv_goto (tgt := 18) hx hb dX14_sign_50 (by decide) ?_
        exact ih r0 x1 v47 s46 hf _ _ _ (lv_sub hl [1, 2, 0] rfl) hW
  unfold f_X14_sign at hf
  refine lv_aload_n hx hb dX14_sign_0 rfl (lv_at hl 0 rfl) ?_
  refine lv_iconst (v := 0) hx hb dX14_sign_1 (by decide) ?_
  obtain ⟨g2, hf⟩ := gd_some hf
  obtain ⟨s2, e2, hf⟩ := bnd_some hf
  refine aw_pI e2 hC hW g2 fl_X14_3 (Or.inl fn_13_0) rfl rfl rfl dX14_sign_2 (fun H locs hW => ?_)
  have g2 := ko_pI e2 g2
  refine lv_aload_n hx hb dX14_sign_5 rfl (lv_at hl 0 rfl) ?_
  refine aw_gI hC hW g2 fl_X14_132 rfl dX14_sign_6 ?_
  refine lv_bipush (v := 76) hx hb dX14_sign_9 (by decide) ?_
  refine lv_icmp_le (tgt := 16) hx hb dX14_sign_11 (by decide) (fun c11 => ?_) (fun c11 => ?_)
  · have hf := ifp c11 hf
    refine lv_iconst (v := 0) hx hb dX14_sign_16 (by decide) ?_
    refine lv_istore_n (lv' := [(2, .int 0), (0, .ref (a o)), (1, .int x1)]) hx hb dX14_sign_17 rfl hl (by decide) rfl (fun ls hl => ?_)
    exact B18 fuel o x1 0 s2 hf _ _ _ (lv_sub hl [1, 2, 0] rfl) hW
  · have hf := ifn c11 hf
    refine lv_iconst (v := (-1)) hx hb dX14_sign_14 (by decide) ?_
    obtain ⟨e1, e2⟩ := so_inj hf
    exact aw_iret hC hW hr rfl (p_eq hP (congrArg (fun z => some (Value.int z)) e1) e2) (Nat.le_of_ble_eq_true rfl) (Nat.le_of_ble_eq_true rfl) dX14_sign_15
def f_X14_soonest_b35 : Nat → Nat → Int32 → Int32 → ST → Option (Int32 × ST)
  | 0, _, _, _, _ => none
  | n + 1, r0, x1, x2, s =>
  if 99 < x2 then (some ((-2), s)) else gd (r0 < s.1 ∧ (kd s r0).1 = 14) <|
  ob (f_X14_goesBy r0 1 0 s) fun _ s44 =>
  gd (r0 < s44.1 ∧ (kd s44 r0).1 = 14) <|
  (gr s44 r0 11).bind fun q48 =>
  gd (q48 < s44.1 ∧ (kd s44 q48).1 = 100 ∧ ¬ ((17 : Int32) < 0 ∨ (kd s44 q48).2 ≤ (17 : Int32).toNatClampNeg)) <|
  if (gi s44 q48 (17 : Int32).toNatClampNeg) = x1 then (some (x2, s44)) else bnd (x2 + 1 : Int32) fun v60 =>
  f_X14_soonest_b35 n r0 x1 v60 s44
def f_X14_soonest (o : Nat) (x1 : Int32) (s : ST) : Option (Int32 × ST) :=
  gd (o < s.1 ∧ (kd s o).1 = 14) <|
  bnd (pI s o 0 0) fun s2 =>
  ob (f_X14_isPerson o x1 s2) fun v7 s7 =>
  if v7 = 0 then (some ((-1), s7)) else gd (o < s7.1 ∧ (kd s7 o).1 = 14) <|
  (gr s7 o 10).bind fun q16 =>
  gd (q16 < s7.1 ∧ (kd s7 q16).1 = 100 ∧ ¬ ((17 : Int32) < 0 ∨ (kd s7 q16).2 ≤ (17 : Int32).toNatClampNeg)) <|
  if (gi s7 q16 (17 : Int32).toNatClampNeg) = x1 then (some ((-3), s7)) else ob (f_X14_starts o s7) fun _ s30 =>
  f_X14_soonest_b35 fuel o x1 1 s30
set_option maxHeartbeats 4000000 in
theorem ct_X14_soonest (l : Launch) (G : GM) (a : Nat → Nat) (o : Nat) (x1 : Int32) (s : ST) (rv : Int32) (sf : ST) (hf : f_X14_soonest o x1 s = some (rv, sf)) : MD l G yX14_soonest (ws_ yX14_soonest cX14_soonest 3 (some .int)) 6 [.ref (a o), .int x1] a s (some (.int rv)) sf := by
  refine md_of (d := 6) (lv := [(0, .ref (a o)), (1, .int x1)]) (Or.inl (by decide)) (Nat.le_of_ble_eq_true rfl) rfl ?_
  intro p e s0 m args below meth c ls A P hP hC hr hnm hW hl
  have hx := hC.1
  have hb := hC.2.1
  have hts := hC.2.2.2.2.1
  have B35 : ∀ (n : Nat), ∀ (r0 : Nat) (x1 : Int32) (x2 : Int32) (s : ST), f_X14_soonest_b35 n r0 x1 x2 s = some (rv, sf) → ∀ (H : Heap) (locs : List Loc) (ls : Array Slot), lv_has ls 3 [(0, .ref (a r0)), (1, .int x1), (2, .int x2)] → AW G a A s s0.heap H locs → WB p l e (rmD 6) s0 m args below meth c H locs G A P 35 ls [] := by
    intro n
    induction n with
    | zero => intro r0 x1 x2 s hf; cases hf
    | succ n ih =>
      intro r0 x1 x2 s hf H locs ls hl hW
      rw [f_X14_soonest_b35] at hf
      refine lv_iload_n hx hb dX14_soonest_35 rfl (lv_at hl 2 rfl) ?_
      refine lv_bipush (v := 99) hx hb dX14_soonest_36 (by decide) ?_
      refine lv_icmp_gt (tgt := 66) hx hb dX14_soonest_38 (by decide) (fun c38 => ?_) (fun c38 => ?_)
      · have hf := ifp c38 hf
        refine lv_bipush (v := (-2)) hx hb dX14_soonest_66 (by decide) ?_
        obtain ⟨e1, e2⟩ := so_inj hf
        exact aw_iret hC hW hr rfl (p_eq hP (congrArg (fun z => some (Value.int z)) e1) e2) (Nat.le_of_ble_eq_true rfl) (Nat.le_of_ble_eq_true rfl) dX14_soonest_68
      · have hf := ifn c38 hf
        refine lv_aload_n hx hb dX14_soonest_41 rfl (lv_at hl 0 rfl) ?_
        refine lv_iconst (v := 1) hx hb dX14_soonest_42 (by decide) ?_
        refine lv_iconst (v := 0) hx hb dX14_soonest_43 (by decide) ?_
        obtain ⟨g44, hf⟩ := gd_some hf
        obtain ⟨_, s44, h44, hf⟩ := ob_some hf
        refine aw_dV0 (r := r0) (As := [.int 1, .int 0]) (rest := []) (ct_X14_goesBy l G a r0 1 0 s () s44 h44) hC hW hl.1 vy_X14_goesBy (Or.inl q1756) g44 rfl rfl rfl rfl (Nat.le_of_ble_eq_true rfl) ⟨Nat.le_of_ble_eq_true rfl, Nat.le_of_ble_eq_true rfl⟩ ⟨Nat.le_of_ble_eq_true rfl, Nat.le_of_ble_eq_true rfl⟩ dX14_soonest_44 (fun H locs hW => ?_)
        refine lv_aload_n hx hb dX14_soonest_47 rfl (lv_at hl 0 rfl) ?_
        obtain ⟨g48, hf⟩ := gd_some hf
        obtain ⟨q48, hq48, hf⟩ := bi_some hf
        refine aw_gR hC hW g48 fl_X14_47 rfl hq48 dX14_soonest_48 ?_
        refine lv_bipush (v := 17) hx hb dX14_soonest_51 (by decide) ?_
        obtain ⟨g53, hf⟩ := gd_some hf
        refine aw_iald hC hW g53 dX14_soonest_53 ?_
        refine lv_iload_n hx hb dX14_soonest_54 rfl (lv_at hl 1 rfl) ?_
        refine lv_icmp_ne (tgt := 60) hx hb dX14_soonest_55 (by decide) (fun c55 => ?_) (fun c55 => ?_)
        · have hf := ifn c55 hf
          obtain ⟨v60, ev60, hf⟩ := bnd_some hf
          refine lv_iinc (v := v60) (lv' := [(2, .int v60), (0, .ref (a r0)), (1, .int x1)]) hx hb dX14_soonest_60 hl (k := 2) rfl (by rw [ev60]; rfl) (by decide) rfl (fun ls hl => ?_)
          refine lv_goto (tgt := 35) hx hb dX14_soonest_63 (by decide) ?_
          exact ih r0 x1 v60 s44 hf _ _ _ (lv_sub hl [1, 2, 0] rfl) hW
        · have hf := ifp c55 hf
          refine lv_iload_n hx hb dX14_soonest_58 rfl (lv_at hl 2 rfl) ?_
          obtain ⟨e1, e2⟩ := so_inj hf
          exact aw_iret hC hW hr rfl (p_eq hP (congrArg (fun z => some (Value.int z)) e1) e2) (Nat.le_of_ble_eq_true rfl) (Nat.le_of_ble_eq_true rfl) dX14_soonest_59
  unfold f_X14_soonest at hf
  refine lv_aload_n hx hb dX14_soonest_0 rfl (lv_at hl 0 rfl) ?_
  refine lv_iconst (v := 0) hx hb dX14_soonest_1 (by decide) ?_
  obtain ⟨g2, hf⟩ := gd_some hf
  obtain ⟨s2, e2, hf⟩ := bnd_some hf
  refine aw_pI e2 hC hW g2 fl_X14_3 (Or.inl fn_13_0) rfl rfl rfl dX14_soonest_2 (fun H locs hW => ?_)
  have g2 := ko_pI e2 g2
  refine lv_aload_n hx hb dX14_soonest_5 rfl (lv_at hl 0 rfl) ?_
  refine lv_iload_n hx hb dX14_soonest_6 rfl (lv_at hl 1 rfl) ?_
  obtain ⟨v7, s7, h7, hf⟩ := ob_some hf
  refine aw_dV1 (r := o) (As := [.int x1]) (rest := []) (ct_X14_isPerson l G a o x1 s2 v7 s7 h7) hC hW hl.1 vy_X14_isPerson (Or.inl q1594) g2 rfl rfl rfl rfl (Nat.le_of_ble_eq_true rfl) ⟨Nat.le_of_ble_eq_true rfl, Nat.le_of_ble_eq_true rfl⟩ ⟨Nat.le_of_ble_eq_true rfl, Nat.le_of_ble_eq_true rfl⟩ dX14_soonest_7 (fun H locs hW => ?_)
  refine lv_if_ne (tgt := 15) hx hb dX14_soonest_10 (by decide) (fun c10 => ?_) (fun c10 => ?_)
  · have hf := ifn c10 hf
    refine lv_aload_n hx hb dX14_soonest_15 rfl (lv_at hl 0 rfl) ?_
    obtain ⟨g16, hf⟩ := gd_some hf
    obtain ⟨q16, hq16, hf⟩ := bi_some hf
    refine aw_gR hC hW g16 fl_X14_44 rfl hq16 dX14_soonest_16 ?_
    refine lv_bipush (v := 17) hx hb dX14_soonest_19 (by decide) ?_
    obtain ⟨g21, hf⟩ := gd_some hf
    refine aw_iald hC hW g21 dX14_soonest_21 ?_
    refine lv_iload_n hx hb dX14_soonest_22 rfl (lv_at hl 1 rfl) ?_
    refine lv_icmp_ne (tgt := 29) hx hb dX14_soonest_23 (by decide) (fun c23 => ?_) (fun c23 => ?_)
    · have hf := ifn c23 hf
      refine lv_aload_n hx hb dX14_soonest_29 rfl (lv_at hl 0 rfl) ?_
      obtain ⟨_, s30, h30, hf⟩ := ob_some hf
      refine aw_dV0 (r := o) (As := []) (rest := []) (ct_X14_starts l G a o s7 () s30 h30) hC hW hl.1 vy_X14_starts (Or.inl q1749) g16 rfl rfl rfl rfl (Nat.le_of_ble_eq_true rfl) ⟨Nat.le_of_ble_eq_true rfl, Nat.le_of_ble_eq_true rfl⟩ ⟨Nat.le_of_ble_eq_true rfl, Nat.le_of_ble_eq_true rfl⟩ dX14_soonest_30 (fun H locs hW => ?_)
      refine lv_iconst (v := 1) hx hb dX14_soonest_33 (by decide) ?_
      refine lv_istore_n (lv' := [(2, .int 1), (0, .ref (a o)), (1, .int x1)]) hx hb dX14_soonest_34 rfl hl (by decide) rfl (fun ls hl => ?_)
      exact B35 fuel o x1 1 s30 hf _ _ _ (lv_sub hl [1, 2, 0] rfl) hW
    · have hf := ifp c23 hf
      refine lv_bipush (v := (-3)) hx hb dX14_soonest_26 (by decide) ?_
      obtain ⟨e1, e2⟩ := so_inj hf
      exact aw_iret hC hW hr rfl (p_eq hP (congrArg (fun z => some (Value.int z)) e1) e2) (Nat.le_of_ble_eq_true rfl) (Nat.le_of_ble_eq_true rfl) dX14_soonest_28
  · have hf := ifp c10 hf
    refine lv_iconst (v := (-1)) hx hb dX14_soonest_13 (by decide) ?_
    obtain ⟨e1, e2⟩ := so_inj hf
    exact aw_iret hC hW hr rfl (p_eq hP (congrArg (fun z => some (Value.int z)) e1) e2) (Nat.le_of_ble_eq_true rfl) (Nat.le_of_ble_eq_true rfl) dX14_soonest_14
def f_X14_span (o : Nat) (x1 : Int32) (s : ST) : Option (Int32 × ST) :=
  gd (o < s.1 ∧ (kd s o).1 = 14) <|
  bnd (pI s o 0 0) fun s2 =>
  ob (f_X14_isPerson o x1 s2) fun v7 s7 =>
  if v7 = 0 then (some ((-1), s7)) else gd (o < s7.1 ∧ (kd s7 o).1 = 14) <|
  ob (f_X14_weightsOf o x1 1 s7) fun v16 s16 =>
  some (v16, s16)
set_option maxHeartbeats 4000000 in
theorem ct_X14_span (l : Launch) (G : GM) (a : Nat → Nat) (o : Nat) (x1 : Int32) (s : ST) (rv : Int32) (sf : ST) (hf : f_X14_span o x1 s = some (rv, sf)) : MD l G yX14_span (ws_ yX14_span cX14_span 2 (some .int)) 4 [.ref (a o), .int x1] a s (some (.int rv)) sf := by
  refine md_of (d := 4) (lv := [(0, .ref (a o)), (1, .int x1)]) (Or.inl (by decide)) (Nat.le_of_ble_eq_true rfl) rfl ?_
  intro p e s0 m args below meth c ls A P hP hC hr hnm hW hl
  have hx := hC.1
  have hb := hC.2.1
  have hts := hC.2.2.2.2.1
  unfold f_X14_span at hf
  refine lv_aload_n hx hb dX14_span_0 rfl (lv_at hl 0 rfl) ?_
  refine lv_iconst (v := 0) hx hb dX14_span_1 (by decide) ?_
  obtain ⟨g2, hf⟩ := gd_some hf
  obtain ⟨s2, e2, hf⟩ := bnd_some hf
  refine aw_pI e2 hC hW g2 fl_X14_3 (Or.inl fn_13_0) rfl rfl rfl dX14_span_2 (fun H locs hW => ?_)
  have g2 := ko_pI e2 g2
  refine lv_aload_n hx hb dX14_span_5 rfl (lv_at hl 0 rfl) ?_
  refine lv_iload_n hx hb dX14_span_6 rfl (lv_at hl 1 rfl) ?_
  obtain ⟨v7, s7, h7, hf⟩ := ob_some hf
  refine aw_dV1 (r := o) (As := [.int x1]) (rest := []) (ct_X14_isPerson l G a o x1 s2 v7 s7 h7) hC hW hl.1 vy_X14_isPerson (Or.inl q1594) g2 rfl rfl rfl rfl (Nat.le_of_ble_eq_true rfl) ⟨Nat.le_of_ble_eq_true rfl, Nat.le_of_ble_eq_true rfl⟩ ⟨Nat.le_of_ble_eq_true rfl, Nat.le_of_ble_eq_true rfl⟩ dX14_span_7 (fun H locs hW => ?_)
  refine lv_if_eq (tgt := 22) hx hb dX14_span_10 (by decide) (fun c10 => ?_) (fun c10 => ?_)
  · have hf := ifp c10 hf
    refine lv_iconst (v := (-1)) hx hb dX14_span_22 (by decide) ?_
    obtain ⟨e1, e2⟩ := so_inj hf
    exact aw_iret hC hW hr rfl (p_eq hP (congrArg (fun z => some (Value.int z)) e1) e2) (Nat.le_of_ble_eq_true rfl) (Nat.le_of_ble_eq_true rfl) dX14_span_23
  · have hf := ifn c10 hf
    refine lv_aload_n hx hb dX14_span_13 rfl (lv_at hl 0 rfl) ?_
    refine lv_iload_n hx hb dX14_span_14 rfl (lv_at hl 1 rfl) ?_
    refine lv_iconst (v := 1) hx hb dX14_span_15 (by decide) ?_
    obtain ⟨g16, hf⟩ := gd_some hf
    obtain ⟨v16, s16, h16, hf⟩ := ob_some hf
    refine aw_dV1 (r := o) (As := [.int x1, .int 1]) (rest := []) (ct_X14_weightsOf l G a o x1 1 s7 v16 s16 h16) hC hW hl.1 vy_X14_weightsOf (Or.inl q1850) g16 rfl rfl rfl rfl (Nat.le_of_ble_eq_true rfl) ⟨Nat.le_of_ble_eq_true rfl, Nat.le_of_ble_eq_true rfl⟩ ⟨Nat.le_of_ble_eq_true rfl, Nat.le_of_ble_eq_true rfl⟩ dX14_span_16 (fun H locs hW => ?_)
    refine lv_goto (tgt := 23) hx hb dX14_span_19 (by decide) ?_
    obtain ⟨e1, e2⟩ := so_inj hf
    exact aw_iret hC hW hr rfl (p_eq hP (congrArg (fun z => some (Value.int z)) e1) e2) (Nat.le_of_ble_eq_true rfl) (Nat.le_of_ble_eq_true rfl) dX14_span_23
def f_X14_stand_b74 (r0 : Nat) (t0 : Int32) (w1 : Nat) (s : ST) : Option (Int32 × ST) :=
  bnd (p_flag t0) fun v74 =>
  gd (w1 < s.1 ∧ (kd s w1).1 = 14) <|
  ob (f_X14_enters w1 ((v74 : Int32).toInt64) s) fun _ s78 =>
  gd (r0 < s78.1 ∧ (kd s78 r0).1 = 14) <|
  ob (f_X14_enters r0 (((gi s78 r0 27) : Int32).toInt64) s78) fun _ s87 =>
  gd (r0 < s87.1 ∧ (kd s87 r0).1 = 14) <|
  (gr s87 r0 10).bind fun q91 =>
  gd (q91 < s87.1 ∧ (kd s87 q91).1 = 100 ∧ ¬ ((17 : Int32) < 0 ∨ (kd s87 q91).2 ≤ (17 : Int32).toNatClampNeg)) <|
  some ((gi s87 q91 (17 : Int32).toNatClampNeg), s87)
def f_X14_stand (o : Nat) (x1 : Int32) (s : ST) : Option (Int32 × ST) :=
  gd (o < s.1 ∧ (kd s o).1 = 14) <|
  bnd (pI s o 0 0) fun s2 =>
  bnd (p_in ((x1 : Int32).toInt64) 0 ((((1 <<< ((gi s2 o 3) &&& 31)) - 1) : Int32).toInt64)) fun v17 =>
  if v17 = 0 then (some ((-2), s2)) else ob (f_X14_putsBy o s2) fun _ s27 =>
  gd (o < s27.1 ∧ (kd s27 o).1 = 14) <|
  (gr s27 o 10).bind fun q31 =>
  gd (q31 < s27.1 ∧ (kd s27 q31).1 = 100 ∧ ¬ ((17 : Int32) < 0 ∨ (kd s27 q31).2 ≤ (17 : Int32).toNatClampNeg)) <|
  bnd ((gi s27 q31 (17 : Int32).toNatClampNeg) : Int32) fun v37 =>
  bnd (pI s27 o 27 0) fun s40 =>
  (gr s40 o 10).bind fun q45 =>
  ob (f_X14_goes o q45 x1 s40) fun _ s49 =>
  gd (o < s49.1 ∧ (kd s49 o).1 = 14) <|
  bnd (pI s49 o 1 0) fun s54 =>
  (gr s54 o 10).bind fun q59 =>
  gd (q59 < s54.1 ∧ (kd s54 q59).1 = 100 ∧ ¬ ((17 : Int32) < 0 ∨ (kd s54 q59).2 ≤ (17 : Int32).toNatClampNeg)) <|
  if (gi s54 q59 (17 : Int32).toNatClampNeg) = v37 then (f_X14_stand_b74 o 0 o s54) else f_X14_stand_b74 o 1 o s54
set_option maxHeartbeats 4000000 in
theorem ct_X14_stand (l : Launch) (G : GM) (a : Nat → Nat) (o : Nat) (x1 : Int32) (s : ST) (rv : Int32) (sf : ST) (hf : f_X14_stand o x1 s = some (rv, sf)) : MD l G yX14_stand (ws_ yX14_stand cX14_stand 3 (some .int)) 3 [.ref (a o), .int x1] a s (some (.int rv)) sf := by
  refine md_of (d := 3) (lv := [(0, .ref (a o)), (1, .int x1)]) (Or.inl (by decide)) (Nat.le_of_ble_eq_true rfl) rfl ?_
  intro p e s0 m args below meth c ls A P hP hC hr hnm hW hl
  have hx := hC.1
  have hb := hC.2.1
  have hts := hC.2.2.2.2.1
  have B74 : ∀ (r0 : Nat) (t0 : Int32) (w1 : Nat) (s : ST), f_X14_stand_b74 r0 t0 w1 s = some (rv, sf) → ∀ (H : Heap) (locs : List Loc) (ls : Array Slot), lv_has ls 3 [(0, .ref (a r0))] → AW G a A s s0.heap H locs → WB p l e (rmD 3) s0 m args below meth c H locs G A P 74 ls [.int t0, .ref (a w1)] := by
    intro r0 t0 w1 s hf H locs ls hl hW
    unfold f_X14_stand_b74 at hf
    obtain ⟨v74, ev74, hf⟩ := bnd_some hf
    refine aw_dS1 (As := [.int t0]) (rest := [.ref (a w1)]) (pc_X14_flag l G a t0 s) hC hW hl.1 sy_X14_flag (Or.inl q1544) rfl rfl (Nat.le_of_ble_eq_true rfl) ⟨Nat.le_of_ble_eq_true rfl, Nat.le_of_ble_eq_true rfl⟩ ⟨Nat.le_of_ble_eq_true rfl, Nat.le_of_ble_eq_true rfl⟩ dX14_stand_74 (fun H locs hW => ?_)
    refine top_i ev74 ?_
    refine lv_i2l (v := (v74 : Int32).toInt64) hx hb dX14_stand_77 rfl ?_
    obtain ⟨g78, hf⟩ := gd_some hf
    obtain ⟨_, s78, h78, hf⟩ := ob_some hf
    refine aw_dV0 (r := w1) (As := [.long ((v74 : Int32).toInt64)]) (rest := []) (ct_X14_enters l G a w1 ((v74 : Int32).toInt64) s () s78 h78) hC hW hl.1 vy_X14_enters (Or.inl q1689) g78 rfl rfl rfl rfl (Nat.le_of_ble_eq_true rfl) ⟨Nat.le_of_ble_eq_true rfl, Nat.le_of_ble_eq_true rfl⟩ ⟨Nat.le_of_ble_eq_true rfl, Nat.le_of_ble_eq_true rfl⟩ dX14_stand_78 (fun H locs hW => ?_)
    refine lv_aload_n hx hb dX14_stand_81 rfl (lv_at hl 0 rfl) ?_
    refine lv_aload_n hx hb dX14_stand_82 rfl (lv_at hl 0 rfl) ?_
    obtain ⟨g83, hf⟩ := gd_some hf
    refine aw_gI hC hW g83 fl_X14_273 rfl dX14_stand_83 ?_
    refine lv_i2l (v := ((gi s78 r0 27) : Int32).toInt64) hx hb dX14_stand_86 rfl ?_
    obtain ⟨_, s87, h87, hf⟩ := ob_some hf
    refine aw_dV0 (r := r0) (As := [.long (((gi s78 r0 27) : Int32).toInt64)]) (rest := []) (ct_X14_enters l G a r0 (((gi s78 r0 27) : Int32).toInt64) s78 () s87 h87) hC hW hl.1 vy_X14_enters (Or.inl q1689) g83 rfl rfl rfl rfl (Nat.le_of_ble_eq_true rfl) ⟨Nat.le_of_ble_eq_true rfl, Nat.le_of_ble_eq_true rfl⟩ ⟨Nat.le_of_ble_eq_true rfl, Nat.le_of_ble_eq_true rfl⟩ dX14_stand_87 (fun H locs hW => ?_)
    refine lv_aload_n hx hb dX14_stand_90 rfl (lv_at hl 0 rfl) ?_
    obtain ⟨g91, hf⟩ := gd_some hf
    obtain ⟨q91, hq91, hf⟩ := bi_some hf
    refine aw_gR hC hW g91 fl_X14_44 rfl hq91 dX14_stand_91 ?_
    refine lv_bipush (v := 17) hx hb dX14_stand_94 (by decide) ?_
    obtain ⟨g96, hf⟩ := gd_some hf
    refine aw_iald hC hW g96 dX14_stand_96 ?_
    obtain ⟨e1, e2⟩ := so_inj hf
    exact aw_iret hC hW hr rfl (p_eq hP (congrArg (fun z => some (Value.int z)) e1) e2) (Nat.le_of_ble_eq_true rfl) (Nat.le_of_ble_eq_true rfl) dX14_stand_97
  unfold f_X14_stand at hf
  refine lv_aload_n hx hb dX14_stand_0 rfl (lv_at hl 0 rfl) ?_
  refine lv_iconst (v := 0) hx hb dX14_stand_1 (by decide) ?_
  obtain ⟨g2, hf⟩ := gd_some hf
  obtain ⟨s2, e2, hf⟩ := bnd_some hf
  refine aw_pI e2 hC hW g2 fl_X14_3 (Or.inl fn_13_0) rfl rfl rfl dX14_stand_2 (fun H locs hW => ?_)
  have g2 := ko_pI e2 g2
  refine lv_iload_n hx hb dX14_stand_5 rfl (lv_at hl 1 rfl) ?_
  refine lv_i2l (v := (x1 : Int32).toInt64) hx hb dX14_stand_6 rfl ?_
  refine lv_lconst (v := 0) hx hb dX14_stand_7 (by decide) ?_
  refine lv_iconst (v := 1) hx hb dX14_stand_8 (by decide) ?_
  refine lv_aload_n hx hb dX14_stand_9 rfl (lv_at hl 0 rfl) ?_
  refine aw_gI hC hW g2 fl_X14_117 rfl dX14_stand_10 ?_
  refine lv_ishl hx hb dX14_stand_13 ?_
  refine lv_iconst (v := 1) hx hb dX14_stand_14 (by decide) ?_
  refine lv_isub hx hb dX14_stand_15 ?_
  refine lv_i2l (v := (((1 <<< ((gi s2 o 3) &&& 31)) - 1) : Int32).toInt64) hx hb dX14_stand_16 rfl ?_
  obtain ⟨v17, ev17, hf⟩ := bnd_some hf
  refine aw_dS1 (As := [.long ((x1 : Int32).toInt64), .long 0, .long ((((1 <<< ((gi s2 o 3) &&& 31)) - 1) : Int32).toInt64)]) (rest := []) (pc_X14_in l G a ((x1 : Int32).toInt64) 0 ((((1 <<< ((gi s2 o 3) &&& 31)) - 1) : Int32).toInt64) s2) hC hW hl.1 sy_X14_in (Or.inl q1514) rfl rfl (Nat.le_of_ble_eq_true rfl) ⟨Nat.le_of_ble_eq_true rfl, Nat.le_of_ble_eq_true rfl⟩ ⟨Nat.le_of_ble_eq_true rfl, Nat.le_of_ble_eq_true rfl⟩ dX14_stand_17 (fun H locs hW => ?_)
  refine top_i ev17 ?_
  refine lv_if_ne (tgt := 26) hx hb dX14_stand_20 (by decide) (fun c20 => ?_) (fun c20 => ?_)
  · have hf := ifn c20 hf
    refine lv_aload_n hx hb dX14_stand_26 rfl (lv_at hl 0 rfl) ?_
    obtain ⟨_, s27, h27, hf⟩ := ob_some hf
    refine aw_dV0 (r := o) (As := []) (rest := []) (ct_X14_putsBy l G a o s2 () s27 h27) hC hW hl.1 vy_X14_putsBy (Or.inl q1677) g2 rfl rfl rfl rfl (Nat.le_of_ble_eq_true rfl) ⟨Nat.le_of_ble_eq_true rfl, Nat.le_of_ble_eq_true rfl⟩ ⟨Nat.le_of_ble_eq_true rfl, Nat.le_of_ble_eq_true rfl⟩ dX14_stand_27 (fun H locs hW => ?_)
    refine lv_aload_n hx hb dX14_stand_30 rfl (lv_at hl 0 rfl) ?_
    obtain ⟨g31, hf⟩ := gd_some hf
    obtain ⟨q31, hq31, hf⟩ := bi_some hf
    refine aw_gR hC hW g31 fl_X14_44 rfl hq31 dX14_stand_31 ?_
    refine lv_bipush (v := 17) hx hb dX14_stand_34 (by decide) ?_
    obtain ⟨g36, hf⟩ := gd_some hf
    refine aw_iald hC hW g36 dX14_stand_36 ?_
    obtain ⟨v37, ev37, hf⟩ := bnd_some hf
    refine top_i ev37 ?_
    refine lv_istore_n (lv' := [(2, .int v37), (0, .ref (a o)), (1, .int x1)]) hx hb dX14_stand_37 rfl hl (by decide) rfl (fun ls hl => ?_)
    refine lv_aload_n hx hb dX14_stand_38 rfl (lv_at hl 1 rfl) ?_
    refine lv_iconst (v := 0) hx hb dX14_stand_39 (by decide) ?_
    obtain ⟨s40, e40, hf⟩ := bnd_some hf
    refine aw_pI e40 hC hW g31 fl_X14_273 (Or.inl fn_13_27) rfl rfl rfl dX14_stand_40 (fun H locs hW => ?_)
    have g31 := ko_pI e40 g31
    refine lv_aload_n hx hb dX14_stand_43 rfl (lv_at hl 1 rfl) ?_
    refine lv_aload_n hx hb dX14_stand_44 rfl (lv_at hl 1 rfl) ?_
    obtain ⟨q45, hq45, hf⟩ := bi_some hf
    refine aw_gR hC hW g31 fl_X14_44 rfl hq45 dX14_stand_45 ?_
    refine lv_iload_n hx hb dX14_stand_48 rfl (lv_at hl 2 rfl) ?_
    obtain ⟨_, s49, h49, hf⟩ := ob_some hf
    refine aw_dV0 (r := o) (As := [.ref (a q45), .int x1]) (rest := []) (ct_X14_goes l G a o q45 x1 s40 () s49 h49) hC hW hl.1 vy_X14_goes (Or.inl q1681) g31 rfl rfl rfl rfl (Nat.le_of_ble_eq_true rfl) ⟨Nat.le_of_ble_eq_true rfl, Nat.le_of_ble_eq_true rfl⟩ ⟨Nat.le_of_ble_eq_true rfl, Nat.le_of_ble_eq_true rfl⟩ dX14_stand_49 (fun H locs hW => ?_)
    refine lv_aload_n hx hb dX14_stand_52 rfl (lv_at hl 1 rfl) ?_
    refine lv_iconst (v := 0) hx hb dX14_stand_53 (by decide) ?_
    obtain ⟨g54, hf⟩ := gd_some hf
    obtain ⟨s54, e54, hf⟩ := bnd_some hf
    refine aw_pI e54 hC hW g54 fl_X14_15 (Or.inl fn_13_1) rfl rfl rfl dX14_stand_54 (fun H locs hW => ?_)
    have g54 := ko_pI e54 g54
    refine lv_aload_n hx hb dX14_stand_57 rfl (lv_at hl 1 rfl) ?_
    refine lv_aload_n hx hb dX14_stand_58 rfl (lv_at hl 1 rfl) ?_
    obtain ⟨q59, hq59, hf⟩ := bi_some hf
    refine aw_gR hC hW g54 fl_X14_44 rfl hq59 dX14_stand_59 ?_
    refine lv_bipush (v := 17) hx hb dX14_stand_62 (by decide) ?_
    obtain ⟨g64, hf⟩ := gd_some hf
    refine aw_iald hC hW g64 dX14_stand_64 ?_
    refine lv_iload_n hx hb dX14_stand_65 rfl (lv_at hl 0 rfl) ?_
    refine lv_icmp_eq (tgt := 73) hx hb dX14_stand_66 (by decide) (fun c66 => ?_) (fun c66 => ?_)
    · have hf := ifp c66 hf
      refine lv_iconst (v := 0) hx hb dX14_stand_73 (by decide) ?_
      exact B74 o 0 o s54 hf _ _ _ (lv_sub hl [1] rfl) hW
    · have hf := ifn c66 hf
      refine lv_iconst (v := 1) hx hb dX14_stand_69 (by decide) ?_
      refine lv_goto (tgt := 74) hx hb dX14_stand_70 (by decide) ?_
      exact B74 o 1 o s54 hf _ _ _ (lv_sub hl [1] rfl) hW
  · have hf := ifp c20 hf
    refine lv_bipush (v := (-2)) hx hb dX14_stand_23 (by decide) ?_
    obtain ⟨e1, e2⟩ := so_inj hf
    exact aw_iret hC hW hr rfl (p_eq hP (congrArg (fun z => some (Value.int z)) e1) e2) (Nat.le_of_ble_eq_true rfl) (Nat.le_of_ble_eq_true rfl) dX14_stand_25
def f_X14_starve_b24 : Nat → Nat → Int32 → Int32 → Int32 → ST → Option (Int32 × ST)
  | 0, _, _, _, _, _ => none
  | n + 1, r0, x1, x2, x3, s =>
  if 999 < x3 then (some ((-2), s)) else gd (r0 < s.1 ∧ (kd s r0).1 = 14) <|
  ob (f_X14_startsWith r0 x1 (-x3) s) fun _ s35 =>
  gd (r0 < s35.1 ∧ (kd s35 r0).1 = 14) <|
  ob (f_X14_goesBy r0 x2 0 s35) fun _ s41 =>
  gd (r0 < s41.1 ∧ (kd s41 r0).1 = 14) <|
  (gr s41 r0 32).bind fun q45 =>
  gd (q45 < s41.1 ∧ (kd s41 q45).1 = 100 ∧ ¬ ((x1 : Int32) < 0 ∨ (kd s41 q45).2 ≤ (x1 : Int32).toNatClampNeg)) <|
  if (gi s41 q45 (x1 : Int32).toNatClampNeg) = 0 then (some (x3, s41)) else bnd (x3 + 1 : Int32) fun v55 =>
  f_X14_starve_b24 n r0 x1 x2 v55 s41
def f_X14_starve (o : Nat) (x1 : Int32) (x2 : Int32) (s : ST) : Option (Int32 × ST) :=
  gd (o < s.1 ∧ (kd s o).1 = 14) <|
  bnd (pI s o 0 0) fun s2 =>
  ob (f_X14_isAlive o x1 s2) fun v7 s7 =>
  if v7 = 0 then (some ((-1), s7)) else ob (f_X14_areSixty x2 s7) fun v14 s14 =>
  if v14 = 0 then (some ((-1), s14)) else f_X14_starve_b24 fuel o x1 x2 0 s14
set_option maxHeartbeats 4000000 in
theorem ct_X14_starve (l : Launch) (G : GM) (a : Nat → Nat) (o : Nat) (x1 : Int32) (x2 : Int32) (s : ST) (rv : Int32) (sf : ST) (hf : f_X14_starve o x1 x2 s = some (rv, sf)) : MD l G yX14_starve (ws_ yX14_starve cX14_starve 4 (some .int)) 6 [.ref (a o), .int x1, .int x2] a s (some (.int rv)) sf := by
  refine md_of (d := 6) (lv := [(0, .ref (a o)), (1, .int x1), (2, .int x2)]) (Or.inl (by decide)) (Nat.le_of_ble_eq_true rfl) rfl ?_
  intro p e s0 m args below meth c ls A P hP hC hr hnm hW hl
  have hx := hC.1
  have hb := hC.2.1
  have hts := hC.2.2.2.2.1
  have B24 : ∀ (n : Nat), ∀ (r0 : Nat) (x1 : Int32) (x2 : Int32) (x3 : Int32) (s : ST), f_X14_starve_b24 n r0 x1 x2 x3 s = some (rv, sf) → ∀ (H : Heap) (locs : List Loc) (ls : Array Slot), lv_has ls 4 [(0, .ref (a r0)), (1, .int x1), (2, .int x2), (3, .int x3)] → AW G a A s s0.heap H locs → WB p l e (rmD 6) s0 m args below meth c H locs G A P 24 ls [] := by
    intro n
    induction n with
    | zero => intro r0 x1 x2 x3 s hf; cases hf
    | succ n ih =>
      intro r0 x1 x2 x3 s hf H locs ls hl hW
      rw [f_X14_starve_b24] at hf
      refine lv_iload_n hx hb dX14_starve_24 rfl (lv_at hl 3 rfl) ?_
      refine lv_sipush (v := 999) hx hb dX14_starve_25 (by decide) ?_
      refine lv_icmp_gt (tgt := 61) hx hb dX14_starve_28 (by decide) (fun c28 => ?_) (fun c28 => ?_)
      · have hf := ifp c28 hf
        refine lv_bipush (v := (-2)) hx hb dX14_starve_61 (by decide) ?_
        obtain ⟨e1, e2⟩ := so_inj hf
        exact aw_iret hC hW hr rfl (p_eq hP (congrArg (fun z => some (Value.int z)) e1) e2) (Nat.le_of_ble_eq_true rfl) (Nat.le_of_ble_eq_true rfl) dX14_starve_63
      · have hf := ifn c28 hf
        refine lv_aload_n hx hb dX14_starve_31 rfl (lv_at hl 0 rfl) ?_
        refine lv_iload_n hx hb dX14_starve_32 rfl (lv_at hl 1 rfl) ?_
        refine lv_iload_n hx hb dX14_starve_33 rfl (lv_at hl 3 rfl) ?_
        refine lv_ineg hx hb dX14_starve_34 ?_
        obtain ⟨g35, hf⟩ := gd_some hf
        obtain ⟨_, s35, h35, hf⟩ := ob_some hf
        refine aw_dV0 (r := r0) (As := [.int x1, .int (-x3)]) (rest := []) (ct_X14_startsWith l G a r0 x1 (-x3) s () s35 h35) hC hW hl.1 vy_X14_startsWith (Or.inl q1821) g35 rfl rfl rfl rfl (Nat.le_of_ble_eq_true rfl) ⟨Nat.le_of_ble_eq_true rfl, Nat.le_of_ble_eq_true rfl⟩ ⟨Nat.le_of_ble_eq_true rfl, Nat.le_of_ble_eq_true rfl⟩ dX14_starve_35 (fun H locs hW => ?_)
        refine lv_aload_n hx hb dX14_starve_38 rfl (lv_at hl 0 rfl) ?_
        refine lv_iload_n hx hb dX14_starve_39 rfl (lv_at hl 2 rfl) ?_
        refine lv_iconst (v := 0) hx hb dX14_starve_40 (by decide) ?_
        obtain ⟨g41, hf⟩ := gd_some hf
        obtain ⟨_, s41, h41, hf⟩ := ob_some hf
        refine aw_dV0 (r := r0) (As := [.int x2, .int 0]) (rest := []) (ct_X14_goesBy l G a r0 x2 0 s35 () s41 h41) hC hW hl.1 vy_X14_goesBy (Or.inl q1756) g41 rfl rfl rfl rfl (Nat.le_of_ble_eq_true rfl) ⟨Nat.le_of_ble_eq_true rfl, Nat.le_of_ble_eq_true rfl⟩ ⟨Nat.le_of_ble_eq_true rfl, Nat.le_of_ble_eq_true rfl⟩ dX14_starve_41 (fun H locs hW => ?_)
        refine lv_aload_n hx hb dX14_starve_44 rfl (lv_at hl 0 rfl) ?_
        obtain ⟨g45, hf⟩ := gd_some hf
        obtain ⟨q45, hq45, hf⟩ := bi_some hf
        refine aw_gR hC hW g45 fl_X14_80 rfl hq45 dX14_starve_45 ?_
        refine lv_iload_n hx hb dX14_starve_48 rfl (lv_at hl 1 rfl) ?_
        obtain ⟨g49, hf⟩ := gd_some hf
        refine aw_iald hC hW g49 dX14_starve_49 ?_
        refine lv_if_ne (tgt := 55) hx hb dX14_starve_50 (by decide) (fun c50 => ?_) (fun c50 => ?_)
        · have hf := ifn c50 hf
          obtain ⟨v55, ev55, hf⟩ := bnd_some hf
          refine lv_iinc (v := v55) (lv' := [(3, .int v55), (0, .ref (a r0)), (1, .int x1), (2, .int x2)]) hx hb dX14_starve_55 hl (k := 3) rfl (by rw [ev55]; rfl) (by decide) rfl (fun ls hl => ?_)
          refine lv_goto (tgt := 24) hx hb dX14_starve_58 (by decide) ?_
          exact ih r0 x1 x2 v55 s41 hf _ _ _ (lv_sub hl [1, 2, 3, 0] rfl) hW
        · have hf := ifp c50 hf
          refine lv_iload_n hx hb dX14_starve_53 rfl (lv_at hl 3 rfl) ?_
          obtain ⟨e1, e2⟩ := so_inj hf
          exact aw_iret hC hW hr rfl (p_eq hP (congrArg (fun z => some (Value.int z)) e1) e2) (Nat.le_of_ble_eq_true rfl) (Nat.le_of_ble_eq_true rfl) dX14_starve_54
  unfold f_X14_starve at hf
  refine lv_aload_n hx hb dX14_starve_0 rfl (lv_at hl 0 rfl) ?_
  refine lv_iconst (v := 0) hx hb dX14_starve_1 (by decide) ?_
  obtain ⟨g2, hf⟩ := gd_some hf
  obtain ⟨s2, e2, hf⟩ := bnd_some hf
  refine aw_pI e2 hC hW g2 fl_X14_3 (Or.inl fn_13_0) rfl rfl rfl dX14_starve_2 (fun H locs hW => ?_)
  have g2 := ko_pI e2 g2
  refine lv_aload_n hx hb dX14_starve_5 rfl (lv_at hl 0 rfl) ?_
  refine lv_iload_n hx hb dX14_starve_6 rfl (lv_at hl 1 rfl) ?_
  obtain ⟨v7, s7, h7, hf⟩ := ob_some hf
  refine aw_dV1 (r := o) (As := [.int x1]) (rest := []) (ct_X14_isAlive l G a o x1 s2 v7 s7 h7) hC hW hl.1 vy_X14_isAlive (Or.inl q1722) g2 rfl rfl rfl rfl (Nat.le_of_ble_eq_true rfl) ⟨Nat.le_of_ble_eq_true rfl, Nat.le_of_ble_eq_true rfl⟩ ⟨Nat.le_of_ble_eq_true rfl, Nat.le_of_ble_eq_true rfl⟩ dX14_starve_7 (fun H locs hW => ?_)
  refine lv_if_eq (tgt := 20) hx hb dX14_starve_10 (by decide) (fun c10 => ?_) (fun c10 => ?_)
  · have hf := ifp c10 hf
    refine lv_iconst (v := (-1)) hx hb dX14_starve_20 (by decide) ?_
    obtain ⟨e1, e2⟩ := so_inj hf
    exact aw_iret hC hW hr rfl (p_eq hP (congrArg (fun z => some (Value.int z)) e1) e2) (Nat.le_of_ble_eq_true rfl) (Nat.le_of_ble_eq_true rfl) dX14_starve_21
  · have hf := ifn c10 hf
    refine lv_iload_n hx hb dX14_starve_13 rfl (lv_at hl 2 rfl) ?_
    obtain ⟨v14, s14, h14, hf⟩ := ob_some hf
    refine aw_dS1 (As := [.int x2]) (rest := []) (ct_X14_areSixty l G a x2 s7 v14 s14 h14) hC hW hl.1 sy_X14_areSixty (Or.inl q1817) rfl rfl (Nat.le_of_ble_eq_true rfl) ⟨Nat.le_of_ble_eq_true rfl, Nat.le_of_ble_eq_true rfl⟩ ⟨Nat.le_of_ble_eq_true rfl, Nat.le_of_ble_eq_true rfl⟩ dX14_starve_14 (fun H locs hW => ?_)
    refine lv_if_ne (tgt := 22) hx hb dX14_starve_17 (by decide) (fun c17 => ?_) (fun c17 => ?_)
    · have hf := ifn c17 hf
      refine lv_iconst (v := 0) hx hb dX14_starve_22 (by decide) ?_
      refine lv_istore_n (lv' := [(3, .int 0), (0, .ref (a o)), (1, .int x1), (2, .int x2)]) hx hb dX14_starve_23 rfl hl (by decide) rfl (fun ls hl => ?_)
      exact B24 fuel o x1 x2 0 s14 hf _ _ _ (lv_sub hl [1, 2, 3, 0] rfl) hW
    · have hf := ifp c17 hf
      refine lv_iconst (v := (-1)) hx hb dX14_starve_20 (by decide) ?_
      obtain ⟨e1, e2⟩ := so_inj hf
      exact aw_iret hC hW hr rfl (p_eq hP (congrArg (fun z => some (Value.int z)) e1) e2) (Nat.le_of_ble_eq_true rfl) (Nat.le_of_ble_eq_true rfl) dX14_starve_21
def f_X14_then_b32 : Nat → Nat → Int32 → ST → Option (Int32 × ST)
  | 0, _, _, _ => none
  | n + 1, r0, x2, s =>
  gd (r0 < s.1 ∧ (kd s r0).1 = 14) <|
  if (gi s r0 3) ≤ x2 then ((gr s r0 11).bind fun q58 =>
  gd (q58 < s.1 ∧ (kd s q58).1 = 100 ∧ ¬ ((17 : Int32) < 0 ∨ (kd s q58).2 ≤ (17 : Int32).toNatClampNeg)) <|
  some ((gi s q58 (17 : Int32).toNatClampNeg), s)) else (gr s r0 32).bind fun q42 =>
  gd (q42 < s.1 ∧ (kd s q42).1 = 100 ∧ ¬ ((x2 : Int32) < 0 ∨ (kd s q42).2 ≤ (x2 : Int32).toNatClampNeg)) <|
  ob (f_X14_enters r0 (((gi s q42 (x2 : Int32).toNatClampNeg) : Int32).toInt64) s) fun _ s48 =>
  bnd (x2 + 1 : Int32) fun v51 =>
  f_X14_then_b32 n r0 v51 s48
def f_X14_then (o : Nat) (x1 : Int32) (s : ST) : Option (Int32 × ST) :=
  gd (o < s.1 ∧ (kd s o).1 = 14) <|
  bnd (pI s o 0 0) fun s2 =>
  ob (f_X14_areWeeks x1 s2) fun v6 s6 =>
  if v6 = 0 then (some ((-2), s6)) else gd (o < s6.1 ∧ (kd s6 o).1 = 14) <|
  ob (f_X14_starts o s6) fun _ s16 =>
  gd (o < s16.1 ∧ (kd s16 o).1 = 14) <|
  ob (f_X14_goesBy o x1 0 s16) fun _ s22 =>
  gd (o < s22.1 ∧ (kd s22 o).1 = 14) <|
  bnd (pI s22 o 1 0) fun s27 =>
  f_X14_then_b32 fuel o 0 s27
set_option maxHeartbeats 4000000 in
theorem ct_X14_then (l : Launch) (G : GM) (a : Nat → Nat) (o : Nat) (x1 : Int32) (s : ST) (rv : Int32) (sf : ST) (hf : f_X14_then o x1 s = some (rv, sf)) : MD l G yX14_then (ws_ yX14_then cX14_then 3 (some .int)) 6 [.ref (a o), .int x1] a s (some (.int rv)) sf := by
  refine md_of (d := 6) (lv := [(0, .ref (a o)), (1, .int x1)]) (Or.inl (by decide)) (Nat.le_of_ble_eq_true rfl) rfl ?_
  intro p e s0 m args below meth c ls A P hP hC hr hnm hW hl
  have hx := hC.1
  have hb := hC.2.1
  have hts := hC.2.2.2.2.1
  have B32 : ∀ (n : Nat), ∀ (r0 : Nat) (x2 : Int32) (s : ST), f_X14_then_b32 n r0 x2 s = some (rv, sf) → ∀ (H : Heap) (locs : List Loc) (ls : Array Slot), lv_has ls 3 [(0, .ref (a r0)), (2, .int x2)] → AW G a A s s0.heap H locs → WB p l e (rmD 6) s0 m args below meth c H locs G A P 32 ls [] := by
    intro n
    induction n with
    | zero => intro r0 x2 s hf; cases hf
    | succ n ih =>
      intro r0 x2 s hf H locs ls hl hW
      rw [f_X14_then_b32] at hf
      refine lv_iload_n hx hb dX14_then_32 rfl (lv_at hl 1 rfl) ?_
      refine lv_aload_n hx hb dX14_then_33 rfl (lv_at hl 0 rfl) ?_
      obtain ⟨g34, hf⟩ := gd_some hf
      refine aw_gI hC hW g34 fl_X14_117 rfl dX14_then_34 ?_
      refine lv_icmp_ge (tgt := 57) hx hb dX14_then_37 (by decide) (fun c37 => ?_) (fun c37 => ?_)
      · have hf := ifp c37 hf
        refine lv_aload_n hx hb dX14_then_57 rfl (lv_at hl 0 rfl) ?_
        obtain ⟨q58, hq58, hf⟩ := bi_some hf
        refine aw_gR hC hW g34 fl_X14_47 rfl hq58 dX14_then_58 ?_
        refine lv_bipush (v := 17) hx hb dX14_then_61 (by decide) ?_
        obtain ⟨g63, hf⟩ := gd_some hf
        refine aw_iald hC hW g63 dX14_then_63 ?_
        obtain ⟨e1, e2⟩ := so_inj hf
        exact aw_iret hC hW hr rfl (p_eq hP (congrArg (fun z => some (Value.int z)) e1) e2) (Nat.le_of_ble_eq_true rfl) (Nat.le_of_ble_eq_true rfl) dX14_then_64
      · have hf := ifn c37 hf
        refine lv_aload_n hx hb dX14_then_40 rfl (lv_at hl 0 rfl) ?_
        refine lv_aload_n hx hb dX14_then_41 rfl (lv_at hl 0 rfl) ?_
        obtain ⟨q42, hq42, hf⟩ := bi_some hf
        refine aw_gR hC hW g34 fl_X14_80 rfl hq42 dX14_then_42 ?_
        refine lv_iload_n hx hb dX14_then_45 rfl (lv_at hl 1 rfl) ?_
        obtain ⟨g46, hf⟩ := gd_some hf
        refine aw_iald hC hW g46 dX14_then_46 ?_
        refine lv_i2l (v := ((gi s q42 (x2 : Int32).toNatClampNeg) : Int32).toInt64) hx hb dX14_then_47 rfl ?_
        obtain ⟨_, s48, h48, hf⟩ := ob_some hf
        refine aw_dV0 (r := r0) (As := [.long (((gi s q42 (x2 : Int32).toNatClampNeg) : Int32).toInt64)]) (rest := []) (ct_X14_enters l G a r0 (((gi s q42 (x2 : Int32).toNatClampNeg) : Int32).toInt64) s () s48 h48) hC hW hl.1 vy_X14_enters (Or.inl q1689) g34 rfl rfl rfl rfl (Nat.le_of_ble_eq_true rfl) ⟨Nat.le_of_ble_eq_true rfl, Nat.le_of_ble_eq_true rfl⟩ ⟨Nat.le_of_ble_eq_true rfl, Nat.le_of_ble_eq_true rfl⟩ dX14_then_48 (fun H locs hW => ?_)
        obtain ⟨v51, ev51, hf⟩ := bnd_some hf
        refine lv_iinc (v := v51) (lv' := [(2, .int v51), (0, .ref (a r0))]) hx hb dX14_then_51 hl (k := 1) rfl (by rw [ev51]; rfl) (by decide) rfl (fun ls hl => ?_)
        refine lv_goto (tgt := 32) hx hb dX14_then_54 (by decide) ?_
        exact ih r0 v51 s48 hf _ _ _ (lv_sub hl [1, 0] rfl) hW
  unfold f_X14_then at hf
  refine lv_aload_n hx hb dX14_then_0 rfl (lv_at hl 0 rfl) ?_
  refine lv_iconst (v := 0) hx hb dX14_then_1 (by decide) ?_
  obtain ⟨g2, hf⟩ := gd_some hf
  obtain ⟨s2, e2, hf⟩ := bnd_some hf
  refine aw_pI e2 hC hW g2 fl_X14_3 (Or.inl fn_13_0) rfl rfl rfl dX14_then_2 (fun H locs hW => ?_)
  have g2 := ko_pI e2 g2
  refine lv_iload_n hx hb dX14_then_5 rfl (lv_at hl 1 rfl) ?_
  obtain ⟨v6, s6, h6, hf⟩ := ob_some hf
  refine aw_dS1 (As := [.int x1]) (rest := []) (ct_X14_areWeeks l G a x1 s2 v6 s6 h6) hC hW hl.1 sy_X14_areWeeks (Or.inl q1746) rfl rfl (Nat.le_of_ble_eq_true rfl) ⟨Nat.le_of_ble_eq_true rfl, Nat.le_of_ble_eq_true rfl⟩ ⟨Nat.le_of_ble_eq_true rfl, Nat.le_of_ble_eq_true rfl⟩ dX14_then_6 (fun H locs hW => ?_)
  refine lv_if_ne (tgt := 15) hx hb dX14_then_9 (by decide) (fun c9 => ?_) (fun c9 => ?_)
  · have hf := ifn c9 hf
    refine lv_aload_n hx hb dX14_then_15 rfl (lv_at hl 0 rfl) ?_
    obtain ⟨g16, hf⟩ := gd_some hf
    obtain ⟨_, s16, h16, hf⟩ := ob_some hf
    refine aw_dV0 (r := o) (As := []) (rest := []) (ct_X14_starts l G a o s6 () s16 h16) hC hW hl.1 vy_X14_starts (Or.inl q1749) g16 rfl rfl rfl rfl (Nat.le_of_ble_eq_true rfl) ⟨Nat.le_of_ble_eq_true rfl, Nat.le_of_ble_eq_true rfl⟩ ⟨Nat.le_of_ble_eq_true rfl, Nat.le_of_ble_eq_true rfl⟩ dX14_then_16 (fun H locs hW => ?_)
    refine lv_aload_n hx hb dX14_then_19 rfl (lv_at hl 0 rfl) ?_
    refine lv_iload_n hx hb dX14_then_20 rfl (lv_at hl 1 rfl) ?_
    refine lv_iconst (v := 0) hx hb dX14_then_21 (by decide) ?_
    obtain ⟨g22, hf⟩ := gd_some hf
    obtain ⟨_, s22, h22, hf⟩ := ob_some hf
    refine aw_dV0 (r := o) (As := [.int x1, .int 0]) (rest := []) (ct_X14_goesBy l G a o x1 0 s16 () s22 h22) hC hW hl.1 vy_X14_goesBy (Or.inl q1756) g22 rfl rfl rfl rfl (Nat.le_of_ble_eq_true rfl) ⟨Nat.le_of_ble_eq_true rfl, Nat.le_of_ble_eq_true rfl⟩ ⟨Nat.le_of_ble_eq_true rfl, Nat.le_of_ble_eq_true rfl⟩ dX14_then_22 (fun H locs hW => ?_)
    refine lv_aload_n hx hb dX14_then_25 rfl (lv_at hl 0 rfl) ?_
    refine lv_iconst (v := 0) hx hb dX14_then_26 (by decide) ?_
    obtain ⟨g27, hf⟩ := gd_some hf
    obtain ⟨s27, e27, hf⟩ := bnd_some hf
    refine aw_pI e27 hC hW g27 fl_X14_15 (Or.inl fn_13_1) rfl rfl rfl dX14_then_27 (fun H locs hW => ?_)
    have g27 := ko_pI e27 g27
    refine lv_iconst (v := 0) hx hb dX14_then_30 (by decide) ?_
    refine lv_istore_n (lv' := [(2, .int 0), (0, .ref (a o)), (1, .int x1)]) hx hb dX14_then_31 rfl hl (by decide) rfl (fun ls hl => ?_)
    exact B32 fuel o 0 s27 hf _ _ _ (lv_sub hl [1, 0] rfl) hW
  · have hf := ifp c9 hf
    refine lv_bipush (v := (-2)) hx hb dX14_then_12 (by decide) ?_
    obtain ⟨e1, e2⟩ := so_inj hf
    exact aw_iret hC hW hr rfl (p_eq hP (congrArg (fun z => some (Value.int z)) e1) e2) (Nat.le_of_ble_eq_true rfl) (Nat.le_of_ble_eq_true rfl) dX14_then_14
def f_X14_thrown (o : Nat) (s : ST) : Option (Int32 × ST) :=
  gd (o < s.1 ∧ (kd s o).1 = 14) <|
  some ((gi s o 0), s)
set_option maxHeartbeats 4000000 in
theorem ct_X14_thrown (l : Launch) (G : GM) (a : Nat → Nat) (o : Nat) (s : ST) (rv : Int32) (sf : ST) (hf : f_X14_thrown o s = some (rv, sf)) : MD l G yX14_thrown (ws_ yX14_thrown cX14_thrown 1 (some .int)) 0 [.ref (a o)] a s (some (.int rv)) sf := by
  refine md_of (d := 0) (lv := [(0, .ref (a o))]) (Or.inl (by decide)) (Nat.le_of_ble_eq_true rfl) rfl ?_
  intro p e s0 m args below meth c ls A P hP hC hr hnm hW hl
  have hx := hC.1
  have hb := hC.2.1
  have hts := hC.2.2.2.2.1
  unfold f_X14_thrown at hf
  refine lv_aload_n hx hb dX14_thrown_0 rfl (lv_at hl 0 rfl) ?_
  obtain ⟨g1, hf⟩ := gd_some hf
  refine aw_gI hC hW g1 fl_X14_3 rfl dX14_thrown_1 ?_
  obtain ⟨e1, e2⟩ := so_inj hf
  exact aw_iret hC hW hr rfl (p_eq hP (congrArg (fun z => some (Value.int z)) e1) e2) (Nat.le_of_ble_eq_true rfl) (Nat.le_of_ble_eq_true rfl) dX14_thrown_4
def f_X14_told (o : Nat) (x1 : Int32) (x2 : Int32) (s : ST) : Option (Int32 × ST) :=
  gd (o < s.1 ∧ (kd s o).1 = 14) <|
  bnd (pI s o 0 0) fun s2 =>
  ob (f_X14_isPerson o x1 s2) fun v7 s7 =>
  if v7 = 0 then (some ((-1), s7)) else bnd (p_in ((x2 : Int32).toInt64) 1 60) fun v19 =>
  if v19 = 0 then (some ((-1), s7)) else gd (o < s7.1 ∧ (kd s7 o).1 = 14) <|
  if (gi s7 o 37) = 10 then (some ((-1), s7)) else (gr s7 o 38).bind fun q37 =>
  gd (q37 < s7.1 ∧ (kd s7 q37).1 = 100 ∧ ¬ (((gi s7 o 37) : Int32) < 0 ∨ (kd s7 q37).2 ≤ ((gi s7 o 37) : Int32).toNatClampNeg)) <|
  bnd (pI s7 q37 ((gi s7 o 37) : Int32).toNatClampNeg x1) fun s45 =>
  (gr s45 o 39).bind fun q47 =>
  gd (q47 < s45.1 ∧ (kd s45 q47).1 = 100 ∧ ¬ (((gi s45 o 37) : Int32) < 0 ∨ (kd s45 q47).2 ≤ ((gi s45 o 37) : Int32).toNatClampNeg)) <|
  bnd (pI s45 q47 ((gi s45 o 37) : Int32).toNatClampNeg x2) fun s55 =>
  bnd (pI s55 o 37 ((gi s55 o 37) + 1)) fun s63 =>
  some ((gi s63 o 37), s63)
set_option maxHeartbeats 4000000 in
theorem ct_X14_told (l : Launch) (G : GM) (a : Nat → Nat) (o : Nat) (x1 : Int32) (x2 : Int32) (s : ST) (rv : Int32) (sf : ST) (hf : f_X14_told o x1 x2 s = some (rv, sf)) : MD l G yX14_told (ws_ yX14_told cX14_told 3 (some .int)) 2 [.ref (a o), .int x1, .int x2] a s (some (.int rv)) sf := by
  refine md_of (d := 2) (lv := [(0, .ref (a o)), (1, .int x1), (2, .int x2)]) (Or.inl (by decide)) (Nat.le_of_ble_eq_true rfl) rfl ?_
  intro p e s0 m args below meth c ls A P hP hC hr hnm hW hl
  have hx := hC.1
  have hb := hC.2.1
  have hts := hC.2.2.2.2.1
  unfold f_X14_told at hf
  refine lv_aload_n hx hb dX14_told_0 rfl (lv_at hl 0 rfl) ?_
  refine lv_iconst (v := 0) hx hb dX14_told_1 (by decide) ?_
  obtain ⟨g2, hf⟩ := gd_some hf
  obtain ⟨s2, e2, hf⟩ := bnd_some hf
  refine aw_pI e2 hC hW g2 fl_X14_3 (Or.inl fn_13_0) rfl rfl rfl dX14_told_2 (fun H locs hW => ?_)
  have g2 := ko_pI e2 g2
  refine lv_aload_n hx hb dX14_told_5 rfl (lv_at hl 0 rfl) ?_
  refine lv_iload_n hx hb dX14_told_6 rfl (lv_at hl 1 rfl) ?_
  obtain ⟨v7, s7, h7, hf⟩ := ob_some hf
  refine aw_dV1 (r := o) (As := [.int x1]) (rest := []) (ct_X14_isPerson l G a o x1 s2 v7 s7 h7) hC hW hl.1 vy_X14_isPerson (Or.inl q1594) g2 rfl rfl rfl rfl (Nat.le_of_ble_eq_true rfl) ⟨Nat.le_of_ble_eq_true rfl, Nat.le_of_ble_eq_true rfl⟩ ⟨Nat.le_of_ble_eq_true rfl, Nat.le_of_ble_eq_true rfl⟩ dX14_told_7 (fun H locs hW => ?_)
  refine lv_if_eq (tgt := 34) hx hb dX14_told_10 (by decide) (fun c10 => ?_) (fun c10 => ?_)
  · have hf := ifp c10 hf
    refine lv_iconst (v := (-1)) hx hb dX14_told_34 (by decide) ?_
    obtain ⟨e1, e2⟩ := so_inj hf
    exact aw_iret hC hW hr rfl (p_eq hP (congrArg (fun z => some (Value.int z)) e1) e2) (Nat.le_of_ble_eq_true rfl) (Nat.le_of_ble_eq_true rfl) dX14_told_35
  · have hf := ifn c10 hf
    refine lv_iload_n hx hb dX14_told_13 rfl (lv_at hl 2 rfl) ?_
    refine lv_i2l (v := (x2 : Int32).toInt64) hx hb dX14_told_14 rfl ?_
    refine lv_lconst (v := 1) hx hb dX14_told_15 (by decide) ?_
    refine lv_ldc2 (v := 60) hx hb hC.2.2.2.1 (hts _ q1820) dX14_told_16 ?_
    obtain ⟨v19, ev19, hf⟩ := bnd_some hf
    refine aw_dS1 (As := [.long ((x2 : Int32).toInt64), .long 1, .long 60]) (rest := []) (pc_X14_in l G a ((x2 : Int32).toInt64) 1 60 s7) hC hW hl.1 sy_X14_in (Or.inl q1514) rfl rfl (Nat.le_of_ble_eq_true rfl) ⟨Nat.le_of_ble_eq_true rfl, Nat.le_of_ble_eq_true rfl⟩ ⟨Nat.le_of_ble_eq_true rfl, Nat.le_of_ble_eq_true rfl⟩ dX14_told_19 (fun H locs hW => ?_)
    refine top_i ev19 ?_
    refine lv_if_eq (tgt := 34) hx hb dX14_told_22 (by decide) (fun c22 => ?_) (fun c22 => ?_)
    · have hf := ifp c22 hf
      refine lv_iconst (v := (-1)) hx hb dX14_told_34 (by decide) ?_
      obtain ⟨e1, e2⟩ := so_inj hf
      exact aw_iret hC hW hr rfl (p_eq hP (congrArg (fun z => some (Value.int z)) e1) e2) (Nat.le_of_ble_eq_true rfl) (Nat.le_of_ble_eq_true rfl) dX14_told_35
    · have hf := ifn c22 hf
      refine lv_aload_n hx hb dX14_told_25 rfl (lv_at hl 0 rfl) ?_
      obtain ⟨g26, hf⟩ := gd_some hf
      refine aw_gI hC hW g26 fl_X14_368 rfl dX14_told_26 ?_
      refine lv_bipush (v := 10) hx hb dX14_told_29 (by decide) ?_
      refine lv_icmp_ne (tgt := 36) hx hb dX14_told_31 (by decide) (fun c31 => ?_) (fun c31 => ?_)
      · have hf := ifn c31 hf
        refine lv_aload_n hx hb dX14_told_36 rfl (lv_at hl 0 rfl) ?_
        obtain ⟨q37, hq37, hf⟩ := bi_some hf
        refine aw_gR hC hW g26 fl_X14_92 rfl hq37 dX14_told_37 ?_
        refine lv_aload_n hx hb dX14_told_40 rfl (lv_at hl 0 rfl) ?_
        refine aw_gI hC hW g26 fl_X14_368 rfl dX14_told_41 ?_
        refine lv_iload_n hx hb dX14_told_44 rfl (lv_at hl 1 rfl) ?_
        obtain ⟨g45, hf⟩ := gd_some hf
        obtain ⟨s45, e45, hf⟩ := bnd_some hf
        refine aw_iast e45 hC hW g45 dX14_told_45 (fun H locs hW => ?_)
        have g26 := ko_pI e45 g26
        refine lv_aload_n hx hb dX14_told_46 rfl (lv_at hl 0 rfl) ?_
        obtain ⟨q47, hq47, hf⟩ := bi_some hf
        refine aw_gR hC hW g26 fl_X14_95 rfl hq47 dX14_told_47 ?_
        refine lv_aload_n hx hb dX14_told_50 rfl (lv_at hl 0 rfl) ?_
        refine aw_gI hC hW g26 fl_X14_368 rfl dX14_told_51 ?_
        refine lv_iload_n hx hb dX14_told_54 rfl (lv_at hl 2 rfl) ?_
        obtain ⟨g55, hf⟩ := gd_some hf
        obtain ⟨s55, e55, hf⟩ := bnd_some hf
        refine aw_iast e55 hC hW g55 dX14_told_55 (fun H locs hW => ?_)
        have g26 := ko_pI e55 g26
        refine lv_aload_n hx hb dX14_told_56 rfl (lv_at hl 0 rfl) ?_
        refine lv_dup hx hb dX14_told_57 rfl ?_
        refine aw_gI hC hW g26 fl_X14_368 rfl dX14_told_58 ?_
        refine lv_iconst (v := 1) hx hb dX14_told_61 (by decide) ?_
        refine lv_iadd hx hb dX14_told_62 ?_
        obtain ⟨s63, e63, hf⟩ := bnd_some hf
        refine aw_pI e63 hC hW g26 fl_X14_368 (Or.inl fn_13_37) rfl rfl rfl dX14_told_63 (fun H locs hW => ?_)
        have g26 := ko_pI e63 g26
        refine lv_aload_n hx hb dX14_told_66 rfl (lv_at hl 0 rfl) ?_
        refine aw_gI hC hW g26 fl_X14_368 rfl dX14_told_67 ?_
        obtain ⟨e1, e2⟩ := so_inj hf
        exact aw_iret hC hW hr rfl (p_eq hP (congrArg (fun z => some (Value.int z)) e1) e2) (Nat.le_of_ble_eq_true rfl) (Nat.le_of_ble_eq_true rfl) dX14_told_70
      · have hf := ifp c31 hf
        refine lv_iconst (v := (-1)) hx hb dX14_told_34 (by decide) ?_
        obtain ⟨e1, e2⟩ := so_inj hf
        exact aw_iret hC hW hr rfl (p_eq hP (congrArg (fun z => some (Value.int z)) e1) e2) (Nat.le_of_ble_eq_true rfl) (Nat.le_of_ble_eq_true rfl) dX14_told_35
def f_X14_town_b167 (r0 : Nat) (t0 : Int32) (w1 : Nat) (s : ST) : Option (Int32 × ST) :=
  gd (w1 < s.1 ∧ (kd s w1).1 = 14) <|
  bnd (pI s w1 28 t0) fun s167 =>
  gd (r0 < s167.1 ∧ (kd s167 r0).1 = 14) <|
  some ((gi s167 r0 21), s167)
def f_X14_town_b81 : Nat → Nat → Int32 → Int32 → ST → Option (Int32 × ST)
  | 0, _, _, _, _ => none
  | n + 1, r0, x1, x5, s =>
  gd (r0 < s.1 ∧ (kd s r0).1 = 14) <|
  if (gi s r0 21) ≤ x5 then (bnd (pI s r0 3 ((gi s r0 3) + (gi s r0 21))) fun s151 =>
  if x1 ≤ 0 then (f_X14_town_b167 r0 (gi s151 r0 28) r0 s151) else f_X14_town_b167 r0 0 r0 s151) else bnd (((gi s r0 3) + x5) : Int32) fun v97 =>
  (gr s r0 10).bind fun q100 =>
  (gr s r0 17).bind fun q106 =>
  gd (q106 < s.1 ∧ (kd s q106).1 = 100 ∧ ¬ ((v97 : Int32) < 0 ∨ (kd s q106).2 ≤ (v97 : Int32).toNatClampNeg)) <|
  gd (q100 < s.1 ∧ (kd s q100).1 = 100 ∧ ¬ ((v97 : Int32) < 0 ∨ (kd s q100).2 ≤ (v97 : Int32).toNatClampNeg)) <|
  bnd (pI s q100 (v97 : Int32).toNatClampNeg (gi s q106 (v97 : Int32).toNatClampNeg)) fun s112 =>
  (gr s112 r0 4).bind fun q114 =>
  (gr s112 r0 18).bind fun q120 =>
  gd (q120 < s112.1 ∧ (kd s112 q120).1 = 100 ∧ ¬ ((v97 : Int32) < 0 ∨ (kd s112 q120).2 ≤ (v97 : Int32).toNatClampNeg)) <|
  gd (q114 < s112.1 ∧ (kd s112 q114).1 = 100 ∧ ¬ ((v97 : Int32) < 0 ∨ (kd s112 q114).2 ≤ (v97 : Int32).toNatClampNeg)) <|
  bnd (pI s112 q114 (v97 : Int32).toNatClampNeg (gi s112 q120 (v97 : Int32).toNatClampNeg)) fun s126 =>
  ob (f_X14_comes r0 v97 v97 s126) fun _ s132 =>
  bnd (x5 + 1 : Int32) fun v135 =>
  f_X14_town_b81 n r0 x1 v135 s132
def f_X14_town_b56 (K29 : Nat → Int32 → Int32 → Int32 → ST → Option (Int32 × ST)) (r0 : Nat) (x1 : Int32) (x2 : Int32) (t0 : Int32) (s : ST) : Option (Int32 × ST) :=
  K29 r0 x1 x2 t0 s
def f_X14_town_b55 (K29 : Nat → Int32 → Int32 → Int32 → ST → Option (Int32 × ST)) (r0 : Nat) (x1 : Int32) (x2 : Int32) (s : ST) : Option (Int32 × ST) :=
  f_X14_town_b56 K29 r0 x1 x2 0 s
def f_X14_town_b29 : Nat → Nat → Int32 → Int32 → Int32 → ST → Option (Int32 × ST)
  | 0, _, _, _, _, _ => none
  | n + 1, r0, x1, x2, x3, s =>
  if x3 = 0 then (gd (r0 < s.1 ∧ (kd s r0).1 = 14) <|
  ob (f_X14_faultOf r0 x1 76 x2 s) fun v65 s65 =>
  if 0 ≤ v65 then (f_X14_town_b81 fuel r0 x1 0 s65) else some (v65, s65)) else gd (r0 < s.1 ∧ (kd s r0).1 = 14) <|
  ob (f_X14_readsPerson r0 s) fun v34 s34 =>
  if v34 = 0 then (f_X14_town_b55 (f_X14_town_b29 n) r0 x1 v34 s34) else gd (r0 < s34.1 ∧ (kd s34 r0).1 = 14) <|
  ob (f_X14_takes r0 59 s34) fun v45 s45 =>
  if v45 = 0 then (f_X14_town_b55 (f_X14_town_b29 n) r0 x1 v34 s45) else f_X14_town_b56 (f_X14_town_b29 n) r0 x1 v34 1 s45
def f_X14_town_b28 (r0 : Nat) (x1 : Int32) (x2 : Int32) (t0 : Int32) (s : ST) : Option (Int32 × ST) :=
  f_X14_town_b29 fuel r0 x1 x2 t0 s
def f_X14_town (o : Nat) (s : ST) : Option (Int32 × ST) :=
  gd (o < s.1 ∧ (kd s o).1 = 14) <|
  bnd (pI s o 0 0) fun s2 =>
  ob (f_X14_begins o 76 s2) fun v8 s8 =>
  gd (o < s8.1 ∧ (kd s8 o).1 = 14) <|
  bnd (pI s8 o 21 0) fun s14 =>
  if v8 ≤ 0 then (f_X14_town_b28 o v8 1 0 s14) else f_X14_town_b28 o v8 1 1 s14
set_option maxHeartbeats 4000000 in
theorem ct_X14_town (l : Launch) (G : GM) (a : Nat → Nat) (o : Nat) (s : ST) (rv : Int32) (sf : ST) (hf : f_X14_town o s = some (rv, sf)) : MD l G yX14_town (ws_ yX14_town cX14_town 7 (some .int)) 7 [.ref (a o)] a s (some (.int rv)) sf := by
  refine md_of (d := 7) (lv := [(0, .ref (a o))]) (Or.inl (by decide)) (Nat.le_of_ble_eq_true rfl) rfl ?_
  intro p e s0 m args below meth c ls A P hP hC hr hnm hW hl
  have hx := hC.1
  have hb := hC.2.1
  have hts := hC.2.2.2.2.1
  have B167 : ∀ (r0 : Nat) (t0 : Int32) (w1 : Nat) (s : ST), f_X14_town_b167 r0 t0 w1 s = some (rv, sf) → ∀ (H : Heap) (locs : List Loc) (ls : Array Slot), lv_has ls 7 [(0, .ref (a r0))] → AW G a A s s0.heap H locs → WB p l e (rmD 7) s0 m args below meth c H locs G A P 167 ls [.int t0, .ref (a w1)] := by
    intro r0 t0 w1 s hf H locs ls hl hW
    unfold f_X14_town_b167 at hf
    obtain ⟨g167, hf⟩ := gd_some hf
    obtain ⟨s167, e167, hf⟩ := bnd_some hf
    refine aw_pI e167 hC hW g167 fl_X14_207 (Or.inl fn_13_28) rfl rfl rfl dX14_town_167 (fun H locs hW => ?_)
    have g167 := ko_pI e167 g167
    refine lv_aload_n hx hb dX14_town_170 rfl (lv_at hl 0 rfl) ?_
    obtain ⟨g171, hf⟩ := gd_some hf
    refine aw_gI hC hW g171 fl_X14_185 rfl dX14_town_171 ?_
    obtain ⟨e1, e2⟩ := so_inj hf
    exact aw_iret hC hW hr rfl (p_eq hP (congrArg (fun z => some (Value.int z)) e1) e2) (Nat.le_of_ble_eq_true rfl) (Nat.le_of_ble_eq_true rfl) dX14_town_174
  have B81 : ∀ (n : Nat), ∀ (r0 : Nat) (x1 : Int32) (x5 : Int32) (s : ST), f_X14_town_b81 n r0 x1 x5 s = some (rv, sf) → ∀ (H : Heap) (locs : List Loc) (ls : Array Slot), lv_has ls 7 [(0, .ref (a r0)), (1, .int x1), (5, .int x5)] → AW G a A s s0.heap H locs → WB p l e (rmD 7) s0 m args below meth c H locs G A P 81 ls [] := by
    intro n
    induction n with
    | zero => intro r0 x1 x5 s hf; cases hf
    | succ n ih =>
      intro r0 x1 x5 s hf H locs ls hl hW
      rw [f_X14_town_b81] at hf
      refine lv_iload hx hb dX14_town_81 (lv_at hl 2 rfl) ?_
      refine lv_aload_n hx hb dX14_town_83 rfl (lv_at hl 0 rfl) ?_
      obtain ⟨g84, hf⟩ := gd_some hf
      refine aw_gI hC hW g84 fl_X14_185 rfl dX14_town_84 ?_
      refine lv_icmp_ge (tgt := 141) hx hb dX14_town_87 (by decide) (fun c87 => ?_) (fun c87 => ?_)
      · have hf := ifp c87 hf
        refine lv_aload_n hx hb dX14_town_141 rfl (lv_at hl 0 rfl) ?_
        refine lv_dup hx hb dX14_town_142 rfl ?_
        refine aw_gI hC hW g84 fl_X14_117 rfl dX14_town_143 ?_
        refine lv_aload_n hx hb dX14_town_146 rfl (lv_at hl 0 rfl) ?_
        refine aw_gI hC hW g84 fl_X14_185 rfl dX14_town_147 ?_
        refine lv_iadd hx hb dX14_town_150 ?_
        obtain ⟨s151, e151, hf⟩ := bnd_some hf
        refine aw_pI e151 hC hW g84 fl_X14_117 (Or.inl fn_13_3) rfl rfl rfl dX14_town_151 (fun H locs hW => ?_)
        have g84 := ko_pI e151 g84
        refine lv_aload_n hx hb dX14_town_154 rfl (lv_at hl 0 rfl) ?_
        refine lv_iload_n hx hb dX14_town_155 rfl (lv_at hl 1 rfl) ?_
        refine lv_if_le (tgt := 163) hx hb dX14_town_156 (by decide) (fun c156 => ?_) (fun c156 => ?_)
        · have hf := ifp c156 hf
          refine lv_aload_n hx hb dX14_town_163 rfl (lv_at hl 0 rfl) ?_
          refine aw_gI hC hW g84 fl_X14_207 rfl dX14_town_164 ?_
          exact B167 r0 (gi s151 r0 28) r0 s151 hf _ _ _ (lv_sub hl [0] rfl) hW
        · have hf := ifn c156 hf
          refine lv_iconst (v := 0) hx hb dX14_town_159 (by decide) ?_
          refine lv_goto (tgt := 167) hx hb dX14_town_160 (by decide) ?_
          exact B167 r0 0 r0 s151 hf _ _ _ (lv_sub hl [0] rfl) hW
      · have hf := ifn c87 hf
        refine lv_aload_n hx hb dX14_town_90 rfl (lv_at hl 0 rfl) ?_
        refine aw_gI hC hW g84 fl_X14_117 rfl dX14_town_91 ?_
        refine lv_iload hx hb dX14_town_94 (lv_at hl 2 rfl) ?_
        refine lv_iadd hx hb dX14_town_96 ?_
        obtain ⟨v97, ev97, hf⟩ := bnd_some hf
        refine top_i ev97 ?_
        refine lv_istore (lv' := [(6, .int v97), (0, .ref (a r0)), (1, .int x1), (5, .int x5)]) hx hb dX14_town_97 hl (by decide) rfl (fun ls hl => ?_)
        refine lv_aload_n hx hb dX14_town_99 rfl (lv_at hl 1 rfl) ?_
        obtain ⟨q100, hq100, hf⟩ := bi_some hf
        refine aw_gR hC hW g84 fl_X14_44 rfl hq100 dX14_town_100 ?_
        refine lv_iload hx hb dX14_town_103 (lv_at hl 0 rfl) ?_
        refine lv_aload_n hx hb dX14_town_105 rfl (lv_at hl 1 rfl) ?_
        obtain ⟨q106, hq106, hf⟩ := bi_some hf
        refine aw_gR hC hW g84 fl_X14_53 rfl hq106 dX14_town_106 ?_
        refine lv_iload hx hb dX14_town_109 (lv_at hl 0 rfl) ?_
        obtain ⟨g111, hf⟩ := gd_some hf
        refine aw_iald hC hW g111 dX14_town_111 ?_
        obtain ⟨g112, hf⟩ := gd_some hf
        obtain ⟨s112, e112, hf⟩ := bnd_some hf
        refine aw_iast e112 hC hW g112 dX14_town_112 (fun H locs hW => ?_)
        have g84 := ko_pI e112 g84
        refine lv_aload_n hx hb dX14_town_113 rfl (lv_at hl 1 rfl) ?_
        obtain ⟨q114, hq114, hf⟩ := bi_some hf
        refine aw_gR hC hW g84 fl_X14_28 rfl hq114 dX14_town_114 ?_
        refine lv_iload hx hb dX14_town_117 (lv_at hl 0 rfl) ?_
        refine lv_aload_n hx hb dX14_town_119 rfl (lv_at hl 1 rfl) ?_
        obtain ⟨q120, hq120, hf⟩ := bi_some hf
        refine aw_gR hC hW g84 fl_X14_56 rfl hq120 dX14_town_120 ?_
        refine lv_iload hx hb dX14_town_123 (lv_at hl 0 rfl) ?_
        obtain ⟨g125, hf⟩ := gd_some hf
        refine aw_iald hC hW g125 dX14_town_125 ?_
        obtain ⟨g126, hf⟩ := gd_some hf
        obtain ⟨s126, e126, hf⟩ := bnd_some hf
        refine aw_iast e126 hC hW g126 dX14_town_126 (fun H locs hW => ?_)
        have g84 := ko_pI e126 g84
        refine lv_aload_n hx hb dX14_town_127 rfl (lv_at hl 1 rfl) ?_
        refine lv_iload hx hb dX14_town_128 (lv_at hl 0 rfl) ?_
        refine lv_iload hx hb dX14_town_130 (lv_at hl 0 rfl) ?_
        obtain ⟨_, s132, h132, hf⟩ := ob_some hf
        refine aw_dV0 (r := r0) (As := [.int v97, .int v97]) (rest := []) (ct_X14_comes l G a r0 v97 v97 s126 () s132 h132) hC hW hl.1 vy_X14_comes (Or.inl q1582) g84 rfl rfl rfl rfl (Nat.le_of_ble_eq_true rfl) ⟨Nat.le_of_ble_eq_true rfl, Nat.le_of_ble_eq_true rfl⟩ ⟨Nat.le_of_ble_eq_true rfl, Nat.le_of_ble_eq_true rfl⟩ dX14_town_132 (fun H locs hW => ?_)
        obtain ⟨v135, ev135, hf⟩ := bnd_some hf
        refine lv_iinc (v := v135) (lv' := [(5, .int v135), (6, .int v97), (0, .ref (a r0)), (1, .int x1)]) hx hb dX14_town_135 hl (k := 3) rfl (by rw [ev135]; rfl) (by decide) rfl (fun ls hl => ?_)
        refine lv_goto (tgt := 81) hx hb dX14_town_138 (by decide) ?_
        exact ih r0 x1 v135 s132 hf _ _ _ (lv_sub hl [2, 3, 0] rfl) hW
  have B56 : ∀ (K29 : Nat → Int32 → Int32 → Int32 → ST → Option (Int32 × ST)) (hK29 : ∀ (r0 : Nat) (x1 : Int32) (x2 : Int32) (x3 : Int32) (s : ST), K29 r0 x1 x2 x3 s = some (rv, sf) → ∀ (H : Heap) (locs : List Loc) (ls : Array Slot), lv_has ls 7 [(0, .ref (a r0)), (1, .int x1), (2, .int x2), (3, .int x3)] → AW G a A s s0.heap H locs → WB p l e (rmD 7) s0 m args below meth c H locs G A P 29 ls []), ∀ (r0 : Nat) (x1 : Int32) (x2 : Int32) (t0 : Int32) (s : ST), f_X14_town_b56 K29 r0 x1 x2 t0 s = some (rv, sf) → ∀ (H : Heap) (locs : List Loc) (ls : Array Slot), lv_has ls 7 [(0, .ref (a r0)), (1, .int x1), (2, .int x2)] → AW G a A s s0.heap H locs → WB p l e (rmD 7) s0 m args below meth c H locs G A P 56 ls [.int t0] := by
    intro K29 hK29 r0 x1 x2 t0 s hf H locs ls hl hW
    unfold f_X14_town_b56 at hf
    refine lv_istore_n (lv' := [(3, .int t0), (0, .ref (a r0)), (1, .int x1), (2, .int x2)]) hx hb dX14_town_56 rfl hl (by decide) rfl (fun ls hl => ?_)
    refine lv_goto (tgt := 29) hx hb dX14_town_57 (by decide) ?_
    exact hK29 r0 x1 x2 t0 s hf _ _ _ (lv_sub hl [1, 2, 3, 0] rfl) hW
  have B55 : ∀ (K29 : Nat → Int32 → Int32 → Int32 → ST → Option (Int32 × ST)) (hK29 : ∀ (r0 : Nat) (x1 : Int32) (x2 : Int32) (x3 : Int32) (s : ST), K29 r0 x1 x2 x3 s = some (rv, sf) → ∀ (H : Heap) (locs : List Loc) (ls : Array Slot), lv_has ls 7 [(0, .ref (a r0)), (1, .int x1), (2, .int x2), (3, .int x3)] → AW G a A s s0.heap H locs → WB p l e (rmD 7) s0 m args below meth c H locs G A P 29 ls []), ∀ (r0 : Nat) (x1 : Int32) (x2 : Int32) (s : ST), f_X14_town_b55 K29 r0 x1 x2 s = some (rv, sf) → ∀ (H : Heap) (locs : List Loc) (ls : Array Slot), lv_has ls 7 [(0, .ref (a r0)), (1, .int x1), (2, .int x2)] → AW G a A s s0.heap H locs → WB p l e (rmD 7) s0 m args below meth c H locs G A P 55 ls [] := by
    intro K29 hK29 r0 x1 x2 s hf H locs ls hl hW
    unfold f_X14_town_b55 at hf
    refine lv_iconst (v := 0) hx hb dX14_town_55 (by decide) ?_
    exact B56 K29 hK29 r0 x1 x2 0 s hf _ _ _ (lv_sub hl [0, 1, 2] rfl) hW
  have B29 : ∀ (n : Nat), ∀ (r0 : Nat) (x1 : Int32) (x2 : Int32) (x3 : Int32) (s : ST), f_X14_town_b29 n r0 x1 x2 x3 s = some (rv, sf) → ∀ (H : Heap) (locs : List Loc) (ls : Array Slot), lv_has ls 7 [(0, .ref (a r0)), (1, .int x1), (2, .int x2), (3, .int x3)] → AW G a A s s0.heap H locs → WB p l e (rmD 7) s0 m args below meth c H locs G A P 29 ls [] := by
    intro n
    induction n with
    | zero => intro r0 x1 x2 x3 s hf; cases hf
    | succ n ih =>
      intro r0 x1 x2 x3 s hf H locs ls hl hW
      rw [f_X14_town_b29] at hf
      refine lv_iload_n hx hb dX14_town_29 rfl (lv_at hl 3 rfl) ?_
      refine lv_if_eq (tgt := 60) hx hb dX14_town_30 (by decide) (fun c30 => ?_) (fun c30 => ?_)
      · have hf := ifp c30 hf
        refine lv_aload_n hx hb dX14_town_60 rfl (lv_at hl 0 rfl) ?_
        refine lv_iload_n hx hb dX14_town_61 rfl (lv_at hl 1 rfl) ?_
        refine lv_bipush (v := 76) hx hb dX14_town_62 (by decide) ?_
        refine lv_iload_n hx hb dX14_town_64 rfl (lv_at hl 2 rfl) ?_
        obtain ⟨g65, hf⟩ := gd_some hf
        obtain ⟨v65, s65, h65, hf⟩ := ob_some hf
        refine aw_dV1 (r := r0) (As := [.int x1, .int 76, .int x2]) (rest := []) (ct_X14_faultOf l G a r0 x1 76 x2 s v65 s65 h65) hC hW hl.1 vy_X14_faultOf (Or.inl q1578) g65 rfl rfl rfl rfl (Nat.le_of_ble_eq_true rfl) ⟨Nat.le_of_ble_eq_true rfl, Nat.le_of_ble_eq_true rfl⟩ ⟨Nat.le_of_ble_eq_true rfl, Nat.le_of_ble_eq_true rfl⟩ dX14_town_65 (fun H locs hW => ?_)
        refine lv_istore (lv' := [(4, .int v65), (0, .ref (a r0)), (1, .int x1), (2, .int x2), (3, .int x3)]) hx hb dX14_town_68 hl (by decide) rfl (fun ls hl => ?_)
        refine lv_iload hx hb dX14_town_70 (lv_at hl 0 rfl) ?_
        refine lv_if_ge (tgt := 78) hx hb dX14_town_72 (by decide) (fun c72 => ?_) (fun c72 => ?_)
        · have hf := ifp c72 hf
          refine lv_iconst (v := 0) hx hb dX14_town_78 (by decide) ?_
          refine lv_istore (lv' := [(5, .int 0), (4, .int v65), (0, .ref (a r0)), (1, .int x1), (2, .int x2), (3, .int x3)]) hx hb dX14_town_79 hl (by decide) rfl (fun ls hl => ?_)
          exact B81 fuel r0 x1 0 s65 hf _ _ _ (lv_sub hl [2, 3, 0] rfl) hW
        · have hf := ifn c72 hf
          refine lv_iload hx hb dX14_town_75 (lv_at hl 0 rfl) ?_
          obtain ⟨e1, e2⟩ := so_inj hf
          exact aw_iret hC hW hr rfl (p_eq hP (congrArg (fun z => some (Value.int z)) e1) e2) (Nat.le_of_ble_eq_true rfl) (Nat.le_of_ble_eq_true rfl) dX14_town_77
      · have hf := ifn c30 hf
        refine lv_aload_n hx hb dX14_town_33 rfl (lv_at hl 0 rfl) ?_
        obtain ⟨g34, hf⟩ := gd_some hf
        obtain ⟨v34, s34, h34, hf⟩ := ob_some hf
        refine aw_dV1 (r := r0) (As := []) (rest := []) (ct_X14_readsPerson l G a r0 s v34 s34 h34) hC hW hl.1 vy_X14_readsPerson (Or.inl q1526) g34 rfl rfl rfl rfl (Nat.le_of_ble_eq_true rfl) ⟨Nat.le_of_ble_eq_true rfl, Nat.le_of_ble_eq_true rfl⟩ ⟨Nat.le_of_ble_eq_true rfl, Nat.le_of_ble_eq_true rfl⟩ dX14_town_34 (fun H locs hW => ?_)
        refine lv_istore_n (lv' := [(2, .int v34), (0, .ref (a r0)), (1, .int x1), (3, .int x3)]) hx hb dX14_town_37 rfl hl (by decide) rfl (fun ls hl => ?_)
        refine lv_iload_n hx hb dX14_town_38 rfl (lv_at hl 0 rfl) ?_
        refine lv_if_eq (tgt := 55) hx hb dX14_town_39 (by decide) (fun c39 => ?_) (fun c39 => ?_)
        · have hf := ifp c39 hf
          exact B55 (f_X14_town_b29 n) ih r0 x1 v34 s34 hf _ _ _ (lv_sub hl [1, 2, 0] rfl) hW
        · have hf := ifn c39 hf
          refine lv_aload_n hx hb dX14_town_42 rfl (lv_at hl 1 rfl) ?_
          refine lv_bipush (v := 59) hx hb dX14_town_43 (by decide) ?_
          obtain ⟨g45, hf⟩ := gd_some hf
          obtain ⟨v45, s45, h45, hf⟩ := ob_some hf
          refine aw_dV1 (r := r0) (As := [.int 59]) (rest := []) (ct_X14_takes l G a r0 59 s34 v45 s45 h45) hC hW hl.1 vy_X14_takes (Or.inl q1540) g45 rfl rfl rfl rfl (Nat.le_of_ble_eq_true rfl) ⟨Nat.le_of_ble_eq_true rfl, Nat.le_of_ble_eq_true rfl⟩ ⟨Nat.le_of_ble_eq_true rfl, Nat.le_of_ble_eq_true rfl⟩ dX14_town_45 (fun H locs hW => ?_)
          refine lv_if_eq (tgt := 55) hx hb dX14_town_48 (by decide) (fun c48 => ?_) (fun c48 => ?_)
          · have hf := ifp c48 hf
            exact B55 (f_X14_town_b29 n) ih r0 x1 v34 s45 hf _ _ _ (lv_sub hl [1, 2, 0] rfl) hW
          · have hf := ifn c48 hf
            refine lv_iconst (v := 1) hx hb dX14_town_51 (by decide) ?_
            refine lv_goto (tgt := 56) hx hb dX14_town_52 (by decide) ?_
            exact B56 (f_X14_town_b29 n) ih r0 x1 v34 1 s45 hf _ _ _ (lv_sub hl [1, 2, 0] rfl) hW
  have B28 : ∀ (r0 : Nat) (x1 : Int32) (x2 : Int32) (t0 : Int32) (s : ST), f_X14_town_b28 r0 x1 x2 t0 s = some (rv, sf) → ∀ (H : Heap) (locs : List Loc) (ls : Array Slot), lv_has ls 7 [(0, .ref (a r0)), (1, .int x1), (2, .int x2)] → AW G a A s s0.heap H locs → WB p l e (rmD 7) s0 m args below meth c H locs G A P 28 ls [.int t0] := by
    intro r0 x1 x2 t0 s hf H locs ls hl hW
    unfold f_X14_town_b28 at hf
    refine lv_istore_n (lv' := [(3, .int t0), (0, .ref (a r0)), (1, .int x1), (2, .int x2)]) hx hb dX14_town_28 rfl hl (by decide) rfl (fun ls hl => ?_)
    exact B29 fuel r0 x1 x2 t0 s hf _ _ _ (lv_sub hl [1, 2, 3, 0] rfl) hW
  unfold f_X14_town at hf
  refine lv_aload_n hx hb dX14_town_0 rfl (lv_at hl 0 rfl) ?_
  refine lv_iconst (v := 0) hx hb dX14_town_1 (by decide) ?_
  obtain ⟨g2, hf⟩ := gd_some hf
  obtain ⟨s2, e2, hf⟩ := bnd_some hf
  refine aw_pI e2 hC hW g2 fl_X14_3 (Or.inl fn_13_0) rfl rfl rfl dX14_town_2 (fun H locs hW => ?_)
  have g2 := ko_pI e2 g2
  refine lv_aload_n hx hb dX14_town_5 rfl (lv_at hl 0 rfl) ?_
  refine lv_bipush (v := 76) hx hb dX14_town_6 (by decide) ?_
  obtain ⟨v8, s8, h8, hf⟩ := ob_some hf
  refine aw_dV1 (r := o) (As := [.int 76]) (rest := []) (ct_X14_begins l G a o 76 s2 v8 s8 h8) hC hW hl.1 vy_X14_begins (Or.inl q1521) g2 rfl rfl rfl rfl (Nat.le_of_ble_eq_true rfl) ⟨Nat.le_of_ble_eq_true rfl, Nat.le_of_ble_eq_true rfl⟩ ⟨Nat.le_of_ble_eq_true rfl, Nat.le_of_ble_eq_true rfl⟩ dX14_town_8 (fun H locs hW => ?_)
  refine lv_istore_n (lv' := [(1, .int v8), (0, .ref (a o))]) hx hb dX14_town_11 rfl hl (by decide) rfl (fun ls hl => ?_)
  refine lv_aload_n hx hb dX14_town_12 rfl (lv_at hl 1 rfl) ?_
  refine lv_iconst (v := 0) hx hb dX14_town_13 (by decide) ?_
  obtain ⟨g14, hf⟩ := gd_some hf
  obtain ⟨s14, e14, hf⟩ := bnd_some hf
  refine aw_pI e14 hC hW g14 fl_X14_185 (Or.inl fn_13_21) rfl rfl rfl dX14_town_14 (fun H locs hW => ?_)
  have g14 := ko_pI e14 g14
  refine lv_iconst (v := 1) hx hb dX14_town_17 (by decide) ?_
  refine lv_istore_n (lv' := [(2, .int 1), (1, .int v8), (0, .ref (a o))]) hx hb dX14_town_18 rfl hl (by decide) rfl (fun ls hl => ?_)
  refine lv_iload_n hx hb dX14_town_19 rfl (lv_at hl 1 rfl) ?_
  refine lv_if_le (tgt := 27) hx hb dX14_town_20 (by decide) (fun c20 => ?_) (fun c20 => ?_)
  · have hf := ifp c20 hf
    refine lv_iconst (v := 0) hx hb dX14_town_27 (by decide) ?_
    exact B28 o v8 1 0 s14 hf _ _ _ (lv_sub hl [2, 1, 0] rfl) hW
  · have hf := ifn c20 hf
    refine lv_iconst (v := 1) hx hb dX14_town_23 (by decide) ?_
    refine lv_goto (tgt := 28) hx hb dX14_town_24 (by decide) ?_
    exact B28 o v8 1 1 s14 hf _ _ _ (lv_sub hl [2, 1, 0] rfl) hW
