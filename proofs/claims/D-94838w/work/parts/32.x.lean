set_option maxRecDepth 100000
def f_X1_feed (o : Nat) (x1 : Int32) (x2 : Int32) (s : ST) : Option (Int32 × ST) :=
  gd (o < s.1 ∧ (kd s o).1 = 1) <|
  ob (f_X1_isAlive o x1 s) fun v2 s2 =>
  if v2 = 0 then (some ((-1), s2)) else bnd (p_in ((x2 : Int32).toInt64) 1 99) fun v14 =>
  if v14 = 0 then (some ((-1), s2)) else gd (o < s2.1 ∧ (kd s2 o).1 = 1) <|
  ob (f_X1_remember o s2) fun _ s23 =>
  gd (o < s23.1 ∧ (kd s23 o).1 = 1) <|
  (gr s23 o 1).bind fun q27 =>
  gd (q27 < s23.1 ∧ (kd s23 q27).1 = 2) <|
  (gr s23 q27 0).bind fun q30 =>
  (gr s23 o 1).bind fun q38 =>
  gd (q38 < s23.1 ∧ (kd s23 q38).1 = 2) <|
  (gr s23 q38 0).bind fun q41 =>
  gd (q41 < s23.1 ∧ (kd s23 q41).1 = 100 ∧ ¬ ((x1 : Int32) < 0 ∨ (kd s23 q41).2 ≤ (x1 : Int32).toNatClampNeg)) <|
  bnd (p_min 999 ((gi s23 q41 (x1 : Int32).toNatClampNeg) + x2)) fun v48 =>
  gd (q30 < s23.1 ∧ (kd s23 q30).1 = 100 ∧ ¬ ((x1 : Int32) < 0 ∨ (kd s23 q30).2 ≤ (x1 : Int32).toNatClampNeg)) <|
  bnd (pI s23 q30 (x1 : Int32).toNatClampNeg v48) fun s51 =>
  (gr s51 o 1).bind fun q53 =>
  gd (q53 < s51.1 ∧ (kd s51 q53).1 = 2) <|
  (gr s51 q53 0).bind fun q56 =>
  gd (q56 < s51.1 ∧ (kd s51 q56).1 = 100 ∧ ¬ ((x1 : Int32) < 0 ∨ (kd s51 q56).2 ≤ (x1 : Int32).toNatClampNeg)) <|
  some ((gi s51 q56 (x1 : Int32).toNatClampNeg), s51)
set_option maxHeartbeats 4000000 in
theorem ct_X1_feed (l : Launch) (G : GM) (a : Nat → Nat) (o : Nat) (x1 : Int32) (x2 : Int32) (s : ST) (rv : Int32) (sf : ST) (hf : f_X1_feed o x1 x2 s = some (rv, sf)) : MD l G yX1_feed (ws_ yX1_feed cX1_feed 3 (some .int)) 3 [.ref (a o), .int x1, .int x2] a s (some (.int rv)) sf := by
  refine md_of (d := 3) (lv := [(0, .ref (a o)), (1, .int x1), (2, .int x2)]) (Or.inl (by decide)) (Nat.le_of_ble_eq_true rfl) rfl ?_
  intro p e s0 m args below meth c ls A P hP hC hr hnm hW hl
  have hx := hC.1
  have hb := hC.2.1
  have hts := hC.2.2.2.2.1
  unfold f_X1_feed at hf
  refine lv_aload_n hx hb dX1_feed_0 rfl (lv_at hl 0 rfl) ?_
  refine lv_iload_n hx hb dX1_feed_1 rfl (lv_at hl 1 rfl) ?_
  obtain ⟨g2, hf⟩ := gd_some hf
  obtain ⟨v2, s2, h2, hf⟩ := ob_some hf
  refine aw_dV1 (r := o) (As := [.int x1]) (rest := []) (ct_X1_isAlive l G a o x1 s v2 s2 h2) hC hW hl.1 vy_X1_isAlive (Or.inl q1040) g2 rfl rfl rfl rfl (Nat.le_of_ble_eq_true rfl) ⟨Nat.le_of_ble_eq_true rfl, Nat.le_of_ble_eq_true rfl⟩ ⟨Nat.le_of_ble_eq_true rfl, Nat.le_of_ble_eq_true rfl⟩ dX1_feed_2 (fun H locs hW => ?_)
  refine lv_if_eq (tgt := 20) hx hb dX1_feed_5 (by decide) (fun c5 => ?_) (fun c5 => ?_)
  · have hf := ifp c5 hf
    refine lv_iconst (v := (-1)) hx hb dX1_feed_20 (by decide) ?_
    obtain ⟨e1, e2⟩ := so_inj hf
    exact aw_iret hC hW hr rfl (p_eq hP (congrArg (fun z => some (Value.int z)) e1) e2) (Nat.le_of_ble_eq_true rfl) (Nat.le_of_ble_eq_true rfl) dX1_feed_21
  · have hf := ifn c5 hf
    refine lv_iload_n hx hb dX1_feed_8 rfl (lv_at hl 2 rfl) ?_
    refine lv_i2l (v := (x2 : Int32).toInt64) hx hb dX1_feed_9 rfl ?_
    refine lv_lconst (v := 1) hx hb dX1_feed_10 (by decide) ?_
    refine lv_ldc2 (v := 99) hx hb hC.2.2.2.1 (hts _ q1021) dX1_feed_11 ?_
    obtain ⟨v14, ev14, hf⟩ := bnd_some hf
    refine aw_dS1 (As := [.long ((x2 : Int32).toInt64), .long 1, .long 99]) (rest := []) (pc_X1_in l G a ((x2 : Int32).toInt64) 1 99 s2) hC hW hl.1 sy_X1_in (Or.inl q514) rfl rfl (Nat.le_of_ble_eq_true rfl) ⟨Nat.le_of_ble_eq_true rfl, Nat.le_of_ble_eq_true rfl⟩ ⟨Nat.le_of_ble_eq_true rfl, Nat.le_of_ble_eq_true rfl⟩ dX1_feed_14 (fun H locs hW => ?_)
    refine top_i ev14 ?_
    refine lv_if_ne (tgt := 22) hx hb dX1_feed_17 (by decide) (fun c17 => ?_) (fun c17 => ?_)
    · have hf := ifn c17 hf
      refine lv_aload_n hx hb dX1_feed_22 rfl (lv_at hl 0 rfl) ?_
      obtain ⟨g23, hf⟩ := gd_some hf
      obtain ⟨_, s23, h23, hf⟩ := ob_some hf
      refine aw_dV0 (r := o) (As := []) (rest := []) (ct_X1_remember l G a o s2 () s23 h23) hC hW hl.1 vy_X1_remember (Or.inl q913) g23 rfl rfl rfl rfl (Nat.le_of_ble_eq_true rfl) ⟨Nat.le_of_ble_eq_true rfl, Nat.le_of_ble_eq_true rfl⟩ ⟨Nat.le_of_ble_eq_true rfl, Nat.le_of_ble_eq_true rfl⟩ dX1_feed_23 (fun H locs hW => ?_)
      refine lv_aload_n hx hb dX1_feed_26 rfl (lv_at hl 0 rfl) ?_
      obtain ⟨g27, hf⟩ := gd_some hf
      obtain ⟨q27, hq27, hf⟩ := bi_some hf
      refine aw_gR hC hW g27 fl_X1_18 rfl hq27 dX1_feed_27 ?_
      obtain ⟨g30, hf⟩ := gd_some hf
      obtain ⟨q30, hq30, hf⟩ := bi_some hf
      refine aw_gR hC hW g30 fl_X1_236 rfl hq30 dX1_feed_30 ?_
      refine lv_iload_n hx hb dX1_feed_33 rfl (lv_at hl 1 rfl) ?_
      refine lv_sipush (v := 999) hx hb dX1_feed_34 (by decide) ?_
      refine lv_aload_n hx hb dX1_feed_37 rfl (lv_at hl 0 rfl) ?_
      obtain ⟨q38, hq38, hf⟩ := bi_some hf
      refine aw_gR hC hW g27 fl_X1_18 rfl hq38 dX1_feed_38 ?_
      obtain ⟨g41, hf⟩ := gd_some hf
      obtain ⟨q41, hq41, hf⟩ := bi_some hf
      refine aw_gR hC hW g41 fl_X1_236 rfl hq41 dX1_feed_41 ?_
      refine lv_iload_n hx hb dX1_feed_44 rfl (lv_at hl 1 rfl) ?_
      obtain ⟨g45, hf⟩ := gd_some hf
      refine aw_iald hC hW g45 dX1_feed_45 ?_
      refine lv_iload_n hx hb dX1_feed_46 rfl (lv_at hl 2 rfl) ?_
      refine lv_iadd hx hb dX1_feed_47 ?_
      obtain ⟨v48, ev48, hf⟩ := bnd_some hf
      refine aw_dS1 (As := [.int 999, .int ((gi s23 q41 (x1 : Int32).toNatClampNeg) + x2)]) (rest := [.int x1, .ref (a q30)]) (pc_J0_min l G a 999 ((gi s23 q41 (x1 : Int32).toNatClampNeg) + x2) s23) hC hW hl.1 sy_J0_min (Or.inl q906) rfl rfl (Nat.le_of_ble_eq_true rfl) ⟨Nat.le_of_ble_eq_true rfl, Nat.le_of_ble_eq_true rfl⟩ ⟨Nat.le_of_ble_eq_true rfl, Nat.le_of_ble_eq_true rfl⟩ dX1_feed_48 (fun H locs hW => ?_)
      refine top_i ev48 ?_
      obtain ⟨g51, hf⟩ := gd_some hf
      obtain ⟨s51, e51, hf⟩ := bnd_some hf
      refine aw_iast e51 hC hW g51 dX1_feed_51 (fun H locs hW => ?_)
      have g27 := ko_pI e51 g27
      have g30 := ko_pI e51 g30
      have g41 := ko_pI e51 g41
      refine lv_aload_n hx hb dX1_feed_52 rfl (lv_at hl 0 rfl) ?_
      obtain ⟨q53, hq53, hf⟩ := bi_some hf
      refine aw_gR hC hW g27 fl_X1_18 rfl hq53 dX1_feed_53 ?_
      obtain ⟨g56, hf⟩ := gd_some hf
      obtain ⟨q56, hq56, hf⟩ := bi_some hf
      refine aw_gR hC hW g56 fl_X1_236 rfl hq56 dX1_feed_56 ?_
      refine lv_iload_n hx hb dX1_feed_59 rfl (lv_at hl 1 rfl) ?_
      obtain ⟨g60, hf⟩ := gd_some hf
      refine aw_iald hC hW g60 dX1_feed_60 ?_
      obtain ⟨e1, e2⟩ := so_inj hf
      exact aw_iret hC hW hr rfl (p_eq hP (congrArg (fun z => some (Value.int z)) e1) e2) (Nat.le_of_ble_eq_true rfl) (Nat.le_of_ble_eq_true rfl) dX1_feed_61
    · have hf := ifp c17 hf
      refine lv_iconst (v := (-1)) hx hb dX1_feed_20 (by decide) ?_
      obtain ⟨e1, e2⟩ := so_inj hf
      exact aw_iret hC hW hr rfl (p_eq hP (congrArg (fun z => some (Value.int z)) e1) e2) (Nat.le_of_ble_eq_true rfl) (Nat.le_of_ble_eq_true rfl) dX1_feed_21
def f_X1_forget (o : Nat) (s : ST) : Option (Int32 × ST) :=
  gd (o < s.1 ∧ (kd s o).1 = 1) <|
  if (gi s o 32) = 0 then (some ((-1), s)) else bnd (pI s o 32 ((gi s o 32) - 1)) fun s16 =>
  some ((gi s16 o 32), s16)
set_option maxHeartbeats 4000000 in
theorem ct_X1_forget (l : Launch) (G : GM) (a : Nat → Nat) (o : Nat) (s : ST) (rv : Int32) (sf : ST) (hf : f_X1_forget o s = some (rv, sf)) : MD l G yX1_forget (ws_ yX1_forget cX1_forget 1 (some .int)) 0 [.ref (a o)] a s (some (.int rv)) sf := by
  refine md_of (d := 0) (lv := [(0, .ref (a o))]) (Or.inl (by decide)) (Nat.le_of_ble_eq_true rfl) rfl ?_
  intro p e s0 m args below meth c ls A P hP hC hr hnm hW hl
  have hx := hC.1
  have hb := hC.2.1
  have hts := hC.2.2.2.2.1
  unfold f_X1_forget at hf
  refine lv_aload_n hx hb dX1_forget_0 rfl (lv_at hl 0 rfl) ?_
  obtain ⟨g1, hf⟩ := gd_some hf
  refine aw_gI hC hW g1 fl_X1_476 rfl dX1_forget_1 ?_
  refine lv_if_ne (tgt := 9) hx hb dX1_forget_4 (by decide) (fun c4 => ?_) (fun c4 => ?_)
  · have hf := ifn c4 hf
    refine lv_aload_n hx hb dX1_forget_9 rfl (lv_at hl 0 rfl) ?_
    refine lv_dup hx hb dX1_forget_10 rfl ?_
    refine aw_gI hC hW g1 fl_X1_476 rfl dX1_forget_11 ?_
    refine lv_iconst (v := 1) hx hb dX1_forget_14 (by decide) ?_
    refine lv_isub hx hb dX1_forget_15 ?_
    obtain ⟨s16, e16, hf⟩ := bnd_some hf
    refine aw_pI e16 hC hW g1 fl_X1_476 (Or.inl fn_0_32) rfl rfl rfl dX1_forget_16 (fun H locs hW => ?_)
    have g1 := ko_pI e16 g1
    refine lv_aload_n hx hb dX1_forget_19 rfl (lv_at hl 0 rfl) ?_
    refine aw_gI hC hW g1 fl_X1_476 rfl dX1_forget_20 ?_
    obtain ⟨e1, e2⟩ := so_inj hf
    exact aw_iret hC hW hr rfl (p_eq hP (congrArg (fun z => some (Value.int z)) e1) e2) (Nat.le_of_ble_eq_true rfl) (Nat.le_of_ble_eq_true rfl) dX1_forget_23
  · have hf := ifp c4 hf
    refine lv_iconst (v := (-1)) hx hb dX1_forget_7 (by decide) ?_
    obtain ⟨e1, e2⟩ := so_inj hf
    exact aw_iret hC hW hr rfl (p_eq hP (congrArg (fun z => some (Value.int z)) e1) e2) (Nat.le_of_ble_eq_true rfl) (Nat.le_of_ble_eq_true rfl) dX1_forget_8
def f_X1_grains_b67 (K12 : Nat → Int32 → Int32 → ST → Option (Int32 × ST)) (r0 : Nat) (x1 : Int32) (t0 : Int32) (t1 : Int32) (s : ST) : Option (Int32 × ST) :=
  bnd ((t1 ||| t0) : Int32) fun v68 =>
  gd (r0 < s.1 ∧ (kd s r0).1 = 1) <|
  bnd (pI s r0 7 ((gi s r0 7) + 1)) fun s76 =>
  K12 r0 x1 v68 s76
def f_X1_grains_b52 (K12 : Nat → Int32 → Int32 → ST → Option (Int32 × ST)) (r0 : Nat) (x1 : Int32) (x2 : Int32) (x3 : Int32) (s : ST) : Option (Int32 × ST) :=
  if x3 = 0 then (f_X1_grains_b67 K12 r0 x1 0 x2 s) else gd (r0 < s.1 ∧ (kd s r0).1 = 1) <|
  f_X1_grains_b67 K12 r0 x1 (1 <<< ((gi s r0 7) &&& 31)) x2 s
def f_X1_grains_b26 (K12 : Nat → Int32 → Int32 → ST → Option (Int32 × ST)) : Nat → Nat → Int32 → Int32 → Int32 → Int32 → ST → Option (Int32 × ST)
  | 0, _, _, _, _, _, _ => none
  | n + 1, r0, x1, x2, x3, x4, s =>
  gd (r0 < s.1 ∧ (kd s r0).1 = 1) <|
  if (gi s r0 4) ≤ x4 then (f_X1_grains_b52 K12 r0 x1 x2 x3 s) else if x3 = 0 then (f_X1_grains_b52 K12 r0 x1 x2 x3 s) else ob (f_X1_canBe r0 x4 s) fun v42 s42 =>
  bnd (x4 + 1 : Int32) fun v46 =>
  f_X1_grains_b26 K12 n r0 x1 x2 v42 v46 s42
def f_X1_grains_b12 : Nat → Nat → Int32 → Int32 → ST → Option (Int32 × ST)
  | 0, _, _, _, _ => none
  | n + 1, r0, x1, x2, s =>
  gd (r0 < s.1 ∧ (kd s r0).1 = 1) <|
  if 9 < (gi s r0 7) then (bnd (pI s r0 7 x1) fun s84 =>
  some (x2, s84)) else f_X1_grains_b26 (f_X1_grains_b12 n) fuel r0 x1 x2 1 0 s
def f_X1_grains (o : Nat) (s : ST) : Option (Int32 × ST) :=
  gd (o < s.1 ∧ (kd s o).1 = 1) <|
  bnd ((gi s o 7) : Int32) fun v4 =>
  bnd (pI s o 7 1) fun s9 =>
  f_X1_grains_b12 fuel o v4 0 s9
set_option maxHeartbeats 4000000 in
theorem ct_X1_grains (l : Launch) (G : GM) (a : Nat → Nat) (o : Nat) (s : ST) (rv : Int32) (sf : ST) (hf : f_X1_grains o s = some (rv, sf)) : MD l G yX1_grains (wsW_ yX1_grains cX1_grains 6 (some .int) [(7, 82, 90, 0), (90, 92, 90, 0)]) 4 [.ref (a o)] a s (some (.int rv)) sf := by
  refine md_ofW (d := 4) (lv := [(0, .ref (a o))]) (by decide) (Nat.le_of_ble_eq_true rfl) rfl ?_
  intro p e s0 m args below meth c ls A P hP hC hr hnm hW hl
  have hx := hC.1
  have hb := hC.2.1
  have hts := hC.2.2.2.2.1
  have B67 : ∀ (K12 : Nat → Int32 → Int32 → ST → Option (Int32 × ST)) (hK12 : ∀ (r0 : Nat) (x1 : Int32) (x2 : Int32) (s : ST), K12 r0 x1 x2 s = some (rv, sf) → ∀ (H : Heap) (locs : List Loc) (ls : Array Slot), lv_has ls 6 [(0, .ref (a r0)), (1, .int x1), (2, .int x2)] → AW G a A s s0.heap H locs → WB p l e (rmD 4) s0 m args below meth c H locs G A P 12 ls []), ∀ (r0 : Nat) (x1 : Int32) (t0 : Int32) (t1 : Int32) (s : ST), f_X1_grains_b67 K12 r0 x1 t0 t1 s = some (rv, sf) → ∀ (H : Heap) (locs : List Loc) (ls : Array Slot), lv_has ls 6 [(0, .ref (a r0)), (1, .int x1)] → AW G a A s s0.heap H locs → WB p l e (rmD 4) s0 m args below meth c H locs G A P 67 ls [.int t0, .int t1] := by
    intro K12 hK12 r0 x1 t0 t1 s hf H locs ls hl hW
    unfold f_X1_grains_b67 at hf
    refine lv_ior hx hb dX1_grains_67 ?_
    obtain ⟨v68, ev68, hf⟩ := bnd_some hf
    refine top_i ev68 ?_
    refine lv_istore_n (lv' := [(2, .int v68), (0, .ref (a r0)), (1, .int x1)]) hx hb dX1_grains_68 rfl hl (by decide) rfl (fun ls hl => ?_)
    refine lv_aload_n hx hb dX1_grains_69 rfl (lv_at hl 1 rfl) ?_
    refine lv_dup hx hb dX1_grains_70 rfl ?_
    obtain ⟨g71, hf⟩ := gd_some hf
    refine aw_gI hC hW g71 fl_X1_29 rfl dX1_grains_71 ?_
    refine lv_iconst (v := 1) hx hb dX1_grains_74 (by decide) ?_
    refine lv_iadd hx hb dX1_grains_75 ?_
    obtain ⟨s76, e76, hf⟩ := bnd_some hf
    refine aw_pI e76 hC hW g71 fl_X1_29 (Or.inl fn_0_7) rfl rfl rfl dX1_grains_76 (fun H locs hW => ?_)
    have g71 := ko_pI e76 g71
    refine lv_goto (tgt := 12) hx hb dX1_grains_79 (by decide) ?_
    exact hK12 r0 x1 v68 s76 hf _ _ _ (lv_sub hl [1, 2, 0] rfl) hW
  have B52 : ∀ (K12 : Nat → Int32 → Int32 → ST → Option (Int32 × ST)) (hK12 : ∀ (r0 : Nat) (x1 : Int32) (x2 : Int32) (s : ST), K12 r0 x1 x2 s = some (rv, sf) → ∀ (H : Heap) (locs : List Loc) (ls : Array Slot), lv_has ls 6 [(0, .ref (a r0)), (1, .int x1), (2, .int x2)] → AW G a A s s0.heap H locs → WB p l e (rmD 4) s0 m args below meth c H locs G A P 12 ls []), ∀ (r0 : Nat) (x1 : Int32) (x2 : Int32) (x3 : Int32) (s : ST), f_X1_grains_b52 K12 r0 x1 x2 x3 s = some (rv, sf) → ∀ (H : Heap) (locs : List Loc) (ls : Array Slot), lv_has ls 6 [(0, .ref (a r0)), (1, .int x1), (2, .int x2), (3, .int x3)] → AW G a A s s0.heap H locs → WB p l e (rmD 4) s0 m args below meth c H locs G A P 52 ls [] := by
    intro K12 hK12 r0 x1 x2 x3 s hf H locs ls hl hW
    unfold f_X1_grains_b52 at hf
    refine lv_iload_n hx hb dX1_grains_52 rfl (lv_at hl 2 rfl) ?_
    refine lv_iload_n hx hb dX1_grains_53 rfl (lv_at hl 3 rfl) ?_
    refine lv_if_eq (tgt := 66) hx hb dX1_grains_54 (by decide) (fun c54 => ?_) (fun c54 => ?_)
    · have hf := ifp c54 hf
      refine lv_iconst (v := 0) hx hb dX1_grains_66 (by decide) ?_
      exact B67 K12 hK12 r0 x1 0 x2 s hf _ _ _ (lv_sub hl [0, 1] rfl) hW
    · have hf := ifn c54 hf
      refine lv_iconst (v := 1) hx hb dX1_grains_57 (by decide) ?_
      refine lv_aload_n hx hb dX1_grains_58 rfl (lv_at hl 0 rfl) ?_
      obtain ⟨g59, hf⟩ := gd_some hf
      refine aw_gI hC hW g59 fl_X1_29 rfl dX1_grains_59 ?_
      refine lv_ishl hx hb dX1_grains_62 ?_
      refine lv_goto (tgt := 67) hx hb dX1_grains_63 (by decide) ?_
      exact B67 K12 hK12 r0 x1 (1 <<< ((gi s r0 7) &&& 31)) x2 s hf _ _ _ (lv_sub hl [0, 1] rfl) hW
  have B26 : ∀ (K12 : Nat → Int32 → Int32 → ST → Option (Int32 × ST)) (hK12 : ∀ (r0 : Nat) (x1 : Int32) (x2 : Int32) (s : ST), K12 r0 x1 x2 s = some (rv, sf) → ∀ (H : Heap) (locs : List Loc) (ls : Array Slot), lv_has ls 6 [(0, .ref (a r0)), (1, .int x1), (2, .int x2)] → AW G a A s s0.heap H locs → WB p l e (rmD 4) s0 m args below meth c H locs G A P 12 ls []), ∀ (n : Nat), ∀ (r0 : Nat) (x1 : Int32) (x2 : Int32) (x3 : Int32) (x4 : Int32) (s : ST), f_X1_grains_b26 K12 n r0 x1 x2 x3 x4 s = some (rv, sf) → ∀ (H : Heap) (locs : List Loc) (ls : Array Slot), lv_has ls 6 [(0, .ref (a r0)), (1, .int x1), (2, .int x2), (3, .int x3), (4, .int x4)] → AW G a A s s0.heap H locs → WB p l e (rmD 4) s0 m args below meth c H locs G A P 26 ls [] := by
    intro K12 hK12
    intro n
    induction n with
    | zero => intro r0 x1 x2 x3 x4 s hf; cases hf
    | succ n ih =>
      intro r0 x1 x2 x3 x4 s hf H locs ls hl hW
      rw [f_X1_grains_b26] at hf
      refine lv_iload hx hb dX1_grains_26 (lv_at hl 4 rfl) ?_
      refine lv_aload_n hx hb dX1_grains_28 rfl (lv_at hl 0 rfl) ?_
      obtain ⟨g29, hf⟩ := gd_some hf
      refine aw_gI hC hW g29 fl_X1_157 rfl dX1_grains_29 ?_
      refine lv_icmp_ge (tgt := 52) hx hb dX1_grains_32 (by decide) (fun c32 => ?_) (fun c32 => ?_)
      · have hf := ifp c32 hf
        exact B52 K12 hK12 r0 x1 x2 x3 s hf _ _ _ (lv_sub hl [0, 1, 2, 3] rfl) hW
      · have hf := ifn c32 hf
        refine lv_iload_n hx hb dX1_grains_35 rfl (lv_at hl 3 rfl) ?_
        refine lv_if_eq (tgt := 52) hx hb dX1_grains_36 (by decide) (fun c36 => ?_) (fun c36 => ?_)
        · have hf := ifp c36 hf
          exact B52 K12 hK12 r0 x1 x2 x3 s hf _ _ _ (lv_sub hl [0, 1, 2, 3] rfl) hW
        · have hf := ifn c36 hf
          refine lv_aload_n hx hb dX1_grains_39 rfl (lv_at hl 0 rfl) ?_
          refine lv_iload hx hb dX1_grains_40 (lv_at hl 4 rfl) ?_
          obtain ⟨v42, s42, h42, hf⟩ := ob_some hf
          refine aw_dV1 (r := r0) (As := [.int x4]) (rest := []) (ct_X1_canBe l G a r0 x4 s v42 s42 h42) hC hW hl.1 vy_X1_canBe (Or.inl q1190) g29 rfl rfl rfl rfl (Nat.le_of_ble_eq_true rfl) ⟨Nat.le_of_ble_eq_true rfl, Nat.le_of_ble_eq_true rfl⟩ ⟨Nat.le_of_ble_eq_true rfl, Nat.le_of_ble_eq_true rfl⟩ dX1_grains_42 (fun H locs hW => ?_)
          refine lv_istore_n (lv' := [(3, .int v42), (0, .ref (a r0)), (1, .int x1), (2, .int x2), (4, .int x4)]) hx hb dX1_grains_45 rfl hl (by decide) rfl (fun ls hl => ?_)
          obtain ⟨v46, ev46, hf⟩ := bnd_some hf
          refine lv_iinc (v := v46) (lv' := [(4, .int v46), (3, .int v42), (0, .ref (a r0)), (1, .int x1), (2, .int x2)]) hx hb dX1_grains_46 hl (k := 4) rfl (by rw [ev46]; rfl) (by decide) rfl (fun ls hl => ?_)
          refine lv_goto (tgt := 26) hx hb dX1_grains_49 (by decide) ?_
          exact ih r0 x1 x2 v42 v46 s42 hf _ _ _ (lv_sub hl [2, 3, 4, 1, 0] rfl) hW
  have B12 : ∀ (n : Nat), ∀ (r0 : Nat) (x1 : Int32) (x2 : Int32) (s : ST), f_X1_grains_b12 n r0 x1 x2 s = some (rv, sf) → ∀ (H : Heap) (locs : List Loc) (ls : Array Slot), lv_has ls 6 [(0, .ref (a r0)), (1, .int x1), (2, .int x2)] → AW G a A s s0.heap H locs → WB p l e (rmD 4) s0 m args below meth c H locs G A P 12 ls [] := by
    intro n
    induction n with
    | zero => intro r0 x1 x2 s hf; cases hf
    | succ n ih =>
      intro r0 x1 x2 s hf H locs ls hl hW
      rw [f_X1_grains_b12] at hf
      refine lv_aload_n hx hb dX1_grains_12 rfl (lv_at hl 0 rfl) ?_
      obtain ⟨g13, hf⟩ := gd_some hf
      refine aw_gI hC hW g13 fl_X1_29 rfl dX1_grains_13 ?_
      refine lv_bipush (v := 9) hx hb dX1_grains_16 (by decide) ?_
      refine lv_icmp_gt (tgt := 82) hx hb dX1_grains_18 (by decide) (fun c18 => ?_) (fun c18 => ?_)
      · have hf := ifp c18 hf
        refine lv_aload_n hx hb dX1_grains_82 rfl (lv_at hl 0 rfl) ?_
        refine lv_iload_n hx hb dX1_grains_83 rfl (lv_at hl 1 rfl) ?_
        obtain ⟨s84, e84, hf⟩ := bnd_some hf
        refine aw_pI e84 hC hW g13 fl_X1_29 (Or.inl fn_0_7) rfl rfl rfl dX1_grains_84 (fun H locs hW => ?_)
        have g13 := ko_pI e84 g13
        refine lv_goto (tgt := 100) hx hb dX1_grains_87 (by decide) ?_
        refine lv_iload_n hx hb dX1_grains_100 rfl (lv_at hl 2 rfl) ?_
        obtain ⟨e1, e2⟩ := so_inj hf
        exact aw_iret hC hW hr rfl (p_eq hP (congrArg (fun z => some (Value.int z)) e1) e2) (Nat.le_of_ble_eq_true rfl) (Nat.le_of_ble_eq_true rfl) dX1_grains_101
      · have hf := ifn c18 hf
        refine lv_iconst (v := 1) hx hb dX1_grains_21 (by decide) ?_
        refine lv_istore_n (lv' := [(3, .int 1), (0, .ref (a r0)), (1, .int x1), (2, .int x2)]) hx hb dX1_grains_22 rfl hl (by decide) rfl (fun ls hl => ?_)
        refine lv_iconst (v := 0) hx hb dX1_grains_23 (by decide) ?_
        refine lv_istore (lv' := [(4, .int 0), (3, .int 1), (0, .ref (a r0)), (1, .int x1), (2, .int x2)]) hx hb dX1_grains_24 hl (by decide) rfl (fun ls hl => ?_)
        exact B26 (f_X1_grains_b12 n) ih fuel r0 x1 x2 1 0 s hf _ _ _ (lv_sub hl [2, 3, 4, 1, 0] rfl) hW
  unfold f_X1_grains at hf
  refine lv_aload_n hx hb dX1_grains_0 rfl (lv_at hl 0 rfl) ?_
  obtain ⟨g1, hf⟩ := gd_some hf
  refine aw_gI hC hW g1 fl_X1_29 rfl dX1_grains_1 ?_
  obtain ⟨v4, ev4, hf⟩ := bnd_some hf
  refine top_i ev4 ?_
  refine lv_istore_n (lv' := [(1, .int v4), (0, .ref (a o))]) hx hb dX1_grains_4 rfl hl (by decide) rfl (fun ls hl => ?_)
  refine lv_iconst (v := 0) hx hb dX1_grains_5 (by decide) ?_
  refine lv_istore_n (lv' := [(2, .int 0), (1, .int v4), (0, .ref (a o))]) hx hb dX1_grains_6 rfl hl (by decide) rfl (fun ls hl => ?_)
  refine lv_aload_n hx hb dX1_grains_7 rfl (lv_at hl 2 rfl) ?_
  refine lv_iconst (v := 1) hx hb dX1_grains_8 (by decide) ?_
  obtain ⟨s9, e9, hf⟩ := bnd_some hf
  refine aw_pI e9 hC hW g1 fl_X1_29 (Or.inl fn_0_7) rfl rfl rfl dX1_grains_9 (fun H locs hW => ?_)
  have g1 := ko_pI e9 g1
  exact B12 fuel o v4 0 s9 hf _ _ _ (lv_sub hl [2, 1, 0] rfl) hW
def f_X15_init (o : Nat) (r1 : Nat) (x2 : Int32) (x3 : Int32) (s : ST) : Option (Unit × ST) :=
  gd (o < s.1 ∧ (kd s o).1 = 15) <|
  gd (r1 < s.1) <|
  bnd (pR s o 0 (some r1)) fun s6 =>
  bnd (pI s6 o 1 x2) fun s11 =>
  bnd (p_min x2 x3) fun v17 =>
  bnd (pI s11 o 2 v17) fun s20 =>
  some ((), s20)
set_option maxHeartbeats 4000000 in
theorem ct_X15_init (l : Launch) (G : GM) (a : Nat → Nat) (o : Nat) (r1 : Nat) (x2 : Int32) (x3 : Int32) (s : ST) (rv : Unit) (sf : ST) (hf : f_X15_init o r1 x2 x3 s = some (rv, sf)) : MD l G yX15_init (ws_ yX15_init cX15_init 4 none) 1 [.ref (a o), .ref (a r1), .int x2, .int x3] a s none sf := by
  refine md_of (d := 1) (lv := [(0, .ref (a o)), (1, .ref (a r1)), (2, .int x2), (3, .int x3)]) (Or.inl (by decide)) (Nat.le_of_ble_eq_true rfl) rfl ?_
  intro p e s0 m args below meth c ls A P hP hC hr hnm hW hl
  have hx := hC.1
  have hb := hC.2.1
  have hts := hC.2.2.2.2.1
  unfold f_X15_init at hf
  refine lv_aload_n hx hb dX15_init_0 rfl (lv_at hl 0 rfl) ?_
  refine W.objInit hx hb hC.2.2.2.1 (hts _ q531) (hts _ q113) (hts _ q114) rfl (by rw [hC.2.2.1]; exact hl.1) rfl dX15_init_1 (Nat.le_of_ble_eq_true rfl) (Nat.le_of_ble_eq_true rfl) ?_
  refine W.eq (g2 := F0 m 4 ls []) rfl ?_
  refine lv_aload_n hx hb dX15_init_4 rfl (lv_at hl 0 rfl) ?_
  refine lv_aload_n hx hb dX15_init_5 rfl (lv_at hl 1 rfl) ?_
  obtain ⟨g6, hf⟩ := gd_some hf
  obtain ⟨gq6, hf⟩ := gd_some hf
  obtain ⟨s6, e6, hf⟩ := bnd_some hf
  refine aw_pR e6 hC hW g6 gq6 fl_X15_9 (Or.inr ⟨hnm, ff_X15_9⟩) rfl dX15_init_6 (fun H locs hW => ?_)
  have g6 := ko_pR e6 g6
  refine lv_aload_n hx hb dX15_init_9 rfl (lv_at hl 0 rfl) ?_
  refine lv_iload_n hx hb dX15_init_10 rfl (lv_at hl 2 rfl) ?_
  obtain ⟨s11, e11, hf⟩ := bnd_some hf
  refine aw_pI e11 hC hW g6 fl_X15_15 (Or.inr ⟨hnm, ff_X15_15⟩) rfl rfl rfl dX15_init_11 (fun H locs hW => ?_)
  have g6 := ko_pI e11 g6
  refine lv_aload_n hx hb dX15_init_14 rfl (lv_at hl 0 rfl) ?_
  refine lv_iload_n hx hb dX15_init_15 rfl (lv_at hl 2 rfl) ?_
  refine lv_iload_n hx hb dX15_init_16 rfl (lv_at hl 3 rfl) ?_
  obtain ⟨v17, ev17, hf⟩ := bnd_some hf
  refine aw_dS1 (As := [.int x2, .int x3]) (rest := [.ref (a o)]) (pc_J0_min l G a x2 x3 s11) hC hW hl.1 sy_J0_min (Or.inl q532) rfl rfl (Nat.le_of_ble_eq_true rfl) ⟨Nat.le_of_ble_eq_true rfl, Nat.le_of_ble_eq_true rfl⟩ ⟨Nat.le_of_ble_eq_true rfl, Nat.le_of_ble_eq_true rfl⟩ dX15_init_17 (fun H locs hW => ?_)
  refine top_i ev17 ?_
  obtain ⟨s20, e20, hf⟩ := bnd_some hf
  refine aw_pI e20 hC hW g6 fl_X15_25 (Or.inr ⟨hnm, ff_X15_25⟩) rfl rfl rfl dX15_init_20 (fun H locs hW => ?_)
  have g6 := ko_pI e20 g6
  obtain ⟨e1, e2⟩ := so_inj hf
  exact aw_vret hC hW hr (p_eq hP rfl e2) (Nat.le_of_ble_eq_true rfl) (Nat.le_of_ble_eq_true rfl) dX15_init_23
def f_X15_initw (o : Nat) (r1 : Nat) (x2 : Int32) (x3 : Int32) (s : ST) : Option (Unit × ST) :=
  gd (o < s.1 ∧ (kd s o).1 = 17) <|
  gd (r1 < s.1) <|
  bnd (pR s o 0 (some r1)) fun s6 =>
  bnd (pI s6 o 1 x2) fun s11 =>
  bnd (p_min x2 x3) fun v17 =>
  bnd (pI s11 o 2 v17) fun s20 =>
  some ((), s20)
set_option maxHeartbeats 4000000 in
theorem ct_X15_initw (l : Launch) (G : GM) (a : Nat → Nat) (o : Nat) (r1 : Nat) (x2 : Int32) (x3 : Int32) (s : ST) (rv : Unit) (sf : ST) (hf : f_X15_initw o r1 x2 x3 s = some (rv, sf)) : MD l G yX15_init (ws_ yX15_init cX15_init 4 none) 1 [.ref (a o), .ref (a r1), .int x2, .int x3] a s none sf := by
  refine md_of (d := 1) (lv := [(0, .ref (a o)), (1, .ref (a r1)), (2, .int x2), (3, .int x3)]) (Or.inl (by decide)) (Nat.le_of_ble_eq_true rfl) rfl ?_
  intro p e s0 m args below meth c ls A P hP hC hr hnm hW hl
  have hx := hC.1
  have hb := hC.2.1
  have hts := hC.2.2.2.2.1
  unfold f_X15_initw at hf
  refine lv_aload_n hx hb dX15_init_0 rfl (lv_at hl 0 rfl) ?_
  refine W.objInit hx hb hC.2.2.2.1 (hts _ q531) (hts _ q113) (hts _ q114) rfl (by rw [hC.2.2.1]; exact hl.1) rfl dX15_init_1 (Nat.le_of_ble_eq_true rfl) (Nat.le_of_ble_eq_true rfl) ?_
  refine W.eq (g2 := F0 m 4 ls []) rfl ?_
  refine lv_aload_n hx hb dX15_init_4 rfl (lv_at hl 0 rfl) ?_
  refine lv_aload_n hx hb dX15_init_5 rfl (lv_at hl 1 rfl) ?_
  obtain ⟨g6, hf⟩ := gd_some hf
  obtain ⟨gq6, hf⟩ := gd_some hf
  obtain ⟨s6, e6, hf⟩ := bnd_some hf
  refine aw_pR e6 hC hW g6 gq6 fl_X15_9_X17 (Or.inr ⟨hnm, ff_X15_9_16⟩) rfl dX15_init_6 (fun H locs hW => ?_)
  have g6 := ko_pR e6 g6
  refine lv_aload_n hx hb dX15_init_9 rfl (lv_at hl 0 rfl) ?_
  refine lv_iload_n hx hb dX15_init_10 rfl (lv_at hl 2 rfl) ?_
  obtain ⟨s11, e11, hf⟩ := bnd_some hf
  refine aw_pI e11 hC hW g6 fl_X15_15_X17 (Or.inr ⟨hnm, ff_X15_15_16⟩) rfl rfl rfl dX15_init_11 (fun H locs hW => ?_)
  have g6 := ko_pI e11 g6
  refine lv_aload_n hx hb dX15_init_14 rfl (lv_at hl 0 rfl) ?_
  refine lv_iload_n hx hb dX15_init_15 rfl (lv_at hl 2 rfl) ?_
  refine lv_iload_n hx hb dX15_init_16 rfl (lv_at hl 3 rfl) ?_
  obtain ⟨v17, ev17, hf⟩ := bnd_some hf
  refine aw_dS1 (As := [.int x2, .int x3]) (rest := [.ref (a o)]) (pc_J0_min l G a x2 x3 s11) hC hW hl.1 sy_J0_min (Or.inl q532) rfl rfl (Nat.le_of_ble_eq_true rfl) ⟨Nat.le_of_ble_eq_true rfl, Nat.le_of_ble_eq_true rfl⟩ ⟨Nat.le_of_ble_eq_true rfl, Nat.le_of_ble_eq_true rfl⟩ dX15_init_17 (fun H locs hW => ?_)
  refine top_i ev17 ?_
  obtain ⟨s20, e20, hf⟩ := bnd_some hf
  refine aw_pI e20 hC hW g6 fl_X15_25_X17 (Or.inr ⟨hnm, ff_X15_25_16⟩) rfl rfl rfl dX15_init_20 (fun H locs hW => ?_)
  have g6 := ko_pI e20 g6
  obtain ⟨e1, e2⟩ := so_inj hf
  exact aw_vret hC hW hr (p_eq hP rfl e2) (Nat.le_of_ble_eq_true rfl) (Nat.le_of_ble_eq_true rfl) dX15_init_23
def f_X15_here (o : Nat) (s : ST) : Option (Int32 × ST) :=
  gd (o < s.1 ∧ (kd s o).1 = 15) <|
  if (gi s o 2) ≤ (gi s o 3) then (some ((-1), s)) else (gr s o 0).bind fun q12 =>
  gd (q12 < s.1 ∧ (kd s q12).1 = 101 ∧ ¬ (((gi s o 3) : Int32) < 0 ∨ (kd s q12).2 ≤ ((gi s o 3) : Int32).toNatClampNeg)) <|
  some ((gi s q12 ((gi s o 3) : Int32).toNatClampNeg), s)
set_option maxHeartbeats 4000000 in
theorem ct_X15_here (l : Launch) (G : GM) (a : Nat → Nat) (o : Nat) (s : ST) (rv : Int32) (sf : ST) (hf : f_X15_here o s = some (rv, sf)) : MD l G yX15_here (ws_ yX15_here cX15_here 1 (some .int)) 0 [.ref (a o)] a s (some (.int rv)) sf := by
  refine md_of (d := 0) (lv := [(0, .ref (a o))]) (Or.inl (by decide)) (Nat.le_of_ble_eq_true rfl) rfl ?_
  intro p e s0 m args below meth c ls A P hP hC hr hnm hW hl
  have hx := hC.1
  have hb := hC.2.1
  have hts := hC.2.2.2.2.1
  unfold f_X15_here at hf
  refine lv_aload_n hx hb dX15_here_0 rfl (lv_at hl 0 rfl) ?_
  obtain ⟨g1, hf⟩ := gd_some hf
  refine aw_gI hC hW g1 fl_X15_28 rfl dX15_here_1 ?_
  refine lv_aload_n hx hb dX15_here_4 rfl (lv_at hl 0 rfl) ?_
  refine aw_gI hC hW g1 fl_X15_25 rfl dX15_here_5 ?_
  refine lv_icmp_ge (tgt := 23) hx hb dX15_here_8 (by decide) (fun c8 => ?_) (fun c8 => ?_)
  · have hf := ifp c8 hf
    refine lv_iconst (v := (-1)) hx hb dX15_here_23 (by decide) ?_
    obtain ⟨e1, e2⟩ := so_inj hf
    exact aw_iret hC hW hr rfl (p_eq hP (congrArg (fun z => some (Value.int z)) e1) e2) (Nat.le_of_ble_eq_true rfl) (Nat.le_of_ble_eq_true rfl) dX15_here_24
  · have hf := ifn c8 hf
    refine lv_aload_n hx hb dX15_here_11 rfl (lv_at hl 0 rfl) ?_
    obtain ⟨q12, hq12, hf⟩ := bi_some hf
    refine aw_gR hC hW g1 fl_X15_9 rfl hq12 dX15_here_12 ?_
    refine lv_aload_n hx hb dX15_here_15 rfl (lv_at hl 0 rfl) ?_
    refine aw_gI hC hW g1 fl_X15_28 rfl dX15_here_16 ?_
    obtain ⟨g19, hf⟩ := gd_some hf
    refine aw_bald hC hW g19 dX15_here_19 ?_
    refine lv_goto (tgt := 24) hx hb dX15_here_20 (by decide) ?_
    obtain ⟨e1, e2⟩ := so_inj hf
    exact aw_iret hC hW hr rfl (p_eq hP (congrArg (fun z => some (Value.int z)) e1) e2) (Nat.le_of_ble_eq_true rfl) (Nat.le_of_ble_eq_true rfl) dX15_here_24
def f_X15_herew (o : Nat) (s : ST) : Option (Int32 × ST) :=
  gd (o < s.1 ∧ (kd s o).1 = 17) <|
  if (gi s o 2) ≤ (gi s o 3) then (some ((-1), s)) else (gr s o 0).bind fun q12 =>
  gd (q12 < s.1 ∧ (kd s q12).1 = 101 ∧ ¬ (((gi s o 3) : Int32) < 0 ∨ (kd s q12).2 ≤ ((gi s o 3) : Int32).toNatClampNeg)) <|
  some ((gi s q12 ((gi s o 3) : Int32).toNatClampNeg), s)
set_option maxHeartbeats 4000000 in
theorem ct_X15_herew (l : Launch) (G : GM) (a : Nat → Nat) (o : Nat) (s : ST) (rv : Int32) (sf : ST) (hf : f_X15_herew o s = some (rv, sf)) : MD l G yX15_here (ws_ yX15_here cX15_here 1 (some .int)) 0 [.ref (a o)] a s (some (.int rv)) sf := by
  refine md_of (d := 0) (lv := [(0, .ref (a o))]) (Or.inl (by decide)) (Nat.le_of_ble_eq_true rfl) rfl ?_
  intro p e s0 m args below meth c ls A P hP hC hr hnm hW hl
  have hx := hC.1
  have hb := hC.2.1
  have hts := hC.2.2.2.2.1
  unfold f_X15_herew at hf
  refine lv_aload_n hx hb dX15_here_0 rfl (lv_at hl 0 rfl) ?_
  obtain ⟨g1, hf⟩ := gd_some hf
  refine aw_gI hC hW g1 fl_X15_28_X17 rfl dX15_here_1 ?_
  refine lv_aload_n hx hb dX15_here_4 rfl (lv_at hl 0 rfl) ?_
  refine aw_gI hC hW g1 fl_X15_25_X17 rfl dX15_here_5 ?_
  refine lv_icmp_ge (tgt := 23) hx hb dX15_here_8 (by decide) (fun c8 => ?_) (fun c8 => ?_)
  · have hf := ifp c8 hf
    refine lv_iconst (v := (-1)) hx hb dX15_here_23 (by decide) ?_
    obtain ⟨e1, e2⟩ := so_inj hf
    exact aw_iret hC hW hr rfl (p_eq hP (congrArg (fun z => some (Value.int z)) e1) e2) (Nat.le_of_ble_eq_true rfl) (Nat.le_of_ble_eq_true rfl) dX15_here_24
  · have hf := ifn c8 hf
    refine lv_aload_n hx hb dX15_here_11 rfl (lv_at hl 0 rfl) ?_
    obtain ⟨q12, hq12, hf⟩ := bi_some hf
    refine aw_gR hC hW g1 fl_X15_9_X17 rfl hq12 dX15_here_12 ?_
    refine lv_aload_n hx hb dX15_here_15 rfl (lv_at hl 0 rfl) ?_
    refine aw_gI hC hW g1 fl_X15_28_X17 rfl dX15_here_16 ?_
    obtain ⟨g19, hf⟩ := gd_some hf
    refine aw_bald hC hW g19 dX15_here_19 ?_
    refine lv_goto (tgt := 24) hx hb dX15_here_20 (by decide) ?_
    obtain ⟨e1, e2⟩ := so_inj hf
    exact aw_iret hC hW hr rfl (p_eq hP (congrArg (fun z => some (Value.int z)) e1) e2) (Nat.le_of_ble_eq_true rfl) (Nat.le_of_ble_eq_true rfl) dX15_here_24
def f_X15_need (o : Nat) (x1 : Int32) (s : ST) : Option (Unit × ST) :=
  if x1 = 0 then (none) else some ((), s)
set_option maxHeartbeats 4000000 in
theorem ct_X15_need (l : Launch) (G : GM) (a : Nat → Nat) (o : Nat) (x1 : Int32) (s : ST) (rv : Unit) (sf : ST) (hf : f_X15_need o x1 s = some (rv, sf)) : MD l G yX15_need (ws_ yX15_need cX15_need 2 none) 0 [.ref (a o), .int x1] a s none sf := by
  refine md_of (d := 0) (lv := [(0, .ref (a o)), (1, .int x1)]) (Or.inl (by decide)) (Nat.le_of_ble_eq_true rfl) rfl ?_
  intro p e s0 m args below meth c ls A P hP hC hr hnm hW hl
  have hx := hC.1
  have hb := hC.2.1
  have hts := hC.2.2.2.2.1
  unfold f_X15_need at hf
  refine lv_iload_n hx hb dX15_need_0 rfl (lv_at hl 1 rfl) ?_
  refine lv_if_ne (tgt := 16) hx hb dX15_need_1 (by decide) (fun c1 => ?_) (fun c1 => ?_)
  · have hf := ifn c1 hf
    obtain ⟨e1, e2⟩ := so_inj hf
    exact aw_vret hC hW hr (p_eq hP rfl e2) (Nat.le_of_ble_eq_true rfl) (Nat.le_of_ble_eq_true rfl) dX15_need_16
  · have hf := ifp c1 hf
    cases hf
def f_X15_needw (o : Nat) (x1 : Int32) (s : ST) : Option (Unit × ST) :=
  if x1 = 0 then (none) else some ((), s)
set_option maxHeartbeats 4000000 in
theorem ct_X15_needw (l : Launch) (G : GM) (a : Nat → Nat) (o : Nat) (x1 : Int32) (s : ST) (rv : Unit) (sf : ST) (hf : f_X15_needw o x1 s = some (rv, sf)) : MD l G yX15_need (ws_ yX15_need cX15_need 2 none) 0 [.ref (a o), .int x1] a s none sf := by
  refine md_of (d := 0) (lv := [(0, .ref (a o)), (1, .int x1)]) (Or.inl (by decide)) (Nat.le_of_ble_eq_true rfl) rfl ?_
  intro p e s0 m args below meth c ls A P hP hC hr hnm hW hl
  have hx := hC.1
  have hb := hC.2.1
  have hts := hC.2.2.2.2.1
  unfold f_X15_needw at hf
  refine lv_iload_n hx hb dX15_need_0 rfl (lv_at hl 1 rfl) ?_
  refine lv_if_ne (tgt := 16) hx hb dX15_need_1 (by decide) (fun c1 => ?_) (fun c1 => ?_)
  · have hf := ifn c1 hf
    obtain ⟨e1, e2⟩ := so_inj hf
    exact aw_vret hC hW hr (p_eq hP rfl e2) (Nat.le_of_ble_eq_true rfl) (Nat.le_of_ble_eq_true rfl) dX15_need_16
  · have hf := ifp c1 hf
    cases hf
def f_X15_number_b78 (r0 : Nat) (x2 : Int32) (x3 : Int32) (x4 : Int32) (s : ST) : Option (Int32 × ST) :=
  bnd (p_in ((x4 : Int32).toInt64) ((x2 : Int32).toInt64) ((x3 : Int32).toInt64)) fun v85 =>
  if v85 = 0 then (none) else some (x4, s)
def f_X15_number_b24 : Nat → Nat → Int32 → Int32 → Int32 → Int32 → Int32 → ST → Option (Int32 × ST)
  | 0, _, _, _, _, _, _, _ => none
  | n + 1, r0, x1, x2, x3, x4, x5, s =>
  if x1 ≤ x5 then (f_X15_number_b78 r0 x2 x3 x4 s) else gd (r0 < s.1 ∧ (kd s r0).1 = 15) <|
  ob (f_X15_here r0 s) fun v31 s31 =>
  bnd (p_in ((v31 : Int32).toInt64) 48 57) fun v41 =>
  if v41 = 0 then (f_X15_number_b78 r0 x2 x3 x4 s31) else gd (r0 < s31.1 ∧ (kd s31 r0).1 = 15) <|
  ob (f_X15_here r0 s31) fun v53 s53 =>
  bnd ((((10 * x4) + v53) - 48) : Int32) fun v60 =>
  gd (r0 < s53.1 ∧ (kd s53 r0).1 = 15) <|
  bnd (pI s53 r0 3 ((gi s53 r0 3) + 1)) fun s69 =>
  bnd (x5 + 1 : Int32) fun v72 =>
  f_X15_number_b24 n r0 x1 x2 x3 v60 v72 s69
def f_X15_number (o : Nat) (x1 : Int32) (x2 : Int32) (x3 : Int32) (s : ST) : Option (Int32 × ST) :=
  gd (o < s.1 ∧ (kd s o).1 = 15) <|
  ob (f_X15_here o s) fun v2 s2 =>
  bnd (p_in ((v2 : Int32).toInt64) 48 57) fun v12 =>
  gd (o < s2.1 ∧ (kd s2 o).1 = 15) <|
  ob (f_X15_need o v12 s2) fun _ s15 =>
  f_X15_number_b24 fuel o x1 x2 x3 0 0 s15
set_option maxHeartbeats 4000000 in
theorem ct_X15_number (l : Launch) (G : GM) (a : Nat → Nat) (o : Nat) (x1 : Int32) (x2 : Int32) (x3 : Int32) (s : ST) (rv : Int32) (sf : ST) (hf : f_X15_number o x1 x2 x3 s = some (rv, sf)) : MD l G yX15_number (ws_ yX15_number cX15_number 6 (some .int)) 1 [.ref (a o), .int x1, .int x2, .int x3] a s (some (.int rv)) sf := by
  refine md_of (d := 1) (lv := [(0, .ref (a o)), (1, .int x1), (2, .int x2), (3, .int x3)]) (Or.inl (by decide)) (Nat.le_of_ble_eq_true rfl) rfl ?_
  intro p e s0 m args below meth c ls A P hP hC hr hnm hW hl
  have hx := hC.1
  have hb := hC.2.1
  have hts := hC.2.2.2.2.1
  have B78 : ∀ (r0 : Nat) (x2 : Int32) (x3 : Int32) (x4 : Int32) (s : ST), f_X15_number_b78 r0 x2 x3 x4 s = some (rv, sf) → ∀ (H : Heap) (locs : List Loc) (ls : Array Slot), lv_has ls 6 [(0, .ref (a r0)), (2, .int x2), (3, .int x3), (4, .int x4)] → AW G a A s s0.heap H locs → WB p l e (rmD 1) s0 m args below meth c H locs G A P 78 ls [] := by
    intro r0 x2 x3 x4 s hf H locs ls hl hW
    unfold f_X15_number_b78 at hf
    refine lv_iload hx hb dX15_number_78 (lv_at hl 3 rfl) ?_
    refine lv_i2l (v := (x4 : Int32).toInt64) hx hb dX15_number_80 rfl ?_
    refine lv_iload_n hx hb dX15_number_81 rfl (lv_at hl 1 rfl) ?_
    refine lv_i2l (v := (x2 : Int32).toInt64) hx hb dX15_number_82 rfl ?_
    refine lv_iload_n hx hb dX15_number_83 rfl (lv_at hl 2 rfl) ?_
    refine lv_i2l (v := (x3 : Int32).toInt64) hx hb dX15_number_84 rfl ?_
    obtain ⟨v85, ev85, hf⟩ := bnd_some hf
    refine aw_dS1 (As := [.long ((x4 : Int32).toInt64), .long ((x2 : Int32).toInt64), .long ((x3 : Int32).toInt64)]) (rest := []) (pc_X1_in l G a ((x4 : Int32).toInt64) ((x2 : Int32).toInt64) ((x3 : Int32).toInt64) s) hC hW hl.1 sy_X1_in (Or.inr ⟨_, q635⟩) rfl rfl (Nat.le_of_ble_eq_true rfl) ⟨Nat.le_of_ble_eq_true rfl, Nat.le_of_ble_eq_true rfl⟩ ⟨Nat.le_of_ble_eq_true rfl, Nat.le_of_ble_eq_true rfl⟩ dX15_number_85 (fun H locs hW => ?_)
    refine top_i ev85 ?_
    refine lv_if_ne (tgt := 105) hx hb dX15_number_88 (by decide) (fun c88 => ?_) (fun c88 => ?_)
    · have hf := ifn c88 hf
      refine lv_iload hx hb dX15_number_105 (lv_at hl 3 rfl) ?_
      obtain ⟨e1, e2⟩ := so_inj hf
      exact aw_iret hC hW hr rfl (p_eq hP (congrArg (fun z => some (Value.int z)) e1) e2) (Nat.le_of_ble_eq_true rfl) (Nat.le_of_ble_eq_true rfl) dX15_number_107
    · have hf := ifp c88 hf
      cases hf
  have B24 : ∀ (n : Nat), ∀ (r0 : Nat) (x1 : Int32) (x2 : Int32) (x3 : Int32) (x4 : Int32) (x5 : Int32) (s : ST), f_X15_number_b24 n r0 x1 x2 x3 x4 x5 s = some (rv, sf) → ∀ (H : Heap) (locs : List Loc) (ls : Array Slot), lv_has ls 6 [(0, .ref (a r0)), (1, .int x1), (2, .int x2), (3, .int x3), (4, .int x4), (5, .int x5)] → AW G a A s s0.heap H locs → WB p l e (rmD 1) s0 m args below meth c H locs G A P 24 ls [] := by
    intro n
    induction n with
    | zero => intro r0 x1 x2 x3 x4 x5 s hf; cases hf
    | succ n ih =>
      intro r0 x1 x2 x3 x4 x5 s hf H locs ls hl hW
      rw [f_X15_number_b24] at hf
      refine lv_iload hx hb dX15_number_24 (lv_at hl 5 rfl) ?_
      refine lv_iload_n hx hb dX15_number_26 rfl (lv_at hl 1 rfl) ?_
      refine lv_icmp_ge (tgt := 78) hx hb dX15_number_27 (by decide) (fun c27 => ?_) (fun c27 => ?_)
      · have hf := ifp c27 hf
        exact B78 r0 x2 x3 x4 s hf _ _ _ (lv_sub hl [0, 2, 3, 4] rfl) hW
      · have hf := ifn c27 hf
        refine lv_aload_n hx hb dX15_number_30 rfl (lv_at hl 0 rfl) ?_
        obtain ⟨g31, hf⟩ := gd_some hf
        obtain ⟨v31, s31, h31, hf⟩ := ob_some hf
        refine aw_dV1 (r := r0) (As := []) (rest := []) (ct_X15_here l G a r0 s v31 s31 h31) hC hW hl.1 vy_X15_here (Or.inl q627) g31 rfl rfl rfl rfl (Nat.le_of_ble_eq_true rfl) ⟨Nat.le_of_ble_eq_true rfl, Nat.le_of_ble_eq_true rfl⟩ ⟨Nat.le_of_ble_eq_true rfl, Nat.le_of_ble_eq_true rfl⟩ dX15_number_31 (fun H locs hW => ?_)
        refine lv_i2l (v := (v31 : Int32).toInt64) hx hb dX15_number_34 rfl ?_
        refine lv_ldc2 (v := 48) hx hb hC.2.2.2.1 (hts _ q633) dX15_number_35 ?_
        refine lv_ldc2 (v := 57) hx hb hC.2.2.2.1 (hts _ q634) dX15_number_38 ?_
        obtain ⟨v41, ev41, hf⟩ := bnd_some hf
        refine aw_dS1 (As := [.long ((v31 : Int32).toInt64), .long 48, .long 57]) (rest := []) (pc_X1_in l G a ((v31 : Int32).toInt64) 48 57 s31) hC hW hl.1 sy_X1_in (Or.inr ⟨_, q635⟩) rfl rfl (Nat.le_of_ble_eq_true rfl) ⟨Nat.le_of_ble_eq_true rfl, Nat.le_of_ble_eq_true rfl⟩ ⟨Nat.le_of_ble_eq_true rfl, Nat.le_of_ble_eq_true rfl⟩ dX15_number_41 (fun H locs hW => ?_)
        refine top_i ev41 ?_
        refine lv_if_eq (tgt := 78) hx hb dX15_number_44 (by decide) (fun c44 => ?_) (fun c44 => ?_)
        · have hf := ifp c44 hf
          exact B78 r0 x2 x3 x4 s31 hf _ _ _ (lv_sub hl [0, 2, 3, 4] rfl) hW
        · have hf := ifn c44 hf
          refine lv_bipush (v := 10) hx hb dX15_number_47 (by decide) ?_
          refine lv_iload hx hb dX15_number_49 (lv_at hl 4 rfl) ?_
          refine lv_imul hx hb dX15_number_51 ?_
          refine lv_aload_n hx hb dX15_number_52 rfl (lv_at hl 0 rfl) ?_
          obtain ⟨g53, hf⟩ := gd_some hf
          obtain ⟨v53, s53, h53, hf⟩ := ob_some hf
          refine aw_dV1 (r := r0) (As := []) (rest := [.int (10 * x4)]) (ct_X15_here l G a r0 s31 v53 s53 h53) hC hW hl.1 vy_X15_here (Or.inl q627) g53 rfl rfl rfl rfl (Nat.le_of_ble_eq_true rfl) ⟨Nat.le_of_ble_eq_true rfl, Nat.le_of_ble_eq_true rfl⟩ ⟨Nat.le_of_ble_eq_true rfl, Nat.le_of_ble_eq_true rfl⟩ dX15_number_53 (fun H locs hW => ?_)
          refine lv_iadd hx hb dX15_number_56 ?_
          refine lv_bipush (v := 48) hx hb dX15_number_57 (by decide) ?_
          refine lv_isub hx hb dX15_number_59 ?_
          obtain ⟨v60, ev60, hf⟩ := bnd_some hf
          refine top_i ev60 ?_
          refine lv_istore (lv' := [(4, .int v60), (0, .ref (a r0)), (1, .int x1), (2, .int x2), (3, .int x3), (5, .int x5)]) hx hb dX15_number_60 hl (by decide) rfl (fun ls hl => ?_)
          refine lv_aload_n hx hb dX15_number_62 rfl (lv_at hl 1 rfl) ?_
          refine lv_dup hx hb dX15_number_63 rfl ?_
          obtain ⟨g64, hf⟩ := gd_some hf
          refine aw_gI hC hW g64 fl_X15_28 rfl dX15_number_64 ?_
          refine lv_iconst (v := 1) hx hb dX15_number_67 (by decide) ?_
          refine lv_iadd hx hb dX15_number_68 ?_
          obtain ⟨s69, e69, hf⟩ := bnd_some hf
          refine aw_pI e69 hC hW g64 fl_X15_28 (Or.inl fn_14_3) rfl rfl rfl dX15_number_69 (fun H locs hW => ?_)
          have g64 := ko_pI e69 g64
          obtain ⟨v72, ev72, hf⟩ := bnd_some hf
          refine lv_iinc (v := v72) (lv' := [(5, .int v72), (4, .int v60), (0, .ref (a r0)), (1, .int x1), (2, .int x2), (3, .int x3)]) hx hb dX15_number_72 hl (k := 5) rfl (by rw [ev72]; rfl) (by decide) rfl (fun ls hl => ?_)
          refine lv_goto (tgt := 24) hx hb dX15_number_75 (by decide) ?_
          exact ih r0 x1 x2 x3 v60 v72 s69 hf _ _ _ (lv_sub hl [2, 3, 4, 5, 1, 0] rfl) hW
  unfold f_X15_number at hf
  refine lv_aload_n hx hb dX15_number_0 rfl (lv_at hl 0 rfl) ?_
  refine lv_aload_n hx hb dX15_number_1 rfl (lv_at hl 0 rfl) ?_
  obtain ⟨g2, hf⟩ := gd_some hf
  obtain ⟨v2, s2, h2, hf⟩ := ob_some hf
  refine aw_dV1 (r := o) (As := []) (rest := [.ref (a o)]) (ct_X15_here l G a o s v2 s2 h2) hC hW hl.1 vy_X15_here (Or.inl q627) g2 rfl rfl rfl rfl (Nat.le_of_ble_eq_true rfl) ⟨Nat.le_of_ble_eq_true rfl, Nat.le_of_ble_eq_true rfl⟩ ⟨Nat.le_of_ble_eq_true rfl, Nat.le_of_ble_eq_true rfl⟩ dX15_number_2 (fun H locs hW => ?_)
  refine lv_i2l (v := (v2 : Int32).toInt64) hx hb dX15_number_5 rfl ?_
  refine lv_ldc2 (v := 48) hx hb hC.2.2.2.1 (hts _ q633) dX15_number_6 ?_
  refine lv_ldc2 (v := 57) hx hb hC.2.2.2.1 (hts _ q634) dX15_number_9 ?_
  obtain ⟨v12, ev12, hf⟩ := bnd_some hf
  refine aw_dS1 (As := [.long ((v2 : Int32).toInt64), .long 48, .long 57]) (rest := [.ref (a o)]) (pc_X1_in l G a ((v2 : Int32).toInt64) 48 57 s2) hC hW hl.1 sy_X1_in (Or.inr ⟨_, q635⟩) rfl rfl (Nat.le_of_ble_eq_true rfl) ⟨Nat.le_of_ble_eq_true rfl, Nat.le_of_ble_eq_true rfl⟩ ⟨Nat.le_of_ble_eq_true rfl, Nat.le_of_ble_eq_true rfl⟩ dX15_number_12 (fun H locs hW => ?_)
  refine top_i ev12 ?_
  obtain ⟨g15, hf⟩ := gd_some hf
  obtain ⟨_, s15, h15, hf⟩ := ob_some hf
  refine aw_dV0 (r := o) (As := [.int v12]) (rest := []) (ct_X15_need l G a o v12 s2 () s15 h15) hC hW hl.1 vy_X15_need (Or.inl q636) g15 rfl rfl rfl rfl (Nat.le_of_ble_eq_true rfl) ⟨Nat.le_of_ble_eq_true rfl, Nat.le_of_ble_eq_true rfl⟩ ⟨Nat.le_of_ble_eq_true rfl, Nat.le_of_ble_eq_true rfl⟩ dX15_number_15 (fun H locs hW => ?_)
  refine lv_iconst (v := 0) hx hb dX15_number_18 (by decide) ?_
  refine lv_istore (lv' := [(4, .int 0), (0, .ref (a o)), (1, .int x1), (2, .int x2), (3, .int x3)]) hx hb dX15_number_19 hl (by decide) rfl (fun ls hl => ?_)
  refine lv_iconst (v := 0) hx hb dX15_number_21 (by decide) ?_
  refine lv_istore (lv' := [(5, .int 0), (4, .int 0), (0, .ref (a o)), (1, .int x1), (2, .int x2), (3, .int x3)]) hx hb dX15_number_22 hl (by decide) rfl (fun ls hl => ?_)
  exact B24 fuel o x1 x2 x3 0 0 s15 hf _ _ _ (lv_sub hl [2, 3, 4, 5, 1, 0] rfl) hW
def f_X15_numberw_b78 (r0 : Nat) (x2 : Int32) (x3 : Int32) (x4 : Int32) (s : ST) : Option (Int32 × ST) :=
  bnd (p_in ((x4 : Int32).toInt64) ((x2 : Int32).toInt64) ((x3 : Int32).toInt64)) fun v85 =>
  if v85 = 0 then (none) else some (x4, s)
def f_X15_numberw_b24 : Nat → Nat → Int32 → Int32 → Int32 → Int32 → Int32 → ST → Option (Int32 × ST)
  | 0, _, _, _, _, _, _, _ => none
  | n + 1, r0, x1, x2, x3, x4, x5, s =>
  if x1 ≤ x5 then (f_X15_numberw_b78 r0 x2 x3 x4 s) else gd (r0 < s.1 ∧ (kd s r0).1 = 17) <|
  ob (f_X15_herew r0 s) fun v31 s31 =>
  bnd (p_in ((v31 : Int32).toInt64) 48 57) fun v41 =>
  if v41 = 0 then (f_X15_numberw_b78 r0 x2 x3 x4 s31) else gd (r0 < s31.1 ∧ (kd s31 r0).1 = 17) <|
  ob (f_X15_herew r0 s31) fun v53 s53 =>
  bnd ((((10 * x4) + v53) - 48) : Int32) fun v60 =>
  gd (r0 < s53.1 ∧ (kd s53 r0).1 = 17) <|
  bnd (pI s53 r0 3 ((gi s53 r0 3) + 1)) fun s69 =>
  bnd (x5 + 1 : Int32) fun v72 =>
  f_X15_numberw_b24 n r0 x1 x2 x3 v60 v72 s69
def f_X15_numberw (o : Nat) (x1 : Int32) (x2 : Int32) (x3 : Int32) (s : ST) : Option (Int32 × ST) :=
  gd (o < s.1 ∧ (kd s o).1 = 17) <|
  ob (f_X15_herew o s) fun v2 s2 =>
  bnd (p_in ((v2 : Int32).toInt64) 48 57) fun v12 =>
  gd (o < s2.1 ∧ (kd s2 o).1 = 17) <|
  ob (f_X15_needw o v12 s2) fun _ s15 =>
  f_X15_numberw_b24 fuel o x1 x2 x3 0 0 s15
set_option maxHeartbeats 4000000 in
theorem ct_X15_numberw (l : Launch) (G : GM) (a : Nat → Nat) (o : Nat) (x1 : Int32) (x2 : Int32) (x3 : Int32) (s : ST) (rv : Int32) (sf : ST) (hf : f_X15_numberw o x1 x2 x3 s = some (rv, sf)) : MD l G yX15_number (ws_ yX15_number cX15_number 6 (some .int)) 1 [.ref (a o), .int x1, .int x2, .int x3] a s (some (.int rv)) sf := by
  refine md_of (d := 1) (lv := [(0, .ref (a o)), (1, .int x1), (2, .int x2), (3, .int x3)]) (Or.inl (by decide)) (Nat.le_of_ble_eq_true rfl) rfl ?_
  intro p e s0 m args below meth c ls A P hP hC hr hnm hW hl
  have hx := hC.1
  have hb := hC.2.1
  have hts := hC.2.2.2.2.1
  have B78 : ∀ (r0 : Nat) (x2 : Int32) (x3 : Int32) (x4 : Int32) (s : ST), f_X15_numberw_b78 r0 x2 x3 x4 s = some (rv, sf) → ∀ (H : Heap) (locs : List Loc) (ls : Array Slot), lv_has ls 6 [(0, .ref (a r0)), (2, .int x2), (3, .int x3), (4, .int x4)] → AW G a A s s0.heap H locs → WB p l e (rmD 1) s0 m args below meth c H locs G A P 78 ls [] := by
    intro r0 x2 x3 x4 s hf H locs ls hl hW
    unfold f_X15_numberw_b78 at hf
    refine lv_iload hx hb dX15_number_78 (lv_at hl 3 rfl) ?_
    refine lv_i2l (v := (x4 : Int32).toInt64) hx hb dX15_number_80 rfl ?_
    refine lv_iload_n hx hb dX15_number_81 rfl (lv_at hl 1 rfl) ?_
    refine lv_i2l (v := (x2 : Int32).toInt64) hx hb dX15_number_82 rfl ?_
    refine lv_iload_n hx hb dX15_number_83 rfl (lv_at hl 2 rfl) ?_
    refine lv_i2l (v := (x3 : Int32).toInt64) hx hb dX15_number_84 rfl ?_
    obtain ⟨v85, ev85, hf⟩ := bnd_some hf
    refine aw_dS1 (As := [.long ((x4 : Int32).toInt64), .long ((x2 : Int32).toInt64), .long ((x3 : Int32).toInt64)]) (rest := []) (pc_X1_in l G a ((x4 : Int32).toInt64) ((x2 : Int32).toInt64) ((x3 : Int32).toInt64) s) hC hW hl.1 sy_X1_in (Or.inr ⟨_, q635⟩) rfl rfl (Nat.le_of_ble_eq_true rfl) ⟨Nat.le_of_ble_eq_true rfl, Nat.le_of_ble_eq_true rfl⟩ ⟨Nat.le_of_ble_eq_true rfl, Nat.le_of_ble_eq_true rfl⟩ dX15_number_85 (fun H locs hW => ?_)
    refine top_i ev85 ?_
    refine lv_if_ne (tgt := 105) hx hb dX15_number_88 (by decide) (fun c88 => ?_) (fun c88 => ?_)
    · have hf := ifn c88 hf
      refine lv_iload hx hb dX15_number_105 (lv_at hl 3 rfl) ?_
      obtain ⟨e1, e2⟩ := so_inj hf
      exact aw_iret hC hW hr rfl (p_eq hP (congrArg (fun z => some (Value.int z)) e1) e2) (Nat.le_of_ble_eq_true rfl) (Nat.le_of_ble_eq_true rfl) dX15_number_107
    · have hf := ifp c88 hf
      cases hf
  have B24 : ∀ (n : Nat), ∀ (r0 : Nat) (x1 : Int32) (x2 : Int32) (x3 : Int32) (x4 : Int32) (x5 : Int32) (s : ST), f_X15_numberw_b24 n r0 x1 x2 x3 x4 x5 s = some (rv, sf) → ∀ (H : Heap) (locs : List Loc) (ls : Array Slot), lv_has ls 6 [(0, .ref (a r0)), (1, .int x1), (2, .int x2), (3, .int x3), (4, .int x4), (5, .int x5)] → AW G a A s s0.heap H locs → WB p l e (rmD 1) s0 m args below meth c H locs G A P 24 ls [] := by
    intro n
    induction n with
    | zero => intro r0 x1 x2 x3 x4 x5 s hf; cases hf
    | succ n ih =>
      intro r0 x1 x2 x3 x4 x5 s hf H locs ls hl hW
      rw [f_X15_numberw_b24] at hf
      refine lv_iload hx hb dX15_number_24 (lv_at hl 5 rfl) ?_
      refine lv_iload_n hx hb dX15_number_26 rfl (lv_at hl 1 rfl) ?_
      refine lv_icmp_ge (tgt := 78) hx hb dX15_number_27 (by decide) (fun c27 => ?_) (fun c27 => ?_)
      · have hf := ifp c27 hf
        exact B78 r0 x2 x3 x4 s hf _ _ _ (lv_sub hl [0, 2, 3, 4] rfl) hW
      · have hf := ifn c27 hf
        refine lv_aload_n hx hb dX15_number_30 rfl (lv_at hl 0 rfl) ?_
        obtain ⟨g31, hf⟩ := gd_some hf
        obtain ⟨v31, s31, h31, hf⟩ := ob_some hf
        refine aw_dU1 (r := r0) (As := []) (rest := []) (ct_X15_herew l G a r0 s v31 s31 h31) hC hW hl.1 uy_X17_X15_X15_here q627 g31 rfl rfl rfl (Nat.le_of_ble_eq_true rfl) ⟨Nat.le_of_ble_eq_true rfl, Nat.le_of_ble_eq_true rfl⟩ ⟨Nat.le_of_ble_eq_true rfl, Nat.le_of_ble_eq_true rfl⟩ dX15_number_31 (fun H locs hW => ?_)
        refine lv_i2l (v := (v31 : Int32).toInt64) hx hb dX15_number_34 rfl ?_
        refine lv_ldc2 (v := 48) hx hb hC.2.2.2.1 (hts _ q633) dX15_number_35 ?_
        refine lv_ldc2 (v := 57) hx hb hC.2.2.2.1 (hts _ q634) dX15_number_38 ?_
        obtain ⟨v41, ev41, hf⟩ := bnd_some hf
        refine aw_dS1 (As := [.long ((v31 : Int32).toInt64), .long 48, .long 57]) (rest := []) (pc_X1_in l G a ((v31 : Int32).toInt64) 48 57 s31) hC hW hl.1 sy_X1_in (Or.inr ⟨_, q635⟩) rfl rfl (Nat.le_of_ble_eq_true rfl) ⟨Nat.le_of_ble_eq_true rfl, Nat.le_of_ble_eq_true rfl⟩ ⟨Nat.le_of_ble_eq_true rfl, Nat.le_of_ble_eq_true rfl⟩ dX15_number_41 (fun H locs hW => ?_)
        refine top_i ev41 ?_
        refine lv_if_eq (tgt := 78) hx hb dX15_number_44 (by decide) (fun c44 => ?_) (fun c44 => ?_)
        · have hf := ifp c44 hf
          exact B78 r0 x2 x3 x4 s31 hf _ _ _ (lv_sub hl [0, 2, 3, 4] rfl) hW
        · have hf := ifn c44 hf
          refine lv_bipush (v := 10) hx hb dX15_number_47 (by decide) ?_
          refine lv_iload hx hb dX15_number_49 (lv_at hl 4 rfl) ?_
          refine lv_imul hx hb dX15_number_51 ?_
          refine lv_aload_n hx hb dX15_number_52 rfl (lv_at hl 0 rfl) ?_
          obtain ⟨g53, hf⟩ := gd_some hf
          obtain ⟨v53, s53, h53, hf⟩ := ob_some hf
          refine aw_dU1 (r := r0) (As := []) (rest := [.int (10 * x4)]) (ct_X15_herew l G a r0 s31 v53 s53 h53) hC hW hl.1 uy_X17_X15_X15_here q627 g53 rfl rfl rfl (Nat.le_of_ble_eq_true rfl) ⟨Nat.le_of_ble_eq_true rfl, Nat.le_of_ble_eq_true rfl⟩ ⟨Nat.le_of_ble_eq_true rfl, Nat.le_of_ble_eq_true rfl⟩ dX15_number_53 (fun H locs hW => ?_)
          refine lv_iadd hx hb dX15_number_56 ?_
          refine lv_bipush (v := 48) hx hb dX15_number_57 (by decide) ?_
          refine lv_isub hx hb dX15_number_59 ?_
          obtain ⟨v60, ev60, hf⟩ := bnd_some hf
          refine top_i ev60 ?_
          refine lv_istore (lv' := [(4, .int v60), (0, .ref (a r0)), (1, .int x1), (2, .int x2), (3, .int x3), (5, .int x5)]) hx hb dX15_number_60 hl (by decide) rfl (fun ls hl => ?_)
          refine lv_aload_n hx hb dX15_number_62 rfl (lv_at hl 1 rfl) ?_
          refine lv_dup hx hb dX15_number_63 rfl ?_
          obtain ⟨g64, hf⟩ := gd_some hf
          refine aw_gI hC hW g64 fl_X15_28_X17 rfl dX15_number_64 ?_
          refine lv_iconst (v := 1) hx hb dX15_number_67 (by decide) ?_
          refine lv_iadd hx hb dX15_number_68 ?_
          obtain ⟨s69, e69, hf⟩ := bnd_some hf
          refine aw_pI e69 hC hW g64 fl_X15_28_X17 (Or.inl fn_16_3) rfl rfl rfl dX15_number_69 (fun H locs hW => ?_)
          have g64 := ko_pI e69 g64
          obtain ⟨v72, ev72, hf⟩ := bnd_some hf
          refine lv_iinc (v := v72) (lv' := [(5, .int v72), (4, .int v60), (0, .ref (a r0)), (1, .int x1), (2, .int x2), (3, .int x3)]) hx hb dX15_number_72 hl (k := 5) rfl (by rw [ev72]; rfl) (by decide) rfl (fun ls hl => ?_)
          refine lv_goto (tgt := 24) hx hb dX15_number_75 (by decide) ?_
          exact ih r0 x1 x2 x3 v60 v72 s69 hf _ _ _ (lv_sub hl [2, 3, 4, 5, 1, 0] rfl) hW
  unfold f_X15_numberw at hf
  refine lv_aload_n hx hb dX15_number_0 rfl (lv_at hl 0 rfl) ?_
  refine lv_aload_n hx hb dX15_number_1 rfl (lv_at hl 0 rfl) ?_
  obtain ⟨g2, hf⟩ := gd_some hf
  obtain ⟨v2, s2, h2, hf⟩ := ob_some hf
  refine aw_dU1 (r := o) (As := []) (rest := [.ref (a o)]) (ct_X15_herew l G a o s v2 s2 h2) hC hW hl.1 uy_X17_X15_X15_here q627 g2 rfl rfl rfl (Nat.le_of_ble_eq_true rfl) ⟨Nat.le_of_ble_eq_true rfl, Nat.le_of_ble_eq_true rfl⟩ ⟨Nat.le_of_ble_eq_true rfl, Nat.le_of_ble_eq_true rfl⟩ dX15_number_2 (fun H locs hW => ?_)
  refine lv_i2l (v := (v2 : Int32).toInt64) hx hb dX15_number_5 rfl ?_
  refine lv_ldc2 (v := 48) hx hb hC.2.2.2.1 (hts _ q633) dX15_number_6 ?_
  refine lv_ldc2 (v := 57) hx hb hC.2.2.2.1 (hts _ q634) dX15_number_9 ?_
  obtain ⟨v12, ev12, hf⟩ := bnd_some hf
  refine aw_dS1 (As := [.long ((v2 : Int32).toInt64), .long 48, .long 57]) (rest := [.ref (a o)]) (pc_X1_in l G a ((v2 : Int32).toInt64) 48 57 s2) hC hW hl.1 sy_X1_in (Or.inr ⟨_, q635⟩) rfl rfl (Nat.le_of_ble_eq_true rfl) ⟨Nat.le_of_ble_eq_true rfl, Nat.le_of_ble_eq_true rfl⟩ ⟨Nat.le_of_ble_eq_true rfl, Nat.le_of_ble_eq_true rfl⟩ dX15_number_12 (fun H locs hW => ?_)
  refine top_i ev12 ?_
  obtain ⟨g15, hf⟩ := gd_some hf
  obtain ⟨_, s15, h15, hf⟩ := ob_some hf
  refine aw_dU0 (r := o) (As := [.int v12]) (rest := []) (ct_X15_needw l G a o v12 s2 () s15 h15) hC hW hl.1 uy_X17_X15_X15_need q636 g15 rfl rfl rfl (Nat.le_of_ble_eq_true rfl) ⟨Nat.le_of_ble_eq_true rfl, Nat.le_of_ble_eq_true rfl⟩ ⟨Nat.le_of_ble_eq_true rfl, Nat.le_of_ble_eq_true rfl⟩ dX15_number_15 (fun H locs hW => ?_)
  refine lv_iconst (v := 0) hx hb dX15_number_18 (by decide) ?_
  refine lv_istore (lv' := [(4, .int 0), (0, .ref (a o)), (1, .int x1), (2, .int x2), (3, .int x3)]) hx hb dX15_number_19 hl (by decide) rfl (fun ls hl => ?_)
  refine lv_iconst (v := 0) hx hb dX15_number_21 (by decide) ?_
  refine lv_istore (lv' := [(5, .int 0), (4, .int 0), (0, .ref (a o)), (1, .int x1), (2, .int x2), (3, .int x3)]) hx hb dX15_number_22 hl (by decide) rfl (fun ls hl => ?_)
  exact B24 fuel o x1 x2 x3 0 0 s15 hf _ _ _ (lv_sub hl [2, 3, 4, 5, 1, 0] rfl) hW
def f_X15_habit_b55 (K5 : Nat → Nat → ST → Option (Unit × ST)) (r0 : Nat) (r1 : Nat) (t0 : Int32) (s : ST) : Option (Unit × ST) :=
  gd (r0 < s.1 ∧ (kd s r0).1 = 15) <|
  bnd (pI s r0 3 ((gi s r0 3) + 1)) fun s63 =>
  gd (r1 < s63.1 ∧ (kd s63 r1).1 = 3) <|
  (gr s63 r1 3).bind fun q67 =>
  ob (f_X15_number r0 1 0 9 s63) fun v80 s80 =>
  gd (q67 < s80.1 ∧ (kd s80 q67).1 = 100 ∧ ¬ (((gi s63 r1 2) : Int32) < 0 ∨ (kd s80 q67).2 ≤ ((gi s63 r1 2) : Int32).toNatClampNeg)) <|
  bnd (pI s80 q67 ((gi s63 r1 2) : Int32).toNatClampNeg (t0 * v80)) fun s84 =>
  gd (r1 < s84.1 ∧ (kd s84 r1).1 = 3) <|
  bnd (pI s84 r1 2 ((gi s84 r1 2) + 1)) fun s92 =>
  K5 r0 r1 s92
def f_X15_habit_b38 (K5 : Nat → Nat → ST → Option (Unit × ST)) (r0 : Nat) (r1 : Nat) (t0 : Int32) (w1 : Nat) (s : ST) : Option (Unit × ST) :=
  gd (w1 < s.1 ∧ (kd s w1).1 = 15) <|
  ob (f_X15_need w1 t0 s) fun _ s38 =>
  gd (r0 < s38.1 ∧ (kd s38 r0).1 = 15) <|
  ob (f_X15_here r0 s38) fun v42 s42 =>
  if v42 = 43 then (f_X15_habit_b55 K5 r0 r1 1 s42) else f_X15_habit_b55 K5 r0 r1 (-1) s42
def f_X15_habit_b23 (K5 : Nat → Nat → ST → Option (Unit × ST)) (r0 : Nat) (r1 : Nat) (s : ST) : Option (Unit × ST) :=
  gd (r1 < s.1 ∧ (kd s r1).1 = 3) <|
  if 6 ≤ (gi s r1 2) then (f_X15_habit_b38 K5 r0 r1 0 r0 s) else f_X15_habit_b38 K5 r0 r1 1 r0 s
def f_X15_habit_b5 : Nat → Nat → Nat → ST → Option (Unit × ST)
  | 0, _, _, _ => none
  | n + 1, r0, r1, s =>
  gd (r0 < s.1 ∧ (kd s r0).1 = 15) <|
  ob (f_X15_here r0 s) fun v6 s6 =>
  if v6 = 43 then (f_X15_habit_b23 (f_X15_habit_b5 n) r0 r1 s6) else gd (r0 < s6.1 ∧ (kd s6 r0).1 = 15) <|
  ob (f_X15_here r0 s6) fun v15 s15 =>
  if v15 = 45 then (f_X15_habit_b23 (f_X15_habit_b5 n) r0 r1 s15) else some ((), s15)
def f_X15_habit (o : Nat) (r1 : Nat) (s : ST) : Option (Unit × ST) :=
  gd (r1 < s.1 ∧ (kd s r1).1 = 3) <|
  bnd (pI s r1 2 0) fun s2 =>
  f_X15_habit_b5 fuel o r1 s2
set_option maxHeartbeats 4000000 in
theorem ct_X15_habit (l : Launch) (G : GM) (a : Nat → Nat) (o : Nat) (r1 : Nat) (s : ST) (rv : Unit) (sf : ST) (hf : f_X15_habit o r1 s = some (rv, sf)) : MD l G yX15_habit (ws_ yX15_habit cX15_habit 3 none) 2 [.ref (a o), .ref (a r1)] a s none sf := by
  refine md_of (d := 2) (lv := [(0, .ref (a o)), (1, .ref (a r1))]) (Or.inl (by decide)) (Nat.le_of_ble_eq_true rfl) rfl ?_
  intro p e s0 m args below meth c ls A P hP hC hr hnm hW hl
  have hx := hC.1
  have hb := hC.2.1
  have hts := hC.2.2.2.2.1
  have B55 : ∀ (K5 : Nat → Nat → ST → Option (Unit × ST)) (hK5 : ∀ (r0 : Nat) (r1 : Nat) (s : ST), K5 r0 r1 s = some (rv, sf) → ∀ (H : Heap) (locs : List Loc) (ls : Array Slot), lv_has ls 3 [(0, .ref (a r0)), (1, .ref (a r1))] → AW G a A s s0.heap H locs → WB p l e (rmD 2) s0 m args below meth c H locs G A P 5 ls []), ∀ (r0 : Nat) (r1 : Nat) (t0 : Int32) (s : ST), f_X15_habit_b55 K5 r0 r1 t0 s = some (rv, sf) → ∀ (H : Heap) (locs : List Loc) (ls : Array Slot), lv_has ls 3 [(0, .ref (a r0)), (1, .ref (a r1))] → AW G a A s s0.heap H locs → WB p l e (rmD 2) s0 m args below meth c H locs G A P 55 ls [.int t0] := by
    intro K5 hK5 r0 r1 t0 s hf H locs ls hl hW
    unfold f_X15_habit_b55 at hf
    refine lv_istore_n (lv' := [(2, .int t0), (0, .ref (a r0)), (1, .ref (a r1))]) hx hb dX15_habit_55 rfl hl (by decide) rfl (fun ls hl => ?_)
    refine lv_aload_n hx hb dX15_habit_56 rfl (lv_at hl 1 rfl) ?_
    refine lv_dup hx hb dX15_habit_57 rfl ?_
    obtain ⟨g58, hf⟩ := gd_some hf
    refine aw_gI hC hW g58 fl_X15_28 rfl dX15_habit_58 ?_
    refine lv_iconst (v := 1) hx hb dX15_habit_61 (by decide) ?_
    refine lv_iadd hx hb dX15_habit_62 ?_
    obtain ⟨s63, e63, hf⟩ := bnd_some hf
    refine aw_pI e63 hC hW g58 fl_X15_28 (Or.inl fn_14_3) rfl rfl rfl dX15_habit_63 (fun H locs hW => ?_)
    have g58 := ko_pI e63 g58
    refine lv_aload_n hx hb dX15_habit_66 rfl (lv_at hl 2 rfl) ?_
    obtain ⟨g67, hf⟩ := gd_some hf
    obtain ⟨q67, hq67, hf⟩ := bi_some hf
    refine aw_gR hC hW g67 fl_X15_57 rfl hq67 dX15_habit_67 ?_
    refine lv_aload_n hx hb dX15_habit_70 rfl (lv_at hl 2 rfl) ?_
    refine aw_gI hC hW g67 fl_X15_52 rfl dX15_habit_71 ?_
    refine lv_iload_n hx hb dX15_habit_74 rfl (lv_at hl 0 rfl) ?_
    refine lv_aload_n hx hb dX15_habit_75 rfl (lv_at hl 1 rfl) ?_
    refine lv_iconst (v := 1) hx hb dX15_habit_76 (by decide) ?_
    refine lv_iconst (v := 0) hx hb dX15_habit_77 (by decide) ?_
    refine lv_bipush (v := 9) hx hb dX15_habit_78 (by decide) ?_
    obtain ⟨v80, s80, h80, hf⟩ := ob_some hf
    refine aw_dV1 (r := r0) (As := [.int 1, .int 0, .int 9]) (rest := [.int t0, .int (gi s63 r1 2), .ref (a q67)]) (ct_X15_number l G a r0 1 0 9 s63 v80 s80 h80) hC hW hl.1 vy_X15_number (Or.inl q649) g58 rfl rfl rfl rfl (Nat.le_of_ble_eq_true rfl) ⟨Nat.le_of_ble_eq_true rfl, Nat.le_of_ble_eq_true rfl⟩ ⟨Nat.le_of_ble_eq_true rfl, Nat.le_of_ble_eq_true rfl⟩ dX15_habit_80 (fun H locs hW => ?_)
    refine lv_imul hx hb dX15_habit_83 ?_
    obtain ⟨g84, hf⟩ := gd_some hf
    obtain ⟨s84, e84, hf⟩ := bnd_some hf
    refine aw_iast e84 hC hW g84 dX15_habit_84 (fun H locs hW => ?_)
    refine lv_aload_n hx hb dX15_habit_85 rfl (lv_at hl 2 rfl) ?_
    refine lv_dup hx hb dX15_habit_86 rfl ?_
    obtain ⟨g87, hf⟩ := gd_some hf
    refine aw_gI hC hW g87 fl_X15_52 rfl dX15_habit_87 ?_
    refine lv_iconst (v := 1) hx hb dX15_habit_90 (by decide) ?_
    refine lv_iadd hx hb dX15_habit_91 ?_
    obtain ⟨s92, e92, hf⟩ := bnd_some hf
    refine aw_pI e92 hC hW g87 fl_X15_52 (Or.inl fn_2_2) rfl rfl rfl dX15_habit_92 (fun H locs hW => ?_)
    have g87 := ko_pI e92 g87
    refine lv_goto (tgt := 5) hx hb dX15_habit_95 (by decide) ?_
    exact hK5 r0 r1 s92 hf _ _ _ (lv_sub hl [1, 2] rfl) hW
  have B38 : ∀ (K5 : Nat → Nat → ST → Option (Unit × ST)) (hK5 : ∀ (r0 : Nat) (r1 : Nat) (s : ST), K5 r0 r1 s = some (rv, sf) → ∀ (H : Heap) (locs : List Loc) (ls : Array Slot), lv_has ls 3 [(0, .ref (a r0)), (1, .ref (a r1))] → AW G a A s s0.heap H locs → WB p l e (rmD 2) s0 m args below meth c H locs G A P 5 ls []), ∀ (r0 : Nat) (r1 : Nat) (t0 : Int32) (w1 : Nat) (s : ST), f_X15_habit_b38 K5 r0 r1 t0 w1 s = some (rv, sf) → ∀ (H : Heap) (locs : List Loc) (ls : Array Slot), lv_has ls 3 [(0, .ref (a r0)), (1, .ref (a r1))] → AW G a A s s0.heap H locs → WB p l e (rmD 2) s0 m args below meth c H locs G A P 38 ls [.int t0, .ref (a w1)] := by
    intro K5 hK5 r0 r1 t0 w1 s hf H locs ls hl hW
    unfold f_X15_habit_b38 at hf
    obtain ⟨g38, hf⟩ := gd_some hf
    obtain ⟨_, s38, h38, hf⟩ := ob_some hf
    refine aw_dV0 (r := w1) (As := [.int t0]) (rest := []) (ct_X15_need l G a w1 t0 s () s38 h38) hC hW hl.1 vy_X15_need (Or.inl q636) g38 rfl rfl rfl rfl (Nat.le_of_ble_eq_true rfl) ⟨Nat.le_of_ble_eq_true rfl, Nat.le_of_ble_eq_true rfl⟩ ⟨Nat.le_of_ble_eq_true rfl, Nat.le_of_ble_eq_true rfl⟩ dX15_habit_38 (fun H locs hW => ?_)
    refine lv_aload_n hx hb dX15_habit_41 rfl (lv_at hl 0 rfl) ?_
    obtain ⟨g42, hf⟩ := gd_some hf
    obtain ⟨v42, s42, h42, hf⟩ := ob_some hf
    refine aw_dV1 (r := r0) (As := []) (rest := []) (ct_X15_here l G a r0 s38 v42 s42 h42) hC hW hl.1 vy_X15_here (Or.inl q627) g42 rfl rfl rfl rfl (Nat.le_of_ble_eq_true rfl) ⟨Nat.le_of_ble_eq_true rfl, Nat.le_of_ble_eq_true rfl⟩ ⟨Nat.le_of_ble_eq_true rfl, Nat.le_of_ble_eq_true rfl⟩ dX15_habit_42 (fun H locs hW => ?_)
    refine lv_bipush (v := 43) hx hb dX15_habit_45 (by decide) ?_
    refine lv_icmp_ne (tgt := 54) hx hb dX15_habit_47 (by decide) (fun c47 => ?_) (fun c47 => ?_)
    · have hf := ifn c47 hf
      refine lv_iconst (v := (-1)) hx hb dX15_habit_54 (by decide) ?_
      exact B55 K5 hK5 r0 r1 (-1) s42 hf _ _ _ (lv_sub hl [0, 1] rfl) hW
    · have hf := ifp c47 hf
      refine lv_iconst (v := 1) hx hb dX15_habit_50 (by decide) ?_
      refine lv_goto (tgt := 55) hx hb dX15_habit_51 (by decide) ?_
      exact B55 K5 hK5 r0 r1 1 s42 hf _ _ _ (lv_sub hl [0, 1] rfl) hW
  have B23 : ∀ (K5 : Nat → Nat → ST → Option (Unit × ST)) (hK5 : ∀ (r0 : Nat) (r1 : Nat) (s : ST), K5 r0 r1 s = some (rv, sf) → ∀ (H : Heap) (locs : List Loc) (ls : Array Slot), lv_has ls 3 [(0, .ref (a r0)), (1, .ref (a r1))] → AW G a A s s0.heap H locs → WB p l e (rmD 2) s0 m args below meth c H locs G A P 5 ls []), ∀ (r0 : Nat) (r1 : Nat) (s : ST), f_X15_habit_b23 K5 r0 r1 s = some (rv, sf) → ∀ (H : Heap) (locs : List Loc) (ls : Array Slot), lv_has ls 3 [(0, .ref (a r0)), (1, .ref (a r1))] → AW G a A s s0.heap H locs → WB p l e (rmD 2) s0 m args below meth c H locs G A P 23 ls [] := by
    intro K5 hK5 r0 r1 s hf H locs ls hl hW
    unfold f_X15_habit_b23 at hf
    refine lv_aload_n hx hb dX15_habit_23 rfl (lv_at hl 0 rfl) ?_
    refine lv_aload_n hx hb dX15_habit_24 rfl (lv_at hl 1 rfl) ?_
    obtain ⟨g25, hf⟩ := gd_some hf
    refine aw_gI hC hW g25 fl_X15_52 rfl dX15_habit_25 ?_
    refine lv_bipush (v := 6) hx hb dX15_habit_28 (by decide) ?_
    refine lv_icmp_ge (tgt := 37) hx hb dX15_habit_30 (by decide) (fun c30 => ?_) (fun c30 => ?_)
    · have hf := ifp c30 hf
      refine lv_iconst (v := 0) hx hb dX15_habit_37 (by decide) ?_
      exact B38 K5 hK5 r0 r1 0 r0 s hf _ _ _ (lv_sub hl [0, 1] rfl) hW
    · have hf := ifn c30 hf
      refine lv_iconst (v := 1) hx hb dX15_habit_33 (by decide) ?_
      refine lv_goto (tgt := 38) hx hb dX15_habit_34 (by decide) ?_
      exact B38 K5 hK5 r0 r1 1 r0 s hf _ _ _ (lv_sub hl [0, 1] rfl) hW
  have B5 : ∀ (n : Nat), ∀ (r0 : Nat) (r1 : Nat) (s : ST), f_X15_habit_b5 n r0 r1 s = some (rv, sf) → ∀ (H : Heap) (locs : List Loc) (ls : Array Slot), lv_has ls 3 [(0, .ref (a r0)), (1, .ref (a r1))] → AW G a A s s0.heap H locs → WB p l e (rmD 2) s0 m args below meth c H locs G A P 5 ls [] := by
    intro n
    induction n with
    | zero => intro r0 r1 s hf; cases hf
    | succ n ih =>
      intro r0 r1 s hf H locs ls hl hW
      rw [f_X15_habit_b5] at hf
      refine lv_aload_n hx hb dX15_habit_5 rfl (lv_at hl 0 rfl) ?_
      obtain ⟨g6, hf⟩ := gd_some hf
      obtain ⟨v6, s6, h6, hf⟩ := ob_some hf
      refine aw_dV1 (r := r0) (As := []) (rest := []) (ct_X15_here l G a r0 s v6 s6 h6) hC hW hl.1 vy_X15_here (Or.inl q627) g6 rfl rfl rfl rfl (Nat.le_of_ble_eq_true rfl) ⟨Nat.le_of_ble_eq_true rfl, Nat.le_of_ble_eq_true rfl⟩ ⟨Nat.le_of_ble_eq_true rfl, Nat.le_of_ble_eq_true rfl⟩ dX15_habit_6 (fun H locs hW => ?_)
      refine lv_bipush (v := 43) hx hb dX15_habit_9 (by decide) ?_
      refine lv_icmp_eq (tgt := 23) hx hb dX15_habit_11 (by decide) (fun c11 => ?_) (fun c11 => ?_)
      · have hf := ifp c11 hf
        exact B23 (f_X15_habit_b5 n) ih r0 r1 s6 hf _ _ _ (lv_sub hl [0, 1] rfl) hW
      · have hf := ifn c11 hf
        refine lv_aload_n hx hb dX15_habit_14 rfl (lv_at hl 0 rfl) ?_
        obtain ⟨g15, hf⟩ := gd_some hf
        obtain ⟨v15, s15, h15, hf⟩ := ob_some hf
        refine aw_dV1 (r := r0) (As := []) (rest := []) (ct_X15_here l G a r0 s6 v15 s15 h15) hC hW hl.1 vy_X15_here (Or.inl q627) g15 rfl rfl rfl rfl (Nat.le_of_ble_eq_true rfl) ⟨Nat.le_of_ble_eq_true rfl, Nat.le_of_ble_eq_true rfl⟩ ⟨Nat.le_of_ble_eq_true rfl, Nat.le_of_ble_eq_true rfl⟩ dX15_habit_15 (fun H locs hW => ?_)
        refine lv_bipush (v := 45) hx hb dX15_habit_18 (by decide) ?_
        refine lv_icmp_ne (tgt := 98) hx hb dX15_habit_20 (by decide) (fun c20 => ?_) (fun c20 => ?_)
        · have hf := ifn c20 hf
          obtain ⟨e1, e2⟩ := so_inj hf
          exact aw_vret hC hW hr (p_eq hP rfl e2) (Nat.le_of_ble_eq_true rfl) (Nat.le_of_ble_eq_true rfl) dX15_habit_98
        · have hf := ifp c20 hf
          exact B23 (f_X15_habit_b5 n) ih r0 r1 s15 hf _ _ _ (lv_sub hl [0, 1] rfl) hW
  unfold f_X15_habit at hf
  refine lv_aload_n hx hb dX15_habit_0 rfl (lv_at hl 1 rfl) ?_
  refine lv_iconst (v := 0) hx hb dX15_habit_1 (by decide) ?_
  obtain ⟨g2, hf⟩ := gd_some hf
  obtain ⟨s2, e2, hf⟩ := bnd_some hf
  refine aw_pI e2 hC hW g2 fl_X15_52 (Or.inl fn_2_2) rfl rfl rfl dX15_habit_2 (fun H locs hW => ?_)
  have g2 := ko_pI e2 g2
  exact B5 fuel o r1 s2 hf _ _ _ (lv_sub hl [0, 1] rfl) hW
def f_X15_needEnd_b17 (t0 : Int32) (w1 : Nat) (s : ST) : Option (Unit × ST) :=
  gd (w1 < s.1 ∧ (kd s w1).1 = 15) <|
  ob (f_X15_need w1 t0 s) fun _ s17 =>
  some ((), s17)
def f_X15_needEnd (o : Nat) (s : ST) : Option (Unit × ST) :=
  gd (o < s.1 ∧ (kd s o).1 = 15) <|
  if (gi s o 3) = (gi s o 1) then (f_X15_needEnd_b17 1 o s) else f_X15_needEnd_b17 0 o s
set_option maxHeartbeats 4000000 in
theorem ct_X15_needEnd (l : Launch) (G : GM) (a : Nat → Nat) (o : Nat) (s : ST) (rv : Unit) (sf : ST) (hf : f_X15_needEnd o s = some (rv, sf)) : MD l G yX15_needEnd (ws_ yX15_needEnd cX15_needEnd 1 none) 1 [.ref (a o)] a s none sf := by
  refine md_of (d := 1) (lv := [(0, .ref (a o))]) (Or.inl (by decide)) (Nat.le_of_ble_eq_true rfl) rfl ?_
  intro p e s0 m args below meth c ls A P hP hC hr hnm hW hl
  have hx := hC.1
  have hb := hC.2.1
  have hts := hC.2.2.2.2.1
  have B17 : ∀ (t0 : Int32) (w1 : Nat) (s : ST), f_X15_needEnd_b17 t0 w1 s = some (rv, sf) → ∀ (H : Heap) (locs : List Loc) (ls : Array Slot), lv_has ls 1 [] → AW G a A s s0.heap H locs → WB p l e (rmD 1) s0 m args below meth c H locs G A P 17 ls [.int t0, .ref (a w1)] := by
    intro t0 w1 s hf H locs ls hl hW
    unfold f_X15_needEnd_b17 at hf
    obtain ⟨g17, hf⟩ := gd_some hf
    obtain ⟨_, s17, h17, hf⟩ := ob_some hf
    refine aw_dV0 (r := w1) (As := [.int t0]) (rest := []) (ct_X15_need l G a w1 t0 s () s17 h17) hC hW hl.1 vy_X15_need (Or.inl q636) g17 rfl rfl rfl rfl (Nat.le_of_ble_eq_true rfl) ⟨Nat.le_of_ble_eq_true rfl, Nat.le_of_ble_eq_true rfl⟩ ⟨Nat.le_of_ble_eq_true rfl, Nat.le_of_ble_eq_true rfl⟩ dX15_needEnd_17 (fun H locs hW => ?_)
    obtain ⟨e1, e2⟩ := so_inj hf
    exact aw_vret hC hW hr (p_eq hP rfl e2) (Nat.le_of_ble_eq_true rfl) (Nat.le_of_ble_eq_true rfl) dX15_needEnd_20
  unfold f_X15_needEnd at hf
  refine lv_aload_n hx hb dX15_needEnd_0 rfl (lv_at hl 0 rfl) ?_
  refine lv_aload_n hx hb dX15_needEnd_1 rfl (lv_at hl 0 rfl) ?_
  obtain ⟨g2, hf⟩ := gd_some hf
  refine aw_gI hC hW g2 fl_X15_28 rfl dX15_needEnd_2 ?_
  refine lv_aload_n hx hb dX15_needEnd_5 rfl (lv_at hl 0 rfl) ?_
  refine aw_gI hC hW g2 fl_X15_15 rfl dX15_needEnd_6 ?_
  refine lv_icmp_ne (tgt := 16) hx hb dX15_needEnd_9 (by decide) (fun c9 => ?_) (fun c9 => ?_)
  · have hf := ifn c9 hf
    refine lv_iconst (v := 0) hx hb dX15_needEnd_16 (by decide) ?_
    exact B17 0 o s hf _ _ _ (lv_sub hl [] rfl) hW
  · have hf := ifp c9 hf
    refine lv_iconst (v := 1) hx hb dX15_needEnd_12 (by decide) ?_
    refine lv_goto (tgt := 17) hx hb dX15_needEnd_13 (by decide) ?_
    exact B17 1 o s hf _ _ _ (lv_sub hl [] rfl) hW
def f_X15_needEndw_b17 (t0 : Int32) (w1 : Nat) (s : ST) : Option (Unit × ST) :=
  gd (w1 < s.1 ∧ (kd s w1).1 = 17) <|
  ob (f_X15_needw w1 t0 s) fun _ s17 =>
  some ((), s17)
def f_X15_needEndw (o : Nat) (s : ST) : Option (Unit × ST) :=
  gd (o < s.1 ∧ (kd s o).1 = 17) <|
  if (gi s o 3) = (gi s o 1) then (f_X15_needEndw_b17 1 o s) else f_X15_needEndw_b17 0 o s
set_option maxHeartbeats 4000000 in
theorem ct_X15_needEndw (l : Launch) (G : GM) (a : Nat → Nat) (o : Nat) (s : ST) (rv : Unit) (sf : ST) (hf : f_X15_needEndw o s = some (rv, sf)) : MD l G yX15_needEnd (ws_ yX15_needEnd cX15_needEnd 1 none) 1 [.ref (a o)] a s none sf := by
  refine md_of (d := 1) (lv := [(0, .ref (a o))]) (Or.inl (by decide)) (Nat.le_of_ble_eq_true rfl) rfl ?_
  intro p e s0 m args below meth c ls A P hP hC hr hnm hW hl
  have hx := hC.1
  have hb := hC.2.1
  have hts := hC.2.2.2.2.1
  have B17 : ∀ (t0 : Int32) (w1 : Nat) (s : ST), f_X15_needEndw_b17 t0 w1 s = some (rv, sf) → ∀ (H : Heap) (locs : List Loc) (ls : Array Slot), lv_has ls 1 [] → AW G a A s s0.heap H locs → WB p l e (rmD 1) s0 m args below meth c H locs G A P 17 ls [.int t0, .ref (a w1)] := by
    intro t0 w1 s hf H locs ls hl hW
    unfold f_X15_needEndw_b17 at hf
    obtain ⟨g17, hf⟩ := gd_some hf
    obtain ⟨_, s17, h17, hf⟩ := ob_some hf
    refine aw_dU0 (r := w1) (As := [.int t0]) (rest := []) (ct_X15_needw l G a w1 t0 s () s17 h17) hC hW hl.1 uy_X17_X15_X15_need q636 g17 rfl rfl rfl (Nat.le_of_ble_eq_true rfl) ⟨Nat.le_of_ble_eq_true rfl, Nat.le_of_ble_eq_true rfl⟩ ⟨Nat.le_of_ble_eq_true rfl, Nat.le_of_ble_eq_true rfl⟩ dX15_needEnd_17 (fun H locs hW => ?_)
    obtain ⟨e1, e2⟩ := so_inj hf
    exact aw_vret hC hW hr (p_eq hP rfl e2) (Nat.le_of_ble_eq_true rfl) (Nat.le_of_ble_eq_true rfl) dX15_needEnd_20
  unfold f_X15_needEndw at hf
  refine lv_aload_n hx hb dX15_needEnd_0 rfl (lv_at hl 0 rfl) ?_
  refine lv_aload_n hx hb dX15_needEnd_1 rfl (lv_at hl 0 rfl) ?_
  obtain ⟨g2, hf⟩ := gd_some hf
  refine aw_gI hC hW g2 fl_X15_28_X17 rfl dX15_needEnd_2 ?_
  refine lv_aload_n hx hb dX15_needEnd_5 rfl (lv_at hl 0 rfl) ?_
  refine aw_gI hC hW g2 fl_X15_15_X17 rfl dX15_needEnd_6 ?_
  refine lv_icmp_ne (tgt := 16) hx hb dX15_needEnd_9 (by decide) (fun c9 => ?_) (fun c9 => ?_)
  · have hf := ifn c9 hf
    refine lv_iconst (v := 0) hx hb dX15_needEnd_16 (by decide) ?_
    exact B17 0 o s hf _ _ _ (lv_sub hl [] rfl) hW
  · have hf := ifp c9 hf
    refine lv_iconst (v := 1) hx hb dX15_needEnd_12 (by decide) ?_
    refine lv_goto (tgt := 17) hx hb dX15_needEnd_13 (by decide) ?_
    exact B17 1 o s hf _ _ _ (lv_sub hl [] rfl) hW
def f_X4_init (o : Nat) (r1 : Nat) (s : ST) : Option (Unit × ST) :=
  gd (o < s.1 ∧ (kd s o).1 = 4) <|
  gd (r1 < s.1) <|
  bnd (pR s o 0 (some r1)) fun s2 =>
  some ((), s2)
set_option maxHeartbeats 4000000 in
theorem ct_X4_init (l : Launch) (G : GM) (a : Nat → Nat) (o : Nat) (r1 : Nat) (s : ST) (rv : Unit) (sf : ST) (hf : f_X4_init o r1 s = some (rv, sf)) : MD l G yX4_init (ws_ yX4_init cX4_init 2 none) 1 [.ref (a o), .ref (a r1)] a s none sf := by
  refine md_of (d := 1) (lv := [(0, .ref (a o)), (1, .ref (a r1))]) (Or.inl (by decide)) (Nat.le_of_ble_eq_true rfl) rfl ?_
  intro p e s0 m args below meth c ls A P hP hC hr hnm hW hl
  have hx := hC.1
  have hb := hC.2.1
  have hts := hC.2.2.2.2.1
  unfold f_X4_init at hf
  refine lv_aload_n hx hb dX4_init_0 rfl (lv_at hl 0 rfl) ?_
  refine lv_aload_n hx hb dX4_init_1 rfl (lv_at hl 1 rfl) ?_
  obtain ⟨g2, hf⟩ := gd_some hf
  obtain ⟨gq2, hf⟩ := gd_some hf
  obtain ⟨s2, e2, hf⟩ := bnd_some hf
  refine aw_pR e2 hC hW g2 gq2 fl_X4_1 (Or.inr ⟨hnm, ff_X4_1⟩) rfl dX4_init_2 (fun H locs hW => ?_)
  have g2 := ko_pR e2 g2
  refine lv_aload_n hx hb dX4_init_5 rfl (lv_at hl 0 rfl) ?_
  refine W.objInit hx hb hC.2.2.2.1 (hts _ q216) (hts _ q113) (hts _ q114) rfl (by rw [hC.2.2.1]; exact hl.1) rfl dX4_init_6 (Nat.le_of_ble_eq_true rfl) (Nat.le_of_ble_eq_true rfl) ?_
  refine W.eq (g2 := F0 m 9 ls []) rfl ?_
  obtain ⟨e1, e2⟩ := so_inj hf
  exact aw_vret hC hW hr (p_eq hP rfl e2) (Nat.le_of_ble_eq_true rfl) (Nat.le_of_ble_eq_true rfl) dX4_init_9
def f_X5_init (o : Nat) (s : ST) : Option (Unit × ST) :=
  some ((), s)
set_option maxHeartbeats 4000000 in
theorem ct_X5_init (l : Launch) (G : GM) (a : Nat → Nat) (o : Nat) (s : ST) (rv : Unit) (sf : ST) (hf : f_X5_init o s = some (rv, sf)) : MD l G yX5_init (ws_ yX5_init cX5_init 1 none) 1 [.ref (a o)] a s none sf := by
  refine md_of (d := 1) (lv := [(0, .ref (a o))]) (Or.inl (by decide)) (Nat.le_of_ble_eq_true rfl) rfl ?_
  intro p e s0 m args below meth c ls A P hP hC hr hnm hW hl
  have hx := hC.1
  have hb := hC.2.1
  have hts := hC.2.2.2.2.1
  unfold f_X5_init at hf
  refine lv_aload_n hx hb dX5_init_0 rfl (lv_at hl 0 rfl) ?_
  refine W.objInit hx hb hC.2.2.2.1 (hts _ q226) (hts _ q113) (hts _ q114) rfl (by rw [hC.2.2.1]; exact hl.1) rfl dX5_init_1 (Nat.le_of_ble_eq_true rfl) (Nat.le_of_ble_eq_true rfl) ?_
  refine W.eq (g2 := F0 m 4 ls []) rfl ?_
  obtain ⟨e1, e2⟩ := so_inj hf
  exact aw_vret hC hW hr (p_eq hP rfl e2) (Nat.le_of_ble_eq_true rfl) (Nat.le_of_ble_eq_true rfl) dX5_init_4
def f_X6_init (o : Nat) (r1 : Nat) (s : ST) : Option (Unit × ST) :=
  gd (o < s.1 ∧ (kd s o).1 = 6) <|
  gd (r1 < s.1) <|
  bnd (pR s o 3 (some r1)) fun s2 =>
  some ((), s2)
set_option maxHeartbeats 4000000 in
theorem ct_X6_init (l : Launch) (G : GM) (a : Nat → Nat) (o : Nat) (r1 : Nat) (s : ST) (rv : Unit) (sf : ST) (hf : f_X6_init o r1 s = some (rv, sf)) : MD l G yX6_init (ws_ yX6_init cX6_init 2 none) 1 [.ref (a o), .ref (a r1)] a s none sf := by
  refine md_of (d := 1) (lv := [(0, .ref (a o)), (1, .ref (a r1))]) (Or.inl (by decide)) (Nat.le_of_ble_eq_true rfl) rfl ?_
  intro p e s0 m args below meth c ls A P hP hC hr hnm hW hl
  have hx := hC.1
  have hb := hC.2.1
  have hts := hC.2.2.2.2.1
  unfold f_X6_init at hf
  refine lv_aload_n hx hb dX6_init_0 rfl (lv_at hl 0 rfl) ?_
  refine lv_aload_n hx hb dX6_init_1 rfl (lv_at hl 1 rfl) ?_
  obtain ⟨g2, hf⟩ := gd_some hf
  obtain ⟨gq2, hf⟩ := gd_some hf
  obtain ⟨s2, e2, hf⟩ := bnd_some hf
  refine aw_pR e2 hC hW g2 gq2 fl_X6_1 (Or.inr ⟨hnm, ff_X6_1⟩) rfl dX6_init_2 (fun H locs hW => ?_)
  have g2 := ko_pR e2 g2
  refine lv_aload_n hx hb dX6_init_5 rfl (lv_at hl 0 rfl) ?_
  refine W.objInit hx hb hC.2.2.2.1 (hts _ q238) (hts _ q113) (hts _ q114) rfl (by rw [hC.2.2.1]; exact hl.1) rfl dX6_init_6 (Nat.le_of_ble_eq_true rfl) (Nat.le_of_ble_eq_true rfl) ?_
  refine W.eq (g2 := F0 m 9 ls []) rfl ?_
  obtain ⟨e1, e2⟩ := so_inj hf
  exact aw_vret hC hW hr (p_eq hP rfl e2) (Nat.le_of_ble_eq_true rfl) (Nat.le_of_ble_eq_true rfl) dX6_init_9
def f_X8_init (o : Nat) (r1 : Nat) (s : ST) : Option (Unit × ST) :=
  gd (o < s.1 ∧ (kd s o).1 = 8) <|
  gd (r1 < s.1) <|
  bnd (pR s o 2 (some r1)) fun s2 =>
  some ((), s2)
set_option maxHeartbeats 4000000 in
theorem ct_X8_init (l : Launch) (G : GM) (a : Nat → Nat) (o : Nat) (r1 : Nat) (s : ST) (rv : Unit) (sf : ST) (hf : f_X8_init o r1 s = some (rv, sf)) : MD l G yX8_init (ws_ yX8_init cX8_init 2 none) 1 [.ref (a o), .ref (a r1)] a s none sf := by
  refine md_of (d := 1) (lv := [(0, .ref (a o)), (1, .ref (a r1))]) (Or.inl (by decide)) (Nat.le_of_ble_eq_true rfl) rfl ?_
  intro p e s0 m args below meth c ls A P hP hC hr hnm hW hl
  have hx := hC.1
  have hb := hC.2.1
  have hts := hC.2.2.2.2.1
  unfold f_X8_init at hf
  refine lv_aload_n hx hb dX8_init_0 rfl (lv_at hl 0 rfl) ?_
  refine lv_aload_n hx hb dX8_init_1 rfl (lv_at hl 1 rfl) ?_
  obtain ⟨g2, hf⟩ := gd_some hf
  obtain ⟨gq2, hf⟩ := gd_some hf
  obtain ⟨s2, e2, hf⟩ := bnd_some hf
  refine aw_pR e2 hC hW g2 gq2 fl_X8_3 (Or.inr ⟨hnm, ff_X8_3⟩) rfl dX8_init_2 (fun H locs hW => ?_)
  have g2 := ko_pR e2 g2
  refine lv_aload_n hx hb dX8_init_5 rfl (lv_at hl 0 rfl) ?_
  refine W.objInit hx hb hC.2.2.2.1 (hts _ q275) (hts _ q113) (hts _ q114) rfl (by rw [hC.2.2.1]; exact hl.1) rfl dX8_init_6 (Nat.le_of_ble_eq_true rfl) (Nat.le_of_ble_eq_true rfl) ?_
  refine W.eq (g2 := F0 m 9 ls []) rfl ?_
  obtain ⟨e1, e2⟩ := so_inj hf
  exact aw_vret hC hW hr (p_eq hP rfl e2) (Nat.le_of_ble_eq_true rfl) (Nat.le_of_ble_eq_true rfl) dX8_init_9
def f_X9_init (o : Nat) (r1 : Nat) (s : ST) : Option (Unit × ST) :=
  gd (o < s.1 ∧ (kd s o).1 = 9) <|
  gd (r1 < s.1) <|
  bnd (pR s o 1 (some r1)) fun s2 =>
  some ((), s2)
set_option maxHeartbeats 4000000 in
theorem ct_X9_init (l : Launch) (G : GM) (a : Nat → Nat) (o : Nat) (r1 : Nat) (s : ST) (rv : Unit) (sf : ST) (hf : f_X9_init o r1 s = some (rv, sf)) : MD l G yX9_init (ws_ yX9_init cX9_init 2 none) 1 [.ref (a o), .ref (a r1)] a s none sf := by
  refine md_of (d := 1) (lv := [(0, .ref (a o)), (1, .ref (a r1))]) (Or.inl (by decide)) (Nat.le_of_ble_eq_true rfl) rfl ?_
  intro p e s0 m args below meth c ls A P hP hC hr hnm hW hl
  have hx := hC.1
  have hb := hC.2.1
  have hts := hC.2.2.2.2.1
  unfold f_X9_init at hf
  refine lv_aload_n hx hb dX9_init_0 rfl (lv_at hl 0 rfl) ?_
  refine lv_aload_n hx hb dX9_init_1 rfl (lv_at hl 1 rfl) ?_
  obtain ⟨g2, hf⟩ := gd_some hf
  obtain ⟨gq2, hf⟩ := gd_some hf
  obtain ⟨s2, e2, hf⟩ := bnd_some hf
  refine aw_pR e2 hC hW g2 gq2 fl_X9_1 (Or.inr ⟨hnm, ff_X9_1⟩) rfl dX9_init_2 (fun H locs hW => ?_)
  have g2 := ko_pR e2 g2
  refine lv_aload_n hx hb dX9_init_5 rfl (lv_at hl 0 rfl) ?_
  refine W.objInit hx hb hC.2.2.2.1 (hts _ q293) (hts _ q113) (hts _ q114) rfl (by rw [hC.2.2.1]; exact hl.1) rfl dX9_init_6 (Nat.le_of_ble_eq_true rfl) (Nat.le_of_ble_eq_true rfl) ?_
  refine W.eq (g2 := F0 m 9 ls []) rfl ?_
  obtain ⟨e1, e2⟩ := so_inj hf
  exact aw_vret hC hW hr (p_eq hP rfl e2) (Nat.le_of_ble_eq_true rfl) (Nat.le_of_ble_eq_true rfl) dX9_init_9
def f_X10_init (o : Nat) (r1 : Nat) (s : ST) : Option (Unit × ST) :=
  gd (o < s.1 ∧ (kd s o).1 = 10) <|
  gd (r1 < s.1) <|
  bnd (pR s o 1 (some r1)) fun s2 =>
  some ((), s2)
set_option maxHeartbeats 4000000 in
theorem ct_X10_init (l : Launch) (G : GM) (a : Nat → Nat) (o : Nat) (r1 : Nat) (s : ST) (rv : Unit) (sf : ST) (hf : f_X10_init o r1 s = some (rv, sf)) : MD l G yX10_init (ws_ yX10_init cX10_init 2 none) 1 [.ref (a o), .ref (a r1)] a s none sf := by
  refine md_of (d := 1) (lv := [(0, .ref (a o)), (1, .ref (a r1))]) (Or.inl (by decide)) (Nat.le_of_ble_eq_true rfl) rfl ?_
  intro p e s0 m args below meth c ls A P hP hC hr hnm hW hl
  have hx := hC.1
  have hb := hC.2.1
  have hts := hC.2.2.2.2.1
  unfold f_X10_init at hf
  refine lv_aload_n hx hb dX10_init_0 rfl (lv_at hl 0 rfl) ?_
  refine lv_aload_n hx hb dX10_init_1 rfl (lv_at hl 1 rfl) ?_
  obtain ⟨g2, hf⟩ := gd_some hf
  obtain ⟨gq2, hf⟩ := gd_some hf
  obtain ⟨s2, e2, hf⟩ := bnd_some hf
  refine aw_pR e2 hC hW g2 gq2 fl_X10_1 (Or.inr ⟨hnm, ff_X10_1⟩) rfl dX10_init_2 (fun H locs hW => ?_)
  have g2 := ko_pR e2 g2
  refine lv_aload_n hx hb dX10_init_5 rfl (lv_at hl 0 rfl) ?_
  refine W.objInit hx hb hC.2.2.2.1 (hts _ q307) (hts _ q113) (hts _ q114) rfl (by rw [hC.2.2.1]; exact hl.1) rfl dX10_init_6 (Nat.le_of_ble_eq_true rfl) (Nat.le_of_ble_eq_true rfl) ?_
  refine W.eq (g2 := F0 m 9 ls []) rfl ?_
  obtain ⟨e1, e2⟩ := so_inj hf
  exact aw_vret hC hW hr (p_eq hP rfl e2) (Nat.le_of_ble_eq_true rfl) (Nat.le_of_ble_eq_true rfl) dX10_init_9
def f_X11_init (o : Nat) (r1 : Nat) (s : ST) : Option (Unit × ST) :=
  gd (o < s.1 ∧ (kd s o).1 = 11) <|
  gd (r1 < s.1) <|
  bnd (pR s o 2 (some r1)) fun s2 =>
  some ((), s2)
set_option maxHeartbeats 4000000 in
theorem ct_X11_init (l : Launch) (G : GM) (a : Nat → Nat) (o : Nat) (r1 : Nat) (s : ST) (rv : Unit) (sf : ST) (hf : f_X11_init o r1 s = some (rv, sf)) : MD l G yX11_init (ws_ yX11_init cX11_init 2 none) 1 [.ref (a o), .ref (a r1)] a s none sf := by
  refine md_of (d := 1) (lv := [(0, .ref (a o)), (1, .ref (a r1))]) (Or.inl (by decide)) (Nat.le_of_ble_eq_true rfl) rfl ?_
  intro p e s0 m args below meth c ls A P hP hC hr hnm hW hl
  have hx := hC.1
  have hb := hC.2.1
  have hts := hC.2.2.2.2.1
  unfold f_X11_init at hf
  refine lv_aload_n hx hb dX11_init_0 rfl (lv_at hl 0 rfl) ?_
  refine lv_aload_n hx hb dX11_init_1 rfl (lv_at hl 1 rfl) ?_
  obtain ⟨g2, hf⟩ := gd_some hf
  obtain ⟨gq2, hf⟩ := gd_some hf
  obtain ⟨s2, e2, hf⟩ := bnd_some hf
  refine aw_pR e2 hC hW g2 gq2 fl_X11_1 (Or.inr ⟨hnm, ff_X11_1⟩) rfl dX11_init_2 (fun H locs hW => ?_)
  have g2 := ko_pR e2 g2
  refine lv_aload_n hx hb dX11_init_5 rfl (lv_at hl 0 rfl) ?_
  refine W.objInit hx hb hC.2.2.2.1 (hts _ q321) (hts _ q113) (hts _ q114) rfl (by rw [hC.2.2.1]; exact hl.1) rfl dX11_init_6 (Nat.le_of_ble_eq_true rfl) (Nat.le_of_ble_eq_true rfl) ?_
  refine W.eq (g2 := F0 m 9 ls []) rfl ?_
  obtain ⟨e1, e2⟩ := so_inj hf
  exact aw_vret hC hW hr (p_eq hP rfl e2) (Nat.le_of_ble_eq_true rfl) (Nat.le_of_ble_eq_true rfl) dX11_init_9
def f_X12_init (o : Nat) (r1 : Nat) (s : ST) : Option (Unit × ST) :=
  gd (o < s.1 ∧ (kd s o).1 = 12) <|
  gd (r1 < s.1) <|
  bnd (pR s o 2 (some r1)) fun s2 =>
  some ((), s2)
set_option maxHeartbeats 4000000 in
theorem ct_X12_init (l : Launch) (G : GM) (a : Nat → Nat) (o : Nat) (r1 : Nat) (s : ST) (rv : Unit) (sf : ST) (hf : f_X12_init o r1 s = some (rv, sf)) : MD l G yX12_init (ws_ yX12_init cX12_init 2 none) 1 [.ref (a o), .ref (a r1)] a s none sf := by
  refine md_of (d := 1) (lv := [(0, .ref (a o)), (1, .ref (a r1))]) (Or.inl (by decide)) (Nat.le_of_ble_eq_true rfl) rfl ?_
  intro p e s0 m args below meth c ls A P hP hC hr hnm hW hl
  have hx := hC.1
  have hb := hC.2.1
  have hts := hC.2.2.2.2.1
  unfold f_X12_init at hf
  refine lv_aload_n hx hb dX12_init_0 rfl (lv_at hl 0 rfl) ?_
  refine lv_aload_n hx hb dX12_init_1 rfl (lv_at hl 1 rfl) ?_
  obtain ⟨g2, hf⟩ := gd_some hf
  obtain ⟨gq2, hf⟩ := gd_some hf
  obtain ⟨s2, e2, hf⟩ := bnd_some hf
  refine aw_pR e2 hC hW g2 gq2 fl_X12_1 (Or.inr ⟨hnm, ff_X12_1⟩) rfl dX12_init_2 (fun H locs hW => ?_)
  have g2 := ko_pR e2 g2
  refine lv_aload_n hx hb dX12_init_5 rfl (lv_at hl 0 rfl) ?_
  refine W.objInit hx hb hC.2.2.2.1 (hts _ q339) (hts _ q113) (hts _ q114) rfl (by rw [hC.2.2.1]; exact hl.1) rfl dX12_init_6 (Nat.le_of_ble_eq_true rfl) (Nat.le_of_ble_eq_true rfl) ?_
  refine W.eq (g2 := F0 m 9 ls []) rfl ?_
  obtain ⟨e1, e2⟩ := so_inj hf
  exact aw_vret hC hW hr (p_eq hP rfl e2) (Nat.le_of_ble_eq_true rfl) (Nat.le_of_ble_eq_true rfl) dX12_init_9
def f_X13_init (o : Nat) (r1 : Nat) (s : ST) : Option (Unit × ST) :=
  gd (o < s.1 ∧ (kd s o).1 = 13) <|
  gd (r1 < s.1) <|
  bnd (pR s o 1 (some r1)) fun s2 =>
  some ((), s2)
set_option maxHeartbeats 4000000 in
theorem ct_X13_init (l : Launch) (G : GM) (a : Nat → Nat) (o : Nat) (r1 : Nat) (s : ST) (rv : Unit) (sf : ST) (hf : f_X13_init o r1 s = some (rv, sf)) : MD l G yX13_init (ws_ yX13_init cX13_init 2 none) 1 [.ref (a o), .ref (a r1)] a s none sf := by
  refine md_of (d := 1) (lv := [(0, .ref (a o)), (1, .ref (a r1))]) (Or.inl (by decide)) (Nat.le_of_ble_eq_true rfl) rfl ?_
  intro p e s0 m args below meth c ls A P hP hC hr hnm hW hl
  have hx := hC.1
  have hb := hC.2.1
  have hts := hC.2.2.2.2.1
  unfold f_X13_init at hf
  refine lv_aload_n hx hb dX13_init_0 rfl (lv_at hl 0 rfl) ?_
  refine lv_aload_n hx hb dX13_init_1 rfl (lv_at hl 1 rfl) ?_
  obtain ⟨g2, hf⟩ := gd_some hf
  obtain ⟨gq2, hf⟩ := gd_some hf
  obtain ⟨s2, e2, hf⟩ := bnd_some hf
  refine aw_pR e2 hC hW g2 gq2 fl_X13_1 (Or.inr ⟨hnm, ff_X13_1⟩) rfl dX13_init_2 (fun H locs hW => ?_)
  have g2 := ko_pR e2 g2
  refine lv_aload_n hx hb dX13_init_5 rfl (lv_at hl 0 rfl) ?_
  refine W.objInit hx hb hC.2.2.2.1 (hts _ q357) (hts _ q113) (hts _ q114) rfl (by rw [hC.2.2.1]; exact hl.1) rfl dX13_init_6 (Nat.le_of_ble_eq_true rfl) (Nat.le_of_ble_eq_true rfl) ?_
  refine W.eq (g2 := F0 m 9 ls []) rfl ?_
  obtain ⟨e1, e2⟩ := so_inj hf
  exact aw_vret hC hW hr (p_eq hP rfl e2) (Nat.le_of_ble_eq_true rfl) (Nat.le_of_ble_eq_true rfl) dX13_init_9
def f_X1_later_b35 : Nat → Nat → Int32 → Int32 → Int32 → Int32 → ST → Option (Int32 × ST)
  | 0, _, _, _, _, _, _ => none
  | n + 1, r0, x1, x2, x3, x4, s =>
  if x2 ≤ x4 then (some (x3, s)) else gd (r0 < s.1 ∧ (kd s r0).1 = 1) <|
  (gr s r0 1).bind fun q49 =>
  gd (q49 < s.1 ∧ (kd s q49).1 = 2) <|
  ob (f_X1_changeIn r0 x1 ((gi s q49 9) + x4) s) fun v58 s58 =>
  bnd (p_min 999 (x3 + v58)) fun v62 =>
  bnd (p_max 1 v62) fun v65 =>
  bnd (x4 + 1 : Int32) fun v69 =>
  f_X1_later_b35 n r0 x1 x2 v65 v69 s58
def f_X1_later (o : Nat) (x1 : Int32) (x2 : Int32) (s : ST) : Option (Int32 × ST) :=
  gd (o < s.1 ∧ (kd s o).1 = 1) <|
  ob (f_X1_isAlive o x1 s) fun v2 s2 =>
  if v2 = 0 then (some ((-1), s2)) else bnd (p_in ((x2 : Int32).toInt64) 0 99) fun v14 =>
  if v14 = 0 then (some ((-1), s2)) else gd (o < s2.1 ∧ (kd s2 o).1 = 1) <|
  (gr s2 o 1).bind fun q23 =>
  gd (q23 < s2.1 ∧ (kd s2 q23).1 = 2) <|
  (gr s2 q23 0).bind fun q26 =>
  gd (q26 < s2.1 ∧ (kd s2 q26).1 = 100 ∧ ¬ ((x1 : Int32) < 0 ∨ (kd s2 q26).2 ≤ (x1 : Int32).toNatClampNeg)) <|
  bnd ((gi s2 q26 (x1 : Int32).toNatClampNeg) : Int32) fun v31 =>
  f_X1_later_b35 fuel o x1 x2 v31 0 s2
set_option maxHeartbeats 4000000 in
theorem ct_X1_later (l : Launch) (G : GM) (a : Nat → Nat) (o : Nat) (x1 : Int32) (x2 : Int32) (s : ST) (rv : Int32) (sf : ST) (hf : f_X1_later o x1 x2 s = some (rv, sf)) : MD l G yX1_later (ws_ yX1_later cX1_later 5 (some .int)) 3 [.ref (a o), .int x1, .int x2] a s (some (.int rv)) sf := by
  refine md_of (d := 3) (lv := [(0, .ref (a o)), (1, .int x1), (2, .int x2)]) (Or.inl (by decide)) (Nat.le_of_ble_eq_true rfl) rfl ?_
  intro p e s0 m args below meth c ls A P hP hC hr hnm hW hl
  have hx := hC.1
  have hb := hC.2.1
  have hts := hC.2.2.2.2.1
  have B35 : ∀ (n : Nat), ∀ (r0 : Nat) (x1 : Int32) (x2 : Int32) (x3 : Int32) (x4 : Int32) (s : ST), f_X1_later_b35 n r0 x1 x2 x3 x4 s = some (rv, sf) → ∀ (H : Heap) (locs : List Loc) (ls : Array Slot), lv_has ls 5 [(0, .ref (a r0)), (1, .int x1), (2, .int x2), (3, .int x3), (4, .int x4)] → AW G a A s s0.heap H locs → WB p l e (rmD 3) s0 m args below meth c H locs G A P 35 ls [] := by
    intro n
    induction n with
    | zero => intro r0 x1 x2 x3 x4 s hf; cases hf
    | succ n ih =>
      intro r0 x1 x2 x3 x4 s hf H locs ls hl hW
      rw [f_X1_later_b35] at hf
      refine lv_iload hx hb dX1_later_35 (lv_at hl 4 rfl) ?_
      refine lv_iload_n hx hb dX1_later_37 rfl (lv_at hl 2 rfl) ?_
      refine lv_icmp_ge (tgt := 75) hx hb dX1_later_38 (by decide) (fun c38 => ?_) (fun c38 => ?_)
      · have hf := ifp c38 hf
        refine lv_iload_n hx hb dX1_later_75 rfl (lv_at hl 3 rfl) ?_
        obtain ⟨e1, e2⟩ := so_inj hf
        exact aw_iret hC hW hr rfl (p_eq hP (congrArg (fun z => some (Value.int z)) e1) e2) (Nat.le_of_ble_eq_true rfl) (Nat.le_of_ble_eq_true rfl) dX1_later_76
      · have hf := ifn c38 hf
        refine lv_iconst (v := 1) hx hb dX1_later_41 (by decide) ?_
        refine lv_sipush (v := 999) hx hb dX1_later_42 (by decide) ?_
        refine lv_iload_n hx hb dX1_later_45 rfl (lv_at hl 3 rfl) ?_
        refine lv_aload_n hx hb dX1_later_46 rfl (lv_at hl 0 rfl) ?_
        refine lv_iload_n hx hb dX1_later_47 rfl (lv_at hl 1 rfl) ?_
        refine lv_aload_n hx hb dX1_later_48 rfl (lv_at hl 0 rfl) ?_
        obtain ⟨g49, hf⟩ := gd_some hf
        obtain ⟨q49, hq49, hf⟩ := bi_some hf
        refine aw_gR hC hW g49 fl_X1_18 rfl hq49 dX1_later_49 ?_
        obtain ⟨g52, hf⟩ := gd_some hf
        refine aw_gI hC hW g52 fl_X1_348 rfl dX1_later_52 ?_
        refine lv_iload hx hb dX1_later_55 (lv_at hl 4 rfl) ?_
        refine lv_iadd hx hb dX1_later_57 ?_
        obtain ⟨v58, s58, h58, hf⟩ := ob_some hf
        refine aw_dV1 (r := r0) (As := [.int x1, .int ((gi s q49 9) + x4)]) (rest := [.int x3, .int 999, .int 1]) (ct_X1_changeIn l G a r0 x1 ((gi s q49 9) + x4) s v58 s58 h58) hC hW hl.1 vy_X1_changeIn (Or.inl q1009) g49 rfl rfl rfl rfl (Nat.le_of_ble_eq_true rfl) ⟨Nat.le_of_ble_eq_true rfl, Nat.le_of_ble_eq_true rfl⟩ ⟨Nat.le_of_ble_eq_true rfl, Nat.le_of_ble_eq_true rfl⟩ dX1_later_58 (fun H locs hW => ?_)
        refine lv_iadd hx hb dX1_later_61 ?_
        obtain ⟨v62, ev62, hf⟩ := bnd_some hf
        refine aw_dS1 (As := [.int 999, .int (x3 + v58)]) (rest := [.int 1]) (pc_J0_min l G a 999 (x3 + v58) s58) hC hW hl.1 sy_J0_min (Or.inl q906) rfl rfl (Nat.le_of_ble_eq_true rfl) ⟨Nat.le_of_ble_eq_true rfl, Nat.le_of_ble_eq_true rfl⟩ ⟨Nat.le_of_ble_eq_true rfl, Nat.le_of_ble_eq_true rfl⟩ dX1_later_62 (fun H locs hW => ?_)
        refine top_i ev62 ?_
        obtain ⟨v65, ev65, hf⟩ := bnd_some hf
        refine aw_dS1 (As := [.int 1, .int v62]) (rest := []) (pc_J0_max l G a 1 v62 s58) hC hW hl.1 sy_J0_max (Or.inl q907) rfl rfl (Nat.le_of_ble_eq_true rfl) ⟨Nat.le_of_ble_eq_true rfl, Nat.le_of_ble_eq_true rfl⟩ ⟨Nat.le_of_ble_eq_true rfl, Nat.le_of_ble_eq_true rfl⟩ dX1_later_65 (fun H locs hW => ?_)
        refine top_i ev65 ?_
        refine lv_istore_n (lv' := [(3, .int v65), (0, .ref (a r0)), (1, .int x1), (2, .int x2), (4, .int x4)]) hx hb dX1_later_68 rfl hl (by decide) rfl (fun ls hl => ?_)
        obtain ⟨v69, ev69, hf⟩ := bnd_some hf
        refine lv_iinc (v := v69) (lv' := [(4, .int v69), (3, .int v65), (0, .ref (a r0)), (1, .int x1), (2, .int x2)]) hx hb dX1_later_69 hl (k := 4) rfl (by rw [ev69]; rfl) (by decide) rfl (fun ls hl => ?_)
        refine lv_goto (tgt := 35) hx hb dX1_later_72 (by decide) ?_
        exact ih r0 x1 x2 v65 v69 s58 hf _ _ _ (lv_sub hl [2, 3, 4, 1, 0] rfl) hW
  unfold f_X1_later at hf
  refine lv_aload_n hx hb dX1_later_0 rfl (lv_at hl 0 rfl) ?_
  refine lv_iload_n hx hb dX1_later_1 rfl (lv_at hl 1 rfl) ?_
  obtain ⟨g2, hf⟩ := gd_some hf
  obtain ⟨v2, s2, h2, hf⟩ := ob_some hf
  refine aw_dV1 (r := o) (As := [.int x1]) (rest := []) (ct_X1_isAlive l G a o x1 s v2 s2 h2) hC hW hl.1 vy_X1_isAlive (Or.inl q1040) g2 rfl rfl rfl rfl (Nat.le_of_ble_eq_true rfl) ⟨Nat.le_of_ble_eq_true rfl, Nat.le_of_ble_eq_true rfl⟩ ⟨Nat.le_of_ble_eq_true rfl, Nat.le_of_ble_eq_true rfl⟩ dX1_later_2 (fun H locs hW => ?_)
  refine lv_if_eq (tgt := 20) hx hb dX1_later_5 (by decide) (fun c5 => ?_) (fun c5 => ?_)
  · have hf := ifp c5 hf
    refine lv_iconst (v := (-1)) hx hb dX1_later_20 (by decide) ?_
    obtain ⟨e1, e2⟩ := so_inj hf
    exact aw_iret hC hW hr rfl (p_eq hP (congrArg (fun z => some (Value.int z)) e1) e2) (Nat.le_of_ble_eq_true rfl) (Nat.le_of_ble_eq_true rfl) dX1_later_21
  · have hf := ifn c5 hf
    refine lv_iload_n hx hb dX1_later_8 rfl (lv_at hl 2 rfl) ?_
    refine lv_i2l (v := (x2 : Int32).toInt64) hx hb dX1_later_9 rfl ?_
    refine lv_lconst (v := 0) hx hb dX1_later_10 (by decide) ?_
    refine lv_ldc2 (v := 99) hx hb hC.2.2.2.1 (hts _ q1021) dX1_later_11 ?_
    obtain ⟨v14, ev14, hf⟩ := bnd_some hf
    refine aw_dS1 (As := [.long ((x2 : Int32).toInt64), .long 0, .long 99]) (rest := []) (pc_X1_in l G a ((x2 : Int32).toInt64) 0 99 s2) hC hW hl.1 sy_X1_in (Or.inl q514) rfl rfl (Nat.le_of_ble_eq_true rfl) ⟨Nat.le_of_ble_eq_true rfl, Nat.le_of_ble_eq_true rfl⟩ ⟨Nat.le_of_ble_eq_true rfl, Nat.le_of_ble_eq_true rfl⟩ dX1_later_14 (fun H locs hW => ?_)
    refine top_i ev14 ?_
    refine lv_if_ne (tgt := 22) hx hb dX1_later_17 (by decide) (fun c17 => ?_) (fun c17 => ?_)
    · have hf := ifn c17 hf
      refine lv_aload_n hx hb dX1_later_22 rfl (lv_at hl 0 rfl) ?_
      obtain ⟨g23, hf⟩ := gd_some hf
      obtain ⟨q23, hq23, hf⟩ := bi_some hf
      refine aw_gR hC hW g23 fl_X1_18 rfl hq23 dX1_later_23 ?_
      obtain ⟨g26, hf⟩ := gd_some hf
      obtain ⟨q26, hq26, hf⟩ := bi_some hf
      refine aw_gR hC hW g26 fl_X1_236 rfl hq26 dX1_later_26 ?_
      refine lv_iload_n hx hb dX1_later_29 rfl (lv_at hl 1 rfl) ?_
      obtain ⟨g30, hf⟩ := gd_some hf
      refine aw_iald hC hW g30 dX1_later_30 ?_
      obtain ⟨v31, ev31, hf⟩ := bnd_some hf
      refine top_i ev31 ?_
      refine lv_istore_n (lv' := [(3, .int v31), (0, .ref (a o)), (1, .int x1), (2, .int x2)]) hx hb dX1_later_31 rfl hl (by decide) rfl (fun ls hl => ?_)
      refine lv_iconst (v := 0) hx hb dX1_later_32 (by decide) ?_
      refine lv_istore (lv' := [(4, .int 0), (3, .int v31), (0, .ref (a o)), (1, .int x1), (2, .int x2)]) hx hb dX1_later_33 hl (by decide) rfl (fun ls hl => ?_)
      exact B35 fuel o x1 x2 v31 0 s2 hf _ _ _ (lv_sub hl [2, 3, 4, 1, 0] rfl) hW
    · have hf := ifp c17 hf
      refine lv_iconst (v := (-1)) hx hb dX1_later_20 (by decide) ?_
      obtain ⟨e1, e2⟩ := so_inj hf
      exact aw_iret hC hW hr rfl (p_eq hP (congrArg (fun z => some (Value.int z)) e1) e2) (Nat.le_of_ble_eq_true rfl) (Nat.le_of_ble_eq_true rfl) dX1_later_21
def f_X1_law (o : Nat) (s : ST) : Option (Int32 × ST) :=
  gd (o < s.1 ∧ (kd s o).1 = 1) <|
  (gr s o 1).bind fun q1 =>
  gd (q1 < s.1 ∧ (kd s q1).1 = 2) <|
  if (gi s q1 7) = (-1) then (some ((-2), s)) else (gr s o 1).bind fun q15 =>
  gd (q15 < s.1 ∧ (kd s q15).1 = 2) <|
  if (gi s q15 10) = 12 then (some ((-3), s)) else ob (f_X1_remember o s) fun _ s30 =>
  gd (o < s30.1 ∧ (kd s30 o).1 = 1) <|
  (gr s30 o 1).bind fun q34 =>
  gd (q34 < s30.1 ∧ (kd s30 q34).1 = 2) <|
  (gr s30 q34 2).bind fun q37 =>
  (gr s30 o 1).bind fun q41 =>
  gd (q41 < s30.1 ∧ (kd s30 q41).1 = 2) <|
  (gr s30 o 1).bind fun q48 =>
  gd (q48 < s30.1 ∧ (kd s30 q48).1 = 2) <|
  gd (q37 < s30.1 ∧ (kd s30 q37).1 = 100 ∧ ¬ (((gi s30 q41 10) : Int32) < 0 ∨ (kd s30 q37).2 ≤ ((gi s30 q41 10) : Int32).toNatClampNeg)) <|
  bnd (pI s30 q37 ((gi s30 q41 10) : Int32).toNatClampNeg (gi s30 q48 7)) fun s54 =>
  (gr s54 o 1).bind fun q56 =>
  gd (q56 < s54.1 ∧ (kd s54 q56).1 = 2) <|
  (gr s54 q56 3).bind fun q59 =>
  (gr s54 o 1).bind fun q63 =>
  gd (q63 < s54.1 ∧ (kd s54 q63).1 = 2) <|
  (gr s54 o 1).bind fun q70 =>
  gd (q70 < s54.1 ∧ (kd s54 q70).1 = 2) <|
  gd (q59 < s54.1 ∧ (kd s54 q59).1 = 100 ∧ ¬ (((gi s54 q63 10) : Int32) < 0 ∨ (kd s54 q59).2 ≤ ((gi s54 q63 10) : Int32).toNatClampNeg)) <|
  bnd (pI s54 q59 ((gi s54 q63 10) : Int32).toNatClampNeg (gi s54 q70 9)) fun s76 =>
  (gr s76 o 1).bind fun q78 =>
  gd (q78 < s76.1 ∧ (kd s76 q78).1 = 2) <|
  (gr s76 q78 4).bind fun q81 =>
  (gr s76 o 1).bind fun q85 =>
  gd (q85 < s76.1 ∧ (kd s76 q85).1 = 2) <|
  gd (q81 < s76.1 ∧ (kd s76 q81).1 = 100 ∧ ¬ (((gi s76 q85 10) : Int32) < 0 ∨ (kd s76 q81).2 ≤ ((gi s76 q85 10) : Int32).toNatClampNeg)) <|
  bnd (pI s76 q81 ((gi s76 q85 10) : Int32).toNatClampNeg (-1)) fun s92 =>
  (gr s92 o 1).bind fun q94 =>
  gd (q94 < s92.1 ∧ (kd s92 q94).1 = 2) <|
  bnd (pI s92 q94 10 ((gi s92 q94 10) + 1)) fun s103 =>
  (gr s103 o 1).bind fun q107 =>
  gd (q107 < s103.1 ∧ (kd s103 q107).1 = 2) <|
  some (((gi s103 q107 10) - 1), s103)
set_option maxHeartbeats 4000000 in
theorem ct_X1_law (l : Launch) (G : GM) (a : Nat → Nat) (o : Nat) (s : ST) (rv : Int32) (sf : ST) (hf : f_X1_law o s = some (rv, sf)) : MD l G yX1_law (ws_ yX1_law cX1_law 1 (some .int)) 3 [.ref (a o)] a s (some (.int rv)) sf := by
  refine md_of (d := 3) (lv := [(0, .ref (a o))]) (Or.inl (by decide)) (Nat.le_of_ble_eq_true rfl) rfl ?_
  intro p e s0 m args below meth c ls A P hP hC hr hnm hW hl
  have hx := hC.1
  have hb := hC.2.1
  have hts := hC.2.2.2.2.1
  unfold f_X1_law at hf
  refine lv_aload_n hx hb dX1_law_0 rfl (lv_at hl 0 rfl) ?_
  obtain ⟨g1, hf⟩ := gd_some hf
  obtain ⟨q1, hq1, hf⟩ := bi_some hf
  refine aw_gR hC hW g1 fl_X1_18 rfl hq1 dX1_law_1 ?_
  obtain ⟨g4, hf⟩ := gd_some hf
  refine aw_gI hC hW g4 fl_X1_315 rfl dX1_law_4 ?_
  refine lv_iconst (v := (-1)) hx hb dX1_law_7 (by decide) ?_
  refine lv_icmp_ne (tgt := 14) hx hb dX1_law_8 (by decide) (fun c8 => ?_) (fun c8 => ?_)
  · have hf := ifn c8 hf
    refine lv_aload_n hx hb dX1_law_14 rfl (lv_at hl 0 rfl) ?_
    obtain ⟨q15, hq15, hf⟩ := bi_some hf
    refine aw_gR hC hW g1 fl_X1_18 rfl hq15 dX1_law_15 ?_
    obtain ⟨g18, hf⟩ := gd_some hf
    refine aw_gI hC hW g18 fl_X1_388 rfl dX1_law_18 ?_
    refine lv_bipush (v := 12) hx hb dX1_law_21 (by decide) ?_
    refine lv_icmp_ne (tgt := 29) hx hb dX1_law_23 (by decide) (fun c23 => ?_) (fun c23 => ?_)
    · have hf := ifn c23 hf
      refine lv_aload_n hx hb dX1_law_29 rfl (lv_at hl 0 rfl) ?_
      obtain ⟨_, s30, h30, hf⟩ := ob_some hf
      refine aw_dV0 (r := o) (As := []) (rest := []) (ct_X1_remember l G a o s () s30 h30) hC hW hl.1 vy_X1_remember (Or.inl q913) g1 rfl rfl rfl rfl (Nat.le_of_ble_eq_true rfl) ⟨Nat.le_of_ble_eq_true rfl, Nat.le_of_ble_eq_true rfl⟩ ⟨Nat.le_of_ble_eq_true rfl, Nat.le_of_ble_eq_true rfl⟩ dX1_law_30 (fun H locs hW => ?_)
      refine lv_aload_n hx hb dX1_law_33 rfl (lv_at hl 0 rfl) ?_
      obtain ⟨g34, hf⟩ := gd_some hf
      obtain ⟨q34, hq34, hf⟩ := bi_some hf
      refine aw_gR hC hW g34 fl_X1_18 rfl hq34 dX1_law_34 ?_
      obtain ⟨g37, hf⟩ := gd_some hf
      obtain ⟨q37, hq37, hf⟩ := bi_some hf
      refine aw_gR hC hW g37 fl_X1_391 rfl hq37 dX1_law_37 ?_
      refine lv_aload_n hx hb dX1_law_40 rfl (lv_at hl 0 rfl) ?_
      obtain ⟨q41, hq41, hf⟩ := bi_some hf
      refine aw_gR hC hW g34 fl_X1_18 rfl hq41 dX1_law_41 ?_
      obtain ⟨g44, hf⟩ := gd_some hf
      refine aw_gI hC hW g44 fl_X1_388 rfl dX1_law_44 ?_
      refine lv_aload_n hx hb dX1_law_47 rfl (lv_at hl 0 rfl) ?_
      obtain ⟨q48, hq48, hf⟩ := bi_some hf
      refine aw_gR hC hW g34 fl_X1_18 rfl hq48 dX1_law_48 ?_
      obtain ⟨g51, hf⟩ := gd_some hf
      refine aw_gI hC hW g51 fl_X1_315 rfl dX1_law_51 ?_
      obtain ⟨g54, hf⟩ := gd_some hf
      obtain ⟨s54, e54, hf⟩ := bnd_some hf
      refine aw_iast e54 hC hW g54 dX1_law_54 (fun H locs hW => ?_)
      have g34 := ko_pI e54 g34
      have g37 := ko_pI e54 g37
      have g44 := ko_pI e54 g44
      have g51 := ko_pI e54 g51
      refine lv_aload_n hx hb dX1_law_55 rfl (lv_at hl 0 rfl) ?_
      obtain ⟨q56, hq56, hf⟩ := bi_some hf
      refine aw_gR hC hW g34 fl_X1_18 rfl hq56 dX1_law_56 ?_
      obtain ⟨g59, hf⟩ := gd_some hf
      obtain ⟨q59, hq59, hf⟩ := bi_some hf
      refine aw_gR hC hW g59 fl_X1_394 rfl hq59 dX1_law_59 ?_
      refine lv_aload_n hx hb dX1_law_62 rfl (lv_at hl 0 rfl) ?_
      obtain ⟨q63, hq63, hf⟩ := bi_some hf
      refine aw_gR hC hW g34 fl_X1_18 rfl hq63 dX1_law_63 ?_
      obtain ⟨g66, hf⟩ := gd_some hf
      refine aw_gI hC hW g66 fl_X1_388 rfl dX1_law_66 ?_
      refine lv_aload_n hx hb dX1_law_69 rfl (lv_at hl 0 rfl) ?_
      obtain ⟨q70, hq70, hf⟩ := bi_some hf
      refine aw_gR hC hW g34 fl_X1_18 rfl hq70 dX1_law_70 ?_
      obtain ⟨g73, hf⟩ := gd_some hf
      refine aw_gI hC hW g73 fl_X1_348 rfl dX1_law_73 ?_
      obtain ⟨g76, hf⟩ := gd_some hf
      obtain ⟨s76, e76, hf⟩ := bnd_some hf
      refine aw_iast e76 hC hW g76 dX1_law_76 (fun H locs hW => ?_)
      have g34 := ko_pI e76 g34
      have g37 := ko_pI e76 g37
      have g44 := ko_pI e76 g44
      have g51 := ko_pI e76 g51
      have g59 := ko_pI e76 g59
      have g66 := ko_pI e76 g66
      have g73 := ko_pI e76 g73
      refine lv_aload_n hx hb dX1_law_77 rfl (lv_at hl 0 rfl) ?_
      obtain ⟨q78, hq78, hf⟩ := bi_some hf
      refine aw_gR hC hW g34 fl_X1_18 rfl hq78 dX1_law_78 ?_
      obtain ⟨g81, hf⟩ := gd_some hf
      obtain ⟨q81, hq81, hf⟩ := bi_some hf
      refine aw_gR hC hW g81 fl_X1_397 rfl hq81 dX1_law_81 ?_
      refine lv_aload_n hx hb dX1_law_84 rfl (lv_at hl 0 rfl) ?_
      obtain ⟨q85, hq85, hf⟩ := bi_some hf
      refine aw_gR hC hW g34 fl_X1_18 rfl hq85 dX1_law_85 ?_
      obtain ⟨g88, hf⟩ := gd_some hf
      refine aw_gI hC hW g88 fl_X1_388 rfl dX1_law_88 ?_
      refine lv_iconst (v := (-1)) hx hb dX1_law_91 (by decide) ?_
      obtain ⟨g92, hf⟩ := gd_some hf
      obtain ⟨s92, e92, hf⟩ := bnd_some hf
      refine aw_iast e92 hC hW g92 dX1_law_92 (fun H locs hW => ?_)
      have g34 := ko_pI e92 g34
      have g37 := ko_pI e92 g37
      have g44 := ko_pI e92 g44
      have g51 := ko_pI e92 g51
      have g59 := ko_pI e92 g59
      have g66 := ko_pI e92 g66
      have g73 := ko_pI e92 g73
      have g81 := ko_pI e92 g81
      have g88 := ko_pI e92 g88
      refine lv_aload_n hx hb dX1_law_93 rfl (lv_at hl 0 rfl) ?_
      obtain ⟨q94, hq94, hf⟩ := bi_some hf
      refine aw_gR hC hW g34 fl_X1_18 rfl hq94 dX1_law_94 ?_
      refine lv_dup hx hb dX1_law_97 rfl ?_
      obtain ⟨g98, hf⟩ := gd_some hf
      refine aw_gI hC hW g98 fl_X1_388 rfl dX1_law_98 ?_
      refine lv_iconst (v := 1) hx hb dX1_law_101 (by decide) ?_
      refine lv_iadd hx hb dX1_law_102 ?_
      obtain ⟨s103, e103, hf⟩ := bnd_some hf
      refine aw_pI e103 hC hW g98 fl_X1_388 (Or.inl fn_1_10) rfl rfl rfl dX1_law_103 (fun H locs hW => ?_)
      have g34 := ko_pI e103 g34
      have g37 := ko_pI e103 g37
      have g44 := ko_pI e103 g44
      have g51 := ko_pI e103 g51
      have g59 := ko_pI e103 g59
      have g66 := ko_pI e103 g66
      have g73 := ko_pI e103 g73
      have g81 := ko_pI e103 g81
      have g88 := ko_pI e103 g88
      have g98 := ko_pI e103 g98
      refine lv_aload_n hx hb dX1_law_106 rfl (lv_at hl 0 rfl) ?_
      obtain ⟨q107, hq107, hf⟩ := bi_some hf
      refine aw_gR hC hW g34 fl_X1_18 rfl hq107 dX1_law_107 ?_
      obtain ⟨g110, hf⟩ := gd_some hf
      refine aw_gI hC hW g110 fl_X1_388 rfl dX1_law_110 ?_
      refine lv_iconst (v := 1) hx hb dX1_law_113 (by decide) ?_
      refine lv_isub hx hb dX1_law_114 ?_
      obtain ⟨e1, e2⟩ := so_inj hf
      exact aw_iret hC hW hr rfl (p_eq hP (congrArg (fun z => some (Value.int z)) e1) e2) (Nat.le_of_ble_eq_true rfl) (Nat.le_of_ble_eq_true rfl) dX1_law_115
    · have hf := ifp c23 hf
      refine lv_bipush (v := (-3)) hx hb dX1_law_26 (by decide) ?_
      obtain ⟨e1, e2⟩ := so_inj hf
      exact aw_iret hC hW hr rfl (p_eq hP (congrArg (fun z => some (Value.int z)) e1) e2) (Nat.le_of_ble_eq_true rfl) (Nat.le_of_ble_eq_true rfl) dX1_law_28
  · have hf := ifp c8 hf
    refine lv_bipush (v := (-2)) hx hb dX1_law_11 (by decide) ?_
    obtain ⟨e1, e2⟩ := so_inj hf
    exact aw_iret hC hW hr rfl (p_eq hP (congrArg (fun z => some (Value.int z)) e1) e2) (Nat.le_of_ble_eq_true rfl) (Nat.le_of_ble_eq_true rfl) dX1_law_13
def f_X1_letters_b39 (K2 : Nat → Int32 → ST → Option (Int32 × ST)) (r0 : Nat) (x1 : Int32) (x2 : Int32) (t0 : Int32) (w1 : Nat) (s : ST) : Option (Int32 × ST) :=
  gd (w1 < s.1 ∧ (kd s w1).1 = 15) <|
  ob (f_X15_need w1 t0 s) fun _ s39 =>
  bnd ((x1 ||| (1 <<< (x2 &&& 31))) : Int32) fun v47 =>
  gd (r0 < s39.1 ∧ (kd s39 r0).1 = 15) <|
  bnd (pI s39 r0 3 ((gi s39 r0 3) + 1)) fun s55 =>
  K2 r0 v47 s55
def f_X1_letters_b2 : Nat → Nat → Int32 → ST → Option (Int32 × ST)
  | 0, _, _, _ => none
  | n + 1, r0, x1, s =>
  gd (r0 < s.1 ∧ (kd s r0).1 = 15) <|
  ob (f_X15_here r0 s) fun v3 s3 =>
  bnd (p_in ((v3 : Int32).toInt64) 97 104) fun v13 =>
  if v13 = 0 then (some (x1, s3)) else gd (r0 < s3.1 ∧ (kd s3 r0).1 = 15) <|
  ob (f_X15_here r0 s3) fun v20 s20 =>
  bnd ((v20 - 97) : Int32) fun v26 =>
  if (x1 >>> (v26 &&& 31)) = 0 then (f_X1_letters_b39 (f_X1_letters_b2 n) r0 x1 v26 1 r0 s20) else f_X1_letters_b39 (f_X1_letters_b2 n) r0 x1 v26 0 r0 s20
def f_X1_letters (r0 : Nat) (s : ST) : Option (Int32 × ST) :=
  f_X1_letters_b2 fuel r0 0 s
set_option maxHeartbeats 4000000 in
theorem ct_X1_letters (l : Launch) (G : GM) (a : Nat → Nat) (r0 : Nat) (s : ST) (rv : Int32) (sf : ST) (hf : f_X1_letters r0 s = some (rv, sf)) : MD l G yX1_letters (ws_ yX1_letters cX1_letters 3 (some .int)) 1 [.ref (a r0)] a s (some (.int rv)) sf := by
  refine md_of (d := 1) (lv := [(0, .ref (a r0))]) (Or.inl (by decide)) (Nat.le_of_ble_eq_true rfl) rfl ?_
  intro p e s0 m args below meth c ls A P hP hC hr hnm hW hl
  have hx := hC.1
  have hb := hC.2.1
  have hts := hC.2.2.2.2.1
  have B39 : ∀ (K2 : Nat → Int32 → ST → Option (Int32 × ST)) (hK2 : ∀ (r0 : Nat) (x1 : Int32) (s : ST), K2 r0 x1 s = some (rv, sf) → ∀ (H : Heap) (locs : List Loc) (ls : Array Slot), lv_has ls 3 [(0, .ref (a r0)), (1, .int x1)] → AW G a A s s0.heap H locs → WB p l e (rmD 1) s0 m args below meth c H locs G A P 2 ls []), ∀ (r0 : Nat) (x1 : Int32) (x2 : Int32) (t0 : Int32) (w1 : Nat) (s : ST), f_X1_letters_b39 K2 r0 x1 x2 t0 w1 s = some (rv, sf) → ∀ (H : Heap) (locs : List Loc) (ls : Array Slot), lv_has ls 3 [(0, .ref (a r0)), (1, .int x1), (2, .int x2)] → AW G a A s s0.heap H locs → WB p l e (rmD 1) s0 m args below meth c H locs G A P 39 ls [.int t0, .ref (a w1)] := by
    intro K2 hK2 r0 x1 x2 t0 w1 s hf H locs ls hl hW
    unfold f_X1_letters_b39 at hf
    obtain ⟨g39, hf⟩ := gd_some hf
    obtain ⟨_, s39, h39, hf⟩ := ob_some hf
    refine aw_dV0 (r := w1) (As := [.int t0]) (rest := []) (ct_X15_need l G a w1 t0 s () s39 h39) hC hW hl.1 vy_X15_need (Or.inl q552) g39 rfl rfl rfl rfl (Nat.le_of_ble_eq_true rfl) ⟨Nat.le_of_ble_eq_true rfl, Nat.le_of_ble_eq_true rfl⟩ ⟨Nat.le_of_ble_eq_true rfl, Nat.le_of_ble_eq_true rfl⟩ dX1_letters_39 (fun H locs hW => ?_)
    refine lv_iload_n hx hb dX1_letters_42 rfl (lv_at hl 1 rfl) ?_
    refine lv_iconst (v := 1) hx hb dX1_letters_43 (by decide) ?_
    refine lv_iload_n hx hb dX1_letters_44 rfl (lv_at hl 2 rfl) ?_
    refine lv_ishl hx hb dX1_letters_45 ?_
    refine lv_ior hx hb dX1_letters_46 ?_
    obtain ⟨v47, ev47, hf⟩ := bnd_some hf
    refine top_i ev47 ?_
    refine lv_istore_n (lv' := [(1, .int v47), (0, .ref (a r0)), (2, .int x2)]) hx hb dX1_letters_47 rfl hl (by decide) rfl (fun ls hl => ?_)
    refine lv_aload_n hx hb dX1_letters_48 rfl (lv_at hl 1 rfl) ?_
    refine lv_dup hx hb dX1_letters_49 rfl ?_
    obtain ⟨g50, hf⟩ := gd_some hf
    refine aw_gI hC hW g50 fl_X1_385 rfl dX1_letters_50 ?_
    refine lv_iconst (v := 1) hx hb dX1_letters_53 (by decide) ?_
    refine lv_iadd hx hb dX1_letters_54 ?_
    obtain ⟨s55, e55, hf⟩ := bnd_some hf
    refine aw_pI e55 hC hW g50 fl_X1_385 (Or.inl fn_14_3) rfl rfl rfl dX1_letters_55 (fun H locs hW => ?_)
    have g50 := ko_pI e55 g50
    refine lv_goto (tgt := 2) hx hb dX1_letters_58 (by decide) ?_
    exact hK2 r0 v47 s55 hf _ _ _ (lv_sub hl [1, 0] rfl) hW
  have B2 : ∀ (n : Nat), ∀ (r0 : Nat) (x1 : Int32) (s : ST), f_X1_letters_b2 n r0 x1 s = some (rv, sf) → ∀ (H : Heap) (locs : List Loc) (ls : Array Slot), lv_has ls 3 [(0, .ref (a r0)), (1, .int x1)] → AW G a A s s0.heap H locs → WB p l e (rmD 1) s0 m args below meth c H locs G A P 2 ls [] := by
    intro n
    induction n with
    | zero => intro r0 x1 s hf; cases hf
    | succ n ih =>
      intro r0 x1 s hf H locs ls hl hW
      rw [f_X1_letters_b2] at hf
      refine lv_aload_n hx hb dX1_letters_2 rfl (lv_at hl 0 rfl) ?_
      obtain ⟨g3, hf⟩ := gd_some hf
      obtain ⟨v3, s3, h3, hf⟩ := ob_some hf
      refine aw_dV1 (r := r0) (As := []) (rest := []) (ct_X15_here l G a r0 s v3 s3 h3) hC hW hl.1 vy_X15_here (Or.inl q1029) g3 rfl rfl rfl rfl (Nat.le_of_ble_eq_true rfl) ⟨Nat.le_of_ble_eq_true rfl, Nat.le_of_ble_eq_true rfl⟩ ⟨Nat.le_of_ble_eq_true rfl, Nat.le_of_ble_eq_true rfl⟩ dX1_letters_3 (fun H locs hW => ?_)
      refine lv_i2l (v := (v3 : Int32).toInt64) hx hb dX1_letters_6 rfl ?_
      refine lv_ldc2 (v := 97) hx hb hC.2.2.2.1 (hts _ q1030) dX1_letters_7 ?_
      refine lv_ldc2 (v := 104) hx hb hC.2.2.2.1 (hts _ q1031) dX1_letters_10 ?_
      obtain ⟨v13, ev13, hf⟩ := bnd_some hf
      refine aw_dS1 (As := [.long ((v3 : Int32).toInt64), .long 97, .long 104]) (rest := []) (pc_X1_in l G a ((v3 : Int32).toInt64) 97 104 s3) hC hW hl.1 sy_X1_in (Or.inl q514) rfl rfl (Nat.le_of_ble_eq_true rfl) ⟨Nat.le_of_ble_eq_true rfl, Nat.le_of_ble_eq_true rfl⟩ ⟨Nat.le_of_ble_eq_true rfl, Nat.le_of_ble_eq_true rfl⟩ dX1_letters_13 (fun H locs hW => ?_)
      refine top_i ev13 ?_
      refine lv_if_eq (tgt := 61) hx hb dX1_letters_16 (by decide) (fun c16 => ?_) (fun c16 => ?_)
      · have hf := ifp c16 hf
        refine lv_iload_n hx hb dX1_letters_61 rfl (lv_at hl 1 rfl) ?_
        obtain ⟨e1, e2⟩ := so_inj hf
        exact aw_iret hC hW hr rfl (p_eq hP (congrArg (fun z => some (Value.int z)) e1) e2) (Nat.le_of_ble_eq_true rfl) (Nat.le_of_ble_eq_true rfl) dX1_letters_62
      · have hf := ifn c16 hf
        refine lv_aload_n hx hb dX1_letters_19 rfl (lv_at hl 0 rfl) ?_
        obtain ⟨g20, hf⟩ := gd_some hf
        obtain ⟨v20, s20, h20, hf⟩ := ob_some hf
        refine aw_dV1 (r := r0) (As := []) (rest := []) (ct_X15_here l G a r0 s3 v20 s20 h20) hC hW hl.1 vy_X15_here (Or.inl q1029) g20 rfl rfl rfl rfl (Nat.le_of_ble_eq_true rfl) ⟨Nat.le_of_ble_eq_true rfl, Nat.le_of_ble_eq_true rfl⟩ ⟨Nat.le_of_ble_eq_true rfl, Nat.le_of_ble_eq_true rfl⟩ dX1_letters_20 (fun H locs hW => ?_)
        refine lv_bipush (v := 97) hx hb dX1_letters_23 (by decide) ?_
        refine lv_isub hx hb dX1_letters_25 ?_
        obtain ⟨v26, ev26, hf⟩ := bnd_some hf
        refine top_i ev26 ?_
        refine lv_istore_n (lv' := [(2, .int v26), (0, .ref (a r0)), (1, .int x1)]) hx hb dX1_letters_26 rfl hl (by decide) rfl (fun ls hl => ?_)
        refine lv_aload_n hx hb dX1_letters_27 rfl (lv_at hl 1 rfl) ?_
        refine lv_iload_n hx hb dX1_letters_28 rfl (lv_at hl 2 rfl) ?_
        refine lv_iload_n hx hb dX1_letters_29 rfl (lv_at hl 0 rfl) ?_
        refine lv_ishr hx hb dX1_letters_30 ?_
        refine lv_if_ne (tgt := 38) hx hb dX1_letters_31 (by decide) (fun c31 => ?_) (fun c31 => ?_)
        · have hf := ifn c31 hf
          refine lv_iconst (v := 0) hx hb dX1_letters_38 (by decide) ?_
          exact B39 (f_X1_letters_b2 n) ih r0 x1 v26 0 r0 s20 hf _ _ _ (lv_sub hl [1, 2, 0] rfl) hW
        · have hf := ifp c31 hf
          refine lv_iconst (v := 1) hx hb dX1_letters_34 (by decide) ?_
          refine lv_goto (tgt := 39) hx hb dX1_letters_35 (by decide) ?_
          exact B39 (f_X1_letters_b2 n) ih r0 x1 v26 1 r0 s20 hf _ _ _ (lv_sub hl [1, 2, 0] rfl) hW
  unfold f_X1_letters at hf
  refine lv_iconst (v := 0) hx hb dX1_letters_0 (by decide) ?_
  refine lv_istore_n (lv' := [(1, .int 0), (0, .ref (a r0))]) hx hb dX1_letters_1 rfl hl (by decide) rfl (fun ls hl => ?_)
  exact B2 fuel r0 0 s hf _ _ _ (lv_sub hl [1, 0] rfl) hW
