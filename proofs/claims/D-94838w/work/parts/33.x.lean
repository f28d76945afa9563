set_option maxRecDepth 100000
def f_X1_tellPart (o : Nat) (y1 : Int64) (y3 : Int64) (s : ST) : Option (Unit × ST) :=
  ob (f_X1_common 100 y1 y3 s) fun v2 s2 =>
  gd (¬ v2 = 0) <|
  gd (o < s2.1 ∧ (kd s2 o).1 = 1) <|
  ob (f_X1_tell o (y1 / v2) s2) fun _ s12 =>
  gd (¬ v2 = 0) <|
  gd (o < s12.1 ∧ (kd s12 o).1 = 1) <|
  ob (f_X1_tell o (y3 / v2) s12) fun _ s20 =>
  some ((), s20)
set_option maxHeartbeats 4000000 in
theorem ct_X1_tellPart (l : Launch) (G : GM) (a : Nat → Nat) (o : Nat) (y1 : Int64) (y3 : Int64) (s : ST) (rv : Unit) (sf : ST) (hf : f_X1_tellPart o y1 y3 s = some (rv, sf)) : MD l G yX1_tellPart (ws_ yX1_tellPart cX1_tellPart 7 none) 101 [.ref (a o), .long y1, .long y3] a s none sf := by
  refine md_of (d := 101) (lv := [(0, .ref (a o)), (1, .long y1), (3, .long y3)]) (Or.inl (by decide)) (Nat.le_of_ble_eq_true rfl) rfl ?_
  intro p e s0 m args below meth c ls A P hP hC hr hnm hW hl
  have hx := hC.1
  have hb := hC.2.1
  have hts := hC.2.2.2.2.1
  unfold f_X1_tellPart at hf
  refine lv_lload_n hx hb dX1_tellPart_0 rfl (lv_at hl 1 rfl) ?_
  refine lv_lload_n hx hb dX1_tellPart_1 rfl (lv_at hl 2 rfl) ?_
  obtain ⟨v2, s2, h2, hf⟩ := ob_some hf
  refine aw_dS1 (As := [.long y1, .long y3]) (rest := []) (ct_X1_common l G a 100 y1 y3 s v2 s2 h2) hC hW hl.1 sy_X1_common (Or.inl q1261) rfl rfl (Nat.le_of_ble_eq_true rfl) ⟨Nat.le_of_ble_eq_true rfl, Nat.le_of_ble_eq_true rfl⟩ ⟨Nat.le_of_ble_eq_true rfl, Nat.le_of_ble_eq_true rfl⟩ dX1_tellPart_2 (fun H locs hW => ?_)
  refine lv_lstore (lv' := [(5, .long v2), (0, .ref (a o)), (1, .long y1), (3, .long y3)]) hx hb dX1_tellPart_5 hl (by decide) rfl (fun ls hl => ?_)
  refine lv_aload_n hx hb dX1_tellPart_7 rfl (lv_at hl 1 rfl) ?_
  refine lv_lload_n hx hb dX1_tellPart_8 rfl (lv_at hl 2 rfl) ?_
  refine lv_lload hx hb dX1_tellPart_9 (lv_at hl 0 rfl) ?_
  obtain ⟨g11, hf⟩ := gd_some hf
  refine lv_ldiv hx hb dX1_tellPart_11 g11 ?_
  obtain ⟨g12, hf⟩ := gd_some hf
  obtain ⟨_, s12, h12, hf⟩ := ob_some hf
  refine aw_dV0 (r := o) (As := [.long (y1 / v2)]) (rest := []) (ct_X1_tell l G a o (y1 / v2) s2 () s12 h12) hC hW hl.1 vy_X1_tell (Or.inl q1013) g12 rfl rfl rfl rfl (Nat.le_of_ble_eq_true rfl) ⟨Nat.le_of_ble_eq_true rfl, Nat.le_of_ble_eq_true rfl⟩ ⟨Nat.le_of_ble_eq_true rfl, Nat.le_of_ble_eq_true rfl⟩ dX1_tellPart_12 (fun H locs hW => ?_)
  refine lv_aload_n hx hb dX1_tellPart_15 rfl (lv_at hl 1 rfl) ?_
  refine lv_lload_n hx hb dX1_tellPart_16 rfl (lv_at hl 3 rfl) ?_
  refine lv_lload hx hb dX1_tellPart_17 (lv_at hl 0 rfl) ?_
  obtain ⟨g19, hf⟩ := gd_some hf
  refine lv_ldiv hx hb dX1_tellPart_19 g19 ?_
  obtain ⟨g20, hf⟩ := gd_some hf
  obtain ⟨_, s20, h20, hf⟩ := ob_some hf
  refine aw_dV0 (r := o) (As := [.long (y3 / v2)]) (rest := []) (ct_X1_tell l G a o (y3 / v2) s12 () s20 h20) hC hW hl.1 vy_X1_tell (Or.inl q1013) g20 rfl rfl rfl rfl (Nat.le_of_ble_eq_true rfl) ⟨Nat.le_of_ble_eq_true rfl, Nat.le_of_ble_eq_true rfl⟩ ⟨Nat.le_of_ble_eq_true rfl, Nat.le_of_ble_eq_true rfl⟩ dX1_tellPart_20 (fun H locs hW => ?_)
  obtain ⟨e1, e2⟩ := so_inj hf
  exact aw_vret hC hW hr (p_eq hP rfl e2) (Nat.le_of_ble_eq_true rfl) (Nat.le_of_ble_eq_true rfl) dX1_tellPart_23
def f_X1_offs_b59 (K18 : Nat → Int32 → Int32 → Int32 → Int32 → ST → Option (Int32 × ST)) (r0 : Nat) (x1 : Int32) (x2 : Int32) (x3 : Int32) (x4 : Int32) (s : ST) : Option (Int32 × ST) :=
  gd (r0 < s.1 ∧ (kd s r0).1 = 1) <|
  bnd (pI s r0 8 ((gi s r0 8) + 1)) fun s66 =>
  K18 r0 x1 x2 x3 x4 s66
def f_X1_offs_b49 (K18 : Nat → Int32 → Int32 → Int32 → Int32 → ST → Option (Int32 × ST)) (r0 : Nat) (x1 : Int32) (x2 : Int32) (t0 : Int32) (s : ST) : Option (Int32 × ST) :=
  gd (r0 < s.1 ∧ (kd s r0).1 = 1) <|
  bnd ((gi s r0 8) : Int32) fun v54 =>
  bnd (x2 + 1 : Int32) fun v56 =>
  f_X1_offs_b59 K18 r0 x1 v56 t0 v54 s
def f_X1_offs_b18 : Nat → Nat → Int32 → Int32 → Int32 → Int32 → ST → Option (Int32 × ST)
  | 0, _, _, _, _, _, _ => none
  | n + 1, r0, x1, x2, x3, x4, s =>
  gd (r0 < s.1 ∧ (kd s r0).1 = 1) <|
  if 9 < (gi s r0 8) then (bnd (pI s r0 8 x1) fun s74 =>
  bnd (pI s74 r0 12 0) fun s92 =>
  if x2 ≤ 0 then (some (x2, s92)) else ob (f_X1_tell r0 ((x3 : Int32).toInt64) s92) fun _ s102 =>
  gd (r0 < s102.1 ∧ (kd s102 r0).1 = 1) <|
  ob (f_X1_tell r0 ((x4 : Int32).toInt64) s102) fun _ s109 =>
  some (x2, s109)) else ob (f_X1_liars r0 s) fun v28 s28 =>
  if v28 = 0 then (if x2 = 0 then (gd (r0 < s28.1 ∧ (kd s28 r0).1 = 1) <|
  f_X1_offs_b49 (f_X1_offs_b18 n) r0 x1 x2 (gi s28 r0 8) s28) else f_X1_offs_b49 (f_X1_offs_b18 n) r0 x1 x2 x3 s28) else f_X1_offs_b59 (f_X1_offs_b18 n) r0 x1 x2 x3 x4 s28
def f_X1_offs (o : Nat) (s : ST) : Option (Int32 × ST) :=
  gd (o < s.1 ∧ (kd s o).1 = 1) <|
  bnd ((gi s o 8) : Int32) fun v4 =>
  bnd (pI s o 8 (-9)) fun s15 =>
  f_X1_offs_b18 fuel o v4 0 0 0 s15
set_option maxHeartbeats 4000000 in
theorem ct_X1_offs (l : Launch) (G : GM) (a : Nat → Nat) (o : Nat) (s : ST) (rv : Int32) (sf : ST) (hf : f_X1_offs o s = some (rv, sf)) : MD l G yX1_offs (wsW_ yX1_offs cX1_offs 6 (some .int) [(12, 72, 80, 0), (80, 82, 80, 0)]) 4 [.ref (a o)] a s (some (.int rv)) sf := by
  refine md_ofW (d := 4) (lv := [(0, .ref (a o))]) (by decide) (Nat.le_of_ble_eq_true rfl) rfl ?_
  intro p e s0 m args below meth c ls A P hP hC hr hnm hW hl
  have hx := hC.1
  have hb := hC.2.1
  have hts := hC.2.2.2.2.1
  have B59 : ∀ (K18 : Nat → Int32 → Int32 → Int32 → Int32 → ST → Option (Int32 × ST)) (hK18 : ∀ (r0 : Nat) (x1 : Int32) (x2 : Int32) (x3 : Int32) (x4 : Int32) (s : ST), K18 r0 x1 x2 x3 x4 s = some (rv, sf) → ∀ (H : Heap) (locs : List Loc) (ls : Array Slot), lv_has ls 6 [(0, .ref (a r0)), (1, .int x1), (2, .int x2), (3, .int x3), (4, .int x4)] → AW G a A s s0.heap H locs → WB p l e (rmD 4) s0 m args below meth c H locs G A P 18 ls []), ∀ (r0 : Nat) (x1 : Int32) (x2 : Int32) (x3 : Int32) (x4 : Int32) (s : ST), f_X1_offs_b59 K18 r0 x1 x2 x3 x4 s = some (rv, sf) → ∀ (H : Heap) (locs : List Loc) (ls : Array Slot), lv_has ls 6 [(0, .ref (a r0)), (1, .int x1), (2, .int x2), (3, .int x3), (4, .int x4)] → AW G a A s s0.heap H locs → WB p l e (rmD 4) s0 m args below meth c H locs G A P 59 ls [] := by
    intro K18 hK18 r0 x1 x2 x3 x4 s hf H locs ls hl hW
    unfold f_X1_offs_b59 at hf
    refine lv_aload_n hx hb dX1_offs_59 rfl (lv_at hl 0 rfl) ?_
    refine lv_dup hx hb dX1_offs_60 rfl ?_
    obtain ⟨g61, hf⟩ := gd_some hf
    refine aw_gI hC hW g61 fl_X1_175 rfl dX1_offs_61 ?_
    refine lv_iconst (v := 1) hx hb dX1_offs_64 (by decide) ?_
    refine lv_iadd hx hb dX1_offs_65 ?_
    obtain ⟨s66, e66, hf⟩ := bnd_some hf
    refine aw_pI e66 hC hW g61 fl_X1_175 (Or.inl fn_0_8) rfl rfl rfl dX1_offs_66 (fun H locs hW => ?_)
    have g61 := ko_pI e66 g61
    refine lv_goto (tgt := 18) hx hb dX1_offs_69 (by decide) ?_
    exact hK18 r0 x1 x2 x3 x4 s66 hf _ _ _ (lv_sub hl [0, 1, 2, 3, 4] rfl) hW
  have B49 : ∀ (K18 : Nat → Int32 → Int32 → Int32 → Int32 → ST → Option (Int32 × ST)) (hK18 : ∀ (r0 : Nat) (x1 : Int32) (x2 : Int32) (x3 : Int32) (x4 : Int32) (s : ST), K18 r0 x1 x2 x3 x4 s = some (rv, sf) → ∀ (H : Heap) (locs : List Loc) (ls : Array Slot), lv_has ls 6 [(0, .ref (a r0)), (1, .int x1), (2, .int x2), (3, .int x3), (4, .int x4)] → AW G a A s s0.heap H locs → WB p l e (rmD 4) s0 m args below meth c H locs G A P 18 ls []), ∀ (r0 : Nat) (x1 : Int32) (x2 : Int32) (t0 : Int32) (s : ST), f_X1_offs_b49 K18 r0 x1 x2 t0 s = some (rv, sf) → ∀ (H : Heap) (locs : List Loc) (ls : Array Slot), lv_has ls 6 [(0, .ref (a r0)), (1, .int x1), (2, .int x2)] → AW G a A s s0.heap H locs → WB p l e (rmD 4) s0 m args below meth c H locs G A P 49 ls [.int t0] := by
    intro K18 hK18 r0 x1 x2 t0 s hf H locs ls hl hW
    unfold f_X1_offs_b49 at hf
    refine lv_istore_n (lv' := [(3, .int t0), (0, .ref (a r0)), (1, .int x1), (2, .int x2)]) hx hb dX1_offs_49 rfl hl (by decide) rfl (fun ls hl => ?_)
    refine lv_aload_n hx hb dX1_offs_50 rfl (lv_at hl 1 rfl) ?_
    obtain ⟨g51, hf⟩ := gd_some hf
    refine aw_gI hC hW g51 fl_X1_175 rfl dX1_offs_51 ?_
    obtain ⟨v54, ev54, hf⟩ := bnd_some hf
    refine top_i ev54 ?_
    refine lv_istore (lv' := [(4, .int v54), (3, .int t0), (0, .ref (a r0)), (1, .int x1), (2, .int x2)]) hx hb dX1_offs_54 hl (by decide) rfl (fun ls hl => ?_)
    obtain ⟨v56, ev56, hf⟩ := bnd_some hf
    refine lv_iinc (v := v56) (lv' := [(2, .int v56), (4, .int v54), (3, .int t0), (0, .ref (a r0)), (1, .int x1)]) hx hb dX1_offs_56 hl (k := 4) rfl (by rw [ev56]; rfl) (by decide) rfl (fun ls hl => ?_)
    exact B59 K18 hK18 r0 x1 v56 t0 v54 s hf _ _ _ (lv_sub hl [3, 4, 0, 2, 1] rfl) hW
  have B18 : ∀ (n : Nat), ∀ (r0 : Nat) (x1 : Int32) (x2 : Int32) (x3 : Int32) (x4 : Int32) (s : ST), f_X1_offs_b18 n r0 x1 x2 x3 x4 s = some (rv, sf) → ∀ (H : Heap) (locs : List Loc) (ls : Array Slot), lv_has ls 6 [(0, .ref (a r0)), (1, .int x1), (2, .int x2), (3, .int x3), (4, .int x4)] → AW G a A s s0.heap H locs → WB p l e (rmD 4) s0 m args below meth c H locs G A P 18 ls [] := by
    intro n
    induction n with
    | zero => intro r0 x1 x2 x3 x4 s hf; cases hf
    | succ n ih =>
      intro r0 x1 x2 x3 x4 s hf H locs ls hl hW
      rw [f_X1_offs_b18] at hf
      refine lv_aload_n hx hb dX1_offs_18 rfl (lv_at hl 0 rfl) ?_
      obtain ⟨g19, hf⟩ := gd_some hf
      refine aw_gI hC hW g19 fl_X1_175 rfl dX1_offs_19 ?_
      refine lv_bipush (v := 9) hx hb dX1_offs_22 (by decide) ?_
      refine lv_icmp_gt (tgt := 72) hx hb dX1_offs_24 (by decide) (fun c24 => ?_) (fun c24 => ?_)
      · have hf := ifp c24 hf
        refine lv_aload_n hx hb dX1_offs_72 rfl (lv_at hl 0 rfl) ?_
        refine lv_iload_n hx hb dX1_offs_73 rfl (lv_at hl 1 rfl) ?_
        obtain ⟨s74, e74, hf⟩ := bnd_some hf
        refine aw_pI e74 hC hW g19 fl_X1_175 (Or.inl fn_0_8) rfl rfl rfl dX1_offs_74 (fun H locs hW => ?_)
        have g19 := ko_pI e74 g19
        refine lv_goto (tgt := 90) hx hb dX1_offs_77 (by decide) ?_
        refine lv_aload_n hx hb dX1_offs_90 rfl (lv_at hl 0 rfl) ?_
        refine lv_iconst (v := 0) hx hb dX1_offs_91 (by decide) ?_
        obtain ⟨s92, e92, hf⟩ := bnd_some hf
        refine aw_pI e92 hC hW g19 fl_X1_154 (Or.inl fn_0_12) rfl rfl rfl dX1_offs_92 (fun H locs hW => ?_)
        have g19 := ko_pI e92 g19
        refine lv_iload_n hx hb dX1_offs_95 rfl (lv_at hl 2 rfl) ?_
        refine lv_if_le (tgt := 112) hx hb dX1_offs_96 (by decide) (fun c96 => ?_) (fun c96 => ?_)
        · have hf := ifp c96 hf
          refine lv_iload_n hx hb dX1_offs_112 rfl (lv_at hl 2 rfl) ?_
          obtain ⟨e1, e2⟩ := so_inj hf
          exact aw_iret hC hW hr rfl (p_eq hP (congrArg (fun z => some (Value.int z)) e1) e2) (Nat.le_of_ble_eq_true rfl) (Nat.le_of_ble_eq_true rfl) dX1_offs_113
        · have hf := ifn c96 hf
          refine lv_aload_n hx hb dX1_offs_99 rfl (lv_at hl 0 rfl) ?_
          refine lv_iload_n hx hb dX1_offs_100 rfl (lv_at hl 3 rfl) ?_
          refine lv_i2l (v := (x3 : Int32).toInt64) hx hb dX1_offs_101 rfl ?_
          obtain ⟨_, s102, h102, hf⟩ := ob_some hf
          refine aw_dV0 (r := r0) (As := [.long ((x3 : Int32).toInt64)]) (rest := []) (ct_X1_tell l G a r0 ((x3 : Int32).toInt64) s92 () s102 h102) hC hW hl.1 vy_X1_tell (Or.inl q1013) g19 rfl rfl rfl rfl (Nat.le_of_ble_eq_true rfl) ⟨Nat.le_of_ble_eq_true rfl, Nat.le_of_ble_eq_true rfl⟩ ⟨Nat.le_of_ble_eq_true rfl, Nat.le_of_ble_eq_true rfl⟩ dX1_offs_102 (fun H locs hW => ?_)
          refine lv_aload_n hx hb dX1_offs_105 rfl (lv_at hl 0 rfl) ?_
          refine lv_iload hx hb dX1_offs_106 (lv_at hl 4 rfl) ?_
          refine lv_i2l (v := (x4 : Int32).toInt64) hx hb dX1_offs_108 rfl ?_
          obtain ⟨g109, hf⟩ := gd_some hf
          obtain ⟨_, s109, h109, hf⟩ := ob_some hf
          refine aw_dV0 (r := r0) (As := [.long ((x4 : Int32).toInt64)]) (rest := []) (ct_X1_tell l G a r0 ((x4 : Int32).toInt64) s102 () s109 h109) hC hW hl.1 vy_X1_tell (Or.inl q1013) g109 rfl rfl rfl rfl (Nat.le_of_ble_eq_true rfl) ⟨Nat.le_of_ble_eq_true rfl, Nat.le_of_ble_eq_true rfl⟩ ⟨Nat.le_of_ble_eq_true rfl, Nat.le_of_ble_eq_true rfl⟩ dX1_offs_109 (fun H locs hW => ?_)
          refine lv_iload_n hx hb dX1_offs_112 rfl (lv_at hl 2 rfl) ?_
          obtain ⟨e1, e2⟩ := so_inj hf
          exact aw_iret hC hW hr rfl (p_eq hP (congrArg (fun z => some (Value.int z)) e1) e2) (Nat.le_of_ble_eq_true rfl) (Nat.le_of_ble_eq_true rfl) dX1_offs_113
      · have hf := ifn c24 hf
        refine lv_aload_n hx hb dX1_offs_27 rfl (lv_at hl 0 rfl) ?_
        obtain ⟨v28, s28, h28, hf⟩ := ob_some hf
        refine aw_dV1 (r := r0) (As := []) (rest := []) (ct_X1_liars l G a r0 s v28 s28 h28) hC hW hl.1 vy_X1_liars (Or.inl q1206) g19 rfl rfl rfl rfl (Nat.le_of_ble_eq_true rfl) ⟨Nat.le_of_ble_eq_true rfl, Nat.le_of_ble_eq_true rfl⟩ ⟨Nat.le_of_ble_eq_true rfl, Nat.le_of_ble_eq_true rfl⟩ dX1_offs_28 (fun H locs hW => ?_)
        refine lv_if_eq (tgt := 37) hx hb dX1_offs_31 (by decide) (fun c31 => ?_) (fun c31 => ?_)
        · have hf := ifp c31 hf
          refine lv_iload_n hx hb dX1_offs_37 rfl (lv_at hl 2 rfl) ?_
          refine lv_if_ne (tgt := 48) hx hb dX1_offs_38 (by decide) (fun c38 => ?_) (fun c38 => ?_)
          · have hf := ifn c38 hf
            refine lv_iload_n hx hb dX1_offs_48 rfl (lv_at hl 3 rfl) ?_
            exact B49 (f_X1_offs_b18 n) ih r0 x1 x2 x3 s28 hf _ _ _ (lv_sub hl [0, 1, 2] rfl) hW
          · have hf := ifp c38 hf
            refine lv_aload_n hx hb dX1_offs_41 rfl (lv_at hl 0 rfl) ?_
            obtain ⟨g42, hf⟩ := gd_some hf
            refine aw_gI hC hW g42 fl_X1_175 rfl dX1_offs_42 ?_
            refine lv_goto (tgt := 49) hx hb dX1_offs_45 (by decide) ?_
            exact B49 (f_X1_offs_b18 n) ih r0 x1 x2 (gi s28 r0 8) s28 hf _ _ _ (lv_sub hl [0, 1, 2] rfl) hW
        · have hf := ifn c31 hf
          refine lv_goto (tgt := 59) hx hb dX1_offs_34 (by decide) ?_
          exact B59 (f_X1_offs_b18 n) ih r0 x1 x2 x3 x4 s28 hf _ _ _ (lv_sub hl [0, 1, 2, 3, 4] rfl) hW
  unfold f_X1_offs at hf
  refine lv_aload_n hx hb dX1_offs_0 rfl (lv_at hl 0 rfl) ?_
  obtain ⟨g1, hf⟩ := gd_some hf
  refine aw_gI hC hW g1 fl_X1_175 rfl dX1_offs_1 ?_
  obtain ⟨v4, ev4, hf⟩ := bnd_some hf
  refine top_i ev4 ?_
  refine lv_istore_n (lv' := [(1, .int v4), (0, .ref (a o))]) hx hb dX1_offs_4 rfl hl (by decide) rfl (fun ls hl => ?_)
  refine lv_iconst (v := 0) hx hb dX1_offs_5 (by decide) ?_
  refine lv_istore_n (lv' := [(2, .int 0), (1, .int v4), (0, .ref (a o))]) hx hb dX1_offs_6 rfl hl (by decide) rfl (fun ls hl => ?_)
  refine lv_iconst (v := 0) hx hb dX1_offs_7 (by decide) ?_
  refine lv_istore_n (lv' := [(3, .int 0), (2, .int 0), (1, .int v4), (0, .ref (a o))]) hx hb dX1_offs_8 rfl hl (by decide) rfl (fun ls hl => ?_)
  refine lv_iconst (v := 0) hx hb dX1_offs_9 (by decide) ?_
  refine lv_istore (lv' := [(4, .int 0), (3, .int 0), (2, .int 0), (1, .int v4), (0, .ref (a o))]) hx hb dX1_offs_10 hl (by decide) rfl (fun ls hl => ?_)
  refine lv_aload_n hx hb dX1_offs_12 rfl (lv_at hl 4 rfl) ?_
  refine lv_bipush (v := (-9)) hx hb dX1_offs_13 (by decide) ?_
  obtain ⟨s15, e15, hf⟩ := bnd_some hf
  refine aw_pI e15 hC hW g1 fl_X1_175 (Or.inl fn_0_8) rfl rfl rfl dX1_offs_15 (fun H locs hW => ?_)
  have g1 := ko_pI e15 g1
  exact B18 fuel o v4 0 0 0 s15 hf _ _ _ (lv_sub hl [4, 3, 2, 1, 0] rfl) hW
def f_X1_scale_b23 (r0 : Nat) (x1 : Int32) (x2 : Int32) (s : ST) : Option (Int32 × ST) :=
  if x1 = 1 then (bnd (p_in ((x2 : Int32).toInt64) (-9) 9) fun v36 =>
  if v36 = 0 then (some (0, s)) else gd (r0 < s.1 ∧ (kd s r0).1 = 1) <|
  bnd (pI s r0 8 x2) fun s46 =>
  some (1, s46)) else some (0, s)
def f_X1_scale (o : Nat) (x1 : Int32) (x2 : Int32) (s : ST) : Option (Int32 × ST) :=
  if x1 = 0 then (bnd (p_in ((x2 : Int32).toInt64) 1 9) fun v10 =>
  if v10 = 0 then (f_X1_scale_b23 o x1 x2 s) else gd (o < s.1 ∧ (kd s o).1 = 1) <|
  bnd (pI s o 7 x2) fun s18 =>
  some (1, s18)) else f_X1_scale_b23 o x1 x2 s
set_option maxHeartbeats 4000000 in
theorem ct_X1_scale (l : Launch) (G : GM) (a : Nat → Nat) (o : Nat) (x1 : Int32) (x2 : Int32) (s : ST) (rv : Int32) (sf : ST) (hf : f_X1_scale o x1 x2 s = some (rv, sf)) : MD l G yX1_scale (ws_ yX1_scale cX1_scale 3 (some .boolean)) 1 [.ref (a o), .int x1, .int x2] a s (some (.int rv)) sf := by
  refine md_of (d := 1) (lv := [(0, .ref (a o)), (1, .int x1), (2, .int x2)]) (Or.inl (by decide)) (Nat.le_of_ble_eq_true rfl) rfl ?_
  intro p e s0 m args below meth c ls A P hP hC hr hnm hW hl
  have hx := hC.1
  have hb := hC.2.1
  have hts := hC.2.2.2.2.1
  have B23 : ∀ (r0 : Nat) (x1 : Int32) (x2 : Int32) (s : ST), f_X1_scale_b23 r0 x1 x2 s = some (rv, sf) → ∀ (H : Heap) (locs : List Loc) (ls : Array Slot), lv_has ls 3 [(0, .ref (a r0)), (1, .int x1), (2, .int x2)] → AW G a A s s0.heap H locs → WB p l e (rmD 1) s0 m args below meth c H locs G A P 23 ls [] := by
    intro r0 x1 x2 s hf H locs ls hl hW
    unfold f_X1_scale_b23 at hf
    refine lv_iload_n hx hb dX1_scale_23 rfl (lv_at hl 1 rfl) ?_
    refine lv_iconst (v := 1) hx hb dX1_scale_24 (by decide) ?_
    refine lv_icmp_ne (tgt := 42) hx hb dX1_scale_25 (by decide) (fun c25 => ?_) (fun c25 => ?_)
    · have hf := ifn c25 hf
      refine lv_iconst (v := 0) hx hb dX1_scale_42 (by decide) ?_
      obtain ⟨e1, e2⟩ := so_inj hf
      exact aw_iret hC hW hr rfl (p_eq hP (congrArg (fun z => some (Value.int z)) e1) e2) (Nat.le_of_ble_eq_true rfl) (Nat.le_of_ble_eq_true rfl) dX1_scale_43
    · have hf := ifp c25 hf
      refine lv_iload_n hx hb dX1_scale_28 rfl (lv_at hl 2 rfl) ?_
      refine lv_i2l (v := (x2 : Int32).toInt64) hx hb dX1_scale_29 rfl ?_
      refine lv_ldc2 (v := (-9)) hx hb hC.2.2.2.1 (hts _ q864) dX1_scale_30 ?_
      refine lv_ldc2 (v := 9) hx hb hC.2.2.2.1 (hts _ q859) dX1_scale_33 ?_
      obtain ⟨v36, ev36, hf⟩ := bnd_some hf
      refine aw_dS1 (As := [.long ((x2 : Int32).toInt64), .long (-9), .long 9]) (rest := []) (pc_X1_in l G a ((x2 : Int32).toInt64) (-9) 9 s) hC hW hl.1 sy_X1_in (Or.inl q514) rfl rfl (Nat.le_of_ble_eq_true rfl) ⟨Nat.le_of_ble_eq_true rfl, Nat.le_of_ble_eq_true rfl⟩ ⟨Nat.le_of_ble_eq_true rfl, Nat.le_of_ble_eq_true rfl⟩ dX1_scale_36 (fun H locs hW => ?_)
      refine top_i ev36 ?_
      refine lv_if_ne (tgt := 44) hx hb dX1_scale_39 (by decide) (fun c39 => ?_) (fun c39 => ?_)
      · have hf := ifn c39 hf
        refine lv_aload_n hx hb dX1_scale_44 rfl (lv_at hl 0 rfl) ?_
        refine lv_iload_n hx hb dX1_scale_45 rfl (lv_at hl 2 rfl) ?_
        obtain ⟨g46, hf⟩ := gd_some hf
        obtain ⟨s46, e46, hf⟩ := bnd_some hf
        refine aw_pI e46 hC hW g46 fl_X1_175 (Or.inl fn_0_8) rfl rfl rfl dX1_scale_46 (fun H locs hW => ?_)
        have g46 := ko_pI e46 g46
        refine lv_iconst (v := 1) hx hb dX1_scale_49 (by decide) ?_
        obtain ⟨e1, e2⟩ := so_inj hf
        exact aw_iret hC hW hr rfl (p_eq hP (congrArg (fun z => some (Value.int z)) e1) e2) (Nat.le_of_ble_eq_true rfl) (Nat.le_of_ble_eq_true rfl) dX1_scale_50
      · have hf := ifp c39 hf
        refine lv_iconst (v := 0) hx hb dX1_scale_42 (by decide) ?_
        obtain ⟨e1, e2⟩ := so_inj hf
        exact aw_iret hC hW hr rfl (p_eq hP (congrArg (fun z => some (Value.int z)) e1) e2) (Nat.le_of_ble_eq_true rfl) (Nat.le_of_ble_eq_true rfl) dX1_scale_43
  unfold f_X1_scale at hf
  refine lv_iload_n hx hb dX1_scale_0 rfl (lv_at hl 1 rfl) ?_
  refine lv_if_ne (tgt := 23) hx hb dX1_scale_1 (by decide) (fun c1 => ?_) (fun c1 => ?_)
  · have hf := ifn c1 hf
    exact B23 o x1 x2 s hf _ _ _ (lv_sub hl [0, 1, 2] rfl) hW
  · have hf := ifp c1 hf
    refine lv_iload_n hx hb dX1_scale_4 rfl (lv_at hl 2 rfl) ?_
    refine lv_i2l (v := (x2 : Int32).toInt64) hx hb dX1_scale_5 rfl ?_
    refine lv_lconst (v := 1) hx hb dX1_scale_6 (by decide) ?_
    refine lv_ldc2 (v := 9) hx hb hC.2.2.2.1 (hts _ q859) dX1_scale_7 ?_
    obtain ⟨v10, ev10, hf⟩ := bnd_some hf
    refine aw_dS1 (As := [.long ((x2 : Int32).toInt64), .long 1, .long 9]) (rest := []) (pc_X1_in l G a ((x2 : Int32).toInt64) 1 9 s) hC hW hl.1 sy_X1_in (Or.inl q514) rfl rfl (Nat.le_of_ble_eq_true rfl) ⟨Nat.le_of_ble_eq_true rfl, Nat.le_of_ble_eq_true rfl⟩ ⟨Nat.le_of_ble_eq_true rfl, Nat.le_of_ble_eq_true rfl⟩ dX1_scale_10 (fun H locs hW => ?_)
    refine top_i ev10 ?_
    refine lv_if_eq (tgt := 23) hx hb dX1_scale_13 (by decide) (fun c13 => ?_) (fun c13 => ?_)
    · have hf := ifp c13 hf
      exact B23 o x1 x2 s hf _ _ _ (lv_sub hl [0, 1, 2] rfl) hW
    · have hf := ifn c13 hf
      refine lv_aload_n hx hb dX1_scale_16 rfl (lv_at hl 0 rfl) ?_
      refine lv_iload_n hx hb dX1_scale_17 rfl (lv_at hl 2 rfl) ?_
      obtain ⟨g18, hf⟩ := gd_some hf
      obtain ⟨s18, e18, hf⟩ := bnd_some hf
      refine aw_pI e18 hC hW g18 fl_X1_29 (Or.inl fn_0_7) rfl rfl rfl dX1_scale_18 (fun H locs hW => ?_)
      have g18 := ko_pI e18 g18
      refine lv_iconst (v := 1) hx hb dX1_scale_21 (by decide) ?_
      obtain ⟨e1, e2⟩ := so_inj hf
      exact aw_iret hC hW hr rfl (p_eq hP (congrArg (fun z => some (Value.int z)) e1) e2) (Nat.le_of_ble_eq_true rfl) (Nat.le_of_ble_eq_true rfl) dX1_scale_22
def f_X1_served (o : Nat) (x1 : Int32) (s : ST) : Option (Int32 × ST) :=
  gd (o < s.1 ∧ (kd s o).1 = 1) <|
  (gr s o 1).bind fun q4 =>
  gd (q4 < s.1 ∧ (kd s q4).1 = 2) <|
  bnd (p_max 0 ((gi s q4 9) - 60)) fun v13 =>
  (gr s o 1).bind fun q18 =>
  gd (q18 < s.1 ∧ (kd s q18).1 = 2) <|
  bnd (p_in ((x1 : Int32).toInt64) ((v13 : Int32).toInt64) ((((gi s q18 9) - 1) : Int32).toInt64)) fun v27 =>
  if v27 = 0 then (some ((-2), s)) else (gr s o 1).bind fun q34 =>
  gd (q34 < s.1 ∧ (kd s q34).1 = 2) <|
  (gr s q34 5).bind fun q37 =>
  gd (q37 < s.1 ∧ (kd s q37).1 = 100 ∧ ¬ (((x1 - x1 / 60 * 60) : Int32) < 0 ∨ (kd s q37).2 ≤ ((x1 - x1 / 60 * 60) : Int32).toNatClampNeg)) <|
  some ((gi s q37 ((x1 - x1 / 60 * 60) : Int32).toNatClampNeg), s)
set_option maxHeartbeats 4000000 in
theorem ct_X1_served (l : Launch) (G : GM) (a : Nat → Nat) (o : Nat) (x1 : Int32) (s : ST) (rv : Int32) (sf : ST) (hf : f_X1_served o x1 s = some (rv, sf)) : MD l G yX1_served (ws_ yX1_served cX1_served 2 (some .int)) 1 [.ref (a o), .int x1] a s (some (.int rv)) sf := by
  refine md_of (d := 1) (lv := [(0, .ref (a o)), (1, .int x1)]) (Or.inl (by decide)) (Nat.le_of_ble_eq_true rfl) rfl ?_
  intro p e s0 m args below meth c ls A P hP hC hr hnm hW hl
  have hx := hC.1
  have hb := hC.2.1
  have hts := hC.2.2.2.2.1
  unfold f_X1_served at hf
  refine lv_iload_n hx hb dX1_served_0 rfl (lv_at hl 1 rfl) ?_
  refine lv_i2l (v := (x1 : Int32).toInt64) hx hb dX1_served_1 rfl ?_
  refine lv_iconst (v := 0) hx hb dX1_served_2 (by decide) ?_
  refine lv_aload_n hx hb dX1_served_3 rfl (lv_at hl 0 rfl) ?_
  obtain ⟨g4, hf⟩ := gd_some hf
  obtain ⟨q4, hq4, hf⟩ := bi_some hf
  refine aw_gR hC hW g4 fl_X1_18 rfl hq4 dX1_served_4 ?_
  obtain ⟨g7, hf⟩ := gd_some hf
  refine aw_gI hC hW g7 fl_X1_348 rfl dX1_served_7 ?_
  refine lv_bipush (v := 60) hx hb dX1_served_10 (by decide) ?_
  refine lv_isub hx hb dX1_served_12 ?_
  obtain ⟨v13, ev13, hf⟩ := bnd_some hf
  refine aw_dS1 (As := [.int 0, .int ((gi s q4 9) - 60)]) (rest := [.long ((x1 : Int32).toInt64)]) (pc_J0_max l G a 0 ((gi s q4 9) - 60) s) hC hW hl.1 sy_J0_max (Or.inl q907) rfl rfl (Nat.le_of_ble_eq_true rfl) ⟨Nat.le_of_ble_eq_true rfl, Nat.le_of_ble_eq_true rfl⟩ ⟨Nat.le_of_ble_eq_true rfl, Nat.le_of_ble_eq_true rfl⟩ dX1_served_13 (fun H locs hW => ?_)
  refine top_i ev13 ?_
  refine lv_i2l (v := (v13 : Int32).toInt64) hx hb dX1_served_16 rfl ?_
  refine lv_aload_n hx hb dX1_served_17 rfl (lv_at hl 0 rfl) ?_
  obtain ⟨q18, hq18, hf⟩ := bi_some hf
  refine aw_gR hC hW g4 fl_X1_18 rfl hq18 dX1_served_18 ?_
  obtain ⟨g21, hf⟩ := gd_some hf
  refine aw_gI hC hW g21 fl_X1_348 rfl dX1_served_21 ?_
  refine lv_iconst (v := 1) hx hb dX1_served_24 (by decide) ?_
  refine lv_isub hx hb dX1_served_25 ?_
  refine lv_i2l (v := (((gi s q18 9) - 1) : Int32).toInt64) hx hb dX1_served_26 rfl ?_
  obtain ⟨v27, ev27, hf⟩ := bnd_some hf
  refine aw_dS1 (As := [.long ((x1 : Int32).toInt64), .long ((v13 : Int32).toInt64), .long ((((gi s q18 9) - 1) : Int32).toInt64)]) (rest := []) (pc_X1_in l G a ((x1 : Int32).toInt64) ((v13 : Int32).toInt64) ((((gi s q18 9) - 1) : Int32).toInt64) s) hC hW hl.1 sy_X1_in (Or.inl q514) rfl rfl (Nat.le_of_ble_eq_true rfl) ⟨Nat.le_of_ble_eq_true rfl, Nat.le_of_ble_eq_true rfl⟩ ⟨Nat.le_of_ble_eq_true rfl, Nat.le_of_ble_eq_true rfl⟩ dX1_served_27 (fun H locs hW => ?_)
  refine top_i ev27 ?_
  refine lv_if_eq (tgt := 48) hx hb dX1_served_30 (by decide) (fun c30 => ?_) (fun c30 => ?_)
  · have hf := ifp c30 hf
    refine lv_bipush (v := (-2)) hx hb dX1_served_48 (by decide) ?_
    obtain ⟨e1, e2⟩ := so_inj hf
    exact aw_iret hC hW hr rfl (p_eq hP (congrArg (fun z => some (Value.int z)) e1) e2) (Nat.le_of_ble_eq_true rfl) (Nat.le_of_ble_eq_true rfl) dX1_served_50
  · have hf := ifn c30 hf
    refine lv_aload_n hx hb dX1_served_33 rfl (lv_at hl 0 rfl) ?_
    obtain ⟨q34, hq34, hf⟩ := bi_some hf
    refine aw_gR hC hW g4 fl_X1_18 rfl hq34 dX1_served_34 ?_
    obtain ⟨g37, hf⟩ := gd_some hf
    obtain ⟨q37, hq37, hf⟩ := bi_some hf
    refine aw_gR hC hW g37 fl_X1_345 rfl hq37 dX1_served_37 ?_
    refine lv_iload_n hx hb dX1_served_40 rfl (lv_at hl 1 rfl) ?_
    refine lv_bipush (v := 60) hx hb dX1_served_41 (by decide) ?_
    refine lv_irem hx hb dX1_served_43 (by decide) ?_
    obtain ⟨g44, hf⟩ := gd_some hf
    refine aw_iald hC hW g44 dX1_served_44 ?_
    refine lv_goto (tgt := 50) hx hb dX1_served_45 (by decide) ?_
    obtain ⟨e1, e2⟩ := so_inj hf
    exact aw_iret hC hW hr rfl (p_eq hP (congrArg (fun z => some (Value.int z)) e1) e2) (Nat.le_of_ble_eq_true rfl) (Nat.le_of_ble_eq_true rfl) dX1_served_50
def f_X1_set_b91 (r0 : Nat) (x1 : Int32) (x2 : Int32) (x3 : Int32) (s : ST) : Option (Int32 × ST) :=
  if x1 = 2 then (bnd (p_in ((x3 : Int32).toInt64) 0 9) fun v102 =>
  if v102 = 0 then (some ((-1), s)) else gd (r0 < s.1 ∧ (kd s r0).1 = 1) <|
  (gr s r0 0).bind fun q111 =>
  gd (q111 < s.1 ∧ (kd s q111).1 = 105 ∧ ¬ ((x2 : Int32) < 0 ∨ (kd s q111).2 ≤ (x2 : Int32).toNatClampNeg)) <|
  (gr s q111 (x2 : Int32).toNatClampNeg).bind fun q115 =>
  gd (q115 < s.1 ∧ (kd s q115).1 = 3) <|
  bnd ((gi s q115 1) : Int32) fun v119 =>
  (gr s r0 0).bind fun q122 =>
  gd (q122 < s.1 ∧ (kd s q122).1 = 105 ∧ ¬ ((x2 : Int32) < 0 ∨ (kd s q122).2 ≤ (x2 : Int32).toNatClampNeg)) <|
  (gr s q122 (x2 : Int32).toNatClampNeg).bind fun q126 =>
  gd (q126 < s.1 ∧ (kd s q126).1 = 3) <|
  bnd (pI s q126 1 x3) fun s128 =>
  some (v119, s128)) else some ((-1), s)
def f_X1_set_b50 (r0 : Nat) (x1 : Int32) (x2 : Int32) (x3 : Int32) (s : ST) : Option (Int32 × ST) :=
  if x1 = 1 then (bnd (p_in ((x3 : Int32).toInt64) 0 3) fun v61 =>
  if v61 = 0 then (f_X1_set_b91 r0 x1 x2 x3 s) else gd (r0 < s.1 ∧ (kd s r0).1 = 1) <|
  (gr s r0 0).bind fun q68 =>
  gd (q68 < s.1 ∧ (kd s q68).1 = 105 ∧ ¬ ((x2 : Int32) < 0 ∨ (kd s q68).2 ≤ (x2 : Int32).toNatClampNeg)) <|
  (gr s q68 (x2 : Int32).toNatClampNeg).bind fun q72 =>
  gd (q72 < s.1 ∧ (kd s q72).1 = 3) <|
  bnd ((gi s q72 0) : Int32) fun v76 =>
  (gr s r0 0).bind fun q79 =>
  gd (q79 < s.1 ∧ (kd s q79).1 = 105 ∧ ¬ ((x2 : Int32) < 0 ∨ (kd s q79).2 ≤ (x2 : Int32).toNatClampNeg)) <|
  (gr s q79 (x2 : Int32).toNatClampNeg).bind fun q83 =>
  gd (q83 < s.1 ∧ (kd s q83).1 = 3) <|
  bnd (pI s q83 0 x3) fun s85 =>
  some (v76, s85)) else f_X1_set_b91 r0 x1 x2 x3 s
def f_X1_set (o : Nat) (x1 : Int32) (x2 : Int32) (x3 : Int32) (s : ST) : Option (Int32 × ST) :=
  gd (o < s.1 ∧ (kd s o).1 = 1) <|
  ob (f_X1_isOne o x2 s) fun v2 s2 =>
  if v2 = 0 then (some ((-1), s2)) else if x1 = 0 then (bnd (p_in ((x3 : Int32).toInt64) 1 999) fun v20 =>
  if v20 = 0 then (f_X1_set_b50 o x1 x2 x3 s2) else gd (o < s2.1 ∧ (kd s2 o).1 = 1) <|
  (gr s2 o 1).bind fun q27 =>
  gd (q27 < s2.1 ∧ (kd s2 q27).1 = 2) <|
  (gr s2 q27 0).bind fun q30 =>
  gd (q30 < s2.1 ∧ (kd s2 q30).1 = 100 ∧ ¬ ((x2 : Int32) < 0 ∨ (kd s2 q30).2 ≤ (x2 : Int32).toNatClampNeg)) <|
  bnd ((gi s2 q30 (x2 : Int32).toNatClampNeg) : Int32) fun v35 =>
  (gr s2 o 1).bind fun q38 =>
  gd (q38 < s2.1 ∧ (kd s2 q38).1 = 2) <|
  (gr s2 q38 0).bind fun q41 =>
  gd (q41 < s2.1 ∧ (kd s2 q41).1 = 100 ∧ ¬ ((x2 : Int32) < 0 ∨ (kd s2 q41).2 ≤ (x2 : Int32).toNatClampNeg)) <|
  bnd (pI s2 q41 (x2 : Int32).toNatClampNeg x3) fun s46 =>
  some (v35, s46)) else f_X1_set_b50 o x1 x2 x3 s2
set_option maxHeartbeats 4000000 in
theorem ct_X1_set (l : Launch) (G : GM) (a : Nat → Nat) (o : Nat) (x1 : Int32) (x2 : Int32) (x3 : Int32) (s : ST) (rv : Int32) (sf : ST) (hf : f_X1_set o x1 x2 x3 s = some (rv, sf)) : MD l G yX1_set (ws_ yX1_set cX1_set 5 (some .int)) 2 [.ref (a o), .int x1, .int x2, .int x3] a s (some (.int rv)) sf := by
  refine md_of (d := 2) (lv := [(0, .ref (a o)), (1, .int x1), (2, .int x2), (3, .int x3)]) (Or.inl (by decide)) (Nat.le_of_ble_eq_true rfl) rfl ?_
  intro p e s0 m args below meth c ls A P hP hC hr hnm hW hl
  have hx := hC.1
  have hb := hC.2.1
  have hts := hC.2.2.2.2.1
  have B91 : ∀ (r0 : Nat) (x1 : Int32) (x2 : Int32) (x3 : Int32) (s : ST), f_X1_set_b91 r0 x1 x2 x3 s = some (rv, sf) → ∀ (H : Heap) (locs : List Loc) (ls : Array Slot), lv_has ls 5 [(0, .ref (a r0)), (1, .int x1), (2, .int x2), (3, .int x3)] → AW G a A s s0.heap H locs → WB p l e (rmD 2) s0 m args below meth c H locs G A P 91 ls [] := by
    intro r0 x1 x2 x3 s hf H locs ls hl hW
    unfold f_X1_set_b91 at hf
    refine lv_iload_n hx hb dX1_set_91 rfl (lv_at hl 1 rfl) ?_
    refine lv_iconst (v := 2) hx hb dX1_set_92 (by decide) ?_
    refine lv_icmp_ne (tgt := 108) hx hb dX1_set_93 (by decide) (fun c93 => ?_) (fun c93 => ?_)
    · have hf := ifn c93 hf
      refine lv_iconst (v := (-1)) hx hb dX1_set_108 (by decide) ?_
      obtain ⟨e1, e2⟩ := so_inj hf
      exact aw_iret hC hW hr rfl (p_eq hP (congrArg (fun z => some (Value.int z)) e1) e2) (Nat.le_of_ble_eq_true rfl) (Nat.le_of_ble_eq_true rfl) dX1_set_109
    · have hf := ifp c93 hf
      refine lv_iload_n hx hb dX1_set_96 rfl (lv_at hl 3 rfl) ?_
      refine lv_i2l (v := (x3 : Int32).toInt64) hx hb dX1_set_97 rfl ?_
      refine lv_lconst (v := 0) hx hb dX1_set_98 (by decide) ?_
      refine lv_ldc2 (v := 9) hx hb hC.2.2.2.1 (hts _ q859) dX1_set_99 ?_
      obtain ⟨v102, ev102, hf⟩ := bnd_some hf
      refine aw_dS1 (As := [.long ((x3 : Int32).toInt64), .long 0, .long 9]) (rest := []) (pc_X1_in l G a ((x3 : Int32).toInt64) 0 9 s) hC hW hl.1 sy_X1_in (Or.inl q514) rfl rfl (Nat.le_of_ble_eq_true rfl) ⟨Nat.le_of_ble_eq_true rfl, Nat.le_of_ble_eq_true rfl⟩ ⟨Nat.le_of_ble_eq_true rfl, Nat.le_of_ble_eq_true rfl⟩ dX1_set_102 (fun H locs hW => ?_)
      refine top_i ev102 ?_
      refine lv_if_ne (tgt := 110) hx hb dX1_set_105 (by decide) (fun c105 => ?_) (fun c105 => ?_)
      · have hf := ifn c105 hf
        refine lv_aload_n hx hb dX1_set_110 rfl (lv_at hl 0 rfl) ?_
        obtain ⟨g111, hf⟩ := gd_some hf
        obtain ⟨q111, hq111, hf⟩ := bi_some hf
        refine aw_gR hC hW g111 fl_X1_11 rfl hq111 dX1_set_111 ?_
        refine lv_iload_n hx hb dX1_set_114 rfl (lv_at hl 2 rfl) ?_
        obtain ⟨g115, hf⟩ := gd_some hf
        obtain ⟨q115, hq115, hf⟩ := bi_some hf
        refine aw_aald (j := 0) hC hW (by decide) g115 hq115 dX1_set_115 ?_
        obtain ⟨g116, hf⟩ := gd_some hf
        refine aw_gI hC hW g116 fl_X1_214 rfl dX1_set_116 ?_
        obtain ⟨v119, ev119, hf⟩ := bnd_some hf
        refine top_i ev119 ?_
        refine lv_istore (lv' := [(4, .int v119), (0, .ref (a r0)), (1, .int x1), (2, .int x2), (3, .int x3)]) hx hb dX1_set_119 hl (by decide) rfl (fun ls hl => ?_)
        refine lv_aload_n hx hb dX1_set_121 rfl (lv_at hl 1 rfl) ?_
        obtain ⟨q122, hq122, hf⟩ := bi_some hf
        refine aw_gR hC hW g111 fl_X1_11 rfl hq122 dX1_set_122 ?_
        refine lv_iload_n hx hb dX1_set_125 rfl (lv_at hl 3 rfl) ?_
        obtain ⟨g126, hf⟩ := gd_some hf
        obtain ⟨q126, hq126, hf⟩ := bi_some hf
        refine aw_aald (j := 0) hC hW (by decide) g126 hq126 dX1_set_126 ?_
        refine lv_iload_n hx hb dX1_set_127 rfl (lv_at hl 4 rfl) ?_
        obtain ⟨g128, hf⟩ := gd_some hf
        obtain ⟨s128, e128, hf⟩ := bnd_some hf
        refine aw_pI e128 hC hW g128 fl_X1_214 (Or.inl fn_2_1) rfl rfl rfl dX1_set_128 (fun H locs hW => ?_)
        have g111 := ko_pI e128 g111
        have g116 := ko_pI e128 g116
        have g128 := ko_pI e128 g128
        refine lv_iload hx hb dX1_set_131 (lv_at hl 0 rfl) ?_
        obtain ⟨e1, e2⟩ := so_inj hf
        exact aw_iret hC hW hr rfl (p_eq hP (congrArg (fun z => some (Value.int z)) e1) e2) (Nat.le_of_ble_eq_true rfl) (Nat.le_of_ble_eq_true rfl) dX1_set_133
      · have hf := ifp c105 hf
        refine lv_iconst (v := (-1)) hx hb dX1_set_108 (by decide) ?_
        obtain ⟨e1, e2⟩ := so_inj hf
        exact aw_iret hC hW hr rfl (p_eq hP (congrArg (fun z => some (Value.int z)) e1) e2) (Nat.le_of_ble_eq_true rfl) (Nat.le_of_ble_eq_true rfl) dX1_set_109
  have B50 : ∀ (r0 : Nat) (x1 : Int32) (x2 : Int32) (x3 : Int32) (s : ST), f_X1_set_b50 r0 x1 x2 x3 s = some (rv, sf) → ∀ (H : Heap) (locs : List Loc) (ls : Array Slot), lv_has ls 5 [(0, .ref (a r0)), (1, .int x1), (2, .int x2), (3, .int x3)] → AW G a A s s0.heap H locs → WB p l e (rmD 2) s0 m args below meth c H locs G A P 50 ls [] := by
    intro r0 x1 x2 x3 s hf H locs ls hl hW
    unfold f_X1_set_b50 at hf
    refine lv_iload_n hx hb dX1_set_50 rfl (lv_at hl 1 rfl) ?_
    refine lv_iconst (v := 1) hx hb dX1_set_51 (by decide) ?_
    refine lv_icmp_ne (tgt := 91) hx hb dX1_set_52 (by decide) (fun c52 => ?_) (fun c52 => ?_)
    · have hf := ifn c52 hf
      exact B91 r0 x1 x2 x3 s hf _ _ _ (lv_sub hl [0, 1, 2, 3] rfl) hW
    · have hf := ifp c52 hf
      refine lv_iload_n hx hb dX1_set_55 rfl (lv_at hl 3 rfl) ?_
      refine lv_i2l (v := (x3 : Int32).toInt64) hx hb dX1_set_56 rfl ?_
      refine lv_lconst (v := 0) hx hb dX1_set_57 (by decide) ?_
      refine lv_ldc2 (v := 3) hx hb hC.2.2.2.1 (hts _ q858) dX1_set_58 ?_
      obtain ⟨v61, ev61, hf⟩ := bnd_some hf
      refine aw_dS1 (As := [.long ((x3 : Int32).toInt64), .long 0, .long 3]) (rest := []) (pc_X1_in l G a ((x3 : Int32).toInt64) 0 3 s) hC hW hl.1 sy_X1_in (Or.inl q514) rfl rfl (Nat.le_of_ble_eq_true rfl) ⟨Nat.le_of_ble_eq_true rfl, Nat.le_of_ble_eq_true rfl⟩ ⟨Nat.le_of_ble_eq_true rfl, Nat.le_of_ble_eq_true rfl⟩ dX1_set_61 (fun H locs hW => ?_)
      refine top_i ev61 ?_
      refine lv_if_eq (tgt := 91) hx hb dX1_set_64 (by decide) (fun c64 => ?_) (fun c64 => ?_)
      · have hf := ifp c64 hf
        exact B91 r0 x1 x2 x3 s hf _ _ _ (lv_sub hl [0, 1, 2, 3] rfl) hW
      · have hf := ifn c64 hf
        refine lv_aload_n hx hb dX1_set_67 rfl (lv_at hl 0 rfl) ?_
        obtain ⟨g68, hf⟩ := gd_some hf
        obtain ⟨q68, hq68, hf⟩ := bi_some hf
        refine aw_gR hC hW g68 fl_X1_11 rfl hq68 dX1_set_68 ?_
        refine lv_iload_n hx hb dX1_set_71 rfl (lv_at hl 2 rfl) ?_
        obtain ⟨g72, hf⟩ := gd_some hf
        obtain ⟨q72, hq72, hf⟩ := bi_some hf
        refine aw_aald (j := 0) hC hW (by decide) g72 hq72 dX1_set_72 ?_
        obtain ⟨g73, hf⟩ := gd_some hf
        refine aw_gI hC hW g73 fl_X1_211 rfl dX1_set_73 ?_
        obtain ⟨v76, ev76, hf⟩ := bnd_some hf
        refine top_i ev76 ?_
        refine lv_istore (lv' := [(4, .int v76), (0, .ref (a r0)), (1, .int x1), (2, .int x2), (3, .int x3)]) hx hb dX1_set_76 hl (by decide) rfl (fun ls hl => ?_)
        refine lv_aload_n hx hb dX1_set_78 rfl (lv_at hl 1 rfl) ?_
        obtain ⟨q79, hq79, hf⟩ := bi_some hf
        refine aw_gR hC hW g68 fl_X1_11 rfl hq79 dX1_set_79 ?_
        refine lv_iload_n hx hb dX1_set_82 rfl (lv_at hl 3 rfl) ?_
        obtain ⟨g83, hf⟩ := gd_some hf
        obtain ⟨q83, hq83, hf⟩ := bi_some hf
        refine aw_aald (j := 0) hC hW (by decide) g83 hq83 dX1_set_83 ?_
        refine lv_iload_n hx hb dX1_set_84 rfl (lv_at hl 4 rfl) ?_
        obtain ⟨g85, hf⟩ := gd_some hf
        obtain ⟨s85, e85, hf⟩ := bnd_some hf
        refine aw_pI e85 hC hW g85 fl_X1_211 (Or.inl fn_2_0) rfl rfl rfl dX1_set_85 (fun H locs hW => ?_)
        have g68 := ko_pI e85 g68
        have g73 := ko_pI e85 g73
        have g85 := ko_pI e85 g85
        refine lv_iload hx hb dX1_set_88 (lv_at hl 0 rfl) ?_
        obtain ⟨e1, e2⟩ := so_inj hf
        exact aw_iret hC hW hr rfl (p_eq hP (congrArg (fun z => some (Value.int z)) e1) e2) (Nat.le_of_ble_eq_true rfl) (Nat.le_of_ble_eq_true rfl) dX1_set_90
  unfold f_X1_set at hf
  refine lv_aload_n hx hb dX1_set_0 rfl (lv_at hl 0 rfl) ?_
  refine lv_iload_n hx hb dX1_set_1 rfl (lv_at hl 2 rfl) ?_
  obtain ⟨g2, hf⟩ := gd_some hf
  obtain ⟨v2, s2, h2, hf⟩ := ob_some hf
  refine aw_dV1 (r := o) (As := [.int x2]) (rest := []) (ct_X1_isOne l G a o x2 s v2 s2 h2) hC hW hl.1 vy_X1_isOne (Or.inl q848) g2 rfl rfl rfl rfl (Nat.le_of_ble_eq_true rfl) ⟨Nat.le_of_ble_eq_true rfl, Nat.le_of_ble_eq_true rfl⟩ ⟨Nat.le_of_ble_eq_true rfl, Nat.le_of_ble_eq_true rfl⟩ dX1_set_2 (fun H locs hW => ?_)
  refine lv_if_ne (tgt := 10) hx hb dX1_set_5 (by decide) (fun c5 => ?_) (fun c5 => ?_)
  · have hf := ifn c5 hf
    refine lv_iload_n hx hb dX1_set_10 rfl (lv_at hl 1 rfl) ?_
    refine lv_if_ne (tgt := 50) hx hb dX1_set_11 (by decide) (fun c11 => ?_) (fun c11 => ?_)
    · have hf := ifn c11 hf
      exact B50 o x1 x2 x3 s2 hf _ _ _ (lv_sub hl [0, 1, 2, 3] rfl) hW
    · have hf := ifp c11 hf
      refine lv_iload_n hx hb dX1_set_14 rfl (lv_at hl 3 rfl) ?_
      refine lv_i2l (v := (x3 : Int32).toInt64) hx hb dX1_set_15 rfl ?_
      refine lv_lconst (v := 1) hx hb dX1_set_16 (by decide) ?_
      refine lv_ldc2 (v := 999) hx hb hC.2.2.2.1 (hts _ q857) dX1_set_17 ?_
      obtain ⟨v20, ev20, hf⟩ := bnd_some hf
      refine aw_dS1 (As := [.long ((x3 : Int32).toInt64), .long 1, .long 999]) (rest := []) (pc_X1_in l G a ((x3 : Int32).toInt64) 1 999 s2) hC hW hl.1 sy_X1_in (Or.inl q514) rfl rfl (Nat.le_of_ble_eq_true rfl) ⟨Nat.le_of_ble_eq_true rfl, Nat.le_of_ble_eq_true rfl⟩ ⟨Nat.le_of_ble_eq_true rfl, Nat.le_of_ble_eq_true rfl⟩ dX1_set_20 (fun H locs hW => ?_)
      refine top_i ev20 ?_
      refine lv_if_eq (tgt := 50) hx hb dX1_set_23 (by decide) (fun c23 => ?_) (fun c23 => ?_)
      · have hf := ifp c23 hf
        exact B50 o x1 x2 x3 s2 hf _ _ _ (lv_sub hl [0, 1, 2, 3] rfl) hW
      · have hf := ifn c23 hf
        refine lv_aload_n hx hb dX1_set_26 rfl (lv_at hl 0 rfl) ?_
        obtain ⟨g27, hf⟩ := gd_some hf
        obtain ⟨q27, hq27, hf⟩ := bi_some hf
        refine aw_gR hC hW g27 fl_X1_18 rfl hq27 dX1_set_27 ?_
        obtain ⟨g30, hf⟩ := gd_some hf
        obtain ⟨q30, hq30, hf⟩ := bi_some hf
        refine aw_gR hC hW g30 fl_X1_236 rfl hq30 dX1_set_30 ?_
        refine lv_iload_n hx hb dX1_set_33 rfl (lv_at hl 2 rfl) ?_
        obtain ⟨g34, hf⟩ := gd_some hf
        refine aw_iald hC hW g34 dX1_set_34 ?_
        obtain ⟨v35, ev35, hf⟩ := bnd_some hf
        refine top_i ev35 ?_
        refine lv_istore (lv' := [(4, .int v35), (0, .ref (a o)), (1, .int x1), (2, .int x2), (3, .int x3)]) hx hb dX1_set_35 hl (by decide) rfl (fun ls hl => ?_)
        refine lv_aload_n hx hb dX1_set_37 rfl (lv_at hl 1 rfl) ?_
        obtain ⟨q38, hq38, hf⟩ := bi_some hf
        refine aw_gR hC hW g27 fl_X1_18 rfl hq38 dX1_set_38 ?_
        obtain ⟨g41, hf⟩ := gd_some hf
        obtain ⟨q41, hq41, hf⟩ := bi_some hf
        refine aw_gR hC hW g41 fl_X1_236 rfl hq41 dX1_set_41 ?_
        refine lv_iload_n hx hb dX1_set_44 rfl (lv_at hl 3 rfl) ?_
        refine lv_iload_n hx hb dX1_set_45 rfl (lv_at hl 4 rfl) ?_
        obtain ⟨g46, hf⟩ := gd_some hf
        obtain ⟨s46, e46, hf⟩ := bnd_some hf
        refine aw_iast e46 hC hW g46 dX1_set_46 (fun H locs hW => ?_)
        have g27 := ko_pI e46 g27
        have g30 := ko_pI e46 g30
        have g41 := ko_pI e46 g41
        refine lv_iload hx hb dX1_set_47 (lv_at hl 0 rfl) ?_
        obtain ⟨e1, e2⟩ := so_inj hf
        exact aw_iret hC hW hr rfl (p_eq hP (congrArg (fun z => some (Value.int z)) e1) e2) (Nat.le_of_ble_eq_true rfl) (Nat.le_of_ble_eq_true rfl) dX1_set_49
  · have hf := ifp c5 hf
    refine lv_iconst (v := (-1)) hx hb dX1_set_8 (by decide) ?_
    obtain ⟨e1, e2⟩ := so_inj hf
    exact aw_iret hC hW hr rfl (p_eq hP (congrArg (fun z => some (Value.int z)) e1) e2) (Nat.le_of_ble_eq_true rfl) (Nat.le_of_ble_eq_true rfl) dX1_set_9
def f_X1_sign_b16 : Nat → Nat → Int32 → Int32 → ST → Option (Int32 × ST)
  | 0, _, _, _, _ => none
  | n + 1, r0, x1, x2, s =>
  if x2 < 0 then (gd (r0 < s.1 ∧ (kd s r0).1 = 1) <|
  some ((gi s r0 10), s)) else gd (r0 < s.1 ∧ (kd s r0).1 = 1) <|
  (gr s r0 9).bind fun q21 =>
  gd (q21 < s.1 ∧ (kd s q21).1 = 101 ∧ ¬ (((gi s r0 10) : Int32) < 0 ∨ (kd s q21).2 ≤ ((gi s r0 10) : Int32).toNatClampNeg)) <|
  bnd (pI s q21 ((gi s r0 10) : Int32).toNatClampNeg (vp_nar .byte (((x1 >>> (x2 &&& 31)) : Int32).toInt8.toInt32))) fun s32 =>
  bnd (pI s32 r0 10 ((gi s32 r0 10) + 1)) fun s40 =>
  bnd (x2 + (-8) : Int32) fun v43 =>
  f_X1_sign_b16 n r0 x1 v43 s40
def f_X1_sign (o : Nat) (x1 : Int32) (s : ST) : Option (Int32 × ST) :=
  gd (o < s.1 ∧ (kd s o).1 = 1) <|
  if ((gi s o 10) + 4) ≤ 80 then (f_X1_sign_b16 fuel o x1 24 s) else some ((-1), s)
set_option maxHeartbeats 4000000 in
theorem ct_X1_sign (l : Launch) (G : GM) (a : Nat → Nat) (o : Nat) (x1 : Int32) (s : ST) (rv : Int32) (sf : ST) (hf : f_X1_sign o x1 s = some (rv, sf)) : MD l G yX1_sign (ws_ yX1_sign cX1_sign 3 (some .int)) 0 [.ref (a o), .int x1] a s (some (.int rv)) sf := by
  refine md_of (d := 0) (lv := [(0, .ref (a o)), (1, .int x1)]) (Or.inl (by decide)) (Nat.le_of_ble_eq_true rfl) rfl ?_
  intro p e s0 m args below meth c ls A P hP hC hr hnm hW hl
  have hx := hC.1
  have hb := hC.2.1
  have hts := hC.2.2.2.2.1
  have B16 : ∀ (n : Nat), ∀ (r0 : Nat) (x1 : Int32) (x2 : Int32) (s : ST), f_X1_sign_b16 n r0 x1 x2 s = some (rv, sf) → ∀ (H : Heap) (locs : List Loc) (ls : Array Slot), lv_has ls 3 [(0, .ref (a r0)), (1, .int x1), (2, .int x2)] → AW G a A s s0.heap H locs → WB p l e (rmD 0) s0 m args below meth c H locs G A P 16 ls [] := by
    intro n
    induction n with
    | zero => intro r0 x1 x2 s hf; cases hf
    | succ n ih =>
      intro r0 x1 x2 s hf H locs ls hl hW
      rw [f_X1_sign_b16] at hf
      refine lv_iload_n hx hb dX1_sign_16 rfl (lv_at hl 2 rfl) ?_
      refine lv_if_lt (tgt := 49) hx hb dX1_sign_17 (by decide) (fun c17 => ?_) (fun c17 => ?_)
      · have hf := ifp c17 hf
        refine lv_aload_n hx hb dX1_sign_49 rfl (lv_at hl 0 rfl) ?_
        obtain ⟨g50, hf⟩ := gd_some hf
        refine aw_gI hC hW g50 fl_X1_186 rfl dX1_sign_50 ?_
        obtain ⟨e1, e2⟩ := so_inj hf
        exact aw_iret hC hW hr rfl (p_eq hP (congrArg (fun z => some (Value.int z)) e1) e2) (Nat.le_of_ble_eq_true rfl) (Nat.le_of_ble_eq_true rfl) dX1_sign_53
      · have hf := ifn c17 hf
        refine lv_aload_n hx hb dX1_sign_20 rfl (lv_at hl 0 rfl) ?_
        obtain ⟨g21, hf⟩ := gd_some hf
        obtain ⟨q21, hq21, hf⟩ := bi_some hf
        refine aw_gR hC hW g21 fl_X1_33 rfl hq21 dX1_sign_21 ?_
        refine lv_aload_n hx hb dX1_sign_24 rfl (lv_at hl 0 rfl) ?_
        refine aw_gI hC hW g21 fl_X1_186 rfl dX1_sign_25 ?_
        refine lv_iload_n hx hb dX1_sign_28 rfl (lv_at hl 1 rfl) ?_
        refine lv_iload_n hx hb dX1_sign_29 rfl (lv_at hl 2 rfl) ?_
        refine lv_ishr hx hb dX1_sign_30 ?_
        refine lv_i2b (v := ((x1 >>> (x2 &&& 31)) : Int32).toInt8.toInt32) hx hb dX1_sign_31 rfl ?_
        obtain ⟨g32, hf⟩ := gd_some hf
        obtain ⟨s32, e32, hf⟩ := bnd_some hf
        refine aw_bast e32 hC hW g32 dX1_sign_32 (fun H locs hW => ?_)
        have g21 := ko_pI e32 g21
        refine lv_aload_n hx hb dX1_sign_33 rfl (lv_at hl 0 rfl) ?_
        refine lv_dup hx hb dX1_sign_34 rfl ?_
        refine aw_gI hC hW g21 fl_X1_186 rfl dX1_sign_35 ?_
        refine lv_iconst (v := 1) hx hb dX1_sign_38 (by decide) ?_
        refine lv_iadd hx hb dX1_sign_39 ?_
        obtain ⟨s40, e40, hf⟩ := bnd_some hf
        refine aw_pI e40 hC hW g21 fl_X1_186 (Or.inl fn_0_10) rfl rfl rfl dX1_sign_40 (fun H locs hW => ?_)
        have g21 := ko_pI e40 g21
        obtain ⟨v43, ev43, hf⟩ := bnd_some hf
        refine lv_iinc (v := v43) (lv' := [(2, .int v43), (0, .ref (a r0)), (1, .int x1)]) hx hb dX1_sign_43 hl (k := 2) rfl (by rw [ev43]; rfl) (by decide) rfl (fun ls hl => ?_)
        refine lv_goto (tgt := 16) hx hb dX1_sign_46 (by decide) ?_
        exact ih r0 x1 v43 s40 hf _ _ _ (lv_sub hl [1, 2, 0] rfl) hW
  unfold f_X1_sign at hf
  refine lv_aload_n hx hb dX1_sign_0 rfl (lv_at hl 0 rfl) ?_
  obtain ⟨g1, hf⟩ := gd_some hf
  refine aw_gI hC hW g1 fl_X1_186 rfl dX1_sign_1 ?_
  refine lv_iconst (v := 4) hx hb dX1_sign_4 (by decide) ?_
  refine lv_iadd hx hb dX1_sign_5 ?_
  refine lv_bipush (v := 80) hx hb dX1_sign_6 (by decide) ?_
  refine lv_icmp_le (tgt := 13) hx hb dX1_sign_8 (by decide) (fun c8 => ?_) (fun c8 => ?_)
  · have hf := ifp c8 hf
    refine lv_bipush (v := 24) hx hb dX1_sign_13 (by decide) ?_
    refine lv_istore_n (lv' := [(2, .int 24), (0, .ref (a o)), (1, .int x1)]) hx hb dX1_sign_15 rfl hl (by decide) rfl (fun ls hl => ?_)
    exact B16 fuel o x1 24 s hf _ _ _ (lv_sub hl [1, 2, 0] rfl) hW
  · have hf := ifn c8 hf
    refine lv_iconst (v := (-1)) hx hb dX1_sign_11 (by decide) ?_
    obtain ⟨e1, e2⟩ := so_inj hf
    exact aw_iret hC hW hr rfl (p_eq hP (congrArg (fun z => some (Value.int z)) e1) e2) (Nat.le_of_ble_eq_true rfl) (Nat.le_of_ble_eq_true rfl) dX1_sign_12
def f_X1_span_b59 (K20 : Nat → Int32 → Int32 → Int32 → Int32 → Int32 → ST → Option (Int32 × ST)) (r0 : Nat) (x1 : Int32) (x2 : Int32) (x3 : Int32) (x4 : Int32) (x5 : Int32) (s : ST) : Option (Int32 × ST) :=
  bnd (x5 + 1 : Int32) fun v59 =>
  K20 r0 x1 x2 x3 x4 v59 s
def f_X1_span_b51 (K20 : Nat → Int32 → Int32 → Int32 → Int32 → Int32 → ST → Option (Int32 × ST)) (r0 : Nat) (x1 : Int32) (x2 : Int32) (x5 : Int32) (t0 : Int32) (s : ST) : Option (Int32 × ST) :=
  bnd (x2 + 1 : Int32) fun v56 =>
  f_X1_span_b59 K20 r0 x1 v56 t0 x5 x5 s
def f_X1_span_b20 : Nat → Nat → Int32 → Int32 → Int32 → Int32 → Int32 → ST → Option (Int32 × ST)
  | 0, _, _, _, _, _, _, _ => none
  | n + 1, r0, x1, x2, x3, x4, x5, s =>
  if 999 < x5 then (gd (r0 < s.1 ∧ (kd s r0).1 = 1) <|
  bnd (pI s r0 12 0) fun s67 =>
  if x2 ≤ 0 then (some (x2, s67)) else ob (f_X1_tell r0 ((x3 : Int32).toInt64) s67) fun _ s77 =>
  gd (r0 < s77.1 ∧ (kd s77 r0).1 = 1) <|
  ob (f_X1_tell r0 ((x4 : Int32).toInt64) s77) fun _ s84 =>
  some (x2, s84)) else gd (r0 < s.1 ∧ (kd s r0).1 = 1) <|
  ob (f_X1_isShown r0 x1 x5 s) fun v32 s32 =>
  if v32 = 0 then (f_X1_span_b59 (f_X1_span_b20 n) r0 x1 x2 x3 x4 x5 s32) else if x2 = 0 then (f_X1_span_b51 (f_X1_span_b20 n) r0 x1 x2 x5 x5 s32) else f_X1_span_b51 (f_X1_span_b20 n) r0 x1 x2 x5 x3 s32
def f_X1_span (o : Nat) (x1 : Int32) (s : ST) : Option (Int32 × ST) :=
  gd (o < s.1 ∧ (kd s o).1 = 1) <|
  ob (f_X1_isOne o x1 s) fun v2 s2 =>
  if v2 = 0 then (some ((-1), s2)) else f_X1_span_b20 fuel o x1 0 0 0 1 s2
set_option maxHeartbeats 4000000 in
theorem ct_X1_span (l : Launch) (G : GM) (a : Nat → Nat) (o : Nat) (x1 : Int32) (s : ST) (rv : Int32) (sf : ST) (hf : f_X1_span o x1 s = some (rv, sf)) : MD l G yX1_span (ws_ yX1_span cX1_span 6 (some .int)) 3 [.ref (a o), .int x1] a s (some (.int rv)) sf := by
  refine md_of (d := 3) (lv := [(0, .ref (a o)), (1, .int x1)]) (Or.inl (by decide)) (Nat.le_of_ble_eq_true rfl) rfl ?_
  intro p e s0 m args below meth c ls A P hP hC hr hnm hW hl
  have hx := hC.1
  have hb := hC.2.1
  have hts := hC.2.2.2.2.1
  have B59 : ∀ (K20 : Nat → Int32 → Int32 → Int32 → Int32 → Int32 → ST → Option (Int32 × ST)) (hK20 : ∀ (r0 : Nat) (x1 : Int32) (x2 : Int32) (x3 : Int32) (x4 : Int32) (x5 : Int32) (s : ST), K20 r0 x1 x2 x3 x4 x5 s = some (rv, sf) → ∀ (H : Heap) (locs : List Loc) (ls : Array Slot), lv_has ls 6 [(0, .ref (a r0)), (1, .int x1), (2, .int x2), (3, .int x3), (4, .int x4), (5, .int x5)] → AW G a A s s0.heap H locs → WB p l e (rmD 3) s0 m args below meth c H locs G A P 20 ls []), ∀ (r0 : Nat) (x1 : Int32) (x2 : Int32) (x3 : Int32) (x4 : Int32) (x5 : Int32) (s : ST), f_X1_span_b59 K20 r0 x1 x2 x3 x4 x5 s = some (rv, sf) → ∀ (H : Heap) (locs : List Loc) (ls : Array Slot), lv_has ls 6 [(0, .ref (a r0)), (1, .int x1), (2, .int x2), (3, .int x3), (4, .int x4), (5, .int x5)] → AW G a A s s0.heap H locs → WB p l e (rmD 3) s0 m args below meth c H locs G A P 59 ls [] := by
    intro K20 hK20 r0 x1 x2 x3 x4 x5 s hf H locs ls hl hW
    unfold f_X1_span_b59 at hf
    obtain ⟨v59, ev59, hf⟩ := bnd_some hf
    refine lv_iinc (v := v59) (lv' := [(5, .int v59), (0, .ref (a r0)), (1, .int x1), (2, .int x2), (3, .int x3), (4, .int x4)]) hx hb dX1_span_59 hl (k := 5) rfl (by rw [ev59]; rfl) (by decide) rfl (fun ls hl => ?_)
    refine lv_goto (tgt := 20) hx hb dX1_span_62 (by decide) ?_
    exact hK20 r0 x1 x2 x3 x4 v59 s hf _ _ _ (lv_sub hl [1, 2, 3, 4, 5, 0] rfl) hW
  have B51 : ∀ (K20 : Nat → Int32 → Int32 → Int32 → Int32 → Int32 → ST → Option (Int32 × ST)) (hK20 : ∀ (r0 : Nat) (x1 : Int32) (x2 : Int32) (x3 : Int32) (x4 : Int32) (x5 : Int32) (s : ST), K20 r0 x1 x2 x3 x4 x5 s = some (rv, sf) → ∀ (H : Heap) (locs : List Loc) (ls : Array Slot), lv_has ls 6 [(0, .ref (a r0)), (1, .int x1), (2, .int x2), (3, .int x3), (4, .int x4), (5, .int x5)] → AW G a A s s0.heap H locs → WB p l e (rmD 3) s0 m args below meth c H locs G A P 20 ls []), ∀ (r0 : Nat) (x1 : Int32) (x2 : Int32) (x5 : Int32) (t0 : Int32) (s : ST), f_X1_span_b51 K20 r0 x1 x2 x5 t0 s = some (rv, sf) → ∀ (H : Heap) (locs : List Loc) (ls : Array Slot), lv_has ls 6 [(0, .ref (a r0)), (1, .int x1), (2, .int x2), (5, .int x5)] → AW G a A s s0.heap H locs → WB p l e (rmD 3) s0 m args below meth c H locs G A P 51 ls [.int t0] := by
    intro K20 hK20 r0 x1 x2 x5 t0 s hf H locs ls hl hW
    unfold f_X1_span_b51 at hf
    refine lv_istore_n (lv' := [(3, .int t0), (0, .ref (a r0)), (1, .int x1), (2, .int x2), (5, .int x5)]) hx hb dX1_span_51 rfl hl (by decide) rfl (fun ls hl => ?_)
    refine lv_iload hx hb dX1_span_52 (lv_at hl 4 rfl) ?_
    refine lv_istore (lv' := [(4, .int x5), (3, .int t0), (0, .ref (a r0)), (1, .int x1), (2, .int x2), (5, .int x5)]) hx hb dX1_span_54 hl (by decide) rfl (fun ls hl => ?_)
    obtain ⟨v56, ev56, hf⟩ := bnd_some hf
    refine lv_iinc (v := v56) (lv' := [(2, .int v56), (4, .int x5), (3, .int t0), (0, .ref (a r0)), (1, .int x1), (5, .int x5)]) hx hb dX1_span_56 hl (k := 4) rfl (by rw [ev56]; rfl) (by decide) rfl (fun ls hl => ?_)
    exact B59 K20 hK20 r0 x1 v56 t0 x5 x5 s hf _ _ _ (lv_sub hl [3, 4, 0, 2, 1, 5] rfl) hW
  have B20 : ∀ (n : Nat), ∀ (r0 : Nat) (x1 : Int32) (x2 : Int32) (x3 : Int32) (x4 : Int32) (x5 : Int32) (s : ST), f_X1_span_b20 n r0 x1 x2 x3 x4 x5 s = some (rv, sf) → ∀ (H : Heap) (locs : List Loc) (ls : Array Slot), lv_has ls 6 [(0, .ref (a r0)), (1, .int x1), (2, .int x2), (3, .int x3), (4, .int x4), (5, .int x5)] → AW G a A s s0.heap H locs → WB p l e (rmD 3) s0 m args below meth c H locs G A P 20 ls [] := by
    intro n
    induction n with
    | zero => intro r0 x1 x2 x3 x4 x5 s hf; cases hf
    | succ n ih =>
      intro r0 x1 x2 x3 x4 x5 s hf H locs ls hl hW
      rw [f_X1_span_b20] at hf
      refine lv_iload hx hb dX1_span_20 (lv_at hl 5 rfl) ?_
      refine lv_sipush (v := 999) hx hb dX1_span_22 (by decide) ?_
      refine lv_icmp_gt (tgt := 65) hx hb dX1_span_25 (by decide) (fun c25 => ?_) (fun c25 => ?_)
      · have hf := ifp c25 hf
        refine lv_aload_n hx hb dX1_span_65 rfl (lv_at hl 0 rfl) ?_
        refine lv_iconst (v := 0) hx hb dX1_span_66 (by decide) ?_
        obtain ⟨g67, hf⟩ := gd_some hf
        obtain ⟨s67, e67, hf⟩ := bnd_some hf
        refine aw_pI e67 hC hW g67 fl_X1_154 (Or.inl fn_0_12) rfl rfl rfl dX1_span_67 (fun H locs hW => ?_)
        have g67 := ko_pI e67 g67
        refine lv_iload_n hx hb dX1_span_70 rfl (lv_at hl 2 rfl) ?_
        refine lv_if_le (tgt := 87) hx hb dX1_span_71 (by decide) (fun c71 => ?_) (fun c71 => ?_)
        · have hf := ifp c71 hf
          refine lv_iload_n hx hb dX1_span_87 rfl (lv_at hl 2 rfl) ?_
          obtain ⟨e1, e2⟩ := so_inj hf
          exact aw_iret hC hW hr rfl (p_eq hP (congrArg (fun z => some (Value.int z)) e1) e2) (Nat.le_of_ble_eq_true rfl) (Nat.le_of_ble_eq_true rfl) dX1_span_88
        · have hf := ifn c71 hf
          refine lv_aload_n hx hb dX1_span_74 rfl (lv_at hl 0 rfl) ?_
          refine lv_iload_n hx hb dX1_span_75 rfl (lv_at hl 3 rfl) ?_
          refine lv_i2l (v := (x3 : Int32).toInt64) hx hb dX1_span_76 rfl ?_
          obtain ⟨_, s77, h77, hf⟩ := ob_some hf
          refine aw_dV0 (r := r0) (As := [.long ((x3 : Int32).toInt64)]) (rest := []) (ct_X1_tell l G a r0 ((x3 : Int32).toInt64) s67 () s77 h77) hC hW hl.1 vy_X1_tell (Or.inl q1013) g67 rfl rfl rfl rfl (Nat.le_of_ble_eq_true rfl) ⟨Nat.le_of_ble_eq_true rfl, Nat.le_of_ble_eq_true rfl⟩ ⟨Nat.le_of_ble_eq_true rfl, Nat.le_of_ble_eq_true rfl⟩ dX1_span_77 (fun H locs hW => ?_)
          refine lv_aload_n hx hb dX1_span_80 rfl (lv_at hl 0 rfl) ?_
          refine lv_iload hx hb dX1_span_81 (lv_at hl 4 rfl) ?_
          refine lv_i2l (v := (x4 : Int32).toInt64) hx hb dX1_span_83 rfl ?_
          obtain ⟨g84, hf⟩ := gd_some hf
          obtain ⟨_, s84, h84, hf⟩ := ob_some hf
          refine aw_dV0 (r := r0) (As := [.long ((x4 : Int32).toInt64)]) (rest := []) (ct_X1_tell l G a r0 ((x4 : Int32).toInt64) s77 () s84 h84) hC hW hl.1 vy_X1_tell (Or.inl q1013) g84 rfl rfl rfl rfl (Nat.le_of_ble_eq_true rfl) ⟨Nat.le_of_ble_eq_true rfl, Nat.le_of_ble_eq_true rfl⟩ ⟨Nat.le_of_ble_eq_true rfl, Nat.le_of_ble_eq_true rfl⟩ dX1_span_84 (fun H locs hW => ?_)
          refine lv_iload_n hx hb dX1_span_87 rfl (lv_at hl 2 rfl) ?_
          obtain ⟨e1, e2⟩ := so_inj hf
          exact aw_iret hC hW hr rfl (p_eq hP (congrArg (fun z => some (Value.int z)) e1) e2) (Nat.le_of_ble_eq_true rfl) (Nat.le_of_ble_eq_true rfl) dX1_span_88
      · have hf := ifn c25 hf
        refine lv_aload_n hx hb dX1_span_28 rfl (lv_at hl 0 rfl) ?_
        refine lv_iload_n hx hb dX1_span_29 rfl (lv_at hl 1 rfl) ?_
        refine lv_iload hx hb dX1_span_30 (lv_at hl 5 rfl) ?_
        obtain ⟨g32, hf⟩ := gd_some hf
        obtain ⟨v32, s32, h32, hf⟩ := ob_some hf
        refine aw_dV1 (r := r0) (As := [.int x1, .int x5]) (rest := []) (ct_X1_isShown l G a r0 x1 x5 s v32 s32 h32) hC hW hl.1 vy_X1_isShown (Or.inl q1194) g32 rfl rfl rfl rfl (Nat.le_of_ble_eq_true rfl) ⟨Nat.le_of_ble_eq_true rfl, Nat.le_of_ble_eq_true rfl⟩ ⟨Nat.le_of_ble_eq_true rfl, Nat.le_of_ble_eq_true rfl⟩ dX1_span_32 (fun H locs hW => ?_)
        refine lv_if_ne (tgt := 41) hx hb dX1_span_35 (by decide) (fun c35 => ?_) (fun c35 => ?_)
        · have hf := ifn c35 hf
          refine lv_iload_n hx hb dX1_span_41 rfl (lv_at hl 2 rfl) ?_
          refine lv_if_ne (tgt := 50) hx hb dX1_span_42 (by decide) (fun c42 => ?_) (fun c42 => ?_)
          · have hf := ifn c42 hf
            refine lv_iload_n hx hb dX1_span_50 rfl (lv_at hl 3 rfl) ?_
            exact B51 (f_X1_span_b20 n) ih r0 x1 x2 x5 x3 s32 hf _ _ _ (lv_sub hl [0, 1, 2, 5] rfl) hW
          · have hf := ifp c42 hf
            refine lv_iload hx hb dX1_span_45 (lv_at hl 5 rfl) ?_
            refine lv_goto (tgt := 51) hx hb dX1_span_47 (by decide) ?_
            exact B51 (f_X1_span_b20 n) ih r0 x1 x2 x5 x5 s32 hf _ _ _ (lv_sub hl [0, 1, 2, 5] rfl) hW
        · have hf := ifp c35 hf
          refine lv_goto (tgt := 59) hx hb dX1_span_38 (by decide) ?_
          exact B59 (f_X1_span_b20 n) ih r0 x1 x2 x3 x4 x5 s32 hf _ _ _ (lv_sub hl [0, 1, 2, 3, 4, 5] rfl) hW
  unfold f_X1_span at hf
  refine lv_aload_n hx hb dX1_span_0 rfl (lv_at hl 0 rfl) ?_
  refine lv_iload_n hx hb dX1_span_1 rfl (lv_at hl 1 rfl) ?_
  obtain ⟨g2, hf⟩ := gd_some hf
  obtain ⟨v2, s2, h2, hf⟩ := ob_some hf
  refine aw_dV1 (r := o) (As := [.int x1]) (rest := []) (ct_X1_isOne l G a o x1 s v2 s2 h2) hC hW hl.1 vy_X1_isOne (Or.inl q848) g2 rfl rfl rfl rfl (Nat.le_of_ble_eq_true rfl) ⟨Nat.le_of_ble_eq_true rfl, Nat.le_of_ble_eq_true rfl⟩ ⟨Nat.le_of_ble_eq_true rfl, Nat.le_of_ble_eq_true rfl⟩ dX1_span_2 (fun H locs hW => ?_)
  refine lv_if_ne (tgt := 10) hx hb dX1_span_5 (by decide) (fun c5 => ?_) (fun c5 => ?_)
  · have hf := ifn c5 hf
    refine lv_iconst (v := 0) hx hb dX1_span_10 (by decide) ?_
    refine lv_istore_n (lv' := [(2, .int 0), (0, .ref (a o)), (1, .int x1)]) hx hb dX1_span_11 rfl hl (by decide) rfl (fun ls hl => ?_)
    refine lv_iconst (v := 0) hx hb dX1_span_12 (by decide) ?_
    refine lv_istore_n (lv' := [(3, .int 0), (2, .int 0), (0, .ref (a o)), (1, .int x1)]) hx hb dX1_span_13 rfl hl (by decide) rfl (fun ls hl => ?_)
    refine lv_iconst (v := 0) hx hb dX1_span_14 (by decide) ?_
    refine lv_istore (lv' := [(4, .int 0), (3, .int 0), (2, .int 0), (0, .ref (a o)), (1, .int x1)]) hx hb dX1_span_15 hl (by decide) rfl (fun ls hl => ?_)
    refine lv_iconst (v := 1) hx hb dX1_span_17 (by decide) ?_
    refine lv_istore (lv' := [(5, .int 1), (4, .int 0), (3, .int 0), (2, .int 0), (0, .ref (a o)), (1, .int x1)]) hx hb dX1_span_18 hl (by decide) rfl (fun ls hl => ?_)
    exact B20 fuel o x1 0 0 0 1 s2 hf _ _ _ (lv_sub hl [4, 5, 3, 2, 1, 0] rfl) hW
  · have hf := ifp c5 hf
    refine lv_iconst (v := (-1)) hx hb dX1_span_8 (by decide) ?_
    obtain ⟨e1, e2⟩ := so_inj hf
    exact aw_iret hC hW hr rfl (p_eq hP (congrArg (fun z => some (Value.int z)) e1) e2) (Nat.le_of_ble_eq_true rfl) (Nat.le_of_ble_eq_true rfl) dX1_span_9
def f_X1_told (o : Nat) (x1 : Int32) (x2 : Int32) (s : ST) : Option (Int32 × ST) :=
  gd (o < s.1 ∧ (kd s o).1 = 1) <|
  ob (f_X1_isOne o x1 s) fun v2 s2 =>
  if v2 = 0 then (some ((-1), s2)) else bnd (p_in ((x2 : Int32).toInt64) 1 60) fun v14 =>
  if v14 = 0 then (some ((-1), s2)) else gd (o < s2.1 ∧ (kd s2 o).1 = 1) <|
  if (gi s2 o 35) = 10 then (some ((-1), s2)) else (gr s2 o 33).bind fun q32 =>
  gd (q32 < s2.1 ∧ (kd s2 q32).1 = 100 ∧ ¬ (((gi s2 o 35) : Int32) < 0 ∨ (kd s2 q32).2 ≤ ((gi s2 o 35) : Int32).toNatClampNeg)) <|
  bnd (pI s2 q32 ((gi s2 o 35) : Int32).toNatClampNeg x1) fun s40 =>
  (gr s40 o 34).bind fun q42 =>
  gd (q42 < s40.1 ∧ (kd s40 q42).1 = 100 ∧ ¬ (((gi s40 o 35) : Int32) < 0 ∨ (kd s40 q42).2 ≤ ((gi s40 o 35) : Int32).toNatClampNeg)) <|
  bnd (pI s40 q42 ((gi s40 o 35) : Int32).toNatClampNeg x2) fun s50 =>
  bnd (pI s50 o 35 ((gi s50 o 35) + 1)) fun s58 =>
  some ((gi s58 o 35), s58)
set_option maxHeartbeats 4000000 in
theorem ct_X1_told (l : Launch) (G : GM) (a : Nat → Nat) (o : Nat) (x1 : Int32) (x2 : Int32) (s : ST) (rv : Int32) (sf : ST) (hf : f_X1_told o x1 x2 s = some (rv, sf)) : MD l G yX1_told (ws_ yX1_told cX1_told 3 (some .int)) 2 [.ref (a o), .int x1, .int x2] a s (some (.int rv)) sf := by
  refine md_of (d := 2) (lv := [(0, .ref (a o)), (1, .int x1), (2, .int x2)]) (Or.inl (by decide)) (Nat.le_of_ble_eq_true rfl) rfl ?_
  intro p e s0 m args below meth c ls A P hP hC hr hnm hW hl
  have hx := hC.1
  have hb := hC.2.1
  have hts := hC.2.2.2.2.1
  unfold f_X1_told at hf
  refine lv_aload_n hx hb dX1_told_0 rfl (lv_at hl 0 rfl) ?_
  refine lv_iload_n hx hb dX1_told_1 rfl (lv_at hl 1 rfl) ?_
  obtain ⟨g2, hf⟩ := gd_some hf
  obtain ⟨v2, s2, h2, hf⟩ := ob_some hf
  refine aw_dV1 (r := o) (As := [.int x1]) (rest := []) (ct_X1_isOne l G a o x1 s v2 s2 h2) hC hW hl.1 vy_X1_isOne (Or.inl q848) g2 rfl rfl rfl rfl (Nat.le_of_ble_eq_true rfl) ⟨Nat.le_of_ble_eq_true rfl, Nat.le_of_ble_eq_true rfl⟩ ⟨Nat.le_of_ble_eq_true rfl, Nat.le_of_ble_eq_true rfl⟩ dX1_told_2 (fun H locs hW => ?_)
  refine lv_if_eq (tgt := 29) hx hb dX1_told_5 (by decide) (fun c5 => ?_) (fun c5 => ?_)
  · have hf := ifp c5 hf
    refine lv_iconst (v := (-1)) hx hb dX1_told_29 (by decide) ?_
    obtain ⟨e1, e2⟩ := so_inj hf
    exact aw_iret hC hW hr rfl (p_eq hP (congrArg (fun z => some (Value.int z)) e1) e2) (Nat.le_of_ble_eq_true rfl) (Nat.le_of_ble_eq_true rfl) dX1_told_30
  · have hf := ifn c5 hf
    refine lv_iload_n hx hb dX1_told_8 rfl (lv_at hl 2 rfl) ?_
    refine lv_i2l (v := (x2 : Int32).toInt64) hx hb dX1_told_9 rfl ?_
    refine lv_lconst (v := 1) hx hb dX1_told_10 (by decide) ?_
    refine lv_ldc2 (v := 60) hx hb hC.2.2.2.1 (hts _ q1120) dX1_told_11 ?_
    obtain ⟨v14, ev14, hf⟩ := bnd_some hf
    refine aw_dS1 (As := [.long ((x2 : Int32).toInt64), .long 1, .long 60]) (rest := []) (pc_X1_in l G a ((x2 : Int32).toInt64) 1 60 s2) hC hW hl.1 sy_X1_in (Or.inl q514) rfl rfl (Nat.le_of_ble_eq_true rfl) ⟨Nat.le_of_ble_eq_true rfl, Nat.le_of_ble_eq_true rfl⟩ ⟨Nat.le_of_ble_eq_true rfl, Nat.le_of_ble_eq_true rfl⟩ dX1_told_14 (fun H locs hW => ?_)
    refine top_i ev14 ?_
    refine lv_if_eq (tgt := 29) hx hb dX1_told_17 (by decide) (fun c17 => ?_) (fun c17 => ?_)
    · have hf := ifp c17 hf
      refine lv_iconst (v := (-1)) hx hb dX1_told_29 (by decide) ?_
      obtain ⟨e1, e2⟩ := so_inj hf
      exact aw_iret hC hW hr rfl (p_eq hP (congrArg (fun z => some (Value.int z)) e1) e2) (Nat.le_of_ble_eq_true rfl) (Nat.le_of_ble_eq_true rfl) dX1_told_30
    · have hf := ifn c17 hf
      refine lv_aload_n hx hb dX1_told_20 rfl (lv_at hl 0 rfl) ?_
      obtain ⟨g21, hf⟩ := gd_some hf
      refine aw_gI hC hW g21 fl_X1_488 rfl dX1_told_21 ?_
      refine lv_bipush (v := 10) hx hb dX1_told_24 (by decide) ?_
      refine lv_icmp_ne (tgt := 31) hx hb dX1_told_26 (by decide) (fun c26 => ?_) (fun c26 => ?_)
      · have hf := ifn c26 hf
        refine lv_aload_n hx hb dX1_told_31 rfl (lv_at hl 0 rfl) ?_
        obtain ⟨q32, hq32, hf⟩ := bi_some hf
        refine aw_gR hC hW g21 fl_X1_133 rfl hq32 dX1_told_32 ?_
        refine lv_aload_n hx hb dX1_told_35 rfl (lv_at hl 0 rfl) ?_
        refine aw_gI hC hW g21 fl_X1_488 rfl dX1_told_36 ?_
        refine lv_iload_n hx hb dX1_told_39 rfl (lv_at hl 1 rfl) ?_
        obtain ⟨g40, hf⟩ := gd_some hf
        obtain ⟨s40, e40, hf⟩ := bnd_some hf
        refine aw_iast e40 hC hW g40 dX1_told_40 (fun H locs hW => ?_)
        have g21 := ko_pI e40 g21
        refine lv_aload_n hx hb dX1_told_41 rfl (lv_at hl 0 rfl) ?_
        obtain ⟨q42, hq42, hf⟩ := bi_some hf
        refine aw_gR hC hW g21 fl_X1_136 rfl hq42 dX1_told_42 ?_
        refine lv_aload_n hx hb dX1_told_45 rfl (lv_at hl 0 rfl) ?_
        refine aw_gI hC hW g21 fl_X1_488 rfl dX1_told_46 ?_
        refine lv_iload_n hx hb dX1_told_49 rfl (lv_at hl 2 rfl) ?_
        obtain ⟨g50, hf⟩ := gd_some hf
        obtain ⟨s50, e50, hf⟩ := bnd_some hf
        refine aw_iast e50 hC hW g50 dX1_told_50 (fun H locs hW => ?_)
        have g21 := ko_pI e50 g21
        refine lv_aload_n hx hb dX1_told_51 rfl (lv_at hl 0 rfl) ?_
        refine lv_dup hx hb dX1_told_52 rfl ?_
        refine aw_gI hC hW g21 fl_X1_488 rfl dX1_told_53 ?_
        refine lv_iconst (v := 1) hx hb dX1_told_56 (by decide) ?_
        refine lv_iadd hx hb dX1_told_57 ?_
        obtain ⟨s58, e58, hf⟩ := bnd_some hf
        refine aw_pI e58 hC hW g21 fl_X1_488 (Or.inl fn_0_35) rfl rfl rfl dX1_told_58 (fun H locs hW => ?_)
        have g21 := ko_pI e58 g21
        refine lv_aload_n hx hb dX1_told_61 rfl (lv_at hl 0 rfl) ?_
        refine aw_gI hC hW g21 fl_X1_488 rfl dX1_told_62 ?_
        obtain ⟨e1, e2⟩ := so_inj hf
        exact aw_iret hC hW hr rfl (p_eq hP (congrArg (fun z => some (Value.int z)) e1) e2) (Nat.le_of_ble_eq_true rfl) (Nat.le_of_ble_eq_true rfl) dX1_told_65
      · have hf := ifp c26 hf
        refine lv_iconst (v := (-1)) hx hb dX1_told_29 (by decide) ?_
        obtain ⟨e1, e2⟩ := so_inj hf
        exact aw_iret hC hW hr rfl (p_eq hP (congrArg (fun z => some (Value.int z)) e1) e2) (Nat.le_of_ble_eq_true rfl) (Nat.le_of_ble_eq_true rfl) dX1_told_30
def f_X15_passes (o : Nat) (x1 : Int32) (s : ST) : Option (Int32 × ST) :=
  gd (o < s.1 ∧ (kd s o).1 = 15) <|
  ob (f_X15_here o s) fun v1 s1 =>
  if v1 = x1 then (gd (o < s1.1 ∧ (kd s1 o).1 = 15) <|
  bnd (pI s1 o 3 ((gi s1 o 3) + 1)) fun s17 =>
  some (1, s17)) else some (0, s1)
set_option maxHeartbeats 4000000 in
theorem ct_X15_passes (l : Launch) (G : GM) (a : Nat → Nat) (o : Nat) (x1 : Int32) (s : ST) (rv : Int32) (sf : ST) (hf : f_X15_passes o x1 s = some (rv, sf)) : MD l G yX15_passes (ws_ yX15_passes cX15_passes 2 (some .boolean)) 1 [.ref (a o), .int x1] a s (some (.int rv)) sf := by
  refine md_of (d := 1) (lv := [(0, .ref (a o)), (1, .int x1)]) (Or.inl (by decide)) (Nat.le_of_ble_eq_true rfl) rfl ?_
  intro p e s0 m args below meth c ls A P hP hC hr hnm hW hl
  have hx := hC.1
  have hb := hC.2.1
  have hts := hC.2.2.2.2.1
  unfold f_X15_passes at hf
  refine lv_aload_n hx hb dX15_passes_0 rfl (lv_at hl 0 rfl) ?_
  obtain ⟨g1, hf⟩ := gd_some hf
  obtain ⟨v1, s1, h1, hf⟩ := ob_some hf
  refine aw_dV1 (r := o) (As := []) (rest := []) (ct_X15_here l G a o s v1 s1 h1) hC hW hl.1 vy_X15_here (Or.inl q627) g1 rfl rfl rfl rfl (Nat.le_of_ble_eq_true rfl) ⟨Nat.le_of_ble_eq_true rfl, Nat.le_of_ble_eq_true rfl⟩ ⟨Nat.le_of_ble_eq_true rfl, Nat.le_of_ble_eq_true rfl⟩ dX15_passes_1 (fun H locs hW => ?_)
  refine lv_iload_n hx hb dX15_passes_4 rfl (lv_at hl 1 rfl) ?_
  refine lv_icmp_eq (tgt := 10) hx hb dX15_passes_5 (by decide) (fun c5 => ?_) (fun c5 => ?_)
  · have hf := ifp c5 hf
    refine lv_aload_n hx hb dX15_passes_10 rfl (lv_at hl 0 rfl) ?_
    refine lv_dup hx hb dX15_passes_11 rfl ?_
    obtain ⟨g12, hf⟩ := gd_some hf
    refine aw_gI hC hW g12 fl_X15_28 rfl dX15_passes_12 ?_
    refine lv_iconst (v := 1) hx hb dX15_passes_15 (by decide) ?_
    refine lv_iadd hx hb dX15_passes_16 ?_
    obtain ⟨s17, e17, hf⟩ := bnd_some hf
    refine aw_pI e17 hC hW g12 fl_X15_28 (Or.inl fn_14_3) rfl rfl rfl dX15_passes_17 (fun H locs hW => ?_)
    have g12 := ko_pI e17 g12
    refine lv_iconst (v := 1) hx hb dX15_passes_20 (by decide) ?_
    obtain ⟨e1, e2⟩ := so_inj hf
    exact aw_iret hC hW hr rfl (p_eq hP (congrArg (fun z => some (Value.int z)) e1) e2) (Nat.le_of_ble_eq_true rfl) (Nat.le_of_ble_eq_true rfl) dX15_passes_21
  · have hf := ifn c5 hf
    refine lv_iconst (v := 0) hx hb dX15_passes_8 (by decide) ?_
    obtain ⟨e1, e2⟩ := so_inj hf
    exact aw_iret hC hW hr rfl (p_eq hP (congrArg (fun z => some (Value.int z)) e1) e2) (Nat.le_of_ble_eq_true rfl) (Nat.le_of_ble_eq_true rfl) dX15_passes_9
def f_X15_passesw (o : Nat) (x1 : Int32) (s : ST) : Option (Int32 × ST) :=
  gd (o < s.1 ∧ (kd s o).1 = 17) <|
  ob (f_X15_herew o s) fun v1 s1 =>
  if v1 = x1 then (gd (o < s1.1 ∧ (kd s1 o).1 = 17) <|
  bnd (pI s1 o 3 ((gi s1 o 3) + 1)) fun s17 =>
  some (1, s17)) else some (0, s1)
set_option maxHeartbeats 4000000 in
theorem ct_X15_passesw (l : Launch) (G : GM) (a : Nat → Nat) (o : Nat) (x1 : Int32) (s : ST) (rv : Int32) (sf : ST) (hf : f_X15_passesw o x1 s = some (rv, sf)) : MD l G yX15_passes (ws_ yX15_passes cX15_passes 2 (some .boolean)) 1 [.ref (a o), .int x1] a s (some (.int rv)) sf := by
  refine md_of (d := 1) (lv := [(0, .ref (a o)), (1, .int x1)]) (Or.inl (by decide)) (Nat.le_of_ble_eq_true rfl) rfl ?_
  intro p e s0 m args below meth c ls A P hP hC hr hnm hW hl
  have hx := hC.1
  have hb := hC.2.1
  have hts := hC.2.2.2.2.1
  unfold f_X15_passesw at hf
  refine lv_aload_n hx hb dX15_passes_0 rfl (lv_at hl 0 rfl) ?_
  obtain ⟨g1, hf⟩ := gd_some hf
  obtain ⟨v1, s1, h1, hf⟩ := ob_some hf
  refine aw_dU1 (r := o) (As := []) (rest := []) (ct_X15_herew l G a o s v1 s1 h1) hC hW hl.1 uy_X17_X15_X15_here q627 g1 rfl rfl rfl (Nat.le_of_ble_eq_true rfl) ⟨Nat.le_of_ble_eq_true rfl, Nat.le_of_ble_eq_true rfl⟩ ⟨Nat.le_of_ble_eq_true rfl, Nat.le_of_ble_eq_true rfl⟩ dX15_passes_1 (fun H locs hW => ?_)
  refine lv_iload_n hx hb dX15_passes_4 rfl (lv_at hl 1 rfl) ?_
  refine lv_icmp_eq (tgt := 10) hx hb dX15_passes_5 (by decide) (fun c5 => ?_) (fun c5 => ?_)
  · have hf := ifp c5 hf
    refine lv_aload_n hx hb dX15_passes_10 rfl (lv_at hl 0 rfl) ?_
    refine lv_dup hx hb dX15_passes_11 rfl ?_
    obtain ⟨g12, hf⟩ := gd_some hf
    refine aw_gI hC hW g12 fl_X15_28_X17 rfl dX15_passes_12 ?_
    refine lv_iconst (v := 1) hx hb dX15_passes_15 (by decide) ?_
    refine lv_iadd hx hb dX15_passes_16 ?_
    obtain ⟨s17, e17, hf⟩ := bnd_some hf
    refine aw_pI e17 hC hW g12 fl_X15_28_X17 (Or.inl fn_16_3) rfl rfl rfl dX15_passes_17 (fun H locs hW => ?_)
    have g12 := ko_pI e17 g12
    refine lv_iconst (v := 1) hx hb dX15_passes_20 (by decide) ?_
    obtain ⟨e1, e2⟩ := so_inj hf
    exact aw_iret hC hW hr rfl (p_eq hP (congrArg (fun z => some (Value.int z)) e1) e2) (Nat.le_of_ble_eq_true rfl) (Nat.le_of_ble_eq_true rfl) dX15_passes_21
  · have hf := ifn c5 hf
    refine lv_iconst (v := 0) hx hb dX15_passes_8 (by decide) ?_
    obtain ⟨e1, e2⟩ := so_inj hf
    exact aw_iret hC hW hr rfl (p_eq hP (congrArg (fun z => some (Value.int z)) e1) e2) (Nat.le_of_ble_eq_true rfl) (Nat.le_of_ble_eq_true rfl) dX15_passes_9
def f_X1_twin (o : Nat) (x1 : Int32) (s : ST) : Option (Int32 × ST) :=
  gd (o < s.1 ∧ (kd s o).1 = 1) <|
  ob (f_X1_isAlive o x1 s) fun v2 s2 =>
  if v2 = 0 then (some ((-1), s2)) else gd (o < s2.1 ∧ (kd s2 o).1 = 1) <|
  if (gi s2 o 4) = 8 then (some ((-1), s2)) else (gr s2 o 0).bind fun q21 =>
  gd (q21 < s2.1 ∧ (kd s2 q21).1 = 105 ∧ ¬ ((x1 : Int32) < 0 ∨ (kd s2 q21).2 ≤ (x1 : Int32).toNatClampNeg)) <|
  (gr s2 q21 (x1 : Int32).toNatClampNeg).bind fun q25 =>
  (gr s2 o 1).bind fun q27 =>
  gd (q27 < s2.1 ∧ (kd s2 q27).1 = 2) <|
  (gr s2 q27 0).bind fun q30 =>
  gd (q30 < s2.1 ∧ (kd s2 q30).1 = 100 ∧ ¬ ((x1 : Int32) < 0 ∨ (kd s2 q30).2 ≤ (x1 : Int32).toNatClampNeg)) <|
  ob (f_X1_add o q25 (gi s2 q30 (x1 : Int32).toNatClampNeg) s2) fun _ s35 =>
  gd (o < s35.1 ∧ (kd s35 o).1 = 1) <|
  some (((gi s35 o 4) - 1), s35)
set_option maxHeartbeats 4000000 in
theorem ct_X1_twin (l : Launch) (G : GM) (a : Nat → Nat) (o : Nat) (x1 : Int32) (s : ST) (rv : Int32) (sf : ST) (hf : f_X1_twin o x1 s = some (rv, sf)) : MD l G yX1_twin (ws_ yX1_twin cX1_twin 2 (some .int)) 3 [.ref (a o), .int x1] a s (some (.int rv)) sf := by
  refine md_of (d := 3) (lv := [(0, .ref (a o)), (1, .int x1)]) (Or.inl (by decide)) (Nat.le_of_ble_eq_true rfl) rfl ?_
  intro p e s0 m args below meth c ls A P hP hC hr hnm hW hl
  have hx := hC.1
  have hb := hC.2.1
  have hts := hC.2.2.2.2.1
  unfold f_X1_twin at hf
  refine lv_aload_n hx hb dX1_twin_0 rfl (lv_at hl 0 rfl) ?_
  refine lv_iload_n hx hb dX1_twin_1 rfl (lv_at hl 1 rfl) ?_
  obtain ⟨g2, hf⟩ := gd_some hf
  obtain ⟨v2, s2, h2, hf⟩ := ob_some hf
  refine aw_dV1 (r := o) (As := [.int x1]) (rest := []) (ct_X1_isAlive l G a o x1 s v2 s2 h2) hC hW hl.1 vy_X1_isAlive (Or.inl q1040) g2 rfl rfl rfl rfl (Nat.le_of_ble_eq_true rfl) ⟨Nat.le_of_ble_eq_true rfl, Nat.le_of_ble_eq_true rfl⟩ ⟨Nat.le_of_ble_eq_true rfl, Nat.le_of_ble_eq_true rfl⟩ dX1_twin_2 (fun H locs hW => ?_)
  refine lv_if_eq (tgt := 17) hx hb dX1_twin_5 (by decide) (fun c5 => ?_) (fun c5 => ?_)
  · have hf := ifp c5 hf
    refine lv_iconst (v := (-1)) hx hb dX1_twin_17 (by decide) ?_
    obtain ⟨e1, e2⟩ := so_inj hf
    exact aw_iret hC hW hr rfl (p_eq hP (congrArg (fun z => some (Value.int z)) e1) e2) (Nat.le_of_ble_eq_true rfl) (Nat.le_of_ble_eq_true rfl) dX1_twin_18
  · have hf := ifn c5 hf
    refine lv_aload_n hx hb dX1_twin_8 rfl (lv_at hl 0 rfl) ?_
    obtain ⟨g9, hf⟩ := gd_some hf
    refine aw_gI hC hW g9 fl_X1_157 rfl dX1_twin_9 ?_
    refine lv_bipush (v := 8) hx hb dX1_twin_12 (by decide) ?_
    refine lv_icmp_ne (tgt := 19) hx hb dX1_twin_14 (by decide) (fun c14 => ?_) (fun c14 => ?_)
    · have hf := ifn c14 hf
      refine lv_aload_n hx hb dX1_twin_19 rfl (lv_at hl 0 rfl) ?_
      refine lv_aload_n hx hb dX1_twin_20 rfl (lv_at hl 0 rfl) ?_
      obtain ⟨q21, hq21, hf⟩ := bi_some hf
      refine aw_gR hC hW g9 fl_X1_11 rfl hq21 dX1_twin_21 ?_
      refine lv_iload_n hx hb dX1_twin_24 rfl (lv_at hl 1 rfl) ?_
      obtain ⟨g25, hf⟩ := gd_some hf
      obtain ⟨q25, hq25, hf⟩ := bi_some hf
      refine aw_aald (j := 0) hC hW (by decide) g25 hq25 dX1_twin_25 ?_
      refine lv_aload_n hx hb dX1_twin_26 rfl (lv_at hl 0 rfl) ?_
      obtain ⟨q27, hq27, hf⟩ := bi_some hf
      refine aw_gR hC hW g9 fl_X1_18 rfl hq27 dX1_twin_27 ?_
      obtain ⟨g30, hf⟩ := gd_some hf
      obtain ⟨q30, hq30, hf⟩ := bi_some hf
      refine aw_gR hC hW g30 fl_X1_236 rfl hq30 dX1_twin_30 ?_
      refine lv_iload_n hx hb dX1_twin_33 rfl (lv_at hl 1 rfl) ?_
      obtain ⟨g34, hf⟩ := gd_some hf
      refine aw_iald hC hW g34 dX1_twin_34 ?_
      obtain ⟨_, s35, h35, hf⟩ := ob_some hf
      refine aw_dV0 (r := o) (As := [.ref (a q25), .int (gi s2 q30 (x1 : Int32).toNatClampNeg)]) (rest := []) (ct_X1_add l G a o q25 (gi s2 q30 (x1 : Int32).toNatClampNeg) s2 () s35 h35) hC hW hl.1 vy_X1_add (Or.inl q656) g9 rfl rfl rfl rfl (Nat.le_of_ble_eq_true rfl) ⟨Nat.le_of_ble_eq_true rfl, Nat.le_of_ble_eq_true rfl⟩ ⟨Nat.le_of_ble_eq_true rfl, Nat.le_of_ble_eq_true rfl⟩ dX1_twin_35 (fun H locs hW => ?_)
      refine lv_aload_n hx hb dX1_twin_38 rfl (lv_at hl 0 rfl) ?_
      obtain ⟨g39, hf⟩ := gd_some hf
      refine aw_gI hC hW g39 fl_X1_157 rfl dX1_twin_39 ?_
      refine lv_iconst (v := 1) hx hb dX1_twin_42 (by decide) ?_
      refine lv_isub hx hb dX1_twin_43 ?_
      obtain ⟨e1, e2⟩ := so_inj hf
      exact aw_iret hC hW hr rfl (p_eq hP (congrArg (fun z => some (Value.int z)) e1) e2) (Nat.le_of_ble_eq_true rfl) (Nat.le_of_ble_eq_true rfl) dX1_twin_44
    · have hf := ifp c14 hf
      refine lv_iconst (v := (-1)) hx hb dX1_twin_17 (by decide) ?_
      obtain ⟨e1, e2⟩ := so_inj hf
      exact aw_iret hC hW hr rfl (p_eq hP (congrArg (fun z => some (Value.int z)) e1) e2) (Nat.le_of_ble_eq_true rfl) (Nat.le_of_ble_eq_true rfl) dX1_twin_18
def f_X1_undo (o : Nat) (s : ST) : Option (Int32 × ST) :=
  gd (o < s.1 ∧ (kd s o).1 = 1) <|
  if (gi s o 6) = 0 then (some ((-1), s)) else bnd (pI s o 6 ((gi s o 6) - 1)) fun s16 =>
  (gr s16 o 1).bind fun q20 =>
  (gr s16 o 3).bind fun q24 =>
  gd (q24 < s16.1 ∧ (kd s16 q24).1 = 106 ∧ ¬ (((gi s16 o 6) : Int32) < 0 ∨ (kd s16 q24).2 ≤ ((gi s16 o 6) : Int32).toNatClampNeg)) <|
  (gr s16 q24 ((gi s16 o 6) : Int32).toNatClampNeg).bind fun q31 =>
  gd (q20 < s16.1 ∧ (kd s16 q20).1 = 2) <|
  ob (f_X2_be q20 q31 s16) fun _ s32 =>
  gd (o < s32.1 ∧ (kd s32 o).1 = 1) <|
  some ((gi s32 o 6), s32)
set_option maxHeartbeats 4000000 in
theorem ct_X1_undo (l : Launch) (G : GM) (a : Nat → Nat) (o : Nat) (s : ST) (rv : Int32) (sf : ST) (hf : f_X1_undo o s = some (rv, sf)) : MD l G yX1_undo (ws_ yX1_undo cX1_undo 1 (some .int)) 2 [.ref (a o)] a s (some (.int rv)) sf := by
  refine md_of (d := 2) (lv := [(0, .ref (a o))]) (Or.inl (by decide)) (Nat.le_of_ble_eq_true rfl) rfl ?_
  intro p e s0 m args below meth c ls A P hP hC hr hnm hW hl
  have hx := hC.1
  have hb := hC.2.1
  have hts := hC.2.2.2.2.1
  unfold f_X1_undo at hf
  refine lv_aload_n hx hb dX1_undo_0 rfl (lv_at hl 0 rfl) ?_
  obtain ⟨g1, hf⟩ := gd_some hf
  refine aw_gI hC hW g1 fl_X1_245 rfl dX1_undo_1 ?_
  refine lv_if_ne (tgt := 9) hx hb dX1_undo_4 (by decide) (fun c4 => ?_) (fun c4 => ?_)
  · have hf := ifn c4 hf
    refine lv_aload_n hx hb dX1_undo_9 rfl (lv_at hl 0 rfl) ?_
    refine lv_dup hx hb dX1_undo_10 rfl ?_
    refine aw_gI hC hW g1 fl_X1_245 rfl dX1_undo_11 ?_
    refine lv_iconst (v := 1) hx hb dX1_undo_14 (by decide) ?_
    refine lv_isub hx hb dX1_undo_15 ?_
    obtain ⟨s16, e16, hf⟩ := bnd_some hf
    refine aw_pI e16 hC hW g1 fl_X1_245 (Or.inl fn_0_6) rfl rfl rfl dX1_undo_16 (fun H locs hW => ?_)
    have g1 := ko_pI e16 g1
    refine lv_aload_n hx hb dX1_undo_19 rfl (lv_at hl 0 rfl) ?_
    obtain ⟨q20, hq20, hf⟩ := bi_some hf
    refine aw_gR hC hW g1 fl_X1_18 rfl hq20 dX1_undo_20 ?_
    refine lv_aload_n hx hb dX1_undo_23 rfl (lv_at hl 0 rfl) ?_
    obtain ⟨q24, hq24, hf⟩ := bi_some hf
    refine aw_gR hC hW g1 fl_X1_25 rfl hq24 dX1_undo_24 ?_
    refine lv_aload_n hx hb dX1_undo_27 rfl (lv_at hl 0 rfl) ?_
    refine aw_gI hC hW g1 fl_X1_245 rfl dX1_undo_28 ?_
    obtain ⟨g31, hf⟩ := gd_some hf
    obtain ⟨q31, hq31, hf⟩ := bi_some hf
    refine aw_aald (j := 1) hC hW (by decide) g31 hq31 dX1_undo_31 ?_
    obtain ⟨g32, hf⟩ := gd_some hf
    obtain ⟨_, s32, h32, hf⟩ := ob_some hf
    refine aw_dV0 (r := q20) (As := [.ref (a q31)]) (rest := []) (ct_X2_be l G a q20 q31 s16 () s32 h32) hC hW hl.1 vy_X2_be (Or.inl q917) g32 rfl rfl rfl rfl (Nat.le_of_ble_eq_true rfl) ⟨Nat.le_of_ble_eq_true rfl, Nat.le_of_ble_eq_true rfl⟩ ⟨Nat.le_of_ble_eq_true rfl, Nat.le_of_ble_eq_true rfl⟩ dX1_undo_32 (fun H locs hW => ?_)
    refine lv_aload_n hx hb dX1_undo_35 rfl (lv_at hl 0 rfl) ?_
    obtain ⟨g36, hf⟩ := gd_some hf
    refine aw_gI hC hW g36 fl_X1_245 rfl dX1_undo_36 ?_
    obtain ⟨e1, e2⟩ := so_inj hf
    exact aw_iret hC hW hr rfl (p_eq hP (congrArg (fun z => some (Value.int z)) e1) e2) (Nat.le_of_ble_eq_true rfl) (Nat.le_of_ble_eq_true rfl) dX1_undo_39
  · have hf := ifp c4 hf
    refine lv_iconst (v := (-1)) hx hb dX1_undo_7 (by decide) ?_
    obtain ⟨e1, e2⟩ := so_inj hf
    exact aw_iret hC hW hr rfl (p_eq hP (congrArg (fun z => some (Value.int z)) e1) e2) (Nat.le_of_ble_eq_true rfl) (Nat.le_of_ble_eq_true rfl) dX1_undo_8
def f_X1_weighed (o : Nat) (x1 : Int32) (x2 : Int32) (s : ST) : Option (Int32 × ST) :=
  gd (o < s.1 ∧ (kd s o).1 = 1) <|
  ob (f_X1_isOne o x1 s) fun v2 s2 =>
  if v2 = 0 then (some ((-1), s2)) else bnd (p_in ((x2 : Int32).toInt64) 0 1010) fun v14 =>
  if v14 = 0 then (some ((-1), s2)) else gd (o < s2.1 ∧ (kd s2 o).1 = 1) <|
  if (gi s2 o 32) = 12 then (some ((-1), s2)) else (gr s2 o 30).bind fun q32 =>
  gd (q32 < s2.1 ∧ (kd s2 q32).1 = 100 ∧ ¬ (((gi s2 o 32) : Int32) < 0 ∨ (kd s2 q32).2 ≤ ((gi s2 o 32) : Int32).toNatClampNeg)) <|
  bnd (pI s2 q32 ((gi s2 o 32) : Int32).toNatClampNeg x1) fun s40 =>
  (gr s40 o 31).bind fun q42 =>
  gd (q42 < s40.1 ∧ (kd s40 q42).1 = 100 ∧ ¬ (((gi s40 o 32) : Int32) < 0 ∨ (kd s40 q42).2 ≤ ((gi s40 o 32) : Int32).toNatClampNeg)) <|
  bnd (pI s40 q42 ((gi s40 o 32) : Int32).toNatClampNeg x2) fun s50 =>
  bnd (pI s50 o 32 ((gi s50 o 32) + 1)) fun s58 =>
  some ((gi s58 o 32), s58)
set_option maxHeartbeats 4000000 in
theorem ct_X1_weighed (l : Launch) (G : GM) (a : Nat → Nat) (o : Nat) (x1 : Int32) (x2 : Int32) (s : ST) (rv : Int32) (sf : ST) (hf : f_X1_weighed o x1 x2 s = some (rv, sf)) : MD l G yX1_weighed (ws_ yX1_weighed cX1_weighed 3 (some .int)) 2 [.ref (a o), .int x1, .int x2] a s (some (.int rv)) sf := by
  refine md_of (d := 2) (lv := [(0, .ref (a o)), (1, .int x1), (2, .int x2)]) (Or.inl (by decide)) (Nat.le_of_ble_eq_true rfl) rfl ?_
  intro p e s0 m args below meth c ls A P hP hC hr hnm hW hl
  have hx := hC.1
  have hb := hC.2.1
  have hts := hC.2.2.2.2.1
  unfold f_X1_weighed at hf
  refine lv_aload_n hx hb dX1_weighed_0 rfl (lv_at hl 0 rfl) ?_
  refine lv_iload_n hx hb dX1_weighed_1 rfl (lv_at hl 1 rfl) ?_
  obtain ⟨g2, hf⟩ := gd_some hf
  obtain ⟨v2, s2, h2, hf⟩ := ob_some hf
  refine aw_dV1 (r := o) (As := [.int x1]) (rest := []) (ct_X1_isOne l G a o x1 s v2 s2 h2) hC hW hl.1 vy_X1_isOne (Or.inl q848) g2 rfl rfl rfl rfl (Nat.le_of_ble_eq_true rfl) ⟨Nat.le_of_ble_eq_true rfl, Nat.le_of_ble_eq_true rfl⟩ ⟨Nat.le_of_ble_eq_true rfl, Nat.le_of_ble_eq_true rfl⟩ dX1_weighed_2 (fun H locs hW => ?_)
  refine lv_if_eq (tgt := 29) hx hb dX1_weighed_5 (by decide) (fun c5 => ?_) (fun c5 => ?_)
  · have hf := ifp c5 hf
    refine lv_iconst (v := (-1)) hx hb dX1_weighed_29 (by decide) ?_
    obtain ⟨e1, e2⟩ := so_inj hf
    exact aw_iret hC hW hr rfl (p_eq hP (congrArg (fun z => some (Value.int z)) e1) e2) (Nat.le_of_ble_eq_true rfl) (Nat.le_of_ble_eq_true rfl) dX1_weighed_30
  · have hf := ifn c5 hf
    refine lv_iload_n hx hb dX1_weighed_8 rfl (lv_at hl 2 rfl) ?_
    refine lv_i2l (v := (x2 : Int32).toInt64) hx hb dX1_weighed_9 rfl ?_
    refine lv_lconst (v := 0) hx hb dX1_weighed_10 (by decide) ?_
    refine lv_ldc2 (v := 1010) hx hb hC.2.2.2.1 (hts _ q1181) dX1_weighed_11 ?_
    obtain ⟨v14, ev14, hf⟩ := bnd_some hf
    refine aw_dS1 (As := [.long ((x2 : Int32).toInt64), .long 0, .long 1010]) (rest := []) (pc_X1_in l G a ((x2 : Int32).toInt64) 0 1010 s2) hC hW hl.1 sy_X1_in (Or.inl q514) rfl rfl (Nat.le_of_ble_eq_true rfl) ⟨Nat.le_of_ble_eq_true rfl, Nat.le_of_ble_eq_true rfl⟩ ⟨Nat.le_of_ble_eq_true rfl, Nat.le_of_ble_eq_true rfl⟩ dX1_weighed_14 (fun H locs hW => ?_)
    refine top_i ev14 ?_
    refine lv_if_eq (tgt := 29) hx hb dX1_weighed_17 (by decide) (fun c17 => ?_) (fun c17 => ?_)
    · have hf := ifp c17 hf
      refine lv_iconst (v := (-1)) hx hb dX1_weighed_29 (by decide) ?_
      obtain ⟨e1, e2⟩ := so_inj hf
      exact aw_iret hC hW hr rfl (p_eq hP (congrArg (fun z => some (Value.int z)) e1) e2) (Nat.le_of_ble_eq_true rfl) (Nat.le_of_ble_eq_true rfl) dX1_weighed_30
    · have hf := ifn c17 hf
      refine lv_aload_n hx hb dX1_weighed_20 rfl (lv_at hl 0 rfl) ?_
      obtain ⟨g21, hf⟩ := gd_some hf
      refine aw_gI hC hW g21 fl_X1_476 rfl dX1_weighed_21 ?_
      refine lv_bipush (v := 12) hx hb dX1_weighed_24 (by decide) ?_
      refine lv_icmp_ne (tgt := 31) hx hb dX1_weighed_26 (by decide) (fun c26 => ?_) (fun c26 => ?_)
      · have hf := ifn c26 hf
        refine lv_aload_n hx hb dX1_weighed_31 rfl (lv_at hl 0 rfl) ?_
        obtain ⟨q32, hq32, hf⟩ := bi_some hf
        refine aw_gR hC hW g21 fl_X1_127 rfl hq32 dX1_weighed_32 ?_
        refine lv_aload_n hx hb dX1_weighed_35 rfl (lv_at hl 0 rfl) ?_
        refine aw_gI hC hW g21 fl_X1_476 rfl dX1_weighed_36 ?_
        refine lv_iload_n hx hb dX1_weighed_39 rfl (lv_at hl 1 rfl) ?_
        obtain ⟨g40, hf⟩ := gd_some hf
        obtain ⟨s40, e40, hf⟩ := bnd_some hf
        refine aw_iast e40 hC hW g40 dX1_weighed_40 (fun H locs hW => ?_)
        have g21 := ko_pI e40 g21
        refine lv_aload_n hx hb dX1_weighed_41 rfl (lv_at hl 0 rfl) ?_
        obtain ⟨q42, hq42, hf⟩ := bi_some hf
        refine aw_gR hC hW g21 fl_X1_130 rfl hq42 dX1_weighed_42 ?_
        refine lv_aload_n hx hb dX1_weighed_45 rfl (lv_at hl 0 rfl) ?_
        refine aw_gI hC hW g21 fl_X1_476 rfl dX1_weighed_46 ?_
        refine lv_iload_n hx hb dX1_weighed_49 rfl (lv_at hl 2 rfl) ?_
        obtain ⟨g50, hf⟩ := gd_some hf
        obtain ⟨s50, e50, hf⟩ := bnd_some hf
        refine aw_iast e50 hC hW g50 dX1_weighed_50 (fun H locs hW => ?_)
        have g21 := ko_pI e50 g21
        refine lv_aload_n hx hb dX1_weighed_51 rfl (lv_at hl 0 rfl) ?_
        refine lv_dup hx hb dX1_weighed_52 rfl ?_
        refine aw_gI hC hW g21 fl_X1_476 rfl dX1_weighed_53 ?_
        refine lv_iconst (v := 1) hx hb dX1_weighed_56 (by decide) ?_
        refine lv_iadd hx hb dX1_weighed_57 ?_
        obtain ⟨s58, e58, hf⟩ := bnd_some hf
        refine aw_pI e58 hC hW g21 fl_X1_476 (Or.inl fn_0_32) rfl rfl rfl dX1_weighed_58 (fun H locs hW => ?_)
        have g21 := ko_pI e58 g21
        refine lv_aload_n hx hb dX1_weighed_61 rfl (lv_at hl 0 rfl) ?_
        refine aw_gI hC hW g21 fl_X1_476 rfl dX1_weighed_62 ?_
        obtain ⟨e1, e2⟩ := so_inj hf
        exact aw_iret hC hW hr rfl (p_eq hP (congrArg (fun z => some (Value.int z)) e1) e2) (Nat.le_of_ble_eq_true rfl) (Nat.le_of_ble_eq_true rfl) dX1_weighed_65
      · have hf := ifp c26 hf
        refine lv_iconst (v := (-1)) hx hb dX1_weighed_29 (by decide) ?_
        obtain ⟨e1, e2⟩ := so_inj hf
        exact aw_iret hC hW hr rfl (p_eq hP (congrArg (fun z => some (Value.int z)) e1) e2) (Nat.le_of_ble_eq_true rfl) (Nat.le_of_ble_eq_true rfl) dX1_weighed_30
def f_X17_init (o : Nat) (r1 : Nat) (r2 : Nat) (x3 : Int32) (s : ST) : Option (Unit × ST) :=
  gd (o < s.1 ∧ (kd s o).1 = 17) <|
  gd (r1 < s.1) <|
  bnd (pR s o 6 (some r1)) fun s2 =>
  ob (f_X15_initw o r2 x3 40 s2) fun _ s10 =>
  some ((), s10)
set_option maxHeartbeats 4000000 in
theorem ct_X17_init (l : Launch) (G : GM) (a : Nat → Nat) (o : Nat) (r1 : Nat) (r2 : Nat) (x3 : Int32) (s : ST) (rv : Unit) (sf : ST) (hf : f_X17_init o r1 r2 x3 s = some (rv, sf)) : MD l G yX17_init (ws_ yX17_init cX17_init 4 none) 2 [.ref (a o), .ref (a r1), .ref (a r2), .int x3] a s none sf := by
  refine md_of (d := 2) (lv := [(0, .ref (a o)), (1, .ref (a r1)), (2, .ref (a r2)), (3, .int x3)]) (Or.inl (by decide)) (Nat.le_of_ble_eq_true rfl) rfl ?_
  intro p e s0 m args below meth c ls A P hP hC hr hnm hW hl
  have hx := hC.1
  have hb := hC.2.1
  have hts := hC.2.2.2.2.1
  unfold f_X17_init at hf
  refine lv_aload_n hx hb dX17_init_0 rfl (lv_at hl 0 rfl) ?_
  refine lv_aload_n hx hb dX17_init_1 rfl (lv_at hl 1 rfl) ?_
  obtain ⟨g2, hf⟩ := gd_some hf
  obtain ⟨gq2, hf⟩ := gd_some hf
  obtain ⟨s2, e2, hf⟩ := bnd_some hf
  refine aw_pR e2 hC hW g2 gq2 fl_X17_3 (Or.inr ⟨hnm, ff_X17_3⟩) rfl dX17_init_2 (fun H locs hW => ?_)
  have g2 := ko_pR e2 g2
  refine lv_aload_n hx hb dX17_init_5 rfl (lv_at hl 0 rfl) ?_
  refine lv_aload_n hx hb dX17_init_6 rfl (lv_at hl 2 rfl) ?_
  refine lv_iload_n hx hb dX17_init_7 rfl (lv_at hl 3 rfl) ?_
  refine lv_bipush (v := 40) hx hb dX17_init_8 (by decide) ?_
  obtain ⟨_, s10, h10, hf⟩ := ob_some hf
  refine aw_dI0 (r := o) (As := [.ref (a r2), .int x3, .int 40]) (rest := []) (ct_X15_initw l G a o r2 x3 40 s2 () s10 h10) hC hW hl.1 iy_X15_init (Or.inl q683) rfl rfl (Nat.le_of_ble_eq_true rfl) ⟨Nat.le_of_ble_eq_true rfl, Nat.le_of_ble_eq_true rfl⟩ ⟨Nat.le_of_ble_eq_true rfl, Nat.le_of_ble_eq_true rfl⟩ dX17_init_10 (fun H locs hW => ?_)
  obtain ⟨e1, e2⟩ := so_inj hf
  exact aw_vret hC hW hr (p_eq hP rfl e2) (Nat.le_of_ble_eq_true rfl) (Nat.le_of_ble_eq_true rfl) dX17_init_13
def f_X1_wipe (o : Nat) (s : ST) : Option (Int32 × ST) :=
  gd (o < s.1 ∧ (kd s o).1 = 1) <|
  bnd ((gi s o 35) : Int32) fun v4 =>
  bnd (pI s o 35 0) fun s7 =>
  some (v4, s7)
set_option maxHeartbeats 4000000 in
theorem ct_X1_wipe (l : Launch) (G : GM) (a : Nat → Nat) (o : Nat) (s : ST) (rv : Int32) (sf : ST) (hf : f_X1_wipe o s = some (rv, sf)) : MD l G yX1_wipe (ws_ yX1_wipe cX1_wipe 2 (some .int)) 0 [.ref (a o)] a s (some (.int rv)) sf := by
  refine md_of (d := 0) (lv := [(0, .ref (a o))]) (Or.inl (by decide)) (Nat.le_of_ble_eq_true rfl) rfl ?_
  intro p e s0 m args below meth c ls A P hP hC hr hnm hW hl
  have hx := hC.1
  have hb := hC.2.1
  have hts := hC.2.2.2.2.1
  unfold f_X1_wipe at hf
  refine lv_aload_n hx hb dX1_wipe_0 rfl (lv_at hl 0 rfl) ?_
  obtain ⟨g1, hf⟩ := gd_some hf
  refine aw_gI hC hW g1 fl_X1_488 rfl dX1_wipe_1 ?_
  obtain ⟨v4, ev4, hf⟩ := bnd_some hf
  refine top_i ev4 ?_
  refine lv_istore_n (lv' := [(1, .int v4), (0, .ref (a o))]) hx hb dX1_wipe_4 rfl hl (by decide) rfl (fun ls hl => ?_)
  refine lv_aload_n hx hb dX1_wipe_5 rfl (lv_at hl 1 rfl) ?_
  refine lv_iconst (v := 0) hx hb dX1_wipe_6 (by decide) ?_
  obtain ⟨s7, e7, hf⟩ := bnd_some hf
  refine aw_pI e7 hC hW g1 fl_X1_488 (Or.inl fn_0_35) rfl rfl rfl dX1_wipe_7 (fun H locs hW => ?_)
  have g1 := ko_pI e7 g1
  refine lv_iload_n hx hb dX1_wipe_10 rfl (lv_at hl 0 rfl) ?_
  obtain ⟨e1, e2⟩ := so_inj hf
  exact aw_iret hC hW hr rfl (p_eq hP (congrArg (fun z => some (Value.int z)) e1) e2) (Nat.le_of_ble_eq_true rfl) (Nat.le_of_ble_eq_true rfl) dX1_wipe_11
