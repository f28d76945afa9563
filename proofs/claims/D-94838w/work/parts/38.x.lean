set_option maxRecDepth 100000
def f_X1_then_b58 : Nat → Nat → Int32 → ST → Option (Int32 × ST)
  | 0, _, _, _ => none
  | n + 1, r0, x2, s =>
  gd (r0 < s.1 ∧ (kd s r0).1 = 1) <|
  if (gi s r0 4) ≤ x2 then ((gr s r0 2).bind fun q97 =>
  gd (q97 < s.1 ∧ (kd s q97).1 = 2) <|
  some ((gi s q97 7), s)) else (gr s r0 2).bind fun q68 =>
  gd (q68 < s.1 ∧ (kd s q68).1 = 2) <|
  (gr s q68 1).bind fun q71 =>
  gd (q71 < s.1 ∧ (kd s q71).1 = 100 ∧ ¬ ((x2 : Int32) < 0 ∨ (kd s q71).2 ≤ (x2 : Int32).toNatClampNeg)) <|
  (gr s r0 1).bind fun q77 =>
  gd (q77 < s.1 ∧ (kd s q77).1 = 2) <|
  (gr s q77 1).bind fun q80 =>
  gd (q80 < s.1 ∧ (kd s q80).1 = 100 ∧ ¬ ((x2 : Int32) < 0 ∨ (kd s q80).2 ≤ (x2 : Int32).toNatClampNeg)) <|
  ob (f_X1_tell r0 ((((gi s q71 (x2 : Int32).toNatClampNeg) - (gi s q80 (x2 : Int32).toNatClampNeg)) : Int32).toInt64) s) fun _ s87 =>
  bnd (x2 + 1 : Int32) fun v90 =>
  f_X1_then_b58 n r0 v90 s87
def f_X1_then_b28 : Nat → Nat → Int32 → Int32 → ST → Option (Int32 × ST)
  | 0, _, _, _, _ => none
  | n + 1, r0, x1, x2, s =>
  if x1 ≤ x2 then (gd (r0 < s.1 ∧ (kd s r0).1 = 1) <|
  bnd (pI s r0 12 0) fun s53 =>
  f_X1_then_b58 fuel r0 0 s53) else gd (r0 < s.1 ∧ (kd s r0).1 = 1) <|
  (gr s r0 2).bind fun q35 =>
  (gr s r0 16).bind fun q39 =>
  ob (f_X1_goes r0 q35 q39 s) fun _ s42 =>
  bnd (x2 + 1 : Int32) fun v45 =>
  f_X1_then_b28 n r0 x1 v45 s42
def f_X1_then (o : Nat) (x1 : Int32) (s : ST) : Option (Int32 × ST) :=
  bnd (p_in ((x1 : Int32).toInt64) 0 99) fun v6 =>
  if v6 = 0 then (some ((-2), s)) else gd (o < s.1 ∧ (kd s o).1 = 1) <|
  (gr s o 2).bind fun q16 =>
  (gr s o 1).bind fun q20 =>
  gd (q16 < s.1 ∧ (kd s q16).1 = 2) <|
  ob (f_X2_be q16 q20 s) fun _ s23 =>
  f_X1_then_b28 fuel o x1 0 s23
set_option maxHeartbeats 4000000 in
theorem ct_X1_then (l : Launch) (G : GM) (a : Nat → Nat) (o : Nat) (x1 : Int32) (s : ST) (rv : Int32) (sf : ST) (hf : f_X1_then o x1 s = some (rv, sf)) : MD l G yX1_then (ws_ yX1_then cX1_then 3 (some .int)) 127 [.ref (a o), .int x1] a s (some (.int rv)) sf := by
  refine md_of (d := 127) (lv := [(0, .ref (a o)), (1, .int x1)]) (Or.inl (by decide)) (Nat.le_of_ble_eq_true rfl) rfl ?_
  intro p e s0 m args below meth c ls A P hP hC hr hnm hW hl
  have hx := hC.1
  have hb := hC.2.1
  have hts := hC.2.2.2.2.1
  have B58 : ∀ (n : Nat), ∀ (r0 : Nat) (x2 : Int32) (s : ST), f_X1_then_b58 n r0 x2 s = some (rv, sf) → ∀ (H : Heap) (locs : List Loc) (ls : Array Slot), lv_has ls 3 [(0, .ref (a r0)), (2, .int x2)] → AW G a A s s0.heap H locs → WB p l e (rmD 127) s0 m args below meth c H locs G A P 58 ls [] := by
    intro n
    induction n with
    | zero => intro r0 x2 s hf; cases hf
    | succ n ih =>
      intro r0 x2 s hf H locs ls hl hW
      rw [f_X1_then_b58] at hf
      refine lv_iload_n hx hb dX1_then_58 rfl (lv_at hl 1 rfl) ?_
      refine lv_aload_n hx hb dX1_then_59 rfl (lv_at hl 0 rfl) ?_
      obtain ⟨g60, hf⟩ := gd_some hf
      refine aw_gI hC hW g60 fl_X1_157 rfl dX1_then_60 ?_
      refine lv_icmp_ge (tgt := 96) hx hb dX1_then_63 (by decide) (fun c63 => ?_) (fun c63 => ?_)
      · have hf := ifp c63 hf
        refine lv_aload_n hx hb dX1_then_96 rfl (lv_at hl 0 rfl) ?_
        obtain ⟨q97, hq97, hf⟩ := bi_some hf
        refine aw_gR hC hW g60 fl_X1_22 rfl hq97 dX1_then_97 ?_
        obtain ⟨g100, hf⟩ := gd_some hf
        refine aw_gI hC hW g100 fl_X1_315 rfl dX1_then_100 ?_
        obtain ⟨e1, e2⟩ := so_inj hf
        exact aw_iret hC hW hr rfl (p_eq hP (congrArg (fun z => some (Value.int z)) e1) e2) (Nat.le_of_ble_eq_true rfl) (Nat.le_of_ble_eq_true rfl) dX1_then_103
      · have hf := ifn c63 hf
        refine lv_aload_n hx hb dX1_then_66 rfl (lv_at hl 0 rfl) ?_
        refine lv_aload_n hx hb dX1_then_67 rfl (lv_at hl 0 rfl) ?_
        obtain ⟨q68, hq68, hf⟩ := bi_some hf
        refine aw_gR hC hW g60 fl_X1_22 rfl hq68 dX1_then_68 ?_
        obtain ⟨g71, hf⟩ := gd_some hf
        obtain ⟨q71, hq71, hf⟩ := bi_some hf
        refine aw_gR hC hW g71 fl_X1_239 rfl hq71 dX1_then_71 ?_
        refine lv_iload_n hx hb dX1_then_74 rfl (lv_at hl 1 rfl) ?_
        obtain ⟨g75, hf⟩ := gd_some hf
        refine aw_iald hC hW g75 dX1_then_75 ?_
        refine lv_aload_n hx hb dX1_then_76 rfl (lv_at hl 0 rfl) ?_
        obtain ⟨q77, hq77, hf⟩ := bi_some hf
        refine aw_gR hC hW g60 fl_X1_18 rfl hq77 dX1_then_77 ?_
        obtain ⟨g80, hf⟩ := gd_some hf
        obtain ⟨q80, hq80, hf⟩ := bi_some hf
        refine aw_gR hC hW g80 fl_X1_239 rfl hq80 dX1_then_80 ?_
        refine lv_iload_n hx hb dX1_then_83 rfl (lv_at hl 1 rfl) ?_
        obtain ⟨g84, hf⟩ := gd_some hf
        refine aw_iald hC hW g84 dX1_then_84 ?_
        refine lv_isub hx hb dX1_then_85 ?_
        refine lv_i2l (v := (((gi s q71 (x2 : Int32).toNatClampNeg) - (gi s q80 (x2 : Int32).toNatClampNeg)) : Int32).toInt64) hx hb dX1_then_86 rfl ?_
        obtain ⟨_, s87, h87, hf⟩ := ob_some hf
        refine aw_dV0 (r := r0) (As := [.long ((((gi s q71 (x2 : Int32).toNatClampNeg) - (gi s q80 (x2 : Int32).toNatClampNeg)) : Int32).toInt64)]) (rest := []) (ct_X1_tell l G a r0 ((((gi s q71 (x2 : Int32).toNatClampNeg) - (gi s q80 (x2 : Int32).toNatClampNeg)) : Int32).toInt64) s () s87 h87) hC hW hl.1 vy_X1_tell (Or.inl q1013) g60 rfl rfl rfl rfl (Nat.le_of_ble_eq_true rfl) ⟨Nat.le_of_ble_eq_true rfl, Nat.le_of_ble_eq_true rfl⟩ ⟨Nat.le_of_ble_eq_true rfl, Nat.le_of_ble_eq_true rfl⟩ dX1_then_87 (fun H locs hW => ?_)
        obtain ⟨v90, ev90, hf⟩ := bnd_some hf
        refine lv_iinc (v := v90) (lv' := [(2, .int v90), (0, .ref (a r0))]) hx hb dX1_then_90 hl (k := 1) rfl (by rw [ev90]; rfl) (by decide) rfl (fun ls hl => ?_)
        refine lv_goto (tgt := 58) hx hb dX1_then_93 (by decide) ?_
        exact ih r0 v90 s87 hf _ _ _ (lv_sub hl [1, 0] rfl) hW
  have B28 : ∀ (n : Nat), ∀ (r0 : Nat) (x1 : Int32) (x2 : Int32) (s : ST), f_X1_then_b28 n r0 x1 x2 s = some (rv, sf) → ∀ (H : Heap) (locs : List Loc) (ls : Array Slot), lv_has ls 3 [(0, .ref (a r0)), (1, .int x1), (2, .int x2)] → AW G a A s s0.heap H locs → WB p l e (rmD 127) s0 m args below meth c H locs G A P 28 ls [] := by
    intro n
    induction n with
    | zero => intro r0 x1 x2 s hf; cases hf
    | succ n ih =>
      intro r0 x1 x2 s hf H locs ls hl hW
      rw [f_X1_then_b28] at hf
      refine lv_iload_n hx hb dX1_then_28 rfl (lv_at hl 2 rfl) ?_
      refine lv_iload_n hx hb dX1_then_29 rfl (lv_at hl 1 rfl) ?_
      refine lv_icmp_ge (tgt := 51) hx hb dX1_then_30 (by decide) (fun c30 => ?_) (fun c30 => ?_)
      · have hf := ifp c30 hf
        refine lv_aload_n hx hb dX1_then_51 rfl (lv_at hl 0 rfl) ?_
        refine lv_iconst (v := 0) hx hb dX1_then_52 (by decide) ?_
        obtain ⟨g53, hf⟩ := gd_some hf
        obtain ⟨s53, e53, hf⟩ := bnd_some hf
        refine aw_pI e53 hC hW g53 fl_X1_154 (Or.inl fn_0_12) rfl rfl rfl dX1_then_53 (fun H locs hW => ?_)
        have g53 := ko_pI e53 g53
        refine lv_iconst (v := 0) hx hb dX1_then_56 (by decide) ?_
        refine lv_istore_n (lv' := [(2, .int 0), (0, .ref (a r0)), (1, .int x1)]) hx hb dX1_then_57 rfl hl (by decide) rfl (fun ls hl => ?_)
        exact B58 fuel r0 0 s53 hf _ _ _ (lv_sub hl [1, 0] rfl) hW
      · have hf := ifn c30 hf
        refine lv_aload_n hx hb dX1_then_33 rfl (lv_at hl 0 rfl) ?_
        refine lv_aload_n hx hb dX1_then_34 rfl (lv_at hl 0 rfl) ?_
        obtain ⟨g35, hf⟩ := gd_some hf
        obtain ⟨q35, hq35, hf⟩ := bi_some hf
        refine aw_gR hC hW g35 fl_X1_22 rfl hq35 dX1_then_35 ?_
        refine lv_aload_n hx hb dX1_then_38 rfl (lv_at hl 0 rfl) ?_
        obtain ⟨q39, hq39, hf⟩ := bi_some hf
        refine aw_gR hC hW g35 fl_X1_54 rfl hq39 dX1_then_39 ?_
        obtain ⟨_, s42, h42, hf⟩ := ob_some hf
        refine aw_dV0 (r := r0) (As := [.ref (a q35), .ref (a q39)]) (rest := []) (ct_X1_goes l G a r0 q35 q39 s () s42 h42) hC hW hl.1 vy_X1_goes (Or.inl q922) g35 rfl rfl rfl rfl (Nat.le_of_ble_eq_true rfl) ⟨Nat.le_of_ble_eq_true rfl, Nat.le_of_ble_eq_true rfl⟩ ⟨Nat.le_of_ble_eq_true rfl, Nat.le_of_ble_eq_true rfl⟩ dX1_then_42 (fun H locs hW => ?_)
        obtain ⟨v45, ev45, hf⟩ := bnd_some hf
        refine lv_iinc (v := v45) (lv' := [(2, .int v45), (0, .ref (a r0)), (1, .int x1)]) hx hb dX1_then_45 hl (k := 2) rfl (by rw [ev45]; rfl) (by decide) rfl (fun ls hl => ?_)
        refine lv_goto (tgt := 28) hx hb dX1_then_48 (by decide) ?_
        exact ih r0 x1 v45 s42 hf _ _ _ (lv_sub hl [1, 2, 0] rfl) hW
  unfold f_X1_then at hf
  refine lv_iload_n hx hb dX1_then_0 rfl (lv_at hl 1 rfl) ?_
  refine lv_i2l (v := (x1 : Int32).toInt64) hx hb dX1_then_1 rfl ?_
  refine lv_lconst (v := 0) hx hb dX1_then_2 (by decide) ?_
  refine lv_ldc2 (v := 99) hx hb hC.2.2.2.1 (hts _ q1021) dX1_then_3 ?_
  obtain ⟨v6, ev6, hf⟩ := bnd_some hf
  refine aw_dS1 (As := [.long ((x1 : Int32).toInt64), .long 0, .long 99]) (rest := []) (pc_X1_in l G a ((x1 : Int32).toInt64) 0 99 s) hC hW hl.1 sy_X1_in (Or.inl q514) rfl rfl (Nat.le_of_ble_eq_true rfl) ⟨Nat.le_of_ble_eq_true rfl, Nat.le_of_ble_eq_true rfl⟩ ⟨Nat.le_of_ble_eq_true rfl, Nat.le_of_ble_eq_true rfl⟩ dX1_then_6 (fun H locs hW => ?_)
  refine top_i ev6 ?_
  refine lv_if_ne (tgt := 15) hx hb dX1_then_9 (by decide) (fun c9 => ?_) (fun c9 => ?_)
  · have hf := ifn c9 hf
    refine lv_aload_n hx hb dX1_then_15 rfl (lv_at hl 0 rfl) ?_
    obtain ⟨g16, hf⟩ := gd_some hf
    obtain ⟨q16, hq16, hf⟩ := bi_some hf
    refine aw_gR hC hW g16 fl_X1_22 rfl hq16 dX1_then_16 ?_
    refine lv_aload_n hx hb dX1_then_19 rfl (lv_at hl 0 rfl) ?_
    obtain ⟨q20, hq20, hf⟩ := bi_some hf
    refine aw_gR hC hW g16 fl_X1_18 rfl hq20 dX1_then_20 ?_
    obtain ⟨g23, hf⟩ := gd_some hf
    obtain ⟨_, s23, h23, hf⟩ := ob_some hf
    refine aw_dV0 (r := q16) (As := [.ref (a q20)]) (rest := []) (ct_X2_be l G a q16 q20 s () s23 h23) hC hW hl.1 vy_X2_be (Or.inl q917) g23 rfl rfl rfl rfl (Nat.le_of_ble_eq_true rfl) ⟨Nat.le_of_ble_eq_true rfl, Nat.le_of_ble_eq_true rfl⟩ ⟨Nat.le_of_ble_eq_true rfl, Nat.le_of_ble_eq_true rfl⟩ dX1_then_23 (fun H locs hW => ?_)
    refine lv_iconst (v := 0) hx hb dX1_then_26 (by decide) ?_
    refine lv_istore_n (lv' := [(2, .int 0), (0, .ref (a o)), (1, .int x1)]) hx hb dX1_then_27 rfl hl (by decide) rfl (fun ls hl => ?_)
    exact B28 fuel o x1 0 s23 hf _ _ _ (lv_sub hl [1, 2, 0] rfl) hW
  · have hf := ifp c9 hf
    refine lv_bipush (v := (-2)) hx hb dX1_then_12 (by decide) ?_
    obtain ⟨e1, e2⟩ := so_inj hf
    exact aw_iret hC hW hr rfl (p_eq hP (congrArg (fun z => some (Value.int z)) e1) e2) (Nat.le_of_ble_eq_true rfl) (Nat.le_of_ble_eq_true rfl) dX1_then_14
def f_X1_weeks_b60 (K29 : Nat → Int32 → Int32 → Int32 → Int32 → ST → Option (Int32 × ST)) (r0 : Nat) (x1 : Int32) (x3 : Int32) (x4 : Int32) (t0 : Int32) (t1 : Int32) (s : ST) : Option (Int32 × ST) :=
  bnd ((t1 + t0) : Int32) fun v61 =>
  gd (r0 < s.1 ∧ (kd s r0).1 = 1) <|
  bnd ((x3 + (gi s r0 22)) : Int32) fun v68 =>
  bnd (x4 + 1 : Int32) fun v69 =>
  K29 r0 x1 v61 v68 v69 s
def f_X1_weeks_b29 : Nat → Nat → Int32 → Int32 → Int32 → Int32 → ST → Option (Int32 × ST)
  | 0, _, _, _, _, _, _ => none
  | n + 1, r0, x1, x2, x3, x4, s =>
  if x1 ≤ x4 then (gd (r0 < s.1 ∧ (kd s r0).1 = 1) <|
  bnd (pI s r0 12 0) fun s77 =>
  (gr s77 r0 1).bind fun q82 =>
  gd (q82 < s77.1 ∧ (kd s77 q82).1 = 2) <|
  ob (f_X1_tell r0 (((gi s77 q82 7) : Int32).toInt64) s77) fun _ s89 =>
  gd (r0 < s89.1 ∧ (kd s89 r0).1 = 1) <|
  ob (f_X1_tell r0 ((x3 : Int32).toInt64) s89) fun _ s95 =>
  some (x2, s95)) else gd (r0 < s.1 ∧ (kd s r0).1 = 1) <|
  (gr s r0 1).bind fun q37 =>
  (gr s r0 16).bind fun q41 =>
  ob (f_X1_goes r0 q37 q41 s) fun _ s44 =>
  gd (r0 < s44.1 ∧ (kd s44 r0).1 = 1) <|
  if (gi s44 r0 21) = 0 then (f_X1_weeks_b60 (f_X1_weeks_b29 n) r0 x1 x3 x4 0 x2 s44) else f_X1_weeks_b60 (f_X1_weeks_b29 n) r0 x1 x3 x4 1 x2 s44
def f_X1_weeks_b22 (r0 : Nat) (x1 : Int32) (s : ST) : Option (Int32 × ST) :=
  f_X1_weeks_b29 fuel r0 x1 0 0 0 s
def f_X1_weeks (o : Nat) (x1 : Int32) (s : ST) : Option (Int32 × ST) :=
  bnd (p_in ((x1 : Int32).toInt64) 0 99) fun v6 =>
  if v6 = 0 then (some ((-1), s)) else if x1 ≤ 0 then (f_X1_weeks_b22 o x1 s) else gd (o < s.1 ∧ (kd s o).1 = 1) <|
  ob (f_X1_remember o s) fun _ s19 =>
  f_X1_weeks_b22 o x1 s19
set_option maxHeartbeats 4000000 in
theorem ct_X1_weeks (l : Launch) (G : GM) (a : Nat → Nat) (o : Nat) (x1 : Int32) (s : ST) (rv : Int32) (sf : ST) (hf : f_X1_weeks o x1 s = some (rv, sf)) : MD l G yX1_weeks (ws_ yX1_weeks cX1_weeks 5 (some .int)) 127 [.ref (a o), .int x1] a s (some (.int rv)) sf := by
  refine md_of (d := 127) (lv := [(0, .ref (a o)), (1, .int x1)]) (Or.inl (by decide)) (Nat.le_of_ble_eq_true rfl) rfl ?_
  intro p e s0 m args below meth c ls A P hP hC hr hnm hW hl
  have hx := hC.1
  have hb := hC.2.1
  have hts := hC.2.2.2.2.1
  have B60 : ∀ (K29 : Nat → Int32 → Int32 → Int32 → Int32 → ST → Option (Int32 × ST)) (hK29 : ∀ (r0 : Nat) (x1 : Int32) (x2 : Int32) (x3 : Int32) (x4 : Int32) (s : ST), K29 r0 x1 x2 x3 x4 s = some (rv, sf) → ∀ (H : Heap) (locs : List Loc) (ls : Array Slot), lv_has ls 5 [(0, .ref (a r0)), (1, .int x1), (2, .int x2), (3, .int x3), (4, .int x4)] → AW G a A s s0.heap H locs → WB p l e (rmD 127) s0 m args below meth c H locs G A P 29 ls []), ∀ (r0 : Nat) (x1 : Int32) (x3 : Int32) (x4 : Int32) (t0 : Int32) (t1 : Int32) (s : ST), f_X1_weeks_b60 K29 r0 x1 x3 x4 t0 t1 s = some (rv, sf) → ∀ (H : Heap) (locs : List Loc) (ls : Array Slot), lv_has ls 5 [(0, .ref (a r0)), (1, .int x1), (3, .int x3), (4, .int x4)] → AW G a A s s0.heap H locs → WB p l e (rmD 127) s0 m args below meth c H locs G A P 60 ls [.int t0, .int t1] := by
    intro K29 hK29 r0 x1 x3 x4 t0 t1 s hf H locs ls hl hW
    unfold f_X1_weeks_b60 at hf
    refine lv_iadd hx hb dX1_weeks_60 ?_
    obtain ⟨v61, ev61, hf⟩ := bnd_some hf
    refine top_i ev61 ?_
    refine lv_istore_n (lv' := [(2, .int v61), (0, .ref (a r0)), (1, .int x1), (3, .int x3), (4, .int x4)]) hx hb dX1_weeks_61 rfl hl (by decide) rfl (fun ls hl => ?_)
    refine lv_iload_n hx hb dX1_weeks_62 rfl (lv_at hl 3 rfl) ?_
    refine lv_aload_n hx hb dX1_weeks_63 rfl (lv_at hl 1 rfl) ?_
    obtain ⟨g64, hf⟩ := gd_some hf
    refine aw_gI hC hW g64 fl_X1_336 rfl dX1_weeks_64 ?_
    refine lv_iadd hx hb dX1_weeks_67 ?_
    obtain ⟨v68, ev68, hf⟩ := bnd_some hf
    refine top_i ev68 ?_
    refine lv_istore_n (lv' := [(3, .int v68), (2, .int v61), (0, .ref (a r0)), (1, .int x1), (4, .int x4)]) hx hb dX1_weeks_68 rfl hl (by decide) rfl (fun ls hl => ?_)
    obtain ⟨v69, ev69, hf⟩ := bnd_some hf
    refine lv_iinc (v := v69) (lv' := [(4, .int v69), (3, .int v68), (2, .int v61), (0, .ref (a r0)), (1, .int x1)]) hx hb dX1_weeks_69 hl (k := 4) rfl (by rw [ev69]; rfl) (by decide) rfl (fun ls hl => ?_)
    refine lv_goto (tgt := 29) hx hb dX1_weeks_72 (by decide) ?_
    exact hK29 r0 x1 v61 v68 v69 s hf _ _ _ (lv_sub hl [3, 4, 2, 1, 0] rfl) hW
  have B29 : ∀ (n : Nat), ∀ (r0 : Nat) (x1 : Int32) (x2 : Int32) (x3 : Int32) (x4 : Int32) (s : ST), f_X1_weeks_b29 n r0 x1 x2 x3 x4 s = some (rv, sf) → ∀ (H : Heap) (locs : List Loc) (ls : Array Slot), lv_has ls 5 [(0, .ref (a r0)), (1, .int x1), (2, .int x2), (3, .int x3), (4, .int x4)] → AW G a A s s0.heap H locs → WB p l e (rmD 127) s0 m args below meth c H locs G A P 29 ls [] := by
    intro n
    induction n with
    | zero => intro r0 x1 x2 x3 x4 s hf; cases hf
    | succ n ih =>
      intro r0 x1 x2 x3 x4 s hf H locs ls hl hW
      rw [f_X1_weeks_b29] at hf
      refine lv_iload hx hb dX1_weeks_29 (lv_at hl 4 rfl) ?_
      refine lv_iload_n hx hb dX1_weeks_31 rfl (lv_at hl 1 rfl) ?_
      refine lv_icmp_ge (tgt := 75) hx hb dX1_weeks_32 (by decide) (fun c32 => ?_) (fun c32 => ?_)
      · have hf := ifp c32 hf
        refine lv_aload_n hx hb dX1_weeks_75 rfl (lv_at hl 0 rfl) ?_
        refine lv_iconst (v := 0) hx hb dX1_weeks_76 (by decide) ?_
        obtain ⟨g77, hf⟩ := gd_some hf
        obtain ⟨s77, e77, hf⟩ := bnd_some hf
        refine aw_pI e77 hC hW g77 fl_X1_154 (Or.inl fn_0_12) rfl rfl rfl dX1_weeks_77 (fun H locs hW => ?_)
        have g77 := ko_pI e77 g77
        refine lv_aload_n hx hb dX1_weeks_80 rfl (lv_at hl 0 rfl) ?_
        refine lv_aload_n hx hb dX1_weeks_81 rfl (lv_at hl 0 rfl) ?_
        obtain ⟨q82, hq82, hf⟩ := bi_some hf
        refine aw_gR hC hW g77 fl_X1_18 rfl hq82 dX1_weeks_82 ?_
        obtain ⟨g85, hf⟩ := gd_some hf
        refine aw_gI hC hW g85 fl_X1_315 rfl dX1_weeks_85 ?_
        refine lv_i2l (v := ((gi s77 q82 7) : Int32).toInt64) hx hb dX1_weeks_88 rfl ?_
        obtain ⟨_, s89, h89, hf⟩ := ob_some hf
        refine aw_dV0 (r := r0) (As := [.long (((gi s77 q82 7) : Int32).toInt64)]) (rest := []) (ct_X1_tell l G a r0 (((gi s77 q82 7) : Int32).toInt64) s77 () s89 h89) hC hW hl.1 vy_X1_tell (Or.inl q1013) g77 rfl rfl rfl rfl (Nat.le_of_ble_eq_true rfl) ⟨Nat.le_of_ble_eq_true rfl, Nat.le_of_ble_eq_true rfl⟩ ⟨Nat.le_of_ble_eq_true rfl, Nat.le_of_ble_eq_true rfl⟩ dX1_weeks_89 (fun H locs hW => ?_)
        refine lv_aload_n hx hb dX1_weeks_92 rfl (lv_at hl 0 rfl) ?_
        refine lv_iload_n hx hb dX1_weeks_93 rfl (lv_at hl 3 rfl) ?_
        refine lv_i2l (v := (x3 : Int32).toInt64) hx hb dX1_weeks_94 rfl ?_
        obtain ⟨g95, hf⟩ := gd_some hf
        obtain ⟨_, s95, h95, hf⟩ := ob_some hf
        refine aw_dV0 (r := r0) (As := [.long ((x3 : Int32).toInt64)]) (rest := []) (ct_X1_tell l G a r0 ((x3 : Int32).toInt64) s89 () s95 h95) hC hW hl.1 vy_X1_tell (Or.inl q1013) g95 rfl rfl rfl rfl (Nat.le_of_ble_eq_true rfl) ⟨Nat.le_of_ble_eq_true rfl, Nat.le_of_ble_eq_true rfl⟩ ⟨Nat.le_of_ble_eq_true rfl, Nat.le_of_ble_eq_true rfl⟩ dX1_weeks_95 (fun H locs hW => ?_)
        refine lv_iload_n hx hb dX1_weeks_98 rfl (lv_at hl 2 rfl) ?_
        obtain ⟨e1, e2⟩ := so_inj hf
        exact aw_iret hC hW hr rfl (p_eq hP (congrArg (fun z => some (Value.int z)) e1) e2) (Nat.le_of_ble_eq_true rfl) (Nat.le_of_ble_eq_true rfl) dX1_weeks_99
      · have hf := ifn c32 hf
        refine lv_aload_n hx hb dX1_weeks_35 rfl (lv_at hl 0 rfl) ?_
        refine lv_aload_n hx hb dX1_weeks_36 rfl (lv_at hl 0 rfl) ?_
        obtain ⟨g37, hf⟩ := gd_some hf
        obtain ⟨q37, hq37, hf⟩ := bi_some hf
        refine aw_gR hC hW g37 fl_X1_18 rfl hq37 dX1_weeks_37 ?_
        refine lv_aload_n hx hb dX1_weeks_40 rfl (lv_at hl 0 rfl) ?_
        obtain ⟨q41, hq41, hf⟩ := bi_some hf
        refine aw_gR hC hW g37 fl_X1_54 rfl hq41 dX1_weeks_41 ?_
        obtain ⟨_, s44, h44, hf⟩ := ob_some hf
        refine aw_dV0 (r := r0) (As := [.ref (a q37), .ref (a q41)]) (rest := []) (ct_X1_goes l G a r0 q37 q41 s () s44 h44) hC hW hl.1 vy_X1_goes (Or.inl q922) g37 rfl rfl rfl rfl (Nat.le_of_ble_eq_true rfl) ⟨Nat.le_of_ble_eq_true rfl, Nat.le_of_ble_eq_true rfl⟩ ⟨Nat.le_of_ble_eq_true rfl, Nat.le_of_ble_eq_true rfl⟩ dX1_weeks_44 (fun H locs hW => ?_)
        refine lv_iload_n hx hb dX1_weeks_47 rfl (lv_at hl 2 rfl) ?_
        refine lv_aload_n hx hb dX1_weeks_48 rfl (lv_at hl 0 rfl) ?_
        obtain ⟨g49, hf⟩ := gd_some hf
        refine aw_gI hC hW g49 fl_X1_332 rfl dX1_weeks_49 ?_
        refine lv_if_eq (tgt := 59) hx hb dX1_weeks_52 (by decide) (fun c52 => ?_) (fun c52 => ?_)
        · have hf := ifp c52 hf
          refine lv_iconst (v := 0) hx hb dX1_weeks_59 (by decide) ?_
          exact B60 (f_X1_weeks_b29 n) ih r0 x1 x3 x4 0 x2 s44 hf _ _ _ (lv_sub hl [0, 1, 3, 4] rfl) hW
        · have hf := ifn c52 hf
          refine lv_iconst (v := 1) hx hb dX1_weeks_55 (by decide) ?_
          refine lv_goto (tgt := 60) hx hb dX1_weeks_56 (by decide) ?_
          exact B60 (f_X1_weeks_b29 n) ih r0 x1 x3 x4 1 x2 s44 hf _ _ _ (lv_sub hl [0, 1, 3, 4] rfl) hW
  have B22 : ∀ (r0 : Nat) (x1 : Int32) (s : ST), f_X1_weeks_b22 r0 x1 s = some (rv, sf) → ∀ (H : Heap) (locs : List Loc) (ls : Array Slot), lv_has ls 5 [(0, .ref (a r0)), (1, .int x1)] → AW G a A s s0.heap H locs → WB p l e (rmD 127) s0 m args below meth c H locs G A P 22 ls [] := by
    intro r0 x1 s hf H locs ls hl hW
    unfold f_X1_weeks_b22 at hf
    refine lv_iconst (v := 0) hx hb dX1_weeks_22 (by decide) ?_
    refine lv_istore_n (lv' := [(2, .int 0), (0, .ref (a r0)), (1, .int x1)]) hx hb dX1_weeks_23 rfl hl (by decide) rfl (fun ls hl => ?_)
    refine lv_iconst (v := 0) hx hb dX1_weeks_24 (by decide) ?_
    refine lv_istore_n (lv' := [(3, .int 0), (2, .int 0), (0, .ref (a r0)), (1, .int x1)]) hx hb dX1_weeks_25 rfl hl (by decide) rfl (fun ls hl => ?_)
    refine lv_iconst (v := 0) hx hb dX1_weeks_26 (by decide) ?_
    refine lv_istore (lv' := [(4, .int 0), (3, .int 0), (2, .int 0), (0, .ref (a r0)), (1, .int x1)]) hx hb dX1_weeks_27 hl (by decide) rfl (fun ls hl => ?_)
    exact B29 fuel r0 x1 0 0 0 s hf _ _ _ (lv_sub hl [3, 4, 2, 1, 0] rfl) hW
  unfold f_X1_weeks at hf
  refine lv_iload_n hx hb dX1_weeks_0 rfl (lv_at hl 1 rfl) ?_
  refine lv_i2l (v := (x1 : Int32).toInt64) hx hb dX1_weeks_1 rfl ?_
  refine lv_lconst (v := 0) hx hb dX1_weeks_2 (by decide) ?_
  refine lv_ldc2 (v := 99) hx hb hC.2.2.2.1 (hts _ q1021) dX1_weeks_3 ?_
  obtain ⟨v6, ev6, hf⟩ := bnd_some hf
  refine aw_dS1 (As := [.long ((x1 : Int32).toInt64), .long 0, .long 99]) (rest := []) (pc_X1_in l G a ((x1 : Int32).toInt64) 0 99 s) hC hW hl.1 sy_X1_in (Or.inl q514) rfl rfl (Nat.le_of_ble_eq_true rfl) ⟨Nat.le_of_ble_eq_true rfl, Nat.le_of_ble_eq_true rfl⟩ ⟨Nat.le_of_ble_eq_true rfl, Nat.le_of_ble_eq_true rfl⟩ dX1_weeks_6 (fun H locs hW => ?_)
  refine top_i ev6 ?_
  refine lv_if_ne (tgt := 14) hx hb dX1_weeks_9 (by decide) (fun c9 => ?_) (fun c9 => ?_)
  · have hf := ifn c9 hf
    refine lv_iload_n hx hb dX1_weeks_14 rfl (lv_at hl 1 rfl) ?_
    refine lv_if_le (tgt := 22) hx hb dX1_weeks_15 (by decide) (fun c15 => ?_) (fun c15 => ?_)
    · have hf := ifp c15 hf
      exact B22 o x1 s hf _ _ _ (lv_sub hl [0, 1] rfl) hW
    · have hf := ifn c15 hf
      refine lv_aload_n hx hb dX1_weeks_18 rfl (lv_at hl 0 rfl) ?_
      obtain ⟨g19, hf⟩ := gd_some hf
      obtain ⟨_, s19, h19, hf⟩ := ob_some hf
      refine aw_dV0 (r := o) (As := []) (rest := []) (ct_X1_remember l G a o s () s19 h19) hC hW hl.1 vy_X1_remember (Or.inl q913) g19 rfl rfl rfl rfl (Nat.le_of_ble_eq_true rfl) ⟨Nat.le_of_ble_eq_true rfl, Nat.le_of_ble_eq_true rfl⟩ ⟨Nat.le_of_ble_eq_true rfl, Nat.le_of_ble_eq_true rfl⟩ dX1_weeks_19 (fun H locs hW => ?_)
      exact B22 o x1 s19 hf _ _ _ (lv_sub hl [0, 1] rfl) hW
  · have hf := ifp c9 hf
    refine lv_iconst (v := (-1)) hx hb dX1_weeks_12 (by decide) ?_
    obtain ⟨e1, e2⟩ := so_inj hf
    exact aw_iret hC hW hr rfl (p_eq hP (congrArg (fun z => some (Value.int z)) e1) e2) (Nat.le_of_ble_eq_true rfl) (Nat.le_of_ble_eq_true rfl) dX1_weeks_13
def f_wanted (o : Nat) (i : Int32) (s : ST) : Option (Int32 × ST) :=
  if o < s.1 ∧ (kd s o).1 = 10 then f_X10_isSo o i s else
  if o < s.1 ∧ (kd s o).1 = 11 then f_X11_isSo o i s else
  if o < s.1 ∧ (kd s o).1 = 12 then f_X12_isSo o i s else
  if o < s.1 ∧ (kd s o).1 = 13 then f_X13_isSo o i s else
  none
theorem fy_X10_isSo : FY yWanted yX10_isSo cX10_isSo 3 (some .boolean) 1 := ⟨List.mem_of_getElem? (i := 6) rfl, q1129, q1131, q84, q1133, by decide +kernel, by decide +kernel, by decide +kernel⟩
theorem fy_X11_isSo : FY yWanted yX11_isSo cX11_isSo 3 (some .boolean) 1 := ⟨List.mem_of_getElem? (i := 7) rfl, q1140, q1142, q85, q1144, by decide +kernel, by decide +kernel, by decide +kernel⟩
theorem fy_X12_isSo : FY yWanted yX12_isSo cX12_isSo 3 (some .boolean) 1 := ⟨List.mem_of_getElem? (i := 8) rfl, q1148, q1150, q86, q1152, by decide +kernel, by decide +kernel, by decide +kernel⟩
theorem fy_X13_isSo : FY yWanted yX13_isSo cX13_isSo 3 (some .boolean) 1 := ⟨List.mem_of_getElem? (i := 9) rfl, q1156, q1158, q87, q1160, by decide +kernel, by decide +kernel, by decide +kernel⟩
theorem aw_wanted {p : Program} {l : Launch} {e : Env} {R : Room} {s0 : State} {m : MethodId} {args : Array Value} {below : List Frame} {meth : Method} {c : Code} {H : Heap} {locs : List Loc} {Q : State → Prop} {cc : ByteArray} {pc nL : Nat} {ls : Array Slot} {rest st0 : List Value} {G : GM} {A : Nat → Prop} {a : Nat → Nat} {s s1 : ST} {own : String} {o : Nat} {i v : Int32} {index count : Nat}
    (h : f_wanted o i s = some (v, s1)) (hC : CX p s0 m args meth c G A cc own nL) (hW : AW G a A s s0.heap H locs) (hls : ls.size = nL) (hk : Cond.methodLink own index yWanted ∈ lw_all) (hst : st0 = .int i :: .ref (a o) :: rest) (hcat : (rest.map fun v => v.category).sum ≤ 8) (hR : 128 ≤ R.frames) (hR2 : 8 + (3 + 11) + 40 * 127 ≤ R.locals) (hdg : decode cc pc = .ok (.invokeinterface index count, 5))
    (kk : ∀ (H : Heap) (locs : List Loc), AW G a A s1 s0.heap H locs → W p l e R s0 m args below meth c H locs 0 0 Q (F0 m (pc + 5) ls (.int v :: rest))) : W p l e R s0 m args below meth c H locs 0 0 Q (F0 m pc ls st0) := by
  unfold f_wanted at h
  by_cases g0 : o < s.1 ∧ (kd s o).1 = 10
  · exact aw_dF1 (ci := 9) (q := (RX10, TX10, 2)) (As := [.int i]) (rest := rest) (ct_X10_isSo l G a o i s v s1 (ifp g0 h)) hC hW hls fy_X10_isSo hk g0 rfl rfl rfl hst hcat ⟨by omega, by omega⟩ ⟨Nat.le_of_ble_eq_true rfl, Nat.le_of_ble_eq_true rfl⟩ hdg kk
  have h := ifn g0 h
  by_cases g1 : o < s.1 ∧ (kd s o).1 = 11
  · exact aw_dF1 (ci := 10) (q := (RX11, TX11, 3)) (As := [.int i]) (rest := rest) (ct_X11_isSo l G a o i s v s1 (ifp g1 h)) hC hW hls fy_X11_isSo hk g1 rfl rfl rfl hst hcat ⟨by omega, by omega⟩ ⟨Nat.le_of_ble_eq_true rfl, Nat.le_of_ble_eq_true rfl⟩ hdg kk
  have h := ifn g1 h
  by_cases g2 : o < s.1 ∧ (kd s o).1 = 12
  · exact aw_dF1 (ci := 11) (q := (RX12, TX12, 3)) (As := [.int i]) (rest := rest) (ct_X12_isSo l G a o i s v s1 (ifp g2 h)) hC hW hls fy_X12_isSo hk g2 rfl rfl rfl hst hcat ⟨by omega, by omega⟩ ⟨Nat.le_of_ble_eq_true rfl, Nat.le_of_ble_eq_true rfl⟩ hdg kk
  have h := ifn g2 h
  by_cases g3 : o < s.1 ∧ (kd s o).1 = 13
  · exact aw_dF1 (ci := 12) (q := (RX13, TX13, 2)) (As := [.int i]) (rest := rest) (ct_X13_isSo l G a o i s v s1 (ifp g3 h)) hC hW hls fy_X13_isSo hk g3 rfl rfl rfl hst hcat ⟨by omega, by omega⟩ ⟨Nat.le_of_ble_eq_true rfl, Nat.le_of_ble_eq_true rfl⟩ hdg kk
  have h := ifn g3 h
  cases h
def f_X1_fewestBy_b2 : Nat → Nat → Int32 → ST → Option (Int32 × ST)
  | 0, _, _, _ => none
  | n + 1, r0, x1, s =>
  if 999 < x1 then (some ((-9), s)) else ob (f_wanted r0 x1 s) fun v11 s11 =>
  if v11 = 0 then (bnd (x1 + 1 : Int32) fun v21 =>
  f_X1_fewestBy_b2 n r0 v21 s11) else some (x1, s11)
def f_X1_fewestBy (r0 : Nat) (s : ST) : Option (Int32 × ST) :=
  f_X1_fewestBy_b2 fuel r0 0 s
set_option maxHeartbeats 4000000 in
theorem ct_X1_fewestBy (l : Launch) (G : GM) (a : Nat → Nat) (r0 : Nat) (s : ST) (rv : Int32) (sf : ST) (hf : f_X1_fewestBy r0 s = some (rv, sf)) : MD l G yX1_fewestBy (ws_ yX1_fewestBy cX1_fewestBy 2 (some .int)) 128 [.ref (a r0)] a s (some (.int rv)) sf := by
  refine md_of (d := 128) (lv := [(0, .ref (a r0))]) (Or.inl (by decide)) (Nat.le_of_ble_eq_true rfl) rfl ?_
  intro p e s0 m args below meth c ls A P hP hC hr hnm hW hl
  have hx := hC.1
  have hb := hC.2.1
  have hts := hC.2.2.2.2.1
  have B2 : ∀ (n : Nat), ∀ (r0 : Nat) (x1 : Int32) (s : ST), f_X1_fewestBy_b2 n r0 x1 s = some (rv, sf) → ∀ (H : Heap) (locs : List Loc) (ls : Array Slot), lv_has ls 2 [(0, .ref (a r0)), (1, .int x1)] → AW G a A s s0.heap H locs → WB p l e (rmD 128) s0 m args below meth c H locs G A P 2 ls [] := by
    intro n
    induction n with
    | zero => intro r0 x1 s hf; cases hf
    | succ n ih =>
      intro r0 x1 s hf H locs ls hl hW
      rw [f_X1_fewestBy_b2] at hf
      refine lv_iload_n hx hb dX1_fewestBy_2 rfl (lv_at hl 1 rfl) ?_
      refine lv_sipush (v := 999) hx hb dX1_fewestBy_3 (by decide) ?_
      refine lv_icmp_gt (tgt := 27) hx hb dX1_fewestBy_6 (by decide) (fun c6 => ?_) (fun c6 => ?_)
      · have hf := ifp c6 hf
        refine lv_bipush (v := (-9)) hx hb dX1_fewestBy_27 (by decide) ?_
        obtain ⟨e1, e2⟩ := so_inj hf
        exact aw_iret hC hW hr rfl (p_eq hP (congrArg (fun z => some (Value.int z)) e1) e2) (Nat.le_of_ble_eq_true rfl) (Nat.le_of_ble_eq_true rfl) dX1_fewestBy_29
      · have hf := ifn c6 hf
        refine lv_aload_n hx hb dX1_fewestBy_9 rfl (lv_at hl 0 rfl) ?_
        refine lv_iload_n hx hb dX1_fewestBy_10 rfl (lv_at hl 1 rfl) ?_
        obtain ⟨v11, s11, h11, hf⟩ := ob_some hf
        refine aw_wanted (rest := []) h11 hC hW hl.1 q1125 rfl (Nat.le_of_ble_eq_true rfl) (Nat.le_of_ble_eq_true rfl) (Nat.le_of_ble_eq_true rfl) dX1_fewestBy_11 (fun H locs hW => ?_)
        refine lv_if_eq (tgt := 21) hx hb dX1_fewestBy_16 (by decide) (fun c16 => ?_) (fun c16 => ?_)
        · have hf := ifp c16 hf
          obtain ⟨v21, ev21, hf⟩ := bnd_some hf
          refine lv_iinc (v := v21) (lv' := [(1, .int v21), (0, .ref (a r0))]) hx hb dX1_fewestBy_21 hl (k := 1) rfl (by rw [ev21]; rfl) (by decide) rfl (fun ls hl => ?_)
          refine lv_goto (tgt := 2) hx hb dX1_fewestBy_24 (by decide) ?_
          exact ih r0 v21 s11 hf _ _ _ (lv_sub hl [1, 0] rfl) hW
        · have hf := ifn c16 hf
          refine lv_iload_n hx hb dX1_fewestBy_19 rfl (lv_at hl 1 rfl) ?_
          obtain ⟨e1, e2⟩ := so_inj hf
          exact aw_iret hC hW hr rfl (p_eq hP (congrArg (fun z => some (Value.int z)) e1) e2) (Nat.le_of_ble_eq_true rfl) (Nat.le_of_ble_eq_true rfl) dX1_fewestBy_20
  unfold f_X1_fewestBy at hf
  refine lv_iconst (v := 0) hx hb dX1_fewestBy_0 (by decide) ?_
  refine lv_istore_n (lv' := [(1, .int 0), (0, .ref (a r0))]) hx hb dX1_fewestBy_1 rfl hl (by decide) rfl (fun ls hl => ?_)
  exact B2 fuel r0 0 s hf _ _ _ (lv_sub hl [1, 0] rfl) hW
def f_X1_bribe (o : Nat) (x1 : Int32) (x2 : Int32) (s : ST) : Option (Int32 × ST) :=
  gd (o < s.1 ∧ (kd s o).1 = 1) <|
  ob (f_X1_isAlive o x1 s) fun v2 s2 =>
  if v2 = 0 then (some ((-1), s2)) else bnd (p_in ((x2 : Int32).toInt64) 1 60) fun v14 =>
  if v14 = 0 then (some ((-1), s2)) else gd (o < s2.1 ∧ (kd s2 o).1 = 1) <|
  (gr s2 o 27).bind fun q23 =>
  gd (q23 < s2.1 ∧ (kd s2 q23).1 = 11) <|
  bnd (pI s2 q23 0 x1) fun s27 =>
  (gr s27 o 27).bind fun q31 =>
  gd (q31 < s27.1 ∧ (kd s27 q31).1 = 11) <|
  bnd (pI s27 q31 1 x2) fun s35 =>
  (gr s35 o 27).bind fun q39 =>
  ob (f_X1_fewestBy q39 s35) fun v42 s42 =>
  if v42 = (-9) then (some ((-2), s42)) else gd (o < s42.1 ∧ (kd s42 o).1 = 1) <|
  (gr s42 o 27).bind fun q56 =>
  gd (q56 < s42.1 ∧ (kd s42 q56).1 = 11) <|
  ob (f_X11_isSo q56 v42 s42) fun v60 s60 =>
  gd (o < s60.1 ∧ (kd s60 o).1 = 1) <|
  bnd (pI s60 o 12 0) fun s66 =>
  (gr s66 o 2).bind fun q71 =>
  gd (q71 < s66.1 ∧ (kd s66 q71).1 = 2) <|
  (gr s66 q71 1).bind fun q74 =>
  gd (q74 < s66.1 ∧ (kd s66 q74).1 = 100 ∧ ¬ ((x1 : Int32) < 0 ∨ (kd s66 q74).2 ≤ (x1 : Int32).toNatClampNeg)) <|
  (gr s66 o 1).bind fun q80 =>
  gd (q80 < s66.1 ∧ (kd s66 q80).1 = 2) <|
  (gr s66 q80 1).bind fun q83 =>
  gd (q83 < s66.1 ∧ (kd s66 q83).1 = 100 ∧ ¬ ((x1 : Int32) < 0 ∨ (kd s66 q83).2 ≤ (x1 : Int32).toNatClampNeg)) <|
  ob (f_X1_tell o ((((gi s66 q74 (x1 : Int32).toNatClampNeg) - (gi s66 q83 (x1 : Int32).toNatClampNeg)) : Int32).toInt64) s66) fun _ s90 =>
  some (v42, s90)
set_option maxHeartbeats 4000000 in
theorem ct_X1_bribe (l : Launch) (G : GM) (a : Nat → Nat) (o : Nat) (x1 : Int32) (x2 : Int32) (s : ST) (rv : Int32) (sf : ST) (hf : f_X1_bribe o x1 x2 s = some (rv, sf)) : MD l G yX1_bribe (ws_ yX1_bribe cX1_bribe 4 (some .int)) 129 [.ref (a o), .int x1, .int x2] a s (some (.int rv)) sf := by
  refine md_of (d := 129) (lv := [(0, .ref (a o)), (1, .int x1), (2, .int x2)]) (Or.inl (by decide)) (Nat.le_of_ble_eq_true rfl) rfl ?_
  intro p e s0 m args below meth c ls A P hP hC hr hnm hW hl
  have hx := hC.1
  have hb := hC.2.1
  have hts := hC.2.2.2.2.1
  unfold f_X1_bribe at hf
  refine lv_aload_n hx hb dX1_bribe_0 rfl (lv_at hl 0 rfl) ?_
  refine lv_iload_n hx hb dX1_bribe_1 rfl (lv_at hl 1 rfl) ?_
  obtain ⟨g2, hf⟩ := gd_some hf
  obtain ⟨v2, s2, h2, hf⟩ := ob_some hf
  refine aw_dV1 (r := o) (As := [.int x1]) (rest := []) (ct_X1_isAlive l G a o x1 s v2 s2 h2) hC hW hl.1 vy_X1_isAlive (Or.inl q1040) g2 rfl rfl rfl rfl (Nat.le_of_ble_eq_true rfl) ⟨Nat.le_of_ble_eq_true rfl, Nat.le_of_ble_eq_true rfl⟩ ⟨Nat.le_of_ble_eq_true rfl, Nat.le_of_ble_eq_true rfl⟩ dX1_bribe_2 (fun H locs hW => ?_)
  refine lv_if_eq (tgt := 20) hx hb dX1_bribe_5 (by decide) (fun c5 => ?_) (fun c5 => ?_)
  · have hf := ifp c5 hf
    refine lv_iconst (v := (-1)) hx hb dX1_bribe_20 (by decide) ?_
    obtain ⟨e1, e2⟩ := so_inj hf
    exact aw_iret hC hW hr rfl (p_eq hP (congrArg (fun z => some (Value.int z)) e1) e2) (Nat.le_of_ble_eq_true rfl) (Nat.le_of_ble_eq_true rfl) dX1_bribe_21
  · have hf := ifn c5 hf
    refine lv_iload_n hx hb dX1_bribe_8 rfl (lv_at hl 2 rfl) ?_
    refine lv_i2l (v := (x2 : Int32).toInt64) hx hb dX1_bribe_9 rfl ?_
    refine lv_lconst (v := 1) hx hb dX1_bribe_10 (by decide) ?_
    refine lv_ldc2 (v := 60) hx hb hC.2.2.2.1 (hts _ q1120) dX1_bribe_11 ?_
    obtain ⟨v14, ev14, hf⟩ := bnd_some hf
    refine aw_dS1 (As := [.long ((x2 : Int32).toInt64), .long 1, .long 60]) (rest := []) (pc_X1_in l G a ((x2 : Int32).toInt64) 1 60 s2) hC hW hl.1 sy_X1_in (Or.inl q514) rfl rfl (Nat.le_of_ble_eq_true rfl) ⟨Nat.le_of_ble_eq_true rfl, Nat.le_of_ble_eq_true rfl⟩ ⟨Nat.le_of_ble_eq_true rfl, Nat.le_of_ble_eq_true rfl⟩ dX1_bribe_14 (fun H locs hW => ?_)
    refine top_i ev14 ?_
    refine lv_if_ne (tgt := 22) hx hb dX1_bribe_17 (by decide) (fun c17 => ?_) (fun c17 => ?_)
    · have hf := ifn c17 hf
      refine lv_aload_n hx hb dX1_bribe_22 rfl (lv_at hl 0 rfl) ?_
      obtain ⟨g23, hf⟩ := gd_some hf
      obtain ⟨q23, hq23, hf⟩ := bi_some hf
      refine aw_gR hC hW g23 fl_X1_109 rfl hq23 dX1_bribe_23 ?_
      refine lv_iload_n hx hb dX1_bribe_26 rfl (lv_at hl 1 rfl) ?_
      obtain ⟨g27, hf⟩ := gd_some hf
      obtain ⟨s27, e27, hf⟩ := bnd_some hf
      refine aw_pI e27 hC hW g27 fl_X1_468 (Or.inl fn_10_0) rfl rfl rfl dX1_bribe_27 (fun H locs hW => ?_)
      have g23 := ko_pI e27 g23
      have g27 := ko_pI e27 g27
      refine lv_aload_n hx hb dX1_bribe_30 rfl (lv_at hl 0 rfl) ?_
      obtain ⟨q31, hq31, hf⟩ := bi_some hf
      refine aw_gR hC hW g23 fl_X1_109 rfl hq31 dX1_bribe_31 ?_
      refine lv_iload_n hx hb dX1_bribe_34 rfl (lv_at hl 2 rfl) ?_
      obtain ⟨g35, hf⟩ := gd_some hf
      obtain ⟨s35, e35, hf⟩ := bnd_some hf
      refine aw_pI e35 hC hW g35 fl_X1_469 (Or.inl fn_10_1) rfl rfl rfl dX1_bribe_35 (fun H locs hW => ?_)
      have g23 := ko_pI e35 g23
      have g27 := ko_pI e35 g27
      have g35 := ko_pI e35 g35
      refine lv_aload_n hx hb dX1_bribe_38 rfl (lv_at hl 0 rfl) ?_
      obtain ⟨q39, hq39, hf⟩ := bi_some hf
      refine aw_gR hC hW g23 fl_X1_109 rfl hq39 dX1_bribe_39 ?_
      obtain ⟨v42, s42, h42, hf⟩ := ob_some hf
      refine aw_dS1 (As := [.ref (a q39)]) (rest := []) (ct_X1_fewestBy l G a q39 s35 v42 s42 h42) hC hW hl.1 sy_X1_fewestBy (Or.inl q1121) rfl rfl (Nat.le_of_ble_eq_true rfl) ⟨Nat.le_of_ble_eq_true rfl, Nat.le_of_ble_eq_true rfl⟩ ⟨Nat.le_of_ble_eq_true rfl, Nat.le_of_ble_eq_true rfl⟩ dX1_bribe_42 (fun H locs hW => ?_)
      refine lv_istore_n (lv' := [(3, .int v42), (0, .ref (a o)), (1, .int x1), (2, .int x2)]) hx hb dX1_bribe_45 rfl hl (by decide) rfl (fun ls hl => ?_)
      refine lv_iload_n hx hb dX1_bribe_46 rfl (lv_at hl 0 rfl) ?_
      refine lv_bipush (v := (-9)) hx hb dX1_bribe_47 (by decide) ?_
      refine lv_icmp_ne (tgt := 55) hx hb dX1_bribe_49 (by decide) (fun c49 => ?_) (fun c49 => ?_)
      · have hf := ifn c49 hf
        refine lv_aload_n hx hb dX1_bribe_55 rfl (lv_at hl 1 rfl) ?_
        obtain ⟨g56, hf⟩ := gd_some hf
        obtain ⟨q56, hq56, hf⟩ := bi_some hf
        refine aw_gR hC hW g56 fl_X1_109 rfl hq56 dX1_bribe_56 ?_
        refine lv_iload_n hx hb dX1_bribe_59 rfl (lv_at hl 0 rfl) ?_
        obtain ⟨g60, hf⟩ := gd_some hf
        obtain ⟨v60, s60, h60, hf⟩ := ob_some hf
        refine aw_dV1 (r := q56) (As := [.int v42]) (rest := []) (ct_X11_isSo l G a q56 v42 s42 v60 s60 h60) hC hW hl.1 vy_X11_isSo (Or.inl q1168) g60 rfl rfl rfl rfl (Nat.le_of_ble_eq_true rfl) ⟨Nat.le_of_ble_eq_true rfl, Nat.le_of_ble_eq_true rfl⟩ ⟨Nat.le_of_ble_eq_true rfl, Nat.le_of_ble_eq_true rfl⟩ dX1_bribe_60 (fun H locs hW => ?_)
        refine lv_pop hx hb dX1_bribe_63 rfl ?_
        refine lv_aload_n hx hb dX1_bribe_64 rfl (lv_at hl 1 rfl) ?_
        refine lv_iconst (v := 0) hx hb dX1_bribe_65 (by decide) ?_
        obtain ⟨g66, hf⟩ := gd_some hf
        obtain ⟨s66, e66, hf⟩ := bnd_some hf
        refine aw_pI e66 hC hW g66 fl_X1_154 (Or.inl fn_0_12) rfl rfl rfl dX1_bribe_66 (fun H locs hW => ?_)
        have g66 := ko_pI e66 g66
        refine lv_aload_n hx hb dX1_bribe_69 rfl (lv_at hl 1 rfl) ?_
        refine lv_aload_n hx hb dX1_bribe_70 rfl (lv_at hl 1 rfl) ?_
        obtain ⟨q71, hq71, hf⟩ := bi_some hf
        refine aw_gR hC hW g66 fl_X1_22 rfl hq71 dX1_bribe_71 ?_
        obtain ⟨g74, hf⟩ := gd_some hf
        obtain ⟨q74, hq74, hf⟩ := bi_some hf
        refine aw_gR hC hW g74 fl_X1_239 rfl hq74 dX1_bribe_74 ?_
        refine lv_iload_n hx hb dX1_bribe_77 rfl (lv_at hl 2 rfl) ?_
        obtain ⟨g78, hf⟩ := gd_some hf
        refine aw_iald hC hW g78 dX1_bribe_78 ?_
        refine lv_aload_n hx hb dX1_bribe_79 rfl (lv_at hl 1 rfl) ?_
        obtain ⟨q80, hq80, hf⟩ := bi_some hf
        refine aw_gR hC hW g66 fl_X1_18 rfl hq80 dX1_bribe_80 ?_
        obtain ⟨g83, hf⟩ := gd_some hf
        obtain ⟨q83, hq83, hf⟩ := bi_some hf
        refine aw_gR hC hW g83 fl_X1_239 rfl hq83 dX1_bribe_83 ?_
        refine lv_iload_n hx hb dX1_bribe_86 rfl (lv_at hl 2 rfl) ?_
        obtain ⟨g87, hf⟩ := gd_some hf
        refine aw_iald hC hW g87 dX1_bribe_87 ?_
        refine lv_isub hx hb dX1_bribe_88 ?_
        refine lv_i2l (v := (((gi s66 q74 (x1 : Int32).toNatClampNeg) - (gi s66 q83 (x1 : Int32).toNatClampNeg)) : Int32).toInt64) hx hb dX1_bribe_89 rfl ?_
        obtain ⟨_, s90, h90, hf⟩ := ob_some hf
        refine aw_dV0 (r := o) (As := [.long ((((gi s66 q74 (x1 : Int32).toNatClampNeg) - (gi s66 q83 (x1 : Int32).toNatClampNeg)) : Int32).toInt64)]) (rest := []) (ct_X1_tell l G a o ((((gi s66 q74 (x1 : Int32).toNatClampNeg) - (gi s66 q83 (x1 : Int32).toNatClampNeg)) : Int32).toInt64) s66 () s90 h90) hC hW hl.1 vy_X1_tell (Or.inl q1013) g66 rfl rfl rfl rfl (Nat.le_of_ble_eq_true rfl) ⟨Nat.le_of_ble_eq_true rfl, Nat.le_of_ble_eq_true rfl⟩ ⟨Nat.le_of_ble_eq_true rfl, Nat.le_of_ble_eq_true rfl⟩ dX1_bribe_90 (fun H locs hW => ?_)
        refine lv_iload_n hx hb dX1_bribe_93 rfl (lv_at hl 0 rfl) ?_
        obtain ⟨e1, e2⟩ := so_inj hf
        exact aw_iret hC hW hr rfl (p_eq hP (congrArg (fun z => some (Value.int z)) e1) e2) (Nat.le_of_ble_eq_true rfl) (Nat.le_of_ble_eq_true rfl) dX1_bribe_94
      · have hf := ifp c49 hf
        refine lv_bipush (v := (-2)) hx hb dX1_bribe_52 (by decide) ?_
        obtain ⟨e1, e2⟩ := so_inj hf
        exact aw_iret hC hW hr rfl (p_eq hP (congrArg (fun z => some (Value.int z)) e1) e2) (Nat.le_of_ble_eq_true rfl) (Nat.le_of_ble_eq_true rfl) dX1_bribe_54
    · have hf := ifp c17 hf
      refine lv_iconst (v := (-1)) hx hb dX1_bribe_20 (by decide) ?_
      obtain ⟨e1, e2⟩ := so_inj hf
      exact aw_iret hC hW hr rfl (p_eq hP (congrArg (fun z => some (Value.int z)) e1) e2) (Nat.le_of_ble_eq_true rfl) (Nat.le_of_ble_eq_true rfl) dX1_bribe_21
def f_X1_cheapest_b74 (K6 : Nat → Int32 → Int32 → Int32 → ST → Option (Int32 × ST)) (r0 : Nat) (x1 : Int32) (x2 : Int32) (x3 : Int32) (s : ST) : Option (Int32 × ST) :=
  bnd (x3 + 1 : Int32) fun v74 =>
  K6 r0 x1 x2 v74 s
def f_X1_cheapest_b69 (K6 : Nat → Int32 → Int32 → Int32 → ST → Option (Int32 × ST)) (r0 : Nat) (x3 : Int32) (x4 : Int32) (s : ST) : Option (Int32 × ST) :=
  f_X1_cheapest_b74 K6 r0 x3 x4 x3 s
def f_X1_cheapest_b6 : Nat → Nat → Int32 → Int32 → Int32 → ST → Option (Int32 × ST)
  | 0, _, _, _, _, _ => none
  | n + 1, r0, x1, x2, x3, s =>
  gd (r0 < s.1 ∧ (kd s r0).1 = 1) <|
  if (gi s r0 4) ≤ x3 then (if x1 = (-1) then (some ((-2), s)) else bnd (pI s r0 12 0) fun s90 =>
  ob (f_X1_tell r0 ((x2 : Int32).toInt64) s90) fun _ s96 =>
  some (x1, s96)) else (gr s r0 1).bind fun q15 =>
  gd (q15 < s.1 ∧ (kd s q15).1 = 2) <|
  bnd (p_has (gi s q15 6) x3) fun v22 =>
  if v22 = 0 then (f_X1_cheapest_b74 (f_X1_cheapest_b6 n) r0 x1 x2 x3 s) else (gr s r0 29).bind fun q32 =>
  gd (q32 < s.1 ∧ (kd s q32).1 = 13) <|
  bnd (pI s q32 0 x3) fun s36 =>
  (gr s36 r0 29).bind fun q40 =>
  ob (f_X1_fewestBy q40 s36) fun v43 s43 =>
  if v43 = (-9) then (f_X1_cheapest_b74 (f_X1_cheapest_b6 n) r0 x1 x2 x3 s43) else if x1 = (-1) then (f_X1_cheapest_b69 (f_X1_cheapest_b6 n) r0 x3 v43 s43) else if v43 < x2 then (f_X1_cheapest_b69 (f_X1_cheapest_b6 n) r0 x3 v43 s43) else f_X1_cheapest_b74 (f_X1_cheapest_b6 n) r0 x1 x2 x3 s43
def f_X1_cheapest (o : Nat) (s : ST) : Option (Int32 × ST) :=
  f_X1_cheapest_b6 fuel o (-1) 0 0 s
set_option maxHeartbeats 4000000 in
theorem ct_X1_cheapest (l : Launch) (G : GM) (a : Nat → Nat) (o : Nat) (s : ST) (rv : Int32) (sf : ST) (hf : f_X1_cheapest o s = some (rv, sf)) : MD l G yX1_cheapest (ws_ yX1_cheapest cX1_cheapest 5 (some .int)) 129 [.ref (a o)] a s (some (.int rv)) sf := by
  refine md_of (d := 129) (lv := [(0, .ref (a o))]) (Or.inl (by decide)) (Nat.le_of_ble_eq_true rfl) rfl ?_
  intro p e s0 m args below meth c ls A P hP hC hr hnm hW hl
  have hx := hC.1
  have hb := hC.2.1
  have hts := hC.2.2.2.2.1
  have B74 : ∀ (K6 : Nat → Int32 → Int32 → Int32 → ST → Option (Int32 × ST)) (hK6 : ∀ (r0 : Nat) (x1 : Int32) (x2 : Int32) (x3 : Int32) (s : ST), K6 r0 x1 x2 x3 s = some (rv, sf) → ∀ (H : Heap) (locs : List Loc) (ls : Array Slot), lv_has ls 5 [(0, .ref (a r0)), (1, .int x1), (2, .int x2), (3, .int x3)] → AW G a A s s0.heap H locs → WB p l e (rmD 129) s0 m args below meth c H locs G A P 6 ls []), ∀ (r0 : Nat) (x1 : Int32) (x2 : Int32) (x3 : Int32) (s : ST), f_X1_cheapest_b74 K6 r0 x1 x2 x3 s = some (rv, sf) → ∀ (H : Heap) (locs : List Loc) (ls : Array Slot), lv_has ls 5 [(0, .ref (a r0)), (1, .int x1), (2, .int x2), (3, .int x3)] → AW G a A s s0.heap H locs → WB p l e (rmD 129) s0 m args below meth c H locs G A P 74 ls [] := by
    intro K6 hK6 r0 x1 x2 x3 s hf H locs ls hl hW
    unfold f_X1_cheapest_b74 at hf
    obtain ⟨v74, ev74, hf⟩ := bnd_some hf
    refine lv_iinc (v := v74) (lv' := [(3, .int v74), (0, .ref (a r0)), (1, .int x1), (2, .int x2)]) hx hb dX1_cheapest_74 hl (k := 3) rfl (by rw [ev74]; rfl) (by decide) rfl (fun ls hl => ?_)
    refine lv_goto (tgt := 6) hx hb dX1_cheapest_77 (by decide) ?_
    exact hK6 r0 x1 x2 v74 s hf _ _ _ (lv_sub hl [1, 2, 3, 0] rfl) hW
  have B69 : ∀ (K6 : Nat → Int32 → Int32 → Int32 → ST → Option (Int32 × ST)) (hK6 : ∀ (r0 : Nat) (x1 : Int32) (x2 : Int32) (x3 : Int32) (s : ST), K6 r0 x1 x2 x3 s = some (rv, sf) → ∀ (H : Heap) (locs : List Loc) (ls : Array Slot), lv_has ls 5 [(0, .ref (a r0)), (1, .int x1), (2, .int x2), (3, .int x3)] → AW G a A s s0.heap H locs → WB p l e (rmD 129) s0 m args below meth c H locs G A P 6 ls []), ∀ (r0 : Nat) (x3 : Int32) (x4 : Int32) (s : ST), f_X1_cheapest_b69 K6 r0 x3 x4 s = some (rv, sf) → ∀ (H : Heap) (locs : List Loc) (ls : Array Slot), lv_has ls 5 [(0, .ref (a r0)), (3, .int x3), (4, .int x4)] → AW G a A s s0.heap H locs → WB p l e (rmD 129) s0 m args below meth c H locs G A P 69 ls [] := by
    intro K6 hK6 r0 x3 x4 s hf H locs ls hl hW
    unfold f_X1_cheapest_b69 at hf
    refine lv_iload_n hx hb dX1_cheapest_69 rfl (lv_at hl 1 rfl) ?_
    refine lv_istore_n (lv' := [(1, .int x3), (0, .ref (a r0)), (3, .int x3), (4, .int x4)]) hx hb dX1_cheapest_70 rfl hl (by decide) rfl (fun ls hl => ?_)
    refine lv_iload hx hb dX1_cheapest_71 (lv_at hl 3 rfl) ?_
    refine lv_istore_n (lv' := [(2, .int x4), (1, .int x3), (0, .ref (a r0)), (3, .int x3), (4, .int x4)]) hx hb dX1_cheapest_73 rfl hl (by decide) rfl (fun ls hl => ?_)
    exact B74 K6 hK6 r0 x3 x4 x3 s hf _ _ _ (lv_sub hl [2, 1, 0, 3] rfl) hW
  have B6 : ∀ (n : Nat), ∀ (r0 : Nat) (x1 : Int32) (x2 : Int32) (x3 : Int32) (s : ST), f_X1_cheapest_b6 n r0 x1 x2 x3 s = some (rv, sf) → ∀ (H : Heap) (locs : List Loc) (ls : Array Slot), lv_has ls 5 [(0, .ref (a r0)), (1, .int x1), (2, .int x2), (3, .int x3)] → AW G a A s s0.heap H locs → WB p l e (rmD 129) s0 m args below meth c H locs G A P 6 ls [] := by
    intro n
    induction n with
    | zero => intro r0 x1 x2 x3 s hf; cases hf
    | succ n ih =>
      intro r0 x1 x2 x3 s hf H locs ls hl hW
      rw [f_X1_cheapest_b6] at hf
      refine lv_iload_n hx hb dX1_cheapest_6 rfl (lv_at hl 3 rfl) ?_
      refine lv_aload_n hx hb dX1_cheapest_7 rfl (lv_at hl 0 rfl) ?_
      obtain ⟨g8, hf⟩ := gd_some hf
      refine aw_gI hC hW g8 fl_X1_157 rfl dX1_cheapest_8 ?_
      refine lv_icmp_ge (tgt := 80) hx hb dX1_cheapest_11 (by decide) (fun c11 => ?_) (fun c11 => ?_)
      · have hf := ifp c11 hf
        refine lv_iload_n hx hb dX1_cheapest_80 rfl (lv_at hl 1 rfl) ?_
        refine lv_iconst (v := (-1)) hx hb dX1_cheapest_81 (by decide) ?_
        refine lv_icmp_ne (tgt := 88) hx hb dX1_cheapest_82 (by decide) (fun c82 => ?_) (fun c82 => ?_)
        · have hf := ifn c82 hf
          refine lv_aload_n hx hb dX1_cheapest_88 rfl (lv_at hl 0 rfl) ?_
          refine lv_iconst (v := 0) hx hb dX1_cheapest_89 (by decide) ?_
          obtain ⟨s90, e90, hf⟩ := bnd_some hf
          refine aw_pI e90 hC hW g8 fl_X1_154 (Or.inl fn_0_12) rfl rfl rfl dX1_cheapest_90 (fun H locs hW => ?_)
          have g8 := ko_pI e90 g8
          refine lv_aload_n hx hb dX1_cheapest_93 rfl (lv_at hl 0 rfl) ?_
          refine lv_iload_n hx hb dX1_cheapest_94 rfl (lv_at hl 2 rfl) ?_
          refine lv_i2l (v := (x2 : Int32).toInt64) hx hb dX1_cheapest_95 rfl ?_
          obtain ⟨_, s96, h96, hf⟩ := ob_some hf
          refine aw_dV0 (r := r0) (As := [.long ((x2 : Int32).toInt64)]) (rest := []) (ct_X1_tell l G a r0 ((x2 : Int32).toInt64) s90 () s96 h96) hC hW hl.1 vy_X1_tell (Or.inl q1013) g8 rfl rfl rfl rfl (Nat.le_of_ble_eq_true rfl) ⟨Nat.le_of_ble_eq_true rfl, Nat.le_of_ble_eq_true rfl⟩ ⟨Nat.le_of_ble_eq_true rfl, Nat.le_of_ble_eq_true rfl⟩ dX1_cheapest_96 (fun H locs hW => ?_)
          refine lv_iload_n hx hb dX1_cheapest_99 rfl (lv_at hl 1 rfl) ?_
          obtain ⟨e1, e2⟩ := so_inj hf
          exact aw_iret hC hW hr rfl (p_eq hP (congrArg (fun z => some (Value.int z)) e1) e2) (Nat.le_of_ble_eq_true rfl) (Nat.le_of_ble_eq_true rfl) dX1_cheapest_100
        · have hf := ifp c82 hf
          refine lv_bipush (v := (-2)) hx hb dX1_cheapest_85 (by decide) ?_
          obtain ⟨e1, e2⟩ := so_inj hf
          exact aw_iret hC hW hr rfl (p_eq hP (congrArg (fun z => some (Value.int z)) e1) e2) (Nat.le_of_ble_eq_true rfl) (Nat.le_of_ble_eq_true rfl) dX1_cheapest_87
      · have hf := ifn c11 hf
        refine lv_aload_n hx hb dX1_cheapest_14 rfl (lv_at hl 0 rfl) ?_
        obtain ⟨q15, hq15, hf⟩ := bi_some hf
        refine aw_gR hC hW g8 fl_X1_18 rfl hq15 dX1_cheapest_15 ?_
        obtain ⟨g18, hf⟩ := gd_some hf
        refine aw_gI hC hW g18 fl_X1_168 rfl dX1_cheapest_18 ?_
        refine lv_iload_n hx hb dX1_cheapest_21 rfl (lv_at hl 3 rfl) ?_
        obtain ⟨v22, ev22, hf⟩ := bnd_some hf
        refine aw_dS1 (As := [.int (gi s q15 6), .int x3]) (rest := []) (pc_X1_has l G a (gi s q15 6) x3 s) hC hW hl.1 sy_X1_has (Or.inl q930) rfl rfl (Nat.le_of_ble_eq_true rfl) ⟨Nat.le_of_ble_eq_true rfl, Nat.le_of_ble_eq_true rfl⟩ ⟨Nat.le_of_ble_eq_true rfl, Nat.le_of_ble_eq_true rfl⟩ dX1_cheapest_22 (fun H locs hW => ?_)
        refine top_i ev22 ?_
        refine lv_if_ne (tgt := 31) hx hb dX1_cheapest_25 (by decide) (fun c25 => ?_) (fun c25 => ?_)
        · have hf := ifn c25 hf
          refine lv_aload_n hx hb dX1_cheapest_31 rfl (lv_at hl 0 rfl) ?_
          obtain ⟨q32, hq32, hf⟩ := bi_some hf
          refine aw_gR hC hW g8 fl_X1_123 rfl hq32 dX1_cheapest_32 ?_
          refine lv_iload_n hx hb dX1_cheapest_35 rfl (lv_at hl 3 rfl) ?_
          obtain ⟨g36, hf⟩ := gd_some hf
          obtain ⟨s36, e36, hf⟩ := bnd_some hf
          refine aw_pI e36 hC hW g36 fl_X1_473 (Or.inl fn_12_0) rfl rfl rfl dX1_cheapest_36 (fun H locs hW => ?_)
          have g8 := ko_pI e36 g8
          have g18 := ko_pI e36 g18
          have g36 := ko_pI e36 g36
          refine lv_aload_n hx hb dX1_cheapest_39 rfl (lv_at hl 0 rfl) ?_
          obtain ⟨q40, hq40, hf⟩ := bi_some hf
          refine aw_gR hC hW g8 fl_X1_123 rfl hq40 dX1_cheapest_40 ?_
          obtain ⟨v43, s43, h43, hf⟩ := ob_some hf
          refine aw_dS1 (As := [.ref (a q40)]) (rest := []) (ct_X1_fewestBy l G a q40 s36 v43 s43 h43) hC hW hl.1 sy_X1_fewestBy (Or.inl q1121) rfl rfl (Nat.le_of_ble_eq_true rfl) ⟨Nat.le_of_ble_eq_true rfl, Nat.le_of_ble_eq_true rfl⟩ ⟨Nat.le_of_ble_eq_true rfl, Nat.le_of_ble_eq_true rfl⟩ dX1_cheapest_43 (fun H locs hW => ?_)
          refine lv_istore (lv' := [(4, .int v43), (0, .ref (a r0)), (1, .int x1), (2, .int x2), (3, .int x3)]) hx hb dX1_cheapest_46 hl (by decide) rfl (fun ls hl => ?_)
          refine lv_iload hx hb dX1_cheapest_48 (lv_at hl 0 rfl) ?_
          refine lv_bipush (v := (-9)) hx hb dX1_cheapest_50 (by decide) ?_
          refine lv_icmp_eq (tgt := 74) hx hb dX1_cheapest_52 (by decide) (fun c52 => ?_) (fun c52 => ?_)
          · have hf := ifp c52 hf
            exact B74 (f_X1_cheapest_b6 n) ih r0 x1 x2 x3 s43 hf _ _ _ (lv_sub hl [1, 2, 3, 4] rfl) hW
          · have hf := ifn c52 hf
            refine lv_iload_n hx hb dX1_cheapest_55 rfl (lv_at hl 2 rfl) ?_
            refine lv_iconst (v := (-1)) hx hb dX1_cheapest_56 (by decide) ?_
            refine lv_icmp_eq (tgt := 69) hx hb dX1_cheapest_57 (by decide) (fun c57 => ?_) (fun c57 => ?_)
            · have hf := ifp c57 hf
              exact B69 (f_X1_cheapest_b6 n) ih r0 x3 v43 s43 hf _ _ _ (lv_sub hl [1, 4, 0] rfl) hW
            · have hf := ifn c57 hf
              refine lv_iload hx hb dX1_cheapest_60 (lv_at hl 0 rfl) ?_
              refine lv_iload_n hx hb dX1_cheapest_62 rfl (lv_at hl 3 rfl) ?_
              refine lv_icmp_lt (tgt := 69) hx hb dX1_cheapest_63 (by decide) (fun c63 => ?_) (fun c63 => ?_)
              · have hf := ifp c63 hf
                exact B69 (f_X1_cheapest_b6 n) ih r0 x3 v43 s43 hf _ _ _ (lv_sub hl [1, 4, 0] rfl) hW
              · have hf := ifn c63 hf
                refine lv_goto (tgt := 74) hx hb dX1_cheapest_66 (by decide) ?_
                exact B74 (f_X1_cheapest_b6 n) ih r0 x1 x2 x3 s43 hf _ _ _ (lv_sub hl [1, 2, 3, 4] rfl) hW
        · have hf := ifp c25 hf
          refine lv_goto (tgt := 74) hx hb dX1_cheapest_28 (by decide) ?_
          exact B74 (f_X1_cheapest_b6 n) ih r0 x1 x2 x3 s hf _ _ _ (lv_sub hl [0, 1, 2, 3] rfl) hW
  unfold f_X1_cheapest at hf
  refine lv_iconst (v := (-1)) hx hb dX1_cheapest_0 (by decide) ?_
  refine lv_istore_n (lv' := [(1, .int (-1)), (0, .ref (a o))]) hx hb dX1_cheapest_1 rfl hl (by decide) rfl (fun ls hl => ?_)
  refine lv_iconst (v := 0) hx hb dX1_cheapest_2 (by decide) ?_
  refine lv_istore_n (lv' := [(2, .int 0), (1, .int (-1)), (0, .ref (a o))]) hx hb dX1_cheapest_3 rfl hl (by decide) rfl (fun ls hl => ?_)
  refine lv_iconst (v := 0) hx hb dX1_cheapest_4 (by decide) ?_
  refine lv_istore_n (lv' := [(3, .int 0), (2, .int 0), (1, .int (-1)), (0, .ref (a o))]) hx hb dX1_cheapest_5 rfl hl (by decide) rfl (fun ls hl => ?_)
  exact B6 fuel o (-1) 0 0 s hf _ _ _ (lv_sub hl [3, 2, 1, 0] rfl) hW
def f_X1_hold (o : Nat) (x1 : Int32) (s : ST) : Option (Int32 × ST) :=
  bnd (p_in ((x1 : Int32).toInt64) 0 60) fun v6 =>
  if v6 = 0 then (some ((-1), s)) else gd (o < s.1 ∧ (kd s o).1 = 1) <|
  (gr s o 1).bind fun q15 =>
  gd (q15 < s.1 ∧ (kd s q15).1 = 2) <|
  if (gi s q15 7) = (-1) then (some ((-3), s)) else (gr s o 26).bind fun q29 =>
  gd (q29 < s.1 ∧ (kd s q29).1 = 10) <|
  bnd (pI s q29 0 x1) fun s33 =>
  (gr s33 o 26).bind fun q37 =>
  ob (f_X1_fewestBy q37 s33) fun v40 s40 =>
  if v40 = (-9) then (some ((-2), s40)) else some (v40, s40)
set_option maxHeartbeats 4000000 in
theorem ct_X1_hold (l : Launch) (G : GM) (a : Nat → Nat) (o : Nat) (x1 : Int32) (s : ST) (rv : Int32) (sf : ST) (hf : f_X1_hold o x1 s = some (rv, sf)) : MD l G yX1_hold (ws_ yX1_hold cX1_hold 3 (some .int)) 129 [.ref (a o), .int x1] a s (some (.int rv)) sf := by
  refine md_of (d := 129) (lv := [(0, .ref (a o)), (1, .int x1)]) (Or.inl (by decide)) (Nat.le_of_ble_eq_true rfl) rfl ?_
  intro p e s0 m args below meth c ls A P hP hC hr hnm hW hl
  have hx := hC.1
  have hb := hC.2.1
  have hts := hC.2.2.2.2.1
  unfold f_X1_hold at hf
  refine lv_iload_n hx hb dX1_hold_0 rfl (lv_at hl 1 rfl) ?_
  refine lv_i2l (v := (x1 : Int32).toInt64) hx hb dX1_hold_1 rfl ?_
  refine lv_lconst (v := 0) hx hb dX1_hold_2 (by decide) ?_
  refine lv_ldc2 (v := 60) hx hb hC.2.2.2.1 (hts _ q1120) dX1_hold_3 ?_
  obtain ⟨v6, ev6, hf⟩ := bnd_some hf
  refine aw_dS1 (As := [.long ((x1 : Int32).toInt64), .long 0, .long 60]) (rest := []) (pc_X1_in l G a ((x1 : Int32).toInt64) 0 60 s) hC hW hl.1 sy_X1_in (Or.inl q514) rfl rfl (Nat.le_of_ble_eq_true rfl) ⟨Nat.le_of_ble_eq_true rfl, Nat.le_of_ble_eq_true rfl⟩ ⟨Nat.le_of_ble_eq_true rfl, Nat.le_of_ble_eq_true rfl⟩ dX1_hold_6 (fun H locs hW => ?_)
  refine top_i ev6 ?_
  refine lv_if_ne (tgt := 14) hx hb dX1_hold_9 (by decide) (fun c9 => ?_) (fun c9 => ?_)
  · have hf := ifn c9 hf
    refine lv_aload_n hx hb dX1_hold_14 rfl (lv_at hl 0 rfl) ?_
    obtain ⟨g15, hf⟩ := gd_some hf
    obtain ⟨q15, hq15, hf⟩ := bi_some hf
    refine aw_gR hC hW g15 fl_X1_18 rfl hq15 dX1_hold_15 ?_
    obtain ⟨g18, hf⟩ := gd_some hf
    refine aw_gI hC hW g18 fl_X1_315 rfl dX1_hold_18 ?_
    refine lv_iconst (v := (-1)) hx hb dX1_hold_21 (by decide) ?_
    refine lv_icmp_ne (tgt := 28) hx hb dX1_hold_22 (by decide) (fun c22 => ?_) (fun c22 => ?_)
    · have hf := ifn c22 hf
      refine lv_aload_n hx hb dX1_hold_28 rfl (lv_at hl 0 rfl) ?_
      obtain ⟨q29, hq29, hf⟩ := bi_some hf
      refine aw_gR hC hW g15 fl_X1_102 rfl hq29 dX1_hold_29 ?_
      refine lv_iload_n hx hb dX1_hold_32 rfl (lv_at hl 1 rfl) ?_
      obtain ⟨g33, hf⟩ := gd_some hf
      obtain ⟨s33, e33, hf⟩ := bnd_some hf
      refine aw_pI e33 hC hW g33 fl_X1_461 (Or.inl fn_9_0) rfl rfl rfl dX1_hold_33 (fun H locs hW => ?_)
      have g15 := ko_pI e33 g15
      have g18 := ko_pI e33 g18
      have g33 := ko_pI e33 g33
      refine lv_aload_n hx hb dX1_hold_36 rfl (lv_at hl 0 rfl) ?_
      obtain ⟨q37, hq37, hf⟩ := bi_some hf
      refine aw_gR hC hW g15 fl_X1_102 rfl hq37 dX1_hold_37 ?_
      obtain ⟨v40, s40, h40, hf⟩ := ob_some hf
      refine aw_dS1 (As := [.ref (a q37)]) (rest := []) (ct_X1_fewestBy l G a q37 s33 v40 s40 h40) hC hW hl.1 sy_X1_fewestBy (Or.inl q1121) rfl rfl (Nat.le_of_ble_eq_true rfl) ⟨Nat.le_of_ble_eq_true rfl, Nat.le_of_ble_eq_true rfl⟩ ⟨Nat.le_of_ble_eq_true rfl, Nat.le_of_ble_eq_true rfl⟩ dX1_hold_40 (fun H locs hW => ?_)
      refine lv_istore_n (lv' := [(2, .int v40), (0, .ref (a o)), (1, .int x1)]) hx hb dX1_hold_43 rfl hl (by decide) rfl (fun ls hl => ?_)
      refine lv_iload_n hx hb dX1_hold_44 rfl (lv_at hl 0 rfl) ?_
      refine lv_bipush (v := (-9)) hx hb dX1_hold_45 (by decide) ?_
      refine lv_icmp_ne (tgt := 55) hx hb dX1_hold_47 (by decide) (fun c47 => ?_) (fun c47 => ?_)
      · have hf := ifn c47 hf
        refine lv_iload_n hx hb dX1_hold_55 rfl (lv_at hl 0 rfl) ?_
        obtain ⟨e1, e2⟩ := so_inj hf
        exact aw_iret hC hW hr rfl (p_eq hP (congrArg (fun z => some (Value.int z)) e1) e2) (Nat.le_of_ble_eq_true rfl) (Nat.le_of_ble_eq_true rfl) dX1_hold_56
      · have hf := ifp c47 hf
        refine lv_bipush (v := (-2)) hx hb dX1_hold_50 (by decide) ?_
        refine lv_goto (tgt := 56) hx hb dX1_hold_52 (by decide) ?_
        obtain ⟨e1, e2⟩ := so_inj hf
        exact aw_iret hC hW hr rfl (p_eq hP (congrArg (fun z => some (Value.int z)) e1) e2) (Nat.le_of_ble_eq_true rfl) (Nat.le_of_ble_eq_true rfl) dX1_hold_56
    · have hf := ifp c22 hf
      refine lv_bipush (v := (-3)) hx hb dX1_hold_25 (by decide) ?_
      obtain ⟨e1, e2⟩ := so_inj hf
      exact aw_iret hC hW hr rfl (p_eq hP (congrArg (fun z => some (Value.int z)) e1) e2) (Nat.le_of_ble_eq_true rfl) (Nat.le_of_ble_eq_true rfl) dX1_hold_27
  · have hf := ifp c9 hf
    refine lv_iconst (v := (-1)) hx hb dX1_hold_12 (by decide) ?_
    obtain ⟨e1, e2⟩ := so_inj hf
    exact aw_iret hC hW hr rfl (p_eq hP (congrArg (fun z => some (Value.int z)) e1) e2) (Nat.le_of_ble_eq_true rfl) (Nat.le_of_ble_eq_true rfl) dX1_hold_13
def f_X1_starve (o : Nat) (x1 : Int32) (x2 : Int32) (s : ST) : Option (Int32 × ST) :=
  gd (o < s.1 ∧ (kd s o).1 = 1) <|
  ob (f_X1_isAlive o x1 s) fun v2 s2 =>
  if v2 = 0 then (some ((-1), s2)) else bnd (p_in ((x2 : Int32).toInt64) 0 60) fun v14 =>
  if v14 = 0 then (some ((-1), s2)) else gd (o < s2.1 ∧ (kd s2 o).1 = 1) <|
  (gr s2 o 28).bind fun q23 =>
  gd (q23 < s2.1 ∧ (kd s2 q23).1 = 12) <|
  bnd (pI s2 q23 0 x1) fun s27 =>
  (gr s27 o 28).bind fun q31 =>
  gd (q31 < s27.1 ∧ (kd s27 q31).1 = 12) <|
  bnd (pI s27 q31 1 x2) fun s35 =>
  (gr s35 o 28).bind fun q39 =>
  ob (f_X1_fewestBy q39 s35) fun v42 s42 =>
  if v42 = (-9) then (some ((-2), s42)) else some (v42, s42)
set_option maxHeartbeats 4000000 in
theorem ct_X1_starve (l : Launch) (G : GM) (a : Nat → Nat) (o : Nat) (x1 : Int32) (x2 : Int32) (s : ST) (rv : Int32) (sf : ST) (hf : f_X1_starve o x1 x2 s = some (rv, sf)) : MD l G yX1_starve (ws_ yX1_starve cX1_starve 4 (some .int)) 129 [.ref (a o), .int x1, .int x2] a s (some (.int rv)) sf := by
  refine md_of (d := 129) (lv := [(0, .ref (a o)), (1, .int x1), (2, .int x2)]) (Or.inl (by decide)) (Nat.le_of_ble_eq_true rfl) rfl ?_
  intro p e s0 m args below meth c ls A P hP hC hr hnm hW hl
  have hx := hC.1
  have hb := hC.2.1
  have hts := hC.2.2.2.2.1
  unfold f_X1_starve at hf
  refine lv_aload_n hx hb dX1_starve_0 rfl (lv_at hl 0 rfl) ?_
  refine lv_iload_n hx hb dX1_starve_1 rfl (lv_at hl 1 rfl) ?_
  obtain ⟨g2, hf⟩ := gd_some hf
  obtain ⟨v2, s2, h2, hf⟩ := ob_some hf
  refine aw_dV1 (r := o) (As := [.int x1]) (rest := []) (ct_X1_isAlive l G a o x1 s v2 s2 h2) hC hW hl.1 vy_X1_isAlive (Or.inl q1040) g2 rfl rfl rfl rfl (Nat.le_of_ble_eq_true rfl) ⟨Nat.le_of_ble_eq_true rfl, Nat.le_of_ble_eq_true rfl⟩ ⟨Nat.le_of_ble_eq_true rfl, Nat.le_of_ble_eq_true rfl⟩ dX1_starve_2 (fun H locs hW => ?_)
  refine lv_if_eq (tgt := 20) hx hb dX1_starve_5 (by decide) (fun c5 => ?_) (fun c5 => ?_)
  · have hf := ifp c5 hf
    refine lv_iconst (v := (-1)) hx hb dX1_starve_20 (by decide) ?_
    obtain ⟨e1, e2⟩ := so_inj hf
    exact aw_iret hC hW hr rfl (p_eq hP (congrArg (fun z => some (Value.int z)) e1) e2) (Nat.le_of_ble_eq_true rfl) (Nat.le_of_ble_eq_true rfl) dX1_starve_21
  · have hf := ifn c5 hf
    refine lv_iload_n hx hb dX1_starve_8 rfl (lv_at hl 2 rfl) ?_
    refine lv_i2l (v := (x2 : Int32).toInt64) hx hb dX1_starve_9 rfl ?_
    refine lv_lconst (v := 0) hx hb dX1_starve_10 (by decide) ?_
    refine lv_ldc2 (v := 60) hx hb hC.2.2.2.1 (hts _ q1120) dX1_starve_11 ?_
    obtain ⟨v14, ev14, hf⟩ := bnd_some hf
    refine aw_dS1 (As := [.long ((x2 : Int32).toInt64), .long 0, .long 60]) (rest := []) (pc_X1_in l G a ((x2 : Int32).toInt64) 0 60 s2) hC hW hl.1 sy_X1_in (Or.inl q514) rfl rfl (Nat.le_of_ble_eq_true rfl) ⟨Nat.le_of_ble_eq_true rfl, Nat.le_of_ble_eq_true rfl⟩ ⟨Nat.le_of_ble_eq_true rfl, Nat.le_of_ble_eq_true rfl⟩ dX1_starve_14 (fun H locs hW => ?_)
    refine top_i ev14 ?_
    refine lv_if_ne (tgt := 22) hx hb dX1_starve_17 (by decide) (fun c17 => ?_) (fun c17 => ?_)
    · have hf := ifn c17 hf
      refine lv_aload_n hx hb dX1_starve_22 rfl (lv_at hl 0 rfl) ?_
      obtain ⟨g23, hf⟩ := gd_some hf
      obtain ⟨q23, hq23, hf⟩ := bi_some hf
      refine aw_gR hC hW g23 fl_X1_116 rfl hq23 dX1_starve_23 ?_
      refine lv_iload_n hx hb dX1_starve_26 rfl (lv_at hl 1 rfl) ?_
      obtain ⟨g27, hf⟩ := gd_some hf
      obtain ⟨s27, e27, hf⟩ := bnd_some hf
      refine aw_pI e27 hC hW g27 fl_X1_471 (Or.inl fn_11_0) rfl rfl rfl dX1_starve_27 (fun H locs hW => ?_)
      have g23 := ko_pI e27 g23
      have g27 := ko_pI e27 g27
      refine lv_aload_n hx hb dX1_starve_30 rfl (lv_at hl 0 rfl) ?_
      obtain ⟨q31, hq31, hf⟩ := bi_some hf
      refine aw_gR hC hW g23 fl_X1_116 rfl hq31 dX1_starve_31 ?_
      refine lv_iload_n hx hb dX1_starve_34 rfl (lv_at hl 2 rfl) ?_
      obtain ⟨g35, hf⟩ := gd_some hf
      obtain ⟨s35, e35, hf⟩ := bnd_some hf
      refine aw_pI e35 hC hW g35 fl_X1_472 (Or.inl fn_11_1) rfl rfl rfl dX1_starve_35 (fun H locs hW => ?_)
      have g23 := ko_pI e35 g23
      have g27 := ko_pI e35 g27
      have g35 := ko_pI e35 g35
      refine lv_aload_n hx hb dX1_starve_38 rfl (lv_at hl 0 rfl) ?_
      obtain ⟨q39, hq39, hf⟩ := bi_some hf
      refine aw_gR hC hW g23 fl_X1_116 rfl hq39 dX1_starve_39 ?_
      obtain ⟨v42, s42, h42, hf⟩ := ob_some hf
      refine aw_dS1 (As := [.ref (a q39)]) (rest := []) (ct_X1_fewestBy l G a q39 s35 v42 s42 h42) hC hW hl.1 sy_X1_fewestBy (Or.inl q1121) rfl rfl (Nat.le_of_ble_eq_true rfl) ⟨Nat.le_of_ble_eq_true rfl, Nat.le_of_ble_eq_true rfl⟩ ⟨Nat.le_of_ble_eq_true rfl, Nat.le_of_ble_eq_true rfl⟩ dX1_starve_42 (fun H locs hW => ?_)
      refine lv_istore_n (lv' := [(3, .int v42), (0, .ref (a o)), (1, .int x1), (2, .int x2)]) hx hb dX1_starve_45 rfl hl (by decide) rfl (fun ls hl => ?_)
      refine lv_iload_n hx hb dX1_starve_46 rfl (lv_at hl 0 rfl) ?_
      refine lv_bipush (v := (-9)) hx hb dX1_starve_47 (by decide) ?_
      refine lv_icmp_ne (tgt := 57) hx hb dX1_starve_49 (by decide) (fun c49 => ?_) (fun c49 => ?_)
      · have hf := ifn c49 hf
        refine lv_iload_n hx hb dX1_starve_57 rfl (lv_at hl 0 rfl) ?_
        obtain ⟨e1, e2⟩ := so_inj hf
        exact aw_iret hC hW hr rfl (p_eq hP (congrArg (fun z => some (Value.int z)) e1) e2) (Nat.le_of_ble_eq_true rfl) (Nat.le_of_ble_eq_true rfl) dX1_starve_58
      · have hf := ifp c49 hf
        refine lv_bipush (v := (-2)) hx hb dX1_starve_52 (by decide) ?_
        refine lv_goto (tgt := 58) hx hb dX1_starve_54 (by decide) ?_
        obtain ⟨e1, e2⟩ := so_inj hf
        exact aw_iret hC hW hr rfl (p_eq hP (congrArg (fun z => some (Value.int z)) e1) e2) (Nat.le_of_ble_eq_true rfl) (Nat.le_of_ble_eq_true rfl) dX1_starve_58
    · have hf := ifp c17 hf
      refine lv_iconst (v := (-1)) hx hb dX1_starve_20 (by decide) ?_
      obtain ⟨e1, e2⟩ := so_inj hf
      exact aw_iret hC hW hr rfl (p_eq hP (congrArg (fun z => some (Value.int z)) e1) e2) (Nat.le_of_ble_eq_true rfl) (Nat.le_of_ble_eq_true rfl) dX1_starve_21
