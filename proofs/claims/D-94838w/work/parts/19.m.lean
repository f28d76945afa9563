set_option maxRecDepth 100000
def f_X14_twin_b65 : Nat → Nat → Int32 → Int32 → Int32 → ST → Option (Int32 × ST)
  | 0, _, _, _, _, _ => none
  | n + 1, r0, x1, x2, x3, s =>
  if 6 ≤ x3 then (gd (r0 < s.1 ∧ (kd s r0).1 = 14) <|
  (gr s r0 20).bind fun q98 =>
  (gr s r0 7).bind fun q104 =>
  gd (q104 < s.1 ∧ (kd s q104).1 = 100 ∧ ¬ ((x1 : Int32) < 0 ∨ (kd s q104).2 ≤ (x1 : Int32).toNatClampNeg)) <|
  gd (q98 < s.1 ∧ (kd s q98).1 = 100 ∧ ¬ ((8 : Int32) < 0 ∨ (kd s q98).2 ≤ (8 : Int32).toNatClampNeg)) <|
  bnd (pI s q98 (8 : Int32).toNatClampNeg (gi s q104 (x1 : Int32).toNatClampNeg)) fun s109 =>
  ob (f_X14_comes r0 x2 8 s109) fun _ s114 =>
  gd (r0 < s114.1 ∧ (kd s114 r0).1 = 14) <|
  (gr s114 r0 5).bind fun q118 =>
  (gr s114 r0 5).bind fun q123 =>
  gd (q123 < s114.1 ∧ (kd s114 q123).1 = 100 ∧ ¬ ((x1 : Int32) < 0 ∨ (kd s114 q123).2 ≤ (x1 : Int32).toNatClampNeg)) <|
  gd (q118 < s114.1 ∧ (kd s114 q118).1 = 100 ∧ ¬ ((x2 : Int32) < 0 ∨ (kd s114 q118).2 ≤ (x2 : Int32).toNatClampNeg)) <|
  bnd (pI s114 q118 (x2 : Int32).toNatClampNeg (gi s114 q123 (x1 : Int32).toNatClampNeg)) fun s128 =>
  bnd (pI s128 r0 28 0) fun s131 =>
  some (x2, s131)) else gd (r0 < s.1 ∧ (kd s r0).1 = 14) <|
  (gr s r0 19).bind fun q72 =>
  (gr s r0 6).bind fun q80 =>
  gd (q80 < s.1 ∧ (kd s q80).1 = 100 ∧ ¬ ((((6 * x1) + x3) : Int32) < 0 ∨ (kd s q80).2 ≤ (((6 * x1) + x3) : Int32).toNatClampNeg)) <|
  gd (q72 < s.1 ∧ (kd s q72).1 = 100 ∧ ¬ (((48 + x3) : Int32) < 0 ∨ (kd s q72).2 ≤ ((48 + x3) : Int32).toNatClampNeg)) <|
  bnd (pI s q72 ((48 + x3) : Int32).toNatClampNeg (gi s q80 (((6 * x1) + x3) : Int32).toNatClampNeg)) fun s90 =>
  bnd (x3 + 1 : Int32) fun v91 =>
  f_X14_twin_b65 n r0 x1 x2 v91 s90
def f_X14_twin (o : Nat) (x1 : Int32) (s : ST) : Option (Int32 × ST) :=
  gd (o < s.1 ∧ (kd s o).1 = 14) <|
  bnd (pI s o 0 0) fun s2 =>
  ob (f_X14_isAlive o x1 s2) fun v7 s7 =>
  if v7 = 0 then (some ((-1), s7)) else gd (o < s7.1 ∧ (kd s7 o).1 = 14) <|
  if (gi s7 o 3) = 8 then (some ((-1), s7)) else bnd ((gi s7 o 3) : Int32) fun v28 =>
  bnd (pI s7 o 3 ((gi s7 o 3) + 1)) fun s36 =>
  (gr s36 o 10).bind fun q40 =>
  (gr s36 o 10).bind fun q45 =>
  gd (q45 < s36.1 ∧ (kd s36 q45).1 = 100 ∧ ¬ ((x1 : Int32) < 0 ∨ (kd s36 q45).2 ≤ (x1 : Int32).toNatClampNeg)) <|
  gd (q40 < s36.1 ∧ (kd s36 q40).1 = 100 ∧ ¬ ((v28 : Int32) < 0 ∨ (kd s36 q40).2 ≤ (v28 : Int32).toNatClampNeg)) <|
  bnd (pI s36 q40 (v28 : Int32).toNatClampNeg (gi s36 q45 (x1 : Int32).toNatClampNeg)) fun s50 =>
  (gr s50 o 4).bind fun q52 =>
  (gr s50 o 4).bind fun q57 =>
  gd (q57 < s50.1 ∧ (kd s50 q57).1 = 100 ∧ ¬ ((x1 : Int32) < 0 ∨ (kd s50 q57).2 ≤ (x1 : Int32).toNatClampNeg)) <|
  gd (q52 < s50.1 ∧ (kd s50 q52).1 = 100 ∧ ¬ ((v28 : Int32) < 0 ∨ (kd s50 q52).2 ≤ (v28 : Int32).toNatClampNeg)) <|
  bnd (pI s50 q52 (v28 : Int32).toNatClampNeg (gi s50 q57 (x1 : Int32).toNatClampNeg)) fun s62 =>
  f_X14_twin_b65 fuel o x1 v28 0 s62
set_option maxHeartbeats 4000000 in
theorem ct_X14_twin (l : Launch) (G : GM) (a : Nat → Nat) (o : Nat) (x1 : Int32) (s : ST) (rv : Int32) (sf : ST) (hf : f_X14_twin o x1 s = some (rv, sf)) : MD l G yX14_twin (ws_ yX14_twin cX14_twin 4 (some .int)) 3 [.ref (a o), .int x1] a s (some (.int rv)) sf := by
  refine md_of (d := 3) (lv := [(0, .ref (a o)), (1, .int x1)]) (Or.inl (by decide)) (Nat.le_of_ble_eq_true rfl) rfl ?_
  intro p e s0 m args below meth c ls A P hP hC hr hnm hW hl
  have hx := hC.1
  have hb := hC.2.1
  have hts := hC.2.2.2.2.1
  have B65 : ∀ (n : Nat), ∀ (r0 : Nat) (x1 : Int32) (x2 : Int32) (x3 : Int32) (s : ST), f_X14_twin_b65 n r0 x1 x2 x3 s = some (rv, sf) → ∀ (H : Heap) (locs : List Loc) (ls : Array Slot), lv_has ls 4 [(0, .ref (a r0)), (1, .int x1), (2, .int x2), (3, .int x3)] → AW G a A s s0.heap H locs → WB p l e (rmD 3) s0 m args below meth c H locs G A P 65 ls [] := by
    intro n
    induction n with
    | zero => intro r0 x1 x2 x3 s hf; cases hf
    | succ n ih =>
      intro r0 x1 x2 x3 s hf H locs ls hl hW
      rw [f_X14_twin_b65] at hf
      refine lv_iload_n hx hb dX14_twin_65 rfl (lv_at hl 3 rfl) ?_
      refine lv_bipush (v := 6) hx hb dX14_twin_66 (by decide) ?_
      refine lv_icmp_ge (tgt := 97) hx hb dX14_twin_68 (by decide) (fun c68 => ?_) (fun c68 => ?_)
      · have hf := ifp c68 hf
        refine lv_aload_n hx hb dX14_twin_97 rfl (lv_at hl 0 rfl) ?_
        obtain ⟨g98, hf⟩ := gd_some hf
        obtain ⟨q98, hq98, hf⟩ := bi_some hf
        refine aw_gR hC hW g98 fl_X14_62 rfl hq98 dX14_twin_98 ?_
        refine lv_bipush (v := 8) hx hb dX14_twin_101 (by decide) ?_
        refine lv_aload_n hx hb dX14_twin_103 rfl (lv_at hl 0 rfl) ?_
        obtain ⟨q104, hq104, hf⟩ := bi_some hf
        refine aw_gR hC hW g98 fl_X14_38 rfl hq104 dX14_twin_104 ?_
        refine lv_iload_n hx hb dX14_twin_107 rfl (lv_at hl 1 rfl) ?_
        obtain ⟨g108, hf⟩ := gd_some hf
        refine aw_iald hC hW g108 dX14_twin_108 ?_
        obtain ⟨g109, hf⟩ := gd_some hf
        obtain ⟨s109, e109, hf⟩ := bnd_some hf
        refine aw_iast e109 hC hW g109 dX14_twin_109 (fun H locs hW => ?_)
        have g98 := ko_pI e109 g98
        refine lv_aload_n hx hb dX14_twin_110 rfl (lv_at hl 0 rfl) ?_
        refine lv_iload_n hx hb dX14_twin_111 rfl (lv_at hl 2 rfl) ?_
        refine lv_bipush (v := 8) hx hb dX14_twin_112 (by decide) ?_
        obtain ⟨_, s114, h114, hf⟩ := ob_some hf
        refine aw_dV0 (r := r0) (As := [.int x2, .int 8]) (rest := []) (ct_X14_comes l G a r0 x2 8 s109 () s114 h114) hC hW hl.1 vy_X14_comes (Or.inl q1582) g98 rfl rfl rfl rfl (Nat.le_of_ble_eq_true rfl) ⟨Nat.le_of_ble_eq_true rfl, Nat.le_of_ble_eq_true rfl⟩ ⟨Nat.le_of_ble_eq_true rfl, Nat.le_of_ble_eq_true rfl⟩ dX14_twin_114 (fun H locs hW => ?_)
        refine lv_aload_n hx hb dX14_twin_117 rfl (lv_at hl 0 rfl) ?_
        obtain ⟨g118, hf⟩ := gd_some hf
        obtain ⟨q118, hq118, hf⟩ := bi_some hf
        refine aw_gR hC hW g118 fl_X14_32 rfl hq118 dX14_twin_118 ?_
        refine lv_iload_n hx hb dX14_twin_121 rfl (lv_at hl 2 rfl) ?_
        refine lv_aload_n hx hb dX14_twin_122 rfl (lv_at hl 0 rfl) ?_
        obtain ⟨q123, hq123, hf⟩ := bi_some hf
        refine aw_gR hC hW g118 fl_X14_32 rfl hq123 dX14_twin_123 ?_
        refine lv_iload_n hx hb dX14_twin_126 rfl (lv_at hl 1 rfl) ?_
        obtain ⟨g127, hf⟩ := gd_some hf
        refine aw_iald hC hW g127 dX14_twin_127 ?_
        obtain ⟨g128, hf⟩ := gd_some hf
        obtain ⟨s128, e128, hf⟩ := bnd_some hf
        refine aw_iast e128 hC hW g128 dX14_twin_128 (fun H locs hW => ?_)
        have g118 := ko_pI e128 g118
        refine lv_aload_n hx hb dX14_twin_129 rfl (lv_at hl 0 rfl) ?_
        refine lv_iconst (v := 0) hx hb dX14_twin_130 (by decide) ?_
        obtain ⟨s131, e131, hf⟩ := bnd_some hf
        refine aw_pI e131 hC hW g118 fl_X14_207 (Or.inl fn_13_28) rfl rfl rfl dX14_twin_131 (fun H locs hW => ?_)
        have g118 := ko_pI e131 g118
        refine lv_iload_n hx hb dX14_twin_134 rfl (lv_at hl 2 rfl) ?_
        obtain ⟨e1, e2⟩ := so_inj hf
        exact aw_iret hC hW hr rfl (p_eq hP (congrArg (fun z => some (Value.int z)) e1) e2) (Nat.le_of_ble_eq_true rfl) (Nat.le_of_ble_eq_true rfl) dX14_twin_135
      · have hf := ifn c68 hf
        refine lv_aload_n hx hb dX14_twin_71 rfl (lv_at hl 0 rfl) ?_
        obtain ⟨g72, hf⟩ := gd_some hf
        obtain ⟨q72, hq72, hf⟩ := bi_some hf
        refine aw_gR hC hW g72 fl_X14_59 rfl hq72 dX14_twin_72 ?_
        refine lv_bipush (v := 48) hx hb dX14_twin_75 (by decide) ?_
        refine lv_iload_n hx hb dX14_twin_77 rfl (lv_at hl 3 rfl) ?_
        refine lv_iadd hx hb dX14_twin_78 ?_
        refine lv_aload_n hx hb dX14_twin_79 rfl (lv_at hl 0 rfl) ?_
        obtain ⟨q80, hq80, hf⟩ := bi_some hf
        refine aw_gR hC hW g72 fl_X14_35 rfl hq80 dX14_twin_80 ?_
        refine lv_bipush (v := 6) hx hb dX14_twin_83 (by decide) ?_
        refine lv_iload_n hx hb dX14_twin_85 rfl (lv_at hl 1 rfl) ?_
        refine lv_imul hx hb dX14_twin_86 ?_
        refine lv_iload_n hx hb dX14_twin_87 rfl (lv_at hl 3 rfl) ?_
        refine lv_iadd hx hb dX14_twin_88 ?_
        obtain ⟨g89, hf⟩ := gd_some hf
        refine aw_iald hC hW g89 dX14_twin_89 ?_
        obtain ⟨g90, hf⟩ := gd_some hf
        obtain ⟨s90, e90, hf⟩ := bnd_some hf
        refine aw_iast e90 hC hW g90 dX14_twin_90 (fun H locs hW => ?_)
        have g72 := ko_pI e90 g72
        obtain ⟨v91, ev91, hf⟩ := bnd_some hf
        refine lv_iinc (v := v91) (lv' := [(3, .int v91), (0, .ref (a r0)), (1, .int x1), (2, .int x2)]) hx hb dX14_twin_91 hl (k := 3) rfl (by rw [ev91]; rfl) (by decide) rfl (fun ls hl => ?_)
        refine lv_goto (tgt := 65) hx hb dX14_twin_94 (by decide) ?_
        exact ih r0 x1 x2 v91 s90 hf _ _ _ (lv_sub hl [1, 2, 3, 0] rfl) hW
  unfold f_X14_twin at hf
  refine lv_aload_n hx hb dX14_twin_0 rfl (lv_at hl 0 rfl) ?_
  refine lv_iconst (v := 0) hx hb dX14_twin_1 (by decide) ?_
  obtain ⟨g2, hf⟩ := gd_some hf
  obtain ⟨s2, e2, hf⟩ := bnd_some hf
  refine aw_pI e2 hC hW g2 fl_X14_3 (Or.inl fn_13_0) rfl rfl rfl dX14_twin_2 (fun H locs hW => ?_)
  have g2 := ko_pI e2 g2
  refine lv_aload_n hx hb dX14_twin_5 rfl (lv_at hl 0 rfl) ?_
  refine lv_iload_n hx hb dX14_twin_6 rfl (lv_at hl 1 rfl) ?_
  obtain ⟨v7, s7, h7, hf⟩ := ob_some hf
  refine aw_dV1 (r := o) (As := [.int x1]) (rest := []) (ct_X14_isAlive l G a o x1 s2 v7 s7 h7) hC hW hl.1 vy_X14_isAlive (Or.inl q1722) g2 rfl rfl rfl rfl (Nat.le_of_ble_eq_true rfl) ⟨Nat.le_of_ble_eq_true rfl, Nat.le_of_ble_eq_true rfl⟩ ⟨Nat.le_of_ble_eq_true rfl, Nat.le_of_ble_eq_true rfl⟩ dX14_twin_7 (fun H locs hW => ?_)
  refine lv_if_eq (tgt := 22) hx hb dX14_twin_10 (by decide) (fun c10 => ?_) (fun c10 => ?_)
  · have hf := ifp c10 hf
    refine lv_iconst (v := (-1)) hx hb dX14_twin_22 (by decide) ?_
    obtain ⟨e1, e2⟩ := so_inj hf
    exact aw_iret hC hW hr rfl (p_eq hP (congrArg (fun z => some (Value.int z)) e1) e2) (Nat.le_of_ble_eq_true rfl) (Nat.le_of_ble_eq_true rfl) dX14_twin_23
  · have hf := ifn c10 hf
    refine lv_aload_n hx hb dX14_twin_13 rfl (lv_at hl 0 rfl) ?_
    obtain ⟨g14, hf⟩ := gd_some hf
    refine aw_gI hC hW g14 fl_X14_117 rfl dX14_twin_14 ?_
    refine lv_bipush (v := 8) hx hb dX14_twin_17 (by decide) ?_
    refine lv_icmp_ne (tgt := 24) hx hb dX14_twin_19 (by decide) (fun c19 => ?_) (fun c19 => ?_)
    · have hf := ifn c19 hf
      refine lv_aload_n hx hb dX14_twin_24 rfl (lv_at hl 0 rfl) ?_
      refine aw_gI hC hW g14 fl_X14_117 rfl dX14_twin_25 ?_
      obtain ⟨v28, ev28, hf⟩ := bnd_some hf
      refine top_i ev28 ?_
      refine lv_istore_n (lv' := [(2, .int v28), (0, .ref (a o)), (1, .int x1)]) hx hb dX14_twin_28 rfl hl (by decide) rfl (fun ls hl => ?_)
      refine lv_aload_n hx hb dX14_twin_29 rfl (lv_at hl 1 rfl) ?_
      refine lv_dup hx hb dX14_twin_30 rfl ?_
      refine aw_gI hC hW g14 fl_X14_117 rfl dX14_twin_31 ?_
      refine lv_iconst (v := 1) hx hb dX14_twin_34 (by decide) ?_
      refine lv_iadd hx hb dX14_twin_35 ?_
      obtain ⟨s36, e36, hf⟩ := bnd_some hf
      refine aw_pI e36 hC hW g14 fl_X14_117 (Or.inl fn_13_3) rfl rfl rfl dX14_twin_36 (fun H locs hW => ?_)
      have g14 := ko_pI e36 g14
      refine lv_aload_n hx hb dX14_twin_39 rfl (lv_at hl 1 rfl) ?_
      obtain ⟨q40, hq40, hf⟩ := bi_some hf
      refine aw_gR hC hW g14 fl_X14_44 rfl hq40 dX14_twin_40 ?_
      refine lv_iload_n hx hb dX14_twin_43 rfl (lv_at hl 0 rfl) ?_
      refine lv_aload_n hx hb dX14_twin_44 rfl (lv_at hl 1 rfl) ?_
      obtain ⟨q45, hq45, hf⟩ := bi_some hf
      refine aw_gR hC hW g14 fl_X14_44 rfl hq45 dX14_twin_45 ?_
      refine lv_iload_n hx hb dX14_twin_48 rfl (lv_at hl 2 rfl) ?_
      obtain ⟨g49, hf⟩ := gd_some hf
      refine aw_iald hC hW g49 dX14_twin_49 ?_
      obtain ⟨g50, hf⟩ := gd_some hf
      obtain ⟨s50, e50, hf⟩ := bnd_some hf
      refine aw_iast e50 hC hW g50 dX14_twin_50 (fun H locs hW => ?_)
      have g14 := ko_pI e50 g14
      refine lv_aload_n hx hb dX14_twin_51 rfl (lv_at hl 1 rfl) ?_
      obtain ⟨q52, hq52, hf⟩ := bi_some hf
      refine aw_gR hC hW g14 fl_X14_28 rfl hq52 dX14_twin_52 ?_
      refine lv_iload_n hx hb dX14_twin_55 rfl (lv_at hl 0 rfl) ?_
      refine lv_aload_n hx hb dX14_twin_56 rfl (lv_at hl 1 rfl) ?_
      obtain ⟨q57, hq57, hf⟩ := bi_some hf
      refine aw_gR hC hW g14 fl_X14_28 rfl hq57 dX14_twin_57 ?_
      refine lv_iload_n hx hb dX14_twin_60 rfl (lv_at hl 2 rfl) ?_
      obtain ⟨g61, hf⟩ := gd_some hf
      refine aw_iald hC hW g61 dX14_twin_61 ?_
      obtain ⟨g62, hf⟩ := gd_some hf
      obtain ⟨s62, e62, hf⟩ := bnd_some hf
      refine aw_iast e62 hC hW g62 dX14_twin_62 (fun H locs hW => ?_)
      have g14 := ko_pI e62 g14
      refine lv_iconst (v := 0) hx hb dX14_twin_63 (by decide) ?_
      refine lv_istore_n (lv' := [(3, .int 0), (2, .int v28), (0, .ref (a o)), (1, .int x1)]) hx hb dX14_twin_64 rfl hl (by decide) rfl (fun ls hl => ?_)
      exact B65 fuel o x1 v28 0 s62 hf _ _ _ (lv_sub hl [2, 3, 1, 0] rfl) hW
    · have hf := ifp c19 hf
      refine lv_iconst (v := (-1)) hx hb dX14_twin_22 (by decide) ?_
      obtain ⟨e1, e2⟩ := so_inj hf
      exact aw_iret hC hW hr rfl (p_eq hP (congrArg (fun z => some (Value.int z)) e1) e2) (Nat.le_of_ble_eq_true rfl) (Nat.le_of_ble_eq_true rfl) dX14_twin_23
def f_X14_undo_b26 : Nat → Nat → Int32 → ST → Option (Int32 × ST)
  | 0, _, _, _ => none
  | n + 1, r0, x1, s =>
  if 117 ≤ x1 then (gd (r0 < s.1 ∧ (kd s r0).1 = 14) <|
  some ((gi s r0 28), s)) else gd (r0 < s.1 ∧ (kd s r0).1 = 14) <|
  (gr s r0 10).bind fun q33 =>
  (gr s r0 29).bind fun q38 =>
  gd (q38 < s.1 ∧ (kd s q38).1 = 100 ∧ ¬ ((((117 * (gi s r0 28)) + x1) : Int32) < 0 ∨ (kd s q38).2 ≤ (((117 * (gi s r0 28)) + x1) : Int32).toNatClampNeg)) <|
  gd (q33 < s.1 ∧ (kd s q33).1 = 100 ∧ ¬ ((x1 : Int32) < 0 ∨ (kd s q33).2 ≤ (x1 : Int32).toNatClampNeg)) <|
  bnd (pI s q33 (x1 : Int32).toNatClampNeg (gi s q38 (((117 * (gi s r0 28)) + x1) : Int32).toNatClampNeg)) fun s51 =>
  bnd (x1 + 1 : Int32) fun v52 =>
  f_X14_undo_b26 n r0 v52 s51
def f_X14_undo (o : Nat) (s : ST) : Option (Int32 × ST) :=
  gd (o < s.1 ∧ (kd s o).1 = 14) <|
  bnd (pI s o 0 0) fun s2 =>
  if (gi s2 o 28) = 0 then (some ((-1), s2)) else bnd (pI s2 o 28 ((gi s2 o 28) - 1)) fun s21 =>
  f_X14_undo_b26 fuel o 0 s21
set_option maxHeartbeats 4000000 in
theorem ct_X14_undo (l : Launch) (G : GM) (a : Nat → Nat) (o : Nat) (s : ST) (rv : Int32) (sf : ST) (hf : f_X14_undo o s = some (rv, sf)) : MD l G yX14_undo (ws_ yX14_undo cX14_undo 2 (some .int)) 0 [.ref (a o)] a s (some (.int rv)) sf := by
  refine md_of (d := 0) (lv := [(0, .ref (a o))]) (Or.inl (by decide)) (Nat.le_of_ble_eq_true rfl) rfl ?_
  intro p e s0 m args below meth c ls A P hP hC hr hnm hW hl
  have hx := hC.1
  have hb := hC.2.1
  have hts := hC.2.2.2.2.1
  have B26 : ∀ (n : Nat), ∀ (r0 : Nat) (x1 : Int32) (s : ST), f_X14_undo_b26 n r0 x1 s = some (rv, sf) → ∀ (H : Heap) (locs : List Loc) (ls : Array Slot), lv_has ls 2 [(0, .ref (a r0)), (1, .int x1)] → AW G a A s s0.heap H locs → WB p l e (rmD 0) s0 m args below meth c H locs G A P 26 ls [] := by
    intro n
    induction n with
    | zero => intro r0 x1 s hf; cases hf
    | succ n ih =>
      intro r0 x1 s hf H locs ls hl hW
      rw [f_X14_undo_b26] at hf
      refine lv_iload_n hx hb dX14_undo_26 rfl (lv_at hl 1 rfl) ?_
      refine lv_bipush (v := 117) hx hb dX14_undo_27 (by decide) ?_
      refine lv_icmp_ge (tgt := 58) hx hb dX14_undo_29 (by decide) (fun c29 => ?_) (fun c29 => ?_)
      · have hf := ifp c29 hf
        refine lv_aload_n hx hb dX14_undo_58 rfl (lv_at hl 0 rfl) ?_
        obtain ⟨g59, hf⟩ := gd_some hf
        refine aw_gI hC hW g59 fl_X14_207 rfl dX14_undo_59 ?_
        obtain ⟨e1, e2⟩ := so_inj hf
        exact aw_iret hC hW hr rfl (p_eq hP (congrArg (fun z => some (Value.int z)) e1) e2) (Nat.le_of_ble_eq_true rfl) (Nat.le_of_ble_eq_true rfl) dX14_undo_62
      · have hf := ifn c29 hf
        refine lv_aload_n hx hb dX14_undo_32 rfl (lv_at hl 0 rfl) ?_
        obtain ⟨g33, hf⟩ := gd_some hf
        obtain ⟨q33, hq33, hf⟩ := bi_some hf
        refine aw_gR hC hW g33 fl_X14_44 rfl hq33 dX14_undo_33 ?_
        refine lv_iload_n hx hb dX14_undo_36 rfl (lv_at hl 1 rfl) ?_
        refine lv_aload_n hx hb dX14_undo_37 rfl (lv_at hl 0 rfl) ?_
        obtain ⟨q38, hq38, hf⟩ := bi_some hf
        refine aw_gR hC hW g33 fl_X14_74 rfl hq38 dX14_undo_38 ?_
        refine lv_bipush (v := 117) hx hb dX14_undo_41 (by decide) ?_
        refine lv_aload_n hx hb dX14_undo_43 rfl (lv_at hl 0 rfl) ?_
        refine aw_gI hC hW g33 fl_X14_207 rfl dX14_undo_44 ?_
        refine lv_imul hx hb dX14_undo_47 ?_
        refine lv_iload_n hx hb dX14_undo_48 rfl (lv_at hl 1 rfl) ?_
        refine lv_iadd hx hb dX14_undo_49 ?_
        obtain ⟨g50, hf⟩ := gd_some hf
        refine aw_iald hC hW g50 dX14_undo_50 ?_
        obtain ⟨g51, hf⟩ := gd_some hf
        obtain ⟨s51, e51, hf⟩ := bnd_some hf
        refine aw_iast e51 hC hW g51 dX14_undo_51 (fun H locs hW => ?_)
        have g33 := ko_pI e51 g33
        obtain ⟨v52, ev52, hf⟩ := bnd_some hf
        refine lv_iinc (v := v52) (lv' := [(1, .int v52), (0, .ref (a r0))]) hx hb dX14_undo_52 hl (k := 1) rfl (by rw [ev52]; rfl) (by decide) rfl (fun ls hl => ?_)
        refine lv_goto (tgt := 26) hx hb dX14_undo_55 (by decide) ?_
        exact ih r0 v52 s51 hf _ _ _ (lv_sub hl [1, 0] rfl) hW
  unfold f_X14_undo at hf
  refine lv_aload_n hx hb dX14_undo_0 rfl (lv_at hl 0 rfl) ?_
  refine lv_iconst (v := 0) hx hb dX14_undo_1 (by decide) ?_
  obtain ⟨g2, hf⟩ := gd_some hf
  obtain ⟨s2, e2, hf⟩ := bnd_some hf
  refine aw_pI e2 hC hW g2 fl_X14_3 (Or.inl fn_13_0) rfl rfl rfl dX14_undo_2 (fun H locs hW => ?_)
  have g2 := ko_pI e2 g2
  refine lv_aload_n hx hb dX14_undo_5 rfl (lv_at hl 0 rfl) ?_
  refine aw_gI hC hW g2 fl_X14_207 rfl dX14_undo_6 ?_
  refine lv_if_ne (tgt := 14) hx hb dX14_undo_9 (by decide) (fun c9 => ?_) (fun c9 => ?_)
  · have hf := ifn c9 hf
    refine lv_aload_n hx hb dX14_undo_14 rfl (lv_at hl 0 rfl) ?_
    refine lv_dup hx hb dX14_undo_15 rfl ?_
    refine aw_gI hC hW g2 fl_X14_207 rfl dX14_undo_16 ?_
    refine lv_iconst (v := 1) hx hb dX14_undo_19 (by decide) ?_
    refine lv_isub hx hb dX14_undo_20 ?_
    obtain ⟨s21, e21, hf⟩ := bnd_some hf
    refine aw_pI e21 hC hW g2 fl_X14_207 (Or.inl fn_13_28) rfl rfl rfl dX14_undo_21 (fun H locs hW => ?_)
    have g2 := ko_pI e21 g2
    refine lv_iconst (v := 0) hx hb dX14_undo_24 (by decide) ?_
    refine lv_istore_n (lv' := [(1, .int 0), (0, .ref (a o))]) hx hb dX14_undo_25 rfl hl (by decide) rfl (fun ls hl => ?_)
    exact B26 fuel o 0 s21 hf _ _ _ (lv_sub hl [1, 0] rfl) hW
  · have hf := ifp c9 hf
    refine lv_iconst (v := (-1)) hx hb dX14_undo_12 (by decide) ?_
    obtain ⟨e1, e2⟩ := so_inj hf
    exact aw_iret hC hW hr rfl (p_eq hP (congrArg (fun z => some (Value.int z)) e1) e2) (Nat.le_of_ble_eq_true rfl) (Nat.le_of_ble_eq_true rfl) dX14_undo_13
def f_X14_weeks_b84 (K36 : Nat → Int32 → Int32 → Int32 → ST → Option (Int32 × ST)) (r0 : Nat) (x1 : Int32) (x3 : Int32) (t0 : Int32) (t1 : Int32) (s : ST) : Option (Int32 × ST) :=
  bnd (p_flag t0) fun v84 =>
  bnd ((t1 + v84) : Int32) fun v88 =>
  bnd (x3 + 1 : Int32) fun v89 =>
  K36 r0 x1 v88 v89 s
def f_X14_weeks_b36 : Nat → Nat → Int32 → Int32 → Int32 → ST → Option (Int32 × ST)
  | 0, _, _, _, _, _ => none
  | n + 1, r0, x1, x2, x3, s =>
  if x1 ≤ x3 then (gd (r0 < s.1 ∧ (kd s r0).1 = 14) <|
  bnd (pI s r0 1 0) fun s97 =>
  (gr s97 r0 10).bind fun q102 =>
  gd (q102 < s97.1 ∧ (kd s97 q102).1 = 100 ∧ ¬ ((17 : Int32) < 0 ∨ (kd s97 q102).2 ≤ (17 : Int32).toNatClampNeg)) <|
  ob (f_X14_enters r0 (((gi s97 q102 (17 : Int32).toNatClampNeg) : Int32).toInt64) s97) fun _ s109 =>
  gd (r0 < s109.1 ∧ (kd s109 r0).1 = 14) <|
  ob (f_X14_enters r0 (((gi s109 r0 27) : Int32).toInt64) s109) fun _ s118 =>
  some (x2, s118)) else gd (r0 < s.1 ∧ (kd s r0).1 = 14) <|
  (gr s r0 10).bind fun q42 =>
  gd (q42 < s.1 ∧ (kd s q42).1 = 100 ∧ ¬ ((17 : Int32) < 0 ∨ (kd s q42).2 ≤ (17 : Int32).toNatClampNeg)) <|
  bnd ((gi s q42 (17 : Int32).toNatClampNeg) : Int32) fun v48 =>
  (gr s r0 10).bind fun q52 =>
  (gr s r0 10).bind fun q57 =>
  ob (f_X14_willing r0 q57 s) fun v60 s60 =>
  gd (r0 < s60.1 ∧ (kd s60 r0).1 = 14) <|
  ob (f_X14_goes r0 q52 v60 s60) fun _ s63 =>
  gd (r0 < s63.1 ∧ (kd s63 r0).1 = 14) <|
  (gr s63 r0 10).bind fun q68 =>
  gd (q68 < s63.1 ∧ (kd s63 q68).1 = 100 ∧ ¬ ((17 : Int32) < 0 ∨ (kd s63 q68).2 ≤ (17 : Int32).toNatClampNeg)) <|
  if (gi s63 q68 (17 : Int32).toNatClampNeg) = v48 then (f_X14_weeks_b84 (f_X14_weeks_b36 n) r0 x1 x3 0 x2 s63) else f_X14_weeks_b84 (f_X14_weeks_b36 n) r0 x1 x3 1 x2 s63
def f_X14_weeks_b27 (r0 : Nat) (x1 : Int32) (s : ST) : Option (Int32 × ST) :=
  gd (r0 < s.1 ∧ (kd s r0).1 = 14) <|
  bnd (pI s r0 27 0) fun s31 =>
  f_X14_weeks_b36 fuel r0 x1 0 0 s31
def f_X14_weeks (o : Nat) (x1 : Int32) (s : ST) : Option (Int32 × ST) :=
  gd (o < s.1 ∧ (kd s o).1 = 14) <|
  bnd (pI s o 0 0) fun s2 =>
  bnd (p_in ((x1 : Int32).toInt64) 0 99) fun v11 =>
  if v11 = 0 then (some ((-1), s2)) else if x1 ≤ 0 then (f_X14_weeks_b27 o x1 s2) else ob (f_X14_putsBy o s2) fun _ s24 =>
  f_X14_weeks_b27 o x1 s24
set_option maxHeartbeats 4000000 in
theorem ct_X14_weeks (l : Launch) (G : GM) (a : Nat → Nat) (o : Nat) (x1 : Int32) (s : ST) (rv : Int32) (sf : ST) (hf : f_X14_weeks o x1 s = some (rv, sf)) : MD l G yX14_weeks (ws_ yX14_weeks cX14_weeks 5 (some .int)) 5 [.ref (a o), .int x1] a s (some (.int rv)) sf := by
  refine md_of (d := 5) (lv := [(0, .ref (a o)), (1, .int x1)]) (Or.inl (by decide)) (Nat.le_of_ble_eq_true rfl) rfl ?_
  intro p e s0 m args below meth c ls A P hP hC hr hnm hW hl
  have hx := hC.1
  have hb := hC.2.1
  have hts := hC.2.2.2.2.1
  have B84 : ∀ (K36 : Nat → Int32 → Int32 → Int32 → ST → Option (Int32 × ST)) (hK36 : ∀ (r0 : Nat) (x1 : Int32) (x2 : Int32) (x3 : Int32) (s : ST), K36 r0 x1 x2 x3 s = some (rv, sf) → ∀ (H : Heap) (locs : List Loc) (ls : Array Slot), lv_has ls 5 [(0, .ref (a r0)), (1, .int x1), (2, .int x2), (3, .int x3)] → AW G a A s s0.heap H locs → WB p l e (rmD 5) s0 m args below meth c H locs G A P 36 ls []), ∀ (r0 : Nat) (x1 : Int32) (x3 : Int32) (t0 : Int32) (t1 : Int32) (s : ST), f_X14_weeks_b84 K36 r0 x1 x3 t0 t1 s = some (rv, sf) → ∀ (H : Heap) (locs : List Loc) (ls : Array Slot), lv_has ls 5 [(0, .ref (a r0)), (1, .int x1), (3, .int x3)] → AW G a A s s0.heap H locs → WB p l e (rmD 5) s0 m args below meth c H locs G A P 84 ls [.int t0, .int t1] := by
    intro K36 hK36 r0 x1 x3 t0 t1 s hf H locs ls hl hW
    unfold f_X14_weeks_b84 at hf
    obtain ⟨v84, ev84, hf⟩ := bnd_some hf
    refine aw_dS1 (As := [.int t0]) (rest := [.int t1]) (pc_X14_flag l G a t0 s) hC hW hl.1 sy_X14_flag (Or.inl q1544) rfl rfl (Nat.le_of_ble_eq_true rfl) ⟨Nat.le_of_ble_eq_true rfl, Nat.le_of_ble_eq_true rfl⟩ ⟨Nat.le_of_ble_eq_true rfl, Nat.le_of_ble_eq_true rfl⟩ dX14_weeks_84 (fun H locs hW => ?_)
    refine top_i ev84 ?_
    refine lv_iadd hx hb dX14_weeks_87 ?_
    obtain ⟨v88, ev88, hf⟩ := bnd_some hf
    refine top_i ev88 ?_
    refine lv_istore_n (lv' := [(2, .int v88), (0, .ref (a r0)), (1, .int x1), (3, .int x3)]) hx hb dX14_weeks_88 rfl hl (by decide) rfl (fun ls hl => ?_)
    obtain ⟨v89, ev89, hf⟩ := bnd_some hf
    refine lv_iinc (v := v89) (lv' := [(3, .int v89), (2, .int v88), (0, .ref (a r0)), (1, .int x1)]) hx hb dX14_weeks_89 hl (k := 3) rfl (by rw [ev89]; rfl) (by decide) rfl (fun ls hl => ?_)
    refine lv_goto (tgt := 36) hx hb dX14_weeks_92 (by decide) ?_
    exact hK36 r0 x1 v88 v89 s hf _ _ _ (lv_sub hl [2, 3, 1, 0] rfl) hW
  have B36 : ∀ (n : Nat), ∀ (r0 : Nat) (x1 : Int32) (x2 : Int32) (x3 : Int32) (s : ST), f_X14_weeks_b36 n r0 x1 x2 x3 s = some (rv, sf) → ∀ (H : Heap) (locs : List Loc) (ls : Array Slot), lv_has ls 5 [(0, .ref (a r0)), (1, .int x1), (2, .int x2), (3, .int x3)] → AW G a A s s0.heap H locs → WB p l e (rmD 5) s0 m args below meth c H locs G A P 36 ls [] := by
    intro n
    induction n with
    | zero => intro r0 x1 x2 x3 s hf; cases hf
    | succ n ih =>
      intro r0 x1 x2 x3 s hf H locs ls hl hW
      rw [f_X14_weeks_b36] at hf
      refine lv_iload_n hx hb dX14_weeks_36 rfl (lv_at hl 3 rfl) ?_
      refine lv_iload_n hx hb dX14_weeks_37 rfl (lv_at hl 1 rfl) ?_
      refine lv_icmp_ge (tgt := 95) hx hb dX14_weeks_38 (by decide) (fun c38 => ?_) (fun c38 => ?_)
      · have hf := ifp c38 hf
        refine lv_aload_n hx hb dX14_weeks_95 rfl (lv_at hl 0 rfl) ?_
        refine lv_iconst (v := 0) hx hb dX14_weeks_96 (by decide) ?_
        obtain ⟨g97, hf⟩ := gd_some hf
        obtain ⟨s97, e97, hf⟩ := bnd_some hf
        refine aw_pI e97 hC hW g97 fl_X14_15 (Or.inl fn_13_1) rfl rfl rfl dX14_weeks_97 (fun H locs hW => ?_)
        have g97 := ko_pI e97 g97
        refine lv_aload_n hx hb dX14_weeks_100 rfl (lv_at hl 0 rfl) ?_
        refine lv_aload_n hx hb dX14_weeks_101 rfl (lv_at hl 0 rfl) ?_
        obtain ⟨q102, hq102, hf⟩ := bi_some hf
        refine aw_gR hC hW g97 fl_X14_44 rfl hq102 dX14_weeks_102 ?_
        refine lv_bipush (v := 17) hx hb dX14_weeks_105 (by decide) ?_
        obtain ⟨g107, hf⟩ := gd_some hf
        refine aw_iald hC hW g107 dX14_weeks_107 ?_
        refine lv_i2l (v := ((gi s97 q102 (17 : Int32).toNatClampNeg) : Int32).toInt64) hx hb dX14_weeks_108 rfl ?_
        obtain ⟨_, s109, h109, hf⟩ := ob_some hf
        refine aw_dV0 (r := r0) (As := [.long (((gi s97 q102 (17 : Int32).toNatClampNeg) : Int32).toInt64)]) (rest := []) (ct_X14_enters l G a r0 (((gi s97 q102 (17 : Int32).toNatClampNeg) : Int32).toInt64) s97 () s109 h109) hC hW hl.1 vy_X14_enters (Or.inl q1689) g97 rfl rfl rfl rfl (Nat.le_of_ble_eq_true rfl) ⟨Nat.le_of_ble_eq_true rfl, Nat.le_of_ble_eq_true rfl⟩ ⟨Nat.le_of_ble_eq_true rfl, Nat.le_of_ble_eq_true rfl⟩ dX14_weeks_109 (fun H locs hW => ?_)
        refine lv_aload_n hx hb dX14_weeks_112 rfl (lv_at hl 0 rfl) ?_
        refine lv_aload_n hx hb dX14_weeks_113 rfl (lv_at hl 0 rfl) ?_
        obtain ⟨g114, hf⟩ := gd_some hf
        refine aw_gI hC hW g114 fl_X14_273 rfl dX14_weeks_114 ?_
        refine lv_i2l (v := ((gi s109 r0 27) : Int32).toInt64) hx hb dX14_weeks_117 rfl ?_
        obtain ⟨_, s118, h118, hf⟩ := ob_some hf
        refine aw_dV0 (r := r0) (As := [.long (((gi s109 r0 27) : Int32).toInt64)]) (rest := []) (ct_X14_enters l G a r0 (((gi s109 r0 27) : Int32).toInt64) s109 () s118 h118) hC hW hl.1 vy_X14_enters (Or.inl q1689) g114 rfl rfl rfl rfl (Nat.le_of_ble_eq_true rfl) ⟨Nat.le_of_ble_eq_true rfl, Nat.le_of_ble_eq_true rfl⟩ ⟨Nat.le_of_ble_eq_true rfl, Nat.le_of_ble_eq_true rfl⟩ dX14_weeks_118 (fun H locs hW => ?_)
        refine lv_iload_n hx hb dX14_weeks_121 rfl (lv_at hl 2 rfl) ?_
        obtain ⟨e1, e2⟩ := so_inj hf
        exact aw_iret hC hW hr rfl (p_eq hP (congrArg (fun z => some (Value.int z)) e1) e2) (Nat.le_of_ble_eq_true rfl) (Nat.le_of_ble_eq_true rfl) dX14_weeks_122
      · have hf := ifn c38 hf
        refine lv_aload_n hx hb dX14_weeks_41 rfl (lv_at hl 0 rfl) ?_
        obtain ⟨g42, hf⟩ := gd_some hf
        obtain ⟨q42, hq42, hf⟩ := bi_some hf
        refine aw_gR hC hW g42 fl_X14_44 rfl hq42 dX14_weeks_42 ?_
        refine lv_bipush (v := 17) hx hb dX14_weeks_45 (by decide) ?_
        obtain ⟨g47, hf⟩ := gd_some hf
        refine aw_iald hC hW g47 dX14_weeks_47 ?_
        obtain ⟨v48, ev48, hf⟩ := bnd_some hf
        refine top_i ev48 ?_
        refine lv_istore (lv' := [(4, .int v48), (0, .ref (a r0)), (1, .int x1), (2, .int x2), (3, .int x3)]) hx hb dX14_weeks_48 hl (by decide) rfl (fun ls hl => ?_)
        refine lv_aload_n hx hb dX14_weeks_50 rfl (lv_at hl 1 rfl) ?_
        refine lv_aload_n hx hb dX14_weeks_51 rfl (lv_at hl 1 rfl) ?_
        obtain ⟨q52, hq52, hf⟩ := bi_some hf
        refine aw_gR hC hW g42 fl_X14_44 rfl hq52 dX14_weeks_52 ?_
        refine lv_aload_n hx hb dX14_weeks_55 rfl (lv_at hl 1 rfl) ?_
        refine lv_aload_n hx hb dX14_weeks_56 rfl (lv_at hl 1 rfl) ?_
        obtain ⟨q57, hq57, hf⟩ := bi_some hf
        refine aw_gR hC hW g42 fl_X14_44 rfl hq57 dX14_weeks_57 ?_
        obtain ⟨v60, s60, h60, hf⟩ := ob_some hf
        refine aw_dV1 (r := r0) (As := [.ref (a q57)]) (rest := [.ref (a q52), .ref (a r0)]) (ct_X14_willing l G a r0 q57 s v60 s60 h60) hC hW hl.1 vy_X14_willing (Or.inl q1698) g42 rfl rfl rfl rfl (Nat.le_of_ble_eq_true rfl) ⟨Nat.le_of_ble_eq_true rfl, Nat.le_of_ble_eq_true rfl⟩ ⟨Nat.le_of_ble_eq_true rfl, Nat.le_of_ble_eq_true rfl⟩ dX14_weeks_60 (fun H locs hW => ?_)
        obtain ⟨g63, hf⟩ := gd_some hf
        obtain ⟨_, s63, h63, hf⟩ := ob_some hf
        refine aw_dV0 (r := r0) (As := [.ref (a q52), .int v60]) (rest := []) (ct_X14_goes l G a r0 q52 v60 s60 () s63 h63) hC hW hl.1 vy_X14_goes (Or.inl q1681) g63 rfl rfl rfl rfl (Nat.le_of_ble_eq_true rfl) ⟨Nat.le_of_ble_eq_true rfl, Nat.le_of_ble_eq_true rfl⟩ ⟨Nat.le_of_ble_eq_true rfl, Nat.le_of_ble_eq_true rfl⟩ dX14_weeks_63 (fun H locs hW => ?_)
        refine lv_iload_n hx hb dX14_weeks_66 rfl (lv_at hl 3 rfl) ?_
        refine lv_aload_n hx hb dX14_weeks_67 rfl (lv_at hl 1 rfl) ?_
        obtain ⟨g68, hf⟩ := gd_some hf
        obtain ⟨q68, hq68, hf⟩ := bi_some hf
        refine aw_gR hC hW g68 fl_X14_44 rfl hq68 dX14_weeks_68 ?_
        refine lv_bipush (v := 17) hx hb dX14_weeks_71 (by decide) ?_
        obtain ⟨g73, hf⟩ := gd_some hf
        refine aw_iald hC hW g73 dX14_weeks_73 ?_
        refine lv_iload hx hb dX14_weeks_74 (lv_at hl 0 rfl) ?_
        refine lv_icmp_eq (tgt := 83) hx hb dX14_weeks_76 (by decide) (fun c76 => ?_) (fun c76 => ?_)
        · have hf := ifp c76 hf
          refine lv_iconst (v := 0) hx hb dX14_weeks_83 (by decide) ?_
          exact B84 (f_X14_weeks_b36 n) ih r0 x1 x3 0 x2 s63 hf _ _ _ (lv_sub hl [1, 2, 4] rfl) hW
        · have hf := ifn c76 hf
          refine lv_iconst (v := 1) hx hb dX14_weeks_79 (by decide) ?_
          refine lv_goto (tgt := 84) hx hb dX14_weeks_80 (by decide) ?_
          exact B84 (f_X14_weeks_b36 n) ih r0 x1 x3 1 x2 s63 hf _ _ _ (lv_sub hl [1, 2, 4] rfl) hW
  have B27 : ∀ (r0 : Nat) (x1 : Int32) (s : ST), f_X14_weeks_b27 r0 x1 s = some (rv, sf) → ∀ (H : Heap) (locs : List Loc) (ls : Array Slot), lv_has ls 5 [(0, .ref (a r0)), (1, .int x1)] → AW G a A s s0.heap H locs → WB p l e (rmD 5) s0 m args below meth c H locs G A P 27 ls [] := by
    intro r0 x1 s hf H locs ls hl hW
    unfold f_X14_weeks_b27 at hf
    refine lv_iconst (v := 0) hx hb dX14_weeks_27 (by decide) ?_
    refine lv_istore_n (lv' := [(2, .int 0), (0, .ref (a r0)), (1, .int x1)]) hx hb dX14_weeks_28 rfl hl (by decide) rfl (fun ls hl => ?_)
    refine lv_aload_n hx hb dX14_weeks_29 rfl (lv_at hl 1 rfl) ?_
    refine lv_iconst (v := 0) hx hb dX14_weeks_30 (by decide) ?_
    obtain ⟨g31, hf⟩ := gd_some hf
    obtain ⟨s31, e31, hf⟩ := bnd_some hf
    refine aw_pI e31 hC hW g31 fl_X14_273 (Or.inl fn_13_27) rfl rfl rfl dX14_weeks_31 (fun H locs hW => ?_)
    have g31 := ko_pI e31 g31
    refine lv_iconst (v := 0) hx hb dX14_weeks_34 (by decide) ?_
    refine lv_istore_n (lv' := [(3, .int 0), (2, .int 0), (0, .ref (a r0)), (1, .int x1)]) hx hb dX14_weeks_35 rfl hl (by decide) rfl (fun ls hl => ?_)
    exact B36 fuel r0 x1 0 0 s31 hf _ _ _ (lv_sub hl [2, 3, 1, 0] rfl) hW
  unfold f_X14_weeks at hf
  refine lv_aload_n hx hb dX14_weeks_0 rfl (lv_at hl 0 rfl) ?_
  refine lv_iconst (v := 0) hx hb dX14_weeks_1 (by decide) ?_
  obtain ⟨g2, hf⟩ := gd_some hf
  obtain ⟨s2, e2, hf⟩ := bnd_some hf
  refine aw_pI e2 hC hW g2 fl_X14_3 (Or.inl fn_13_0) rfl rfl rfl dX14_weeks_2 (fun H locs hW => ?_)
  have g2 := ko_pI e2 g2
  refine lv_iload_n hx hb dX14_weeks_5 rfl (lv_at hl 1 rfl) ?_
  refine lv_i2l (v := (x1 : Int32).toInt64) hx hb dX14_weeks_6 rfl ?_
  refine lv_lconst (v := 0) hx hb dX14_weeks_7 (by decide) ?_
  refine lv_ldc2 (v := 99) hx hb hC.2.2.2.1 (hts _ q1697) dX14_weeks_8 ?_
  obtain ⟨v11, ev11, hf⟩ := bnd_some hf
  refine aw_dS1 (As := [.long ((x1 : Int32).toInt64), .long 0, .long 99]) (rest := []) (pc_X14_in l G a ((x1 : Int32).toInt64) 0 99 s2) hC hW hl.1 sy_X14_in (Or.inl q1514) rfl rfl (Nat.le_of_ble_eq_true rfl) ⟨Nat.le_of_ble_eq_true rfl, Nat.le_of_ble_eq_true rfl⟩ ⟨Nat.le_of_ble_eq_true rfl, Nat.le_of_ble_eq_true rfl⟩ dX14_weeks_11 (fun H locs hW => ?_)
  refine top_i ev11 ?_
  refine lv_if_ne (tgt := 19) hx hb dX14_weeks_14 (by decide) (fun c14 => ?_) (fun c14 => ?_)
  · have hf := ifn c14 hf
    refine lv_iload_n hx hb dX14_weeks_19 rfl (lv_at hl 1 rfl) ?_
    refine lv_if_le (tgt := 27) hx hb dX14_weeks_20 (by decide) (fun c20 => ?_) (fun c20 => ?_)
    · have hf := ifp c20 hf
      exact B27 o x1 s2 hf _ _ _ (lv_sub hl [0, 1] rfl) hW
    · have hf := ifn c20 hf
      refine lv_aload_n hx hb dX14_weeks_23 rfl (lv_at hl 0 rfl) ?_
      obtain ⟨_, s24, h24, hf⟩ := ob_some hf
      refine aw_dV0 (r := o) (As := []) (rest := []) (ct_X14_putsBy l G a o s2 () s24 h24) hC hW hl.1 vy_X14_putsBy (Or.inl q1677) g2 rfl rfl rfl rfl (Nat.le_of_ble_eq_true rfl) ⟨Nat.le_of_ble_eq_true rfl, Nat.le_of_ble_eq_true rfl⟩ ⟨Nat.le_of_ble_eq_true rfl, Nat.le_of_ble_eq_true rfl⟩ dX14_weeks_24 (fun H locs hW => ?_)
      exact B27 o x1 s24 hf _ _ _ (lv_sub hl [0, 1] rfl) hW
  · have hf := ifp c14 hf
    refine lv_iconst (v := (-1)) hx hb dX14_weeks_17 (by decide) ?_
    obtain ⟨e1, e2⟩ := so_inj hf
    exact aw_iret hC hW hr rfl (p_eq hP (congrArg (fun z => some (Value.int z)) e1) e2) (Nat.le_of_ble_eq_true rfl) (Nat.le_of_ble_eq_true rfl) dX14_weeks_18
def f_X14_weighed (o : Nat) (x1 : Int32) (x2 : Int32) (s : ST) : Option (Int32 × ST) :=
  gd (o < s.1 ∧ (kd s o).1 = 14) <|
  bnd (pI s o 0 0) fun s2 =>
  ob (f_X14_isPerson o x1 s2) fun v7 s7 =>
  if v7 = 0 then (some ((-1), s7)) else bnd (p_in ((x2 : Int32).toInt64) 0 1010) fun v19 =>
  if v19 = 0 then (some ((-1), s7)) else gd (o < s7.1 ∧ (kd s7 o).1 = 14) <|
  if (gi s7 o 34) = 12 then (some ((-1), s7)) else (gr s7 o 35).bind fun q37 =>
  gd (q37 < s7.1 ∧ (kd s7 q37).1 = 100 ∧ ¬ (((gi s7 o 34) : Int32) < 0 ∨ (kd s7 q37).2 ≤ ((gi s7 o 34) : Int32).toNatClampNeg)) <|
  bnd (pI s7 q37 ((gi s7 o 34) : Int32).toNatClampNeg x1) fun s45 =>
  (gr s45 o 36).bind fun q47 =>
  gd (q47 < s45.1 ∧ (kd s45 q47).1 = 100 ∧ ¬ (((gi s45 o 34) : Int32) < 0 ∨ (kd s45 q47).2 ≤ ((gi s45 o 34) : Int32).toNatClampNeg)) <|
  bnd (pI s45 q47 ((gi s45 o 34) : Int32).toNatClampNeg x2) fun s55 =>
  bnd (pI s55 o 34 ((gi s55 o 34) + 1)) fun s63 =>
  some ((gi s63 o 34), s63)
set_option maxHeartbeats 4000000 in
theorem ct_X14_weighed (l : Launch) (G : GM) (a : Nat → Nat) (o : Nat) (x1 : Int32) (x2 : Int32) (s : ST) (rv : Int32) (sf : ST) (hf : f_X14_weighed o x1 x2 s = some (rv, sf)) : MD l G yX14_weighed (ws_ yX14_weighed cX14_weighed 3 (some .int)) 2 [.ref (a o), .int x1, .int x2] a s (some (.int rv)) sf := by
  refine md_of (d := 2) (lv := [(0, .ref (a o)), (1, .int x1), (2, .int x2)]) (Or.inl (by decide)) (Nat.le_of_ble_eq_true rfl) rfl ?_
  intro p e s0 m args below meth c ls A P hP hC hr hnm hW hl
  have hx := hC.1
  have hb := hC.2.1
  have hts := hC.2.2.2.2.1
  unfold f_X14_weighed at hf
  refine lv_aload_n hx hb dX14_weighed_0 rfl (lv_at hl 0 rfl) ?_
  refine lv_iconst (v := 0) hx hb dX14_weighed_1 (by decide) ?_
  obtain ⟨g2, hf⟩ := gd_some hf
  obtain ⟨s2, e2, hf⟩ := bnd_some hf
  refine aw_pI e2 hC hW g2 fl_X14_3 (Or.inl fn_13_0) rfl rfl rfl dX14_weighed_2 (fun H locs hW => ?_)
  have g2 := ko_pI e2 g2
  refine lv_aload_n hx hb dX14_weighed_5 rfl (lv_at hl 0 rfl) ?_
  refine lv_iload_n hx hb dX14_weighed_6 rfl (lv_at hl 1 rfl) ?_
  obtain ⟨v7, s7, h7, hf⟩ := ob_some hf
  refine aw_dV1 (r := o) (As := [.int x1]) (rest := []) (ct_X14_isPerson l G a o x1 s2 v7 s7 h7) hC hW hl.1 vy_X14_isPerson (Or.inl q1594) g2 rfl rfl rfl rfl (Nat.le_of_ble_eq_true rfl) ⟨Nat.le_of_ble_eq_true rfl, Nat.le_of_ble_eq_true rfl⟩ ⟨Nat.le_of_ble_eq_true rfl, Nat.le_of_ble_eq_true rfl⟩ dX14_weighed_7 (fun H locs hW => ?_)
  refine lv_if_eq (tgt := 34) hx hb dX14_weighed_10 (by decide) (fun c10 => ?_) (fun c10 => ?_)
  · have hf := ifp c10 hf
    refine lv_iconst (v := (-1)) hx hb dX14_weighed_34 (by decide) ?_
    obtain ⟨e1, e2⟩ := so_inj hf
    exact aw_iret hC hW hr rfl (p_eq hP (congrArg (fun z => some (Value.int z)) e1) e2) (Nat.le_of_ble_eq_true rfl) (Nat.le_of_ble_eq_true rfl) dX14_weighed_35
  · have hf := ifn c10 hf
    refine lv_iload_n hx hb dX14_weighed_13 rfl (lv_at hl 2 rfl) ?_
    refine lv_i2l (v := (x2 : Int32).toInt64) hx hb dX14_weighed_14 rfl ?_
    refine lv_lconst (v := 0) hx hb dX14_weighed_15 (by decide) ?_
    refine lv_ldc2 (v := 1010) hx hb hC.2.2.2.1 (hts _ q1841) dX14_weighed_16 ?_
    obtain ⟨v19, ev19, hf⟩ := bnd_some hf
    refine aw_dS1 (As := [.long ((x2 : Int32).toInt64), .long 0, .long 1010]) (rest := []) (pc_X14_in l G a ((x2 : Int32).toInt64) 0 1010 s7) hC hW hl.1 sy_X14_in (Or.inl q1514) rfl rfl (Nat.le_of_ble_eq_true rfl) ⟨Nat.le_of_ble_eq_true rfl, Nat.le_of_ble_eq_true rfl⟩ ⟨Nat.le_of_ble_eq_true rfl, Nat.le_of_ble_eq_true rfl⟩ dX14_weighed_19 (fun H locs hW => ?_)
    refine top_i ev19 ?_
    refine lv_if_eq (tgt := 34) hx hb dX14_weighed_22 (by decide) (fun c22 => ?_) (fun c22 => ?_)
    · have hf := ifp c22 hf
      refine lv_iconst (v := (-1)) hx hb dX14_weighed_34 (by decide) ?_
      obtain ⟨e1, e2⟩ := so_inj hf
      exact aw_iret hC hW hr rfl (p_eq hP (congrArg (fun z => some (Value.int z)) e1) e2) (Nat.le_of_ble_eq_true rfl) (Nat.le_of_ble_eq_true rfl) dX14_weighed_35
    · have hf := ifn c22 hf
      refine lv_aload_n hx hb dX14_weighed_25 rfl (lv_at hl 0 rfl) ?_
      obtain ⟨g26, hf⟩ := gd_some hf
      refine aw_gI hC hW g26 fl_X14_351 rfl dX14_weighed_26 ?_
      refine lv_bipush (v := 12) hx hb dX14_weighed_29 (by decide) ?_
      refine lv_icmp_ne (tgt := 36) hx hb dX14_weighed_31 (by decide) (fun c31 => ?_) (fun c31 => ?_)
      · have hf := ifn c31 hf
        refine lv_aload_n hx hb dX14_weighed_36 rfl (lv_at hl 0 rfl) ?_
        obtain ⟨q37, hq37, hf⟩ := bi_some hf
        refine aw_gR hC hW g26 fl_X14_86 rfl hq37 dX14_weighed_37 ?_
        refine lv_aload_n hx hb dX14_weighed_40 rfl (lv_at hl 0 rfl) ?_
        refine aw_gI hC hW g26 fl_X14_351 rfl dX14_weighed_41 ?_
        refine lv_iload_n hx hb dX14_weighed_44 rfl (lv_at hl 1 rfl) ?_
        obtain ⟨g45, hf⟩ := gd_some hf
        obtain ⟨s45, e45, hf⟩ := bnd_some hf
        refine aw_iast e45 hC hW g45 dX14_weighed_45 (fun H locs hW => ?_)
        have g26 := ko_pI e45 g26
        refine lv_aload_n hx hb dX14_weighed_46 rfl (lv_at hl 0 rfl) ?_
        obtain ⟨q47, hq47, hf⟩ := bi_some hf
        refine aw_gR hC hW g26 fl_X14_89 rfl hq47 dX14_weighed_47 ?_
        refine lv_aload_n hx hb dX14_weighed_50 rfl (lv_at hl 0 rfl) ?_
        refine aw_gI hC hW g26 fl_X14_351 rfl dX14_weighed_51 ?_
        refine lv_iload_n hx hb dX14_weighed_54 rfl (lv_at hl 2 rfl) ?_
        obtain ⟨g55, hf⟩ := gd_some hf
        obtain ⟨s55, e55, hf⟩ := bnd_some hf
        refine aw_iast e55 hC hW g55 dX14_weighed_55 (fun H locs hW => ?_)
        have g26 := ko_pI e55 g26
        refine lv_aload_n hx hb dX14_weighed_56 rfl (lv_at hl 0 rfl) ?_
        refine lv_dup hx hb dX14_weighed_57 rfl ?_
        refine aw_gI hC hW g26 fl_X14_351 rfl dX14_weighed_58 ?_
        refine lv_iconst (v := 1) hx hb dX14_weighed_61 (by decide) ?_
        refine lv_iadd hx hb dX14_weighed_62 ?_
        obtain ⟨s63, e63, hf⟩ := bnd_some hf
        refine aw_pI e63 hC hW g26 fl_X14_351 (Or.inl fn_13_34) rfl rfl rfl dX14_weighed_63 (fun H locs hW => ?_)
        have g26 := ko_pI e63 g26
        refine lv_aload_n hx hb dX14_weighed_66 rfl (lv_at hl 0 rfl) ?_
        refine aw_gI hC hW g26 fl_X14_351 rfl dX14_weighed_67 ?_
        obtain ⟨e1, e2⟩ := so_inj hf
        exact aw_iret hC hW hr rfl (p_eq hP (congrArg (fun z => some (Value.int z)) e1) e2) (Nat.le_of_ble_eq_true rfl) (Nat.le_of_ble_eq_true rfl) dX14_weighed_70
      · have hf := ifp c31 hf
        refine lv_iconst (v := (-1)) hx hb dX14_weighed_34 (by decide) ?_
        obtain ⟨e1, e2⟩ := so_inj hf
        exact aw_iret hC hW hr rfl (p_eq hP (congrArg (fun z => some (Value.int z)) e1) e2) (Nat.le_of_ble_eq_true rfl) (Nat.le_of_ble_eq_true rfl) dX14_weighed_35
def f_X14_wipe (o : Nat) (s : ST) : Option (Int32 × ST) :=
  gd (o < s.1 ∧ (kd s o).1 = 14) <|
  bnd (pI s o 0 0) fun s2 =>
  bnd ((gi s2 o 37) : Int32) fun v9 =>
  bnd (pI s2 o 37 0) fun s12 =>
  some (v9, s12)
set_option maxHeartbeats 4000000 in
theorem ct_X14_wipe (l : Launch) (G : GM) (a : Nat → Nat) (o : Nat) (s : ST) (rv : Int32) (sf : ST) (hf : f_X14_wipe o s = some (rv, sf)) : MD l G yX14_wipe (ws_ yX14_wipe cX14_wipe 2 (some .int)) 0 [.ref (a o)] a s (some (.int rv)) sf := by
  refine md_of (d := 0) (lv := [(0, .ref (a o))]) (Or.inl (by decide)) (Nat.le_of_ble_eq_true rfl) rfl ?_
  intro p e s0 m args below meth c ls A P hP hC hr hnm hW hl
  have hx := hC.1
  have hb := hC.2.1
  have hts := hC.2.2.2.2.1
  unfold f_X14_wipe at hf
  refine lv_aload_n hx hb dX14_wipe_0 rfl (lv_at hl 0 rfl) ?_
  refine lv_iconst (v := 0) hx hb dX14_wipe_1 (by decide) ?_
  obtain ⟨g2, hf⟩ := gd_some hf
  obtain ⟨s2, e2, hf⟩ := bnd_some hf
  refine aw_pI e2 hC hW g2 fl_X14_3 (Or.inl fn_13_0) rfl rfl rfl dX14_wipe_2 (fun H locs hW => ?_)
  have g2 := ko_pI e2 g2
  refine lv_aload_n hx hb dX14_wipe_5 rfl (lv_at hl 0 rfl) ?_
  refine aw_gI hC hW g2 fl_X14_368 rfl dX14_wipe_6 ?_
  obtain ⟨v9, ev9, hf⟩ := bnd_some hf
  refine top_i ev9 ?_
  refine lv_istore_n (lv' := [(1, .int v9), (0, .ref (a o))]) hx hb dX14_wipe_9 rfl hl (by decide) rfl (fun ls hl => ?_)
  refine lv_aload_n hx hb dX14_wipe_10 rfl (lv_at hl 1 rfl) ?_
  refine lv_iconst (v := 0) hx hb dX14_wipe_11 (by decide) ?_
  obtain ⟨s12, e12, hf⟩ := bnd_some hf
  refine aw_pI e12 hC hW g2 fl_X14_368 (Or.inl fn_13_37) rfl rfl rfl dX14_wipe_12 (fun H locs hW => ?_)
  have g2 := ko_pI e12 g2
  refine lv_iload_n hx hb dX14_wipe_15 rfl (lv_at hl 0 rfl) ?_
  obtain ⟨e1, e2⟩ := so_inj hf
  exact aw_iret hC hW hr rfl (p_eq hP (congrArg (fun z => some (Value.int z)) e1) e2) (Nat.le_of_ble_eq_true rfl) (Nat.le_of_ble_eq_true rfl) dX14_wipe_16
def f_X14_year_b155 (x4 : Int32) (t0 : Int32) (w1 : Nat) (s : ST) : Option (Int32 × ST) :=
  bnd (p_flag t0) fun v155 =>
  gd (w1 < s.1 ∧ (kd s w1).1 = 14) <|
  ob (f_X14_enters w1 ((v155 : Int32).toInt64) s) fun _ s159 =>
  some (x4, s159)
def f_X14_year_b123 (r0 : Nat) (x4 : Int32) (s : ST) : Option (Int32 × ST) :=
  gd (r0 < s.1 ∧ (kd s r0).1 = 14) <|
  bnd (pI s r0 1 0) fun s125 =>
  (gr s125 r0 10).bind fun q130 =>
  gd (q130 < s125.1 ∧ (kd s125 q130).1 = 100 ∧ ¬ ((17 : Int32) < 0 ∨ (kd s125 q130).2 ≤ (17 : Int32).toNatClampNeg)) <|
  ob (f_X14_enters r0 (((gi s125 q130 (17 : Int32).toNatClampNeg) : Int32).toInt64) s125) fun _ s137 =>
  gd (r0 < s137.1 ∧ (kd s137 r0).1 = 14) <|
  if (gi s137 r0 31) ≤ x4 then (f_X14_year_b155 x4 0 r0 s137) else f_X14_year_b155 x4 1 r0 s137
def f_X14_year_b102 (K68 : Nat → Int32 → ST → Option (Int32 × ST)) (r0 : Nat) (x4 : Int32) (s : ST) : Option (Int32 × ST) :=
  gd (r0 < s.1 ∧ (kd s r0).1 = 14) <|
  (gr s r0 10).bind fun q104 =>
  (gr s r0 30).bind fun q108 =>
  gd (q108 < s.1 ∧ (kd s q108).1 = 100 ∧ ¬ ((x4 : Int32) < 0 ∨ (kd s q108).2 ≤ (x4 : Int32).toNatClampNeg)) <|
  ob (f_X14_goes r0 q104 (gi s q108 (x4 : Int32).toNatClampNeg) s) fun _ s114 =>
  bnd (x4 + 1 : Int32) fun v117 =>
  K68 r0 v117 s114
def f_X14_year_b68 : Nat → Nat → Int32 → ST → Option (Int32 × ST)
  | 0, _, _, _ => none
  | n + 1, r0, x4, s =>
  gd (r0 < s.1 ∧ (kd s r0).1 = 14) <|
  if (gi s r0 31) ≤ x4 then (f_X14_year_b123 r0 x4 s) else (gr s r0 30).bind fun q78 =>
  gd (q78 < s.1 ∧ (kd s q78).1 = 100 ∧ ¬ ((x4 : Int32) < 0 ∨ (kd s q78).2 ≤ (x4 : Int32).toNatClampNeg)) <|
  if (1 <<< ((gi s r0 3) &&& 31)) ≤ (gi s q78 (x4 : Int32).toNatClampNeg) then (f_X14_year_b123 r0 x4 s) else if x4 = 0 then (ob (f_X14_putsBy r0 s) fun _ s99 =>
  f_X14_year_b102 (f_X14_year_b68 n) r0 x4 s99) else f_X14_year_b102 (f_X14_year_b68 n) r0 x4 s
def f_X14_year_b27 : Nat → Nat → Int32 → Int32 → ST → Option (Int32 × ST)
  | 0, _, _, _, _ => none
  | n + 1, r0, x1, x2, s =>
  if x2 = 0 then (gd (r0 < s.1 ∧ (kd s r0).1 = 14) <|
  ob (f_X14_faultOf r0 x1 60 1 s) fun v50 s50 =>
  if 0 ≤ v50 then (gd (r0 < s50.1 ∧ (kd s50 r0).1 = 14) <|
  bnd (pI s50 r0 27 0) fun s65 =>
  f_X14_year_b68 fuel r0 0 s65) else some (v50, s50)) else gd (r0 < s.1 ∧ (kd s r0).1 = 14) <|
  ob (f_X14_readsWeek r0 s) fun _ s32 =>
  gd (r0 < s32.1 ∧ (kd s32 r0).1 = 14) <|
  ob (f_X14_takes r0 59 s32) fun v38 s38 =>
  f_X14_year_b27 n r0 x1 v38 s38
def f_X14_year_b26 (r0 : Nat) (x1 : Int32) (t0 : Int32) (s : ST) : Option (Int32 × ST) :=
  f_X14_year_b27 fuel r0 x1 t0 s
def f_X14_year (o : Nat) (s : ST) : Option (Int32 × ST) :=
  gd (o < s.1 ∧ (kd s o).1 = 14) <|
  bnd (pI s o 0 0) fun s2 =>
  ob (f_X14_begins o 60 s2) fun v8 s8 =>
  gd (o < s8.1 ∧ (kd s8 o).1 = 14) <|
  bnd (pI s8 o 31 0) fun s14 =>
  if v8 ≤ 0 then (f_X14_year_b26 o v8 0 s14) else f_X14_year_b26 o v8 1 s14
set_option maxHeartbeats 4000000 in
theorem ct_X14_year (l : Launch) (G : GM) (a : Nat → Nat) (o : Nat) (s : ST) (rv : Int32) (sf : ST) (hf : f_X14_year o s = some (rv, sf)) : MD l G yX14_year (ws_ yX14_year cX14_year 5 (some .int)) 3 [.ref (a o)] a s (some (.int rv)) sf := by
  refine md_of (d := 3) (lv := [(0, .ref (a o))]) (Or.inl (by decide)) (Nat.le_of_ble_eq_true rfl) rfl ?_
  intro p e s0 m args below meth c ls A P hP hC hr hnm hW hl
  have hx := hC.1
  have hb := hC.2.1
  have hts := hC.2.2.2.2.1
  have B155 : ∀ (x4 : Int32) (t0 : Int32) (w1 : Nat) (s : ST), f_X14_year_b155 x4 t0 w1 s = some (rv, sf) → ∀ (H : Heap) (locs : List Loc) (ls : Array Slot), lv_has ls 5 [(4, .int x4)] → AW G a A s s0.heap H locs → WB p l e (rmD 3) s0 m args below meth c H locs G A P 155 ls [.int t0, .ref (a w1)] := by
    intro x4 t0 w1 s hf H locs ls hl hW
    unfold f_X14_year_b155 at hf
    obtain ⟨v155, ev155, hf⟩ := bnd_some hf
    refine aw_dS1 (As := [.int t0]) (rest := [.ref (a w1)]) (pc_X14_flag l G a t0 s) hC hW hl.1 sy_X14_flag (Or.inl q1544) rfl rfl (Nat.le_of_ble_eq_true rfl) ⟨Nat.le_of_ble_eq_true rfl, Nat.le_of_ble_eq_true rfl⟩ ⟨Nat.le_of_ble_eq_true rfl, Nat.le_of_ble_eq_true rfl⟩ dX14_year_155 (fun H locs hW => ?_)
    refine top_i ev155 ?_
    refine lv_i2l (v := (v155 : Int32).toInt64) hx hb dX14_year_158 rfl ?_
    obtain ⟨g159, hf⟩ := gd_some hf
    obtain ⟨_, s159, h159, hf⟩ := ob_some hf
    refine aw_dV0 (r := w1) (As := [.long ((v155 : Int32).toInt64)]) (rest := []) (ct_X14_enters l G a w1 ((v155 : Int32).toInt64) s () s159 h159) hC hW hl.1 vy_X14_enters (Or.inl q1689) g159 rfl rfl rfl rfl (Nat.le_of_ble_eq_true rfl) ⟨Nat.le_of_ble_eq_true rfl, Nat.le_of_ble_eq_true rfl⟩ ⟨Nat.le_of_ble_eq_true rfl, Nat.le_of_ble_eq_true rfl⟩ dX14_year_159 (fun H locs hW => ?_)
    refine lv_iload hx hb dX14_year_162 (lv_at hl 0 rfl) ?_
    obtain ⟨e1, e2⟩ := so_inj hf
    exact aw_iret hC hW hr rfl (p_eq hP (congrArg (fun z => some (Value.int z)) e1) e2) (Nat.le_of_ble_eq_true rfl) (Nat.le_of_ble_eq_true rfl) dX14_year_164
  have B123 : ∀ (r0 : Nat) (x4 : Int32) (s : ST), f_X14_year_b123 r0 x4 s = some (rv, sf) → ∀ (H : Heap) (locs : List Loc) (ls : Array Slot), lv_has ls 5 [(0, .ref (a r0)), (4, .int x4)] → AW G a A s s0.heap H locs → WB p l e (rmD 3) s0 m args below meth c H locs G A P 123 ls [] := by
    intro r0 x4 s hf H locs ls hl hW
    unfold f_X14_year_b123 at hf
    refine lv_aload_n hx hb dX14_year_123 rfl (lv_at hl 0 rfl) ?_
    refine lv_iconst (v := 0) hx hb dX14_year_124 (by decide) ?_
    obtain ⟨g125, hf⟩ := gd_some hf
    obtain ⟨s125, e125, hf⟩ := bnd_some hf
    refine aw_pI e125 hC hW g125 fl_X14_15 (Or.inl fn_13_1) rfl rfl rfl dX14_year_125 (fun H locs hW => ?_)
    have g125 := ko_pI e125 g125
    refine lv_aload_n hx hb dX14_year_128 rfl (lv_at hl 0 rfl) ?_
    refine lv_aload_n hx hb dX14_year_129 rfl (lv_at hl 0 rfl) ?_
    obtain ⟨q130, hq130, hf⟩ := bi_some hf
    refine aw_gR hC hW g125 fl_X14_44 rfl hq130 dX14_year_130 ?_
    refine lv_bipush (v := 17) hx hb dX14_year_133 (by decide) ?_
    obtain ⟨g135, hf⟩ := gd_some hf
    refine aw_iald hC hW g135 dX14_year_135 ?_
    refine lv_i2l (v := ((gi s125 q130 (17 : Int32).toNatClampNeg) : Int32).toInt64) hx hb dX14_year_136 rfl ?_
    obtain ⟨_, s137, h137, hf⟩ := ob_some hf
    refine aw_dV0 (r := r0) (As := [.long (((gi s125 q130 (17 : Int32).toNatClampNeg) : Int32).toInt64)]) (rest := []) (ct_X14_enters l G a r0 (((gi s125 q130 (17 : Int32).toNatClampNeg) : Int32).toInt64) s125 () s137 h137) hC hW hl.1 vy_X14_enters (Or.inl q1689) g125 rfl rfl rfl rfl (Nat.le_of_ble_eq_true rfl) ⟨Nat.le_of_ble_eq_true rfl, Nat.le_of_ble_eq_true rfl⟩ ⟨Nat.le_of_ble_eq_true rfl, Nat.le_of_ble_eq_true rfl⟩ dX14_year_137 (fun H locs hW => ?_)
    refine lv_aload_n hx hb dX14_year_140 rfl (lv_at hl 0 rfl) ?_
    refine lv_iload hx hb dX14_year_141 (lv_at hl 1 rfl) ?_
    refine lv_aload_n hx hb dX14_year_143 rfl (lv_at hl 0 rfl) ?_
    obtain ⟨g144, hf⟩ := gd_some hf
    refine aw_gI hC hW g144 fl_X14_291 rfl dX14_year_144 ?_
    refine lv_icmp_ge (tgt := 154) hx hb dX14_year_147 (by decide) (fun c147 => ?_) (fun c147 => ?_)
    · have hf := ifp c147 hf
      refine lv_iconst (v := 0) hx hb dX14_year_154 (by decide) ?_
      exact B155 x4 0 r0 s137 hf _ _ _ (lv_sub hl [1] rfl) hW
    · have hf := ifn c147 hf
      refine lv_iconst (v := 1) hx hb dX14_year_150 (by decide) ?_
      refine lv_goto (tgt := 155) hx hb dX14_year_151 (by decide) ?_
      exact B155 x4 1 r0 s137 hf _ _ _ (lv_sub hl [1] rfl) hW
  have B102 : ∀ (K68 : Nat → Int32 → ST → Option (Int32 × ST)) (hK68 : ∀ (r0 : Nat) (x4 : Int32) (s : ST), K68 r0 x4 s = some (rv, sf) → ∀ (H : Heap) (locs : List Loc) (ls : Array Slot), lv_has ls 5 [(0, .ref (a r0)), (4, .int x4)] → AW G a A s s0.heap H locs → WB p l e (rmD 3) s0 m args below meth c H locs G A P 68 ls []), ∀ (r0 : Nat) (x4 : Int32) (s : ST), f_X14_year_b102 K68 r0 x4 s = some (rv, sf) → ∀ (H : Heap) (locs : List Loc) (ls : Array Slot), lv_has ls 5 [(0, .ref (a r0)), (4, .int x4)] → AW G a A s s0.heap H locs → WB p l e (rmD 3) s0 m args below meth c H locs G A P 102 ls [] := by
    intro K68 hK68 r0 x4 s hf H locs ls hl hW
    unfold f_X14_year_b102 at hf
    refine lv_aload_n hx hb dX14_year_102 rfl (lv_at hl 0 rfl) ?_
    refine lv_aload_n hx hb dX14_year_103 rfl (lv_at hl 0 rfl) ?_
    obtain ⟨g104, hf⟩ := gd_some hf
    obtain ⟨q104, hq104, hf⟩ := bi_some hf
    refine aw_gR hC hW g104 fl_X14_44 rfl hq104 dX14_year_104 ?_
    refine lv_aload_n hx hb dX14_year_107 rfl (lv_at hl 0 rfl) ?_
    obtain ⟨q108, hq108, hf⟩ := bi_some hf
    refine aw_gR hC hW g104 fl_X14_77 rfl hq108 dX14_year_108 ?_
    refine lv_iload hx hb dX14_year_111 (lv_at hl 1 rfl) ?_
    obtain ⟨g113, hf⟩ := gd_some hf
    refine aw_iald hC hW g113 dX14_year_113 ?_
    obtain ⟨_, s114, h114, hf⟩ := ob_some hf
    refine aw_dV0 (r := r0) (As := [.ref (a q104), .int (gi s q108 (x4 : Int32).toNatClampNeg)]) (rest := []) (ct_X14_goes l G a r0 q104 (gi s q108 (x4 : Int32).toNatClampNeg) s () s114 h114) hC hW hl.1 vy_X14_goes (Or.inl q1681) g104 rfl rfl rfl rfl (Nat.le_of_ble_eq_true rfl) ⟨Nat.le_of_ble_eq_true rfl, Nat.le_of_ble_eq_true rfl⟩ ⟨Nat.le_of_ble_eq_true rfl, Nat.le_of_ble_eq_true rfl⟩ dX14_year_114 (fun H locs hW => ?_)
    obtain ⟨v117, ev117, hf⟩ := bnd_some hf
    refine lv_iinc (v := v117) (lv' := [(4, .int v117), (0, .ref (a r0))]) hx hb dX14_year_117 hl (k := 1) rfl (by rw [ev117]; rfl) (by decide) rfl (fun ls hl => ?_)
    refine lv_goto (tgt := 68) hx hb dX14_year_120 (by decide) ?_
    exact hK68 r0 v117 s114 hf _ _ _ (lv_sub hl [1, 0] rfl) hW
  have B68 : ∀ (n : Nat), ∀ (r0 : Nat) (x4 : Int32) (s : ST), f_X14_year_b68 n r0 x4 s = some (rv, sf) → ∀ (H : Heap) (locs : List Loc) (ls : Array Slot), lv_has ls 5 [(0, .ref (a r0)), (4, .int x4)] → AW G a A s s0.heap H locs → WB p l e (rmD 3) s0 m args below meth c H locs G A P 68 ls [] := by
    intro n
    induction n with
    | zero => intro r0 x4 s hf; cases hf
    | succ n ih =>
      intro r0 x4 s hf H locs ls hl hW
      rw [f_X14_year_b68] at hf
      refine lv_iload hx hb dX14_year_68 (lv_at hl 1 rfl) ?_
      refine lv_aload_n hx hb dX14_year_70 rfl (lv_at hl 0 rfl) ?_
      obtain ⟨g71, hf⟩ := gd_some hf
      refine aw_gI hC hW g71 fl_X14_291 rfl dX14_year_71 ?_
      refine lv_icmp_ge (tgt := 123) hx hb dX14_year_74 (by decide) (fun c74 => ?_) (fun c74 => ?_)
      · have hf := ifp c74 hf
        exact B123 r0 x4 s hf _ _ _ (lv_sub hl [0, 1] rfl) hW
      · have hf := ifn c74 hf
        refine lv_aload_n hx hb dX14_year_77 rfl (lv_at hl 0 rfl) ?_
        obtain ⟨q78, hq78, hf⟩ := bi_some hf
        refine aw_gR hC hW g71 fl_X14_77 rfl hq78 dX14_year_78 ?_
        refine lv_iload hx hb dX14_year_81 (lv_at hl 1 rfl) ?_
        obtain ⟨g83, hf⟩ := gd_some hf
        refine aw_iald hC hW g83 dX14_year_83 ?_
        refine lv_iconst (v := 1) hx hb dX14_year_84 (by decide) ?_
        refine lv_aload_n hx hb dX14_year_85 rfl (lv_at hl 0 rfl) ?_
        refine aw_gI hC hW g71 fl_X14_117 rfl dX14_year_86 ?_
        refine lv_ishl hx hb dX14_year_89 ?_
        refine lv_icmp_ge (tgt := 123) hx hb dX14_year_90 (by decide) (fun c90 => ?_) (fun c90 => ?_)
        · have hf := ifp c90 hf
          exact B123 r0 x4 s hf _ _ _ (lv_sub hl [0, 1] rfl) hW
        · have hf := ifn c90 hf
          refine lv_iload hx hb dX14_year_93 (lv_at hl 1 rfl) ?_
          refine lv_if_ne (tgt := 102) hx hb dX14_year_95 (by decide) (fun c95 => ?_) (fun c95 => ?_)
          · have hf := ifn c95 hf
            exact B102 (f_X14_year_b68 n) ih r0 x4 s hf _ _ _ (lv_sub hl [0, 1] rfl) hW
          · have hf := ifp c95 hf
            refine lv_aload_n hx hb dX14_year_98 rfl (lv_at hl 0 rfl) ?_
            obtain ⟨_, s99, h99, hf⟩ := ob_some hf
            refine aw_dV0 (r := r0) (As := []) (rest := []) (ct_X14_putsBy l G a r0 s () s99 h99) hC hW hl.1 vy_X14_putsBy (Or.inl q1677) g71 rfl rfl rfl rfl (Nat.le_of_ble_eq_true rfl) ⟨Nat.le_of_ble_eq_true rfl, Nat.le_of_ble_eq_true rfl⟩ ⟨Nat.le_of_ble_eq_true rfl, Nat.le_of_ble_eq_true rfl⟩ dX14_year_99 (fun H locs hW => ?_)
            exact B102 (f_X14_year_b68 n) ih r0 x4 s99 hf _ _ _ (lv_sub hl [0, 1] rfl) hW
  have B27 : ∀ (n : Nat), ∀ (r0 : Nat) (x1 : Int32) (x2 : Int32) (s : ST), f_X14_year_b27 n r0 x1 x2 s = some (rv, sf) → ∀ (H : Heap) (locs : List Loc) (ls : Array Slot), lv_has ls 5 [(0, .ref (a r0)), (1, .int x1), (2, .int x2)] → AW G a A s s0.heap H locs → WB p l e (rmD 3) s0 m args below meth c H locs G A P 27 ls [] := by
    intro n
    induction n with
    | zero => intro r0 x1 x2 s hf; cases hf
    | succ n ih =>
      intro r0 x1 x2 s hf H locs ls hl hW
      rw [f_X14_year_b27] at hf
      refine lv_iload_n hx hb dX14_year_27 rfl (lv_at hl 2 rfl) ?_
      refine lv_if_eq (tgt := 45) hx hb dX14_year_28 (by decide) (fun c28 => ?_) (fun c28 => ?_)
      · have hf := ifp c28 hf
        refine lv_aload_n hx hb dX14_year_45 rfl (lv_at hl 0 rfl) ?_
        refine lv_iload_n hx hb dX14_year_46 rfl (lv_at hl 1 rfl) ?_
        refine lv_bipush (v := 60) hx hb dX14_year_47 (by decide) ?_
        refine lv_iconst (v := 1) hx hb dX14_year_49 (by decide) ?_
        obtain ⟨g50, hf⟩ := gd_some hf
        obtain ⟨v50, s50, h50, hf⟩ := ob_some hf
        refine aw_dV1 (r := r0) (As := [.int x1, .int 60, .int 1]) (rest := []) (ct_X14_faultOf l G a r0 x1 60 1 s v50 s50 h50) hC hW hl.1 vy_X14_faultOf (Or.inl q1578) g50 rfl rfl rfl rfl (Nat.le_of_ble_eq_true rfl) ⟨Nat.le_of_ble_eq_true rfl, Nat.le_of_ble_eq_true rfl⟩ ⟨Nat.le_of_ble_eq_true rfl, Nat.le_of_ble_eq_true rfl⟩ dX14_year_50 (fun H locs hW => ?_)
        refine lv_istore_n (lv' := [(3, .int v50), (0, .ref (a r0)), (1, .int x1), (2, .int x2)]) hx hb dX14_year_53 rfl hl (by decide) rfl (fun ls hl => ?_)
        refine lv_iload_n hx hb dX14_year_54 rfl (lv_at hl 0 rfl) ?_
        refine lv_if_ge (tgt := 60) hx hb dX14_year_55 (by decide) (fun c55 => ?_) (fun c55 => ?_)
        · have hf := ifp c55 hf
          refine lv_iconst (v := 0) hx hb dX14_year_60 (by decide) ?_
          refine lv_istore (lv' := [(4, .int 0), (3, .int v50), (0, .ref (a r0)), (1, .int x1), (2, .int x2)]) hx hb dX14_year_61 hl (by decide) rfl (fun ls hl => ?_)
          refine lv_aload_n hx hb dX14_year_63 rfl (lv_at hl 2 rfl) ?_
          refine lv_iconst (v := 0) hx hb dX14_year_64 (by decide) ?_
          obtain ⟨g65, hf⟩ := gd_some hf
          obtain ⟨s65, e65, hf⟩ := bnd_some hf
          refine aw_pI e65 hC hW g65 fl_X14_273 (Or.inl fn_13_27) rfl rfl rfl dX14_year_65 (fun H locs hW => ?_)
          have g65 := ko_pI e65 g65
          exact B68 fuel r0 0 s65 hf _ _ _ (lv_sub hl [2, 0] rfl) hW
        · have hf := ifn c55 hf
          refine lv_iload_n hx hb dX14_year_58 rfl (lv_at hl 0 rfl) ?_
          obtain ⟨e1, e2⟩ := so_inj hf
          exact aw_iret hC hW hr rfl (p_eq hP (congrArg (fun z => some (Value.int z)) e1) e2) (Nat.le_of_ble_eq_true rfl) (Nat.le_of_ble_eq_true rfl) dX14_year_59
      · have hf := ifn c28 hf
        refine lv_aload_n hx hb dX14_year_31 rfl (lv_at hl 0 rfl) ?_
        obtain ⟨g32, hf⟩ := gd_some hf
        obtain ⟨_, s32, h32, hf⟩ := ob_some hf
        refine aw_dV0 (r := r0) (As := []) (rest := []) (ct_X14_readsWeek l G a r0 s () s32 h32) hC hW hl.1 vy_X14_readsWeek (Or.inl q1706) g32 rfl rfl rfl rfl (Nat.le_of_ble_eq_true rfl) ⟨Nat.le_of_ble_eq_true rfl, Nat.le_of_ble_eq_true rfl⟩ ⟨Nat.le_of_ble_eq_true rfl, Nat.le_of_ble_eq_true rfl⟩ dX14_year_32 (fun H locs hW => ?_)
        refine lv_aload_n hx hb dX14_year_35 rfl (lv_at hl 0 rfl) ?_
        refine lv_bipush (v := 59) hx hb dX14_year_36 (by decide) ?_
        obtain ⟨g38, hf⟩ := gd_some hf
        obtain ⟨v38, s38, h38, hf⟩ := ob_some hf
        refine aw_dV1 (r := r0) (As := [.int 59]) (rest := []) (ct_X14_takes l G a r0 59 s32 v38 s38 h38) hC hW hl.1 vy_X14_takes (Or.inl q1540) g38 rfl rfl rfl rfl (Nat.le_of_ble_eq_true rfl) ⟨Nat.le_of_ble_eq_true rfl, Nat.le_of_ble_eq_true rfl⟩ ⟨Nat.le_of_ble_eq_true rfl, Nat.le_of_ble_eq_true rfl⟩ dX14_year_38 (fun H locs hW => ?_)
        refine lv_istore_n (lv' := [(2, .int v38), (0, .ref (a r0)), (1, .int x1)]) hx hb dX14_year_41 rfl hl (by decide) rfl (fun ls hl => ?_)
        refine lv_goto (tgt := 27) hx hb dX14_year_42 (by decide) ?_
        exact ih r0 x1 v38 s38 hf _ _ _ (lv_sub hl [1, 2, 0] rfl) hW
  have B26 : ∀ (r0 : Nat) (x1 : Int32) (t0 : Int32) (s : ST), f_X14_year_b26 r0 x1 t0 s = some (rv, sf) → ∀ (H : Heap) (locs : List Loc) (ls : Array Slot), lv_has ls 5 [(0, .ref (a r0)), (1, .int x1)] → AW G a A s s0.heap H locs → WB p l e (rmD 3) s0 m args below meth c H locs G A P 26 ls [.int t0] := by
    intro r0 x1 t0 s hf H locs ls hl hW
    unfold f_X14_year_b26 at hf
    refine lv_istore_n (lv' := [(2, .int t0), (0, .ref (a r0)), (1, .int x1)]) hx hb dX14_year_26 rfl hl (by decide) rfl (fun ls hl => ?_)
    exact B27 fuel r0 x1 t0 s hf _ _ _ (lv_sub hl [1, 2, 0] rfl) hW
  unfold f_X14_year at hf
  refine lv_aload_n hx hb dX14_year_0 rfl (lv_at hl 0 rfl) ?_
  refine lv_iconst (v := 0) hx hb dX14_year_1 (by decide) ?_
  obtain ⟨g2, hf⟩ := gd_some hf
  obtain ⟨s2, e2, hf⟩ := bnd_some hf
  refine aw_pI e2 hC hW g2 fl_X14_3 (Or.inl fn_13_0) rfl rfl rfl dX14_year_2 (fun H locs hW => ?_)
  have g2 := ko_pI e2 g2
  refine lv_aload_n hx hb dX14_year_5 rfl (lv_at hl 0 rfl) ?_
  refine lv_bipush (v := 60) hx hb dX14_year_6 (by decide) ?_
  obtain ⟨v8, s8, h8, hf⟩ := ob_some hf
  refine aw_dV1 (r := o) (As := [.int 60]) (rest := []) (ct_X14_begins l G a o 60 s2 v8 s8 h8) hC hW hl.1 vy_X14_begins (Or.inl q1521) g2 rfl rfl rfl rfl (Nat.le_of_ble_eq_true rfl) ⟨Nat.le_of_ble_eq_true rfl, Nat.le_of_ble_eq_true rfl⟩ ⟨Nat.le_of_ble_eq_true rfl, Nat.le_of_ble_eq_true rfl⟩ dX14_year_8 (fun H locs hW => ?_)
  refine lv_istore_n (lv' := [(1, .int v8), (0, .ref (a o))]) hx hb dX14_year_11 rfl hl (by decide) rfl (fun ls hl => ?_)
  refine lv_aload_n hx hb dX14_year_12 rfl (lv_at hl 1 rfl) ?_
  refine lv_iconst (v := 0) hx hb dX14_year_13 (by decide) ?_
  obtain ⟨g14, hf⟩ := gd_some hf
  obtain ⟨s14, e14, hf⟩ := bnd_some hf
  refine aw_pI e14 hC hW g14 fl_X14_291 (Or.inl fn_13_31) rfl rfl rfl dX14_year_14 (fun H locs hW => ?_)
  have g14 := ko_pI e14 g14
  refine lv_iload_n hx hb dX14_year_17 rfl (lv_at hl 0 rfl) ?_
  refine lv_if_le (tgt := 25) hx hb dX14_year_18 (by decide) (fun c18 => ?_) (fun c18 => ?_)
  · have hf := ifp c18 hf
    refine lv_iconst (v := 0) hx hb dX14_year_25 (by decide) ?_
    exact B26 o v8 0 s14 hf _ _ _ (lv_sub hl [1, 0] rfl) hW
  · have hf := ifn c18 hf
    refine lv_iconst (v := 1) hx hb dX14_year_21 (by decide) ?_
    refine lv_goto (tgt := 26) hx hb dX14_year_22 (by decide) ?_
    exact B26 o v8 1 s14 hf _ _ _ (lv_sub hl [1, 0] rfl) hW
def f_X14_readsThing_r (F : Nat → Nat → Int32 → ST → Option (Int32 × ST)) (o : Nat) (s : ST) : Option (Int32 × ST) :=
  gd (o < s.1 ∧ (kd s o).1 = 14) <|
  ob (f_X14_takes o 45 s) fun v3 s3 =>
  if v3 = 0 then (gd (o < s3.1 ∧ (kd s3 o).1 = 14) <|
  ob (f_X14_isDigit o s3) fun v24 s24 =>
  if v24 = 0 then (gd (o < s24.1 ∧ (kd s24 o).1 = 14) <|
  ob (f_X14_among o 2 s24) fun v44 s44 =>
  if v44 < 0 then (gd (o < s44.1 ∧ (kd s44 o).1 = 14) <|
  if (gi s44 o 16) = 4 then (some (0, s44)) else ob (f_X14_takes o 40 s44) fun v84 s84 =>
  if v84 = 0 then (some (0, s84)) else gd (o < s84.1 ∧ (kd s84 o).1 = 14) <|
  bnd (pI s84 o 16 ((gi s84 o 16) + 1)) fun s99 =>
  ob (F 1 o 0 s99) fun v104 s104 =>
  if v104 = 0 then (some (0, s104)) else gd (o < s104.1 ∧ (kd s104 o).1 = 14) <|
  ob (f_X14_takes o 41 s104) fun v113 s113 =>
  if v113 = 0 then (some (0, s113)) else gd (o < s113.1 ∧ (kd s113 o).1 = 14) <|
  bnd (pI s113 o 16 ((gi s113 o 16) - 1)) fun s128 =>
  some (1, s128)) else gd (o < s44.1 ∧ (kd s44 o).1 = 14) <|
  bnd (pI s44 o 14 ((gi s44 o 14) + 1)) fun s59 =>
  ob (f_X14_codes o (1000 + v44) s59) fun _ s68 =>
  some (1, s68)) else gd (o < s24.1 ∧ (kd s24 o).1 = 14) <|
  ob (f_X14_number o 3 s24) fun v33 s33 =>
  gd (o < s33.1 ∧ (kd s33 o).1 = 14) <|
  ob (f_X14_codes o v33 s33) fun _ s36 =>
  some (1, s36)) else gd (o < s3.1 ∧ (kd s3 o).1 = 14) <|
  ob (F 0 o 0 s3) fun v10 s10 =>
  gd (o < s10.1 ∧ (kd s10 o).1 = 14) <|
  ob (f_X14_codes o 3000 s10) fun _ s18 =>
  gd (v10 = 0 ∨ v10 = 1) <|
  some (v10, s18)
set_option maxHeartbeats 4000000 in
theorem ct_X14_readsThing_r (l : Launch) (G : GM) (a : Nat → Nat) (d : Nat) (F : Nat → Nat → Int32 → ST → Option (Int32 × ST)) (hF0 : ∀ (o : Nat) (s : ST) (rv : Int32) (sf : ST), F 0 o 0 s = some (rv, sf) → MD l G yX14_readsThing (ws_ yX14_readsThing cX14_readsThing 2 (some .boolean)) (20 + d) [.ref (a o)] a s (some (.int rv)) sf) (hF1 : ∀ (o : Nat) (x1 : Int32) (s : ST) (rv : Int32) (sf : ST), F 1 o x1 s = some (rv, sf) → MD l G yX14_readsRank (ws_ yX14_readsRank cX14_readsRank 4 (some .boolean)) (20 + d) [.ref (a o), .int x1] a s (some (.int rv)) sf) (o : Nat) (s : ST) (rv : Int32) (sf : ST) (hf : f_X14_readsThing_r F o s = some (rv, sf)) : MD l G yX14_readsThing (ws_ yX14_readsThing cX14_readsThing 2 (some .boolean)) (20 + (d + 1)) [.ref (a o)] a s (some (.int rv)) sf := by
  refine md_of (d := _) (lv := [(0, .ref (a o))]) (Or.inl (by decide)) (Nat.le_of_ble_eq_true rfl) rfl ?_
  intro p e s0 m args below meth c ls A P hP hC hr hnm hW hl
  have hx := hC.1
  have hb := hC.2.1
  have hts := hC.2.2.2.2.1
  unfold f_X14_readsThing_r at hf
  refine lv_aload_n hx hb dX14_readsThing_0 rfl (lv_at hl 0 rfl) ?_
  refine lv_bipush (v := 45) hx hb dX14_readsThing_1 (by decide) ?_
  obtain ⟨g3, hf⟩ := gd_some hf
  obtain ⟨v3, s3, h3, hf⟩ := ob_some hf
  refine aw_dV1 (r := o) (As := [.int 45]) (rest := []) (ct_X14_takes l G a o 45 s v3 s3 h3) hC hW hl.1 vy_X14_takes (Or.inl q1540) g3 rfl rfl rfl rfl (Nat.le_of_ble_eq_true rfl) ⟨(by show 1 + 1 ≤ (20 + (d + 1)); omega), (by show 8 + (3 + 11) + 40 * 1 ≤ 40 * (20 + (d + 1)); omega)⟩ ⟨Nat.le_of_ble_eq_true rfl, Nat.le_of_ble_eq_true rfl⟩ dX14_readsThing_3 (fun H locs hW => ?_)
  refine lv_if_eq (tgt := 23) hx hb dX14_readsThing_6 (by decide) (fun c6 => ?_) (fun c6 => ?_)
  · have hf := ifp c6 hf
    refine lv_aload_n hx hb dX14_readsThing_23 rfl (lv_at hl 0 rfl) ?_
    obtain ⟨g24, hf⟩ := gd_some hf
    obtain ⟨v24, s24, h24, hf⟩ := ob_some hf
    refine aw_dV1 (r := o) (As := []) (rest := []) (ct_X14_isDigit l G a o s3 v24 s24 h24) hC hW hl.1 vy_X14_isDigit (Or.inl q1530) g24 rfl rfl rfl rfl (Nat.le_of_ble_eq_true rfl) ⟨(by show 1 + 1 ≤ (20 + (d + 1)); omega), (by show 8 + (1 + 11) + 40 * 1 ≤ 40 * (20 + (d + 1)); omega)⟩ ⟨Nat.le_of_ble_eq_true rfl, Nat.le_of_ble_eq_true rfl⟩ dX14_readsThing_24 (fun H locs hW => ?_)
    refine lv_if_eq (tgt := 41) hx hb dX14_readsThing_27 (by decide) (fun c27 => ?_) (fun c27 => ?_)
    · have hf := ifp c27 hf
      refine lv_aload_n hx hb dX14_readsThing_41 rfl (lv_at hl 0 rfl) ?_
      refine aw_ldcS 2 (by decide) rfl rfl hC dX14_readsThing_42 ?_
      obtain ⟨g44, hf⟩ := gd_some hf
      obtain ⟨v44, s44, h44, hf⟩ := ob_some hf
      refine aw_dV1 (r := o) (As := [.ref (G.2.2.2.1 2)]) (rest := []) (ct_X14_among l G a o 2 s24 v44 s44 h44) hC hW hl.1 vy_X14_among (Or.inl q1548) g44 rfl rfl rfl rfl (Nat.le_of_ble_eq_true rfl) ⟨(by show 4 + 1 ≤ (20 + (d + 1)); omega), (by show 8 + (3 + 11) + 40 * 4 ≤ 40 * (20 + (d + 1)); omega)⟩ ⟨Nat.le_of_ble_eq_true rfl, Nat.le_of_ble_eq_true rfl⟩ dX14_readsThing_44 (fun H locs hW => ?_)
      refine lv_istore_n (lv' := [(1, .int v44), (0, .ref (a o))]) hx hb dX14_readsThing_47 rfl hl (by decide) rfl (fun ls hl => ?_)
      refine lv_iload_n hx hb dX14_readsThing_48 rfl (lv_at hl 0 rfl) ?_
      refine lv_if_lt (tgt := 73) hx hb dX14_readsThing_49 (by decide) (fun c49 => ?_) (fun c49 => ?_)
      · have hf := ifp c49 hf
        refine lv_aload_n hx hb dX14_readsThing_73 rfl (lv_at hl 1 rfl) ?_
        obtain ⟨g74, hf⟩ := gd_some hf
        refine aw_gI hC hW g74 fl_X14_138 rfl dX14_readsThing_74 ?_
        refine lv_iconst (v := 4) hx hb dX14_readsThing_77 (by decide) ?_
        refine lv_icmp_eq (tgt := 90) hx hb dX14_readsThing_78 (by decide) (fun c78 => ?_) (fun c78 => ?_)
        · have hf := ifp c78 hf
          refine lv_iconst (v := 0) hx hb dX14_readsThing_90 (by decide) ?_
          obtain ⟨e1, e2⟩ := so_inj hf
          exact aw_iret hC hW hr rfl (p_eq hP (congrArg (fun z => some (Value.int z)) e1) e2) (Nat.le_of_ble_eq_true rfl) (Nat.le_of_ble_eq_true rfl) dX14_readsThing_91
        · have hf := ifn c78 hf
          refine lv_aload_n hx hb dX14_readsThing_81 rfl (lv_at hl 1 rfl) ?_
          refine lv_bipush (v := 40) hx hb dX14_readsThing_82 (by decide) ?_
          obtain ⟨v84, s84, h84, hf⟩ := ob_some hf
          refine aw_dV1 (r := o) (As := [.int 40]) (rest := []) (ct_X14_takes l G a o 40 s44 v84 s84 h84) hC hW hl.1 vy_X14_takes (Or.inl q1540) g74 rfl rfl rfl rfl (Nat.le_of_ble_eq_true rfl) ⟨(by show 1 + 1 ≤ (20 + (d + 1)); omega), (by show 8 + (3 + 11) + 40 * 1 ≤ 40 * (20 + (d + 1)); omega)⟩ ⟨Nat.le_of_ble_eq_true rfl, Nat.le_of_ble_eq_true rfl⟩ dX14_readsThing_84 (fun H locs hW => ?_)
          refine lv_if_ne (tgt := 92) hx hb dX14_readsThing_87 (by decide) (fun c87 => ?_) (fun c87 => ?_)
          · have hf := ifn c87 hf
            refine lv_aload_n hx hb dX14_readsThing_92 rfl (lv_at hl 1 rfl) ?_
            refine lv_dup hx hb dX14_readsThing_93 rfl ?_
            obtain ⟨g94, hf⟩ := gd_some hf
            refine aw_gI hC hW g94 fl_X14_138 rfl dX14_readsThing_94 ?_
            refine lv_iconst (v := 1) hx hb dX14_readsThing_97 (by decide) ?_
            refine lv_iadd hx hb dX14_readsThing_98 ?_
            obtain ⟨s99, e99, hf⟩ := bnd_some hf
            refine aw_pI e99 hC hW g94 fl_X14_138 (Or.inl fn_13_16) rfl rfl rfl dX14_readsThing_99 (fun H locs hW => ?_)
            have g94 := ko_pI e99 g94
            refine lv_aload_n hx hb dX14_readsThing_102 rfl (lv_at hl 1 rfl) ?_
            refine lv_iconst (v := 0) hx hb dX14_readsThing_103 (by decide) ?_
            obtain ⟨v104, s104, h104, hf⟩ := ob_some hf
            refine aw_dV1 (r := o) (As := [.int 0]) (rest := []) (hF1 o 0 s99 v104 s104 h104) hC hW hl.1 vy_X14_readsRank (Or.inl q1602) g94 rfl rfl rfl rfl (Nat.le_of_ble_eq_true rfl) ⟨(by show (20 + d) + 1 ≤ (20 + (d + 1)); omega), (by show 8 + (4 + 11) + 40 * (20 + d) ≤ 40 * (20 + (d + 1)); omega)⟩ ⟨Nat.le_of_ble_eq_true rfl, Nat.le_of_ble_eq_true rfl⟩ dX14_readsThing_104 (fun H locs hW => ?_)
            refine lv_if_eq (tgt := 119) hx hb dX14_readsThing_107 (by decide) (fun c107 => ?_) (fun c107 => ?_)
            · have hf := ifp c107 hf
              refine lv_iconst (v := 0) hx hb dX14_readsThing_119 (by decide) ?_
              obtain ⟨e1, e2⟩ := so_inj hf
              exact aw_iret hC hW hr rfl (p_eq hP (congrArg (fun z => some (Value.int z)) e1) e2) (Nat.le_of_ble_eq_true rfl) (Nat.le_of_ble_eq_true rfl) dX14_readsThing_120
            · have hf := ifn c107 hf
              refine lv_aload_n hx hb dX14_readsThing_110 rfl (lv_at hl 1 rfl) ?_
              refine lv_bipush (v := 41) hx hb dX14_readsThing_111 (by decide) ?_
              obtain ⟨g113, hf⟩ := gd_some hf
              obtain ⟨v113, s113, h113, hf⟩ := ob_some hf
              refine aw_dV1 (r := o) (As := [.int 41]) (rest := []) (ct_X14_takes l G a o 41 s104 v113 s113 h113) hC hW hl.1 vy_X14_takes (Or.inl q1540) g113 rfl rfl rfl rfl (Nat.le_of_ble_eq_true rfl) ⟨(by show 1 + 1 ≤ (20 + (d + 1)); omega), (by show 8 + (3 + 11) + 40 * 1 ≤ 40 * (20 + (d + 1)); omega)⟩ ⟨Nat.le_of_ble_eq_true rfl, Nat.le_of_ble_eq_true rfl⟩ dX14_readsThing_113 (fun H locs hW => ?_)
              refine lv_if_ne (tgt := 121) hx hb dX14_readsThing_116 (by decide) (fun c116 => ?_) (fun c116 => ?_)
              · have hf := ifn c116 hf
                refine lv_aload_n hx hb dX14_readsThing_121 rfl (lv_at hl 1 rfl) ?_
                refine lv_dup hx hb dX14_readsThing_122 rfl ?_
                obtain ⟨g123, hf⟩ := gd_some hf
                refine aw_gI hC hW g123 fl_X14_138 rfl dX14_readsThing_123 ?_
                refine lv_iconst (v := 1) hx hb dX14_readsThing_126 (by decide) ?_
                refine lv_isub hx hb dX14_readsThing_127 ?_
                obtain ⟨s128, e128, hf⟩ := bnd_some hf
                refine aw_pI e128 hC hW g123 fl_X14_138 (Or.inl fn_13_16) rfl rfl rfl dX14_readsThing_128 (fun H locs hW => ?_)
                have g123 := ko_pI e128 g123
                refine lv_iconst (v := 1) hx hb dX14_readsThing_131 (by decide) ?_
                obtain ⟨e1, e2⟩ := so_inj hf
                exact aw_iret hC hW hr rfl (p_eq hP (congrArg (fun z => some (Value.int z)) e1) e2) (Nat.le_of_ble_eq_true rfl) (Nat.le_of_ble_eq_true rfl) dX14_readsThing_132
              · have hf := ifp c116 hf
                refine lv_iconst (v := 0) hx hb dX14_readsThing_119 (by decide) ?_
                obtain ⟨e1, e2⟩ := so_inj hf
                exact aw_iret hC hW hr rfl (p_eq hP (congrArg (fun z => some (Value.int z)) e1) e2) (Nat.le_of_ble_eq_true rfl) (Nat.le_of_ble_eq_true rfl) dX14_readsThing_120
          · have hf := ifp c87 hf
            refine lv_iconst (v := 0) hx hb dX14_readsThing_90 (by decide) ?_
            obtain ⟨e1, e2⟩ := so_inj hf
            exact aw_iret hC hW hr rfl (p_eq hP (congrArg (fun z => some (Value.int z)) e1) e2) (Nat.le_of_ble_eq_true rfl) (Nat.le_of_ble_eq_true rfl) dX14_readsThing_91
      · have hf := ifn c49 hf
        refine lv_aload_n hx hb dX14_readsThing_52 rfl (lv_at hl 1 rfl) ?_
        refine lv_dup hx hb dX14_readsThing_53 rfl ?_
        obtain ⟨g54, hf⟩ := gd_some hf
        refine aw_gI hC hW g54 fl_X14_135 rfl dX14_readsThing_54 ?_
        refine lv_iconst (v := 1) hx hb dX14_readsThing_57 (by decide) ?_
        refine lv_iadd hx hb dX14_readsThing_58 ?_
        obtain ⟨s59, e59, hf⟩ := bnd_some hf
        refine aw_pI e59 hC hW g54 fl_X14_135 (Or.inl fn_13_14) rfl rfl rfl dX14_readsThing_59 (fun H locs hW => ?_)
        have g54 := ko_pI e59 g54
        refine lv_aload_n hx hb dX14_readsThing_62 rfl (lv_at hl 1 rfl) ?_
        refine lv_sipush (v := 1000) hx hb dX14_readsThing_63 (by decide) ?_
        refine lv_iload_n hx hb dX14_readsThing_66 rfl (lv_at hl 0 rfl) ?_
        refine lv_iadd hx hb dX14_readsThing_67 ?_
        obtain ⟨_, s68, h68, hf⟩ := ob_some hf
        refine aw_dV0 (r := o) (As := [.int (1000 + v44)]) (rest := []) (ct_X14_codes l G a o (1000 + v44) s59 () s68 h68) hC hW hl.1 vy_X14_codes (Or.inl q1610) g54 rfl rfl rfl rfl (Nat.le_of_ble_eq_true rfl) ⟨(by show 0 + 1 ≤ (20 + (d + 1)); omega), (by show 8 + (2 + 11) + 40 * 0 ≤ 40 * (20 + (d + 1)); omega)⟩ ⟨Nat.le_of_ble_eq_true rfl, Nat.le_of_ble_eq_true rfl⟩ dX14_readsThing_68 (fun H locs hW => ?_)
        refine lv_iconst (v := 1) hx hb dX14_readsThing_71 (by decide) ?_
        obtain ⟨e1, e2⟩ := so_inj hf
        exact aw_iret hC hW hr rfl (p_eq hP (congrArg (fun z => some (Value.int z)) e1) e2) (Nat.le_of_ble_eq_true rfl) (Nat.le_of_ble_eq_true rfl) dX14_readsThing_72
    · have hf := ifn c27 hf
      refine lv_aload_n hx hb dX14_readsThing_30 rfl (lv_at hl 0 rfl) ?_
      refine lv_aload_n hx hb dX14_readsThing_31 rfl (lv_at hl 0 rfl) ?_
      refine lv_iconst (v := 3) hx hb dX14_readsThing_32 (by decide) ?_
      obtain ⟨g33, hf⟩ := gd_some hf
      obtain ⟨v33, s33, h33, hf⟩ := ob_some hf
      refine aw_dV1 (r := o) (As := [.int 3]) (rest := [.ref (a o)]) (ct_X14_number l G a o 3 s24 v33 s33 h33) hC hW hl.1 vy_X14_number (Or.inl q1536) g33 rfl rfl rfl rfl (Nat.le_of_ble_eq_true rfl) ⟨(by show 2 + 1 ≤ (20 + (d + 1)); omega), (by show 8 + (4 + 11) + 40 * 2 ≤ 40 * (20 + (d + 1)); omega)⟩ ⟨Nat.le_of_ble_eq_true rfl, Nat.le_of_ble_eq_true rfl⟩ dX14_readsThing_33 (fun H locs hW => ?_)
      obtain ⟨g36, hf⟩ := gd_some hf
      obtain ⟨_, s36, h36, hf⟩ := ob_some hf
      refine aw_dV0 (r := o) (As := [.int v33]) (rest := []) (ct_X14_codes l G a o v33 s33 () s36 h36) hC hW hl.1 vy_X14_codes (Or.inl q1610) g36 rfl rfl rfl rfl (Nat.le_of_ble_eq_true rfl) ⟨(by show 0 + 1 ≤ (20 + (d + 1)); omega), (by show 8 + (2 + 11) + 40 * 0 ≤ 40 * (20 + (d + 1)); omega)⟩ ⟨Nat.le_of_ble_eq_true rfl, Nat.le_of_ble_eq_true rfl⟩ dX14_readsThing_36 (fun H locs hW => ?_)
      refine lv_iconst (v := 1) hx hb dX14_readsThing_39 (by decide) ?_
      obtain ⟨e1, e2⟩ := so_inj hf
      exact aw_iret hC hW hr rfl (p_eq hP (congrArg (fun z => some (Value.int z)) e1) e2) (Nat.le_of_ble_eq_true rfl) (Nat.le_of_ble_eq_true rfl) dX14_readsThing_40
  · have hf := ifn c6 hf
    refine lv_aload_n hx hb dX14_readsThing_9 rfl (lv_at hl 0 rfl) ?_
    obtain ⟨g10, hf⟩ := gd_some hf
    obtain ⟨v10, s10, h10, hf⟩ := ob_some hf
    refine aw_dV1 (r := o) (As := []) (rest := []) (hF0 o s3 v10 s10 h10) hC hW hl.1 vy_X14_readsThing (Or.inl q1606) g10 rfl rfl rfl rfl (Nat.le_of_ble_eq_true rfl) ⟨(by show (20 + d) + 1 ≤ (20 + (d + 1)); omega), (by show 8 + (2 + 11) + 40 * (20 + d) ≤ 40 * (20 + (d + 1)); omega)⟩ ⟨Nat.le_of_ble_eq_true rfl, Nat.le_of_ble_eq_true rfl⟩ dX14_readsThing_10 (fun H locs hW => ?_)
    refine lv_istore_n (lv' := [(1, .int v10), (0, .ref (a o))]) hx hb dX14_readsThing_13 rfl hl (by decide) rfl (fun ls hl => ?_)
    refine lv_aload_n hx hb dX14_readsThing_14 rfl (lv_at hl 1 rfl) ?_
    refine lv_sipush (v := 3000) hx hb dX14_readsThing_15 (by decide) ?_
    obtain ⟨g18, hf⟩ := gd_some hf
    obtain ⟨_, s18, h18, hf⟩ := ob_some hf
    refine aw_dV0 (r := o) (As := [.int 3000]) (rest := []) (ct_X14_codes l G a o 3000 s10 () s18 h18) hC hW hl.1 vy_X14_codes (Or.inl q1610) g18 rfl rfl rfl rfl (Nat.le_of_ble_eq_true rfl) ⟨(by show 0 + 1 ≤ (20 + (d + 1)); omega), (by show 8 + (2 + 11) + 40 * 0 ≤ 40 * (20 + (d + 1)); omega)⟩ ⟨Nat.le_of_ble_eq_true rfl, Nat.le_of_ble_eq_true rfl⟩ dX14_readsThing_18 (fun H locs hW => ?_)
    refine lv_iload_n hx hb dX14_readsThing_21 rfl (lv_at hl 0 rfl) ?_
    obtain ⟨gz22, hf⟩ := gd_some hf
    obtain ⟨e1, e2⟩ := so_inj hf
    exact aw_iret hC hW hr (nb01 gz22) (p_eq hP (congrArg (fun z => some (Value.int z)) e1) e2) (Nat.le_of_ble_eq_true rfl) (Nat.le_of_ble_eq_true rfl) dX14_readsThing_22
def f_X14_readsRank_b119 (F : Nat → Nat → Int32 → ST → Option (Int32 × ST)) (K24 : Nat → Int32 → Int32 → ST → Option (Int32 × ST)) (r0 : Nat) (x1 : Int32) (t0 : Int32) (s : ST) : Option (Int32 × ST) :=
  K24 r0 x1 t0 s
def f_X14_readsRank_b106 (F : Nat → Nat → Int32 → ST → Option (Int32 × ST)) (K24 : Nat → Int32 → Int32 → ST → Option (Int32 × ST)) (r0 : Nat) (x1 : Int32) (t0 : Int32) (t1 : Int32) (w2 : Nat) (s : ST) : Option (Int32 × ST) :=
  gd (w2 < s.1 ∧ (kd s w2).1 = 14) <|
  ob (f_X14_codes w2 (t1 + t0) s) fun _ s107 =>
  if x1 ≤ 0 then (f_X14_readsRank_b119 F K24 r0 x1 0 s107) else f_X14_readsRank_b119 F K24 r0 x1 1 s107
def f_X14_readsRank_b50q (F : Nat → Nat → Int32 → ST → Option (Int32 × ST)) (K24 : Nat → Int32 → Int32 → ST → Option (Int32 × ST)) (r0 : Nat) (x1 : Int32) (w1 : Nat) (s : ST) : Option (Int32 × ST) :=
  gd (w1 < s.1 ∧ (kd s w1).1 = 14) <|
  ob (f_X14_among w1 1 s) fun v50 s50 =>
  if 0 ≤ v50 then (gd (r0 < s50.1 ∧ (kd s50 r0).1 = 14) <|
  bnd (pI s50 r0 14 ((gi s50 r0 14) + 1)) fun s67 =>
  ob (F 1 r0 (x1 + 1) s67) fun v74 s74 =>
  if v74 = 0 then (some (0, s74)) else if x1 = 0 then (f_X14_readsRank_b106 F K24 r0 x1 0 (2000 + v50) r0 s74) else if x1 = 1 then (f_X14_readsRank_b106 F K24 r0 x1 3 (2000 + v50) r0 s74) else f_X14_readsRank_b106 F K24 r0 x1 5 (2000 + v50) r0 s74) else some (1, s50)
def f_X14_readsRank_b50 (F : Nat → Nat → Int32 → ST → Option (Int32 × ST)) (K24 : Nat → Int32 → Int32 → ST → Option (Int32 × ST)) (r0 : Nat) (x1 : Int32) (w1 : Nat) (s : ST) : Option (Int32 × ST) :=
  gd (w1 < s.1 ∧ (kd s w1).1 = 14) <|
  ob (f_X14_among w1 4 s) fun v50 s50 =>
  if 0 ≤ v50 then (gd (r0 < s50.1 ∧ (kd s50 r0).1 = 14) <|
  bnd (pI s50 r0 14 ((gi s50 r0 14) + 1)) fun s67 =>
  ob (F 1 r0 (x1 + 1) s67) fun v74 s74 =>
  if v74 = 0 then (some (0, s74)) else if x1 = 0 then (f_X14_readsRank_b106 F K24 r0 x1 0 (2000 + v50) r0 s74) else if x1 = 1 then (f_X14_readsRank_b106 F K24 r0 x1 3 (2000 + v50) r0 s74) else f_X14_readsRank_b106 F K24 r0 x1 5 (2000 + v50) r0 s74) else some (1, s50)
def f_X14_readsRank_b50qq (F : Nat → Nat → Int32 → ST → Option (Int32 × ST)) (K24 : Nat → Int32 → Int32 → ST → Option (Int32 × ST)) (r0 : Nat) (x1 : Int32) (w1 : Nat) (s : ST) : Option (Int32 × ST) :=
  gd (w1 < s.1 ∧ (kd s w1).1 = 14) <|
  ob (f_X14_among w1 3 s) fun v50 s50 =>
  if 0 ≤ v50 then (gd (r0 < s50.1 ∧ (kd s50 r0).1 = 14) <|
  bnd (pI s50 r0 14 ((gi s50 r0 14) + 1)) fun s67 =>
  ob (F 1 r0 (x1 + 1) s67) fun v74 s74 =>
  if v74 = 0 then (some (0, s74)) else if x1 = 0 then (f_X14_readsRank_b106 F K24 r0 x1 0 (2000 + v50) r0 s74) else if x1 = 1 then (f_X14_readsRank_b106 F K24 r0 x1 3 (2000 + v50) r0 s74) else f_X14_readsRank_b106 F K24 r0 x1 5 (2000 + v50) r0 s74) else some (1, s50)
def f_X14_readsRank_b24 (F : Nat → Nat → Int32 → ST → Option (Int32 × ST))  : Nat → Nat → Int32 → Int32 → ST → Option (Int32 × ST)
  | 0, _, _, _, _ => none
  | n + 1, r0, x1, x2, s =>
  if x2 = 0 then (some (1, s)) else if x1 = 0 then (f_X14_readsRank_b50qq F (f_X14_readsRank_b24 F n) r0 x1 r0 s) else if x1 = 1 then (f_X14_readsRank_b50q F (f_X14_readsRank_b24 F n) r0 x1 r0 s) else f_X14_readsRank_b50 F (f_X14_readsRank_b24 F n) r0 x1 r0 s
def f_X14_readsRank_r (F : Nat → Nat → Int32 → ST → Option (Int32 × ST)) (o : Nat) (x1 : Int32) (s : ST) : Option (Int32 × ST) :=
  if x1 = 3 then (gd (o < s.1 ∧ (kd s o).1 = 14) <|
  ob (F 0 o 0 s) fun v6 s6 =>
  gd (v6 = 0 ∨ v6 = 1) <|
  some (v6, s6)) else gd (o < s.1 ∧ (kd s o).1 = 14) <|
  ob (F 1 o (x1 + 1) s) fun v14 s14 =>
  if v14 = 0 then (some (0, s14)) else f_X14_readsRank_b24 F fuel o x1 1 s14
set_option maxHeartbeats 4000000 in
theorem ct_X14_readsRank_r (l : Launch) (G : GM) (a : Nat → Nat) (d : Nat) (F : Nat → Nat → Int32 → ST → Option (Int32 × ST)) (hF0 : ∀ (o : Nat) (s : ST) (rv : Int32) (sf : ST), F 0 o 0 s = some (rv, sf) → MD l G yX14_readsThing (ws_ yX14_readsThing cX14_readsThing 2 (some .boolean)) (20 + d) [.ref (a o)] a s (some (.int rv)) sf) (hF1 : ∀ (o : Nat) (x1 : Int32) (s : ST) (rv : Int32) (sf : ST), F 1 o x1 s = some (rv, sf) → MD l G yX14_readsRank (ws_ yX14_readsRank cX14_readsRank 4 (some .boolean)) (20 + d) [.ref (a o), .int x1] a s (some (.int rv)) sf) (o : Nat) (x1 : Int32) (s : ST) (rv : Int32) (sf : ST) (hf : f_X14_readsRank_r F o x1 s = some (rv, sf)) : MD l G yX14_readsRank (ws_ yX14_readsRank cX14_readsRank 4 (some .boolean)) (20 + (d + 1)) [.ref (a o), .int x1] a s (some (.int rv)) sf := by
  refine md_of (d := _) (lv := [(0, .ref (a o)), (1, .int x1)]) (Or.inl (by decide)) (Nat.le_of_ble_eq_true rfl) rfl ?_
  intro p e s0 m args below meth c ls A P hP hC hr hnm hW hl
  have hx := hC.1
  have hb := hC.2.1
  have hts := hC.2.2.2.2.1
  have B119 : ∀ (K24 : Nat → Int32 → Int32 → ST → Option (Int32 × ST)) (hK24 : ∀ (r0 : Nat) (x1 : Int32) (x2 : Int32) (s : ST), K24 r0 x1 x2 s = some (rv, sf) → ∀ (H : Heap) (locs : List Loc) (ls : Array Slot), lv_has ls 4 [(0, .ref (a r0)), (1, .int x1), (2, .int x2)] → AW G a A s s0.heap H locs → WB p l e (rmD (20 + (d + 1))) s0 m args below meth c H locs G A P 24 ls []), ∀ (r0 : Nat) (x1 : Int32) (t0 : Int32) (s : ST), f_X14_readsRank_b119 F K24 r0 x1 t0 s = some (rv, sf) → ∀ (H : Heap) (locs : List Loc) (ls : Array Slot), lv_has ls 4 [(0, .ref (a r0)), (1, .int x1)] → AW G a A s s0.heap H locs → WB p l e (rmD (20 + (d + 1))) s0 m args below meth c H locs G A P 119 ls [.int t0] := by
    intro K24 hK24 r0 x1 t0 s hf H locs ls hl hW
    unfold f_X14_readsRank_b119 at hf
    refine lv_istore_n (lv' := [(2, .int t0), (0, .ref (a r0)), (1, .int x1)]) hx hb dX14_readsRank_119 rfl hl (by decide) rfl (fun ls hl => ?_)
    refine lv_goto (tgt := 24) hx hb dX14_readsRank_120 (by decide) ?_
    exact hK24 r0 x1 t0 s hf _ _ _ (lv_sub hl [1, 2, 0] rfl) hW
  have B106 : ∀ (K24 : Nat → Int32 → Int32 → ST → Option (Int32 × ST)) (hK24 : ∀ (r0 : Nat) (x1 : Int32) (x2 : Int32) (s : ST), K24 r0 x1 x2 s = some (rv, sf) → ∀ (H : Heap) (locs : List Loc) (ls : Array Slot), lv_has ls 4 [(0, .ref (a r0)), (1, .int x1), (2, .int x2)] → AW G a A s s0.heap H locs → WB p l e (rmD (20 + (d + 1))) s0 m args below meth c H locs G A P 24 ls []), ∀ (r0 : Nat) (x1 : Int32) (t0 : Int32) (t1 : Int32) (w2 : Nat) (s : ST), f_X14_readsRank_b106 F K24 r0 x1 t0 t1 w2 s = some (rv, sf) → ∀ (H : Heap) (locs : List Loc) (ls : Array Slot), lv_has ls 4 [(0, .ref (a r0)), (1, .int x1)] → AW G a A s s0.heap H locs → WB p l e (rmD (20 + (d + 1))) s0 m args below meth c H locs G A P 106 ls [.int t0, .int t1, .ref (a w2)] := by
    intro K24 hK24 r0 x1 t0 t1 w2 s hf H locs ls hl hW
    unfold f_X14_readsRank_b106 at hf
    refine lv_iadd hx hb dX14_readsRank_106 ?_
    obtain ⟨g107, hf⟩ := gd_some hf
    obtain ⟨_, s107, h107, hf⟩ := ob_some hf
    refine aw_dV0 (r := w2) (As := [.int (t1 + t0)]) (rest := []) (ct_X14_codes l G a w2 (t1 + t0) s () s107 h107) hC hW hl.1 vy_X14_codes (Or.inl q1610) g107 rfl rfl rfl rfl (Nat.le_of_ble_eq_true rfl) ⟨(by show 0 + 1 ≤ (20 + (d + 1)); omega), (by show 8 + (2 + 11) + 40 * 0 ≤ 40 * (20 + (d + 1)); omega)⟩ ⟨Nat.le_of_ble_eq_true rfl, Nat.le_of_ble_eq_true rfl⟩ dX14_readsRank_107 (fun H locs hW => ?_)
    refine lv_iload_n hx hb dX14_readsRank_110 rfl (lv_at hl 1 rfl) ?_
    refine lv_if_le (tgt := 118) hx hb dX14_readsRank_111 (by decide) (fun c111 => ?_) (fun c111 => ?_)
    · have hf := ifp c111 hf
      refine lv_iconst (v := 0) hx hb dX14_readsRank_118 (by decide) ?_
      exact B119 K24 hK24 r0 x1 0 s107 hf _ _ _ (lv_sub hl [0, 1] rfl) hW
    · have hf := ifn c111 hf
      refine lv_iconst (v := 1) hx hb dX14_readsRank_114 (by decide) ?_
      refine lv_goto (tgt := 119) hx hb dX14_readsRank_115 (by decide) ?_
      exact B119 K24 hK24 r0 x1 1 s107 hf _ _ _ (lv_sub hl [0, 1] rfl) hW
  have B50q : ∀ (K24 : Nat → Int32 → Int32 → ST → Option (Int32 × ST)) (hK24 : ∀ (r0 : Nat) (x1 : Int32) (x2 : Int32) (s : ST), K24 r0 x1 x2 s = some (rv, sf) → ∀ (H : Heap) (locs : List Loc) (ls : Array Slot), lv_has ls 4 [(0, .ref (a r0)), (1, .int x1), (2, .int x2)] → AW G a A s s0.heap H locs → WB p l e (rmD (20 + (d + 1))) s0 m args below meth c H locs G A P 24 ls []), ∀ (r0 : Nat) (x1 : Int32) (w1 : Nat) (s : ST), f_X14_readsRank_b50q F K24 r0 x1 w1 s = some (rv, sf) → ∀ (H : Heap) (locs : List Loc) (ls : Array Slot), lv_has ls 4 [(0, .ref (a r0)), (1, .int x1)] → AW G a A s s0.heap H locs → WB p l e (rmD (20 + (d + 1))) s0 m args below meth c H locs G A P 50 ls [.ref (G.2.2.2.1 1), .ref (a w1)] := by
    intro K24 hK24 r0 x1 w1 s hf H locs ls hl hW
    unfold f_X14_readsRank_b50q at hf
    obtain ⟨g50, hf⟩ := gd_some hf
    obtain ⟨v50, s50, h50, hf⟩ := ob_some hf
    refine aw_dV1 (r := w1) (As := [.ref (G.2.2.2.1 1)]) (rest := []) (ct_X14_among l G a w1 1 s v50 s50 h50) hC hW hl.1 vy_X14_among (Or.inl q1548) g50 rfl rfl rfl rfl (Nat.le_of_ble_eq_true rfl) ⟨(by show 4 + 1 ≤ (20 + (d + 1)); omega), (by show 8 + (3 + 11) + 40 * 4 ≤ 40 * (20 + (d + 1)); omega)⟩ ⟨Nat.le_of_ble_eq_true rfl, Nat.le_of_ble_eq_true rfl⟩ dX14_readsRank_50 (fun H locs hW => ?_)
    refine lv_istore_n (lv' := [(3, .int v50), (0, .ref (a r0)), (1, .int x1)]) hx hb dX14_readsRank_53 rfl hl (by decide) rfl (fun ls hl => ?_)
    refine lv_iload_n hx hb dX14_readsRank_54 rfl (lv_at hl 0 rfl) ?_
    refine lv_if_ge (tgt := 60) hx hb dX14_readsRank_55 (by decide) (fun c55 => ?_) (fun c55 => ?_)
    · have hf := ifp c55 hf
      refine lv_aload_n hx hb dX14_readsRank_60 rfl (lv_at hl 1 rfl) ?_
      refine lv_dup hx hb dX14_readsRank_61 rfl ?_
      obtain ⟨g62, hf⟩ := gd_some hf
      refine aw_gI hC hW g62 fl_X14_135 rfl dX14_readsRank_62 ?_
      refine lv_iconst (v := 1) hx hb dX14_readsRank_65 (by decide) ?_
      refine lv_iadd hx hb dX14_readsRank_66 ?_
      obtain ⟨s67, e67, hf⟩ := bnd_some hf
      refine aw_pI e67 hC hW g62 fl_X14_135 (Or.inl fn_13_14) rfl rfl rfl dX14_readsRank_67 (fun H locs hW => ?_)
      have g62 := ko_pI e67 g62
      refine lv_aload_n hx hb dX14_readsRank_70 rfl (lv_at hl 1 rfl) ?_
      refine lv_iload_n hx hb dX14_readsRank_71 rfl (lv_at hl 2 rfl) ?_
      refine lv_iconst (v := 1) hx hb dX14_readsRank_72 (by decide) ?_
      refine lv_iadd hx hb dX14_readsRank_73 ?_
      obtain ⟨v74, s74, h74, hf⟩ := ob_some hf
      refine aw_dV1 (r := r0) (As := [.int (x1 + 1)]) (rest := []) (hF1 r0 (x1 + 1) s67 v74 s74 h74) hC hW hl.1 vy_X14_readsRank (Or.inl q1602) g62 rfl rfl rfl rfl (Nat.le_of_ble_eq_true rfl) ⟨(by show (20 + d) + 1 ≤ (20 + (d + 1)); omega), (by show 8 + (4 + 11) + 40 * (20 + d) ≤ 40 * (20 + (d + 1)); omega)⟩ ⟨Nat.le_of_ble_eq_true rfl, Nat.le_of_ble_eq_true rfl⟩ dX14_readsRank_74 (fun H locs hW => ?_)
      refine lv_if_ne (tgt := 82) hx hb dX14_readsRank_77 (by decide) (fun c77 => ?_) (fun c77 => ?_)
      · have hf := ifn c77 hf
        refine lv_aload_n hx hb dX14_readsRank_82 rfl (lv_at hl 1 rfl) ?_
        refine lv_sipush (v := 2000) hx hb dX14_readsRank_83 (by decide) ?_
        refine lv_iload_n hx hb dX14_readsRank_86 rfl (lv_at hl 0 rfl) ?_
        refine lv_iadd hx hb dX14_readsRank_87 ?_
        refine lv_iload_n hx hb dX14_readsRank_88 rfl (lv_at hl 2 rfl) ?_
        refine lv_if_ne (tgt := 96) hx hb dX14_readsRank_89 (by decide) (fun c89 => ?_) (fun c89 => ?_)
        · have hf := ifn c89 hf
          refine lv_iload_n hx hb dX14_readsRank_96 rfl (lv_at hl 2 rfl) ?_
          refine lv_iconst (v := 1) hx hb dX14_readsRank_97 (by decide) ?_
          refine lv_icmp_ne (tgt := 105) hx hb dX14_readsRank_98 (by decide) (fun c98 => ?_) (fun c98 => ?_)
          · have hf := ifn c98 hf
            refine lv_iconst (v := 5) hx hb dX14_readsRank_105 (by decide) ?_
            exact B106 K24 hK24 r0 x1 5 (2000 + v50) r0 s74 hf _ _ _ (lv_sub hl [1, 2] rfl) hW
          · have hf := ifp c98 hf
            refine lv_iconst (v := 3) hx hb dX14_readsRank_101 (by decide) ?_
            refine lv_goto (tgt := 106) hx hb dX14_readsRank_102 (by decide) ?_
            exact B106 K24 hK24 r0 x1 3 (2000 + v50) r0 s74 hf _ _ _ (lv_sub hl [1, 2] rfl) hW
        · have hf := ifp c89 hf
          refine lv_iconst (v := 0) hx hb dX14_readsRank_92 (by decide) ?_
          refine lv_goto (tgt := 106) hx hb dX14_readsRank_93 (by decide) ?_
          exact B106 K24 hK24 r0 x1 0 (2000 + v50) r0 s74 hf _ _ _ (lv_sub hl [1, 2] rfl) hW
      · have hf := ifp c77 hf
        refine lv_iconst (v := 0) hx hb dX14_readsRank_80 (by decide) ?_
        obtain ⟨e1, e2⟩ := so_inj hf
        exact aw_iret hC hW hr rfl (p_eq hP (congrArg (fun z => some (Value.int z)) e1) e2) (Nat.le_of_ble_eq_true rfl) (Nat.le_of_ble_eq_true rfl) dX14_readsRank_81
    · have hf := ifn c55 hf
      refine lv_iconst (v := 1) hx hb dX14_readsRank_58 (by decide) ?_
      obtain ⟨e1, e2⟩ := so_inj hf
      exact aw_iret hC hW hr rfl (p_eq hP (congrArg (fun z => some (Value.int z)) e1) e2) (Nat.le_of_ble_eq_true rfl) (Nat.le_of_ble_eq_true rfl) dX14_readsRank_59
  have B50 : ∀ (K24 : Nat → Int32 → Int32 → ST → Option (Int32 × ST)) (hK24 : ∀ (r0 : Nat) (x1 : Int32) (x2 : Int32) (s : ST), K24 r0 x1 x2 s = some (rv, sf) → ∀ (H : Heap) (locs : List Loc) (ls : Array Slot), lv_has ls 4 [(0, .ref (a r0)), (1, .int x1), (2, .int x2)] → AW G a A s s0.heap H locs → WB p l e (rmD (20 + (d + 1))) s0 m args below meth c H locs G A P 24 ls []), ∀ (r0 : Nat) (x1 : Int32) (w1 : Nat) (s : ST), f_X14_readsRank_b50 F K24 r0 x1 w1 s = some (rv, sf) → ∀ (H : Heap) (locs : List Loc) (ls : Array Slot), lv_has ls 4 [(0, .ref (a r0)), (1, .int x1)] → AW G a A s s0.heap H locs → WB p l e (rmD (20 + (d + 1))) s0 m args below meth c H locs G A P 50 ls [.ref (G.2.2.2.1 4), .ref (a w1)] := by
    intro K24 hK24 r0 x1 w1 s hf H locs ls hl hW
    unfold f_X14_readsRank_b50 at hf
    obtain ⟨g50, hf⟩ := gd_some hf
    obtain ⟨v50, s50, h50, hf⟩ := ob_some hf
    refine aw_dV1 (r := w1) (As := [.ref (G.2.2.2.1 4)]) (rest := []) (ct_X14_among l G a w1 4 s v50 s50 h50) hC hW hl.1 vy_X14_among (Or.inl q1548) g50 rfl rfl rfl rfl (Nat.le_of_ble_eq_true rfl) ⟨(by show 4 + 1 ≤ (20 + (d + 1)); omega), (by show 8 + (3 + 11) + 40 * 4 ≤ 40 * (20 + (d + 1)); omega)⟩ ⟨Nat.le_of_ble_eq_true rfl, Nat.le_of_ble_eq_true rfl⟩ dX14_readsRank_50 (fun H locs hW => ?_)
    refine lv_istore_n (lv' := [(3, .int v50), (0, .ref (a r0)), (1, .int x1)]) hx hb dX14_readsRank_53 rfl hl (by decide) rfl (fun ls hl => ?_)
    refine lv_iload_n hx hb dX14_readsRank_54 rfl (lv_at hl 0 rfl) ?_
    refine lv_if_ge (tgt := 60) hx hb dX14_readsRank_55 (by decide) (fun c55 => ?_) (fun c55 => ?_)
    · have hf := ifp c55 hf
      refine lv_aload_n hx hb dX14_readsRank_60 rfl (lv_at hl 1 rfl) ?_
      refine lv_dup hx hb dX14_readsRank_61 rfl ?_
      obtain ⟨g62, hf⟩ := gd_some hf
      refine aw_gI hC hW g62 fl_X14_135 rfl dX14_readsRank_62 ?_
      refine lv_iconst (v := 1) hx hb dX14_readsRank_65 (by decide) ?_
      refine lv_iadd hx hb dX14_readsRank_66 ?_
      obtain ⟨s67, e67, hf⟩ := bnd_some hf
      refine aw_pI e67 hC hW g62 fl_X14_135 (Or.inl fn_13_14) rfl rfl rfl dX14_readsRank_67 (fun H locs hW => ?_)
      have g62 := ko_pI e67 g62
      refine lv_aload_n hx hb dX14_readsRank_70 rfl (lv_at hl 1 rfl) ?_
      refine lv_iload_n hx hb dX14_readsRank_71 rfl (lv_at hl 2 rfl) ?_
      refine lv_iconst (v := 1) hx hb dX14_readsRank_72 (by decide) ?_
      refine lv_iadd hx hb dX14_readsRank_73 ?_
      obtain ⟨v74, s74, h74, hf⟩ := ob_some hf
      refine aw_dV1 (r := r0) (As := [.int (x1 + 1)]) (rest := []) (hF1 r0 (x1 + 1) s67 v74 s74 h74) hC hW hl.1 vy_X14_readsRank (Or.inl q1602) g62 rfl rfl rfl rfl (Nat.le_of_ble_eq_true rfl) ⟨(by show (20 + d) + 1 ≤ (20 + (d + 1)); omega), (by show 8 + (4 + 11) + 40 * (20 + d) ≤ 40 * (20 + (d + 1)); omega)⟩ ⟨Nat.le_of_ble_eq_true rfl, Nat.le_of_ble_eq_true rfl⟩ dX14_readsRank_74 (fun H locs hW => ?_)
      refine lv_if_ne (tgt := 82) hx hb dX14_readsRank_77 (by decide) (fun c77 => ?_) (fun c77 => ?_)
      · have hf := ifn c77 hf
        refine lv_aload_n hx hb dX14_readsRank_82 rfl (lv_at hl 1 rfl) ?_
        refine lv_sipush (v := 2000) hx hb dX14_readsRank_83 (by decide) ?_
        refine lv_iload_n hx hb dX14_readsRank_86 rfl (lv_at hl 0 rfl) ?_
        refine lv_iadd hx hb dX14_readsRank_87 ?_
        refine lv_iload_n hx hb dX14_readsRank_88 rfl (lv_at hl 2 rfl) ?_
        refine lv_if_ne (tgt := 96) hx hb dX14_readsRank_89 (by decide) (fun c89 => ?_) (fun c89 => ?_)
        · have hf := ifn c89 hf
          refine lv_iload_n hx hb dX14_readsRank_96 rfl (lv_at hl 2 rfl) ?_
          refine lv_iconst (v := 1) hx hb dX14_readsRank_97 (by decide) ?_
          refine lv_icmp_ne (tgt := 105) hx hb dX14_readsRank_98 (by decide) (fun c98 => ?_) (fun c98 => ?_)
          · have hf := ifn c98 hf
            refine lv_iconst (v := 5) hx hb dX14_readsRank_105 (by decide) ?_
            exact B106 K24 hK24 r0 x1 5 (2000 + v50) r0 s74 hf _ _ _ (lv_sub hl [1, 2] rfl) hW
          · have hf := ifp c98 hf
            refine lv_iconst (v := 3) hx hb dX14_readsRank_101 (by decide) ?_
            refine lv_goto (tgt := 106) hx hb dX14_readsRank_102 (by decide) ?_
            exact B106 K24 hK24 r0 x1 3 (2000 + v50) r0 s74 hf _ _ _ (lv_sub hl [1, 2] rfl) hW
        · have hf := ifp c89 hf
          refine lv_iconst (v := 0) hx hb dX14_readsRank_92 (by decide) ?_
          refine lv_goto (tgt := 106) hx hb dX14_readsRank_93 (by decide) ?_
          exact B106 K24 hK24 r0 x1 0 (2000 + v50) r0 s74 hf _ _ _ (lv_sub hl [1, 2] rfl) hW
      · have hf := ifp c77 hf
        refine lv_iconst (v := 0) hx hb dX14_readsRank_80 (by decide) ?_
        obtain ⟨e1, e2⟩ := so_inj hf
        exact aw_iret hC hW hr rfl (p_eq hP (congrArg (fun z => some (Value.int z)) e1) e2) (Nat.le_of_ble_eq_true rfl) (Nat.le_of_ble_eq_true rfl) dX14_readsRank_81
    · have hf := ifn c55 hf
      refine lv_iconst (v := 1) hx hb dX14_readsRank_58 (by decide) ?_
      obtain ⟨e1, e2⟩ := so_inj hf
      exact aw_iret hC hW hr rfl (p_eq hP (congrArg (fun z => some (Value.int z)) e1) e2) (Nat.le_of_ble_eq_true rfl) (Nat.le_of_ble_eq_true rfl) dX14_readsRank_59
  have B50qq : ∀ (K24 : Nat → Int32 → Int32 → ST → Option (Int32 × ST)) (hK24 : ∀ (r0 : Nat) (x1 : Int32) (x2 : Int32) (s : ST), K24 r0 x1 x2 s = some (rv, sf) → ∀ (H : Heap) (locs : List Loc) (ls : Array Slot), lv_has ls 4 [(0, .ref (a r0)), (1, .int x1), (2, .int x2)] → AW G a A s s0.heap H locs → WB p l e (rmD (20 + (d + 1))) s0 m args below meth c H locs G A P 24 ls []), ∀ (r0 : Nat) (x1 : Int32) (w1 : Nat) (s : ST), f_X14_readsRank_b50qq F K24 r0 x1 w1 s = some (rv, sf) → ∀ (H : Heap) (locs : List Loc) (ls : Array Slot), lv_has ls 4 [(0, .ref (a r0)), (1, .int x1)] → AW G a A s s0.heap H locs → WB p l e (rmD (20 + (d + 1))) s0 m args below meth c H locs G A P 50 ls [.ref (G.2.2.2.1 3), .ref (a w1)] := by
    intro K24 hK24 r0 x1 w1 s hf H locs ls hl hW
    unfold f_X14_readsRank_b50qq at hf
    obtain ⟨g50, hf⟩ := gd_some hf
    obtain ⟨v50, s50, h50, hf⟩ := ob_some hf
    refine aw_dV1 (r := w1) (As := [.ref (G.2.2.2.1 3)]) (rest := []) (ct_X14_among l G a w1 3 s v50 s50 h50) hC hW hl.1 vy_X14_among (Or.inl q1548) g50 rfl rfl rfl rfl (Nat.le_of_ble_eq_true rfl) ⟨(by show 4 + 1 ≤ (20 + (d + 1)); omega), (by show 8 + (3 + 11) + 40 * 4 ≤ 40 * (20 + (d + 1)); omega)⟩ ⟨Nat.le_of_ble_eq_true rfl, Nat.le_of_ble_eq_true rfl⟩ dX14_readsRank_50 (fun H locs hW => ?_)
    refine lv_istore_n (lv' := [(3, .int v50), (0, .ref (a r0)), (1, .int x1)]) hx hb dX14_readsRank_53 rfl hl (by decide) rfl (fun ls hl => ?_)
    refine lv_iload_n hx hb dX14_readsRank_54 rfl (lv_at hl 0 rfl) ?_
    refine lv_if_ge (tgt := 60) hx hb dX14_readsRank_55 (by decide) (fun c55 => ?_) (fun c55 => ?_)
    · have hf := ifp c55 hf
      refine lv_aload_n hx hb dX14_readsRank_60 rfl (lv_at hl 1 rfl) ?_
      refine lv_dup hx hb dX14_readsRank_61 rfl ?_
      obtain ⟨g62, hf⟩ := gd_some hf
      refine aw_gI hC hW g62 fl_X14_135 rfl dX14_readsRank_62 ?_
      refine lv_iconst (v := 1) hx hb dX14_readsRank_65 (by decide) ?_
      refine lv_iadd hx hb dX14_readsRank_66 ?_
      obtain ⟨s67, e67, hf⟩ := bnd_some hf
      refine aw_pI e67 hC hW g62 fl_X14_135 (Or.inl fn_13_14) rfl rfl rfl dX14_readsRank_67 (fun H locs hW => ?_)
      have g62 := ko_pI e67 g62
      refine lv_aload_n hx hb dX14_readsRank_70 rfl (lv_at hl 1 rfl) ?_
      refine lv_iload_n hx hb dX14_readsRank_71 rfl (lv_at hl 2 rfl) ?_
      refine lv_iconst (v := 1) hx hb dX14_readsRank_72 (by decide) ?_
      refine lv_iadd hx hb dX14_readsRank_73 ?_
      obtain ⟨v74, s74, h74, hf⟩ := ob_some hf
      refine aw_dV1 (r := r0) (As := [.int (x1 + 1)]) (rest := []) (hF1 r0 (x1 + 1) s67 v74 s74 h74) hC hW hl.1 vy_X14_readsRank (Or.inl q1602) g62 rfl rfl rfl rfl (Nat.le_of_ble_eq_true rfl) ⟨(by show (20 + d) + 1 ≤ (20 + (d + 1)); omega), (by show 8 + (4 + 11) + 40 * (20 + d) ≤ 40 * (20 + (d + 1)); omega)⟩ ⟨Nat.le_of_ble_eq_true rfl, Nat.le_of_ble_eq_true rfl⟩ dX14_readsRank_74 (fun H locs hW => ?_)
      refine lv_if_ne (tgt := 82) hx hb dX14_readsRank_77 (by decide) (fun c77 => ?_) (fun c77 => ?_)
      · have hf := ifn c77 hf
        refine lv_aload_n hx hb dX14_readsRank_82 rfl (lv_at hl 1 rfl) ?_
        refine lv_sipush (v := 2000) hx hb dX14_readsRank_83 (by decide) ?_
        refine lv_iload_n hx hb dX14_readsRank_86 rfl (lv_at hl 0 rfl) ?_
        refine lv_iadd hx hb dX14_readsRank_87 ?_
        refine lv_iload_n hx hb dX14_readsRank_88 rfl (lv_at hl 2 rfl) ?_
        refine lv_if_ne (tgt := 96) hx hb dX14_readsRank_89 (by decide) (fun c89 => ?_) (fun c89 => ?_)
        · have hf := ifn c89 hf
          refine lv_iload_n hx hb dX14_readsRank_96 rfl (lv_at hl 2 rfl) ?_
          refine lv_iconst (v := 1) hx hb dX14_readsRank_97 (by decide) ?_
          refine lv_icmp_ne (tgt := 105) hx hb dX14_readsRank_98 (by decide) (fun c98 => ?_) (fun c98 => ?_)
          · have hf := ifn c98 hf
            refine lv_iconst (v := 5) hx hb dX14_readsRank_105 (by decide) ?_
            exact B106 K24 hK24 r0 x1 5 (2000 + v50) r0 s74 hf _ _ _ (lv_sub hl [1, 2] rfl) hW
          · have hf := ifp c98 hf
            refine lv_iconst (v := 3) hx hb dX14_readsRank_101 (by decide) ?_
            refine lv_goto (tgt := 106) hx hb dX14_readsRank_102 (by decide) ?_
            exact B106 K24 hK24 r0 x1 3 (2000 + v50) r0 s74 hf _ _ _ (lv_sub hl [1, 2] rfl) hW
        · have hf := ifp c89 hf
          refine lv_iconst (v := 0) hx hb dX14_readsRank_92 (by decide) ?_
          refine lv_goto (tgt := 106) hx hb dX14_readsRank_93 (by decide) ?_
          exact B106 K24 hK24 r0 x1 0 (2000 + v50) r0 s74 hf _ _ _ (lv_sub hl [1, 2] rfl) hW
      · have hf := ifp c77 hf
        refine lv_iconst (v := 0) hx hb dX14_readsRank_80 (by decide) ?_
        obtain ⟨e1, e2⟩ := so_inj hf
        exact aw_iret hC hW hr rfl (p_eq hP (congrArg (fun z => some (Value.int z)) e1) e2) (Nat.le_of_ble_eq_true rfl) (Nat.le_of_ble_eq_true rfl) dX14_readsRank_81
    · have hf := ifn c55 hf
      refine lv_iconst (v := 1) hx hb dX14_readsRank_58 (by decide) ?_
      obtain ⟨e1, e2⟩ := so_inj hf
      exact aw_iret hC hW hr rfl (p_eq hP (congrArg (fun z => some (Value.int z)) e1) e2) (Nat.le_of_ble_eq_true rfl) (Nat.le_of_ble_eq_true rfl) dX14_readsRank_59
  have B24 : ∀ (n : Nat), ∀ (r0 : Nat) (x1 : Int32) (x2 : Int32) (s : ST), f_X14_readsRank_b24 F n r0 x1 x2 s = some (rv, sf) → ∀ (H : Heap) (locs : List Loc) (ls : Array Slot), lv_has ls 4 [(0, .ref (a r0)), (1, .int x1), (2, .int x2)] → AW G a A s s0.heap H locs → WB p l e (rmD (20 + (d + 1))) s0 m args below meth c H locs G A P 24 ls [] := by
    intro n
    induction n with
    | zero => intro r0 x1 x2 s hf; cases hf
    | succ n ih =>
      intro r0 x1 x2 s hf H locs ls hl hW
      rw [f_X14_readsRank_b24] at hf
      refine lv_iload_n hx hb dX14_readsRank_24 rfl (lv_at hl 2 rfl) ?_
      refine lv_if_eq (tgt := 123) hx hb dX14_readsRank_25 (by decide) (fun c25 => ?_) (fun c25 => ?_)
      · have hf := ifp c25 hf
        refine lv_iconst (v := 1) hx hb dX14_readsRank_123 (by decide) ?_
        obtain ⟨e1, e2⟩ := so_inj hf
        exact aw_iret hC hW hr rfl (p_eq hP (congrArg (fun z => some (Value.int z)) e1) e2) (Nat.le_of_ble_eq_true rfl) (Nat.le_of_ble_eq_true rfl) dX14_readsRank_124
      · have hf := ifn c25 hf
        refine lv_aload_n hx hb dX14_readsRank_28 rfl (lv_at hl 0 rfl) ?_
        refine lv_iload_n hx hb dX14_readsRank_29 rfl (lv_at hl 1 rfl) ?_
        refine lv_if_ne (tgt := 38) hx hb dX14_readsRank_30 (by decide) (fun c30 => ?_) (fun c30 => ?_)
        · have hf := ifn c30 hf
          refine lv_iload_n hx hb dX14_readsRank_38 rfl (lv_at hl 1 rfl) ?_
          refine lv_iconst (v := 1) hx hb dX14_readsRank_39 (by decide) ?_
          refine lv_icmp_ne (tgt := 48) hx hb dX14_readsRank_40 (by decide) (fun c40 => ?_) (fun c40 => ?_)
          · have hf := ifn c40 hf
            refine aw_ldcS 4 (by decide) rfl rfl hC dX14_readsRank_48 ?_
            exact B50 (f_X14_readsRank_b24 F n) ih r0 x1 r0 s hf _ _ _ (lv_sub hl [0, 1] rfl) hW
          · have hf := ifp c40 hf
            refine aw_ldcS 1 (by decide) rfl rfl hC dX14_readsRank_43 ?_
            refine lv_goto (tgt := 50) hx hb dX14_readsRank_45 (by decide) ?_
            exact B50q (f_X14_readsRank_b24 F n) ih r0 x1 r0 s hf _ _ _ (lv_sub hl [0, 1] rfl) hW
        · have hf := ifp c30 hf
          refine aw_ldcS 3 (by decide) rfl rfl hC dX14_readsRank_33 ?_
          refine lv_goto (tgt := 50) hx hb dX14_readsRank_35 (by decide) ?_
          exact B50qq (f_X14_readsRank_b24 F n) ih r0 x1 r0 s hf _ _ _ (lv_sub hl [0, 1] rfl) hW
  unfold f_X14_readsRank_r at hf
  refine lv_iload_n hx hb dX14_readsRank_0 rfl (lv_at hl 1 rfl) ?_
  refine lv_iconst (v := 3) hx hb dX14_readsRank_1 (by decide) ?_
  refine lv_icmp_ne (tgt := 10) hx hb dX14_readsRank_2 (by decide) (fun c2 => ?_) (fun c2 => ?_)
  · have hf := ifn c2 hf
    refine lv_aload_n hx hb dX14_readsRank_10 rfl (lv_at hl 0 rfl) ?_
    refine lv_iload_n hx hb dX14_readsRank_11 rfl (lv_at hl 1 rfl) ?_
    refine lv_iconst (v := 1) hx hb dX14_readsRank_12 (by decide) ?_
    refine lv_iadd hx hb dX14_readsRank_13 ?_
    obtain ⟨g14, hf⟩ := gd_some hf
    obtain ⟨v14, s14, h14, hf⟩ := ob_some hf
    refine aw_dV1 (r := o) (As := [.int (x1 + 1)]) (rest := []) (hF1 o (x1 + 1) s v14 s14 h14) hC hW hl.1 vy_X14_readsRank (Or.inl q1602) g14 rfl rfl rfl rfl (Nat.le_of_ble_eq_true rfl) ⟨(by show (20 + d) + 1 ≤ (20 + (d + 1)); omega), (by show 8 + (4 + 11) + 40 * (20 + d) ≤ 40 * (20 + (d + 1)); omega)⟩ ⟨Nat.le_of_ble_eq_true rfl, Nat.le_of_ble_eq_true rfl⟩ dX14_readsRank_14 (fun H locs hW => ?_)
    refine lv_if_ne (tgt := 22) hx hb dX14_readsRank_17 (by decide) (fun c17 => ?_) (fun c17 => ?_)
    · have hf := ifn c17 hf
      refine lv_iconst (v := 1) hx hb dX14_readsRank_22 (by decide) ?_
      refine lv_istore_n (lv' := [(2, .int 1), (0, .ref (a o)), (1, .int x1)]) hx hb dX14_readsRank_23 rfl hl (by decide) rfl (fun ls hl => ?_)
      exact B24 fuel o x1 1 s14 hf _ _ _ (lv_sub hl [1, 2, 0] rfl) hW
    · have hf := ifp c17 hf
      refine lv_iconst (v := 0) hx hb dX14_readsRank_20 (by decide) ?_
      obtain ⟨e1, e2⟩ := so_inj hf
      exact aw_iret hC hW hr rfl (p_eq hP (congrArg (fun z => some (Value.int z)) e1) e2) (Nat.le_of_ble_eq_true rfl) (Nat.le_of_ble_eq_true rfl) dX14_readsRank_21
  · have hf := ifp c2 hf
    refine lv_aload_n hx hb dX14_readsRank_5 rfl (lv_at hl 0 rfl) ?_
    obtain ⟨g6, hf⟩ := gd_some hf
    obtain ⟨v6, s6, h6, hf⟩ := ob_some hf
    refine aw_dV1 (r := o) (As := []) (rest := []) (hF0 o s v6 s6 h6) hC hW hl.1 vy_X14_readsThing (Or.inl q1606) g6 rfl rfl rfl rfl (Nat.le_of_ble_eq_true rfl) ⟨(by show (20 + d) + 1 ≤ (20 + (d + 1)); omega), (by show 8 + (2 + 11) + 40 * (20 + d) ≤ 40 * (20 + (d + 1)); omega)⟩ ⟨Nat.le_of_ble_eq_true rfl, Nat.le_of_ble_eq_true rfl⟩ dX14_readsRank_6 (fun H locs hW => ?_)
    obtain ⟨gz9, hf⟩ := gd_some hf
    obtain ⟨e1, e2⟩ := so_inj hf
    exact aw_iret hC hW hr (nb01 gz9) (p_eq hP (congrArg (fun z => some (Value.int z)) e1) e2) (Nat.le_of_ble_eq_true rfl) (Nat.le_of_ble_eq_true rfl) dX14_readsRank_9
def g_read : Nat → Nat → Nat → Int32 → ST → Option (Int32 × ST)
  | 0, _, _, _, _ => none
  | d + 1, k, o, x, s => if k = 0 then f_X14_readsThing_r (g_read d) o s else f_X14_readsRank_r (g_read d) o x s
theorem ct_g_read (l : Launch) (G : GM) (a : Nat → Nat) : ∀ d : Nat, (∀ (o : Nat) (s : ST) (rv : Int32) (sf : ST), g_read d 0 o 0 s = some (rv, sf) → MD l G yX14_readsThing (ws_ yX14_readsThing cX14_readsThing 2 (some .boolean)) (20 + d) [.ref (a o)] a s (some (.int rv)) sf) ∧ (∀ (o : Nat) (x1 : Int32) (s : ST) (rv : Int32) (sf : ST), g_read d 1 o x1 s = some (rv, sf) → MD l G yX14_readsRank (ws_ yX14_readsRank cX14_readsRank 4 (some .boolean)) (20 + d) [.ref (a o), .int x1] a s (some (.int rv)) sf) := by
  intro d
  induction d with
  | zero => exact ⟨(by intro o s rv sf hf; cases hf), (by intro o x1 s rv sf hf; cases hf)⟩
  | succ d ih =>
    obtain ⟨hF0, hF1⟩ := ih
    have r0 : ∀ (o : Nat) (s : ST) (rv : Int32) (sf : ST), g_read (d + 1) 0 o 0 s = some (rv, sf) → MD l G yX14_readsThing (ws_ yX14_readsThing cX14_readsThing 2 (some .boolean)) (20 + (d + 1)) [.ref (a o)] a s (some (.int rv)) sf := by
      intro o s rv sf hf
      exact ct_X14_readsThing_r l G a d (g_read d) hF0 hF1 o s rv sf hf
    have r1 : ∀ (o : Nat) (x1 : Int32) (s : ST) (rv : Int32) (sf : ST), g_read (d + 1) 1 o x1 s = some (rv, sf) → MD l G yX14_readsRank (ws_ yX14_readsRank cX14_readsRank 4 (some .boolean)) (20 + (d + 1)) [.ref (a o), .int x1] a s (some (.int rv)) sf := by
      intro o x1 s rv sf hf
      exact ct_X14_readsRank_r l G a d (g_read d) hF0 hF1 o x1 s rv sf hf
    exact ⟨r0, r1⟩
def f_X14_readsThing (o : Nat) (s : ST) : Option (Int32 × ST) := g_read 300 0 o 0 s
theorem ct_X14_readsThing (l : Launch) (G : GM) (a : Nat → Nat) (o : Nat) (s : ST) (rv : Int32) (sf : ST) (hf : f_X14_readsThing o s = some (rv, sf)) : MD l G yX14_readsThing (ws_ yX14_readsThing cX14_readsThing 2 (some .boolean)) 320 [.ref (a o)] a s (some (.int rv)) sf := (ct_g_read l G a 300).1 o s rv sf hf
def f_X14_readsRank (o : Nat) (x1 : Int32) (s : ST) : Option (Int32 × ST) := g_read 300 1 o x1 s
theorem ct_X14_readsRank (l : Launch) (G : GM) (a : Nat → Nat) (o : Nat) (x1 : Int32) (s : ST) (rv : Int32) (sf : ST) (hf : f_X14_readsRank o x1 s = some (rv, sf)) : MD l G yX14_readsRank (ws_ yX14_readsRank cX14_readsRank 4 (some .boolean)) 320 [.ref (a o), .int x1] a s (some (.int rv)) sf := (ct_g_read l G a 300).2 o x1 s rv sf hf
