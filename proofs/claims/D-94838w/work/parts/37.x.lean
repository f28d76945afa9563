set_option maxRecDepth 100000
def f_X1_explains_b82 (K20 : Nat → Int32 → Int32 → Int32 → Int32 → Int32 → ST → Option (Int32 × ST)) (r0 : Nat) (x1 : Int32) (x2 : Int32) (x3 : Int32) (x4 : Int32) (x5 : Int32) (s : ST) : Option (Int32 × ST) :=
  bnd (x5 + 1 : Int32) fun v82 =>
  K20 r0 x1 x2 x3 x4 v82 s
def f_X1_explains_b74 (K20 : Nat → Int32 → Int32 → Int32 → Int32 → Int32 → ST → Option (Int32 × ST)) (r0 : Nat) (x1 : Int32) (x2 : Int32) (x5 : Int32) (t0 : Int32) (s : ST) : Option (Int32 × ST) :=
  bnd (x2 + 1 : Int32) fun v79 =>
  f_X1_explains_b82 K20 r0 x1 v79 t0 x5 x5 s
def f_X1_explains_b20 : Nat → Nat → Int32 → Int32 → Int32 → Int32 → Int32 → ST → Option (Int32 × ST)
  | 0, _, _, _, _, _, _, _ => none
  | n + 1, r0, x1, x2, x3, x4, x5, s =>
  if 999 < x5 then (gd (r0 < s.1 ∧ (kd s r0).1 = 1) <|
  bnd (pI s r0 12 0) fun s90 =>
  if x2 ≤ 0 then (some (x2, s90)) else ob (f_X1_tell r0 ((x3 : Int32).toInt64) s90) fun _ s100 =>
  gd (r0 < s100.1 ∧ (kd s100 r0).1 = 1) <|
  ob (f_X1_tell r0 ((x4 : Int32).toInt64) s100) fun _ s107 =>
  some (x2, s107)) else gd (r0 < s.1 ∧ (kd s r0).1 = 1) <|
  (gr s r0 2).bind fun q29 =>
  (gr s r0 1).bind fun q33 =>
  gd (q29 < s.1 ∧ (kd s q29).1 = 2) <|
  ob (f_X2_be q29 q33 s) fun _ s36 =>
  gd (r0 < s36.1 ∧ (kd s36 r0).1 = 1) <|
  (gr s36 r0 2).bind fun q40 =>
  gd (q40 < s36.1 ∧ (kd s36 q40).1 = 2) <|
  (gr s36 q40 0).bind fun q43 =>
  gd (q43 < s36.1 ∧ (kd s36 q43).1 = 100 ∧ ¬ ((x1 : Int32) < 0 ∨ (kd s36 q43).2 ≤ (x1 : Int32).toNatClampNeg)) <|
  bnd (pI s36 q43 (x1 : Int32).toNatClampNeg x5) fun s49 =>
  (gr s49 r0 16).bind fun q52 =>
  ob (f_X1_isSo r0 q52 s49) fun v55 s55 =>
  if v55 = 0 then (f_X1_explains_b82 (f_X1_explains_b20 n) r0 x1 x2 x3 x4 x5 s55) else if x2 = 0 then (f_X1_explains_b74 (f_X1_explains_b20 n) r0 x1 x2 x5 x5 s55) else f_X1_explains_b74 (f_X1_explains_b20 n) r0 x1 x2 x5 x3 s55
def f_X1_explains (o : Nat) (x1 : Int32) (s : ST) : Option (Int32 × ST) :=
  gd (o < s.1 ∧ (kd s o).1 = 1) <|
  ob (f_X1_isAlive o x1 s) fun v2 s2 =>
  if v2 = 0 then (some ((-1), s2)) else f_X1_explains_b20 fuel o x1 0 0 0 1 s2
set_option maxHeartbeats 4000000 in
theorem ct_X1_explains (l : Launch) (G : GM) (a : Nat → Nat) (o : Nat) (x1 : Int32) (s : ST) (rv : Int32) (sf : ST) (hf : f_X1_explains o x1 s = some (rv, sf)) : MD l G yX1_explains (ws_ yX1_explains cX1_explains 6 (some .int)) 128 [.ref (a o), .int x1] a s (some (.int rv)) sf := by
  refine md_of (d := 128) (lv := [(0, .ref (a o)), (1, .int x1)]) (Or.inl (by decide)) (Nat.le_of_ble_eq_true rfl) rfl ?_
  intro p e s0 m args below meth c ls A P hP hC hr hnm hW hl
  have hx := hC.1
  have hb := hC.2.1
  have hts := hC.2.2.2.2.1
  have B82 : ∀ (K20 : Nat → Int32 → Int32 → Int32 → Int32 → Int32 → ST → Option (Int32 × ST)) (hK20 : ∀ (r0 : Nat) (x1 : Int32) (x2 : Int32) (x3 : Int32) (x4 : Int32) (x5 : Int32) (s : ST), K20 r0 x1 x2 x3 x4 x5 s = some (rv, sf) → ∀ (H : Heap) (locs : List Loc) (ls : Array Slot), lv_has ls 6 [(0, .ref (a r0)), (1, .int x1), (2, .int x2), (3, .int x3), (4, .int x4), (5, .int x5)] → AW G a A s s0.heap H locs → WB p l e (rmD 128) s0 m args below meth c H locs G A P 20 ls []), ∀ (r0 : Nat) (x1 : Int32) (x2 : Int32) (x3 : Int32) (x4 : Int32) (x5 : Int32) (s : ST), f_X1_explains_b82 K20 r0 x1 x2 x3 x4 x5 s = some (rv, sf) → ∀ (H : Heap) (locs : List Loc) (ls : Array Slot), lv_has ls 6 [(0, .ref (a r0)), (1, .int x1), (2, .int x2), (3, .int x3), (4, .int x4), (5, .int x5)] → AW G a A s s0.heap H locs → WB p l e (rmD 128) s0 m args below meth c H locs G A P 82 ls [] := by
    intro K20 hK20 r0 x1 x2 x3 x4 x5 s hf H locs ls hl hW
    unfold f_X1_explains_b82 at hf
    obtain ⟨v82, ev82, hf⟩ := bnd_some hf
    refine lv_iinc (v := v82) (lv' := [(5, .int v82), (0, .ref (a r0)), (1, .int x1), (2, .int x2), (3, .int x3), (4, .int x4)]) hx hb dX1_explains_82 hl (k := 5) rfl (by rw [ev82]; rfl) (by decide) rfl (fun ls hl => ?_)
    refine lv_goto (tgt := 20) hx hb dX1_explains_85 (by decide) ?_
    exact hK20 r0 x1 x2 x3 x4 v82 s hf _ _ _ (lv_sub hl [1, 2, 3, 4, 5, 0] rfl) hW
  have B74 : ∀ (K20 : Nat → Int32 → Int32 → Int32 → Int32 → Int32 → ST → Option (Int32 × ST)) (hK20 : ∀ (r0 : Nat) (x1 : Int32) (x2 : Int32) (x3 : Int32) (x4 : Int32) (x5 : Int32) (s : ST), K20 r0 x1 x2 x3 x4 x5 s = some (rv, sf) → ∀ (H : Heap) (locs : List Loc) (ls : Array Slot), lv_has ls 6 [(0, .ref (a r0)), (1, .int x1), (2, .int x2), (3, .int x3), (4, .int x4), (5, .int x5)] → AW G a A s s0.heap H locs → WB p l e (rmD 128) s0 m args below meth c H locs G A P 20 ls []), ∀ (r0 : Nat) (x1 : Int32) (x2 : Int32) (x5 : Int32) (t0 : Int32) (s : ST), f_X1_explains_b74 K20 r0 x1 x2 x5 t0 s = some (rv, sf) → ∀ (H : Heap) (locs : List Loc) (ls : Array Slot), lv_has ls 6 [(0, .ref (a r0)), (1, .int x1), (2, .int x2), (5, .int x5)] → AW G a A s s0.heap H locs → WB p l e (rmD 128) s0 m args below meth c H locs G A P 74 ls [.int t0] := by
    intro K20 hK20 r0 x1 x2 x5 t0 s hf H locs ls hl hW
    unfold f_X1_explains_b74 at hf
    refine lv_istore_n (lv' := [(3, .int t0), (0, .ref (a r0)), (1, .int x1), (2, .int x2), (5, .int x5)]) hx hb dX1_explains_74 rfl hl (by decide) rfl (fun ls hl => ?_)
    refine lv_iload hx hb dX1_explains_75 (lv_at hl 4 rfl) ?_
    refine lv_istore (lv' := [(4, .int x5), (3, .int t0), (0, .ref (a r0)), (1, .int x1), (2, .int x2), (5, .int x5)]) hx hb dX1_explains_77 hl (by decide) rfl (fun ls hl => ?_)
    obtain ⟨v79, ev79, hf⟩ := bnd_some hf
    refine lv_iinc (v := v79) (lv' := [(2, .int v79), (4, .int x5), (3, .int t0), (0, .ref (a r0)), (1, .int x1), (5, .int x5)]) hx hb dX1_explains_79 hl (k := 4) rfl (by rw [ev79]; rfl) (by decide) rfl (fun ls hl => ?_)
    exact B82 K20 hK20 r0 x1 v79 t0 x5 x5 s hf _ _ _ (lv_sub hl [3, 4, 0, 2, 1, 5] rfl) hW
  have B20 : ∀ (n : Nat), ∀ (r0 : Nat) (x1 : Int32) (x2 : Int32) (x3 : Int32) (x4 : Int32) (x5 : Int32) (s : ST), f_X1_explains_b20 n r0 x1 x2 x3 x4 x5 s = some (rv, sf) → ∀ (H : Heap) (locs : List Loc) (ls : Array Slot), lv_has ls 6 [(0, .ref (a r0)), (1, .int x1), (2, .int x2), (3, .int x3), (4, .int x4), (5, .int x5)] → AW G a A s s0.heap H locs → WB p l e (rmD 128) s0 m args below meth c H locs G A P 20 ls [] := by
    intro n
    induction n with
    | zero => intro r0 x1 x2 x3 x4 x5 s hf; cases hf
    | succ n ih =>
      intro r0 x1 x2 x3 x4 x5 s hf H locs ls hl hW
      rw [f_X1_explains_b20] at hf
      refine lv_iload hx hb dX1_explains_20 (lv_at hl 5 rfl) ?_
      refine lv_sipush (v := 999) hx hb dX1_explains_22 (by decide) ?_
      refine lv_icmp_gt (tgt := 88) hx hb dX1_explains_25 (by decide) (fun c25 => ?_) (fun c25 => ?_)
      · have hf := ifp c25 hf
        refine lv_aload_n hx hb dX1_explains_88 rfl (lv_at hl 0 rfl) ?_
        refine lv_iconst (v := 0) hx hb dX1_explains_89 (by decide) ?_
        obtain ⟨g90, hf⟩ := gd_some hf
        obtain ⟨s90, e90, hf⟩ := bnd_some hf
        refine aw_pI e90 hC hW g90 fl_X1_154 (Or.inl fn_0_12) rfl rfl rfl dX1_explains_90 (fun H locs hW => ?_)
        have g90 := ko_pI e90 g90
        refine lv_iload_n hx hb dX1_explains_93 rfl (lv_at hl 2 rfl) ?_
        refine lv_if_le (tgt := 110) hx hb dX1_explains_94 (by decide) (fun c94 => ?_) (fun c94 => ?_)
        · have hf := ifp c94 hf
          refine lv_iload_n hx hb dX1_explains_110 rfl (lv_at hl 2 rfl) ?_
          obtain ⟨e1, e2⟩ := so_inj hf
          exact aw_iret hC hW hr rfl (p_eq hP (congrArg (fun z => some (Value.int z)) e1) e2) (Nat.le_of_ble_eq_true rfl) (Nat.le_of_ble_eq_true rfl) dX1_explains_111
        · have hf := ifn c94 hf
          refine lv_aload_n hx hb dX1_explains_97 rfl (lv_at hl 0 rfl) ?_
          refine lv_iload_n hx hb dX1_explains_98 rfl (lv_at hl 3 rfl) ?_
          refine lv_i2l (v := (x3 : Int32).toInt64) hx hb dX1_explains_99 rfl ?_
          obtain ⟨_, s100, h100, hf⟩ := ob_some hf
          refine aw_dV0 (r := r0) (As := [.long ((x3 : Int32).toInt64)]) (rest := []) (ct_X1_tell l G a r0 ((x3 : Int32).toInt64) s90 () s100 h100) hC hW hl.1 vy_X1_tell (Or.inl q1013) g90 rfl rfl rfl rfl (Nat.le_of_ble_eq_true rfl) ⟨Nat.le_of_ble_eq_true rfl, Nat.le_of_ble_eq_true rfl⟩ ⟨Nat.le_of_ble_eq_true rfl, Nat.le_of_ble_eq_true rfl⟩ dX1_explains_100 (fun H locs hW => ?_)
          refine lv_aload_n hx hb dX1_explains_103 rfl (lv_at hl 0 rfl) ?_
          refine lv_iload hx hb dX1_explains_104 (lv_at hl 4 rfl) ?_
          refine lv_i2l (v := (x4 : Int32).toInt64) hx hb dX1_explains_106 rfl ?_
          obtain ⟨g107, hf⟩ := gd_some hf
          obtain ⟨_, s107, h107, hf⟩ := ob_some hf
          refine aw_dV0 (r := r0) (As := [.long ((x4 : Int32).toInt64)]) (rest := []) (ct_X1_tell l G a r0 ((x4 : Int32).toInt64) s100 () s107 h107) hC hW hl.1 vy_X1_tell (Or.inl q1013) g107 rfl rfl rfl rfl (Nat.le_of_ble_eq_true rfl) ⟨Nat.le_of_ble_eq_true rfl, Nat.le_of_ble_eq_true rfl⟩ ⟨Nat.le_of_ble_eq_true rfl, Nat.le_of_ble_eq_true rfl⟩ dX1_explains_107 (fun H locs hW => ?_)
          refine lv_iload_n hx hb dX1_explains_110 rfl (lv_at hl 2 rfl) ?_
          obtain ⟨e1, e2⟩ := so_inj hf
          exact aw_iret hC hW hr rfl (p_eq hP (congrArg (fun z => some (Value.int z)) e1) e2) (Nat.le_of_ble_eq_true rfl) (Nat.le_of_ble_eq_true rfl) dX1_explains_111
      · have hf := ifn c25 hf
        refine lv_aload_n hx hb dX1_explains_28 rfl (lv_at hl 0 rfl) ?_
        obtain ⟨g29, hf⟩ := gd_some hf
        obtain ⟨q29, hq29, hf⟩ := bi_some hf
        refine aw_gR hC hW g29 fl_X1_22 rfl hq29 dX1_explains_29 ?_
        refine lv_aload_n hx hb dX1_explains_32 rfl (lv_at hl 0 rfl) ?_
        obtain ⟨q33, hq33, hf⟩ := bi_some hf
        refine aw_gR hC hW g29 fl_X1_18 rfl hq33 dX1_explains_33 ?_
        obtain ⟨g36, hf⟩ := gd_some hf
        obtain ⟨_, s36, h36, hf⟩ := ob_some hf
        refine aw_dV0 (r := q29) (As := [.ref (a q33)]) (rest := []) (ct_X2_be l G a q29 q33 s () s36 h36) hC hW hl.1 vy_X2_be (Or.inl q917) g36 rfl rfl rfl rfl (Nat.le_of_ble_eq_true rfl) ⟨Nat.le_of_ble_eq_true rfl, Nat.le_of_ble_eq_true rfl⟩ ⟨Nat.le_of_ble_eq_true rfl, Nat.le_of_ble_eq_true rfl⟩ dX1_explains_36 (fun H locs hW => ?_)
        refine lv_aload_n hx hb dX1_explains_39 rfl (lv_at hl 0 rfl) ?_
        obtain ⟨g40, hf⟩ := gd_some hf
        obtain ⟨q40, hq40, hf⟩ := bi_some hf
        refine aw_gR hC hW g40 fl_X1_22 rfl hq40 dX1_explains_40 ?_
        obtain ⟨g43, hf⟩ := gd_some hf
        obtain ⟨q43, hq43, hf⟩ := bi_some hf
        refine aw_gR hC hW g43 fl_X1_236 rfl hq43 dX1_explains_43 ?_
        refine lv_iload_n hx hb dX1_explains_46 rfl (lv_at hl 1 rfl) ?_
        refine lv_iload hx hb dX1_explains_47 (lv_at hl 5 rfl) ?_
        obtain ⟨g49, hf⟩ := gd_some hf
        obtain ⟨s49, e49, hf⟩ := bnd_some hf
        refine aw_iast e49 hC hW g49 dX1_explains_49 (fun H locs hW => ?_)
        have g40 := ko_pI e49 g40
        have g43 := ko_pI e49 g43
        refine lv_aload_n hx hb dX1_explains_50 rfl (lv_at hl 0 rfl) ?_
        refine lv_aload_n hx hb dX1_explains_51 rfl (lv_at hl 0 rfl) ?_
        obtain ⟨q52, hq52, hf⟩ := bi_some hf
        refine aw_gR hC hW g40 fl_X1_54 rfl hq52 dX1_explains_52 ?_
        obtain ⟨v55, s55, h55, hf⟩ := ob_some hf
        refine aw_dV1 (r := r0) (As := [.ref (a q52)]) (rest := []) (ct_X1_isSo l G a r0 q52 s49 v55 s55 h55) hC hW hl.1 vy_X1_isSo (Or.inl q1226) g40 rfl rfl rfl rfl (Nat.le_of_ble_eq_true rfl) ⟨Nat.le_of_ble_eq_true rfl, Nat.le_of_ble_eq_true rfl⟩ ⟨Nat.le_of_ble_eq_true rfl, Nat.le_of_ble_eq_true rfl⟩ dX1_explains_55 (fun H locs hW => ?_)
        refine lv_if_ne (tgt := 64) hx hb dX1_explains_58 (by decide) (fun c58 => ?_) (fun c58 => ?_)
        · have hf := ifn c58 hf
          refine lv_iload_n hx hb dX1_explains_64 rfl (lv_at hl 2 rfl) ?_
          refine lv_if_ne (tgt := 73) hx hb dX1_explains_65 (by decide) (fun c65 => ?_) (fun c65 => ?_)
          · have hf := ifn c65 hf
            refine lv_iload_n hx hb dX1_explains_73 rfl (lv_at hl 3 rfl) ?_
            exact B74 (f_X1_explains_b20 n) ih r0 x1 x2 x5 x3 s55 hf _ _ _ (lv_sub hl [0, 1, 2, 5] rfl) hW
          · have hf := ifp c65 hf
            refine lv_iload hx hb dX1_explains_68 (lv_at hl 5 rfl) ?_
            refine lv_goto (tgt := 74) hx hb dX1_explains_70 (by decide) ?_
            exact B74 (f_X1_explains_b20 n) ih r0 x1 x2 x5 x5 s55 hf _ _ _ (lv_sub hl [0, 1, 2, 5] rfl) hW
        · have hf := ifp c58 hf
          refine lv_goto (tgt := 82) hx hb dX1_explains_61 (by decide) ?_
          exact B82 (f_X1_explains_b20 n) ih r0 x1 x2 x3 x4 x5 s55 hf _ _ _ (lv_sub hl [0, 1, 2, 3, 4, 5] rfl) hW
  unfold f_X1_explains at hf
  refine lv_aload_n hx hb dX1_explains_0 rfl (lv_at hl 0 rfl) ?_
  refine lv_iload_n hx hb dX1_explains_1 rfl (lv_at hl 1 rfl) ?_
  obtain ⟨g2, hf⟩ := gd_some hf
  obtain ⟨v2, s2, h2, hf⟩ := ob_some hf
  refine aw_dV1 (r := o) (As := [.int x1]) (rest := []) (ct_X1_isAlive l G a o x1 s v2 s2 h2) hC hW hl.1 vy_X1_isAlive (Or.inl q1040) g2 rfl rfl rfl rfl (Nat.le_of_ble_eq_true rfl) ⟨Nat.le_of_ble_eq_true rfl, Nat.le_of_ble_eq_true rfl⟩ ⟨Nat.le_of_ble_eq_true rfl, Nat.le_of_ble_eq_true rfl⟩ dX1_explains_2 (fun H locs hW => ?_)
  refine lv_if_ne (tgt := 10) hx hb dX1_explains_5 (by decide) (fun c5 => ?_) (fun c5 => ?_)
  · have hf := ifn c5 hf
    refine lv_iconst (v := 0) hx hb dX1_explains_10 (by decide) ?_
    refine lv_istore_n (lv' := [(2, .int 0), (0, .ref (a o)), (1, .int x1)]) hx hb dX1_explains_11 rfl hl (by decide) rfl (fun ls hl => ?_)
    refine lv_iconst (v := 0) hx hb dX1_explains_12 (by decide) ?_
    refine lv_istore_n (lv' := [(3, .int 0), (2, .int 0), (0, .ref (a o)), (1, .int x1)]) hx hb dX1_explains_13 rfl hl (by decide) rfl (fun ls hl => ?_)
    refine lv_iconst (v := 0) hx hb dX1_explains_14 (by decide) ?_
    refine lv_istore (lv' := [(4, .int 0), (3, .int 0), (2, .int 0), (0, .ref (a o)), (1, .int x1)]) hx hb dX1_explains_15 hl (by decide) rfl (fun ls hl => ?_)
    refine lv_iconst (v := 1) hx hb dX1_explains_17 (by decide) ?_
    refine lv_istore (lv' := [(5, .int 1), (4, .int 0), (3, .int 0), (2, .int 0), (0, .ref (a o)), (1, .int x1)]) hx hb dX1_explains_18 hl (by decide) rfl (fun ls hl => ?_)
    exact B20 fuel o x1 0 0 0 1 s2 hf _ _ _ (lv_sub hl [4, 5, 3, 2, 1, 0] rfl) hW
  · have hf := ifp c5 hf
    refine lv_iconst (v := (-1)) hx hb dX1_explains_8 (by decide) ?_
    obtain ⟨e1, e2⟩ := so_inj hf
    exact aw_iret hC hW hr rfl (p_eq hP (congrArg (fun z => some (Value.int z)) e1) e2) (Nat.le_of_ble_eq_true rfl) (Nat.le_of_ble_eq_true rfl) dX1_explains_9
def f_X1_servesBy_b14 : Nat → Nat → Int32 → Int32 → Nat → Int32 → ST → Option (Int32 × ST)
  | 0, _, _, _, _, _, _ => none
  | n + 1, r0, x1, x2, r3, x4, s =>
  if x2 ≤ x4 then (gd (r0 < s.1 ∧ (kd s r0).1 = 1) <|
  (gr s r0 2).bind fun q36 =>
  gd (q36 < s.1 ∧ (kd s q36).1 = 2) <|
  (gr s q36 1).bind fun q39 =>
  gd (q39 < s.1 ∧ (kd s q39).1 = 100 ∧ ¬ ((x1 : Int32) < 0 ∨ (kd s q39).2 ≤ (x1 : Int32).toNatClampNeg)) <|
  (gr s r0 1).bind fun q45 =>
  gd (q45 < s.1 ∧ (kd s q45).1 = 2) <|
  (gr s q45 1).bind fun q48 =>
  gd (q48 < s.1 ∧ (kd s q48).1 = 100 ∧ ¬ ((x1 : Int32) < 0 ∨ (kd s q48).2 ≤ (x1 : Int32).toNatClampNeg)) <|
  some (((gi s q39 (x1 : Int32).toNatClampNeg) - (gi s q48 (x1 : Int32).toNatClampNeg)), s)) else gd (r0 < s.1 ∧ (kd s r0).1 = 1) <|
  (gr s r0 2).bind fun q22 =>
  ob (f_X1_goes r0 q22 r3 s) fun _ s26 =>
  bnd (x4 + 1 : Int32) fun v29 =>
  f_X1_servesBy_b14 n r0 x1 x2 r3 v29 s26
def f_X1_servesBy (o : Nat) (x1 : Int32) (x2 : Int32) (r3 : Nat) (s : ST) : Option (Int32 × ST) :=
  gd (o < s.1 ∧ (kd s o).1 = 1) <|
  (gr s o 2).bind fun q1 =>
  (gr s o 1).bind fun q5 =>
  gd (q1 < s.1 ∧ (kd s q1).1 = 2) <|
  ob (f_X2_be q1 q5 s) fun _ s8 =>
  f_X1_servesBy_b14 fuel o x1 x2 r3 0 s8
set_option maxHeartbeats 4000000 in
theorem ct_X1_servesBy (l : Launch) (G : GM) (a : Nat → Nat) (o : Nat) (x1 : Int32) (x2 : Int32) (r3 : Nat) (s : ST) (rv : Int32) (sf : ST) (hf : f_X1_servesBy o x1 x2 r3 s = some (rv, sf)) : MD l G yX1_servesBy (ws_ yX1_servesBy cX1_servesBy 5 (some .int)) 127 [.ref (a o), .int x1, .int x2, .ref (a r3)] a s (some (.int rv)) sf := by
  refine md_of (d := 127) (lv := [(0, .ref (a o)), (1, .int x1), (2, .int x2), (3, .ref (a r3))]) (Or.inl (by decide)) (Nat.le_of_ble_eq_true rfl) rfl ?_
  intro p e s0 m args below meth c ls A P hP hC hr hnm hW hl
  have hx := hC.1
  have hb := hC.2.1
  have hts := hC.2.2.2.2.1
  have B14 : ∀ (n : Nat), ∀ (r0 : Nat) (x1 : Int32) (x2 : Int32) (r3 : Nat) (x4 : Int32) (s : ST), f_X1_servesBy_b14 n r0 x1 x2 r3 x4 s = some (rv, sf) → ∀ (H : Heap) (locs : List Loc) (ls : Array Slot), lv_has ls 5 [(0, .ref (a r0)), (1, .int x1), (2, .int x2), (3, .ref (a r3)), (4, .int x4)] → AW G a A s s0.heap H locs → WB p l e (rmD 127) s0 m args below meth c H locs G A P 14 ls [] := by
    intro n
    induction n with
    | zero => intro r0 x1 x2 r3 x4 s hf; cases hf
    | succ n ih =>
      intro r0 x1 x2 r3 x4 s hf H locs ls hl hW
      rw [f_X1_servesBy_b14] at hf
      refine lv_iload hx hb dX1_servesBy_14 (lv_at hl 4 rfl) ?_
      refine lv_iload_n hx hb dX1_servesBy_16 rfl (lv_at hl 2 rfl) ?_
      refine lv_icmp_ge (tgt := 35) hx hb dX1_servesBy_17 (by decide) (fun c17 => ?_) (fun c17 => ?_)
      · have hf := ifp c17 hf
        refine lv_aload_n hx hb dX1_servesBy_35 rfl (lv_at hl 0 rfl) ?_
        obtain ⟨g36, hf⟩ := gd_some hf
        obtain ⟨q36, hq36, hf⟩ := bi_some hf
        refine aw_gR hC hW g36 fl_X1_22 rfl hq36 dX1_servesBy_36 ?_
        obtain ⟨g39, hf⟩ := gd_some hf
        obtain ⟨q39, hq39, hf⟩ := bi_some hf
        refine aw_gR hC hW g39 fl_X1_239 rfl hq39 dX1_servesBy_39 ?_
        refine lv_iload_n hx hb dX1_servesBy_42 rfl (lv_at hl 1 rfl) ?_
        obtain ⟨g43, hf⟩ := gd_some hf
        refine aw_iald hC hW g43 dX1_servesBy_43 ?_
        refine lv_aload_n hx hb dX1_servesBy_44 rfl (lv_at hl 0 rfl) ?_
        obtain ⟨q45, hq45, hf⟩ := bi_some hf
        refine aw_gR hC hW g36 fl_X1_18 rfl hq45 dX1_servesBy_45 ?_
        obtain ⟨g48, hf⟩ := gd_some hf
        obtain ⟨q48, hq48, hf⟩ := bi_some hf
        refine aw_gR hC hW g48 fl_X1_239 rfl hq48 dX1_servesBy_48 ?_
        refine lv_iload_n hx hb dX1_servesBy_51 rfl (lv_at hl 1 rfl) ?_
        obtain ⟨g52, hf⟩ := gd_some hf
        refine aw_iald hC hW g52 dX1_servesBy_52 ?_
        refine lv_isub hx hb dX1_servesBy_53 ?_
        obtain ⟨e1, e2⟩ := so_inj hf
        exact aw_iret hC hW hr rfl (p_eq hP (congrArg (fun z => some (Value.int z)) e1) e2) (Nat.le_of_ble_eq_true rfl) (Nat.le_of_ble_eq_true rfl) dX1_servesBy_54
      · have hf := ifn c17 hf
        refine lv_aload_n hx hb dX1_servesBy_20 rfl (lv_at hl 0 rfl) ?_
        refine lv_aload_n hx hb dX1_servesBy_21 rfl (lv_at hl 0 rfl) ?_
        obtain ⟨g22, hf⟩ := gd_some hf
        obtain ⟨q22, hq22, hf⟩ := bi_some hf
        refine aw_gR hC hW g22 fl_X1_22 rfl hq22 dX1_servesBy_22 ?_
        refine lv_aload_n hx hb dX1_servesBy_25 rfl (lv_at hl 3 rfl) ?_
        obtain ⟨_, s26, h26, hf⟩ := ob_some hf
        refine aw_dV0 (r := r0) (As := [.ref (a q22), .ref (a r3)]) (rest := []) (ct_X1_goes l G a r0 q22 r3 s () s26 h26) hC hW hl.1 vy_X1_goes (Or.inl q922) g22 rfl rfl rfl rfl (Nat.le_of_ble_eq_true rfl) ⟨Nat.le_of_ble_eq_true rfl, Nat.le_of_ble_eq_true rfl⟩ ⟨Nat.le_of_ble_eq_true rfl, Nat.le_of_ble_eq_true rfl⟩ dX1_servesBy_26 (fun H locs hW => ?_)
        obtain ⟨v29, ev29, hf⟩ := bnd_some hf
        refine lv_iinc (v := v29) (lv' := [(4, .int v29), (0, .ref (a r0)), (1, .int x1), (2, .int x2), (3, .ref (a r3))]) hx hb dX1_servesBy_29 hl (k := 4) rfl (by rw [ev29]; rfl) (by decide) rfl (fun ls hl => ?_)
        refine lv_goto (tgt := 14) hx hb dX1_servesBy_32 (by decide) ?_
        exact ih r0 x1 x2 r3 v29 s26 hf _ _ _ (lv_sub hl [1, 2, 3, 4, 0] rfl) hW
  unfold f_X1_servesBy at hf
  refine lv_aload_n hx hb dX1_servesBy_0 rfl (lv_at hl 0 rfl) ?_
  obtain ⟨g1, hf⟩ := gd_some hf
  obtain ⟨q1, hq1, hf⟩ := bi_some hf
  refine aw_gR hC hW g1 fl_X1_22 rfl hq1 dX1_servesBy_1 ?_
  refine lv_aload_n hx hb dX1_servesBy_4 rfl (lv_at hl 0 rfl) ?_
  obtain ⟨q5, hq5, hf⟩ := bi_some hf
  refine aw_gR hC hW g1 fl_X1_18 rfl hq5 dX1_servesBy_5 ?_
  obtain ⟨g8, hf⟩ := gd_some hf
  obtain ⟨_, s8, h8, hf⟩ := ob_some hf
  refine aw_dV0 (r := q1) (As := [.ref (a q5)]) (rest := []) (ct_X2_be l G a q1 q5 s () s8 h8) hC hW hl.1 vy_X2_be (Or.inl q917) g8 rfl rfl rfl rfl (Nat.le_of_ble_eq_true rfl) ⟨Nat.le_of_ble_eq_true rfl, Nat.le_of_ble_eq_true rfl⟩ ⟨Nat.le_of_ble_eq_true rfl, Nat.le_of_ble_eq_true rfl⟩ dX1_servesBy_8 (fun H locs hW => ?_)
  refine lv_iconst (v := 0) hx hb dX1_servesBy_11 (by decide) ?_
  refine lv_istore (lv' := [(4, .int 0), (0, .ref (a o)), (1, .int x1), (2, .int x2), (3, .ref (a r3))]) hx hb dX1_servesBy_12 hl (by decide) rfl (fun ls hl => ?_)
  exact B14 fuel o x1 x2 r3 0 s8 hf _ _ _ (lv_sub hl [1, 2, 3, 4, 0] rfl) hW
def f_X1_most_b117 (K52 : Nat → Int32 → Int32 → Int32 → Int32 → Int32 → ST → Option (Int32 × ST)) (r0 : Nat) (x1 : Int32) (x2 : Int32) (x3 : Int32) (x4 : Int32) (x5 : Int32) (s : ST) : Option (Int32 × ST) :=
  bnd (x5 + 1 : Int32) fun v117 =>
  K52 r0 x1 x2 x3 x4 v117 s
def f_X1_most_b110 (K52 : Nat → Int32 → Int32 → Int32 → Int32 → Int32 → ST → Option (Int32 × ST)) (r0 : Nat) (x1 : Int32) (x2 : Int32) (x5 : Int32) (x6 : Int32) (s : ST) : Option (Int32 × ST) :=
  f_X1_most_b117 K52 r0 x1 x2 x5 x6 x5 s
def f_X1_most_b52 : Nat → Nat → Int32 → Int32 → Int32 → Int32 → Int32 → ST → Option (Int32 × ST)
  | 0, _, _, _, _, _, _, _ => none
  | n + 1, r0, x1, x2, x3, x4, x5, s =>
  if (1 <<< (x2 &&& 31)) ≤ x5 then (gd (r0 < s.1 ∧ (kd s r0).1 = 1) <|
  bnd (pI s r0 12 0) fun s125 =>
  ob (f_X1_tell r0 ((x3 : Int32).toInt64) s125) fun _ s131 =>
  some (x4, s131)) else gd (r0 < s.1 ∧ (kd s r0).1 = 1) <|
  (gr s r0 18).bind fun q61 =>
  gd (q61 < s.1 ∧ (kd s q61).1 = 6) <|
  bnd (pI s q61 1 x5) fun s66 =>
  (gr s66 r0 18).bind fun q73 =>
  ob (f_X1_servesBy r0 x1 x2 q73 s66) fun v76 s76 =>
  if v76 < x4 then (f_X1_most_b117 (f_X1_most_b52 n) r0 x1 x2 x3 x4 x5 s76) else if v76 = x4 then (ob (f_J8_bitCount x5 s76) fun v97 s97 =>
  ob (f_J8_bitCount x3 s97) fun v101 s101 =>
  if v97 < v101 then (f_X1_most_b110 (f_X1_most_b52 n) r0 x1 x2 x5 v76 s101) else f_X1_most_b117 (f_X1_most_b52 n) r0 x1 x2 x3 x4 x5 s101) else f_X1_most_b110 (f_X1_most_b52 n) r0 x1 x2 x5 v76 s76
def f_X1_most (o : Nat) (x1 : Int32) (x2 : Int32) (s : ST) : Option (Int32 × ST) :=
  gd (o < s.1 ∧ (kd s o).1 = 1) <|
  ob (f_X1_isAlive o x1 s) fun v2 s2 =>
  if v2 = 0 then (some ((-1), s2)) else bnd (p_in ((x2 : Int32).toInt64) 0 10) fun v14 =>
  if v14 = 0 then (some ((-1), s2)) else gd (o < s2.1 ∧ (kd s2 o).1 = 1) <|
  (gr s2 o 18).bind fun q23 =>
  gd (q23 < s2.1 ∧ (kd s2 q23).1 = 6) <|
  bnd (pI s2 q23 0 x1) fun s27 =>
  (gr s27 o 18).bind fun q31 =>
  (gr s27 o 1).bind fun q35 =>
  gd (q35 < s27.1 ∧ (kd s27 q35).1 = 2) <|
  gd (q31 < s27.1 ∧ (kd s27 q31).1 = 6) <|
  bnd (pI s27 q31 2 (gi s27 q35 9)) fun s41 =>
  f_X1_most_b52 fuel o x1 x2 0 (-1) 0 s41
set_option maxHeartbeats 4000000 in
theorem ct_X1_most (l : Launch) (G : GM) (a : Nat → Nat) (o : Nat) (x1 : Int32) (x2 : Int32) (s : ST) (rv : Int32) (sf : ST) (hf : f_X1_most o x1 x2 s = some (rv, sf)) : MD l G yX1_most (ws_ yX1_most cX1_most 7 (some .int)) 128 [.ref (a o), .int x1, .int x2] a s (some (.int rv)) sf := by
  refine md_of (d := 128) (lv := [(0, .ref (a o)), (1, .int x1), (2, .int x2)]) (Or.inl (by decide)) (Nat.le_of_ble_eq_true rfl) rfl ?_
  intro p e s0 m args below meth c ls A P hP hC hr hnm hW hl
  have hx := hC.1
  have hb := hC.2.1
  have hts := hC.2.2.2.2.1
  have B117 : ∀ (K52 : Nat → Int32 → Int32 → Int32 → Int32 → Int32 → ST → Option (Int32 × ST)) (hK52 : ∀ (r0 : Nat) (x1 : Int32) (x2 : Int32) (x3 : Int32) (x4 : Int32) (x5 : Int32) (s : ST), K52 r0 x1 x2 x3 x4 x5 s = some (rv, sf) → ∀ (H : Heap) (locs : List Loc) (ls : Array Slot), lv_has ls 7 [(0, .ref (a r0)), (1, .int x1), (2, .int x2), (3, .int x3), (4, .int x4), (5, .int x5)] → AW G a A s s0.heap H locs → WB p l e (rmD 128) s0 m args below meth c H locs G A P 52 ls []), ∀ (r0 : Nat) (x1 : Int32) (x2 : Int32) (x3 : Int32) (x4 : Int32) (x5 : Int32) (s : ST), f_X1_most_b117 K52 r0 x1 x2 x3 x4 x5 s = some (rv, sf) → ∀ (H : Heap) (locs : List Loc) (ls : Array Slot), lv_has ls 7 [(0, .ref (a r0)), (1, .int x1), (2, .int x2), (3, .int x3), (4, .int x4), (5, .int x5)] → AW G a A s s0.heap H locs → WB p l e (rmD 128) s0 m args below meth c H locs G A P 117 ls [] := by
    intro K52 hK52 r0 x1 x2 x3 x4 x5 s hf H locs ls hl hW
    unfold f_X1_most_b117 at hf
    obtain ⟨v117, ev117, hf⟩ := bnd_some hf
    refine lv_iinc (v := v117) (lv' := [(5, .int v117), (0, .ref (a r0)), (1, .int x1), (2, .int x2), (3, .int x3), (4, .int x4)]) hx hb dX1_most_117 hl (k := 5) rfl (by rw [ev117]; rfl) (by decide) rfl (fun ls hl => ?_)
    refine lv_goto (tgt := 52) hx hb dX1_most_120 (by decide) ?_
    exact hK52 r0 x1 x2 x3 x4 v117 s hf _ _ _ (lv_sub hl [1, 2, 3, 4, 5, 0] rfl) hW
  have B110 : ∀ (K52 : Nat → Int32 → Int32 → Int32 → Int32 → Int32 → ST → Option (Int32 × ST)) (hK52 : ∀ (r0 : Nat) (x1 : Int32) (x2 : Int32) (x3 : Int32) (x4 : Int32) (x5 : Int32) (s : ST), K52 r0 x1 x2 x3 x4 x5 s = some (rv, sf) → ∀ (H : Heap) (locs : List Loc) (ls : Array Slot), lv_has ls 7 [(0, .ref (a r0)), (1, .int x1), (2, .int x2), (3, .int x3), (4, .int x4), (5, .int x5)] → AW G a A s s0.heap H locs → WB p l e (rmD 128) s0 m args below meth c H locs G A P 52 ls []), ∀ (r0 : Nat) (x1 : Int32) (x2 : Int32) (x5 : Int32) (x6 : Int32) (s : ST), f_X1_most_b110 K52 r0 x1 x2 x5 x6 s = some (rv, sf) → ∀ (H : Heap) (locs : List Loc) (ls : Array Slot), lv_has ls 7 [(0, .ref (a r0)), (1, .int x1), (2, .int x2), (5, .int x5), (6, .int x6)] → AW G a A s s0.heap H locs → WB p l e (rmD 128) s0 m args below meth c H locs G A P 110 ls [] := by
    intro K52 hK52 r0 x1 x2 x5 x6 s hf H locs ls hl hW
    unfold f_X1_most_b110 at hf
    refine lv_iload hx hb dX1_most_110 (lv_at hl 3 rfl) ?_
    refine lv_istore_n (lv' := [(3, .int x5), (0, .ref (a r0)), (1, .int x1), (2, .int x2), (5, .int x5), (6, .int x6)]) hx hb dX1_most_112 rfl hl (by decide) rfl (fun ls hl => ?_)
    refine lv_iload hx hb dX1_most_113 (lv_at hl 5 rfl) ?_
    refine lv_istore (lv' := [(4, .int x6), (3, .int x5), (0, .ref (a r0)), (1, .int x1), (2, .int x2), (5, .int x5), (6, .int x6)]) hx hb dX1_most_115 hl (by decide) rfl (fun ls hl => ?_)
    exact B117 K52 hK52 r0 x1 x2 x5 x6 x5 s hf _ _ _ (lv_sub hl [2, 3, 4, 1, 0, 5] rfl) hW
  have B52 : ∀ (n : Nat), ∀ (r0 : Nat) (x1 : Int32) (x2 : Int32) (x3 : Int32) (x4 : Int32) (x5 : Int32) (s : ST), f_X1_most_b52 n r0 x1 x2 x3 x4 x5 s = some (rv, sf) → ∀ (H : Heap) (locs : List Loc) (ls : Array Slot), lv_has ls 7 [(0, .ref (a r0)), (1, .int x1), (2, .int x2), (3, .int x3), (4, .int x4), (5, .int x5)] → AW G a A s s0.heap H locs → WB p l e (rmD 128) s0 m args below meth c H locs G A P 52 ls [] := by
    intro n
    induction n with
    | zero => intro r0 x1 x2 x3 x4 x5 s hf; cases hf
    | succ n ih =>
      intro r0 x1 x2 x3 x4 x5 s hf H locs ls hl hW
      rw [f_X1_most_b52] at hf
      refine lv_iload hx hb dX1_most_52 (lv_at hl 5 rfl) ?_
      refine lv_iconst (v := 1) hx hb dX1_most_54 (by decide) ?_
      refine lv_iload_n hx hb dX1_most_55 rfl (lv_at hl 2 rfl) ?_
      refine lv_ishl hx hb dX1_most_56 ?_
      refine lv_icmp_ge (tgt := 123) hx hb dX1_most_57 (by decide) (fun c57 => ?_) (fun c57 => ?_)
      · have hf := ifp c57 hf
        refine lv_aload_n hx hb dX1_most_123 rfl (lv_at hl 0 rfl) ?_
        refine lv_iconst (v := 0) hx hb dX1_most_124 (by decide) ?_
        obtain ⟨g125, hf⟩ := gd_some hf
        obtain ⟨s125, e125, hf⟩ := bnd_some hf
        refine aw_pI e125 hC hW g125 fl_X1_154 (Or.inl fn_0_12) rfl rfl rfl dX1_most_125 (fun H locs hW => ?_)
        have g125 := ko_pI e125 g125
        refine lv_aload_n hx hb dX1_most_128 rfl (lv_at hl 0 rfl) ?_
        refine lv_iload_n hx hb dX1_most_129 rfl (lv_at hl 3 rfl) ?_
        refine lv_i2l (v := (x3 : Int32).toInt64) hx hb dX1_most_130 rfl ?_
        obtain ⟨_, s131, h131, hf⟩ := ob_some hf
        refine aw_dV0 (r := r0) (As := [.long ((x3 : Int32).toInt64)]) (rest := []) (ct_X1_tell l G a r0 ((x3 : Int32).toInt64) s125 () s131 h131) hC hW hl.1 vy_X1_tell (Or.inl q1013) g125 rfl rfl rfl rfl (Nat.le_of_ble_eq_true rfl) ⟨Nat.le_of_ble_eq_true rfl, Nat.le_of_ble_eq_true rfl⟩ ⟨Nat.le_of_ble_eq_true rfl, Nat.le_of_ble_eq_true rfl⟩ dX1_most_131 (fun H locs hW => ?_)
        refine lv_iload hx hb dX1_most_134 (lv_at hl 4 rfl) ?_
        obtain ⟨e1, e2⟩ := so_inj hf
        exact aw_iret hC hW hr rfl (p_eq hP (congrArg (fun z => some (Value.int z)) e1) e2) (Nat.le_of_ble_eq_true rfl) (Nat.le_of_ble_eq_true rfl) dX1_most_136
      · have hf := ifn c57 hf
        refine lv_aload_n hx hb dX1_most_60 rfl (lv_at hl 0 rfl) ?_
        obtain ⟨g61, hf⟩ := gd_some hf
        obtain ⟨q61, hq61, hf⟩ := bi_some hf
        refine aw_gR hC hW g61 fl_X1_68 rfl hq61 dX1_most_61 ?_
        refine lv_iload hx hb dX1_most_64 (lv_at hl 5 rfl) ?_
        obtain ⟨g66, hf⟩ := gd_some hf
        obtain ⟨s66, e66, hf⟩ := bnd_some hf
        refine aw_pI e66 hC hW g66 fl_X1_418 (Or.inl fn_5_1) rfl rfl rfl dX1_most_66 (fun H locs hW => ?_)
        have g61 := ko_pI e66 g61
        have g66 := ko_pI e66 g66
        refine lv_aload_n hx hb dX1_most_69 rfl (lv_at hl 0 rfl) ?_
        refine lv_iload_n hx hb dX1_most_70 rfl (lv_at hl 1 rfl) ?_
        refine lv_iload_n hx hb dX1_most_71 rfl (lv_at hl 2 rfl) ?_
        refine lv_aload_n hx hb dX1_most_72 rfl (lv_at hl 0 rfl) ?_
        obtain ⟨q73, hq73, hf⟩ := bi_some hf
        refine aw_gR hC hW g61 fl_X1_68 rfl hq73 dX1_most_73 ?_
        obtain ⟨v76, s76, h76, hf⟩ := ob_some hf
        refine aw_dV1 (r := r0) (As := [.int x1, .int x2, .ref (a q73)]) (rest := []) (ct_X1_servesBy l G a r0 x1 x2 q73 s66 v76 s76 h76) hC hW hl.1 vy_X1_servesBy (Or.inl q1086) g61 rfl rfl rfl rfl (Nat.le_of_ble_eq_true rfl) ⟨Nat.le_of_ble_eq_true rfl, Nat.le_of_ble_eq_true rfl⟩ ⟨Nat.le_of_ble_eq_true rfl, Nat.le_of_ble_eq_true rfl⟩ dX1_most_76 (fun H locs hW => ?_)
        refine lv_istore (lv' := [(6, .int v76), (0, .ref (a r0)), (1, .int x1), (2, .int x2), (3, .int x3), (4, .int x4), (5, .int x5)]) hx hb dX1_most_79 hl (by decide) rfl (fun ls hl => ?_)
        refine lv_iload hx hb dX1_most_81 (lv_at hl 0 rfl) ?_
        refine lv_iload hx hb dX1_most_83 (lv_at hl 5 rfl) ?_
        refine lv_icmp_lt (tgt := 117) hx hb dX1_most_85 (by decide) (fun c85 => ?_) (fun c85 => ?_)
        · have hf := ifp c85 hf
          exact B117 (f_X1_most_b52 n) ih r0 x1 x2 x3 x4 x5 s76 hf _ _ _ (lv_sub hl [1, 2, 3, 4, 5, 6] rfl) hW
        · have hf := ifn c85 hf
          refine lv_iload hx hb dX1_most_88 (lv_at hl 0 rfl) ?_
          refine lv_iload hx hb dX1_most_90 (lv_at hl 5 rfl) ?_
          refine lv_icmp_ne (tgt := 110) hx hb dX1_most_92 (by decide) (fun c92 => ?_) (fun c92 => ?_)
          · have hf := ifn c92 hf
            exact B110 (f_X1_most_b52 n) ih r0 x1 x2 x5 v76 s76 hf _ _ _ (lv_sub hl [1, 2, 3, 6, 0] rfl) hW
          · have hf := ifp c92 hf
            refine lv_iload hx hb dX1_most_95 (lv_at hl 6 rfl) ?_
            obtain ⟨v97, s97, h97, hf⟩ := ob_some hf
            refine aw_dS1 (As := [.int x5]) (rest := []) (ct_J8_bitCount l G a x5 s76 v97 s97 h97) hC hW hl.1 sy_J8_bitCount (Or.inl q1090) rfl rfl (Nat.le_of_ble_eq_true rfl) ⟨Nat.le_of_ble_eq_true rfl, Nat.le_of_ble_eq_true rfl⟩ ⟨Nat.le_of_ble_eq_true rfl, Nat.le_of_ble_eq_true rfl⟩ dX1_most_97 (fun H locs hW => ?_)
            refine lv_iload_n hx hb dX1_most_100 rfl (lv_at hl 4 rfl) ?_
            obtain ⟨v101, s101, h101, hf⟩ := ob_some hf
            refine aw_dS1 (As := [.int x3]) (rest := [.int v97]) (ct_J8_bitCount l G a x3 s97 v101 s101 h101) hC hW hl.1 sy_J8_bitCount (Or.inl q1090) rfl rfl (Nat.le_of_ble_eq_true rfl) ⟨Nat.le_of_ble_eq_true rfl, Nat.le_of_ble_eq_true rfl⟩ ⟨Nat.le_of_ble_eq_true rfl, Nat.le_of_ble_eq_true rfl⟩ dX1_most_101 (fun H locs hW => ?_)
            refine lv_icmp_lt (tgt := 110) hx hb dX1_most_104 (by decide) (fun c104 => ?_) (fun c104 => ?_)
            · have hf := ifp c104 hf
              exact B110 (f_X1_most_b52 n) ih r0 x1 x2 x5 v76 s101 hf _ _ _ (lv_sub hl [1, 2, 3, 6, 0] rfl) hW
            · have hf := ifn c104 hf
              refine lv_goto (tgt := 117) hx hb dX1_most_107 (by decide) ?_
              exact B117 (f_X1_most_b52 n) ih r0 x1 x2 x3 x4 x5 s101 hf _ _ _ (lv_sub hl [1, 2, 3, 4, 5, 6] rfl) hW
  unfold f_X1_most at hf
  refine lv_aload_n hx hb dX1_most_0 rfl (lv_at hl 0 rfl) ?_
  refine lv_iload_n hx hb dX1_most_1 rfl (lv_at hl 1 rfl) ?_
  obtain ⟨g2, hf⟩ := gd_some hf
  obtain ⟨v2, s2, h2, hf⟩ := ob_some hf
  refine aw_dV1 (r := o) (As := [.int x1]) (rest := []) (ct_X1_isAlive l G a o x1 s v2 s2 h2) hC hW hl.1 vy_X1_isAlive (Or.inl q1040) g2 rfl rfl rfl rfl (Nat.le_of_ble_eq_true rfl) ⟨Nat.le_of_ble_eq_true rfl, Nat.le_of_ble_eq_true rfl⟩ ⟨Nat.le_of_ble_eq_true rfl, Nat.le_of_ble_eq_true rfl⟩ dX1_most_2 (fun H locs hW => ?_)
  refine lv_if_eq (tgt := 20) hx hb dX1_most_5 (by decide) (fun c5 => ?_) (fun c5 => ?_)
  · have hf := ifp c5 hf
    refine lv_iconst (v := (-1)) hx hb dX1_most_20 (by decide) ?_
    obtain ⟨e1, e2⟩ := so_inj hf
    exact aw_iret hC hW hr rfl (p_eq hP (congrArg (fun z => some (Value.int z)) e1) e2) (Nat.le_of_ble_eq_true rfl) (Nat.le_of_ble_eq_true rfl) dX1_most_21
  · have hf := ifn c5 hf
    refine lv_iload_n hx hb dX1_most_8 rfl (lv_at hl 2 rfl) ?_
    refine lv_i2l (v := (x2 : Int32).toInt64) hx hb dX1_most_9 rfl ?_
    refine lv_lconst (v := 0) hx hb dX1_most_10 (by decide) ?_
    refine lv_ldc2 (v := 10) hx hb hC.2.2.2.1 (hts _ q1085) dX1_most_11 ?_
    obtain ⟨v14, ev14, hf⟩ := bnd_some hf
    refine aw_dS1 (As := [.long ((x2 : Int32).toInt64), .long 0, .long 10]) (rest := []) (pc_X1_in l G a ((x2 : Int32).toInt64) 0 10 s2) hC hW hl.1 sy_X1_in (Or.inl q514) rfl rfl (Nat.le_of_ble_eq_true rfl) ⟨Nat.le_of_ble_eq_true rfl, Nat.le_of_ble_eq_true rfl⟩ ⟨Nat.le_of_ble_eq_true rfl, Nat.le_of_ble_eq_true rfl⟩ dX1_most_14 (fun H locs hW => ?_)
    refine top_i ev14 ?_
    refine lv_if_ne (tgt := 22) hx hb dX1_most_17 (by decide) (fun c17 => ?_) (fun c17 => ?_)
    · have hf := ifn c17 hf
      refine lv_aload_n hx hb dX1_most_22 rfl (lv_at hl 0 rfl) ?_
      obtain ⟨g23, hf⟩ := gd_some hf
      obtain ⟨q23, hq23, hf⟩ := bi_some hf
      refine aw_gR hC hW g23 fl_X1_68 rfl hq23 dX1_most_23 ?_
      refine lv_iload_n hx hb dX1_most_26 rfl (lv_at hl 1 rfl) ?_
      obtain ⟨g27, hf⟩ := gd_some hf
      obtain ⟨s27, e27, hf⟩ := bnd_some hf
      refine aw_pI e27 hC hW g27 fl_X1_412 (Or.inl fn_5_0) rfl rfl rfl dX1_most_27 (fun H locs hW => ?_)
      have g23 := ko_pI e27 g23
      have g27 := ko_pI e27 g27
      refine lv_aload_n hx hb dX1_most_30 rfl (lv_at hl 0 rfl) ?_
      obtain ⟨q31, hq31, hf⟩ := bi_some hf
      refine aw_gR hC hW g23 fl_X1_68 rfl hq31 dX1_most_31 ?_
      refine lv_aload_n hx hb dX1_most_34 rfl (lv_at hl 0 rfl) ?_
      obtain ⟨q35, hq35, hf⟩ := bi_some hf
      refine aw_gR hC hW g23 fl_X1_18 rfl hq35 dX1_most_35 ?_
      obtain ⟨g38, hf⟩ := gd_some hf
      refine aw_gI hC hW g38 fl_X1_348 rfl dX1_most_38 ?_
      obtain ⟨g41, hf⟩ := gd_some hf
      obtain ⟨s41, e41, hf⟩ := bnd_some hf
      refine aw_pI e41 hC hW g41 fl_X1_415 (Or.inl fn_5_2) rfl rfl rfl dX1_most_41 (fun H locs hW => ?_)
      have g23 := ko_pI e41 g23
      have g27 := ko_pI e41 g27
      have g38 := ko_pI e41 g38
      have g41 := ko_pI e41 g41
      refine lv_iconst (v := 0) hx hb dX1_most_44 (by decide) ?_
      refine lv_istore_n (lv' := [(3, .int 0), (0, .ref (a o)), (1, .int x1), (2, .int x2)]) hx hb dX1_most_45 rfl hl (by decide) rfl (fun ls hl => ?_)
      refine lv_iconst (v := (-1)) hx hb dX1_most_46 (by decide) ?_
      refine lv_istore (lv' := [(4, .int (-1)), (3, .int 0), (0, .ref (a o)), (1, .int x1), (2, .int x2)]) hx hb dX1_most_47 hl (by decide) rfl (fun ls hl => ?_)
      refine lv_iconst (v := 0) hx hb dX1_most_49 (by decide) ?_
      refine lv_istore (lv' := [(5, .int 0), (4, .int (-1)), (3, .int 0), (0, .ref (a o)), (1, .int x1), (2, .int x2)]) hx hb dX1_most_50 hl (by decide) rfl (fun ls hl => ?_)
      exact B52 fuel o x1 x2 0 (-1) 0 s41 hf _ _ _ (lv_sub hl [3, 4, 5, 2, 1, 0] rfl) hW
    · have hf := ifp c17 hf
      refine lv_iconst (v := (-1)) hx hb dX1_most_20 (by decide) ?_
      obtain ⟨e1, e2⟩ := so_inj hf
      exact aw_iret hC hW hr rfl (p_eq hP (congrArg (fun z => some (Value.int z)) e1) e2) (Nat.le_of_ble_eq_true rfl) (Nat.le_of_ble_eq_true rfl) dX1_most_21
def f_X1_party_b148 : Nat → Nat → Int32 → Int32 → Nat → Int32 → Int32 → ST → Option (Int32 × ST)
  | 0, _, _, _, _, _, _, _ => none
  | n + 1, r0, x2, x3, r4, x5, x6, s =>
  if x5 ≤ x6 then (gd (r0 < s.1 ∧ (kd s r0).1 = 1) <|
  ob (f_X1_tell r0 ((x3 : Int32).toInt64) s) fun _ s178 =>
  some (x2, s178)) else gd (r4 < s.1 ∧ (kd s r4).1 = 100 ∧ ¬ ((x6 : Int32) < 0 ∨ (kd s r4).2 ≤ (x6 : Int32).toNatClampNeg)) <|
  bnd ((gi s r4 (x6 : Int32).toNatClampNeg) : Int32) fun v160 =>
  gd (r0 < s.1 ∧ (kd s r0).1 = 1) <|
  ob (f_X1_tell r0 ((v160 : Int32).toInt64) s) fun _ s166 =>
  bnd (x6 + 1 : Int32) fun v169 =>
  f_X1_party_b148 n r0 x2 x3 r4 x5 v169 s166
def f_X1_party_b121 (K80 : Nat → Int32 → Int32 → Int32 → ST → Option (Int32 × ST)) (r0 : Nat) (x2 : Int32) (x4 : Int32) (t0 : Int32) (t1 : Int32) (s : ST) : Option (Int32 × ST) :=
  bnd ((t1 ||| t0) : Int32) fun v122 =>
  bnd (x4 + 1 : Int32) fun v123 =>
  K80 r0 x2 v122 v123 s
def f_X1_party_b80 : Nat → Nat → Int32 → Int32 → Int32 → ST → Option (Int32 × ST)
  | 0, _, _, _, _, _ => none
  | n + 1, r0, x2, x3, x4, s =>
  gd (r0 < s.1 ∧ (kd s r0).1 = 1) <|
  if (gi s r0 4) ≤ x4 then (bnd (pI s r0 12 0) fun s131 =>
  (gr s131 r0 24).bind fun q135 =>
  gd (q135 < s131.1 ∧ 100 ≤ (kd s131 q135).1 ∧ (kd s131 q135).1 < 108) <|
  bnd ((Int32.ofNat (kd s131 q135).2) : Int32) fun v143 =>
  f_X1_party_b148 fuel r0 x2 x3 q135 v143 0 s131) else (gr s r0 2).bind fun q91 =>
  gd (q91 < s.1 ∧ (kd s q91).1 = 2) <|
  (gr s q91 1).bind fun q94 =>
  gd (q94 < s.1 ∧ (kd s q94).1 = 100 ∧ ¬ ((x4 : Int32) < 0 ∨ (kd s q94).2 ≤ (x4 : Int32).toNatClampNeg)) <|
  (gr s r0 1).bind fun q101 =>
  gd (q101 < s.1 ∧ (kd s q101).1 = 2) <|
  (gr s q101 1).bind fun q104 =>
  gd (q104 < s.1 ∧ (kd s q104).1 = 100 ∧ ¬ ((x4 : Int32) < 0 ∨ (kd s q104).2 ≤ (x4 : Int32).toNatClampNeg)) <|
  if (gi s q94 (x4 : Int32).toNatClampNeg) ≤ (gi s q104 (x4 : Int32).toNatClampNeg) then (f_X1_party_b121 (f_X1_party_b80 n) r0 x2 x4 0 x3 s) else f_X1_party_b121 (f_X1_party_b80 n) r0 x2 x4 (1 <<< (x4 &&& 31)) x3 s
def f_X1_party_b71 (K31 : Nat → Int32 → Int32 → Int32 → ST → Option (Int32 × ST)) (r0 : Nat) (x2 : Int32) (x3 : Int32) (x4 : Int32) (s : ST) : Option (Int32 × ST) :=
  bnd (x4 + 1 : Int32) fun v71 =>
  K31 r0 x2 x3 v71 s
def f_X1_party_b68 (K31 : Nat → Int32 → Int32 → Int32 → ST → Option (Int32 × ST)) (r0 : Nat) (x3 : Int32) (x4 : Int32) (s : ST) : Option (Int32 × ST) :=
  f_X1_party_b71 K31 r0 x4 x3 x4 s
def f_X1_party_b31 : Nat → Nat → Int32 → Int32 → Int32 → ST → Option (Int32 × ST)
  | 0, _, _, _, _, _ => none
  | n + 1, r0, x2, x3, x4, s =>
  if 4 ≤ x4 then (f_X1_party_b80 fuel r0 x2 x3 0 s) else gd (r0 < s.1 ∧ (kd s r0).1 = 1) <|
  (gr s r0 24).bind fun q38 =>
  gd (q38 < s.1 ∧ (kd s q38).1 = 100 ∧ ¬ ((x4 : Int32) < 0 ∨ (kd s q38).2 ≤ (x4 : Int32).toNatClampNeg)) <|
  if (gi s q38 (x4 : Int32).toNatClampNeg) ≤ 0 then (f_X1_party_b71 (f_X1_party_b31 n) r0 x2 x3 x4 s) else if x2 = (-1) then (f_X1_party_b68 (f_X1_party_b31 n) r0 x3 x4 s) else (gr s r0 24).bind fun q53 =>
  gd (q53 < s.1 ∧ (kd s q53).1 = 100 ∧ ¬ ((x4 : Int32) < 0 ∨ (kd s q53).2 ≤ (x4 : Int32).toNatClampNeg)) <|
  (gr s r0 24).bind fun q60 =>
  gd (q60 < s.1 ∧ (kd s q60).1 = 100 ∧ ¬ ((x2 : Int32) < 0 ∨ (kd s q60).2 ≤ (x2 : Int32).toNatClampNeg)) <|
  if (gi s q53 (x4 : Int32).toNatClampNeg) ≤ (gi s q60 (x2 : Int32).toNatClampNeg) then (f_X1_party_b71 (f_X1_party_b31 n) r0 x2 x3 x4 s) else f_X1_party_b68 (f_X1_party_b31 n) r0 x3 x4 s
def f_X1_party (o : Nat) (x1 : Int32) (s : ST) : Option (Int32 × ST) :=
  bnd (p_in ((x1 : Int32).toInt64) 0 99) fun v6 =>
  if v6 = 0 then (some ((-2), s)) else gd (o < s.1 ∧ (kd s o).1 = 1) <|
  (gr s o 16).bind fun q18 =>
  ob (f_X1_partiesBy o x1 q18 s) fun _ s21 =>
  f_X1_party_b31 fuel o (-1) 0 0 s21
set_option maxHeartbeats 4000000 in
theorem ct_X1_party (l : Launch) (G : GM) (a : Nat → Nat) (o : Nat) (x1 : Int32) (s : ST) (rv : Int32) (sf : ST) (hf : f_X1_party o x1 s = some (rv, sf)) : MD l G yX1_party (ws_ yX1_party cX1_party 8 (some .int)) 128 [.ref (a o), .int x1] a s (some (.int rv)) sf := by
  refine md_of (d := 128) (lv := [(0, .ref (a o)), (1, .int x1)]) (Or.inl (by decide)) (Nat.le_of_ble_eq_true rfl) rfl ?_
  intro p e s0 m args below meth c ls A P hP hC hr hnm hW hl
  have hx := hC.1
  have hb := hC.2.1
  have hts := hC.2.2.2.2.1
  have B148 : ∀ (n : Nat), ∀ (r0 : Nat) (x2 : Int32) (x3 : Int32) (r4 : Nat) (x5 : Int32) (x6 : Int32) (s : ST), f_X1_party_b148 n r0 x2 x3 r4 x5 x6 s = some (rv, sf) → ∀ (H : Heap) (locs : List Loc) (ls : Array Slot), lv_has ls 8 [(0, .ref (a r0)), (2, .int x2), (3, .int x3), (4, .ref (a r4)), (5, .int x5), (6, .int x6)] → AW G a A s s0.heap H locs → WB p l e (rmD 128) s0 m args below meth c H locs G A P 148 ls [] := by
    intro n
    induction n with
    | zero => intro r0 x2 x3 r4 x5 x6 s hf; cases hf
    | succ n ih =>
      intro r0 x2 x3 r4 x5 x6 s hf H locs ls hl hW
      rw [f_X1_party_b148] at hf
      refine lv_iload hx hb dX1_party_148 (lv_at hl 5 rfl) ?_
      refine lv_iload hx hb dX1_party_150 (lv_at hl 4 rfl) ?_
      refine lv_icmp_ge (tgt := 175) hx hb dX1_party_152 (by decide) (fun c152 => ?_) (fun c152 => ?_)
      · have hf := ifp c152 hf
        refine lv_aload_n hx hb dX1_party_175 rfl (lv_at hl 0 rfl) ?_
        refine lv_iload_n hx hb dX1_party_176 rfl (lv_at hl 2 rfl) ?_
        refine lv_i2l (v := (x3 : Int32).toInt64) hx hb dX1_party_177 rfl ?_
        obtain ⟨g178, hf⟩ := gd_some hf
        obtain ⟨_, s178, h178, hf⟩ := ob_some hf
        refine aw_dV0 (r := r0) (As := [.long ((x3 : Int32).toInt64)]) (rest := []) (ct_X1_tell l G a r0 ((x3 : Int32).toInt64) s () s178 h178) hC hW hl.1 vy_X1_tell (Or.inl q1013) g178 rfl rfl rfl rfl (Nat.le_of_ble_eq_true rfl) ⟨Nat.le_of_ble_eq_true rfl, Nat.le_of_ble_eq_true rfl⟩ ⟨Nat.le_of_ble_eq_true rfl, Nat.le_of_ble_eq_true rfl⟩ dX1_party_178 (fun H locs hW => ?_)
        refine lv_iload_n hx hb dX1_party_181 rfl (lv_at hl 1 rfl) ?_
        obtain ⟨e1, e2⟩ := so_inj hf
        exact aw_iret hC hW hr rfl (p_eq hP (congrArg (fun z => some (Value.int z)) e1) e2) (Nat.le_of_ble_eq_true rfl) (Nat.le_of_ble_eq_true rfl) dX1_party_182
      · have hf := ifn c152 hf
        refine lv_aload hx hb dX1_party_155 (lv_at hl 3 rfl) ?_
        refine lv_iload hx hb dX1_party_157 (lv_at hl 5 rfl) ?_
        obtain ⟨g159, hf⟩ := gd_some hf
        refine aw_iald hC hW g159 dX1_party_159 ?_
        obtain ⟨v160, ev160, hf⟩ := bnd_some hf
        refine top_i ev160 ?_
        refine lv_istore (lv' := [(7, .int v160), (0, .ref (a r0)), (2, .int x2), (3, .int x3), (4, .ref (a r4)), (5, .int x5), (6, .int x6)]) hx hb dX1_party_160 hl (by decide) rfl (fun ls hl => ?_)
        refine lv_aload_n hx hb dX1_party_162 rfl (lv_at hl 1 rfl) ?_
        refine lv_iload hx hb dX1_party_163 (lv_at hl 0 rfl) ?_
        refine lv_i2l (v := (v160 : Int32).toInt64) hx hb dX1_party_165 rfl ?_
        obtain ⟨g166, hf⟩ := gd_some hf
        obtain ⟨_, s166, h166, hf⟩ := ob_some hf
        refine aw_dV0 (r := r0) (As := [.long ((v160 : Int32).toInt64)]) (rest := []) (ct_X1_tell l G a r0 ((v160 : Int32).toInt64) s () s166 h166) hC hW hl.1 vy_X1_tell (Or.inl q1013) g166 rfl rfl rfl rfl (Nat.le_of_ble_eq_true rfl) ⟨Nat.le_of_ble_eq_true rfl, Nat.le_of_ble_eq_true rfl⟩ ⟨Nat.le_of_ble_eq_true rfl, Nat.le_of_ble_eq_true rfl⟩ dX1_party_166 (fun H locs hW => ?_)
        obtain ⟨v169, ev169, hf⟩ := bnd_some hf
        refine lv_iinc (v := v169) (lv' := [(6, .int v169), (7, .int v160), (0, .ref (a r0)), (2, .int x2), (3, .int x3), (4, .ref (a r4)), (5, .int x5)]) hx hb dX1_party_169 hl (k := 6) rfl (by rw [ev169]; rfl) (by decide) rfl (fun ls hl => ?_)
        refine lv_goto (tgt := 148) hx hb dX1_party_172 (by decide) ?_
        exact ih r0 x2 x3 r4 x5 v169 s166 hf _ _ _ (lv_sub hl [2, 3, 4, 5, 6, 0] rfl) hW
  have B121 : ∀ (K80 : Nat → Int32 → Int32 → Int32 → ST → Option (Int32 × ST)) (hK80 : ∀ (r0 : Nat) (x2 : Int32) (x3 : Int32) (x4 : Int32) (s : ST), K80 r0 x2 x3 x4 s = some (rv, sf) → ∀ (H : Heap) (locs : List Loc) (ls : Array Slot), lv_has ls 8 [(0, .ref (a r0)), (2, .int x2), (3, .int x3), (4, .int x4)] → AW G a A s s0.heap H locs → WB p l e (rmD 128) s0 m args below meth c H locs G A P 80 ls []), ∀ (r0 : Nat) (x2 : Int32) (x4 : Int32) (t0 : Int32) (t1 : Int32) (s : ST), f_X1_party_b121 K80 r0 x2 x4 t0 t1 s = some (rv, sf) → ∀ (H : Heap) (locs : List Loc) (ls : Array Slot), lv_has ls 8 [(0, .ref (a r0)), (2, .int x2), (4, .int x4)] → AW G a A s s0.heap H locs → WB p l e (rmD 128) s0 m args below meth c H locs G A P 121 ls [.int t0, .int t1] := by
    intro K80 hK80 r0 x2 x4 t0 t1 s hf H locs ls hl hW
    unfold f_X1_party_b121 at hf
    refine lv_ior hx hb dX1_party_121 ?_
    obtain ⟨v122, ev122, hf⟩ := bnd_some hf
    refine top_i ev122 ?_
    refine lv_istore_n (lv' := [(3, .int v122), (0, .ref (a r0)), (2, .int x2), (4, .int x4)]) hx hb dX1_party_122 rfl hl (by decide) rfl (fun ls hl => ?_)
    obtain ⟨v123, ev123, hf⟩ := bnd_some hf
    refine lv_iinc (v := v123) (lv' := [(4, .int v123), (3, .int v122), (0, .ref (a r0)), (2, .int x2)]) hx hb dX1_party_123 hl (k := 3) rfl (by rw [ev123]; rfl) (by decide) rfl (fun ls hl => ?_)
    refine lv_goto (tgt := 80) hx hb dX1_party_126 (by decide) ?_
    exact hK80 r0 x2 v122 v123 s hf _ _ _ (lv_sub hl [2, 3, 1, 0] rfl) hW
  have B80 : ∀ (n : Nat), ∀ (r0 : Nat) (x2 : Int32) (x3 : Int32) (x4 : Int32) (s : ST), f_X1_party_b80 n r0 x2 x3 x4 s = some (rv, sf) → ∀ (H : Heap) (locs : List Loc) (ls : Array Slot), lv_has ls 8 [(0, .ref (a r0)), (2, .int x2), (3, .int x3), (4, .int x4)] → AW G a A s s0.heap H locs → WB p l e (rmD 128) s0 m args below meth c H locs G A P 80 ls [] := by
    intro n
    induction n with
    | zero => intro r0 x2 x3 x4 s hf; cases hf
    | succ n ih =>
      intro r0 x2 x3 x4 s hf H locs ls hl hW
      rw [f_X1_party_b80] at hf
      refine lv_iload hx hb dX1_party_80 (lv_at hl 3 rfl) ?_
      refine lv_aload_n hx hb dX1_party_82 rfl (lv_at hl 0 rfl) ?_
      obtain ⟨g83, hf⟩ := gd_some hf
      refine aw_gI hC hW g83 fl_X1_157 rfl dX1_party_83 ?_
      refine lv_icmp_ge (tgt := 129) hx hb dX1_party_86 (by decide) (fun c86 => ?_) (fun c86 => ?_)
      · have hf := ifp c86 hf
        refine lv_aload_n hx hb dX1_party_129 rfl (lv_at hl 0 rfl) ?_
        refine lv_iconst (v := 0) hx hb dX1_party_130 (by decide) ?_
        obtain ⟨s131, e131, hf⟩ := bnd_some hf
        refine aw_pI e131 hC hW g83 fl_X1_154 (Or.inl fn_0_12) rfl rfl rfl dX1_party_131 (fun H locs hW => ?_)
        have g83 := ko_pI e131 g83
        refine lv_aload_n hx hb dX1_party_134 rfl (lv_at hl 0 rfl) ?_
        obtain ⟨q135, hq135, hf⟩ := bi_some hf
        refine aw_gR hC hW g83 fl_X1_89 rfl hq135 dX1_party_135 ?_
        refine lv_astore (lv' := [(4, .ref (a q135)), (0, .ref (a r0)), (2, .int x2), (3, .int x3)]) hx hb dX1_party_138 hl (by decide) rfl (fun ls hl => ?_)
        refine lv_aload hx hb dX1_party_140 (lv_at hl 0 rfl) ?_
        obtain ⟨g142, hf⟩ := gd_some hf
        refine aw_alen hC hW g142 rfl dX1_party_142 ?_
        obtain ⟨v143, ev143, hf⟩ := bnd_some hf
        refine top_i ev143 ?_
        refine lv_istore (lv' := [(5, .int v143), (4, .ref (a q135)), (0, .ref (a r0)), (2, .int x2), (3, .int x3)]) hx hb dX1_party_143 hl (by decide) rfl (fun ls hl => ?_)
        refine lv_iconst (v := 0) hx hb dX1_party_145 (by decide) ?_
        refine lv_istore (lv' := [(6, .int 0), (5, .int v143), (4, .ref (a q135)), (0, .ref (a r0)), (2, .int x2), (3, .int x3)]) hx hb dX1_party_146 hl (by decide) rfl (fun ls hl => ?_)
        exact B148 fuel r0 x2 x3 q135 v143 0 s131 hf _ _ _ (lv_sub hl [3, 4, 5, 2, 1, 0] rfl) hW
      · have hf := ifn c86 hf
        refine lv_iload_n hx hb dX1_party_89 rfl (lv_at hl 2 rfl) ?_
        refine lv_aload_n hx hb dX1_party_90 rfl (lv_at hl 0 rfl) ?_
        obtain ⟨q91, hq91, hf⟩ := bi_some hf
        refine aw_gR hC hW g83 fl_X1_22 rfl hq91 dX1_party_91 ?_
        obtain ⟨g94, hf⟩ := gd_some hf
        obtain ⟨q94, hq94, hf⟩ := bi_some hf
        refine aw_gR hC hW g94 fl_X1_239 rfl hq94 dX1_party_94 ?_
        refine lv_iload hx hb dX1_party_97 (lv_at hl 3 rfl) ?_
        obtain ⟨g99, hf⟩ := gd_some hf
        refine aw_iald hC hW g99 dX1_party_99 ?_
        refine lv_aload_n hx hb dX1_party_100 rfl (lv_at hl 0 rfl) ?_
        obtain ⟨q101, hq101, hf⟩ := bi_some hf
        refine aw_gR hC hW g83 fl_X1_18 rfl hq101 dX1_party_101 ?_
        obtain ⟨g104, hf⟩ := gd_some hf
        obtain ⟨q104, hq104, hf⟩ := bi_some hf
        refine aw_gR hC hW g104 fl_X1_239 rfl hq104 dX1_party_104 ?_
        refine lv_iload hx hb dX1_party_107 (lv_at hl 3 rfl) ?_
        obtain ⟨g109, hf⟩ := gd_some hf
        refine aw_iald hC hW g109 dX1_party_109 ?_
        refine lv_icmp_le (tgt := 120) hx hb dX1_party_110 (by decide) (fun c110 => ?_) (fun c110 => ?_)
        · have hf := ifp c110 hf
          refine lv_iconst (v := 0) hx hb dX1_party_120 (by decide) ?_
          exact B121 (f_X1_party_b80 n) ih r0 x2 x4 0 x3 s hf _ _ _ (lv_sub hl [0, 1, 3] rfl) hW
        · have hf := ifn c110 hf
          refine lv_iconst (v := 1) hx hb dX1_party_113 (by decide) ?_
          refine lv_iload hx hb dX1_party_114 (lv_at hl 3 rfl) ?_
          refine lv_ishl hx hb dX1_party_116 ?_
          refine lv_goto (tgt := 121) hx hb dX1_party_117 (by decide) ?_
          exact B121 (f_X1_party_b80 n) ih r0 x2 x4 (1 <<< (x4 &&& 31)) x3 s hf _ _ _ (lv_sub hl [0, 1, 3] rfl) hW
  have B71 : ∀ (K31 : Nat → Int32 → Int32 → Int32 → ST → Option (Int32 × ST)) (hK31 : ∀ (r0 : Nat) (x2 : Int32) (x3 : Int32) (x4 : Int32) (s : ST), K31 r0 x2 x3 x4 s = some (rv, sf) → ∀ (H : Heap) (locs : List Loc) (ls : Array Slot), lv_has ls 8 [(0, .ref (a r0)), (2, .int x2), (3, .int x3), (4, .int x4)] → AW G a A s s0.heap H locs → WB p l e (rmD 128) s0 m args below meth c H locs G A P 31 ls []), ∀ (r0 : Nat) (x2 : Int32) (x3 : Int32) (x4 : Int32) (s : ST), f_X1_party_b71 K31 r0 x2 x3 x4 s = some (rv, sf) → ∀ (H : Heap) (locs : List Loc) (ls : Array Slot), lv_has ls 8 [(0, .ref (a r0)), (2, .int x2), (3, .int x3), (4, .int x4)] → AW G a A s s0.heap H locs → WB p l e (rmD 128) s0 m args below meth c H locs G A P 71 ls [] := by
    intro K31 hK31 r0 x2 x3 x4 s hf H locs ls hl hW
    unfold f_X1_party_b71 at hf
    obtain ⟨v71, ev71, hf⟩ := bnd_some hf
    refine lv_iinc (v := v71) (lv' := [(4, .int v71), (0, .ref (a r0)), (2, .int x2), (3, .int x3)]) hx hb dX1_party_71 hl (k := 3) rfl (by rw [ev71]; rfl) (by decide) rfl (fun ls hl => ?_)
    refine lv_goto (tgt := 31) hx hb dX1_party_74 (by decide) ?_
    exact hK31 r0 x2 x3 v71 s hf _ _ _ (lv_sub hl [1, 2, 3, 0] rfl) hW
  have B68 : ∀ (K31 : Nat → Int32 → Int32 → Int32 → ST → Option (Int32 × ST)) (hK31 : ∀ (r0 : Nat) (x2 : Int32) (x3 : Int32) (x4 : Int32) (s : ST), K31 r0 x2 x3 x4 s = some (rv, sf) → ∀ (H : Heap) (locs : List Loc) (ls : Array Slot), lv_has ls 8 [(0, .ref (a r0)), (2, .int x2), (3, .int x3), (4, .int x4)] → AW G a A s s0.heap H locs → WB p l e (rmD 128) s0 m args below meth c H locs G A P 31 ls []), ∀ (r0 : Nat) (x3 : Int32) (x4 : Int32) (s : ST), f_X1_party_b68 K31 r0 x3 x4 s = some (rv, sf) → ∀ (H : Heap) (locs : List Loc) (ls : Array Slot), lv_has ls 8 [(0, .ref (a r0)), (3, .int x3), (4, .int x4)] → AW G a A s s0.heap H locs → WB p l e (rmD 128) s0 m args below meth c H locs G A P 68 ls [] := by
    intro K31 hK31 r0 x3 x4 s hf H locs ls hl hW
    unfold f_X1_party_b68 at hf
    refine lv_iload hx hb dX1_party_68 (lv_at hl 2 rfl) ?_
    refine lv_istore_n (lv' := [(2, .int x4), (0, .ref (a r0)), (3, .int x3), (4, .int x4)]) hx hb dX1_party_70 rfl hl (by decide) rfl (fun ls hl => ?_)
    exact B71 K31 hK31 r0 x4 x3 x4 s hf _ _ _ (lv_sub hl [1, 0, 2, 3] rfl) hW
  have B31 : ∀ (n : Nat), ∀ (r0 : Nat) (x2 : Int32) (x3 : Int32) (x4 : Int32) (s : ST), f_X1_party_b31 n r0 x2 x3 x4 s = some (rv, sf) → ∀ (H : Heap) (locs : List Loc) (ls : Array Slot), lv_has ls 8 [(0, .ref (a r0)), (2, .int x2), (3, .int x3), (4, .int x4)] → AW G a A s s0.heap H locs → WB p l e (rmD 128) s0 m args below meth c H locs G A P 31 ls [] := by
    intro n
    induction n with
    | zero => intro r0 x2 x3 x4 s hf; cases hf
    | succ n ih =>
      intro r0 x2 x3 x4 s hf H locs ls hl hW
      rw [f_X1_party_b31] at hf
      refine lv_iload hx hb dX1_party_31 (lv_at hl 3 rfl) ?_
      refine lv_iconst (v := 4) hx hb dX1_party_33 (by decide) ?_
      refine lv_icmp_ge (tgt := 77) hx hb dX1_party_34 (by decide) (fun c34 => ?_) (fun c34 => ?_)
      · have hf := ifp c34 hf
        refine lv_iconst (v := 0) hx hb dX1_party_77 (by decide) ?_
        refine lv_istore (lv' := [(4, .int 0), (0, .ref (a r0)), (2, .int x2), (3, .int x3)]) hx hb dX1_party_78 hl (by decide) rfl (fun ls hl => ?_)
        exact B80 fuel r0 x2 x3 0 s hf _ _ _ (lv_sub hl [1, 2, 3, 0] rfl) hW
      · have hf := ifn c34 hf
        refine lv_aload_n hx hb dX1_party_37 rfl (lv_at hl 0 rfl) ?_
        obtain ⟨g38, hf⟩ := gd_some hf
        obtain ⟨q38, hq38, hf⟩ := bi_some hf
        refine aw_gR hC hW g38 fl_X1_89 rfl hq38 dX1_party_38 ?_
        refine lv_iload hx hb dX1_party_41 (lv_at hl 3 rfl) ?_
        obtain ⟨g43, hf⟩ := gd_some hf
        refine aw_iald hC hW g43 dX1_party_43 ?_
        refine lv_if_le (tgt := 71) hx hb dX1_party_44 (by decide) (fun c44 => ?_) (fun c44 => ?_)
        · have hf := ifp c44 hf
          exact B71 (f_X1_party_b31 n) ih r0 x2 x3 x4 s hf _ _ _ (lv_sub hl [0, 1, 2, 3] rfl) hW
        · have hf := ifn c44 hf
          refine lv_iload_n hx hb dX1_party_47 rfl (lv_at hl 1 rfl) ?_
          refine lv_iconst (v := (-1)) hx hb dX1_party_48 (by decide) ?_
          refine lv_icmp_eq (tgt := 68) hx hb dX1_party_49 (by decide) (fun c49 => ?_) (fun c49 => ?_)
          · have hf := ifp c49 hf
            exact B68 (f_X1_party_b31 n) ih r0 x3 x4 s hf _ _ _ (lv_sub hl [0, 2, 3] rfl) hW
          · have hf := ifn c49 hf
            refine lv_aload_n hx hb dX1_party_52 rfl (lv_at hl 0 rfl) ?_
            obtain ⟨q53, hq53, hf⟩ := bi_some hf
            refine aw_gR hC hW g38 fl_X1_89 rfl hq53 dX1_party_53 ?_
            refine lv_iload hx hb dX1_party_56 (lv_at hl 3 rfl) ?_
            obtain ⟨g58, hf⟩ := gd_some hf
            refine aw_iald hC hW g58 dX1_party_58 ?_
            refine lv_aload_n hx hb dX1_party_59 rfl (lv_at hl 0 rfl) ?_
            obtain ⟨q60, hq60, hf⟩ := bi_some hf
            refine aw_gR hC hW g38 fl_X1_89 rfl hq60 dX1_party_60 ?_
            refine lv_iload_n hx hb dX1_party_63 rfl (lv_at hl 1 rfl) ?_
            obtain ⟨g64, hf⟩ := gd_some hf
            refine aw_iald hC hW g64 dX1_party_64 ?_
            refine lv_icmp_le (tgt := 71) hx hb dX1_party_65 (by decide) (fun c65 => ?_) (fun c65 => ?_)
            · have hf := ifp c65 hf
              exact B71 (f_X1_party_b31 n) ih r0 x2 x3 x4 s hf _ _ _ (lv_sub hl [0, 1, 2, 3] rfl) hW
            · have hf := ifn c65 hf
              exact B68 (f_X1_party_b31 n) ih r0 x3 x4 s hf _ _ _ (lv_sub hl [0, 2, 3] rfl) hW
  unfold f_X1_party at hf
  refine lv_iload_n hx hb dX1_party_0 rfl (lv_at hl 1 rfl) ?_
  refine lv_i2l (v := (x1 : Int32).toInt64) hx hb dX1_party_1 rfl ?_
  refine lv_lconst (v := 0) hx hb dX1_party_2 (by decide) ?_
  refine lv_ldc2 (v := 99) hx hb hC.2.2.2.1 (hts _ q1021) dX1_party_3 ?_
  obtain ⟨v6, ev6, hf⟩ := bnd_some hf
  refine aw_dS1 (As := [.long ((x1 : Int32).toInt64), .long 0, .long 99]) (rest := []) (pc_X1_in l G a ((x1 : Int32).toInt64) 0 99 s) hC hW hl.1 sy_X1_in (Or.inl q514) rfl rfl (Nat.le_of_ble_eq_true rfl) ⟨Nat.le_of_ble_eq_true rfl, Nat.le_of_ble_eq_true rfl⟩ ⟨Nat.le_of_ble_eq_true rfl, Nat.le_of_ble_eq_true rfl⟩ dX1_party_6 (fun H locs hW => ?_)
  refine top_i ev6 ?_
  refine lv_if_ne (tgt := 15) hx hb dX1_party_9 (by decide) (fun c9 => ?_) (fun c9 => ?_)
  · have hf := ifn c9 hf
    refine lv_aload_n hx hb dX1_party_15 rfl (lv_at hl 0 rfl) ?_
    refine lv_iload_n hx hb dX1_party_16 rfl (lv_at hl 1 rfl) ?_
    refine lv_aload_n hx hb dX1_party_17 rfl (lv_at hl 0 rfl) ?_
    obtain ⟨g18, hf⟩ := gd_some hf
    obtain ⟨q18, hq18, hf⟩ := bi_some hf
    refine aw_gR hC hW g18 fl_X1_54 rfl hq18 dX1_party_18 ?_
    obtain ⟨_, s21, h21, hf⟩ := ob_some hf
    refine aw_dV0 (r := o) (As := [.int x1, .ref (a q18)]) (rest := []) (ct_X1_partiesBy l G a o x1 q18 s () s21 h21) hC hW hl.1 vy_X1_partiesBy (Or.inl q1108) g18 rfl rfl rfl rfl (Nat.le_of_ble_eq_true rfl) ⟨Nat.le_of_ble_eq_true rfl, Nat.le_of_ble_eq_true rfl⟩ ⟨Nat.le_of_ble_eq_true rfl, Nat.le_of_ble_eq_true rfl⟩ dX1_party_21 (fun H locs hW => ?_)
    refine lv_iconst (v := (-1)) hx hb dX1_party_24 (by decide) ?_
    refine lv_istore_n (lv' := [(2, .int (-1)), (0, .ref (a o)), (1, .int x1)]) hx hb dX1_party_25 rfl hl (by decide) rfl (fun ls hl => ?_)
    refine lv_iconst (v := 0) hx hb dX1_party_26 (by decide) ?_
    refine lv_istore_n (lv' := [(3, .int 0), (2, .int (-1)), (0, .ref (a o)), (1, .int x1)]) hx hb dX1_party_27 rfl hl (by decide) rfl (fun ls hl => ?_)
    refine lv_iconst (v := 0) hx hb dX1_party_28 (by decide) ?_
    refine lv_istore (lv' := [(4, .int 0), (3, .int 0), (2, .int (-1)), (0, .ref (a o)), (1, .int x1)]) hx hb dX1_party_29 hl (by decide) rfl (fun ls hl => ?_)
    exact B31 fuel o (-1) 0 0 s21 hf _ _ _ (lv_sub hl [3, 2, 1, 0] rfl) hW
  · have hf := ifp c9 hf
    refine lv_bipush (v := (-2)) hx hb dX1_party_12 (by decide) ?_
    obtain ⟨e1, e2⟩ := so_inj hf
    exact aw_iret hC hW hr rfl (p_eq hP (congrArg (fun z => some (Value.int z)) e1) e2) (Nat.le_of_ble_eq_true rfl) (Nat.le_of_ble_eq_true rfl) dX1_party_14
def f_X1_takesAnother_b77 (K28 : Nat → Int32 → Int32 → Int32 → Int32 → Int32 → Int32 → ST → Option (Int32 × ST)) (r0 : Nat) (x1 : Int32) (x2 : Int32) (x3 : Int32) (x4 : Int32) (x5 : Int32) (x6 : Int32) (s : ST) : Option (Int32 × ST) :=
  bnd (x6 + 1 : Int32) fun v77 =>
  K28 r0 x1 x2 x3 x4 x5 v77 s
def f_X1_takesAnother_b28 : Nat → Nat → Int32 → Int32 → Int32 → Int32 → Int32 → Int32 → ST → Option (Int32 × ST)
  | 0, _, _, _, _, _, _, _, _ => none
  | n + 1, r0, x1, x2, x3, x4, x5, x6, s =>
  if (1 <<< (x2 &&& 31)) ≤ x6 then (gd (r0 < s.1 ∧ (kd s r0).1 = 1) <|
  (gr s r0 19).bind fun q84 =>
  gd (q84 < s.1 ∧ (kd s q84).1 = 7) <|
  (gr s q84 0).bind fun q87 =>
  gd (q87 < s.1 ∧ (kd s q87).1 = 100 ∧ ¬ ((x1 : Int32) < 0 ∨ (kd s q87).2 ≤ (x1 : Int32).toNatClampNeg)) <|
  bnd (pI s q87 (x1 : Int32).toNatClampNeg x4) fun s93 =>
  if x4 = x3 then (some (0, s93)) else some (1, s93)) else gd (r0 < s.1 ∧ (kd s r0).1 = 1) <|
  (gr s r0 19).bind fun q37 =>
  gd (q37 < s.1 ∧ (kd s q37).1 = 7) <|
  (gr s q37 0).bind fun q40 =>
  gd (q40 < s.1 ∧ (kd s q40).1 = 100 ∧ ¬ ((x1 : Int32) < 0 ∨ (kd s q40).2 ≤ (x1 : Int32).toNatClampNeg)) <|
  bnd (pI s q40 (x1 : Int32).toNatClampNeg x6) fun s46 =>
  (gr s46 r0 19).bind fun q51 =>
  ob (f_X1_servesBy r0 x1 x2 q51 s46) fun v54 s54 =>
  if x5 < v54 then (f_X1_takesAnother_b77 (f_X1_takesAnother_b28 n) r0 x1 x2 x3 x6 v54 x6 s54) else f_X1_takesAnother_b77 (f_X1_takesAnother_b28 n) r0 x1 x2 x3 x4 x5 x6 s54
def f_X1_takesAnother (o : Nat) (x1 : Int32) (x2 : Int32) (s : ST) : Option (Int32 × ST) :=
  gd (o < s.1 ∧ (kd s o).1 = 1) <|
  (gr s o 19).bind fun q1 =>
  gd (q1 < s.1 ∧ (kd s q1).1 = 7) <|
  (gr s q1 0).bind fun q4 =>
  gd (q4 < s.1 ∧ (kd s q4).1 = 100 ∧ ¬ ((x1 : Int32) < 0 ∨ (kd s q4).2 ≤ (x1 : Int32).toNatClampNeg)) <|
  bnd ((gi s q4 (x1 : Int32).toNatClampNeg) : Int32) fun v9 =>
  (gr s o 19).bind fun q17 =>
  ob (f_X1_servesBy o x1 x2 q17 s) fun v20 s20 =>
  f_X1_takesAnother_b28 fuel o x1 x2 v9 v9 v20 0 s20
set_option maxHeartbeats 4000000 in
theorem ct_X1_takesAnother (l : Launch) (G : GM) (a : Nat → Nat) (o : Nat) (x1 : Int32) (x2 : Int32) (s : ST) (rv : Int32) (sf : ST) (hf : f_X1_takesAnother o x1 x2 s = some (rv, sf)) : MD l G yX1_takesAnother (ws_ yX1_takesAnother cX1_takesAnother 8 (some .boolean)) 128 [.ref (a o), .int x1, .int x2] a s (some (.int rv)) sf := by
  refine md_of (d := 128) (lv := [(0, .ref (a o)), (1, .int x1), (2, .int x2)]) (Or.inl (by decide)) (Nat.le_of_ble_eq_true rfl) rfl ?_
  intro p e s0 m args below meth c ls A P hP hC hr hnm hW hl
  have hx := hC.1
  have hb := hC.2.1
  have hts := hC.2.2.2.2.1
  have B77 : ∀ (K28 : Nat → Int32 → Int32 → Int32 → Int32 → Int32 → Int32 → ST → Option (Int32 × ST)) (hK28 : ∀ (r0 : Nat) (x1 : Int32) (x2 : Int32) (x3 : Int32) (x4 : Int32) (x5 : Int32) (x6 : Int32) (s : ST), K28 r0 x1 x2 x3 x4 x5 x6 s = some (rv, sf) → ∀ (H : Heap) (locs : List Loc) (ls : Array Slot), lv_has ls 8 [(0, .ref (a r0)), (1, .int x1), (2, .int x2), (3, .int x3), (4, .int x4), (5, .int x5), (6, .int x6)] → AW G a A s s0.heap H locs → WB p l e (rmD 128) s0 m args below meth c H locs G A P 28 ls []), ∀ (r0 : Nat) (x1 : Int32) (x2 : Int32) (x3 : Int32) (x4 : Int32) (x5 : Int32) (x6 : Int32) (s : ST), f_X1_takesAnother_b77 K28 r0 x1 x2 x3 x4 x5 x6 s = some (rv, sf) → ∀ (H : Heap) (locs : List Loc) (ls : Array Slot), lv_has ls 8 [(0, .ref (a r0)), (1, .int x1), (2, .int x2), (3, .int x3), (4, .int x4), (5, .int x5), (6, .int x6)] → AW G a A s s0.heap H locs → WB p l e (rmD 128) s0 m args below meth c H locs G A P 77 ls [] := by
    intro K28 hK28 r0 x1 x2 x3 x4 x5 x6 s hf H locs ls hl hW
    unfold f_X1_takesAnother_b77 at hf
    obtain ⟨v77, ev77, hf⟩ := bnd_some hf
    refine lv_iinc (v := v77) (lv' := [(6, .int v77), (0, .ref (a r0)), (1, .int x1), (2, .int x2), (3, .int x3), (4, .int x4), (5, .int x5)]) hx hb dX1_takesAnother_77 hl (k := 6) rfl (by rw [ev77]; rfl) (by decide) rfl (fun ls hl => ?_)
    refine lv_goto (tgt := 28) hx hb dX1_takesAnother_80 (by decide) ?_
    exact hK28 r0 x1 x2 x3 x4 x5 v77 s hf _ _ _ (lv_sub hl [1, 2, 3, 4, 5, 6, 0] rfl) hW
  have B28 : ∀ (n : Nat), ∀ (r0 : Nat) (x1 : Int32) (x2 : Int32) (x3 : Int32) (x4 : Int32) (x5 : Int32) (x6 : Int32) (s : ST), f_X1_takesAnother_b28 n r0 x1 x2 x3 x4 x5 x6 s = some (rv, sf) → ∀ (H : Heap) (locs : List Loc) (ls : Array Slot), lv_has ls 8 [(0, .ref (a r0)), (1, .int x1), (2, .int x2), (3, .int x3), (4, .int x4), (5, .int x5), (6, .int x6)] → AW G a A s s0.heap H locs → WB p l e (rmD 128) s0 m args below meth c H locs G A P 28 ls [] := by
    intro n
    induction n with
    | zero => intro r0 x1 x2 x3 x4 x5 x6 s hf; cases hf
    | succ n ih =>
      intro r0 x1 x2 x3 x4 x5 x6 s hf H locs ls hl hW
      rw [f_X1_takesAnother_b28] at hf
      refine lv_iload hx hb dX1_takesAnother_28 (lv_at hl 6 rfl) ?_
      refine lv_iconst (v := 1) hx hb dX1_takesAnother_30 (by decide) ?_
      refine lv_iload_n hx hb dX1_takesAnother_31 rfl (lv_at hl 2 rfl) ?_
      refine lv_ishl hx hb dX1_takesAnother_32 ?_
      refine lv_icmp_ge (tgt := 83) hx hb dX1_takesAnother_33 (by decide) (fun c33 => ?_) (fun c33 => ?_)
      · have hf := ifp c33 hf
        refine lv_aload_n hx hb dX1_takesAnother_83 rfl (lv_at hl 0 rfl) ?_
        obtain ⟨g84, hf⟩ := gd_some hf
        obtain ⟨q84, hq84, hf⟩ := bi_some hf
        refine aw_gR hC hW g84 fl_X1_75 rfl hq84 dX1_takesAnother_84 ?_
        obtain ⟨g87, hf⟩ := gd_some hf
        obtain ⟨q87, hq87, hf⟩ := bi_some hf
        refine aw_gR hC hW g87 fl_X1_435 rfl hq87 dX1_takesAnother_87 ?_
        refine lv_iload_n hx hb dX1_takesAnother_90 rfl (lv_at hl 1 rfl) ?_
        refine lv_iload hx hb dX1_takesAnother_91 (lv_at hl 4 rfl) ?_
        obtain ⟨g93, hf⟩ := gd_some hf
        obtain ⟨s93, e93, hf⟩ := bnd_some hf
        refine aw_iast e93 hC hW g93 dX1_takesAnother_93 (fun H locs hW => ?_)
        have g84 := ko_pI e93 g84
        have g87 := ko_pI e93 g87
        refine lv_iload hx hb dX1_takesAnother_94 (lv_at hl 4 rfl) ?_
        refine lv_iload_n hx hb dX1_takesAnother_96 rfl (lv_at hl 3 rfl) ?_
        refine lv_icmp_eq (tgt := 104) hx hb dX1_takesAnother_97 (by decide) (fun c97 => ?_) (fun c97 => ?_)
        · have hf := ifp c97 hf
          refine lv_iconst (v := 0) hx hb dX1_takesAnother_104 (by decide) ?_
          obtain ⟨e1, e2⟩ := so_inj hf
          exact aw_iret hC hW hr rfl (p_eq hP (congrArg (fun z => some (Value.int z)) e1) e2) (Nat.le_of_ble_eq_true rfl) (Nat.le_of_ble_eq_true rfl) dX1_takesAnother_105
        · have hf := ifn c97 hf
          refine lv_iconst (v := 1) hx hb dX1_takesAnother_100 (by decide) ?_
          refine lv_goto (tgt := 105) hx hb dX1_takesAnother_101 (by decide) ?_
          obtain ⟨e1, e2⟩ := so_inj hf
          exact aw_iret hC hW hr rfl (p_eq hP (congrArg (fun z => some (Value.int z)) e1) e2) (Nat.le_of_ble_eq_true rfl) (Nat.le_of_ble_eq_true rfl) dX1_takesAnother_105
      · have hf := ifn c33 hf
        refine lv_aload_n hx hb dX1_takesAnother_36 rfl (lv_at hl 0 rfl) ?_
        obtain ⟨g37, hf⟩ := gd_some hf
        obtain ⟨q37, hq37, hf⟩ := bi_some hf
        refine aw_gR hC hW g37 fl_X1_75 rfl hq37 dX1_takesAnother_37 ?_
        obtain ⟨g40, hf⟩ := gd_some hf
        obtain ⟨q40, hq40, hf⟩ := bi_some hf
        refine aw_gR hC hW g40 fl_X1_435 rfl hq40 dX1_takesAnother_40 ?_
        refine lv_iload_n hx hb dX1_takesAnother_43 rfl (lv_at hl 1 rfl) ?_
        refine lv_iload hx hb dX1_takesAnother_44 (lv_at hl 6 rfl) ?_
        obtain ⟨g46, hf⟩ := gd_some hf
        obtain ⟨s46, e46, hf⟩ := bnd_some hf
        refine aw_iast e46 hC hW g46 dX1_takesAnother_46 (fun H locs hW => ?_)
        have g37 := ko_pI e46 g37
        have g40 := ko_pI e46 g40
        refine lv_aload_n hx hb dX1_takesAnother_47 rfl (lv_at hl 0 rfl) ?_
        refine lv_iload_n hx hb dX1_takesAnother_48 rfl (lv_at hl 1 rfl) ?_
        refine lv_iload_n hx hb dX1_takesAnother_49 rfl (lv_at hl 2 rfl) ?_
        refine lv_aload_n hx hb dX1_takesAnother_50 rfl (lv_at hl 0 rfl) ?_
        obtain ⟨q51, hq51, hf⟩ := bi_some hf
        refine aw_gR hC hW g37 fl_X1_75 rfl hq51 dX1_takesAnother_51 ?_
        obtain ⟨v54, s54, h54, hf⟩ := ob_some hf
        refine aw_dV1 (r := r0) (As := [.int x1, .int x2, .ref (a q51)]) (rest := []) (ct_X1_servesBy l G a r0 x1 x2 q51 s46 v54 s54 h54) hC hW hl.1 vy_X1_servesBy (Or.inl q1086) g37 rfl rfl rfl rfl (Nat.le_of_ble_eq_true rfl) ⟨Nat.le_of_ble_eq_true rfl, Nat.le_of_ble_eq_true rfl⟩ ⟨Nat.le_of_ble_eq_true rfl, Nat.le_of_ble_eq_true rfl⟩ dX1_takesAnother_54 (fun H locs hW => ?_)
        refine lv_istore (lv' := [(7, .int v54), (0, .ref (a r0)), (1, .int x1), (2, .int x2), (3, .int x3), (4, .int x4), (5, .int x5), (6, .int x6)]) hx hb dX1_takesAnother_57 hl (by decide) rfl (fun ls hl => ?_)
        refine lv_iload hx hb dX1_takesAnother_59 (lv_at hl 0 rfl) ?_
        refine lv_iload hx hb dX1_takesAnother_61 (lv_at hl 6 rfl) ?_
        refine lv_icmp_gt (tgt := 69) hx hb dX1_takesAnother_63 (by decide) (fun c63 => ?_) (fun c63 => ?_)
        · have hf := ifp c63 hf
          refine lv_iload hx hb dX1_takesAnother_69 (lv_at hl 7 rfl) ?_
          refine lv_istore (lv' := [(4, .int x6), (7, .int v54), (0, .ref (a r0)), (1, .int x1), (2, .int x2), (3, .int x3), (5, .int x5), (6, .int x6)]) hx hb dX1_takesAnother_71 hl (by decide) rfl (fun ls hl => ?_)
          refine lv_iload hx hb dX1_takesAnother_73 (lv_at hl 1 rfl) ?_
          refine lv_istore (lv' := [(5, .int v54), (4, .int x6), (7, .int v54), (0, .ref (a r0)), (1, .int x1), (2, .int x2), (3, .int x3), (6, .int x6)]) hx hb dX1_takesAnother_75 hl (by decide) rfl (fun ls hl => ?_)
          exact B77 (f_X1_takesAnother_b28 n) ih r0 x1 x2 x3 x6 v54 x6 s54 hf _ _ _ (lv_sub hl [3, 4, 5, 6, 1, 0, 7] rfl) hW
        · have hf := ifn c63 hf
          refine lv_goto (tgt := 77) hx hb dX1_takesAnother_66 (by decide) ?_
          exact B77 (f_X1_takesAnother_b28 n) ih r0 x1 x2 x3 x4 x5 x6 s54 hf _ _ _ (lv_sub hl [1, 2, 3, 4, 5, 6, 7] rfl) hW
  unfold f_X1_takesAnother at hf
  refine lv_aload_n hx hb dX1_takesAnother_0 rfl (lv_at hl 0 rfl) ?_
  obtain ⟨g1, hf⟩ := gd_some hf
  obtain ⟨q1, hq1, hf⟩ := bi_some hf
  refine aw_gR hC hW g1 fl_X1_75 rfl hq1 dX1_takesAnother_1 ?_
  obtain ⟨g4, hf⟩ := gd_some hf
  obtain ⟨q4, hq4, hf⟩ := bi_some hf
  refine aw_gR hC hW g4 fl_X1_435 rfl hq4 dX1_takesAnother_4 ?_
  refine lv_iload_n hx hb dX1_takesAnother_7 rfl (lv_at hl 1 rfl) ?_
  obtain ⟨g8, hf⟩ := gd_some hf
  refine aw_iald hC hW g8 dX1_takesAnother_8 ?_
  obtain ⟨v9, ev9, hf⟩ := bnd_some hf
  refine top_i ev9 ?_
  refine lv_istore_n (lv' := [(3, .int v9), (0, .ref (a o)), (1, .int x1), (2, .int x2)]) hx hb dX1_takesAnother_9 rfl hl (by decide) rfl (fun ls hl => ?_)
  refine lv_iload_n hx hb dX1_takesAnother_10 rfl (lv_at hl 0 rfl) ?_
  refine lv_istore (lv' := [(4, .int v9), (3, .int v9), (0, .ref (a o)), (1, .int x1), (2, .int x2)]) hx hb dX1_takesAnother_11 hl (by decide) rfl (fun ls hl => ?_)
  refine lv_aload_n hx hb dX1_takesAnother_13 rfl (lv_at hl 2 rfl) ?_
  refine lv_iload_n hx hb dX1_takesAnother_14 rfl (lv_at hl 3 rfl) ?_
  refine lv_iload_n hx hb dX1_takesAnother_15 rfl (lv_at hl 4 rfl) ?_
  refine lv_aload_n hx hb dX1_takesAnother_16 rfl (lv_at hl 2 rfl) ?_
  obtain ⟨q17, hq17, hf⟩ := bi_some hf
  refine aw_gR hC hW g1 fl_X1_75 rfl hq17 dX1_takesAnother_17 ?_
  obtain ⟨v20, s20, h20, hf⟩ := ob_some hf
  refine aw_dV1 (r := o) (As := [.int x1, .int x2, .ref (a q17)]) (rest := []) (ct_X1_servesBy l G a o x1 x2 q17 s v20 s20 h20) hC hW hl.1 vy_X1_servesBy (Or.inl q1086) g1 rfl rfl rfl rfl (Nat.le_of_ble_eq_true rfl) ⟨Nat.le_of_ble_eq_true rfl, Nat.le_of_ble_eq_true rfl⟩ ⟨Nat.le_of_ble_eq_true rfl, Nat.le_of_ble_eq_true rfl⟩ dX1_takesAnother_20 (fun H locs hW => ?_)
  refine lv_istore (lv' := [(5, .int v20), (4, .int v9), (3, .int v9), (0, .ref (a o)), (1, .int x1), (2, .int x2)]) hx hb dX1_takesAnother_23 hl (by decide) rfl (fun ls hl => ?_)
  refine lv_iconst (v := 0) hx hb dX1_takesAnother_25 (by decide) ?_
  refine lv_istore (lv' := [(6, .int 0), (5, .int v20), (4, .int v9), (3, .int v9), (0, .ref (a o)), (1, .int x1), (2, .int x2)]) hx hb dX1_takesAnother_26 hl (by decide) rfl (fun ls hl => ?_)
  exact B28 fuel o x1 x2 v9 v9 v20 0 s20 hf _ _ _ (lv_sub hl [4, 5, 6, 3, 2, 1, 0] rfl) hW
def f_X1_rests_b154 : Nat → Nat → Int32 → Int32 → ST → Option (Int32 × ST)
  | 0, _, _, _, _ => none
  | n + 1, r0, x3, x5, s =>
  gd (r0 < s.1 ∧ (kd s r0).1 = 1) <|
  if (gi s r0 4) ≤ x5 then (some (x3, s)) else (gr s r0 19).bind fun q165 =>
  gd (q165 < s.1 ∧ (kd s q165).1 = 7) <|
  (gr s q165 0).bind fun q168 =>
  gd (q168 < s.1 ∧ (kd s q168).1 = 100 ∧ ¬ ((x5 : Int32) < 0 ∨ (kd s q168).2 ≤ (x5 : Int32).toNatClampNeg)) <|
  ob (f_X1_tell r0 (((gi s q168 (x5 : Int32).toNatClampNeg) : Int32).toInt64) s) fun _ s175 =>
  bnd (x5 + 1 : Int32) fun v178 =>
  f_X1_rests_b154 n r0 x3 v178 s175
def f_X1_rests_b148 (r0 : Nat) (x3 : Int32) (u0 : Int64) (w1 : Nat) (s : ST) : Option (Int32 × ST) :=
  gd (w1 < s.1 ∧ (kd s w1).1 = 1) <|
  ob (f_X1_tell w1 u0 s) fun _ s148 =>
  f_X1_rests_b154 fuel r0 x3 0 s148
def f_X1_rests_b132 (r0 : Nat) (x3 : Int32) (x4 : Int32) (s : ST) : Option (Int32 × ST) :=
  gd (r0 < s.1 ∧ (kd s r0).1 = 1) <|
  bnd (pI s r0 12 0) fun s134 =>
  if x4 = 0 then (f_X1_rests_b148 r0 x3 0 r0 s134) else f_X1_rests_b148 r0 x3 1 r0 s134
def f_X1_rests_b120 (K79 : Nat → Int32 → Int32 → Int32 → Int32 → Int32 → ST → Option (Int32 × ST)) (r0 : Nat) (x1 : Int32) (x2 : Int32) (x3 : Int32) (x5 : Int32) (t0 : Int32) (t1 : Int32) (s : ST) : Option (Int32 × ST) :=
  bnd ((t1 &&& t0) : Int32) fun v121 =>
  bnd (x5 + 1 : Int32) fun v123 =>
  K79 r0 x1 x2 x3 v121 v123 s
def f_X1_rests_b115 (K79 : Nat → Int32 → Int32 → Int32 → Int32 → Int32 → ST → Option (Int32 × ST)) (r0 : Nat) (x1 : Int32) (x2 : Int32) (x3 : Int32) (x5 : Int32) (t0 : Int32) (s : ST) : Option (Int32 × ST) :=
  f_X1_rests_b120 K79 r0 x1 x2 x3 x5 1 t0 s
def f_X1_rests_b79 (K60 : Nat → Int32 → Int32 → Int32 → Int32 → ST → Option (Int32 × ST)) : Nat → Nat → Int32 → Int32 → Int32 → Int32 → Int32 → ST → Option (Int32 × ST)
  | 0, _, _, _, _, _, _, _ => none
  | n + 1, r0, x1, x2, x3, x4, x5, s =>
  gd (r0 < s.1 ∧ (kd s r0).1 = 1) <|
  if (gi s r0 4) ≤ x5 then (K60 r0 x1 x2 x3 x4 s) else (gr s r0 1).bind fun q91 =>
  gd (q91 < s.1 ∧ (kd s q91).1 = 2) <|
  bnd (p_has (gi s q91 6) x5) fun v99 =>
  if v99 = 0 then (f_X1_rests_b115 (f_X1_rests_b79 K60 n) r0 x1 x2 x3 x5 x4 s) else ob (f_X1_takesAnother r0 x5 x1 s) fun v109 s109 =>
  if v109 = 0 then (f_X1_rests_b115 (f_X1_rests_b79 K60 n) r0 x1 x2 x3 x5 x4 s109) else f_X1_rests_b120 (f_X1_rests_b79 K60 n) r0 x1 x2 x3 x5 0 x4 s109
def f_X1_rests_b60 : Nat → Nat → Int32 → Int32 → Int32 → Int32 → ST → Option (Int32 × ST)
  | 0, _, _, _, _, _, _ => none
  | n + 1, r0, x1, x2, x3, x4, s =>
  if x2 ≤ x3 then (f_X1_rests_b132 r0 x3 x4 s) else if x4 = 0 then (bnd (x3 + 1 : Int32) fun v73 =>
  f_X1_rests_b79 (f_X1_rests_b60 n) fuel r0 x1 x2 v73 1 0 s) else f_X1_rests_b132 r0 x3 x4 s
def f_X1_rests (o : Nat) (x1 : Int32) (x2 : Int32) (s : ST) : Option (Int32 × ST) :=
  bnd (p_in ((x1 : Int32).toInt64) 1 4) fun v6 =>
  if v6 = 0 then (some ((-1), s)) else bnd (p_in ((x2 : Int32).toInt64) 0 20) fun v18 =>
  if v18 = 0 then (some ((-1), s)) else gd (o < s.1 ∧ (kd s o).1 = 1) <|
  (gr s o 19).bind fun q27 =>
  (gr s o 1).bind fun q31 =>
  gd (q31 < s.1 ∧ (kd s q31).1 = 2) <|
  gd (q27 < s.1 ∧ (kd s q27).1 = 7) <|
  bnd (pI s q27 1 (gi s q31 9)) fun s37 =>
  (gr s37 o 19).bind fun q41 =>
  gd (q41 < s37.1 ∧ (kd s37 q41).1 = 7) <|
  (gr s37 q41 0).bind fun q44 =>
  ob (f_J12_fill q44 ((1 <<< (x1 &&& 31)) - 1) s37) fun _ s52 =>
  f_X1_rests_b60 fuel o x1 x2 0 0 s52
set_option maxHeartbeats 4000000 in
theorem ct_X1_rests (l : Launch) (G : GM) (a : Nat → Nat) (o : Nat) (x1 : Int32) (x2 : Int32) (s : ST) (rv : Int32) (sf : ST) (hf : f_X1_rests o x1 x2 s = some (rv, sf)) : MD l G yX1_rests (ws_ yX1_rests cX1_rests 6 (some .int)) 129 [.ref (a o), .int x1, .int x2] a s (some (.int rv)) sf := by
  refine md_of (d := 129) (lv := [(0, .ref (a o)), (1, .int x1), (2, .int x2)]) (Or.inl (by decide)) (Nat.le_of_ble_eq_true rfl) rfl ?_
  intro p e s0 m args below meth c ls A P hP hC hr hnm hW hl
  have hx := hC.1
  have hb := hC.2.1
  have hts := hC.2.2.2.2.1
  have B154 : ∀ (n : Nat), ∀ (r0 : Nat) (x3 : Int32) (x5 : Int32) (s : ST), f_X1_rests_b154 n r0 x3 x5 s = some (rv, sf) → ∀ (H : Heap) (locs : List Loc) (ls : Array Slot), lv_has ls 6 [(0, .ref (a r0)), (3, .int x3), (5, .int x5)] → AW G a A s s0.heap H locs → WB p l e (rmD 129) s0 m args below meth c H locs G A P 154 ls [] := by
    intro n
    induction n with
    | zero => intro r0 x3 x5 s hf; cases hf
    | succ n ih =>
      intro r0 x3 x5 s hf H locs ls hl hW
      rw [f_X1_rests_b154] at hf
      refine lv_iload hx hb dX1_rests_154 (lv_at hl 2 rfl) ?_
      refine lv_aload_n hx hb dX1_rests_156 rfl (lv_at hl 0 rfl) ?_
      obtain ⟨g157, hf⟩ := gd_some hf
      refine aw_gI hC hW g157 fl_X1_157 rfl dX1_rests_157 ?_
      refine lv_icmp_ge (tgt := 184) hx hb dX1_rests_160 (by decide) (fun c160 => ?_) (fun c160 => ?_)
      · have hf := ifp c160 hf
        refine lv_iload_n hx hb dX1_rests_184 rfl (lv_at hl 1 rfl) ?_
        obtain ⟨e1, e2⟩ := so_inj hf
        exact aw_iret hC hW hr rfl (p_eq hP (congrArg (fun z => some (Value.int z)) e1) e2) (Nat.le_of_ble_eq_true rfl) (Nat.le_of_ble_eq_true rfl) dX1_rests_185
      · have hf := ifn c160 hf
        refine lv_aload_n hx hb dX1_rests_163 rfl (lv_at hl 0 rfl) ?_
        refine lv_aload_n hx hb dX1_rests_164 rfl (lv_at hl 0 rfl) ?_
        obtain ⟨q165, hq165, hf⟩ := bi_some hf
        refine aw_gR hC hW g157 fl_X1_75 rfl hq165 dX1_rests_165 ?_
        obtain ⟨g168, hf⟩ := gd_some hf
        obtain ⟨q168, hq168, hf⟩ := bi_some hf
        refine aw_gR hC hW g168 fl_X1_435 rfl hq168 dX1_rests_168 ?_
        refine lv_iload hx hb dX1_rests_171 (lv_at hl 2 rfl) ?_
        obtain ⟨g173, hf⟩ := gd_some hf
        refine aw_iald hC hW g173 dX1_rests_173 ?_
        refine lv_i2l (v := ((gi s q168 (x5 : Int32).toNatClampNeg) : Int32).toInt64) hx hb dX1_rests_174 rfl ?_
        obtain ⟨_, s175, h175, hf⟩ := ob_some hf
        refine aw_dV0 (r := r0) (As := [.long (((gi s q168 (x5 : Int32).toNatClampNeg) : Int32).toInt64)]) (rest := []) (ct_X1_tell l G a r0 (((gi s q168 (x5 : Int32).toNatClampNeg) : Int32).toInt64) s () s175 h175) hC hW hl.1 vy_X1_tell (Or.inl q1013) g157 rfl rfl rfl rfl (Nat.le_of_ble_eq_true rfl) ⟨Nat.le_of_ble_eq_true rfl, Nat.le_of_ble_eq_true rfl⟩ ⟨Nat.le_of_ble_eq_true rfl, Nat.le_of_ble_eq_true rfl⟩ dX1_rests_175 (fun H locs hW => ?_)
        obtain ⟨v178, ev178, hf⟩ := bnd_some hf
        refine lv_iinc (v := v178) (lv' := [(5, .int v178), (0, .ref (a r0)), (3, .int x3)]) hx hb dX1_rests_178 hl (k := 2) rfl (by rw [ev178]; rfl) (by decide) rfl (fun ls hl => ?_)
        refine lv_goto (tgt := 154) hx hb dX1_rests_181 (by decide) ?_
        exact ih r0 x3 v178 s175 hf _ _ _ (lv_sub hl [1, 2, 0] rfl) hW
  have B148 : ∀ (r0 : Nat) (x3 : Int32) (u0 : Int64) (w1 : Nat) (s : ST), f_X1_rests_b148 r0 x3 u0 w1 s = some (rv, sf) → ∀ (H : Heap) (locs : List Loc) (ls : Array Slot), lv_has ls 6 [(0, .ref (a r0)), (3, .int x3)] → AW G a A s s0.heap H locs → WB p l e (rmD 129) s0 m args below meth c H locs G A P 148 ls [.long u0, .ref (a w1)] := by
    intro r0 x3 u0 w1 s hf H locs ls hl hW
    unfold f_X1_rests_b148 at hf
    obtain ⟨g148, hf⟩ := gd_some hf
    obtain ⟨_, s148, h148, hf⟩ := ob_some hf
    refine aw_dV0 (r := w1) (As := [.long u0]) (rest := []) (ct_X1_tell l G a w1 u0 s () s148 h148) hC hW hl.1 vy_X1_tell (Or.inl q1013) g148 rfl rfl rfl rfl (Nat.le_of_ble_eq_true rfl) ⟨Nat.le_of_ble_eq_true rfl, Nat.le_of_ble_eq_true rfl⟩ ⟨Nat.le_of_ble_eq_true rfl, Nat.le_of_ble_eq_true rfl⟩ dX1_rests_148 (fun H locs hW => ?_)
    refine lv_iconst (v := 0) hx hb dX1_rests_151 (by decide) ?_
    refine lv_istore (lv' := [(5, .int 0), (0, .ref (a r0)), (3, .int x3)]) hx hb dX1_rests_152 hl (by decide) rfl (fun ls hl => ?_)
    exact B154 fuel r0 x3 0 s148 hf _ _ _ (lv_sub hl [1, 2, 0] rfl) hW
  have B132 : ∀ (r0 : Nat) (x3 : Int32) (x4 : Int32) (s : ST), f_X1_rests_b132 r0 x3 x4 s = some (rv, sf) → ∀ (H : Heap) (locs : List Loc) (ls : Array Slot), lv_has ls 6 [(0, .ref (a r0)), (3, .int x3), (4, .int x4)] → AW G a A s s0.heap H locs → WB p l e (rmD 129) s0 m args below meth c H locs G A P 132 ls [] := by
    intro r0 x3 x4 s hf H locs ls hl hW
    unfold f_X1_rests_b132 at hf
    refine lv_aload_n hx hb dX1_rests_132 rfl (lv_at hl 0 rfl) ?_
    refine lv_iconst (v := 0) hx hb dX1_rests_133 (by decide) ?_
    obtain ⟨g134, hf⟩ := gd_some hf
    obtain ⟨s134, e134, hf⟩ := bnd_some hf
    refine aw_pI e134 hC hW g134 fl_X1_154 (Or.inl fn_0_12) rfl rfl rfl dX1_rests_134 (fun H locs hW => ?_)
    have g134 := ko_pI e134 g134
    refine lv_aload_n hx hb dX1_rests_137 rfl (lv_at hl 0 rfl) ?_
    refine lv_iload hx hb dX1_rests_138 (lv_at hl 2 rfl) ?_
    refine lv_if_eq (tgt := 147) hx hb dX1_rests_140 (by decide) (fun c140 => ?_) (fun c140 => ?_)
    · have hf := ifp c140 hf
      refine lv_lconst (v := 0) hx hb dX1_rests_147 (by decide) ?_
      exact B148 r0 x3 0 r0 s134 hf _ _ _ (lv_sub hl [0, 1] rfl) hW
    · have hf := ifn c140 hf
      refine lv_lconst (v := 1) hx hb dX1_rests_143 (by decide) ?_
      refine lv_goto (tgt := 148) hx hb dX1_rests_144 (by decide) ?_
      exact B148 r0 x3 1 r0 s134 hf _ _ _ (lv_sub hl [0, 1] rfl) hW
  have B120 : ∀ (K79 : Nat → Int32 → Int32 → Int32 → Int32 → Int32 → ST → Option (Int32 × ST)) (hK79 : ∀ (r0 : Nat) (x1 : Int32) (x2 : Int32) (x3 : Int32) (x4 : Int32) (x5 : Int32) (s : ST), K79 r0 x1 x2 x3 x4 x5 s = some (rv, sf) → ∀ (H : Heap) (locs : List Loc) (ls : Array Slot), lv_has ls 6 [(0, .ref (a r0)), (1, .int x1), (2, .int x2), (3, .int x3), (4, .int x4), (5, .int x5)] → AW G a A s s0.heap H locs → WB p l e (rmD 129) s0 m args below meth c H locs G A P 79 ls []), ∀ (r0 : Nat) (x1 : Int32) (x2 : Int32) (x3 : Int32) (x5 : Int32) (t0 : Int32) (t1 : Int32) (s : ST), f_X1_rests_b120 K79 r0 x1 x2 x3 x5 t0 t1 s = some (rv, sf) → ∀ (H : Heap) (locs : List Loc) (ls : Array Slot), lv_has ls 6 [(0, .ref (a r0)), (1, .int x1), (2, .int x2), (3, .int x3), (5, .int x5)] → AW G a A s s0.heap H locs → WB p l e (rmD 129) s0 m args below meth c H locs G A P 120 ls [.int t0, .int t1] := by
    intro K79 hK79 r0 x1 x2 x3 x5 t0 t1 s hf H locs ls hl hW
    unfold f_X1_rests_b120 at hf
    refine lv_iand hx hb dX1_rests_120 ?_
    obtain ⟨v121, ev121, hf⟩ := bnd_some hf
    refine top_i ev121 ?_
    refine lv_istore (lv' := [(4, .int v121), (0, .ref (a r0)), (1, .int x1), (2, .int x2), (3, .int x3), (5, .int x5)]) hx hb dX1_rests_121 hl (by decide) rfl (fun ls hl => ?_)
    obtain ⟨v123, ev123, hf⟩ := bnd_some hf
    refine lv_iinc (v := v123) (lv' := [(5, .int v123), (4, .int v121), (0, .ref (a r0)), (1, .int x1), (2, .int x2), (3, .int x3)]) hx hb dX1_rests_123 hl (k := 5) rfl (by rw [ev123]; rfl) (by decide) rfl (fun ls hl => ?_)
    refine lv_goto (tgt := 79) hx hb dX1_rests_126 (by decide) ?_
    exact hK79 r0 x1 x2 x3 v121 v123 s hf _ _ _ (lv_sub hl [2, 3, 4, 5, 1, 0] rfl) hW
  have B115 : ∀ (K79 : Nat → Int32 → Int32 → Int32 → Int32 → Int32 → ST → Option (Int32 × ST)) (hK79 : ∀ (r0 : Nat) (x1 : Int32) (x2 : Int32) (x3 : Int32) (x4 : Int32) (x5 : Int32) (s : ST), K79 r0 x1 x2 x3 x4 x5 s = some (rv, sf) → ∀ (H : Heap) (locs : List Loc) (ls : Array Slot), lv_has ls 6 [(0, .ref (a r0)), (1, .int x1), (2, .int x2), (3, .int x3), (4, .int x4), (5, .int x5)] → AW G a A s s0.heap H locs → WB p l e (rmD 129) s0 m args below meth c H locs G A P 79 ls []), ∀ (r0 : Nat) (x1 : Int32) (x2 : Int32) (x3 : Int32) (x5 : Int32) (t0 : Int32) (s : ST), f_X1_rests_b115 K79 r0 x1 x2 x3 x5 t0 s = some (rv, sf) → ∀ (H : Heap) (locs : List Loc) (ls : Array Slot), lv_has ls 6 [(0, .ref (a r0)), (1, .int x1), (2, .int x2), (3, .int x3), (5, .int x5)] → AW G a A s s0.heap H locs → WB p l e (rmD 129) s0 m args below meth c H locs G A P 115 ls [.int t0] := by
    intro K79 hK79 r0 x1 x2 x3 x5 t0 s hf H locs ls hl hW
    unfold f_X1_rests_b115 at hf
    refine lv_iconst (v := 1) hx hb dX1_rests_115 (by decide) ?_
    refine lv_goto (tgt := 120) hx hb dX1_rests_116 (by decide) ?_
    exact B120 K79 hK79 r0 x1 x2 x3 x5 1 t0 s hf _ _ _ (lv_sub hl [0, 1, 2, 3, 4] rfl) hW
  have B79 : ∀ (K60 : Nat → Int32 → Int32 → Int32 → Int32 → ST → Option (Int32 × ST)) (hK60 : ∀ (r0 : Nat) (x1 : Int32) (x2 : Int32) (x3 : Int32) (x4 : Int32) (s : ST), K60 r0 x1 x2 x3 x4 s = some (rv, sf) → ∀ (H : Heap) (locs : List Loc) (ls : Array Slot), lv_has ls 6 [(0, .ref (a r0)), (1, .int x1), (2, .int x2), (3, .int x3), (4, .int x4)] → AW G a A s s0.heap H locs → WB p l e (rmD 129) s0 m args below meth c H locs G A P 60 ls []), ∀ (n : Nat), ∀ (r0 : Nat) (x1 : Int32) (x2 : Int32) (x3 : Int32) (x4 : Int32) (x5 : Int32) (s : ST), f_X1_rests_b79 K60 n r0 x1 x2 x3 x4 x5 s = some (rv, sf) → ∀ (H : Heap) (locs : List Loc) (ls : Array Slot), lv_has ls 6 [(0, .ref (a r0)), (1, .int x1), (2, .int x2), (3, .int x3), (4, .int x4), (5, .int x5)] → AW G a A s s0.heap H locs → WB p l e (rmD 129) s0 m args below meth c H locs G A P 79 ls [] := by
    intro K60 hK60
    intro n
    induction n with
    | zero => intro r0 x1 x2 x3 x4 x5 s hf; cases hf
    | succ n ih =>
      intro r0 x1 x2 x3 x4 x5 s hf H locs ls hl hW
      rw [f_X1_rests_b79] at hf
      refine lv_iload hx hb dX1_rests_79 (lv_at hl 5 rfl) ?_
      refine lv_aload_n hx hb dX1_rests_81 rfl (lv_at hl 0 rfl) ?_
      obtain ⟨g82, hf⟩ := gd_some hf
      refine aw_gI hC hW g82 fl_X1_157 rfl dX1_rests_82 ?_
      refine lv_icmp_ge (tgt := 129) hx hb dX1_rests_85 (by decide) (fun c85 => ?_) (fun c85 => ?_)
      · have hf := ifp c85 hf
        refine lv_goto (tgt := 60) hx hb dX1_rests_129 (by decide) ?_
        exact hK60 r0 x1 x2 x3 x4 s hf _ _ _ (lv_sub hl [0, 1, 2, 3, 4] rfl) hW
      · have hf := ifn c85 hf
        refine lv_iload hx hb dX1_rests_88 (lv_at hl 4 rfl) ?_
        refine lv_aload_n hx hb dX1_rests_90 rfl (lv_at hl 0 rfl) ?_
        obtain ⟨q91, hq91, hf⟩ := bi_some hf
        refine aw_gR hC hW g82 fl_X1_18 rfl hq91 dX1_rests_91 ?_
        obtain ⟨g94, hf⟩ := gd_some hf
        refine aw_gI hC hW g94 fl_X1_168 rfl dX1_rests_94 ?_
        refine lv_iload hx hb dX1_rests_97 (lv_at hl 5 rfl) ?_
        obtain ⟨v99, ev99, hf⟩ := bnd_some hf
        refine aw_dS1 (As := [.int (gi s q91 6), .int x5]) (rest := [.int x4]) (pc_X1_has l G a (gi s q91 6) x5 s) hC hW hl.1 sy_X1_has (Or.inl q930) rfl rfl (Nat.le_of_ble_eq_true rfl) ⟨Nat.le_of_ble_eq_true rfl, Nat.le_of_ble_eq_true rfl⟩ ⟨Nat.le_of_ble_eq_true rfl, Nat.le_of_ble_eq_true rfl⟩ dX1_rests_99 (fun H locs hW => ?_)
        refine top_i ev99 ?_
        refine lv_if_eq (tgt := 115) hx hb dX1_rests_102 (by decide) (fun c102 => ?_) (fun c102 => ?_)
        · have hf := ifp c102 hf
          exact B115 (f_X1_rests_b79 K60 n) ih r0 x1 x2 x3 x5 x4 s hf _ _ _ (lv_sub hl [0, 1, 2, 3, 5] rfl) hW
        · have hf := ifn c102 hf
          refine lv_aload_n hx hb dX1_rests_105 rfl (lv_at hl 0 rfl) ?_
          refine lv_iload hx hb dX1_rests_106 (lv_at hl 5 rfl) ?_
          refine lv_iload_n hx hb dX1_rests_108 rfl (lv_at hl 1 rfl) ?_
          obtain ⟨v109, s109, h109, hf⟩ := ob_some hf
          refine aw_dV1 (r := r0) (As := [.int x5, .int x1]) (rest := [.int x4]) (ct_X1_takesAnother l G a r0 x5 x1 s v109 s109 h109) hC hW hl.1 vy_X1_takesAnother (Or.inl q1100) g82 rfl rfl rfl rfl (Nat.le_of_ble_eq_true rfl) ⟨Nat.le_of_ble_eq_true rfl, Nat.le_of_ble_eq_true rfl⟩ ⟨Nat.le_of_ble_eq_true rfl, Nat.le_of_ble_eq_true rfl⟩ dX1_rests_109 (fun H locs hW => ?_)
          refine lv_if_ne (tgt := 119) hx hb dX1_rests_112 (by decide) (fun c112 => ?_) (fun c112 => ?_)
          · have hf := ifn c112 hf
            refine lv_iconst (v := 0) hx hb dX1_rests_119 (by decide) ?_
            exact B120 (f_X1_rests_b79 K60 n) ih r0 x1 x2 x3 x5 0 x4 s109 hf _ _ _ (lv_sub hl [0, 1, 2, 3, 5] rfl) hW
          · have hf := ifp c112 hf
            exact B115 (f_X1_rests_b79 K60 n) ih r0 x1 x2 x3 x5 x4 s109 hf _ _ _ (lv_sub hl [0, 1, 2, 3, 5] rfl) hW
  have B60 : ∀ (n : Nat), ∀ (r0 : Nat) (x1 : Int32) (x2 : Int32) (x3 : Int32) (x4 : Int32) (s : ST), f_X1_rests_b60 n r0 x1 x2 x3 x4 s = some (rv, sf) → ∀ (H : Heap) (locs : List Loc) (ls : Array Slot), lv_has ls 6 [(0, .ref (a r0)), (1, .int x1), (2, .int x2), (3, .int x3), (4, .int x4)] → AW G a A s s0.heap H locs → WB p l e (rmD 129) s0 m args below meth c H locs G A P 60 ls [] := by
    intro n
    induction n with
    | zero => intro r0 x1 x2 x3 x4 s hf; cases hf
    | succ n ih =>
      intro r0 x1 x2 x3 x4 s hf H locs ls hl hW
      rw [f_X1_rests_b60] at hf
      refine lv_iload_n hx hb dX1_rests_60 rfl (lv_at hl 3 rfl) ?_
      refine lv_iload_n hx hb dX1_rests_61 rfl (lv_at hl 2 rfl) ?_
      refine lv_icmp_ge (tgt := 132) hx hb dX1_rests_62 (by decide) (fun c62 => ?_) (fun c62 => ?_)
      · have hf := ifp c62 hf
        exact B132 r0 x3 x4 s hf _ _ _ (lv_sub hl [0, 3, 4] rfl) hW
      · have hf := ifn c62 hf
        refine lv_iload hx hb dX1_rests_65 (lv_at hl 4 rfl) ?_
        refine lv_if_ne (tgt := 132) hx hb dX1_rests_67 (by decide) (fun c67 => ?_) (fun c67 => ?_)
        · have hf := ifn c67 hf
          exact B132 r0 x3 x4 s hf _ _ _ (lv_sub hl [0, 3, 4] rfl) hW
        · have hf := ifp c67 hf
          refine lv_iconst (v := 1) hx hb dX1_rests_70 (by decide) ?_
          refine lv_istore (lv' := [(4, .int 1), (0, .ref (a r0)), (1, .int x1), (2, .int x2), (3, .int x3)]) hx hb dX1_rests_71 hl (by decide) rfl (fun ls hl => ?_)
          obtain ⟨v73, ev73, hf⟩ := bnd_some hf
          refine lv_iinc (v := v73) (lv' := [(3, .int v73), (4, .int 1), (0, .ref (a r0)), (1, .int x1), (2, .int x2)]) hx hb dX1_rests_73 hl (k := 4) rfl (by rw [ev73]; rfl) (by decide) rfl (fun ls hl => ?_)
          refine lv_iconst (v := 0) hx hb dX1_rests_76 (by decide) ?_
          refine lv_istore (lv' := [(5, .int 0), (3, .int v73), (4, .int 1), (0, .ref (a r0)), (1, .int x1), (2, .int x2)]) hx hb dX1_rests_77 hl (by decide) rfl (fun ls hl => ?_)
          exact B79 (f_X1_rests_b60 n) ih fuel r0 x1 x2 v73 1 0 s hf _ _ _ (lv_sub hl [3, 4, 5, 1, 2, 0] rfl) hW
  unfold f_X1_rests at hf
  refine lv_iload_n hx hb dX1_rests_0 rfl (lv_at hl 1 rfl) ?_
  refine lv_i2l (v := (x1 : Int32).toInt64) hx hb dX1_rests_1 rfl ?_
  refine lv_lconst (v := 1) hx hb dX1_rests_2 (by decide) ?_
  refine lv_ldc2 (v := 4) hx hb hC.2.2.2.1 (hts _ q1095) dX1_rests_3 ?_
  obtain ⟨v6, ev6, hf⟩ := bnd_some hf
  refine aw_dS1 (As := [.long ((x1 : Int32).toInt64), .long 1, .long 4]) (rest := []) (pc_X1_in l G a ((x1 : Int32).toInt64) 1 4 s) hC hW hl.1 sy_X1_in (Or.inl q514) rfl rfl (Nat.le_of_ble_eq_true rfl) ⟨Nat.le_of_ble_eq_true rfl, Nat.le_of_ble_eq_true rfl⟩ ⟨Nat.le_of_ble_eq_true rfl, Nat.le_of_ble_eq_true rfl⟩ dX1_rests_6 (fun H locs hW => ?_)
  refine top_i ev6 ?_
  refine lv_if_eq (tgt := 24) hx hb dX1_rests_9 (by decide) (fun c9 => ?_) (fun c9 => ?_)
  · have hf := ifp c9 hf
    refine lv_iconst (v := (-1)) hx hb dX1_rests_24 (by decide) ?_
    obtain ⟨e1, e2⟩ := so_inj hf
    exact aw_iret hC hW hr rfl (p_eq hP (congrArg (fun z => some (Value.int z)) e1) e2) (Nat.le_of_ble_eq_true rfl) (Nat.le_of_ble_eq_true rfl) dX1_rests_25
  · have hf := ifn c9 hf
    refine lv_iload_n hx hb dX1_rests_12 rfl (lv_at hl 2 rfl) ?_
    refine lv_i2l (v := (x2 : Int32).toInt64) hx hb dX1_rests_13 rfl ?_
    refine lv_lconst (v := 0) hx hb dX1_rests_14 (by decide) ?_
    refine lv_ldc2 (v := 20) hx hb hC.2.2.2.1 (hts _ q1096) dX1_rests_15 ?_
    obtain ⟨v18, ev18, hf⟩ := bnd_some hf
    refine aw_dS1 (As := [.long ((x2 : Int32).toInt64), .long 0, .long 20]) (rest := []) (pc_X1_in l G a ((x2 : Int32).toInt64) 0 20 s) hC hW hl.1 sy_X1_in (Or.inl q514) rfl rfl (Nat.le_of_ble_eq_true rfl) ⟨Nat.le_of_ble_eq_true rfl, Nat.le_of_ble_eq_true rfl⟩ ⟨Nat.le_of_ble_eq_true rfl, Nat.le_of_ble_eq_true rfl⟩ dX1_rests_18 (fun H locs hW => ?_)
    refine top_i ev18 ?_
    refine lv_if_ne (tgt := 26) hx hb dX1_rests_21 (by decide) (fun c21 => ?_) (fun c21 => ?_)
    · have hf := ifn c21 hf
      refine lv_aload_n hx hb dX1_rests_26 rfl (lv_at hl 0 rfl) ?_
      obtain ⟨g27, hf⟩ := gd_some hf
      obtain ⟨q27, hq27, hf⟩ := bi_some hf
      refine aw_gR hC hW g27 fl_X1_75 rfl hq27 dX1_rests_27 ?_
      refine lv_aload_n hx hb dX1_rests_30 rfl (lv_at hl 0 rfl) ?_
      obtain ⟨q31, hq31, hf⟩ := bi_some hf
      refine aw_gR hC hW g27 fl_X1_18 rfl hq31 dX1_rests_31 ?_
      obtain ⟨g34, hf⟩ := gd_some hf
      refine aw_gI hC hW g34 fl_X1_348 rfl dX1_rests_34 ?_
      obtain ⟨g37, hf⟩ := gd_some hf
      obtain ⟨s37, e37, hf⟩ := bnd_some hf
      refine aw_pI e37 hC hW g37 fl_X1_434 (Or.inl fn_6_1) rfl rfl rfl dX1_rests_37 (fun H locs hW => ?_)
      have g27 := ko_pI e37 g27
      have g34 := ko_pI e37 g34
      have g37 := ko_pI e37 g37
      refine lv_aload_n hx hb dX1_rests_40 rfl (lv_at hl 0 rfl) ?_
      obtain ⟨q41, hq41, hf⟩ := bi_some hf
      refine aw_gR hC hW g27 fl_X1_75 rfl hq41 dX1_rests_41 ?_
      obtain ⟨g44, hf⟩ := gd_some hf
      obtain ⟨q44, hq44, hf⟩ := bi_some hf
      refine aw_gR hC hW g44 fl_X1_435 rfl hq44 dX1_rests_44 ?_
      refine lv_iconst (v := 1) hx hb dX1_rests_47 (by decide) ?_
      refine lv_iload_n hx hb dX1_rests_48 rfl (lv_at hl 1 rfl) ?_
      refine lv_ishl hx hb dX1_rests_49 ?_
      refine lv_iconst (v := 1) hx hb dX1_rests_50 (by decide) ?_
      refine lv_isub hx hb dX1_rests_51 ?_
      obtain ⟨_, s52, h52, hf⟩ := ob_some hf
      refine aw_dS0 (As := [.ref (a q44), .int ((1 <<< (x1 &&& 31)) - 1)]) (rest := []) (ct_J12_fill l G a q44 ((1 <<< (x1 &&& 31)) - 1) s37 () s52 h52) hC hW hl.1 sy_J12_fill (Or.inl q1097) rfl rfl (Nat.le_of_ble_eq_true rfl) ⟨Nat.le_of_ble_eq_true rfl, Nat.le_of_ble_eq_true rfl⟩ ⟨Nat.le_of_ble_eq_true rfl, Nat.le_of_ble_eq_true rfl⟩ dX1_rests_52 (fun H locs hW => ?_)
      refine lv_iconst (v := 0) hx hb dX1_rests_55 (by decide) ?_
      refine lv_istore_n (lv' := [(3, .int 0), (0, .ref (a o)), (1, .int x1), (2, .int x2)]) hx hb dX1_rests_56 rfl hl (by decide) rfl (fun ls hl => ?_)
      refine lv_iconst (v := 0) hx hb dX1_rests_57 (by decide) ?_
      refine lv_istore (lv' := [(4, .int 0), (3, .int 0), (0, .ref (a o)), (1, .int x1), (2, .int x2)]) hx hb dX1_rests_58 hl (by decide) rfl (fun ls hl => ?_)
      exact B60 fuel o x1 x2 0 0 s52 hf _ _ _ (lv_sub hl [2, 3, 4, 1, 0] rfl) hW
    · have hf := ifp c21 hf
      refine lv_iconst (v := (-1)) hx hb dX1_rests_24 (by decide) ?_
      obtain ⟨e1, e2⟩ := so_inj hf
      exact aw_iret hC hW hr rfl (p_eq hP (congrArg (fun z => some (Value.int z)) e1) e2) (Nat.le_of_ble_eq_true rfl) (Nat.le_of_ble_eq_true rfl) dX1_rests_25
def f_X1_soonest_b37 : Nat → Nat → Int32 → Int32 → ST → Option (Int32 × ST)
  | 0, _, _, _, _ => none
  | n + 1, r0, x1, x2, s =>
  if 99 < x2 then (some ((-2), s)) else gd (r0 < s.1 ∧ (kd s r0).1 = 1) <|
  (gr s r0 2).bind fun q45 =>
  (gr s r0 16).bind fun q49 =>
  ob (f_X1_goes r0 q45 q49 s) fun _ s52 =>
  gd (r0 < s52.1 ∧ (kd s52 r0).1 = 1) <|
  (gr s52 r0 2).bind fun q56 =>
  gd (q56 < s52.1 ∧ (kd s52 q56).1 = 2) <|
  if (gi s52 q56 7) = x1 then (some (x2, s52)) else bnd (x2 + 1 : Int32) fun v68 =>
  f_X1_soonest_b37 n r0 x1 v68 s52
def f_X1_soonest (o : Nat) (x1 : Int32) (s : ST) : Option (Int32 × ST) :=
  gd (o < s.1 ∧ (kd s o).1 = 1) <|
  ob (f_X1_isOne o x1 s) fun v2 s2 =>
  if v2 = 0 then (some ((-1), s2)) else gd (o < s2.1 ∧ (kd s2 o).1 = 1) <|
  (gr s2 o 1).bind fun q11 =>
  gd (q11 < s2.1 ∧ (kd s2 q11).1 = 2) <|
  if (gi s2 q11 7) = x1 then (some ((-3), s2)) else (gr s2 o 2).bind fun q25 =>
  (gr s2 o 1).bind fun q29 =>
  gd (q25 < s2.1 ∧ (kd s2 q25).1 = 2) <|
  ob (f_X2_be q25 q29 s2) fun _ s32 =>
  f_X1_soonest_b37 fuel o x1 1 s32
set_option maxHeartbeats 4000000 in
theorem ct_X1_soonest (l : Launch) (G : GM) (a : Nat → Nat) (o : Nat) (x1 : Int32) (s : ST) (rv : Int32) (sf : ST) (hf : f_X1_soonest o x1 s = some (rv, sf)) : MD l G yX1_soonest (ws_ yX1_soonest cX1_soonest 3 (some .int)) 127 [.ref (a o), .int x1] a s (some (.int rv)) sf := by
  refine md_of (d := 127) (lv := [(0, .ref (a o)), (1, .int x1)]) (Or.inl (by decide)) (Nat.le_of_ble_eq_true rfl) rfl ?_
  intro p e s0 m args below meth c ls A P hP hC hr hnm hW hl
  have hx := hC.1
  have hb := hC.2.1
  have hts := hC.2.2.2.2.1
  have B37 : ∀ (n : Nat), ∀ (r0 : Nat) (x1 : Int32) (x2 : Int32) (s : ST), f_X1_soonest_b37 n r0 x1 x2 s = some (rv, sf) → ∀ (H : Heap) (locs : List Loc) (ls : Array Slot), lv_has ls 3 [(0, .ref (a r0)), (1, .int x1), (2, .int x2)] → AW G a A s s0.heap H locs → WB p l e (rmD 127) s0 m args below meth c H locs G A P 37 ls [] := by
    intro n
    induction n with
    | zero => intro r0 x1 x2 s hf; cases hf
    | succ n ih =>
      intro r0 x1 x2 s hf H locs ls hl hW
      rw [f_X1_soonest_b37] at hf
      refine lv_iload_n hx hb dX1_soonest_37 rfl (lv_at hl 2 rfl) ?_
      refine lv_bipush (v := 99) hx hb dX1_soonest_38 (by decide) ?_
      refine lv_icmp_gt (tgt := 74) hx hb dX1_soonest_40 (by decide) (fun c40 => ?_) (fun c40 => ?_)
      · have hf := ifp c40 hf
        refine lv_bipush (v := (-2)) hx hb dX1_soonest_74 (by decide) ?_
        obtain ⟨e1, e2⟩ := so_inj hf
        exact aw_iret hC hW hr rfl (p_eq hP (congrArg (fun z => some (Value.int z)) e1) e2) (Nat.le_of_ble_eq_true rfl) (Nat.le_of_ble_eq_true rfl) dX1_soonest_76
      · have hf := ifn c40 hf
        refine lv_aload_n hx hb dX1_soonest_43 rfl (lv_at hl 0 rfl) ?_
        refine lv_aload_n hx hb dX1_soonest_44 rfl (lv_at hl 0 rfl) ?_
        obtain ⟨g45, hf⟩ := gd_some hf
        obtain ⟨q45, hq45, hf⟩ := bi_some hf
        refine aw_gR hC hW g45 fl_X1_22 rfl hq45 dX1_soonest_45 ?_
        refine lv_aload_n hx hb dX1_soonest_48 rfl (lv_at hl 0 rfl) ?_
        obtain ⟨q49, hq49, hf⟩ := bi_some hf
        refine aw_gR hC hW g45 fl_X1_54 rfl hq49 dX1_soonest_49 ?_
        obtain ⟨_, s52, h52, hf⟩ := ob_some hf
        refine aw_dV0 (r := r0) (As := [.ref (a q45), .ref (a q49)]) (rest := []) (ct_X1_goes l G a r0 q45 q49 s () s52 h52) hC hW hl.1 vy_X1_goes (Or.inl q922) g45 rfl rfl rfl rfl (Nat.le_of_ble_eq_true rfl) ⟨Nat.le_of_ble_eq_true rfl, Nat.le_of_ble_eq_true rfl⟩ ⟨Nat.le_of_ble_eq_true rfl, Nat.le_of_ble_eq_true rfl⟩ dX1_soonest_52 (fun H locs hW => ?_)
        refine lv_aload_n hx hb dX1_soonest_55 rfl (lv_at hl 0 rfl) ?_
        obtain ⟨g56, hf⟩ := gd_some hf
        obtain ⟨q56, hq56, hf⟩ := bi_some hf
        refine aw_gR hC hW g56 fl_X1_22 rfl hq56 dX1_soonest_56 ?_
        obtain ⟨g59, hf⟩ := gd_some hf
        refine aw_gI hC hW g59 fl_X1_315 rfl dX1_soonest_59 ?_
        refine lv_iload_n hx hb dX1_soonest_62 rfl (lv_at hl 1 rfl) ?_
        refine lv_icmp_ne (tgt := 68) hx hb dX1_soonest_63 (by decide) (fun c63 => ?_) (fun c63 => ?_)
        · have hf := ifn c63 hf
          obtain ⟨v68, ev68, hf⟩ := bnd_some hf
          refine lv_iinc (v := v68) (lv' := [(2, .int v68), (0, .ref (a r0)), (1, .int x1)]) hx hb dX1_soonest_68 hl (k := 2) rfl (by rw [ev68]; rfl) (by decide) rfl (fun ls hl => ?_)
          refine lv_goto (tgt := 37) hx hb dX1_soonest_71 (by decide) ?_
          exact ih r0 x1 v68 s52 hf _ _ _ (lv_sub hl [1, 2, 0] rfl) hW
        · have hf := ifp c63 hf
          refine lv_iload_n hx hb dX1_soonest_66 rfl (lv_at hl 2 rfl) ?_
          obtain ⟨e1, e2⟩ := so_inj hf
          exact aw_iret hC hW hr rfl (p_eq hP (congrArg (fun z => some (Value.int z)) e1) e2) (Nat.le_of_ble_eq_true rfl) (Nat.le_of_ble_eq_true rfl) dX1_soonest_67
  unfold f_X1_soonest at hf
  refine lv_aload_n hx hb dX1_soonest_0 rfl (lv_at hl 0 rfl) ?_
  refine lv_iload_n hx hb dX1_soonest_1 rfl (lv_at hl 1 rfl) ?_
  obtain ⟨g2, hf⟩ := gd_some hf
  obtain ⟨v2, s2, h2, hf⟩ := ob_some hf
  refine aw_dV1 (r := o) (As := [.int x1]) (rest := []) (ct_X1_isOne l G a o x1 s v2 s2 h2) hC hW hl.1 vy_X1_isOne (Or.inl q848) g2 rfl rfl rfl rfl (Nat.le_of_ble_eq_true rfl) ⟨Nat.le_of_ble_eq_true rfl, Nat.le_of_ble_eq_true rfl⟩ ⟨Nat.le_of_ble_eq_true rfl, Nat.le_of_ble_eq_true rfl⟩ dX1_soonest_2 (fun H locs hW => ?_)
  refine lv_if_ne (tgt := 10) hx hb dX1_soonest_5 (by decide) (fun c5 => ?_) (fun c5 => ?_)
  · have hf := ifn c5 hf
    refine lv_aload_n hx hb dX1_soonest_10 rfl (lv_at hl 0 rfl) ?_
    obtain ⟨g11, hf⟩ := gd_some hf
    obtain ⟨q11, hq11, hf⟩ := bi_some hf
    refine aw_gR hC hW g11 fl_X1_18 rfl hq11 dX1_soonest_11 ?_
    obtain ⟨g14, hf⟩ := gd_some hf
    refine aw_gI hC hW g14 fl_X1_315 rfl dX1_soonest_14 ?_
    refine lv_iload_n hx hb dX1_soonest_17 rfl (lv_at hl 1 rfl) ?_
    refine lv_icmp_ne (tgt := 24) hx hb dX1_soonest_18 (by decide) (fun c18 => ?_) (fun c18 => ?_)
    · have hf := ifn c18 hf
      refine lv_aload_n hx hb dX1_soonest_24 rfl (lv_at hl 0 rfl) ?_
      obtain ⟨q25, hq25, hf⟩ := bi_some hf
      refine aw_gR hC hW g11 fl_X1_22 rfl hq25 dX1_soonest_25 ?_
      refine lv_aload_n hx hb dX1_soonest_28 rfl (lv_at hl 0 rfl) ?_
      obtain ⟨q29, hq29, hf⟩ := bi_some hf
      refine aw_gR hC hW g11 fl_X1_18 rfl hq29 dX1_soonest_29 ?_
      obtain ⟨g32, hf⟩ := gd_some hf
      obtain ⟨_, s32, h32, hf⟩ := ob_some hf
      refine aw_dV0 (r := q25) (As := [.ref (a q29)]) (rest := []) (ct_X2_be l G a q25 q29 s2 () s32 h32) hC hW hl.1 vy_X2_be (Or.inl q917) g32 rfl rfl rfl rfl (Nat.le_of_ble_eq_true rfl) ⟨Nat.le_of_ble_eq_true rfl, Nat.le_of_ble_eq_true rfl⟩ ⟨Nat.le_of_ble_eq_true rfl, Nat.le_of_ble_eq_true rfl⟩ dX1_soonest_32 (fun H locs hW => ?_)
      refine lv_iconst (v := 1) hx hb dX1_soonest_35 (by decide) ?_
      refine lv_istore_n (lv' := [(2, .int 1), (0, .ref (a o)), (1, .int x1)]) hx hb dX1_soonest_36 rfl hl (by decide) rfl (fun ls hl => ?_)
      exact B37 fuel o x1 1 s32 hf _ _ _ (lv_sub hl [1, 2, 0] rfl) hW
    · have hf := ifp c18 hf
      refine lv_bipush (v := (-3)) hx hb dX1_soonest_21 (by decide) ?_
      obtain ⟨e1, e2⟩ := so_inj hf
      exact aw_iret hC hW hr rfl (p_eq hP (congrArg (fun z => some (Value.int z)) e1) e2) (Nat.le_of_ble_eq_true rfl) (Nat.le_of_ble_eq_true rfl) dX1_soonest_23
  · have hf := ifp c5 hf
    refine lv_iconst (v := (-1)) hx hb dX1_soonest_8 (by decide) ?_
    obtain ⟨e1, e2⟩ := so_inj hf
    exact aw_iret hC hW hr rfl (p_eq hP (congrArg (fun z => some (Value.int z)) e1) e2) (Nat.le_of_ble_eq_true rfl) (Nat.le_of_ble_eq_true rfl) dX1_soonest_9
def f_X1_stand_b63 (r0 : Nat) (u0 : Int64) (w1 : Nat) (s : ST) : Option (Int32 × ST) :=
  gd (w1 < s.1 ∧ (kd s w1).1 = 1) <|
  ob (f_X1_tell w1 u0 s) fun _ s63 =>
  gd (r0 < s63.1 ∧ (kd s63 r0).1 = 1) <|
  ob (f_X1_tell r0 (((gi s63 r0 22) : Int32).toInt64) s63) fun _ s72 =>
  gd (r0 < s72.1 ∧ (kd s72 r0).1 = 1) <|
  (gr s72 r0 1).bind fun q76 =>
  gd (q76 < s72.1 ∧ (kd s72 q76).1 = 2) <|
  some ((gi s72 q76 7), s72)
def f_X1_stand (o : Nat) (x1 : Int32) (s : ST) : Option (Int32 × ST) :=
  gd (o < s.1 ∧ (kd s o).1 = 1) <|
  bnd (p_in ((x1 : Int32).toInt64) 0 ((((1 <<< ((gi s o 4) &&& 31)) - 1) : Int32).toInt64)) fun v12 =>
  if v12 = 0 then (some ((-2), s)) else ob (f_X1_remember o s) fun _ s22 =>
  gd (o < s22.1 ∧ (kd s22 o).1 = 1) <|
  (gr s22 o 17).bind fun q26 =>
  gd (q26 < s22.1 ∧ (kd s22 q26).1 = 5) <|
  bnd (pI s22 q26 0 x1) fun s30 =>
  (gr s30 o 1).bind fun q35 =>
  (gr s30 o 17).bind fun q39 =>
  ob (f_X1_goes o q35 q39 s30) fun _ s42 =>
  gd (o < s42.1 ∧ (kd s42 o).1 = 1) <|
  bnd (pI s42 o 12 0) fun s47 =>
  if (gi s47 o 21) = 0 then (f_X1_stand_b63 o 0 o s47) else f_X1_stand_b63 o 1 o s47
set_option maxHeartbeats 4000000 in
theorem ct_X1_stand (l : Launch) (G : GM) (a : Nat → Nat) (o : Nat) (x1 : Int32) (s : ST) (rv : Int32) (sf : ST) (hf : f_X1_stand o x1 s = some (rv, sf)) : MD l G yX1_stand (ws_ yX1_stand cX1_stand 2 (some .int)) 127 [.ref (a o), .int x1] a s (some (.int rv)) sf := by
  refine md_of (d := 127) (lv := [(0, .ref (a o)), (1, .int x1)]) (Or.inl (by decide)) (Nat.le_of_ble_eq_true rfl) rfl ?_
  intro p e s0 m args below meth c ls A P hP hC hr hnm hW hl
  have hx := hC.1
  have hb := hC.2.1
  have hts := hC.2.2.2.2.1
  have B63 : ∀ (r0 : Nat) (u0 : Int64) (w1 : Nat) (s : ST), f_X1_stand_b63 r0 u0 w1 s = some (rv, sf) → ∀ (H : Heap) (locs : List Loc) (ls : Array Slot), lv_has ls 2 [(0, .ref (a r0))] → AW G a A s s0.heap H locs → WB p l e (rmD 127) s0 m args below meth c H locs G A P 63 ls [.long u0, .ref (a w1)] := by
    intro r0 u0 w1 s hf H locs ls hl hW
    unfold f_X1_stand_b63 at hf
    obtain ⟨g63, hf⟩ := gd_some hf
    obtain ⟨_, s63, h63, hf⟩ := ob_some hf
    refine aw_dV0 (r := w1) (As := [.long u0]) (rest := []) (ct_X1_tell l G a w1 u0 s () s63 h63) hC hW hl.1 vy_X1_tell (Or.inl q1013) g63 rfl rfl rfl rfl (Nat.le_of_ble_eq_true rfl) ⟨Nat.le_of_ble_eq_true rfl, Nat.le_of_ble_eq_true rfl⟩ ⟨Nat.le_of_ble_eq_true rfl, Nat.le_of_ble_eq_true rfl⟩ dX1_stand_63 (fun H locs hW => ?_)
    refine lv_aload_n hx hb dX1_stand_66 rfl (lv_at hl 0 rfl) ?_
    refine lv_aload_n hx hb dX1_stand_67 rfl (lv_at hl 0 rfl) ?_
    obtain ⟨g68, hf⟩ := gd_some hf
    refine aw_gI hC hW g68 fl_X1_336 rfl dX1_stand_68 ?_
    refine lv_i2l (v := ((gi s63 r0 22) : Int32).toInt64) hx hb dX1_stand_71 rfl ?_
    obtain ⟨_, s72, h72, hf⟩ := ob_some hf
    refine aw_dV0 (r := r0) (As := [.long (((gi s63 r0 22) : Int32).toInt64)]) (rest := []) (ct_X1_tell l G a r0 (((gi s63 r0 22) : Int32).toInt64) s63 () s72 h72) hC hW hl.1 vy_X1_tell (Or.inl q1013) g68 rfl rfl rfl rfl (Nat.le_of_ble_eq_true rfl) ⟨Nat.le_of_ble_eq_true rfl, Nat.le_of_ble_eq_true rfl⟩ ⟨Nat.le_of_ble_eq_true rfl, Nat.le_of_ble_eq_true rfl⟩ dX1_stand_72 (fun H locs hW => ?_)
    refine lv_aload_n hx hb dX1_stand_75 rfl (lv_at hl 0 rfl) ?_
    obtain ⟨g76, hf⟩ := gd_some hf
    obtain ⟨q76, hq76, hf⟩ := bi_some hf
    refine aw_gR hC hW g76 fl_X1_18 rfl hq76 dX1_stand_76 ?_
    obtain ⟨g79, hf⟩ := gd_some hf
    refine aw_gI hC hW g79 fl_X1_315 rfl dX1_stand_79 ?_
    obtain ⟨e1, e2⟩ := so_inj hf
    exact aw_iret hC hW hr rfl (p_eq hP (congrArg (fun z => some (Value.int z)) e1) e2) (Nat.le_of_ble_eq_true rfl) (Nat.le_of_ble_eq_true rfl) dX1_stand_82
  unfold f_X1_stand at hf
  refine lv_iload_n hx hb dX1_stand_0 rfl (lv_at hl 1 rfl) ?_
  refine lv_i2l (v := (x1 : Int32).toInt64) hx hb dX1_stand_1 rfl ?_
  refine lv_lconst (v := 0) hx hb dX1_stand_2 (by decide) ?_
  refine lv_iconst (v := 1) hx hb dX1_stand_3 (by decide) ?_
  refine lv_aload_n hx hb dX1_stand_4 rfl (lv_at hl 0 rfl) ?_
  obtain ⟨g5, hf⟩ := gd_some hf
  refine aw_gI hC hW g5 fl_X1_157 rfl dX1_stand_5 ?_
  refine lv_ishl hx hb dX1_stand_8 ?_
  refine lv_iconst (v := 1) hx hb dX1_stand_9 (by decide) ?_
  refine lv_isub hx hb dX1_stand_10 ?_
  refine lv_i2l (v := (((1 <<< ((gi s o 4) &&& 31)) - 1) : Int32).toInt64) hx hb dX1_stand_11 rfl ?_
  obtain ⟨v12, ev12, hf⟩ := bnd_some hf
  refine aw_dS1 (As := [.long ((x1 : Int32).toInt64), .long 0, .long ((((1 <<< ((gi s o 4) &&& 31)) - 1) : Int32).toInt64)]) (rest := []) (pc_X1_in l G a ((x1 : Int32).toInt64) 0 ((((1 <<< ((gi s o 4) &&& 31)) - 1) : Int32).toInt64) s) hC hW hl.1 sy_X1_in (Or.inl q514) rfl rfl (Nat.le_of_ble_eq_true rfl) ⟨Nat.le_of_ble_eq_true rfl, Nat.le_of_ble_eq_true rfl⟩ ⟨Nat.le_of_ble_eq_true rfl, Nat.le_of_ble_eq_true rfl⟩ dX1_stand_12 (fun H locs hW => ?_)
  refine top_i ev12 ?_
  refine lv_if_ne (tgt := 21) hx hb dX1_stand_15 (by decide) (fun c15 => ?_) (fun c15 => ?_)
  · have hf := ifn c15 hf
    refine lv_aload_n hx hb dX1_stand_21 rfl (lv_at hl 0 rfl) ?_
    obtain ⟨_, s22, h22, hf⟩ := ob_some hf
    refine aw_dV0 (r := o) (As := []) (rest := []) (ct_X1_remember l G a o s () s22 h22) hC hW hl.1 vy_X1_remember (Or.inl q913) g5 rfl rfl rfl rfl (Nat.le_of_ble_eq_true rfl) ⟨Nat.le_of_ble_eq_true rfl, Nat.le_of_ble_eq_true rfl⟩ ⟨Nat.le_of_ble_eq_true rfl, Nat.le_of_ble_eq_true rfl⟩ dX1_stand_22 (fun H locs hW => ?_)
    refine lv_aload_n hx hb dX1_stand_25 rfl (lv_at hl 0 rfl) ?_
    obtain ⟨g26, hf⟩ := gd_some hf
    obtain ⟨q26, hq26, hf⟩ := bi_some hf
    refine aw_gR hC hW g26 fl_X1_61 rfl hq26 dX1_stand_26 ?_
    refine lv_iload_n hx hb dX1_stand_29 rfl (lv_at hl 1 rfl) ?_
    obtain ⟨g30, hf⟩ := gd_some hf
    obtain ⟨s30, e30, hf⟩ := bnd_some hf
    refine aw_pI e30 hC hW g30 fl_X1_360 (Or.inl fn_4_0) rfl rfl rfl dX1_stand_30 (fun H locs hW => ?_)
    have g26 := ko_pI e30 g26
    have g30 := ko_pI e30 g30
    refine lv_aload_n hx hb dX1_stand_33 rfl (lv_at hl 0 rfl) ?_
    refine lv_aload_n hx hb dX1_stand_34 rfl (lv_at hl 0 rfl) ?_
    obtain ⟨q35, hq35, hf⟩ := bi_some hf
    refine aw_gR hC hW g26 fl_X1_18 rfl hq35 dX1_stand_35 ?_
    refine lv_aload_n hx hb dX1_stand_38 rfl (lv_at hl 0 rfl) ?_
    obtain ⟨q39, hq39, hf⟩ := bi_some hf
    refine aw_gR hC hW g26 fl_X1_61 rfl hq39 dX1_stand_39 ?_
    obtain ⟨_, s42, h42, hf⟩ := ob_some hf
    refine aw_dV0 (r := o) (As := [.ref (a q35), .ref (a q39)]) (rest := []) (ct_X1_goes l G a o q35 q39 s30 () s42 h42) hC hW hl.1 vy_X1_goes (Or.inl q922) g26 rfl rfl rfl rfl (Nat.le_of_ble_eq_true rfl) ⟨Nat.le_of_ble_eq_true rfl, Nat.le_of_ble_eq_true rfl⟩ ⟨Nat.le_of_ble_eq_true rfl, Nat.le_of_ble_eq_true rfl⟩ dX1_stand_42 (fun H locs hW => ?_)
    refine lv_aload_n hx hb dX1_stand_45 rfl (lv_at hl 0 rfl) ?_
    refine lv_iconst (v := 0) hx hb dX1_stand_46 (by decide) ?_
    obtain ⟨g47, hf⟩ := gd_some hf
    obtain ⟨s47, e47, hf⟩ := bnd_some hf
    refine aw_pI e47 hC hW g47 fl_X1_154 (Or.inl fn_0_12) rfl rfl rfl dX1_stand_47 (fun H locs hW => ?_)
    have g47 := ko_pI e47 g47
    refine lv_aload_n hx hb dX1_stand_50 rfl (lv_at hl 0 rfl) ?_
    refine lv_aload_n hx hb dX1_stand_51 rfl (lv_at hl 0 rfl) ?_
    refine aw_gI hC hW g47 fl_X1_332 rfl dX1_stand_52 ?_
    refine lv_if_eq (tgt := 62) hx hb dX1_stand_55 (by decide) (fun c55 => ?_) (fun c55 => ?_)
    · have hf := ifp c55 hf
      refine lv_lconst (v := 0) hx hb dX1_stand_62 (by decide) ?_
      exact B63 o 0 o s47 hf _ _ _ (lv_sub hl [0] rfl) hW
    · have hf := ifn c55 hf
      refine lv_lconst (v := 1) hx hb dX1_stand_58 (by decide) ?_
      refine lv_goto (tgt := 63) hx hb dX1_stand_59 (by decide) ?_
      exact B63 o 1 o s47 hf _ _ _ (lv_sub hl [0] rfl) hW
  · have hf := ifp c15 hf
    refine lv_bipush (v := (-2)) hx hb dX1_stand_18 (by decide) ?_
    obtain ⟨e1, e2⟩ := so_inj hf
    exact aw_iret hC hW hr rfl (p_eq hP (congrArg (fun z => some (Value.int z)) e1) e2) (Nat.le_of_ble_eq_true rfl) (Nat.le_of_ble_eq_true rfl) dX1_stand_20
