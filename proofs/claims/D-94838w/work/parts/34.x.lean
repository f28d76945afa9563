set_option maxRecDepth 100000
def f_X17_held_r (F : Nat → Nat → Int32 → ST → Option (Int32 × ST)) (o : Nat) (x1 : Int32) (s : ST) : Option (Int32 × ST) :=
  gd (o < s.1 ∧ (kd s o).1 = 17) <|
  ob (F 1 o x1 s) fun v2 s2 =>
  gd (o < s2.1 ∧ (kd s2 o).1 = 17) <|
  ob (f_X15_passesw o 60 s2) fun v9 s9 =>
  if v9 = 0 then (gd (o < s9.1 ∧ (kd s9 o).1 = 17) <|
  ob (f_X15_passesw o 62 s9) fun v33 s33 =>
  if v33 = 0 then (gd (o < s33.1 ∧ (kd s33 o).1 = 17) <|
  ob (f_X15_passesw o 61 s33) fun v57 s57 =>
  if v57 = 0 then (some (v2, s57)) else gd (o < s57.1 ∧ (kd s57 o).1 = 17) <|
  ob (F 1 o x1 s57) fun v66 s66 =>
  if v2 = v66 then (some (1, s66)) else some (0, s66)) else gd (o < s33.1 ∧ (kd s33 o).1 = 17) <|
  ob (F 1 o x1 s33) fun v42 s42 =>
  if v2 ≤ v42 then (some (0, s42)) else some (1, s42)) else gd (o < s9.1 ∧ (kd s9 o).1 = 17) <|
  ob (F 1 o x1 s9) fun v18 s18 =>
  if v18 ≤ v2 then (some (0, s18)) else some (1, s18)
set_option maxHeartbeats 4000000 in
theorem ct_X17_held_r (l : Launch) (G : GM) (a : Nat → Nat) (d : Nat) (F : Nat → Nat → Int32 → ST → Option (Int32 × ST)) (hF0 : ∀ (o : Nat) (x1 : Int32) (s : ST) (rv : Int32) (sf : ST), F 0 o x1 s = some (rv, sf) → MD l G yX17_held (ws_ yX17_held cX17_held 3 (some .int)) (20 + d) [.ref (a o), .int x1] a s (some (.int rv)) sf) (hF1 : ∀ (o : Nat) (x1 : Int32) (s : ST) (rv : Int32) (sf : ST), F 1 o x1 s = some (rv, sf) → MD l G yX17_sum (ws_ yX17_sum cX17_sum 5 (some .int)) (20 + d) [.ref (a o), .int x1] a s (some (.int rv)) sf) (hF2 : ∀ (o : Nat) (x1 : Int32) (s : ST) (rv : Int32) (sf : ST), F 2 o x1 s = some (rv, sf) → MD l G yX17_product (ws_ yX17_product cX17_product 5 (some .int)) (20 + d) [.ref (a o), .int x1] a s (some (.int rv)) sf) (hF3 : ∀ (o : Nat) (x1 : Int32) (s : ST) (rv : Int32) (sf : ST), F 3 o x1 s = some (rv, sf) → MD l G yX17_thing (ws_ yX17_thing cX17_thing 3 (some .int)) (20 + d) [.ref (a o), .int x1] a s (some (.int rv)) sf) (o : Nat) (x1 : Int32) (s : ST) (rv : Int32) (sf : ST) (hf : f_X17_held_r F o x1 s = some (rv, sf)) : MD l G yX17_held (ws_ yX17_held cX17_held 3 (some .int)) (20 + (d + 1)) [.ref (a o), .int x1] a s (some (.int rv)) sf := by
  refine md_of (d := _) (lv := [(0, .ref (a o)), (1, .int x1)]) (Or.inl (by decide)) (Nat.le_of_ble_eq_true rfl) rfl ?_
  intro p e s0 m args below meth c ls A P hP hC hr hnm hW hl
  have hx := hC.1
  have hb := hC.2.1
  have hts := hC.2.2.2.2.1
  unfold f_X17_held_r at hf
  refine lv_aload_n hx hb dX17_held_0 rfl (lv_at hl 0 rfl) ?_
  refine lv_iload_n hx hb dX17_held_1 rfl (lv_at hl 1 rfl) ?_
  obtain ⟨g2, hf⟩ := gd_some hf
  obtain ⟨v2, s2, h2, hf⟩ := ob_some hf
  refine aw_dV1 (r := o) (As := [.int x1]) (rest := []) (hF1 o x1 s v2 s2 h2) hC hW hl.1 vy_X17_sum (Or.inl q706) g2 rfl rfl rfl rfl (Nat.le_of_ble_eq_true rfl) ⟨(by show (20 + d) + 1 ≤ (20 + (d + 1)); omega), (by show 8 + (5 + 11) + 40 * (20 + d) ≤ 40 * (20 + (d + 1)); omega)⟩ ⟨Nat.le_of_ble_eq_true rfl, Nat.le_of_ble_eq_true rfl⟩ dX17_held_2 (fun H locs hW => ?_)
  refine lv_istore_n (lv' := [(2, .int v2), (0, .ref (a o)), (1, .int x1)]) hx hb dX17_held_5 rfl hl (by decide) rfl (fun ls hl => ?_)
  refine lv_aload_n hx hb dX17_held_6 rfl (lv_at hl 1 rfl) ?_
  refine lv_bipush (v := 60) hx hb dX17_held_7 (by decide) ?_
  obtain ⟨g9, hf⟩ := gd_some hf
  obtain ⟨v9, s9, h9, hf⟩ := ob_some hf
  refine aw_dU1 (r := o) (As := [.int 60]) (rest := []) (ct_X15_passesw l G a o 60 s2 v9 s9 h9) hC hW hl.1 uy_X17_X17_X15_passes q718 g9 rfl rfl rfl (Nat.le_of_ble_eq_true rfl) ⟨(by show 1 + 1 ≤ (20 + (d + 1)); omega), (by show 8 + (2 + 11) + 40 * 1 ≤ 40 * (20 + (d + 1)); omega)⟩ ⟨Nat.le_of_ble_eq_true rfl, Nat.le_of_ble_eq_true rfl⟩ dX17_held_9 (fun H locs hW => ?_)
  refine lv_if_eq (tgt := 30) hx hb dX17_held_12 (by decide) (fun c12 => ?_) (fun c12 => ?_)
  · have hf := ifp c12 hf
    refine lv_aload_n hx hb dX17_held_30 rfl (lv_at hl 1 rfl) ?_
    refine lv_bipush (v := 62) hx hb dX17_held_31 (by decide) ?_
    obtain ⟨g33, hf⟩ := gd_some hf
    obtain ⟨v33, s33, h33, hf⟩ := ob_some hf
    refine aw_dU1 (r := o) (As := [.int 62]) (rest := []) (ct_X15_passesw l G a o 62 s9 v33 s33 h33) hC hW hl.1 uy_X17_X17_X15_passes q718 g33 rfl rfl rfl (Nat.le_of_ble_eq_true rfl) ⟨(by show 1 + 1 ≤ (20 + (d + 1)); omega), (by show 8 + (2 + 11) + 40 * 1 ≤ 40 * (20 + (d + 1)); omega)⟩ ⟨Nat.le_of_ble_eq_true rfl, Nat.le_of_ble_eq_true rfl⟩ dX17_held_33 (fun H locs hW => ?_)
    refine lv_if_eq (tgt := 54) hx hb dX17_held_36 (by decide) (fun c36 => ?_) (fun c36 => ?_)
    · have hf := ifp c36 hf
      refine lv_aload_n hx hb dX17_held_54 rfl (lv_at hl 1 rfl) ?_
      refine lv_bipush (v := 61) hx hb dX17_held_55 (by decide) ?_
      obtain ⟨g57, hf⟩ := gd_some hf
      obtain ⟨v57, s57, h57, hf⟩ := ob_some hf
      refine aw_dU1 (r := o) (As := [.int 61]) (rest := []) (ct_X15_passesw l G a o 61 s33 v57 s57 h57) hC hW hl.1 uy_X17_X17_X15_passes q718 g57 rfl rfl rfl (Nat.le_of_ble_eq_true rfl) ⟨(by show 1 + 1 ≤ (20 + (d + 1)); omega), (by show 8 + (2 + 11) + 40 * 1 ≤ 40 * (20 + (d + 1)); omega)⟩ ⟨Nat.le_of_ble_eq_true rfl, Nat.le_of_ble_eq_true rfl⟩ dX17_held_57 (fun H locs hW => ?_)
      refine lv_if_eq (tgt := 78) hx hb dX17_held_60 (by decide) (fun c60 => ?_) (fun c60 => ?_)
      · have hf := ifp c60 hf
        refine lv_iload_n hx hb dX17_held_78 rfl (lv_at hl 0 rfl) ?_
        obtain ⟨e1, e2⟩ := so_inj hf
        exact aw_iret hC hW hr rfl (p_eq hP (congrArg (fun z => some (Value.int z)) e1) e2) (Nat.le_of_ble_eq_true rfl) (Nat.le_of_ble_eq_true rfl) dX17_held_79
      · have hf := ifn c60 hf
        refine lv_iload_n hx hb dX17_held_63 rfl (lv_at hl 0 rfl) ?_
        refine lv_aload_n hx hb dX17_held_64 rfl (lv_at hl 1 rfl) ?_
        refine lv_iload_n hx hb dX17_held_65 rfl (lv_at hl 2 rfl) ?_
        obtain ⟨g66, hf⟩ := gd_some hf
        obtain ⟨v66, s66, h66, hf⟩ := ob_some hf
        refine aw_dV1 (r := o) (As := [.int x1]) (rest := [.int v2]) (hF1 o x1 s57 v66 s66 h66) hC hW hl.1 vy_X17_sum (Or.inl q706) g66 rfl rfl rfl rfl (Nat.le_of_ble_eq_true rfl) ⟨(by show (20 + d) + 1 ≤ (20 + (d + 1)); omega), (by show 8 + (5 + 11) + 40 * (20 + d) ≤ 40 * (20 + (d + 1)); omega)⟩ ⟨Nat.le_of_ble_eq_true rfl, Nat.le_of_ble_eq_true rfl⟩ dX17_held_66 (fun H locs hW => ?_)
        refine lv_icmp_ne (tgt := 76) hx hb dX17_held_69 (by decide) (fun c69 => ?_) (fun c69 => ?_)
        · have hf := ifn c69 hf
          refine lv_iconst (v := 0) hx hb dX17_held_76 (by decide) ?_
          obtain ⟨e1, e2⟩ := so_inj hf
          exact aw_iret hC hW hr rfl (p_eq hP (congrArg (fun z => some (Value.int z)) e1) e2) (Nat.le_of_ble_eq_true rfl) (Nat.le_of_ble_eq_true rfl) dX17_held_77
        · have hf := ifp c69 hf
          refine lv_iconst (v := 1) hx hb dX17_held_72 (by decide) ?_
          refine lv_goto (tgt := 77) hx hb dX17_held_73 (by decide) ?_
          obtain ⟨e1, e2⟩ := so_inj hf
          exact aw_iret hC hW hr rfl (p_eq hP (congrArg (fun z => some (Value.int z)) e1) e2) (Nat.le_of_ble_eq_true rfl) (Nat.le_of_ble_eq_true rfl) dX17_held_77
    · have hf := ifn c36 hf
      refine lv_iload_n hx hb dX17_held_39 rfl (lv_at hl 0 rfl) ?_
      refine lv_aload_n hx hb dX17_held_40 rfl (lv_at hl 1 rfl) ?_
      refine lv_iload_n hx hb dX17_held_41 rfl (lv_at hl 2 rfl) ?_
      obtain ⟨g42, hf⟩ := gd_some hf
      obtain ⟨v42, s42, h42, hf⟩ := ob_some hf
      refine aw_dV1 (r := o) (As := [.int x1]) (rest := [.int v2]) (hF1 o x1 s33 v42 s42 h42) hC hW hl.1 vy_X17_sum (Or.inl q706) g42 rfl rfl rfl rfl (Nat.le_of_ble_eq_true rfl) ⟨(by show (20 + d) + 1 ≤ (20 + (d + 1)); omega), (by show 8 + (5 + 11) + 40 * (20 + d) ≤ 40 * (20 + (d + 1)); omega)⟩ ⟨Nat.le_of_ble_eq_true rfl, Nat.le_of_ble_eq_true rfl⟩ dX17_held_42 (fun H locs hW => ?_)
      refine lv_icmp_le (tgt := 52) hx hb dX17_held_45 (by decide) (fun c45 => ?_) (fun c45 => ?_)
      · have hf := ifp c45 hf
        refine lv_iconst (v := 0) hx hb dX17_held_52 (by decide) ?_
        obtain ⟨e1, e2⟩ := so_inj hf
        exact aw_iret hC hW hr rfl (p_eq hP (congrArg (fun z => some (Value.int z)) e1) e2) (Nat.le_of_ble_eq_true rfl) (Nat.le_of_ble_eq_true rfl) dX17_held_53
      · have hf := ifn c45 hf
        refine lv_iconst (v := 1) hx hb dX17_held_48 (by decide) ?_
        refine lv_goto (tgt := 53) hx hb dX17_held_49 (by decide) ?_
        obtain ⟨e1, e2⟩ := so_inj hf
        exact aw_iret hC hW hr rfl (p_eq hP (congrArg (fun z => some (Value.int z)) e1) e2) (Nat.le_of_ble_eq_true rfl) (Nat.le_of_ble_eq_true rfl) dX17_held_53
  · have hf := ifn c12 hf
    refine lv_iload_n hx hb dX17_held_15 rfl (lv_at hl 0 rfl) ?_
    refine lv_aload_n hx hb dX17_held_16 rfl (lv_at hl 1 rfl) ?_
    refine lv_iload_n hx hb dX17_held_17 rfl (lv_at hl 2 rfl) ?_
    obtain ⟨g18, hf⟩ := gd_some hf
    obtain ⟨v18, s18, h18, hf⟩ := ob_some hf
    refine aw_dV1 (r := o) (As := [.int x1]) (rest := [.int v2]) (hF1 o x1 s9 v18 s18 h18) hC hW hl.1 vy_X17_sum (Or.inl q706) g18 rfl rfl rfl rfl (Nat.le_of_ble_eq_true rfl) ⟨(by show (20 + d) + 1 ≤ (20 + (d + 1)); omega), (by show 8 + (5 + 11) + 40 * (20 + d) ≤ 40 * (20 + (d + 1)); omega)⟩ ⟨Nat.le_of_ble_eq_true rfl, Nat.le_of_ble_eq_true rfl⟩ dX17_held_18 (fun H locs hW => ?_)
    refine lv_icmp_ge (tgt := 28) hx hb dX17_held_21 (by decide) (fun c21 => ?_) (fun c21 => ?_)
    · have hf := ifp c21 hf
      refine lv_iconst (v := 0) hx hb dX17_held_28 (by decide) ?_
      obtain ⟨e1, e2⟩ := so_inj hf
      exact aw_iret hC hW hr rfl (p_eq hP (congrArg (fun z => some (Value.int z)) e1) e2) (Nat.le_of_ble_eq_true rfl) (Nat.le_of_ble_eq_true rfl) dX17_held_29
    · have hf := ifn c21 hf
      refine lv_iconst (v := 1) hx hb dX17_held_24 (by decide) ?_
      refine lv_goto (tgt := 29) hx hb dX17_held_25 (by decide) ?_
      obtain ⟨e1, e2⟩ := so_inj hf
      exact aw_iret hC hW hr rfl (p_eq hP (congrArg (fun z => some (Value.int z)) e1) e2) (Nat.le_of_ble_eq_true rfl) (Nat.le_of_ble_eq_true rfl) dX17_held_29
def f_X17_sum_b71 (F : Nat → Nat → Int32 → ST → Option (Int32 × ST)) (K6 : Nat → Int32 → Int32 → ST → Option (Int32 × ST)) (r0 : Nat) (x1 : Int32) (t0 : Int32) (s : ST) : Option (Int32 × ST) :=
  K6 r0 x1 t0 s
def f_X17_sum_b38 (F : Nat → Nat → Int32 → ST → Option (Int32 × ST)) (K6 : Nat → Int32 → Int32 → ST → Option (Int32 × ST)) (r0 : Nat) (x1 : Int32) (x2 : Int32) (t0 : Int32) (s : ST) : Option (Int32 × ST) :=
  gd (r0 < s.1 ∧ (kd s r0).1 = 17) <|
  bnd (pI s r0 3 ((gi s r0 3) + 1)) fun s46 =>
  ob (F 2 r0 x1 s46) fun v51 s51 =>
  if t0 = 0 then (f_X17_sum_b71 F K6 r0 x1 (x2 - v51) s51) else f_X17_sum_b71 F K6 r0 x1 (x2 + v51) s51
def f_X17_sum_b24 (F : Nat → Nat → Int32 → ST → Option (Int32 × ST)) (K6 : Nat → Int32 → Int32 → ST → Option (Int32 × ST)) (r0 : Nat) (x1 : Int32) (x2 : Int32) (s : ST) : Option (Int32 × ST) :=
  gd (r0 < s.1 ∧ (kd s r0).1 = 17) <|
  ob (f_X15_herew r0 s) fun v25 s25 =>
  if v25 = 43 then (f_X17_sum_b38 F K6 r0 x1 x2 1 s25) else f_X17_sum_b38 F K6 r0 x1 x2 0 s25
def f_X17_sum_b6 (F : Nat → Nat → Int32 → ST → Option (Int32 × ST))  : Nat → Nat → Int32 → Int32 → ST → Option (Int32 × ST)
  | 0, _, _, _, _ => none
  | n + 1, r0, x1, x2, s =>
  gd (r0 < s.1 ∧ (kd s r0).1 = 17) <|
  ob (f_X15_herew r0 s) fun v7 s7 =>
  if v7 = 43 then (f_X17_sum_b24 F (f_X17_sum_b6 F n) r0 x1 x2 s7) else gd (r0 < s7.1 ∧ (kd s7 r0).1 = 17) <|
  ob (f_X15_herew r0 s7) fun v16 s16 =>
  if v16 = 45 then (f_X17_sum_b24 F (f_X17_sum_b6 F n) r0 x1 x2 s16) else some (x2, s16)
def f_X17_sum_r (F : Nat → Nat → Int32 → ST → Option (Int32 × ST)) (o : Nat) (x1 : Int32) (s : ST) : Option (Int32 × ST) :=
  gd (o < s.1 ∧ (kd s o).1 = 17) <|
  ob (F 2 o x1 s) fun v2 s2 =>
  f_X17_sum_b6 F fuel o x1 v2 s2
set_option maxHeartbeats 4000000 in
theorem ct_X17_sum_r (l : Launch) (G : GM) (a : Nat → Nat) (d : Nat) (F : Nat → Nat → Int32 → ST → Option (Int32 × ST)) (hF0 : ∀ (o : Nat) (x1 : Int32) (s : ST) (rv : Int32) (sf : ST), F 0 o x1 s = some (rv, sf) → MD l G yX17_held (ws_ yX17_held cX17_held 3 (some .int)) (20 + d) [.ref (a o), .int x1] a s (some (.int rv)) sf) (hF1 : ∀ (o : Nat) (x1 : Int32) (s : ST) (rv : Int32) (sf : ST), F 1 o x1 s = some (rv, sf) → MD l G yX17_sum (ws_ yX17_sum cX17_sum 5 (some .int)) (20 + d) [.ref (a o), .int x1] a s (some (.int rv)) sf) (hF2 : ∀ (o : Nat) (x1 : Int32) (s : ST) (rv : Int32) (sf : ST), F 2 o x1 s = some (rv, sf) → MD l G yX17_product (ws_ yX17_product cX17_product 5 (some .int)) (20 + d) [.ref (a o), .int x1] a s (some (.int rv)) sf) (hF3 : ∀ (o : Nat) (x1 : Int32) (s : ST) (rv : Int32) (sf : ST), F 3 o x1 s = some (rv, sf) → MD l G yX17_thing (ws_ yX17_thing cX17_thing 3 (some .int)) (20 + d) [.ref (a o), .int x1] a s (some (.int rv)) sf) (o : Nat) (x1 : Int32) (s : ST) (rv : Int32) (sf : ST) (hf : f_X17_sum_r F o x1 s = some (rv, sf)) : MD l G yX17_sum (ws_ yX17_sum cX17_sum 5 (some .int)) (20 + (d + 1)) [.ref (a o), .int x1] a s (some (.int rv)) sf := by
  refine md_of (d := _) (lv := [(0, .ref (a o)), (1, .int x1)]) (Or.inl (by decide)) (Nat.le_of_ble_eq_true rfl) rfl ?_
  intro p e s0 m args below meth c ls A P hP hC hr hnm hW hl
  have hx := hC.1
  have hb := hC.2.1
  have hts := hC.2.2.2.2.1
  have B71 : ∀ (K6 : Nat → Int32 → Int32 → ST → Option (Int32 × ST)) (hK6 : ∀ (r0 : Nat) (x1 : Int32) (x2 : Int32) (s : ST), K6 r0 x1 x2 s = some (rv, sf) → ∀ (H : Heap) (locs : List Loc) (ls : Array Slot), lv_has ls 5 [(0, .ref (a r0)), (1, .int x1), (2, .int x2)] → AW G a A s s0.heap H locs → WB p l e (rmD (20 + (d + 1))) s0 m args below meth c H locs G A P 6 ls []), ∀ (r0 : Nat) (x1 : Int32) (t0 : Int32) (s : ST), f_X17_sum_b71 F K6 r0 x1 t0 s = some (rv, sf) → ∀ (H : Heap) (locs : List Loc) (ls : Array Slot), lv_has ls 5 [(0, .ref (a r0)), (1, .int x1)] → AW G a A s s0.heap H locs → WB p l e (rmD (20 + (d + 1))) s0 m args below meth c H locs G A P 71 ls [.int t0] := by
    intro K6 hK6 r0 x1 t0 s hf H locs ls hl hW
    unfold f_X17_sum_b71 at hf
    refine lv_istore_n (lv' := [(2, .int t0), (0, .ref (a r0)), (1, .int x1)]) hx hb dX17_sum_71 rfl hl (by decide) rfl (fun ls hl => ?_)
    refine lv_goto (tgt := 6) hx hb dX17_sum_72 (by decide) ?_
    exact hK6 r0 x1 t0 s hf _ _ _ (lv_sub hl [1, 2, 0] rfl) hW
  have B38 : ∀ (K6 : Nat → Int32 → Int32 → ST → Option (Int32 × ST)) (hK6 : ∀ (r0 : Nat) (x1 : Int32) (x2 : Int32) (s : ST), K6 r0 x1 x2 s = some (rv, sf) → ∀ (H : Heap) (locs : List Loc) (ls : Array Slot), lv_has ls 5 [(0, .ref (a r0)), (1, .int x1), (2, .int x2)] → AW G a A s s0.heap H locs → WB p l e (rmD (20 + (d + 1))) s0 m args below meth c H locs G A P 6 ls []), ∀ (r0 : Nat) (x1 : Int32) (x2 : Int32) (t0 : Int32) (s : ST), f_X17_sum_b38 F K6 r0 x1 x2 t0 s = some (rv, sf) → ∀ (H : Heap) (locs : List Loc) (ls : Array Slot), lv_has ls 5 [(0, .ref (a r0)), (1, .int x1), (2, .int x2)] → AW G a A s s0.heap H locs → WB p l e (rmD (20 + (d + 1))) s0 m args below meth c H locs G A P 38 ls [.int t0] := by
    intro K6 hK6 r0 x1 x2 t0 s hf H locs ls hl hW
    unfold f_X17_sum_b38 at hf
    refine lv_istore_n (lv' := [(3, .int t0), (0, .ref (a r0)), (1, .int x1), (2, .int x2)]) hx hb dX17_sum_38 rfl hl (by decide) rfl (fun ls hl => ?_)
    refine lv_aload_n hx hb dX17_sum_39 rfl (lv_at hl 1 rfl) ?_
    refine lv_dup hx hb dX17_sum_40 rfl ?_
    obtain ⟨g41, hf⟩ := gd_some hf
    refine aw_gI hC hW g41 fl_X17_31 rfl dX17_sum_41 ?_
    refine lv_iconst (v := 1) hx hb dX17_sum_44 (by decide) ?_
    refine lv_iadd hx hb dX17_sum_45 ?_
    obtain ⟨s46, e46, hf⟩ := bnd_some hf
    refine aw_pI e46 hC hW g41 fl_X17_31 (Or.inl fn_16_3) rfl rfl rfl dX17_sum_46 (fun H locs hW => ?_)
    have g41 := ko_pI e46 g41
    refine lv_aload_n hx hb dX17_sum_49 rfl (lv_at hl 1 rfl) ?_
    refine lv_iload_n hx hb dX17_sum_50 rfl (lv_at hl 2 rfl) ?_
    obtain ⟨v51, s51, h51, hf⟩ := ob_some hf
    refine aw_dV1 (r := r0) (As := [.int x1]) (rest := []) (hF2 r0 x1 s46 v51 s51 h51) hC hW hl.1 vy_X17_product (Or.inl q710) g41 rfl rfl rfl rfl (Nat.le_of_ble_eq_true rfl) ⟨(by show (20 + d) + 1 ≤ (20 + (d + 1)); omega), (by show 8 + (5 + 11) + 40 * (20 + d) ≤ 40 * (20 + (d + 1)); omega)⟩ ⟨Nat.le_of_ble_eq_true rfl, Nat.le_of_ble_eq_true rfl⟩ dX17_sum_51 (fun H locs hW => ?_)
    refine lv_istore (lv' := [(4, .int v51), (3, .int t0), (0, .ref (a r0)), (1, .int x1), (2, .int x2)]) hx hb dX17_sum_54 hl (by decide) rfl (fun ls hl => ?_)
    refine lv_iload_n hx hb dX17_sum_56 rfl (lv_at hl 1 rfl) ?_
    refine lv_if_eq (tgt := 67) hx hb dX17_sum_57 (by decide) (fun c57 => ?_) (fun c57 => ?_)
    · have hf := ifp c57 hf
      refine lv_iload_n hx hb dX17_sum_67 rfl (lv_at hl 4 rfl) ?_
      refine lv_iload hx hb dX17_sum_68 (lv_at hl 0 rfl) ?_
      refine lv_isub hx hb dX17_sum_70 ?_
      exact B71 K6 hK6 r0 x1 (x2 - v51) s51 hf _ _ _ (lv_sub hl [2, 3] rfl) hW
    · have hf := ifn c57 hf
      refine lv_iload_n hx hb dX17_sum_60 rfl (lv_at hl 4 rfl) ?_
      refine lv_iload hx hb dX17_sum_61 (lv_at hl 0 rfl) ?_
      refine lv_iadd hx hb dX17_sum_63 ?_
      refine lv_goto (tgt := 71) hx hb dX17_sum_64 (by decide) ?_
      exact B71 K6 hK6 r0 x1 (x2 + v51) s51 hf _ _ _ (lv_sub hl [2, 3] rfl) hW
  have B24 : ∀ (K6 : Nat → Int32 → Int32 → ST → Option (Int32 × ST)) (hK6 : ∀ (r0 : Nat) (x1 : Int32) (x2 : Int32) (s : ST), K6 r0 x1 x2 s = some (rv, sf) → ∀ (H : Heap) (locs : List Loc) (ls : Array Slot), lv_has ls 5 [(0, .ref (a r0)), (1, .int x1), (2, .int x2)] → AW G a A s s0.heap H locs → WB p l e (rmD (20 + (d + 1))) s0 m args below meth c H locs G A P 6 ls []), ∀ (r0 : Nat) (x1 : Int32) (x2 : Int32) (s : ST), f_X17_sum_b24 F K6 r0 x1 x2 s = some (rv, sf) → ∀ (H : Heap) (locs : List Loc) (ls : Array Slot), lv_has ls 5 [(0, .ref (a r0)), (1, .int x1), (2, .int x2)] → AW G a A s s0.heap H locs → WB p l e (rmD (20 + (d + 1))) s0 m args below meth c H locs G A P 24 ls [] := by
    intro K6 hK6 r0 x1 x2 s hf H locs ls hl hW
    unfold f_X17_sum_b24 at hf
    refine lv_aload_n hx hb dX17_sum_24 rfl (lv_at hl 0 rfl) ?_
    obtain ⟨g25, hf⟩ := gd_some hf
    obtain ⟨v25, s25, h25, hf⟩ := ob_some hf
    refine aw_dU1 (r := r0) (As := []) (rest := []) (ct_X15_herew l G a r0 s v25 s25 h25) hC hW hl.1 uy_X17_X17_X15_here q722 g25 rfl rfl rfl (Nat.le_of_ble_eq_true rfl) ⟨(by show 0 + 1 ≤ (20 + (d + 1)); omega), (by show 8 + (1 + 11) + 40 * 0 ≤ 40 * (20 + (d + 1)); omega)⟩ ⟨Nat.le_of_ble_eq_true rfl, Nat.le_of_ble_eq_true rfl⟩ dX17_sum_25 (fun H locs hW => ?_)
    refine lv_bipush (v := 43) hx hb dX17_sum_28 (by decide) ?_
    refine lv_icmp_ne (tgt := 37) hx hb dX17_sum_30 (by decide) (fun c30 => ?_) (fun c30 => ?_)
    · have hf := ifn c30 hf
      refine lv_iconst (v := 0) hx hb dX17_sum_37 (by decide) ?_
      exact B38 K6 hK6 r0 x1 x2 0 s25 hf _ _ _ (lv_sub hl [0, 1, 2] rfl) hW
    · have hf := ifp c30 hf
      refine lv_iconst (v := 1) hx hb dX17_sum_33 (by decide) ?_
      refine lv_goto (tgt := 38) hx hb dX17_sum_34 (by decide) ?_
      exact B38 K6 hK6 r0 x1 x2 1 s25 hf _ _ _ (lv_sub hl [0, 1, 2] rfl) hW
  have B6 : ∀ (n : Nat), ∀ (r0 : Nat) (x1 : Int32) (x2 : Int32) (s : ST), f_X17_sum_b6 F n r0 x1 x2 s = some (rv, sf) → ∀ (H : Heap) (locs : List Loc) (ls : Array Slot), lv_has ls 5 [(0, .ref (a r0)), (1, .int x1), (2, .int x2)] → AW G a A s s0.heap H locs → WB p l e (rmD (20 + (d + 1))) s0 m args below meth c H locs G A P 6 ls [] := by
    intro n
    induction n with
    | zero => intro r0 x1 x2 s hf; cases hf
    | succ n ih =>
      intro r0 x1 x2 s hf H locs ls hl hW
      rw [f_X17_sum_b6] at hf
      refine lv_aload_n hx hb dX17_sum_6 rfl (lv_at hl 0 rfl) ?_
      obtain ⟨g7, hf⟩ := gd_some hf
      obtain ⟨v7, s7, h7, hf⟩ := ob_some hf
      refine aw_dU1 (r := r0) (As := []) (rest := []) (ct_X15_herew l G a r0 s v7 s7 h7) hC hW hl.1 uy_X17_X17_X15_here q722 g7 rfl rfl rfl (Nat.le_of_ble_eq_true rfl) ⟨(by show 0 + 1 ≤ (20 + (d + 1)); omega), (by show 8 + (1 + 11) + 40 * 0 ≤ 40 * (20 + (d + 1)); omega)⟩ ⟨Nat.le_of_ble_eq_true rfl, Nat.le_of_ble_eq_true rfl⟩ dX17_sum_7 (fun H locs hW => ?_)
      refine lv_bipush (v := 43) hx hb dX17_sum_10 (by decide) ?_
      refine lv_icmp_eq (tgt := 24) hx hb dX17_sum_12 (by decide) (fun c12 => ?_) (fun c12 => ?_)
      · have hf := ifp c12 hf
        exact B24 (f_X17_sum_b6 F n) ih r0 x1 x2 s7 hf _ _ _ (lv_sub hl [0, 1, 2] rfl) hW
      · have hf := ifn c12 hf
        refine lv_aload_n hx hb dX17_sum_15 rfl (lv_at hl 0 rfl) ?_
        obtain ⟨g16, hf⟩ := gd_some hf
        obtain ⟨v16, s16, h16, hf⟩ := ob_some hf
        refine aw_dU1 (r := r0) (As := []) (rest := []) (ct_X15_herew l G a r0 s7 v16 s16 h16) hC hW hl.1 uy_X17_X17_X15_here q722 g16 rfl rfl rfl (Nat.le_of_ble_eq_true rfl) ⟨(by show 0 + 1 ≤ (20 + (d + 1)); omega), (by show 8 + (1 + 11) + 40 * 0 ≤ 40 * (20 + (d + 1)); omega)⟩ ⟨Nat.le_of_ble_eq_true rfl, Nat.le_of_ble_eq_true rfl⟩ dX17_sum_16 (fun H locs hW => ?_)
        refine lv_bipush (v := 45) hx hb dX17_sum_19 (by decide) ?_
        refine lv_icmp_ne (tgt := 75) hx hb dX17_sum_21 (by decide) (fun c21 => ?_) (fun c21 => ?_)
        · have hf := ifn c21 hf
          refine lv_iload_n hx hb dX17_sum_75 rfl (lv_at hl 2 rfl) ?_
          obtain ⟨e1, e2⟩ := so_inj hf
          exact aw_iret hC hW hr rfl (p_eq hP (congrArg (fun z => some (Value.int z)) e1) e2) (Nat.le_of_ble_eq_true rfl) (Nat.le_of_ble_eq_true rfl) dX17_sum_76
        · have hf := ifp c21 hf
          exact B24 (f_X17_sum_b6 F n) ih r0 x1 x2 s16 hf _ _ _ (lv_sub hl [0, 1, 2] rfl) hW
  unfold f_X17_sum_r at hf
  refine lv_aload_n hx hb dX17_sum_0 rfl (lv_at hl 0 rfl) ?_
  refine lv_iload_n hx hb dX17_sum_1 rfl (lv_at hl 1 rfl) ?_
  obtain ⟨g2, hf⟩ := gd_some hf
  obtain ⟨v2, s2, h2, hf⟩ := ob_some hf
  refine aw_dV1 (r := o) (As := [.int x1]) (rest := []) (hF2 o x1 s v2 s2 h2) hC hW hl.1 vy_X17_product (Or.inl q710) g2 rfl rfl rfl rfl (Nat.le_of_ble_eq_true rfl) ⟨(by show (20 + d) + 1 ≤ (20 + (d + 1)); omega), (by show 8 + (5 + 11) + 40 * (20 + d) ≤ 40 * (20 + (d + 1)); omega)⟩ ⟨Nat.le_of_ble_eq_true rfl, Nat.le_of_ble_eq_true rfl⟩ dX17_sum_2 (fun H locs hW => ?_)
  refine lv_istore_n (lv' := [(2, .int v2), (0, .ref (a o)), (1, .int x1)]) hx hb dX17_sum_5 rfl hl (by decide) rfl (fun ls hl => ?_)
  exact B6 fuel o x1 v2 s2 hf _ _ _ (lv_sub hl [1, 2, 0] rfl) hW
def f_X17_product_b80 (F : Nat → Nat → Int32 → ST → Option (Int32 × ST)) (K6 : Nat → Int32 → Int32 → ST → Option (Int32 × ST)) (r0 : Nat) (x1 : Int32) (t0 : Int32) (s : ST) : Option (Int32 × ST) :=
  K6 r0 x1 t0 s
def f_X17_product_b38 (F : Nat → Nat → Int32 → ST → Option (Int32 × ST)) (K6 : Nat → Int32 → Int32 → ST → Option (Int32 × ST)) (r0 : Nat) (x1 : Int32) (x2 : Int32) (t0 : Int32) (s : ST) : Option (Int32 × ST) :=
  gd (r0 < s.1 ∧ (kd s r0).1 = 17) <|
  bnd (pI s r0 3 ((gi s r0 3) + 1)) fun s46 =>
  ob (F 3 r0 x1 s46) fun v51 s51 =>
  if t0 = 0 then (if v51 = 0 then (f_X17_product_b80 F K6 r0 x1 0 s51) else gd (¬ v51 = 0) <|
  f_X17_product_b80 F K6 r0 x1 (x2 / v51) s51) else f_X17_product_b80 F K6 r0 x1 (x2 * v51) s51
def f_X17_product_b24 (F : Nat → Nat → Int32 → ST → Option (Int32 × ST)) (K6 : Nat → Int32 → Int32 → ST → Option (Int32 × ST)) (r0 : Nat) (x1 : Int32) (x2 : Int32) (s : ST) : Option (Int32 × ST) :=
  gd (r0 < s.1 ∧ (kd s r0).1 = 17) <|
  ob (f_X15_herew r0 s) fun v25 s25 =>
  if v25 = 42 then (f_X17_product_b38 F K6 r0 x1 x2 1 s25) else f_X17_product_b38 F K6 r0 x1 x2 0 s25
def f_X17_product_b6 (F : Nat → Nat → Int32 → ST → Option (Int32 × ST))  : Nat → Nat → Int32 → Int32 → ST → Option (Int32 × ST)
  | 0, _, _, _, _ => none
  | n + 1, r0, x1, x2, s =>
  gd (r0 < s.1 ∧ (kd s r0).1 = 17) <|
  ob (f_X15_herew r0 s) fun v7 s7 =>
  if v7 = 42 then (f_X17_product_b24 F (f_X17_product_b6 F n) r0 x1 x2 s7) else gd (r0 < s7.1 ∧ (kd s7 r0).1 = 17) <|
  ob (f_X15_herew r0 s7) fun v16 s16 =>
  if v16 = 47 then (f_X17_product_b24 F (f_X17_product_b6 F n) r0 x1 x2 s16) else some (x2, s16)
def f_X17_product_r (F : Nat → Nat → Int32 → ST → Option (Int32 × ST)) (o : Nat) (x1 : Int32) (s : ST) : Option (Int32 × ST) :=
  gd (o < s.1 ∧ (kd s o).1 = 17) <|
  ob (F 3 o x1 s) fun v2 s2 =>
  f_X17_product_b6 F fuel o x1 v2 s2
set_option maxHeartbeats 4000000 in
theorem ct_X17_product_r (l : Launch) (G : GM) (a : Nat → Nat) (d : Nat) (F : Nat → Nat → Int32 → ST → Option (Int32 × ST)) (hF0 : ∀ (o : Nat) (x1 : Int32) (s : ST) (rv : Int32) (sf : ST), F 0 o x1 s = some (rv, sf) → MD l G yX17_held (ws_ yX17_held cX17_held 3 (some .int)) (20 + d) [.ref (a o), .int x1] a s (some (.int rv)) sf) (hF1 : ∀ (o : Nat) (x1 : Int32) (s : ST) (rv : Int32) (sf : ST), F 1 o x1 s = some (rv, sf) → MD l G yX17_sum (ws_ yX17_sum cX17_sum 5 (some .int)) (20 + d) [.ref (a o), .int x1] a s (some (.int rv)) sf) (hF2 : ∀ (o : Nat) (x1 : Int32) (s : ST) (rv : Int32) (sf : ST), F 2 o x1 s = some (rv, sf) → MD l G yX17_product (ws_ yX17_product cX17_product 5 (some .int)) (20 + d) [.ref (a o), .int x1] a s (some (.int rv)) sf) (hF3 : ∀ (o : Nat) (x1 : Int32) (s : ST) (rv : Int32) (sf : ST), F 3 o x1 s = some (rv, sf) → MD l G yX17_thing (ws_ yX17_thing cX17_thing 3 (some .int)) (20 + d) [.ref (a o), .int x1] a s (some (.int rv)) sf) (o : Nat) (x1 : Int32) (s : ST) (rv : Int32) (sf : ST) (hf : f_X17_product_r F o x1 s = some (rv, sf)) : MD l G yX17_product (ws_ yX17_product cX17_product 5 (some .int)) (20 + (d + 1)) [.ref (a o), .int x1] a s (some (.int rv)) sf := by
  refine md_of (d := _) (lv := [(0, .ref (a o)), (1, .int x1)]) (Or.inl (by decide)) (Nat.le_of_ble_eq_true rfl) rfl ?_
  intro p e s0 m args below meth c ls A P hP hC hr hnm hW hl
  have hx := hC.1
  have hb := hC.2.1
  have hts := hC.2.2.2.2.1
  have B80 : ∀ (K6 : Nat → Int32 → Int32 → ST → Option (Int32 × ST)) (hK6 : ∀ (r0 : Nat) (x1 : Int32) (x2 : Int32) (s : ST), K6 r0 x1 x2 s = some (rv, sf) → ∀ (H : Heap) (locs : List Loc) (ls : Array Slot), lv_has ls 5 [(0, .ref (a r0)), (1, .int x1), (2, .int x2)] → AW G a A s s0.heap H locs → WB p l e (rmD (20 + (d + 1))) s0 m args below meth c H locs G A P 6 ls []), ∀ (r0 : Nat) (x1 : Int32) (t0 : Int32) (s : ST), f_X17_product_b80 F K6 r0 x1 t0 s = some (rv, sf) → ∀ (H : Heap) (locs : List Loc) (ls : Array Slot), lv_has ls 5 [(0, .ref (a r0)), (1, .int x1)] → AW G a A s s0.heap H locs → WB p l e (rmD (20 + (d + 1))) s0 m args below meth c H locs G A P 80 ls [.int t0] := by
    intro K6 hK6 r0 x1 t0 s hf H locs ls hl hW
    unfold f_X17_product_b80 at hf
    refine lv_istore_n (lv' := [(2, .int t0), (0, .ref (a r0)), (1, .int x1)]) hx hb dX17_product_80 rfl hl (by decide) rfl (fun ls hl => ?_)
    refine lv_goto (tgt := 6) hx hb dX17_product_81 (by decide) ?_
    exact hK6 r0 x1 t0 s hf _ _ _ (lv_sub hl [1, 2, 0] rfl) hW
  have B38 : ∀ (K6 : Nat → Int32 → Int32 → ST → Option (Int32 × ST)) (hK6 : ∀ (r0 : Nat) (x1 : Int32) (x2 : Int32) (s : ST), K6 r0 x1 x2 s = some (rv, sf) → ∀ (H : Heap) (locs : List Loc) (ls : Array Slot), lv_has ls 5 [(0, .ref (a r0)), (1, .int x1), (2, .int x2)] → AW G a A s s0.heap H locs → WB p l e (rmD (20 + (d + 1))) s0 m args below meth c H locs G A P 6 ls []), ∀ (r0 : Nat) (x1 : Int32) (x2 : Int32) (t0 : Int32) (s : ST), f_X17_product_b38 F K6 r0 x1 x2 t0 s = some (rv, sf) → ∀ (H : Heap) (locs : List Loc) (ls : Array Slot), lv_has ls 5 [(0, .ref (a r0)), (1, .int x1), (2, .int x2)] → AW G a A s s0.heap H locs → WB p l e (rmD (20 + (d + 1))) s0 m args below meth c H locs G A P 38 ls [.int t0] := by
    intro K6 hK6 r0 x1 x2 t0 s hf H locs ls hl hW
    unfold f_X17_product_b38 at hf
    refine lv_istore_n (lv' := [(3, .int t0), (0, .ref (a r0)), (1, .int x1), (2, .int x2)]) hx hb dX17_product_38 rfl hl (by decide) rfl (fun ls hl => ?_)
    refine lv_aload_n hx hb dX17_product_39 rfl (lv_at hl 1 rfl) ?_
    refine lv_dup hx hb dX17_product_40 rfl ?_
    obtain ⟨g41, hf⟩ := gd_some hf
    refine aw_gI hC hW g41 fl_X17_31 rfl dX17_product_41 ?_
    refine lv_iconst (v := 1) hx hb dX17_product_44 (by decide) ?_
    refine lv_iadd hx hb dX17_product_45 ?_
    obtain ⟨s46, e46, hf⟩ := bnd_some hf
    refine aw_pI e46 hC hW g41 fl_X17_31 (Or.inl fn_16_3) rfl rfl rfl dX17_product_46 (fun H locs hW => ?_)
    have g41 := ko_pI e46 g41
    refine lv_aload_n hx hb dX17_product_49 rfl (lv_at hl 1 rfl) ?_
    refine lv_iload_n hx hb dX17_product_50 rfl (lv_at hl 2 rfl) ?_
    obtain ⟨v51, s51, h51, hf⟩ := ob_some hf
    refine aw_dV1 (r := r0) (As := [.int x1]) (rest := []) (hF3 r0 x1 s46 v51 s51 h51) hC hW hl.1 vy_X17_thing (Or.inl q714) g41 rfl rfl rfl rfl (Nat.le_of_ble_eq_true rfl) ⟨(by show (20 + d) + 1 ≤ (20 + (d + 1)); omega), (by show 8 + (3 + 11) + 40 * (20 + d) ≤ 40 * (20 + (d + 1)); omega)⟩ ⟨Nat.le_of_ble_eq_true rfl, Nat.le_of_ble_eq_true rfl⟩ dX17_product_51 (fun H locs hW => ?_)
    refine lv_istore (lv' := [(4, .int v51), (3, .int t0), (0, .ref (a r0)), (1, .int x1), (2, .int x2)]) hx hb dX17_product_54 hl (by decide) rfl (fun ls hl => ?_)
    refine lv_iload_n hx hb dX17_product_56 rfl (lv_at hl 1 rfl) ?_
    refine lv_if_eq (tgt := 67) hx hb dX17_product_57 (by decide) (fun c57 => ?_) (fun c57 => ?_)
    · have hf := ifp c57 hf
      refine lv_iload hx hb dX17_product_67 (lv_at hl 0 rfl) ?_
      refine lv_if_ne (tgt := 76) hx hb dX17_product_69 (by decide) (fun c69 => ?_) (fun c69 => ?_)
      · have hf := ifn c69 hf
        refine lv_iload_n hx hb dX17_product_76 rfl (lv_at hl 4 rfl) ?_
        refine lv_iload hx hb dX17_product_77 (lv_at hl 0 rfl) ?_
        obtain ⟨g79, hf⟩ := gd_some hf
        refine lv_idiv hx hb dX17_product_79 g79 ?_
        exact B80 K6 hK6 r0 x1 (x2 / v51) s51 hf _ _ _ (lv_sub hl [2, 3] rfl) hW
      · have hf := ifp c69 hf
        refine lv_iconst (v := 0) hx hb dX17_product_72 (by decide) ?_
        refine lv_goto (tgt := 80) hx hb dX17_product_73 (by decide) ?_
        exact B80 K6 hK6 r0 x1 0 s51 hf _ _ _ (lv_sub hl [2, 3] rfl) hW
    · have hf := ifn c57 hf
      refine lv_iload_n hx hb dX17_product_60 rfl (lv_at hl 4 rfl) ?_
      refine lv_iload hx hb dX17_product_61 (lv_at hl 0 rfl) ?_
      refine lv_imul hx hb dX17_product_63 ?_
      refine lv_goto (tgt := 80) hx hb dX17_product_64 (by decide) ?_
      exact B80 K6 hK6 r0 x1 (x2 * v51) s51 hf _ _ _ (lv_sub hl [2, 3] rfl) hW
  have B24 : ∀ (K6 : Nat → Int32 → Int32 → ST → Option (Int32 × ST)) (hK6 : ∀ (r0 : Nat) (x1 : Int32) (x2 : Int32) (s : ST), K6 r0 x1 x2 s = some (rv, sf) → ∀ (H : Heap) (locs : List Loc) (ls : Array Slot), lv_has ls 5 [(0, .ref (a r0)), (1, .int x1), (2, .int x2)] → AW G a A s s0.heap H locs → WB p l e (rmD (20 + (d + 1))) s0 m args below meth c H locs G A P 6 ls []), ∀ (r0 : Nat) (x1 : Int32) (x2 : Int32) (s : ST), f_X17_product_b24 F K6 r0 x1 x2 s = some (rv, sf) → ∀ (H : Heap) (locs : List Loc) (ls : Array Slot), lv_has ls 5 [(0, .ref (a r0)), (1, .int x1), (2, .int x2)] → AW G a A s s0.heap H locs → WB p l e (rmD (20 + (d + 1))) s0 m args below meth c H locs G A P 24 ls [] := by
    intro K6 hK6 r0 x1 x2 s hf H locs ls hl hW
    unfold f_X17_product_b24 at hf
    refine lv_aload_n hx hb dX17_product_24 rfl (lv_at hl 0 rfl) ?_
    obtain ⟨g25, hf⟩ := gd_some hf
    obtain ⟨v25, s25, h25, hf⟩ := ob_some hf
    refine aw_dU1 (r := r0) (As := []) (rest := []) (ct_X15_herew l G a r0 s v25 s25 h25) hC hW hl.1 uy_X17_X17_X15_here q722 g25 rfl rfl rfl (Nat.le_of_ble_eq_true rfl) ⟨(by show 0 + 1 ≤ (20 + (d + 1)); omega), (by show 8 + (1 + 11) + 40 * 0 ≤ 40 * (20 + (d + 1)); omega)⟩ ⟨Nat.le_of_ble_eq_true rfl, Nat.le_of_ble_eq_true rfl⟩ dX17_product_25 (fun H locs hW => ?_)
    refine lv_bipush (v := 42) hx hb dX17_product_28 (by decide) ?_
    refine lv_icmp_ne (tgt := 37) hx hb dX17_product_30 (by decide) (fun c30 => ?_) (fun c30 => ?_)
    · have hf := ifn c30 hf
      refine lv_iconst (v := 0) hx hb dX17_product_37 (by decide) ?_
      exact B38 K6 hK6 r0 x1 x2 0 s25 hf _ _ _ (lv_sub hl [0, 1, 2] rfl) hW
    · have hf := ifp c30 hf
      refine lv_iconst (v := 1) hx hb dX17_product_33 (by decide) ?_
      refine lv_goto (tgt := 38) hx hb dX17_product_34 (by decide) ?_
      exact B38 K6 hK6 r0 x1 x2 1 s25 hf _ _ _ (lv_sub hl [0, 1, 2] rfl) hW
  have B6 : ∀ (n : Nat), ∀ (r0 : Nat) (x1 : Int32) (x2 : Int32) (s : ST), f_X17_product_b6 F n r0 x1 x2 s = some (rv, sf) → ∀ (H : Heap) (locs : List Loc) (ls : Array Slot), lv_has ls 5 [(0, .ref (a r0)), (1, .int x1), (2, .int x2)] → AW G a A s s0.heap H locs → WB p l e (rmD (20 + (d + 1))) s0 m args below meth c H locs G A P 6 ls [] := by
    intro n
    induction n with
    | zero => intro r0 x1 x2 s hf; cases hf
    | succ n ih =>
      intro r0 x1 x2 s hf H locs ls hl hW
      rw [f_X17_product_b6] at hf
      refine lv_aload_n hx hb dX17_product_6 rfl (lv_at hl 0 rfl) ?_
      obtain ⟨g7, hf⟩ := gd_some hf
      obtain ⟨v7, s7, h7, hf⟩ := ob_some hf
      refine aw_dU1 (r := r0) (As := []) (rest := []) (ct_X15_herew l G a r0 s v7 s7 h7) hC hW hl.1 uy_X17_X17_X15_here q722 g7 rfl rfl rfl (Nat.le_of_ble_eq_true rfl) ⟨(by show 0 + 1 ≤ (20 + (d + 1)); omega), (by show 8 + (1 + 11) + 40 * 0 ≤ 40 * (20 + (d + 1)); omega)⟩ ⟨Nat.le_of_ble_eq_true rfl, Nat.le_of_ble_eq_true rfl⟩ dX17_product_7 (fun H locs hW => ?_)
      refine lv_bipush (v := 42) hx hb dX17_product_10 (by decide) ?_
      refine lv_icmp_eq (tgt := 24) hx hb dX17_product_12 (by decide) (fun c12 => ?_) (fun c12 => ?_)
      · have hf := ifp c12 hf
        exact B24 (f_X17_product_b6 F n) ih r0 x1 x2 s7 hf _ _ _ (lv_sub hl [0, 1, 2] rfl) hW
      · have hf := ifn c12 hf
        refine lv_aload_n hx hb dX17_product_15 rfl (lv_at hl 0 rfl) ?_
        obtain ⟨g16, hf⟩ := gd_some hf
        obtain ⟨v16, s16, h16, hf⟩ := ob_some hf
        refine aw_dU1 (r := r0) (As := []) (rest := []) (ct_X15_herew l G a r0 s7 v16 s16 h16) hC hW hl.1 uy_X17_X17_X15_here q722 g16 rfl rfl rfl (Nat.le_of_ble_eq_true rfl) ⟨(by show 0 + 1 ≤ (20 + (d + 1)); omega), (by show 8 + (1 + 11) + 40 * 0 ≤ 40 * (20 + (d + 1)); omega)⟩ ⟨Nat.le_of_ble_eq_true rfl, Nat.le_of_ble_eq_true rfl⟩ dX17_product_16 (fun H locs hW => ?_)
        refine lv_bipush (v := 47) hx hb dX17_product_19 (by decide) ?_
        refine lv_icmp_ne (tgt := 84) hx hb dX17_product_21 (by decide) (fun c21 => ?_) (fun c21 => ?_)
        · have hf := ifn c21 hf
          refine lv_iload_n hx hb dX17_product_84 rfl (lv_at hl 2 rfl) ?_
          obtain ⟨e1, e2⟩ := so_inj hf
          exact aw_iret hC hW hr rfl (p_eq hP (congrArg (fun z => some (Value.int z)) e1) e2) (Nat.le_of_ble_eq_true rfl) (Nat.le_of_ble_eq_true rfl) dX17_product_85
        · have hf := ifp c21 hf
          exact B24 (f_X17_product_b6 F n) ih r0 x1 x2 s16 hf _ _ _ (lv_sub hl [0, 1, 2] rfl) hW
  unfold f_X17_product_r at hf
  refine lv_aload_n hx hb dX17_product_0 rfl (lv_at hl 0 rfl) ?_
  refine lv_iload_n hx hb dX17_product_1 rfl (lv_at hl 1 rfl) ?_
  obtain ⟨g2, hf⟩ := gd_some hf
  obtain ⟨v2, s2, h2, hf⟩ := ob_some hf
  refine aw_dV1 (r := o) (As := [.int x1]) (rest := []) (hF3 o x1 s v2 s2 h2) hC hW hl.1 vy_X17_thing (Or.inl q714) g2 rfl rfl rfl rfl (Nat.le_of_ble_eq_true rfl) ⟨(by show (20 + d) + 1 ≤ (20 + (d + 1)); omega), (by show 8 + (3 + 11) + 40 * (20 + d) ≤ 40 * (20 + (d + 1)); omega)⟩ ⟨Nat.le_of_ble_eq_true rfl, Nat.le_of_ble_eq_true rfl⟩ dX17_product_2 (fun H locs hW => ?_)
  refine lv_istore_n (lv' := [(2, .int v2), (0, .ref (a o)), (1, .int x1)]) hx hb dX17_product_5 rfl hl (by decide) rfl (fun ls hl => ?_)
  exact B6 fuel o x1 v2 s2 hf _ _ _ (lv_sub hl [1, 2, 0] rfl) hW
def f_X17_thing_b121 (F : Nat → Nat → Int32 → ST → Option (Int32 × ST))  (r0 : Nat) (x2 : Int32) (t0 : Int32) (w1 : Nat) (s : ST) : Option (Int32 × ST) :=
  gd (w1 < s.1 ∧ (kd s w1).1 = 17) <|
  ob (f_X15_needw w1 t0 s) fun _ s121 =>
  gd (r0 < s121.1 ∧ (kd s121 r0).1 = 17) <|
  bnd (pI s121 r0 3 ((gi s121 r0 3) + 1)) fun s131 =>
  obn (gr s131 r0 4) (some (0, s131)) fun q135 => ob (f_X17_letter r0 x2 s131) fun v147 s147 =>
  some (v147, s147)
def f_X17_thing_b120 (F : Nat → Nat → Int32 → ST → Option (Int32 × ST))  (r0 : Nat) (x2 : Int32) (w0 : Nat) (s : ST) : Option (Int32 × ST) :=
  f_X17_thing_b121 F r0 x2 0 w0 s
def f_X17_thing_b36 (F : Nat → Nat → Int32 → ST → Option (Int32 × ST))  (r0 : Nat) (x1 : Int32) (t0 : Int32) (w1 : Nat) (s : ST) : Option (Int32 × ST) :=
  gd (w1 < s.1 ∧ (kd s w1).1 = 17) <|
  ob (f_X15_needw w1 t0 s) fun _ s36 =>
  gd (r0 < s36.1 ∧ (kd s36 r0).1 = 17) <|
  bnd (pI s36 r0 3 ((gi s36 r0 3) + 1)) fun s46 =>
  ob (F 0 r0 (x1 + 1) s46) fun v53 s53 =>
  gd (r0 < s53.1 ∧ (kd s53 r0).1 = 17) <|
  ob (f_X15_passesw r0 41 s53) fun v61 s61 =>
  gd (r0 < s61.1 ∧ (kd s61 r0).1 = 17) <|
  ob (f_X15_needw r0 v61 s61) fun _ s64 =>
  some (v53, s64)
def f_X17_thing_r (F : Nat → Nat → Int32 → ST → Option (Int32 × ST)) (o : Nat) (x1 : Int32) (s : ST) : Option (Int32 × ST) :=
  gd (o < s.1 ∧ (kd s o).1 = 17) <|
  ob (f_X15_passesw o 45 s) fun v3 s3 =>
  if v3 = 0 then (gd (o < s3.1 ∧ (kd s3 o).1 = 17) <|
  ob (f_X15_herew o s3) fun v17 s17 =>
  if v17 = 40 then (if 4 ≤ x1 then (f_X17_thing_b36 F o x1 0 o s17) else f_X17_thing_b36 F o x1 1 o s17) else gd (o < s17.1 ∧ (kd s17 o).1 = 17) <|
  ob (f_X15_herew o s17) fun v70 s70 =>
  bnd (p_in ((v70 : Int32).toInt64) 48 57) fun v80 =>
  if v80 = 0 then (gd (o < s70.1 ∧ (kd s70 o).1 = 17) <|
  ob (f_X15_herew o s70) fun v97 s97 =>
  if v97 = (-1) then (f_X17_thing_b120 F o v97 o s97) else ob (f_J3_indexOf 5 v97 s97) fun v110 s110 =>
  if v110 < 0 then (f_X17_thing_b120 F o v97 o s110) else f_X17_thing_b121 F o v97 1 o s110) else gd (o < s70.1 ∧ (kd s70 o).1 = 17) <|
  ob (f_X15_numberw o 3 0 999 s70) fun v92 s92 =>
  some (v92, s92)) else gd (o < s3.1 ∧ (kd s3 o).1 = 17) <|
  ob (F 3 o x1 s3) fun v11 s11 =>
  some ((-v11), s11)
set_option maxHeartbeats 4000000 in
theorem ct_X17_thing_r (l : Launch) (G : GM) (a : Nat → Nat) (d : Nat) (F : Nat → Nat → Int32 → ST → Option (Int32 × ST)) (hF0 : ∀ (o : Nat) (x1 : Int32) (s : ST) (rv : Int32) (sf : ST), F 0 o x1 s = some (rv, sf) → MD l G yX17_held (ws_ yX17_held cX17_held 3 (some .int)) (20 + d) [.ref (a o), .int x1] a s (some (.int rv)) sf) (hF1 : ∀ (o : Nat) (x1 : Int32) (s : ST) (rv : Int32) (sf : ST), F 1 o x1 s = some (rv, sf) → MD l G yX17_sum (ws_ yX17_sum cX17_sum 5 (some .int)) (20 + d) [.ref (a o), .int x1] a s (some (.int rv)) sf) (hF2 : ∀ (o : Nat) (x1 : Int32) (s : ST) (rv : Int32) (sf : ST), F 2 o x1 s = some (rv, sf) → MD l G yX17_product (ws_ yX17_product cX17_product 5 (some .int)) (20 + d) [.ref (a o), .int x1] a s (some (.int rv)) sf) (hF3 : ∀ (o : Nat) (x1 : Int32) (s : ST) (rv : Int32) (sf : ST), F 3 o x1 s = some (rv, sf) → MD l G yX17_thing (ws_ yX17_thing cX17_thing 3 (some .int)) (20 + d) [.ref (a o), .int x1] a s (some (.int rv)) sf) (o : Nat) (x1 : Int32) (s : ST) (rv : Int32) (sf : ST) (hf : f_X17_thing_r F o x1 s = some (rv, sf)) : MD l G yX17_thing (ws_ yX17_thing cX17_thing 3 (some .int)) (20 + (d + 1)) [.ref (a o), .int x1] a s (some (.int rv)) sf := by
  refine md_of (d := _) (lv := [(0, .ref (a o)), (1, .int x1)]) (Or.inl (by decide)) (Nat.le_of_ble_eq_true rfl) rfl ?_
  intro p e s0 m args below meth c ls A P hP hC hr hnm hW hl
  have hx := hC.1
  have hb := hC.2.1
  have hts := hC.2.2.2.2.1
  have B121 : ∀ (r0 : Nat) (x2 : Int32) (t0 : Int32) (w1 : Nat) (s : ST), f_X17_thing_b121 F r0 x2 t0 w1 s = some (rv, sf) → ∀ (H : Heap) (locs : List Loc) (ls : Array Slot), lv_has ls 3 [(0, .ref (a r0)), (2, .int x2)] → AW G a A s s0.heap H locs → WB p l e (rmD (20 + (d + 1))) s0 m args below meth c H locs G A P 121 ls [.int t0, .ref (a w1)] := by
    intro r0 x2 t0 w1 s hf H locs ls hl hW
    unfold f_X17_thing_b121 at hf
    obtain ⟨g121, hf⟩ := gd_some hf
    obtain ⟨_, s121, h121, hf⟩ := ob_some hf
    refine aw_dU0 (r := w1) (As := [.int t0]) (rest := []) (ct_X15_needw l G a w1 t0 s () s121 h121) hC hW hl.1 uy_X17_X17_X15_need q726 g121 rfl rfl rfl (Nat.le_of_ble_eq_true rfl) ⟨(by show 0 + 1 ≤ (20 + (d + 1)); omega), (by show 8 + (2 + 11) + 40 * 0 ≤ 40 * (20 + (d + 1)); omega)⟩ ⟨Nat.le_of_ble_eq_true rfl, Nat.le_of_ble_eq_true rfl⟩ dX17_thing_121 (fun H locs hW => ?_)
    refine lv_aload_n hx hb dX17_thing_124 rfl (lv_at hl 0 rfl) ?_
    refine lv_dup hx hb dX17_thing_125 rfl ?_
    obtain ⟨g126, hf⟩ := gd_some hf
    refine aw_gI hC hW g126 fl_X17_31 rfl dX17_thing_126 ?_
    refine lv_iconst (v := 1) hx hb dX17_thing_129 (by decide) ?_
    refine lv_iadd hx hb dX17_thing_130 ?_
    obtain ⟨s131, e131, hf⟩ := bnd_some hf
    refine aw_pI e131 hC hW g126 fl_X17_31 (Or.inl fn_16_3) rfl rfl rfl dX17_thing_131 (fun H locs hW => ?_)
    have g126 := ko_pI e131 g126
    refine lv_aload_n hx hb dX17_thing_134 rfl (lv_at hl 0 rfl) ?_
    rcases obn_cases hf with ⟨hq135, hf⟩ | ⟨q135, hq135, hf⟩
    · refine aw_gN hC hW g126 fl_X17_23 rfl hq135 dX17_thing_135 ?_
      refine lv_ifnonnullN hx hb dX17_thing_138 ?_
      refine lv_iconst (v := 0) hx hb dX17_thing_141 (by decide) ?_
      refine lv_goto (tgt := 150) hx hb dX17_thing_142 (by decide) ?_
      obtain ⟨e1, e2⟩ := so_inj hf
      exact aw_iret hC hW hr rfl (p_eq hP (congrArg (fun z => some (Value.int z)) e1) e2) (Nat.le_of_ble_eq_true rfl) (Nat.le_of_ble_eq_true rfl) dX17_thing_150
    · refine aw_gR hC hW g126 fl_X17_23 rfl hq135 dX17_thing_135 ?_
      refine lv_ifnonnull (tgt := 145) hx hb dX17_thing_138 (by decide) ?_
      refine lv_aload_n hx hb dX17_thing_145 rfl (lv_at hl 0 rfl) ?_
      refine lv_iload_n hx hb dX17_thing_146 rfl (lv_at hl 1 rfl) ?_
      obtain ⟨v147, s147, h147, hf⟩ := ob_some hf
      refine aw_dV1 (r := r0) (As := [.int x2]) (rest := []) (ct_X17_letter l G a r0 x2 s131 v147 s147 h147) hC hW hl.1 vy_X17_letter (Or.inl q822) g126 rfl rfl rfl rfl (Nat.le_of_ble_eq_true rfl) ⟨(by show 2 + 1 ≤ (20 + (d + 1)); omega), (by show 8 + (3 + 11) + 40 * 2 ≤ 40 * (20 + (d + 1)); omega)⟩ ⟨Nat.le_of_ble_eq_true rfl, Nat.le_of_ble_eq_true rfl⟩ dX17_thing_147 (fun H locs hW => ?_)
      obtain ⟨e1, e2⟩ := so_inj hf
      exact aw_iret hC hW hr rfl (p_eq hP (congrArg (fun z => some (Value.int z)) e1) e2) (Nat.le_of_ble_eq_true rfl) (Nat.le_of_ble_eq_true rfl) dX17_thing_150
  have B120 : ∀ (r0 : Nat) (x2 : Int32) (w0 : Nat) (s : ST), f_X17_thing_b120 F r0 x2 w0 s = some (rv, sf) → ∀ (H : Heap) (locs : List Loc) (ls : Array Slot), lv_has ls 3 [(0, .ref (a r0)), (2, .int x2)] → AW G a A s s0.heap H locs → WB p l e (rmD (20 + (d + 1))) s0 m args below meth c H locs G A P 120 ls [.ref (a w0)] := by
    intro r0 x2 w0 s hf H locs ls hl hW
    unfold f_X17_thing_b120 at hf
    refine lv_iconst (v := 0) hx hb dX17_thing_120 (by decide) ?_
    exact B121 r0 x2 0 w0 s hf _ _ _ (lv_sub hl [0, 1] rfl) hW
  have B36 : ∀ (r0 : Nat) (x1 : Int32) (t0 : Int32) (w1 : Nat) (s : ST), f_X17_thing_b36 F r0 x1 t0 w1 s = some (rv, sf) → ∀ (H : Heap) (locs : List Loc) (ls : Array Slot), lv_has ls 3 [(0, .ref (a r0)), (1, .int x1)] → AW G a A s s0.heap H locs → WB p l e (rmD (20 + (d + 1))) s0 m args below meth c H locs G A P 36 ls [.int t0, .ref (a w1)] := by
    intro r0 x1 t0 w1 s hf H locs ls hl hW
    unfold f_X17_thing_b36 at hf
    obtain ⟨g36, hf⟩ := gd_some hf
    obtain ⟨_, s36, h36, hf⟩ := ob_some hf
    refine aw_dU0 (r := w1) (As := [.int t0]) (rest := []) (ct_X15_needw l G a w1 t0 s () s36 h36) hC hW hl.1 uy_X17_X17_X15_need q726 g36 rfl rfl rfl (Nat.le_of_ble_eq_true rfl) ⟨(by show 0 + 1 ≤ (20 + (d + 1)); omega), (by show 8 + (2 + 11) + 40 * 0 ≤ 40 * (20 + (d + 1)); omega)⟩ ⟨Nat.le_of_ble_eq_true rfl, Nat.le_of_ble_eq_true rfl⟩ dX17_thing_36 (fun H locs hW => ?_)
    refine lv_aload_n hx hb dX17_thing_39 rfl (lv_at hl 0 rfl) ?_
    refine lv_dup hx hb dX17_thing_40 rfl ?_
    obtain ⟨g41, hf⟩ := gd_some hf
    refine aw_gI hC hW g41 fl_X17_31 rfl dX17_thing_41 ?_
    refine lv_iconst (v := 1) hx hb dX17_thing_44 (by decide) ?_
    refine lv_iadd hx hb dX17_thing_45 ?_
    obtain ⟨s46, e46, hf⟩ := bnd_some hf
    refine aw_pI e46 hC hW g41 fl_X17_31 (Or.inl fn_16_3) rfl rfl rfl dX17_thing_46 (fun H locs hW => ?_)
    have g41 := ko_pI e46 g41
    refine lv_aload_n hx hb dX17_thing_49 rfl (lv_at hl 0 rfl) ?_
    refine lv_iload_n hx hb dX17_thing_50 rfl (lv_at hl 1 rfl) ?_
    refine lv_iconst (v := 1) hx hb dX17_thing_51 (by decide) ?_
    refine lv_iadd hx hb dX17_thing_52 ?_
    obtain ⟨v53, s53, h53, hf⟩ := ob_some hf
    refine aw_dV1 (r := r0) (As := [.int (x1 + 1)]) (rest := []) (hF0 r0 (x1 + 1) s46 v53 s53 h53) hC hW hl.1 vy_X17_held (Or.inl q702) g41 rfl rfl rfl rfl (Nat.le_of_ble_eq_true rfl) ⟨(by show (20 + d) + 1 ≤ (20 + (d + 1)); omega), (by show 8 + (3 + 11) + 40 * (20 + d) ≤ 40 * (20 + (d + 1)); omega)⟩ ⟨Nat.le_of_ble_eq_true rfl, Nat.le_of_ble_eq_true rfl⟩ dX17_thing_53 (fun H locs hW => ?_)
    refine lv_istore_n (lv' := [(2, .int v53), (0, .ref (a r0)), (1, .int x1)]) hx hb dX17_thing_56 rfl hl (by decide) rfl (fun ls hl => ?_)
    refine lv_aload_n hx hb dX17_thing_57 rfl (lv_at hl 1 rfl) ?_
    refine lv_aload_n hx hb dX17_thing_58 rfl (lv_at hl 1 rfl) ?_
    refine lv_bipush (v := 41) hx hb dX17_thing_59 (by decide) ?_
    obtain ⟨g61, hf⟩ := gd_some hf
    obtain ⟨v61, s61, h61, hf⟩ := ob_some hf
    refine aw_dU1 (r := r0) (As := [.int 41]) (rest := [.ref (a r0)]) (ct_X15_passesw l G a r0 41 s53 v61 s61 h61) hC hW hl.1 uy_X17_X17_X15_passes q718 g61 rfl rfl rfl (Nat.le_of_ble_eq_true rfl) ⟨(by show 1 + 1 ≤ (20 + (d + 1)); omega), (by show 8 + (2 + 11) + 40 * 1 ≤ 40 * (20 + (d + 1)); omega)⟩ ⟨Nat.le_of_ble_eq_true rfl, Nat.le_of_ble_eq_true rfl⟩ dX17_thing_61 (fun H locs hW => ?_)
    obtain ⟨g64, hf⟩ := gd_some hf
    obtain ⟨_, s64, h64, hf⟩ := ob_some hf
    refine aw_dU0 (r := r0) (As := [.int v61]) (rest := []) (ct_X15_needw l G a r0 v61 s61 () s64 h64) hC hW hl.1 uy_X17_X17_X15_need q726 g64 rfl rfl rfl (Nat.le_of_ble_eq_true rfl) ⟨(by show 0 + 1 ≤ (20 + (d + 1)); omega), (by show 8 + (2 + 11) + 40 * 0 ≤ 40 * (20 + (d + 1)); omega)⟩ ⟨Nat.le_of_ble_eq_true rfl, Nat.le_of_ble_eq_true rfl⟩ dX17_thing_64 (fun H locs hW => ?_)
    refine lv_iload_n hx hb dX17_thing_67 rfl (lv_at hl 0 rfl) ?_
    obtain ⟨e1, e2⟩ := so_inj hf
    exact aw_iret hC hW hr rfl (p_eq hP (congrArg (fun z => some (Value.int z)) e1) e2) (Nat.le_of_ble_eq_true rfl) (Nat.le_of_ble_eq_true rfl) dX17_thing_68
  unfold f_X17_thing_r at hf
  refine lv_aload_n hx hb dX17_thing_0 rfl (lv_at hl 0 rfl) ?_
  refine lv_bipush (v := 45) hx hb dX17_thing_1 (by decide) ?_
  obtain ⟨g3, hf⟩ := gd_some hf
  obtain ⟨v3, s3, h3, hf⟩ := ob_some hf
  refine aw_dU1 (r := o) (As := [.int 45]) (rest := []) (ct_X15_passesw l G a o 45 s v3 s3 h3) hC hW hl.1 uy_X17_X17_X15_passes q718 g3 rfl rfl rfl (Nat.le_of_ble_eq_true rfl) ⟨(by show 1 + 1 ≤ (20 + (d + 1)); omega), (by show 8 + (2 + 11) + 40 * 1 ≤ 40 * (20 + (d + 1)); omega)⟩ ⟨Nat.le_of_ble_eq_true rfl, Nat.le_of_ble_eq_true rfl⟩ dX17_thing_3 (fun H locs hW => ?_)
  refine lv_if_eq (tgt := 16) hx hb dX17_thing_6 (by decide) (fun c6 => ?_) (fun c6 => ?_)
  · have hf := ifp c6 hf
    refine lv_aload_n hx hb dX17_thing_16 rfl (lv_at hl 0 rfl) ?_
    obtain ⟨g17, hf⟩ := gd_some hf
    obtain ⟨v17, s17, h17, hf⟩ := ob_some hf
    refine aw_dU1 (r := o) (As := []) (rest := []) (ct_X15_herew l G a o s3 v17 s17 h17) hC hW hl.1 uy_X17_X17_X15_here q722 g17 rfl rfl rfl (Nat.le_of_ble_eq_true rfl) ⟨(by show 0 + 1 ≤ (20 + (d + 1)); omega), (by show 8 + (1 + 11) + 40 * 0 ≤ 40 * (20 + (d + 1)); omega)⟩ ⟨Nat.le_of_ble_eq_true rfl, Nat.le_of_ble_eq_true rfl⟩ dX17_thing_17 (fun H locs hW => ?_)
    refine lv_bipush (v := 40) hx hb dX17_thing_20 (by decide) ?_
    refine lv_icmp_ne (tgt := 69) hx hb dX17_thing_22 (by decide) (fun c22 => ?_) (fun c22 => ?_)
    · have hf := ifn c22 hf
      refine lv_aload_n hx hb dX17_thing_69 rfl (lv_at hl 0 rfl) ?_
      obtain ⟨g70, hf⟩ := gd_some hf
      obtain ⟨v70, s70, h70, hf⟩ := ob_some hf
      refine aw_dU1 (r := o) (As := []) (rest := []) (ct_X15_herew l G a o s17 v70 s70 h70) hC hW hl.1 uy_X17_X17_X15_here q722 g70 rfl rfl rfl (Nat.le_of_ble_eq_true rfl) ⟨(by show 0 + 1 ≤ (20 + (d + 1)); omega), (by show 8 + (1 + 11) + 40 * 0 ≤ 40 * (20 + (d + 1)); omega)⟩ ⟨Nat.le_of_ble_eq_true rfl, Nat.le_of_ble_eq_true rfl⟩ dX17_thing_70 (fun H locs hW => ?_)
      refine lv_i2l (v := (v70 : Int32).toInt64) hx hb dX17_thing_73 rfl ?_
      refine lv_ldc2 (v := 48) hx hb hC.2.2.2.1 (hts _ q730) dX17_thing_74 ?_
      refine lv_ldc2 (v := 57) hx hb hC.2.2.2.1 (hts _ q731) dX17_thing_77 ?_
      obtain ⟨v80, ev80, hf⟩ := bnd_some hf
      refine aw_dS1 (As := [.long ((v70 : Int32).toInt64), .long 48, .long 57]) (rest := []) (pc_X1_in l G a ((v70 : Int32).toInt64) 48 57 s70) hC hW hl.1 sy_X1_in (Or.inr ⟨_, q732⟩) rfl rfl (Nat.le_of_ble_eq_true rfl) ⟨(by show 0 + 1 ≤ (20 + (d + 1)); omega), (by show 8 + (6 + 11) + 40 * 0 ≤ 40 * (20 + (d + 1)); omega)⟩ ⟨Nat.le_of_ble_eq_true rfl, Nat.le_of_ble_eq_true rfl⟩ dX17_thing_80 (fun H locs hW => ?_)
      refine top_i ev80 ?_
      refine lv_if_eq (tgt := 96) hx hb dX17_thing_83 (by decide) (fun c83 => ?_) (fun c83 => ?_)
      · have hf := ifp c83 hf
        refine lv_aload_n hx hb dX17_thing_96 rfl (lv_at hl 0 rfl) ?_
        obtain ⟨g97, hf⟩ := gd_some hf
        obtain ⟨v97, s97, h97, hf⟩ := ob_some hf
        refine aw_dU1 (r := o) (As := []) (rest := []) (ct_X15_herew l G a o s70 v97 s97 h97) hC hW hl.1 uy_X17_X17_X15_here q722 g97 rfl rfl rfl (Nat.le_of_ble_eq_true rfl) ⟨(by show 0 + 1 ≤ (20 + (d + 1)); omega), (by show 8 + (1 + 11) + 40 * 0 ≤ 40 * (20 + (d + 1)); omega)⟩ ⟨Nat.le_of_ble_eq_true rfl, Nat.le_of_ble_eq_true rfl⟩ dX17_thing_97 (fun H locs hW => ?_)
        refine lv_istore_n (lv' := [(2, .int v97), (0, .ref (a o)), (1, .int x1)]) hx hb dX17_thing_100 rfl hl (by decide) rfl (fun ls hl => ?_)
        refine lv_aload_n hx hb dX17_thing_101 rfl (lv_at hl 1 rfl) ?_
        refine lv_iload_n hx hb dX17_thing_102 rfl (lv_at hl 0 rfl) ?_
        refine lv_iconst (v := (-1)) hx hb dX17_thing_103 (by decide) ?_
        refine lv_icmp_eq (tgt := 120) hx hb dX17_thing_104 (by decide) (fun c104 => ?_) (fun c104 => ?_)
        · have hf := ifp c104 hf
          exact B120 o v97 o s97 hf _ _ _ (lv_sub hl [1, 0] rfl) hW
        · have hf := ifn c104 hf
          refine aw_ldcS 5 (by decide) rfl rfl hC dX17_thing_107 ?_
          refine lv_iload_n hx hb dX17_thing_109 rfl (lv_at hl 0 rfl) ?_
          obtain ⟨v110, s110, h110, hf⟩ := ob_some hf
          refine aw_dSt1 (i := 5) (As := [.int v97]) (rest := [.ref (a o)]) (by decide) (ct_J3_indexOf l G a 5 v97 s97 v110 s110 h110) hC hW hl.1 vy_J3_indexOf rfl q738 rfl rfl (Nat.le_of_ble_eq_true rfl) ⟨(by show 3 + 1 ≤ (20 + (d + 1)); omega), (by show 8 + (2 + 11) + 40 * 3 ≤ 40 * (20 + (d + 1)); omega)⟩ ⟨Nat.le_of_ble_eq_true rfl, Nat.le_of_ble_eq_true rfl⟩ dX17_thing_110 (fun H locs hW => ?_)
          refine lv_if_lt (tgt := 120) hx hb dX17_thing_113 (by decide) (fun c113 => ?_) (fun c113 => ?_)
          · have hf := ifp c113 hf
            exact B120 o v97 o s110 hf _ _ _ (lv_sub hl [1, 0] rfl) hW
          · have hf := ifn c113 hf
            refine lv_iconst (v := 1) hx hb dX17_thing_116 (by decide) ?_
            refine lv_goto (tgt := 121) hx hb dX17_thing_117 (by decide) ?_
            exact B121 o v97 1 o s110 hf _ _ _ (lv_sub hl [1, 0] rfl) hW
      · have hf := ifn c83 hf
        refine lv_aload_n hx hb dX17_thing_86 rfl (lv_at hl 0 rfl) ?_
        refine lv_iconst (v := 3) hx hb dX17_thing_87 (by decide) ?_
        refine lv_iconst (v := 0) hx hb dX17_thing_88 (by decide) ?_
        refine lv_sipush (v := 999) hx hb dX17_thing_89 (by decide) ?_
        obtain ⟨g92, hf⟩ := gd_some hf
        obtain ⟨v92, s92, h92, hf⟩ := ob_some hf
        refine aw_dU1 (r := o) (As := [.int 3, .int 0, .int 999]) (rest := []) (ct_X15_numberw l G a o 3 0 999 s70 v92 s92 h92) hC hW hl.1 uy_X17_X17_X15_number q733 g92 rfl rfl rfl (Nat.le_of_ble_eq_true rfl) ⟨(by show 1 + 1 ≤ (20 + (d + 1)); omega), (by show 8 + (6 + 11) + 40 * 1 ≤ 40 * (20 + (d + 1)); omega)⟩ ⟨Nat.le_of_ble_eq_true rfl, Nat.le_of_ble_eq_true rfl⟩ dX17_thing_92 (fun H locs hW => ?_)
        obtain ⟨e1, e2⟩ := so_inj hf
        exact aw_iret hC hW hr rfl (p_eq hP (congrArg (fun z => some (Value.int z)) e1) e2) (Nat.le_of_ble_eq_true rfl) (Nat.le_of_ble_eq_true rfl) dX17_thing_95
    · have hf := ifp c22 hf
      refine lv_aload_n hx hb dX17_thing_25 rfl (lv_at hl 0 rfl) ?_
      refine lv_iload_n hx hb dX17_thing_26 rfl (lv_at hl 1 rfl) ?_
      refine lv_iconst (v := 4) hx hb dX17_thing_27 (by decide) ?_
      refine lv_icmp_ge (tgt := 35) hx hb dX17_thing_28 (by decide) (fun c28 => ?_) (fun c28 => ?_)
      · have hf := ifp c28 hf
        refine lv_iconst (v := 0) hx hb dX17_thing_35 (by decide) ?_
        exact B36 o x1 0 o s17 hf _ _ _ (lv_sub hl [0, 1] rfl) hW
      · have hf := ifn c28 hf
        refine lv_iconst (v := 1) hx hb dX17_thing_31 (by decide) ?_
        refine lv_goto (tgt := 36) hx hb dX17_thing_32 (by decide) ?_
        exact B36 o x1 1 o s17 hf _ _ _ (lv_sub hl [0, 1] rfl) hW
  · have hf := ifn c6 hf
    refine lv_aload_n hx hb dX17_thing_9 rfl (lv_at hl 0 rfl) ?_
    refine lv_iload_n hx hb dX17_thing_10 rfl (lv_at hl 1 rfl) ?_
    obtain ⟨g11, hf⟩ := gd_some hf
    obtain ⟨v11, s11, h11, hf⟩ := ob_some hf
    refine aw_dV1 (r := o) (As := [.int x1]) (rest := []) (hF3 o x1 s3 v11 s11 h11) hC hW hl.1 vy_X17_thing (Or.inl q714) g11 rfl rfl rfl rfl (Nat.le_of_ble_eq_true rfl) ⟨(by show (20 + d) + 1 ≤ (20 + (d + 1)); omega), (by show 8 + (3 + 11) + 40 * (20 + d) ≤ 40 * (20 + (d + 1)); omega)⟩ ⟨Nat.le_of_ble_eq_true rfl, Nat.le_of_ble_eq_true rfl⟩ dX17_thing_11 (fun H locs hW => ?_)
    refine lv_ineg hx hb dX17_thing_14 ?_
    obtain ⟨e1, e2⟩ := so_inj hf
    exact aw_iret hC hW hr rfl (p_eq hP (congrArg (fun z => some (Value.int z)) e1) e2) (Nat.le_of_ble_eq_true rfl) (Nat.le_of_ble_eq_true rfl) dX17_thing_15
def g_will : Nat → Nat → Nat → Int32 → ST → Option (Int32 × ST)
  | 0, _, _, _, _ => none
  | d + 1, k, o, x, s => if k = 0 then f_X17_held_r (g_will d) o x s else if k = 1 then f_X17_sum_r (g_will d) o x s else if k = 2 then f_X17_product_r (g_will d) o x s else f_X17_thing_r (g_will d) o x s
theorem ct_g_will (l : Launch) (G : GM) (a : Nat → Nat) : ∀ d : Nat, (∀ (o : Nat) (x1 : Int32) (s : ST) (rv : Int32) (sf : ST), g_will d 0 o x1 s = some (rv, sf) → MD l G yX17_held (ws_ yX17_held cX17_held 3 (some .int)) (20 + d) [.ref (a o), .int x1] a s (some (.int rv)) sf) ∧ (∀ (o : Nat) (x1 : Int32) (s : ST) (rv : Int32) (sf : ST), g_will d 1 o x1 s = some (rv, sf) → MD l G yX17_sum (ws_ yX17_sum cX17_sum 5 (some .int)) (20 + d) [.ref (a o), .int x1] a s (some (.int rv)) sf) ∧ (∀ (o : Nat) (x1 : Int32) (s : ST) (rv : Int32) (sf : ST), g_will d 2 o x1 s = some (rv, sf) → MD l G yX17_product (ws_ yX17_product cX17_product 5 (some .int)) (20 + d) [.ref (a o), .int x1] a s (some (.int rv)) sf) ∧ (∀ (o : Nat) (x1 : Int32) (s : ST) (rv : Int32) (sf : ST), g_will d 3 o x1 s = some (rv, sf) → MD l G yX17_thing (ws_ yX17_thing cX17_thing 3 (some .int)) (20 + d) [.ref (a o), .int x1] a s (some (.int rv)) sf) := by
  intro d
  induction d with
  | zero => exact ⟨(by intro o x1 s rv sf hf; cases hf), (by intro o x1 s rv sf hf; cases hf), (by intro o x1 s rv sf hf; cases hf), (by intro o x1 s rv sf hf; cases hf)⟩
  | succ d ih =>
    obtain ⟨hF0, hF1, hF2, hF3⟩ := ih
    have r0 : ∀ (o : Nat) (x1 : Int32) (s : ST) (rv : Int32) (sf : ST), g_will (d + 1) 0 o x1 s = some (rv, sf) → MD l G yX17_held (ws_ yX17_held cX17_held 3 (some .int)) (20 + (d + 1)) [.ref (a o), .int x1] a s (some (.int rv)) sf := by
      intro o x1 s rv sf hf
      exact ct_X17_held_r l G a d (g_will d) hF0 hF1 hF2 hF3 o x1 s rv sf hf
    have r1 : ∀ (o : Nat) (x1 : Int32) (s : ST) (rv : Int32) (sf : ST), g_will (d + 1) 1 o x1 s = some (rv, sf) → MD l G yX17_sum (ws_ yX17_sum cX17_sum 5 (some .int)) (20 + (d + 1)) [.ref (a o), .int x1] a s (some (.int rv)) sf := by
      intro o x1 s rv sf hf
      exact ct_X17_sum_r l G a d (g_will d) hF0 hF1 hF2 hF3 o x1 s rv sf hf
    have r2 : ∀ (o : Nat) (x1 : Int32) (s : ST) (rv : Int32) (sf : ST), g_will (d + 1) 2 o x1 s = some (rv, sf) → MD l G yX17_product (ws_ yX17_product cX17_product 5 (some .int)) (20 + (d + 1)) [.ref (a o), .int x1] a s (some (.int rv)) sf := by
      intro o x1 s rv sf hf
      exact ct_X17_product_r l G a d (g_will d) hF0 hF1 hF2 hF3 o x1 s rv sf hf
    have r3 : ∀ (o : Nat) (x1 : Int32) (s : ST) (rv : Int32) (sf : ST), g_will (d + 1) 3 o x1 s = some (rv, sf) → MD l G yX17_thing (ws_ yX17_thing cX17_thing 3 (some .int)) (20 + (d + 1)) [.ref (a o), .int x1] a s (some (.int rv)) sf := by
      intro o x1 s rv sf hf
      exact ct_X17_thing_r l G a d (g_will d) hF0 hF1 hF2 hF3 o x1 s rv sf hf
    exact ⟨r0, r1, r2, r3⟩
def f_X17_held (o : Nat) (x1 : Int32) (s : ST) : Option (Int32 × ST) := g_will 100 0 o x1 s
theorem ct_X17_held (l : Launch) (G : GM) (a : Nat → Nat) (o : Nat) (x1 : Int32) (s : ST) (rv : Int32) (sf : ST) (hf : f_X17_held o x1 s = some (rv, sf)) : MD l G yX17_held (ws_ yX17_held cX17_held 3 (some .int)) 120 [.ref (a o), .int x1] a s (some (.int rv)) sf := (ct_g_will l G a 100).1 o x1 s rv sf hf
def f_X17_sum (o : Nat) (x1 : Int32) (s : ST) : Option (Int32 × ST) := g_will 100 1 o x1 s
theorem ct_X17_sum (l : Launch) (G : GM) (a : Nat → Nat) (o : Nat) (x1 : Int32) (s : ST) (rv : Int32) (sf : ST) (hf : f_X17_sum o x1 s = some (rv, sf)) : MD l G yX17_sum (ws_ yX17_sum cX17_sum 5 (some .int)) 120 [.ref (a o), .int x1] a s (some (.int rv)) sf := (ct_g_will l G a 100).2.1 o x1 s rv sf hf
def f_X17_product (o : Nat) (x1 : Int32) (s : ST) : Option (Int32 × ST) := g_will 100 2 o x1 s
theorem ct_X17_product (l : Launch) (G : GM) (a : Nat → Nat) (o : Nat) (x1 : Int32) (s : ST) (rv : Int32) (sf : ST) (hf : f_X17_product o x1 s = some (rv, sf)) : MD l G yX17_product (ws_ yX17_product cX17_product 5 (some .int)) 120 [.ref (a o), .int x1] a s (some (.int rv)) sf := (ct_g_will l G a 100).2.2.1 o x1 s rv sf hf
def f_X17_thing (o : Nat) (x1 : Int32) (s : ST) : Option (Int32 × ST) := g_will 100 3 o x1 s
theorem ct_X17_thing (l : Launch) (G : GM) (a : Nat → Nat) (o : Nat) (x1 : Int32) (s : ST) (rv : Int32) (sf : ST) (hf : f_X17_thing o x1 s = some (rv, sf)) : MD l G yX17_thing (ws_ yX17_thing cX17_thing 3 (some .int)) 120 [.ref (a o), .int x1] a s (some (.int rv)) sf := (ct_g_will l G a 100).2.2.2 o x1 s rv sf hf
def f_X17_of (o : Nat) (r1 : Nat) (x2 : Int32) (s : ST) : Option (Int32 × ST) :=
  gd (o < s.1 ∧ (kd s o).1 = 17) <|
  gd (r1 < s.1) <|
  bnd (pR s o 4 (some r1)) fun s2 =>
  bnd (pI s2 o 5 x2) fun s7 =>
  bnd (pI s7 o 3 0) fun s12 =>
  ob (f_X17_held o 0 s12) fun v17 s17 =>
  gd (o < s17.1 ∧ (kd s17 o).1 = 17) <|
  bnd (pR s17 o 4 none) fun s23 =>
  some (v17, s23)
set_option maxHeartbeats 4000000 in
theorem ct_X17_of (l : Launch) (G : GM) (a : Nat → Nat) (o : Nat) (r1 : Nat) (x2 : Int32) (s : ST) (rv : Int32) (sf : ST) (hf : f_X17_of o r1 x2 s = some (rv, sf)) : MD l G yX17_of (wsW_ yX17_of cX17_of 6 (some .int) [(15, 21, 28, 34), (15, 21, 40, 0), (28, 32, 40, 0), (40, 42, 40, 0)]) 121 [.ref (a o), .ref (a r1), .int x2] a s (some (.int rv)) sf := by
  refine md_ofW (d := 121) (lv := [(0, .ref (a o)), (1, .ref (a r1)), (2, .int x2)]) (by decide) (Nat.le_of_ble_eq_true rfl) rfl ?_
  intro p e s0 m args below meth c ls A P hP hC hr hnm hW hl
  have hx := hC.1
  have hb := hC.2.1
  have hts := hC.2.2.2.2.1
  unfold f_X17_of at hf
  refine lv_aload_n hx hb dX17_of_0 rfl (lv_at hl 0 rfl) ?_
  refine lv_aload_n hx hb dX17_of_1 rfl (lv_at hl 1 rfl) ?_
  obtain ⟨g2, hf⟩ := gd_some hf
  obtain ⟨gq2, hf⟩ := gd_some hf
  obtain ⟨s2, e2, hf⟩ := bnd_some hf
  refine aw_pR e2 hC hW g2 gq2 fl_X17_23 (Or.inl fn_16_4) rfl dX17_of_2 (fun H locs hW => ?_)
  have g2 := ko_pR e2 g2
  refine lv_aload_n hx hb dX17_of_5 rfl (lv_at hl 0 rfl) ?_
  refine lv_iload_n hx hb dX17_of_6 rfl (lv_at hl 2 rfl) ?_
  obtain ⟨s7, e7, hf⟩ := bnd_some hf
  refine aw_pI e7 hC hW g2 fl_X17_27 (Or.inl fn_16_5) rfl rfl rfl dX17_of_7 (fun H locs hW => ?_)
  have g2 := ko_pI e7 g2
  refine lv_aload_n hx hb dX17_of_10 rfl (lv_at hl 0 rfl) ?_
  refine lv_iconst (v := 0) hx hb dX17_of_11 (by decide) ?_
  obtain ⟨s12, e12, hf⟩ := bnd_some hf
  refine aw_pI e12 hC hW g2 fl_X17_31 (Or.inl fn_16_3) rfl rfl rfl dX17_of_12 (fun H locs hW => ?_)
  have g2 := ko_pI e12 g2
  refine lv_aload_n hx hb dX17_of_15 rfl (lv_at hl 0 rfl) ?_
  refine lv_iconst (v := 0) hx hb dX17_of_16 (by decide) ?_
  obtain ⟨v17, s17, h17, hf⟩ := ob_some hf
  refine aw_dV1 (r := o) (As := [.int 0]) (rest := []) (ct_X17_held l G a o 0 s12 v17 s17 h17) hC hW hl.1 vy_X17_held (Or.inl q702) g2 rfl rfl rfl rfl (Nat.le_of_ble_eq_true rfl) ⟨Nat.le_of_ble_eq_true rfl, Nat.le_of_ble_eq_true rfl⟩ ⟨Nat.le_of_ble_eq_true rfl, Nat.le_of_ble_eq_true rfl⟩ dX17_of_17 (fun H locs hW => ?_)
  refine lv_istore_n (lv' := [(3, .int v17), (0, .ref (a o)), (1, .ref (a r1)), (2, .int x2)]) hx hb dX17_of_20 rfl hl (by decide) rfl (fun ls hl => ?_)
  refine lv_aload_n hx hb dX17_of_21 rfl (lv_at hl 1 rfl) ?_
  refine lv_null hx hb dX17_of_22 ?_
  obtain ⟨g23, hf⟩ := gd_some hf
  obtain ⟨s23, e23, hf⟩ := bnd_some hf
  refine aw_pN e23 hC hW g23 fl_X17_23 (Or.inl fn_16_4) rfl dX17_of_23 (fun H locs hW => ?_)
  have g23 := ko_pR e23 g23
  refine lv_iload_n hx hb dX17_of_26 rfl (lv_at hl 0 rfl) ?_
  obtain ⟨e1, e2⟩ := so_inj hf
  exact aw_iret hC hW hr rfl (p_eq hP (congrArg (fun z => some (Value.int z)) e1) e2) (Nat.le_of_ble_eq_true rfl) (Nat.le_of_ble_eq_true rfl) dX17_of_27
def f_X1_willOf (o : Nat) (r1 : Nat) (x2 : Int32) (s : ST) : Option (Int32 × ST) :=
  gd (o < s.1 ∧ (kd s o).1 = 1) <|
  obn (gr s o 15) (some (1, s)) fun q1 => (gr s o 15).bind fun q12 =>
  gd (q12 < s.1 ∧ (kd s q12).1 = 17) <|
  ob (f_X17_of q12 r1 x2 s) fun v17 s17 =>
  some (v17, s17)
set_option maxHeartbeats 4000000 in
theorem ct_X1_willOf (l : Launch) (G : GM) (a : Nat → Nat) (o : Nat) (r1 : Nat) (x2 : Int32) (s : ST) (rv : Int32) (sf : ST) (hf : f_X1_willOf o r1 x2 s = some (rv, sf)) : MD l G yX1_willOf (ws_ yX1_willOf cX1_willOf 3 (some .int)) 122 [.ref (a o), .ref (a r1), .int x2] a s (some (.int rv)) sf := by
  refine md_of (d := 122) (lv := [(0, .ref (a o)), (1, .ref (a r1)), (2, .int x2)]) (Or.inl (by decide)) (Nat.le_of_ble_eq_true rfl) rfl ?_
  intro p e s0 m args below meth c ls A P hP hC hr hnm hW hl
  have hx := hC.1
  have hb := hC.2.1
  have hts := hC.2.2.2.2.1
  unfold f_X1_willOf at hf
  refine lv_aload_n hx hb dX1_willOf_0 rfl (lv_at hl 0 rfl) ?_
  obtain ⟨g1, hf⟩ := gd_some hf
  rcases obn_cases hf with ⟨hq1, hf⟩ | ⟨q1, hq1, hf⟩
  · refine aw_gN hC hW g1 fl_X1_253 rfl hq1 dX1_willOf_1 ?_
    refine lv_ifnonnullN hx hb dX1_willOf_4 ?_
    refine lv_iconst (v := 1) hx hb dX1_willOf_7 (by decide) ?_
    refine lv_goto (tgt := 20) hx hb dX1_willOf_8 (by decide) ?_
    obtain ⟨e1, e2⟩ := so_inj hf
    exact aw_iret hC hW hr rfl (p_eq hP (congrArg (fun z => some (Value.int z)) e1) e2) (Nat.le_of_ble_eq_true rfl) (Nat.le_of_ble_eq_true rfl) dX1_willOf_20
  · refine aw_gR hC hW g1 fl_X1_253 rfl hq1 dX1_willOf_1 ?_
    refine lv_ifnonnull (tgt := 11) hx hb dX1_willOf_4 (by decide) ?_
    refine lv_aload_n hx hb dX1_willOf_11 rfl (lv_at hl 0 rfl) ?_
    obtain ⟨q12, hq12, hf⟩ := bi_some hf
    refine aw_gR hC hW g1 fl_X1_253 rfl hq12 dX1_willOf_12 ?_
    refine lv_aload_n hx hb dX1_willOf_15 rfl (lv_at hl 1 rfl) ?_
    refine lv_iload_n hx hb dX1_willOf_16 rfl (lv_at hl 2 rfl) ?_
    obtain ⟨g17, hf⟩ := gd_some hf
    obtain ⟨v17, s17, h17, hf⟩ := ob_some hf
    refine aw_dW1 (r := q12) (As := [.ref (a r1), .int x2]) (rest := []) (ct_X17_of l G a q12 r1 x2 s v17 s17 h17) hC hW hl.1 vh_X17_of q954 g17 rfl rfl rfl rfl (Nat.le_of_ble_eq_true rfl) ⟨Nat.le_of_ble_eq_true rfl, Nat.le_of_ble_eq_true rfl⟩ ⟨Nat.le_of_ble_eq_true rfl, Nat.le_of_ble_eq_true rfl⟩ dX1_willOf_17 (fun H locs hW => ?_)
    obtain ⟨e1, e2⟩ := so_inj hf
    exact aw_iret hC hW hr rfl (p_eq hP (congrArg (fun z => some (Value.int z)) e1) e2) (Nat.le_of_ble_eq_true rfl) (Nat.le_of_ble_eq_true rfl) dX1_willOf_20
def f_X4_stands (o : Nat) (r1 : Nat) (x2 : Int32) (s : ST) : Option (Int32 × ST) :=
  gd (o < s.1 ∧ (kd s o).1 = 4) <|
  (gr s o 0).bind fun q1 =>
  gd (q1 < s.1 ∧ (kd s q1).1 = 1) <|
  ob (f_X1_willOf q1 r1 x2 s) fun v6 s6 =>
  if v6 = 0 then (some (0, s6)) else some (1, s6)
set_option maxHeartbeats 4000000 in
theorem ct_X4_stands (l : Launch) (G : GM) (a : Nat → Nat) (o : Nat) (r1 : Nat) (x2 : Int32) (s : ST) (rv : Int32) (sf : ST) (hf : f_X4_stands o r1 x2 s = some (rv, sf)) : MD l G yX4_stands (ws_ yX4_stands cX4_stands 3 (some .boolean)) 123 [.ref (a o), .ref (a r1), .int x2] a s (some (.int rv)) sf := by
  refine md_of (d := 123) (lv := [(0, .ref (a o)), (1, .ref (a r1)), (2, .int x2)]) (Or.inl (by decide)) (Nat.le_of_ble_eq_true rfl) rfl ?_
  intro p e s0 m args below meth c ls A P hP hC hr hnm hW hl
  have hx := hC.1
  have hb := hC.2.1
  have hts := hC.2.2.2.2.1
  unfold f_X4_stands at hf
  refine lv_aload_n hx hb dX4_stands_0 rfl (lv_at hl 0 rfl) ?_
  obtain ⟨g1, hf⟩ := gd_some hf
  obtain ⟨q1, hq1, hf⟩ := bi_some hf
  refine aw_gR hC hW g1 fl_X4_1 rfl hq1 dX4_stands_1 ?_
  refine lv_aload_n hx hb dX4_stands_4 rfl (lv_at hl 1 rfl) ?_
  refine lv_iload_n hx hb dX4_stands_5 rfl (lv_at hl 2 rfl) ?_
  obtain ⟨g6, hf⟩ := gd_some hf
  obtain ⟨v6, s6, h6, hf⟩ := ob_some hf
  refine aw_dV1 (r := q1) (As := [.ref (a r1), .int x2]) (rest := []) (ct_X1_willOf l G a q1 r1 x2 s v6 s6 h6) hC hW hl.1 vy_X1_willOf (Or.inr ⟨_, q950⟩) g6 rfl rfl rfl rfl (Nat.le_of_ble_eq_true rfl) ⟨Nat.le_of_ble_eq_true rfl, Nat.le_of_ble_eq_true rfl⟩ ⟨Nat.le_of_ble_eq_true rfl, Nat.le_of_ble_eq_true rfl⟩ dX4_stands_6 (fun H locs hW => ?_)
  refine lv_if_eq (tgt := 16) hx hb dX4_stands_9 (by decide) (fun c9 => ?_) (fun c9 => ?_)
  · have hf := ifp c9 hf
    refine lv_iconst (v := 0) hx hb dX4_stands_16 (by decide) ?_
    obtain ⟨e1, e2⟩ := so_inj hf
    exact aw_iret hC hW hr rfl (p_eq hP (congrArg (fun z => some (Value.int z)) e1) e2) (Nat.le_of_ble_eq_true rfl) (Nat.le_of_ble_eq_true rfl) dX4_stands_17
  · have hf := ifn c9 hf
    refine lv_iconst (v := 1) hx hb dX4_stands_12 (by decide) ?_
    refine lv_goto (tgt := 17) hx hb dX4_stands_13 (by decide) ?_
    obtain ⟨e1, e2⟩ := so_inj hf
    exact aw_iret hC hW hr rfl (p_eq hP (congrArg (fun z => some (Value.int z)) e1) e2) (Nat.le_of_ble_eq_true rfl) (Nat.le_of_ble_eq_true rfl) dX4_stands_17
def f_X6_stands (o : Nat) (r1 : Nat) (x2 : Int32) (s : ST) : Option (Int32 × ST) :=
  gd (o < s.1 ∧ (kd s o).1 = 6) <|
  if x2 = (gi s o 0) then (gd (r1 < s.1 ∧ (kd s r1).1 = 2) <|
  bnd (p_has (gi s o 1) ((gi s r1 9) - (gi s o 2))) fun v21 =>
  gd (v21 = 0 ∨ v21 = 1) <|
  some (v21, s)) else (gr s o 3).bind fun q28 =>
  gd (q28 < s.1 ∧ (kd s q28).1 = 1) <|
  ob (f_X1_willOf q28 r1 x2 s) fun v33 s33 =>
  if v33 = 0 then (some (0, s33)) else some (1, s33)
set_option maxHeartbeats 4000000 in
theorem ct_X6_stands (l : Launch) (G : GM) (a : Nat → Nat) (o : Nat) (r1 : Nat) (x2 : Int32) (s : ST) (rv : Int32) (sf : ST) (hf : f_X6_stands o r1 x2 s = some (rv, sf)) : MD l G yX6_stands (ws_ yX6_stands cX6_stands 3 (some .boolean)) 123 [.ref (a o), .ref (a r1), .int x2] a s (some (.int rv)) sf := by
  refine md_of (d := 123) (lv := [(0, .ref (a o)), (1, .ref (a r1)), (2, .int x2)]) (Or.inl (by decide)) (Nat.le_of_ble_eq_true rfl) rfl ?_
  intro p e s0 m args below meth c ls A P hP hC hr hnm hW hl
  have hx := hC.1
  have hb := hC.2.1
  have hts := hC.2.2.2.2.1
  unfold f_X6_stands at hf
  refine lv_iload_n hx hb dX6_stands_0 rfl (lv_at hl 2 rfl) ?_
  refine lv_aload_n hx hb dX6_stands_1 rfl (lv_at hl 0 rfl) ?_
  obtain ⟨g2, hf⟩ := gd_some hf
  refine aw_gI hC hW g2 fl_X6_13 rfl dX6_stands_2 ?_
  refine lv_icmp_ne (tgt := 27) hx hb dX6_stands_5 (by decide) (fun c5 => ?_) (fun c5 => ?_)
  · have hf := ifn c5 hf
    refine lv_aload_n hx hb dX6_stands_27 rfl (lv_at hl 0 rfl) ?_
    obtain ⟨q28, hq28, hf⟩ := bi_some hf
    refine aw_gR hC hW g2 fl_X6_1 rfl hq28 dX6_stands_28 ?_
    refine lv_aload_n hx hb dX6_stands_31 rfl (lv_at hl 1 rfl) ?_
    refine lv_iload_n hx hb dX6_stands_32 rfl (lv_at hl 2 rfl) ?_
    obtain ⟨g33, hf⟩ := gd_some hf
    obtain ⟨v33, s33, h33, hf⟩ := ob_some hf
    refine aw_dV1 (r := q28) (As := [.ref (a r1), .int x2]) (rest := []) (ct_X1_willOf l G a q28 r1 x2 s v33 s33 h33) hC hW hl.1 vy_X1_willOf (Or.inr ⟨_, q982⟩) g33 rfl rfl rfl rfl (Nat.le_of_ble_eq_true rfl) ⟨Nat.le_of_ble_eq_true rfl, Nat.le_of_ble_eq_true rfl⟩ ⟨Nat.le_of_ble_eq_true rfl, Nat.le_of_ble_eq_true rfl⟩ dX6_stands_33 (fun H locs hW => ?_)
    refine lv_if_eq (tgt := 43) hx hb dX6_stands_36 (by decide) (fun c36 => ?_) (fun c36 => ?_)
    · have hf := ifp c36 hf
      refine lv_iconst (v := 0) hx hb dX6_stands_43 (by decide) ?_
      obtain ⟨e1, e2⟩ := so_inj hf
      exact aw_iret hC hW hr rfl (p_eq hP (congrArg (fun z => some (Value.int z)) e1) e2) (Nat.le_of_ble_eq_true rfl) (Nat.le_of_ble_eq_true rfl) dX6_stands_44
    · have hf := ifn c36 hf
      refine lv_iconst (v := 1) hx hb dX6_stands_39 (by decide) ?_
      refine lv_goto (tgt := 44) hx hb dX6_stands_40 (by decide) ?_
      obtain ⟨e1, e2⟩ := so_inj hf
      exact aw_iret hC hW hr rfl (p_eq hP (congrArg (fun z => some (Value.int z)) e1) e2) (Nat.le_of_ble_eq_true rfl) (Nat.le_of_ble_eq_true rfl) dX6_stands_44
  · have hf := ifp c5 hf
    refine lv_aload_n hx hb dX6_stands_8 rfl (lv_at hl 0 rfl) ?_
    refine aw_gI hC hW g2 fl_X6_17 rfl dX6_stands_9 ?_
    refine lv_aload_n hx hb dX6_stands_12 rfl (lv_at hl 1 rfl) ?_
    obtain ⟨g13, hf⟩ := gd_some hf
    refine aw_gI hC hW g13 fl_X6_20 rfl dX6_stands_13 ?_
    refine lv_aload_n hx hb dX6_stands_16 rfl (lv_at hl 0 rfl) ?_
    refine aw_gI hC hW g2 fl_X6_25 rfl dX6_stands_17 ?_
    refine lv_isub hx hb dX6_stands_20 ?_
    obtain ⟨v21, ev21, hf⟩ := bnd_some hf
    refine aw_dS1 (As := [.int (gi s o 1), .int ((gi s r1 9) - (gi s o 2))]) (rest := []) (pc_X1_has l G a (gi s o 1) ((gi s r1 9) - (gi s o 2)) s) hC hW hl.1 sy_X1_has (Or.inr ⟨_, q981⟩) rfl rfl (Nat.le_of_ble_eq_true rfl) ⟨Nat.le_of_ble_eq_true rfl, Nat.le_of_ble_eq_true rfl⟩ ⟨Nat.le_of_ble_eq_true rfl, Nat.le_of_ble_eq_true rfl⟩ dX6_stands_21 (fun H locs hW => ?_)
    refine top_i ev21 ?_
    refine lv_goto (tgt := 44) hx hb dX6_stands_24 (by decide) ?_
    obtain ⟨gz44, hf⟩ := gd_some hf
    obtain ⟨e1, e2⟩ := so_inj hf
    exact aw_iret hC hW hr (nb01 gz44) (p_eq hP (congrArg (fun z => some (Value.int z)) e1) e2) (Nat.le_of_ble_eq_true rfl) (Nat.le_of_ble_eq_true rfl) dX6_stands_44
def f_X8_stands (o : Nat) (r1 : Nat) (x2 : Int32) (s : ST) : Option (Int32 × ST) :=
  gd (o < s.1 ∧ (kd s o).1 = 8) <|
  (gr s o 2).bind fun q1 =>
  gd (q1 < s.1 ∧ (kd s q1).1 = 1) <|
  (gr s q1 0).bind fun q4 =>
  gd (q4 < s.1 ∧ (kd s q4).1 = 105 ∧ ¬ ((x2 : Int32) < 0 ∨ (kd s q4).2 ≤ (x2 : Int32).toNatClampNeg)) <|
  (gr s q4 (x2 : Int32).toNatClampNeg).bind fun q8 =>
  gd (q8 < s.1 ∧ (kd s q8).1 = 3) <|
  if (gi s q8 0) = (gi s o 0) then (ob (f_X8_turn o r1 s) fun v22 s22 =>
  if x2 = v22 then (some (1, s22)) else some (0, s22)) else (gr s o 2).bind fun q37 =>
  gd (q37 < s.1 ∧ (kd s q37).1 = 1) <|
  ob (f_X1_willOf q37 r1 x2 s) fun v42 s42 =>
  if v42 = 0 then (some (0, s42)) else some (1, s42)
set_option maxHeartbeats 4000000 in
theorem ct_X8_stands (l : Launch) (G : GM) (a : Nat → Nat) (o : Nat) (r1 : Nat) (x2 : Int32) (s : ST) (rv : Int32) (sf : ST) (hf : f_X8_stands o r1 x2 s = some (rv, sf)) : MD l G yX8_stands (ws_ yX8_stands cX8_stands 3 (some .boolean)) 123 [.ref (a o), .ref (a r1), .int x2] a s (some (.int rv)) sf := by
  refine md_of (d := 123) (lv := [(0, .ref (a o)), (1, .ref (a r1)), (2, .int x2)]) (Or.inl (by decide)) (Nat.le_of_ble_eq_true rfl) rfl ?_
  intro p e s0 m args below meth c ls A P hP hC hr hnm hW hl
  have hx := hC.1
  have hb := hC.2.1
  have hts := hC.2.2.2.2.1
  unfold f_X8_stands at hf
  refine lv_aload_n hx hb dX8_stands_0 rfl (lv_at hl 0 rfl) ?_
  obtain ⟨g1, hf⟩ := gd_some hf
  obtain ⟨q1, hq1, hf⟩ := bi_some hf
  refine aw_gR hC hW g1 fl_X8_3 rfl hq1 dX8_stands_1 ?_
  obtain ⟨g4, hf⟩ := gd_some hf
  obtain ⟨q4, hq4, hf⟩ := bi_some hf
  refine aw_gR hC hW g4 fl_X8_15 rfl hq4 dX8_stands_4 ?_
  refine lv_iload_n hx hb dX8_stands_7 rfl (lv_at hl 2 rfl) ?_
  obtain ⟨g8, hf⟩ := gd_some hf
  obtain ⟨q8, hq8, hf⟩ := bi_some hf
  refine aw_aald (j := 0) hC hW (by decide) g8 hq8 dX8_stands_8 ?_
  obtain ⟨g9, hf⟩ := gd_some hf
  refine aw_gI hC hW g9 fl_X8_19 rfl dX8_stands_9 ?_
  refine lv_aload_n hx hb dX8_stands_12 rfl (lv_at hl 0 rfl) ?_
  refine aw_gI hC hW g1 fl_X8_25 rfl dX8_stands_13 ?_
  refine lv_icmp_ne (tgt := 36) hx hb dX8_stands_16 (by decide) (fun c16 => ?_) (fun c16 => ?_)
  · have hf := ifn c16 hf
    refine lv_aload_n hx hb dX8_stands_36 rfl (lv_at hl 0 rfl) ?_
    obtain ⟨q37, hq37, hf⟩ := bi_some hf
    refine aw_gR hC hW g1 fl_X8_3 rfl hq37 dX8_stands_37 ?_
    refine lv_aload_n hx hb dX8_stands_40 rfl (lv_at hl 1 rfl) ?_
    refine lv_iload_n hx hb dX8_stands_41 rfl (lv_at hl 2 rfl) ?_
    obtain ⟨g42, hf⟩ := gd_some hf
    obtain ⟨v42, s42, h42, hf⟩ := ob_some hf
    refine aw_dV1 (r := q37) (As := [.ref (a r1), .int x2]) (rest := []) (ct_X1_willOf l G a q37 r1 x2 s v42 s42 h42) hC hW hl.1 vy_X1_willOf (Or.inr ⟨_, q974⟩) g42 rfl rfl rfl rfl (Nat.le_of_ble_eq_true rfl) ⟨Nat.le_of_ble_eq_true rfl, Nat.le_of_ble_eq_true rfl⟩ ⟨Nat.le_of_ble_eq_true rfl, Nat.le_of_ble_eq_true rfl⟩ dX8_stands_42 (fun H locs hW => ?_)
    refine lv_if_eq (tgt := 52) hx hb dX8_stands_45 (by decide) (fun c45 => ?_) (fun c45 => ?_)
    · have hf := ifp c45 hf
      refine lv_iconst (v := 0) hx hb dX8_stands_52 (by decide) ?_
      obtain ⟨e1, e2⟩ := so_inj hf
      exact aw_iret hC hW hr rfl (p_eq hP (congrArg (fun z => some (Value.int z)) e1) e2) (Nat.le_of_ble_eq_true rfl) (Nat.le_of_ble_eq_true rfl) dX8_stands_53
    · have hf := ifn c45 hf
      refine lv_iconst (v := 1) hx hb dX8_stands_48 (by decide) ?_
      refine lv_goto (tgt := 53) hx hb dX8_stands_49 (by decide) ?_
      obtain ⟨e1, e2⟩ := so_inj hf
      exact aw_iret hC hW hr rfl (p_eq hP (congrArg (fun z => some (Value.int z)) e1) e2) (Nat.le_of_ble_eq_true rfl) (Nat.le_of_ble_eq_true rfl) dX8_stands_53
  · have hf := ifp c16 hf
    refine lv_iload_n hx hb dX8_stands_19 rfl (lv_at hl 2 rfl) ?_
    refine lv_aload_n hx hb dX8_stands_20 rfl (lv_at hl 0 rfl) ?_
    refine lv_aload_n hx hb dX8_stands_21 rfl (lv_at hl 1 rfl) ?_
    obtain ⟨v22, s22, h22, hf⟩ := ob_some hf
    refine aw_dV1 (r := o) (As := [.ref (a r1)]) (rest := [.int x2]) (ct_X8_turn l G a o r1 s v22 s22 h22) hC hW hl.1 vy_X8_turn (Or.inl q965) g1 rfl rfl rfl rfl (Nat.le_of_ble_eq_true rfl) ⟨Nat.le_of_ble_eq_true rfl, Nat.le_of_ble_eq_true rfl⟩ ⟨Nat.le_of_ble_eq_true rfl, Nat.le_of_ble_eq_true rfl⟩ dX8_stands_22 (fun H locs hW => ?_)
    refine lv_icmp_ne (tgt := 32) hx hb dX8_stands_25 (by decide) (fun c25 => ?_) (fun c25 => ?_)
    · have hf := ifn c25 hf
      refine lv_iconst (v := 0) hx hb dX8_stands_32 (by decide) ?_
      refine lv_goto (tgt := 53) hx hb dX8_stands_33 (by decide) ?_
      obtain ⟨e1, e2⟩ := so_inj hf
      exact aw_iret hC hW hr rfl (p_eq hP (congrArg (fun z => some (Value.int z)) e1) e2) (Nat.le_of_ble_eq_true rfl) (Nat.le_of_ble_eq_true rfl) dX8_stands_53
    · have hf := ifp c25 hf
      refine lv_iconst (v := 1) hx hb dX8_stands_28 (by decide) ?_
      refine lv_goto (tgt := 53) hx hb dX8_stands_29 (by decide) ?_
      obtain ⟨e1, e2⟩ := so_inj hf
      exact aw_iret hC hW hr rfl (p_eq hP (congrArg (fun z => some (Value.int z)) e1) e2) (Nat.le_of_ble_eq_true rfl) (Nat.le_of_ble_eq_true rfl) dX8_stands_53
def f_X9_stands (o : Nat) (r1 : Nat) (x2 : Int32) (s : ST) : Option (Int32 × ST) :=
  gd (o < s.1 ∧ (kd s o).1 = 9) <|
  if x2 = (gi s o 0) then (some (0, s)) else (gr s o 1).bind fun q9 =>
  gd (q9 < s.1 ∧ (kd s q9).1 = 1) <|
  (gr s q9 16).bind fun q12 =>
  gd (q12 < s.1 ∧ (kd s q12).1 = 4) <|
  ob (f_X4_stands q12 r1 x2 s) fun v17 s17 =>
  if v17 = 0 then (some (0, s17)) else some (1, s17)
set_option maxHeartbeats 4000000 in
theorem ct_X9_stands (l : Launch) (G : GM) (a : Nat → Nat) (o : Nat) (r1 : Nat) (x2 : Int32) (s : ST) (rv : Int32) (sf : ST) (hf : f_X9_stands o r1 x2 s = some (rv, sf)) : MD l G yX9_stands (ws_ yX9_stands cX9_stands 3 (some .boolean)) 124 [.ref (a o), .ref (a r1), .int x2] a s (some (.int rv)) sf := by
  refine md_of (d := 124) (lv := [(0, .ref (a o)), (1, .ref (a r1)), (2, .int x2)]) (Or.inl (by decide)) (Nat.le_of_ble_eq_true rfl) rfl ?_
  intro p e s0 m args below meth c ls A P hP hC hr hnm hW hl
  have hx := hC.1
  have hb := hC.2.1
  have hts := hC.2.2.2.2.1
  unfold f_X9_stands at hf
  refine lv_iload_n hx hb dX9_stands_0 rfl (lv_at hl 2 rfl) ?_
  refine lv_aload_n hx hb dX9_stands_1 rfl (lv_at hl 0 rfl) ?_
  obtain ⟨g2, hf⟩ := gd_some hf
  refine aw_gI hC hW g2 fl_X9_13 rfl dX9_stands_2 ?_
  refine lv_icmp_eq (tgt := 27) hx hb dX9_stands_5 (by decide) (fun c5 => ?_) (fun c5 => ?_)
  · have hf := ifp c5 hf
    refine lv_iconst (v := 0) hx hb dX9_stands_27 (by decide) ?_
    obtain ⟨e1, e2⟩ := so_inj hf
    exact aw_iret hC hW hr rfl (p_eq hP (congrArg (fun z => some (Value.int z)) e1) e2) (Nat.le_of_ble_eq_true rfl) (Nat.le_of_ble_eq_true rfl) dX9_stands_28
  · have hf := ifn c5 hf
    refine lv_aload_n hx hb dX9_stands_8 rfl (lv_at hl 0 rfl) ?_
    obtain ⟨q9, hq9, hf⟩ := bi_some hf
    refine aw_gR hC hW g2 fl_X9_1 rfl hq9 dX9_stands_9 ?_
    obtain ⟨g12, hf⟩ := gd_some hf
    obtain ⟨q12, hq12, hf⟩ := bi_some hf
    refine aw_gR hC hW g12 fl_X9_17 rfl hq12 dX9_stands_12 ?_
    refine lv_aload_n hx hb dX9_stands_15 rfl (lv_at hl 1 rfl) ?_
    refine lv_iload_n hx hb dX9_stands_16 rfl (lv_at hl 2 rfl) ?_
    obtain ⟨g17, hf⟩ := gd_some hf
    obtain ⟨v17, s17, h17, hf⟩ := ob_some hf
    refine aw_dV1 (r := q12) (As := [.ref (a r1), .int x2]) (rest := []) (ct_X4_stands l G a q12 r1 x2 s v17 s17 h17) hC hW hl.1 vy_X4_stands (Or.inl q996) g17 rfl rfl rfl rfl (Nat.le_of_ble_eq_true rfl) ⟨Nat.le_of_ble_eq_true rfl, Nat.le_of_ble_eq_true rfl⟩ ⟨Nat.le_of_ble_eq_true rfl, Nat.le_of_ble_eq_true rfl⟩ dX9_stands_17 (fun H locs hW => ?_)
    refine lv_if_eq (tgt := 27) hx hb dX9_stands_20 (by decide) (fun c20 => ?_) (fun c20 => ?_)
    · have hf := ifp c20 hf
      refine lv_iconst (v := 0) hx hb dX9_stands_27 (by decide) ?_
      obtain ⟨e1, e2⟩ := so_inj hf
      exact aw_iret hC hW hr rfl (p_eq hP (congrArg (fun z => some (Value.int z)) e1) e2) (Nat.le_of_ble_eq_true rfl) (Nat.le_of_ble_eq_true rfl) dX9_stands_28
    · have hf := ifn c20 hf
      refine lv_iconst (v := 1) hx hb dX9_stands_23 (by decide) ?_
      refine lv_goto (tgt := 28) hx hb dX9_stands_24 (by decide) ?_
      obtain ⟨e1, e2⟩ := so_inj hf
      exact aw_iret hC hW hr rfl (p_eq hP (congrArg (fun z => some (Value.int z)) e1) e2) (Nat.le_of_ble_eq_true rfl) (Nat.le_of_ble_eq_true rfl) dX9_stands_28
def f_X1_of (o : Nat) (x1 : Int32) (x2 : Int32) (s : ST) : Option (Int32 × ST) :=
  gd (o < s.1 ∧ (kd s o).1 = 1) <|
  ob (f_X1_isOne o x1 s) fun v2 s2 =>
  if v2 = 0 then (none) else if x2 = 0 then (gd (o < s2.1 ∧ (kd s2 o).1 = 1) <|
  (gr s2 o 1).bind fun q65 =>
  gd (q65 < s2.1 ∧ (kd s2 q65).1 = 2) <|
  (gr s2 q65 0).bind fun q68 =>
  gd (q68 < s2.1 ∧ (kd s2 q68).1 = 100 ∧ ¬ ((x1 : Int32) < 0 ∨ (kd s2 q68).2 ≤ (x1 : Int32).toNatClampNeg)) <|
  some ((gi s2 q68 (x1 : Int32).toNatClampNeg), s2)) else
  if x2 = 1 then (gd (o < s2.1 ∧ (kd s2 o).1 = 1) <|
  (gr s2 o 0).bind fun q75 =>
  gd (q75 < s2.1 ∧ (kd s2 q75).1 = 105 ∧ ¬ ((x1 : Int32) < 0 ∨ (kd s2 q75).2 ≤ (x1 : Int32).toNatClampNeg)) <|
  (gr s2 q75 (x1 : Int32).toNatClampNeg).bind fun q79 =>
  gd (q79 < s2.1 ∧ (kd s2 q79).1 = 3) <|
  some ((gi s2 q79 0), s2)) else
  if x2 = 2 then (gd (o < s2.1 ∧ (kd s2 o).1 = 1) <|
  (gr s2 o 0).bind fun q85 =>
  gd (q85 < s2.1 ∧ (kd s2 q85).1 = 105 ∧ ¬ ((x1 : Int32) < 0 ∨ (kd s2 q85).2 ≤ (x1 : Int32).toNatClampNeg)) <|
  (gr s2 q85 (x1 : Int32).toNatClampNeg).bind fun q89 =>
  gd (q89 < s2.1 ∧ (kd s2 q89).1 = 3) <|
  some ((gi s2 q89 1), s2)) else
  if x2 = 3 then (gd (o < s2.1 ∧ (kd s2 o).1 = 1) <|
  (gr s2 o 1).bind fun q95 =>
  gd (q95 < s2.1 ∧ (kd s2 q95).1 = 2) <|
  bnd (p_has (gi s2 q95 6) x1) fun v102 =>
  if v102 = 0 then (some (0, s2)) else some (1, s2)) else
  if x2 = 4 then (gd (o < s2.1 ∧ (kd s2 o).1 = 1) <|
  (gr s2 o 1).bind fun q115 =>
  gd (q115 < s2.1 ∧ (kd s2 q115).1 = 2) <|
  (gr s2 q115 1).bind fun q118 =>
  gd (q118 < s2.1 ∧ (kd s2 q118).1 = 100 ∧ ¬ ((x1 : Int32) < 0 ∨ (kd s2 q118).2 ≤ (x1 : Int32).toNatClampNeg)) <|
  some ((gi s2 q118 (x1 : Int32).toNatClampNeg), s2)) else
  if x2 = 5 then (gd (o < s2.1 ∧ (kd s2 o).1 = 1) <|
  (gr s2 o 1).bind fun q126 =>
  gd (q126 < s2.1 ∧ (kd s2 q126).1 = 2) <|
  (gr s2 q126 0).bind fun q129 =>
  gd (q129 < s2.1 ∧ (kd s2 q129).1 = 100 ∧ ¬ ((x1 : Int32) < 0 ∨ (kd s2 q129).2 ≤ (x1 : Int32).toNatClampNeg)) <|
  ob (f_X1_shows o (gi s2 q129 (x1 : Int32).toNatClampNeg) s2) fun v134 s134 =>
  some (v134, s134)) else
  if x2 = 6 then (gd (o < s2.1 ∧ (kd s2 o).1 = 1) <|
  (gr s2 o 1).bind fun q140 =>
  ob (f_X1_willOf o q140 x1 s2) fun v144 s144 =>
  some (v144, s144)) else
  if x2 = 7 then (gd (o < s2.1 ∧ (kd s2 o).1 = 1) <|
  (gr s2 o 0).bind fun q149 =>
  gd (q149 < s2.1 ∧ (kd s2 q149).1 = 105 ∧ ¬ ((x1 : Int32) < 0 ∨ (kd s2 q149).2 ≤ (x1 : Int32).toNatClampNeg)) <|
  (gr s2 q149 (x1 : Int32).toNatClampNeg).bind fun q153 =>
  gd (q153 < s2.1 ∧ (kd s2 q153).1 = 3) <|
  some ((gi s2 q153 2), s2)) else
  none
set_option maxHeartbeats 4000000 in
theorem ct_X1_of (l : Launch) (G : GM) (a : Nat → Nat) (o : Nat) (x1 : Int32) (x2 : Int32) (s : ST) (rv : Int32) (sf : ST) (hf : f_X1_of o x1 x2 s = some (rv, sf)) : MD l G yX1_of (ws_ yX1_of cX1_of 3 (some .int)) 123 [.ref (a o), .int x1, .int x2] a s (some (.int rv)) sf := by
  refine md_of (d := 123) (lv := [(0, .ref (a o)), (1, .int x1), (2, .int x2)]) (Or.inl (by decide)) (Nat.le_of_ble_eq_true rfl) rfl ?_
  intro p e s0 m args below meth c ls A P hP hC hr hnm hW hl
  have hx := hC.1
  have hb := hC.2.1
  have hts := hC.2.2.2.2.1
  unfold f_X1_of at hf
  refine lv_aload_n hx hb dX1_of_0 rfl (lv_at hl 0 rfl) ?_
  refine lv_iload_n hx hb dX1_of_1 rfl (lv_at hl 1 rfl) ?_
  obtain ⟨g2, hf⟩ := gd_some hf
  obtain ⟨v2, s2, h2, hf⟩ := ob_some hf
  refine aw_dV1 (r := o) (As := [.int x1]) (rest := []) (ct_X1_isOne l G a o x1 s v2 s2 h2) hC hW hl.1 vy_X1_isOne (Or.inl q848) g2 rfl rfl rfl rfl (Nat.le_of_ble_eq_true rfl) ⟨Nat.le_of_ble_eq_true rfl, Nat.le_of_ble_eq_true rfl⟩ ⟨Nat.le_of_ble_eq_true rfl, Nat.le_of_ble_eq_true rfl⟩ dX1_of_2 (fun H locs hW => ?_)
  refine lv_if_ne (tgt := 16) hx hb dX1_of_5 (by decide) (fun c5 => ?_) (fun c5 => ?_)
  · have hf := ifn c5 hf
    refine lv_iload_n hx hb dX1_of_16 rfl (lv_at hl 2 rfl) ?_
    by_cases c17 : x2 = 0
    · have hf := ifp c17 hf
      refine lv_tableIn (tgt := 64) hx hb dX1_of_17 (by rw [c17]; decide) (by rw [c17]; decide) (by rw [c17]; rfl) (by decide) ?_
      refine lv_aload_n hx hb dX1_of_64 rfl (lv_at hl 0 rfl) ?_
      obtain ⟨g65, hf⟩ := gd_some hf
      obtain ⟨q65, hq65, hf⟩ := bi_some hf
      refine aw_gR hC hW g65 fl_X1_18 rfl hq65 dX1_of_65 ?_
      obtain ⟨g68, hf⟩ := gd_some hf
      obtain ⟨q68, hq68, hf⟩ := bi_some hf
      refine aw_gR hC hW g68 fl_X1_236 rfl hq68 dX1_of_68 ?_
      refine lv_iload_n hx hb dX1_of_71 rfl (lv_at hl 1 rfl) ?_
      obtain ⟨g72, hf⟩ := gd_some hf
      refine aw_iald hC hW g72 dX1_of_72 ?_
      obtain ⟨e1, e2⟩ := so_inj hf
      exact aw_iret hC hW hr rfl (p_eq hP (congrArg (fun z => some (Value.int z)) e1) e2) (Nat.le_of_ble_eq_true rfl) (Nat.le_of_ble_eq_true rfl) dX1_of_73
    have hf := ifn c17 hf
    by_cases c17_1 : x2 = 1
    · have hf := ifp c17_1 hf
      refine lv_tableIn (tgt := 74) hx hb dX1_of_17 (by rw [c17_1]; decide) (by rw [c17_1]; decide) (by rw [c17_1]; rfl) (by decide) ?_
      refine lv_aload_n hx hb dX1_of_74 rfl (lv_at hl 0 rfl) ?_
      obtain ⟨g75, hf⟩ := gd_some hf
      obtain ⟨q75, hq75, hf⟩ := bi_some hf
      refine aw_gR hC hW g75 fl_X1_11 rfl hq75 dX1_of_75 ?_
      refine lv_iload_n hx hb dX1_of_78 rfl (lv_at hl 1 rfl) ?_
      obtain ⟨g79, hf⟩ := gd_some hf
      obtain ⟨q79, hq79, hf⟩ := bi_some hf
      refine aw_aald (j := 0) hC hW (by decide) g79 hq79 dX1_of_79 ?_
      obtain ⟨g80, hf⟩ := gd_some hf
      refine aw_gI hC hW g80 fl_X1_211 rfl dX1_of_80 ?_
      obtain ⟨e1, e2⟩ := so_inj hf
      exact aw_iret hC hW hr rfl (p_eq hP (congrArg (fun z => some (Value.int z)) e1) e2) (Nat.le_of_ble_eq_true rfl) (Nat.le_of_ble_eq_true rfl) dX1_of_83
    have hf := ifn c17_1 hf
    by_cases c17_2 : x2 = 2
    · have hf := ifp c17_2 hf
      refine lv_tableIn (tgt := 84) hx hb dX1_of_17 (by rw [c17_2]; decide) (by rw [c17_2]; decide) (by rw [c17_2]; rfl) (by decide) ?_
      refine lv_aload_n hx hb dX1_of_84 rfl (lv_at hl 0 rfl) ?_
      obtain ⟨g85, hf⟩ := gd_some hf
      obtain ⟨q85, hq85, hf⟩ := bi_some hf
      refine aw_gR hC hW g85 fl_X1_11 rfl hq85 dX1_of_85 ?_
      refine lv_iload_n hx hb dX1_of_88 rfl (lv_at hl 1 rfl) ?_
      obtain ⟨g89, hf⟩ := gd_some hf
      obtain ⟨q89, hq89, hf⟩ := bi_some hf
      refine aw_aald (j := 0) hC hW (by decide) g89 hq89 dX1_of_89 ?_
      obtain ⟨g90, hf⟩ := gd_some hf
      refine aw_gI hC hW g90 fl_X1_214 rfl dX1_of_90 ?_
      obtain ⟨e1, e2⟩ := so_inj hf
      exact aw_iret hC hW hr rfl (p_eq hP (congrArg (fun z => some (Value.int z)) e1) e2) (Nat.le_of_ble_eq_true rfl) (Nat.le_of_ble_eq_true rfl) dX1_of_93
    have hf := ifn c17_2 hf
    by_cases c17_3 : x2 = 3
    · have hf := ifp c17_3 hf
      refine lv_tableIn (tgt := 94) hx hb dX1_of_17 (by rw [c17_3]; decide) (by rw [c17_3]; decide) (by rw [c17_3]; rfl) (by decide) ?_
      refine lv_aload_n hx hb dX1_of_94 rfl (lv_at hl 0 rfl) ?_
      obtain ⟨g95, hf⟩ := gd_some hf
      obtain ⟨q95, hq95, hf⟩ := bi_some hf
      refine aw_gR hC hW g95 fl_X1_18 rfl hq95 dX1_of_95 ?_
      obtain ⟨g98, hf⟩ := gd_some hf
      refine aw_gI hC hW g98 fl_X1_168 rfl dX1_of_98 ?_
      refine lv_iload_n hx hb dX1_of_101 rfl (lv_at hl 1 rfl) ?_
      obtain ⟨v102, ev102, hf⟩ := bnd_some hf
      refine aw_dS1 (As := [.int (gi s2 q95 6), .int x1]) (rest := []) (pc_X1_has l G a (gi s2 q95 6) x1 s2) hC hW hl.1 sy_X1_has (Or.inl q930) rfl rfl (Nat.le_of_ble_eq_true rfl) ⟨Nat.le_of_ble_eq_true rfl, Nat.le_of_ble_eq_true rfl⟩ ⟨Nat.le_of_ble_eq_true rfl, Nat.le_of_ble_eq_true rfl⟩ dX1_of_102 (fun H locs hW => ?_)
      refine top_i ev102 ?_
      refine lv_if_eq (tgt := 112) hx hb dX1_of_105 (by decide) (fun c105 => ?_) (fun c105 => ?_)
      · have hf := ifp c105 hf
        refine lv_iconst (v := 0) hx hb dX1_of_112 (by decide) ?_
        obtain ⟨e1, e2⟩ := so_inj hf
        exact aw_iret hC hW hr rfl (p_eq hP (congrArg (fun z => some (Value.int z)) e1) e2) (Nat.le_of_ble_eq_true rfl) (Nat.le_of_ble_eq_true rfl) dX1_of_113
      · have hf := ifn c105 hf
        refine lv_iconst (v := 1) hx hb dX1_of_108 (by decide) ?_
        refine lv_goto (tgt := 113) hx hb dX1_of_109 (by decide) ?_
        obtain ⟨e1, e2⟩ := so_inj hf
        exact aw_iret hC hW hr rfl (p_eq hP (congrArg (fun z => some (Value.int z)) e1) e2) (Nat.le_of_ble_eq_true rfl) (Nat.le_of_ble_eq_true rfl) dX1_of_113
    have hf := ifn c17_3 hf
    by_cases c17_4 : x2 = 4
    · have hf := ifp c17_4 hf
      refine lv_tableIn (tgt := 114) hx hb dX1_of_17 (by rw [c17_4]; decide) (by rw [c17_4]; decide) (by rw [c17_4]; rfl) (by decide) ?_
      refine lv_aload_n hx hb dX1_of_114 rfl (lv_at hl 0 rfl) ?_
      obtain ⟨g115, hf⟩ := gd_some hf
      obtain ⟨q115, hq115, hf⟩ := bi_some hf
      refine aw_gR hC hW g115 fl_X1_18 rfl hq115 dX1_of_115 ?_
      obtain ⟨g118, hf⟩ := gd_some hf
      obtain ⟨q118, hq118, hf⟩ := bi_some hf
      refine aw_gR hC hW g118 fl_X1_239 rfl hq118 dX1_of_118 ?_
      refine lv_iload_n hx hb dX1_of_121 rfl (lv_at hl 1 rfl) ?_
      obtain ⟨g122, hf⟩ := gd_some hf
      refine aw_iald hC hW g122 dX1_of_122 ?_
      obtain ⟨e1, e2⟩ := so_inj hf
      exact aw_iret hC hW hr rfl (p_eq hP (congrArg (fun z => some (Value.int z)) e1) e2) (Nat.le_of_ble_eq_true rfl) (Nat.le_of_ble_eq_true rfl) dX1_of_123
    have hf := ifn c17_4 hf
    by_cases c17_5 : x2 = 5
    · have hf := ifp c17_5 hf
      refine lv_tableIn (tgt := 124) hx hb dX1_of_17 (by rw [c17_5]; decide) (by rw [c17_5]; decide) (by rw [c17_5]; rfl) (by decide) ?_
      refine lv_aload_n hx hb dX1_of_124 rfl (lv_at hl 0 rfl) ?_
      refine lv_aload_n hx hb dX1_of_125 rfl (lv_at hl 0 rfl) ?_
      obtain ⟨g126, hf⟩ := gd_some hf
      obtain ⟨q126, hq126, hf⟩ := bi_some hf
      refine aw_gR hC hW g126 fl_X1_18 rfl hq126 dX1_of_126 ?_
      obtain ⟨g129, hf⟩ := gd_some hf
      obtain ⟨q129, hq129, hf⟩ := bi_some hf
      refine aw_gR hC hW g129 fl_X1_236 rfl hq129 dX1_of_129 ?_
      refine lv_iload_n hx hb dX1_of_132 rfl (lv_at hl 1 rfl) ?_
      obtain ⟨g133, hf⟩ := gd_some hf
      refine aw_iald hC hW g133 dX1_of_133 ?_
      obtain ⟨v134, s134, h134, hf⟩ := ob_some hf
      refine aw_dV1 (r := o) (As := [.int (gi s2 q129 (x1 : Int32).toNatClampNeg)]) (rest := []) (ct_X1_shows l G a o (gi s2 q129 (x1 : Int32).toNatClampNeg) s2 v134 s134 h134) hC hW hl.1 vy_X1_shows (Or.inl q997) g126 rfl rfl rfl rfl (Nat.le_of_ble_eq_true rfl) ⟨Nat.le_of_ble_eq_true rfl, Nat.le_of_ble_eq_true rfl⟩ ⟨Nat.le_of_ble_eq_true rfl, Nat.le_of_ble_eq_true rfl⟩ dX1_of_134 (fun H locs hW => ?_)
      obtain ⟨e1, e2⟩ := so_inj hf
      exact aw_iret hC hW hr rfl (p_eq hP (congrArg (fun z => some (Value.int z)) e1) e2) (Nat.le_of_ble_eq_true rfl) (Nat.le_of_ble_eq_true rfl) dX1_of_137
    have hf := ifn c17_5 hf
    by_cases c17_6 : x2 = 6
    · have hf := ifp c17_6 hf
      refine lv_tableIn (tgt := 138) hx hb dX1_of_17 (by rw [c17_6]; decide) (by rw [c17_6]; decide) (by rw [c17_6]; rfl) (by decide) ?_
      refine lv_aload_n hx hb dX1_of_138 rfl (lv_at hl 0 rfl) ?_
      refine lv_aload_n hx hb dX1_of_139 rfl (lv_at hl 0 rfl) ?_
      obtain ⟨g140, hf⟩ := gd_some hf
      obtain ⟨q140, hq140, hf⟩ := bi_some hf
      refine aw_gR hC hW g140 fl_X1_18 rfl hq140 dX1_of_140 ?_
      refine lv_iload_n hx hb dX1_of_143 rfl (lv_at hl 1 rfl) ?_
      obtain ⟨v144, s144, h144, hf⟩ := ob_some hf
      refine aw_dV1 (r := o) (As := [.ref (a q140), .int x1]) (rest := []) (ct_X1_willOf l G a o q140 x1 s2 v144 s144 h144) hC hW hl.1 vy_X1_willOf (Or.inl q1254) g140 rfl rfl rfl rfl (Nat.le_of_ble_eq_true rfl) ⟨Nat.le_of_ble_eq_true rfl, Nat.le_of_ble_eq_true rfl⟩ ⟨Nat.le_of_ble_eq_true rfl, Nat.le_of_ble_eq_true rfl⟩ dX1_of_144 (fun H locs hW => ?_)
      obtain ⟨e1, e2⟩ := so_inj hf
      exact aw_iret hC hW hr rfl (p_eq hP (congrArg (fun z => some (Value.int z)) e1) e2) (Nat.le_of_ble_eq_true rfl) (Nat.le_of_ble_eq_true rfl) dX1_of_147
    have hf := ifn c17_6 hf
    by_cases c17_7 : x2 = 7
    · have hf := ifp c17_7 hf
      refine lv_tableIn (tgt := 148) hx hb dX1_of_17 (by rw [c17_7]; decide) (by rw [c17_7]; decide) (by rw [c17_7]; rfl) (by decide) ?_
      refine lv_aload_n hx hb dX1_of_148 rfl (lv_at hl 0 rfl) ?_
      obtain ⟨g149, hf⟩ := gd_some hf
      obtain ⟨q149, hq149, hf⟩ := bi_some hf
      refine aw_gR hC hW g149 fl_X1_11 rfl hq149 dX1_of_149 ?_
      refine lv_iload_n hx hb dX1_of_152 rfl (lv_at hl 1 rfl) ?_
      obtain ⟨g153, hf⟩ := gd_some hf
      obtain ⟨q153, hq153, hf⟩ := bi_some hf
      refine aw_aald (j := 0) hC hW (by decide) g153 hq153 dX1_of_153 ?_
      obtain ⟨g154, hf⟩ := gd_some hf
      refine aw_gI hC hW g154 fl_X1_270 rfl dX1_of_154 ?_
      obtain ⟨e1, e2⟩ := so_inj hf
      exact aw_iret hC hW hr rfl (p_eq hP (congrArg (fun z => some (Value.int z)) e1) e2) (Nat.le_of_ble_eq_true rfl) (Nat.le_of_ble_eq_true rfl) dX1_of_157
    have hf := ifn c17_7 hf
    have zc17 := lv_neT (a := 0) c17 (by decide)
    have zc17_1 := lv_neT (a := 1) c17_1 (by decide)
    have zc17_2 := lv_neT (a := 2) c17_2 (by decide)
    have zc17_3 := lv_neT (a := 3) c17_3 (by decide)
    have zc17_4 := lv_neT (a := 4) c17_4 (by decide)
    have zc17_5 := lv_neT (a := 5) c17_5 (by decide)
    have zc17_6 := lv_neT (a := 6) c17_6 (by decide)
    have zc17_7 := lv_neT (a := 7) c17_7 (by decide)
    refine lv_tableOut (tgt := 158) hx hb dX1_of_17 (by omega) (by decide) ?_
    cases hf
  · have hf := ifp c5 hf
    cases hf
