set_option maxRecDepth 100000
def f_X14_worked_b78 (t0 : Int32) (s : ST) : Option (Int32 × ST) :=
  bnd (p_flag t0) fun v78 =>
  some (v78, s)
def f_X14_worked_b64 (t0 : Int32) (s : ST) : Option (Int32 × ST) :=
  bnd (p_flag t0) fun v64 =>
  some (v64, s)
def f_X14_worked_b50 (t0 : Int32) (s : ST) : Option (Int32 × ST) :=
  bnd (p_flag t0) fun v50 =>
  some (v50, s)
def f_X14_worked (x0 : Int32) (x1 : Int32) (x2 : Int32) (s : ST) : Option (Int32 × ST) :=
  if x0 = 0 then (if x2 ≤ x1 then (f_X14_worked_b50 0 s) else f_X14_worked_b50 1 s) else
  if x0 = 1 then (if x1 ≤ x2 then (f_X14_worked_b64 0 s) else f_X14_worked_b64 1 s) else
  if x0 = 2 then (if x1 = x2 then (f_X14_worked_b78 1 s) else f_X14_worked_b78 0 s) else
  if x0 = 3 then (some ((x1 + x2), s)) else
  if x0 = 4 then (some ((x1 - x2), s)) else
  if x0 = 5 then (some ((x1 * x2), s)) else
  if x2 = 0 then (some (0, s)) else gd (¬ x2 = 0) <|
  some ((x1 / x2), s)
set_option maxHeartbeats 4000000 in
theorem ct_X14_worked (l : Launch) (G : GM) (a : Nat → Nat) (x0 : Int32) (x1 : Int32) (x2 : Int32) (s : ST) (rv : Int32) (sf : ST) (hf : f_X14_worked x0 x1 x2 s = some (rv, sf)) : MD l G yX14_worked (ws_ yX14_worked cX14_worked 3 (some .int)) 1 [.int x0, .int x1, .int x2] a s (some (.int rv)) sf := by
  refine md_of (d := 1) (lv := [(0, .int x0), (1, .int x1), (2, .int x2)]) (Or.inl (by decide)) (Nat.le_of_ble_eq_true rfl) rfl ?_
  intro p e s0 m args below meth c ls A P hP hC hr hnm hW hl
  have hx := hC.1
  have hb := hC.2.1
  have hts := hC.2.2.2.2.1
  have B78 : ∀ (t0 : Int32) (s : ST), f_X14_worked_b78 t0 s = some (rv, sf) → ∀ (H : Heap) (locs : List Loc) (ls : Array Slot), lv_has ls 3 [] → AW G a A s s0.heap H locs → WB p l e (rmD 1) s0 m args below meth c H locs G A P 78 ls [.int t0] := by
    intro t0 s hf H locs ls hl hW
    unfold f_X14_worked_b78 at hf
    obtain ⟨v78, ev78, hf⟩ := bnd_some hf
    refine aw_dS1 (As := [.int t0]) (rest := []) (pc_X14_flag l G a t0 s) hC hW hl.1 sy_X14_flag (Or.inl q1544) rfl rfl (Nat.le_of_ble_eq_true rfl) ⟨Nat.le_of_ble_eq_true rfl, Nat.le_of_ble_eq_true rfl⟩ ⟨Nat.le_of_ble_eq_true rfl, Nat.le_of_ble_eq_true rfl⟩ dX14_worked_78 (fun H locs hW => ?_)
    refine top_i ev78 ?_
    obtain ⟨e1, e2⟩ := so_inj hf
    exact aw_iret hC hW hr rfl (p_eq hP (congrArg (fun z => some (Value.int z)) e1) e2) (Nat.le_of_ble_eq_true rfl) (Nat.le_of_ble_eq_true rfl) dX14_worked_81
  have B64 : ∀ (t0 : Int32) (s : ST), f_X14_worked_b64 t0 s = some (rv, sf) → ∀ (H : Heap) (locs : List Loc) (ls : Array Slot), lv_has ls 3 [] → AW G a A s s0.heap H locs → WB p l e (rmD 1) s0 m args below meth c H locs G A P 64 ls [.int t0] := by
    intro t0 s hf H locs ls hl hW
    unfold f_X14_worked_b64 at hf
    obtain ⟨v64, ev64, hf⟩ := bnd_some hf
    refine aw_dS1 (As := [.int t0]) (rest := []) (pc_X14_flag l G a t0 s) hC hW hl.1 sy_X14_flag (Or.inl q1544) rfl rfl (Nat.le_of_ble_eq_true rfl) ⟨Nat.le_of_ble_eq_true rfl, Nat.le_of_ble_eq_true rfl⟩ ⟨Nat.le_of_ble_eq_true rfl, Nat.le_of_ble_eq_true rfl⟩ dX14_worked_64 (fun H locs hW => ?_)
    refine top_i ev64 ?_
    obtain ⟨e1, e2⟩ := so_inj hf
    exact aw_iret hC hW hr rfl (p_eq hP (congrArg (fun z => some (Value.int z)) e1) e2) (Nat.le_of_ble_eq_true rfl) (Nat.le_of_ble_eq_true rfl) dX14_worked_67
  have B50 : ∀ (t0 : Int32) (s : ST), f_X14_worked_b50 t0 s = some (rv, sf) → ∀ (H : Heap) (locs : List Loc) (ls : Array Slot), lv_has ls 3 [] → AW G a A s s0.heap H locs → WB p l e (rmD 1) s0 m args below meth c H locs G A P 50 ls [.int t0] := by
    intro t0 s hf H locs ls hl hW
    unfold f_X14_worked_b50 at hf
    obtain ⟨v50, ev50, hf⟩ := bnd_some hf
    refine aw_dS1 (As := [.int t0]) (rest := []) (pc_X14_flag l G a t0 s) hC hW hl.1 sy_X14_flag (Or.inl q1544) rfl rfl (Nat.le_of_ble_eq_true rfl) ⟨Nat.le_of_ble_eq_true rfl, Nat.le_of_ble_eq_true rfl⟩ ⟨Nat.le_of_ble_eq_true rfl, Nat.le_of_ble_eq_true rfl⟩ dX14_worked_50 (fun H locs hW => ?_)
    refine top_i ev50 ?_
    obtain ⟨e1, e2⟩ := so_inj hf
    exact aw_iret hC hW hr rfl (p_eq hP (congrArg (fun z => some (Value.int z)) e1) e2) (Nat.le_of_ble_eq_true rfl) (Nat.le_of_ble_eq_true rfl) dX14_worked_53
  unfold f_X14_worked at hf
  refine lv_iload_n hx hb dX14_worked_0 rfl (lv_at hl 0 rfl) ?_
  by_cases c1 : x0 = 0
  · have hf := ifp c1 hf
    refine lv_tableIn (tgt := 40) hx hb dX14_worked_1 (by rw [c1]; decide) (by rw [c1]; decide) (by rw [c1]; rfl) (by decide) ?_
    refine lv_iload_n hx hb dX14_worked_40 rfl (lv_at hl 1 rfl) ?_
    refine lv_iload_n hx hb dX14_worked_41 rfl (lv_at hl 2 rfl) ?_
    refine lv_icmp_ge (tgt := 49) hx hb dX14_worked_42 (by decide) (fun c42 => ?_) (fun c42 => ?_)
    · have hf := ifp c42 hf
      refine lv_iconst (v := 0) hx hb dX14_worked_49 (by decide) ?_
      exact B50 0 s hf _ _ _ (lv_sub hl [] rfl) hW
    · have hf := ifn c42 hf
      refine lv_iconst (v := 1) hx hb dX14_worked_45 (by decide) ?_
      refine lv_goto (tgt := 50) hx hb dX14_worked_46 (by decide) ?_
      exact B50 1 s hf _ _ _ (lv_sub hl [] rfl) hW
  have hf := ifn c1 hf
  by_cases c1_1 : x0 = 1
  · have hf := ifp c1_1 hf
    refine lv_tableIn (tgt := 54) hx hb dX14_worked_1 (by rw [c1_1]; decide) (by rw [c1_1]; decide) (by rw [c1_1]; rfl) (by decide) ?_
    refine lv_iload_n hx hb dX14_worked_54 rfl (lv_at hl 1 rfl) ?_
    refine lv_iload_n hx hb dX14_worked_55 rfl (lv_at hl 2 rfl) ?_
    refine lv_icmp_le (tgt := 63) hx hb dX14_worked_56 (by decide) (fun c56 => ?_) (fun c56 => ?_)
    · have hf := ifp c56 hf
      refine lv_iconst (v := 0) hx hb dX14_worked_63 (by decide) ?_
      exact B64 0 s hf _ _ _ (lv_sub hl [] rfl) hW
    · have hf := ifn c56 hf
      refine lv_iconst (v := 1) hx hb dX14_worked_59 (by decide) ?_
      refine lv_goto (tgt := 64) hx hb dX14_worked_60 (by decide) ?_
      exact B64 1 s hf _ _ _ (lv_sub hl [] rfl) hW
  have hf := ifn c1_1 hf
  by_cases c1_2 : x0 = 2
  · have hf := ifp c1_2 hf
    refine lv_tableIn (tgt := 68) hx hb dX14_worked_1 (by rw [c1_2]; decide) (by rw [c1_2]; decide) (by rw [c1_2]; rfl) (by decide) ?_
    refine lv_iload_n hx hb dX14_worked_68 rfl (lv_at hl 1 rfl) ?_
    refine lv_iload_n hx hb dX14_worked_69 rfl (lv_at hl 2 rfl) ?_
    refine lv_icmp_ne (tgt := 77) hx hb dX14_worked_70 (by decide) (fun c70 => ?_) (fun c70 => ?_)
    · have hf := ifn c70 hf
      refine lv_iconst (v := 0) hx hb dX14_worked_77 (by decide) ?_
      exact B78 0 s hf _ _ _ (lv_sub hl [] rfl) hW
    · have hf := ifp c70 hf
      refine lv_iconst (v := 1) hx hb dX14_worked_73 (by decide) ?_
      refine lv_goto (tgt := 78) hx hb dX14_worked_74 (by decide) ?_
      exact B78 1 s hf _ _ _ (lv_sub hl [] rfl) hW
  have hf := ifn c1_2 hf
  by_cases c1_3 : x0 = 3
  · have hf := ifp c1_3 hf
    refine lv_tableIn (tgt := 82) hx hb dX14_worked_1 (by rw [c1_3]; decide) (by rw [c1_3]; decide) (by rw [c1_3]; rfl) (by decide) ?_
    refine lv_iload_n hx hb dX14_worked_82 rfl (lv_at hl 1 rfl) ?_
    refine lv_iload_n hx hb dX14_worked_83 rfl (lv_at hl 2 rfl) ?_
    refine lv_iadd hx hb dX14_worked_84 ?_
    obtain ⟨e1, e2⟩ := so_inj hf
    exact aw_iret hC hW hr rfl (p_eq hP (congrArg (fun z => some (Value.int z)) e1) e2) (Nat.le_of_ble_eq_true rfl) (Nat.le_of_ble_eq_true rfl) dX14_worked_85
  have hf := ifn c1_3 hf
  by_cases c1_4 : x0 = 4
  · have hf := ifp c1_4 hf
    refine lv_tableIn (tgt := 86) hx hb dX14_worked_1 (by rw [c1_4]; decide) (by rw [c1_4]; decide) (by rw [c1_4]; rfl) (by decide) ?_
    refine lv_iload_n hx hb dX14_worked_86 rfl (lv_at hl 1 rfl) ?_
    refine lv_iload_n hx hb dX14_worked_87 rfl (lv_at hl 2 rfl) ?_
    refine lv_isub hx hb dX14_worked_88 ?_
    obtain ⟨e1, e2⟩ := so_inj hf
    exact aw_iret hC hW hr rfl (p_eq hP (congrArg (fun z => some (Value.int z)) e1) e2) (Nat.le_of_ble_eq_true rfl) (Nat.le_of_ble_eq_true rfl) dX14_worked_89
  have hf := ifn c1_4 hf
  by_cases c1_5 : x0 = 5
  · have hf := ifp c1_5 hf
    refine lv_tableIn (tgt := 90) hx hb dX14_worked_1 (by rw [c1_5]; decide) (by rw [c1_5]; decide) (by rw [c1_5]; rfl) (by decide) ?_
    refine lv_iload_n hx hb dX14_worked_90 rfl (lv_at hl 1 rfl) ?_
    refine lv_iload_n hx hb dX14_worked_91 rfl (lv_at hl 2 rfl) ?_
    refine lv_imul hx hb dX14_worked_92 ?_
    obtain ⟨e1, e2⟩ := so_inj hf
    exact aw_iret hC hW hr rfl (p_eq hP (congrArg (fun z => some (Value.int z)) e1) e2) (Nat.le_of_ble_eq_true rfl) (Nat.le_of_ble_eq_true rfl) dX14_worked_93
  have hf := ifn c1_5 hf
  have zc1 := lv_neT (a := 0) c1 (by decide)
  have zc1_1 := lv_neT (a := 1) c1_1 (by decide)
  have zc1_2 := lv_neT (a := 2) c1_2 (by decide)
  have zc1_3 := lv_neT (a := 3) c1_3 (by decide)
  have zc1_4 := lv_neT (a := 4) c1_4 (by decide)
  have zc1_5 := lv_neT (a := 5) c1_5 (by decide)
  refine lv_tableOut (tgt := 94) hx hb dX14_worked_1 (by omega) (by decide) ?_
  refine lv_iload_n hx hb dX14_worked_94 rfl (lv_at hl 2 rfl) ?_
  refine lv_if_ne (tgt := 102) hx hb dX14_worked_95 (by decide) (fun c95 => ?_) (fun c95 => ?_)
  · have hf := ifn c95 hf
    refine lv_iload_n hx hb dX14_worked_102 rfl (lv_at hl 1 rfl) ?_
    refine lv_iload_n hx hb dX14_worked_103 rfl (lv_at hl 2 rfl) ?_
    obtain ⟨g104, hf⟩ := gd_some hf
    refine lv_idiv hx hb dX14_worked_104 g104 ?_
    obtain ⟨e1, e2⟩ := so_inj hf
    exact aw_iret hC hW hr rfl (p_eq hP (congrArg (fun z => some (Value.int z)) e1) e2) (Nat.le_of_ble_eq_true rfl) (Nat.le_of_ble_eq_true rfl) dX14_worked_105
  · have hf := ifp c95 hf
    refine lv_iconst (v := 0) hx hb dX14_worked_98 (by decide) ?_
    refine lv_goto (tgt := 105) hx hb dX14_worked_99 (by decide) ?_
    obtain ⟨e1, e2⟩ := so_inj hf
    exact aw_iret hC hW hr rfl (p_eq hP (congrArg (fun z => some (Value.int z)) e1) e2) (Nat.le_of_ble_eq_true rfl) (Nat.le_of_ble_eq_true rfl) dX14_worked_105
def f_X14_holding_b27 (K4 : Nat → Int32 → Int32 → ST → Option (Int32 × ST)) (r1 : Nat) (x3 : Int32) (t0 : Int32) (t1 : Int32) (s : ST) : Option (Int32 × ST) :=
  bnd (p_flag t0) fun v27 =>
  bnd ((t1 + v27) : Int32) fun v31 =>
  bnd (x3 + 1 : Int32) fun v32 =>
  K4 r1 v31 v32 s
def f_X14_holding_b4 : Nat → Nat → Int32 → Int32 → ST → Option (Int32 × ST)
  | 0, _, _, _, _ => none
  | n + 1, r1, x2, x3, s =>
  gd (r1 < s.1 ∧ (kd s r1).1 = 100 ∧ ¬ ((20 : Int32) < 0 ∨ (kd s r1).2 ≤ (20 : Int32).toNatClampNeg)) <|
  if (gi s r1 (20 : Int32).toNatClampNeg) ≤ x3 then (some (x2, s)) else gd (r1 < s.1 ∧ (kd s r1).1 = 100 ∧ ¬ (((45 + x3) : Int32) < 0 ∨ (kd s r1).2 ≤ ((45 + x3) : Int32).toNatClampNeg)) <|
  if 0 ≤ (gi s r1 ((45 + x3) : Int32).toNatClampNeg) then (f_X14_holding_b27 (f_X14_holding_b4 n) r1 x3 0 x2 s) else f_X14_holding_b27 (f_X14_holding_b4 n) r1 x3 1 x2 s
def f_X14_holding (o : Nat) (r1 : Nat) (s : ST) : Option (Int32 × ST) :=
  f_X14_holding_b4 fuel r1 0 0 s
set_option maxHeartbeats 4000000 in
theorem ct_X14_holding (l : Launch) (G : GM) (a : Nat → Nat) (o : Nat) (r1 : Nat) (s : ST) (rv : Int32) (sf : ST) (hf : f_X14_holding o r1 s = some (rv, sf)) : MD l G yX14_holding (ws_ yX14_holding cX14_holding 4 (some .int)) 1 [.ref (a o), .ref (a r1)] a s (some (.int rv)) sf := by
  refine md_of (d := 1) (lv := [(0, .ref (a o)), (1, .ref (a r1))]) (Or.inl (by decide)) (Nat.le_of_ble_eq_true rfl) rfl ?_
  intro p e s0 m args below meth c ls A P hP hC hr hnm hW hl
  have hx := hC.1
  have hb := hC.2.1
  have hts := hC.2.2.2.2.1
  have B27 : ∀ (K4 : Nat → Int32 → Int32 → ST → Option (Int32 × ST)) (hK4 : ∀ (r1 : Nat) (x2 : Int32) (x3 : Int32) (s : ST), K4 r1 x2 x3 s = some (rv, sf) → ∀ (H : Heap) (locs : List Loc) (ls : Array Slot), lv_has ls 4 [(1, .ref (a r1)), (2, .int x2), (3, .int x3)] → AW G a A s s0.heap H locs → WB p l e (rmD 1) s0 m args below meth c H locs G A P 4 ls []), ∀ (r1 : Nat) (x3 : Int32) (t0 : Int32) (t1 : Int32) (s : ST), f_X14_holding_b27 K4 r1 x3 t0 t1 s = some (rv, sf) → ∀ (H : Heap) (locs : List Loc) (ls : Array Slot), lv_has ls 4 [(1, .ref (a r1)), (3, .int x3)] → AW G a A s s0.heap H locs → WB p l e (rmD 1) s0 m args below meth c H locs G A P 27 ls [.int t0, .int t1] := by
    intro K4 hK4 r1 x3 t0 t1 s hf H locs ls hl hW
    unfold f_X14_holding_b27 at hf
    obtain ⟨v27, ev27, hf⟩ := bnd_some hf
    refine aw_dS1 (As := [.int t0]) (rest := [.int t1]) (pc_X14_flag l G a t0 s) hC hW hl.1 sy_X14_flag (Or.inl q1544) rfl rfl (Nat.le_of_ble_eq_true rfl) ⟨Nat.le_of_ble_eq_true rfl, Nat.le_of_ble_eq_true rfl⟩ ⟨Nat.le_of_ble_eq_true rfl, Nat.le_of_ble_eq_true rfl⟩ dX14_holding_27 (fun H locs hW => ?_)
    refine top_i ev27 ?_
    refine lv_iadd hx hb dX14_holding_30 ?_
    obtain ⟨v31, ev31, hf⟩ := bnd_some hf
    refine top_i ev31 ?_
    refine lv_istore_n (lv' := [(2, .int v31), (1, .ref (a r1)), (3, .int x3)]) hx hb dX14_holding_31 rfl hl (by decide) rfl (fun ls hl => ?_)
    obtain ⟨v32, ev32, hf⟩ := bnd_some hf
    refine lv_iinc (v := v32) (lv' := [(3, .int v32), (2, .int v31), (1, .ref (a r1))]) hx hb dX14_holding_32 hl (k := 2) rfl (by rw [ev32]; rfl) (by decide) rfl (fun ls hl => ?_)
    refine lv_goto (tgt := 4) hx hb dX14_holding_35 (by decide) ?_
    exact hK4 r1 v31 v32 s hf _ _ _ (lv_sub hl [2, 1, 0] rfl) hW
  have B4 : ∀ (n : Nat), ∀ (r1 : Nat) (x2 : Int32) (x3 : Int32) (s : ST), f_X14_holding_b4 n r1 x2 x3 s = some (rv, sf) → ∀ (H : Heap) (locs : List Loc) (ls : Array Slot), lv_has ls 4 [(1, .ref (a r1)), (2, .int x2), (3, .int x3)] → AW G a A s s0.heap H locs → WB p l e (rmD 1) s0 m args below meth c H locs G A P 4 ls [] := by
    intro n
    induction n with
    | zero => intro r1 x2 x3 s hf; cases hf
    | succ n ih =>
      intro r1 x2 x3 s hf H locs ls hl hW
      rw [f_X14_holding_b4] at hf
      refine lv_iload_n hx hb dX14_holding_4 rfl (lv_at hl 2 rfl) ?_
      refine lv_aload_n hx hb dX14_holding_5 rfl (lv_at hl 0 rfl) ?_
      refine lv_bipush (v := 20) hx hb dX14_holding_6 (by decide) ?_
      obtain ⟨g8, hf⟩ := gd_some hf
      refine aw_iald hC hW g8 dX14_holding_8 ?_
      refine lv_icmp_ge (tgt := 38) hx hb dX14_holding_9 (by decide) (fun c9 => ?_) (fun c9 => ?_)
      · have hf := ifp c9 hf
        refine lv_iload_n hx hb dX14_holding_38 rfl (lv_at hl 1 rfl) ?_
        obtain ⟨e1, e2⟩ := so_inj hf
        exact aw_iret hC hW hr rfl (p_eq hP (congrArg (fun z => some (Value.int z)) e1) e2) (Nat.le_of_ble_eq_true rfl) (Nat.le_of_ble_eq_true rfl) dX14_holding_39
      · have hf := ifn c9 hf
        refine lv_iload_n hx hb dX14_holding_12 rfl (lv_at hl 1 rfl) ?_
        refine lv_aload_n hx hb dX14_holding_13 rfl (lv_at hl 0 rfl) ?_
        refine lv_bipush (v := 45) hx hb dX14_holding_14 (by decide) ?_
        refine lv_iload_n hx hb dX14_holding_16 rfl (lv_at hl 2 rfl) ?_
        refine lv_iadd hx hb dX14_holding_17 ?_
        obtain ⟨g18, hf⟩ := gd_some hf
        refine aw_iald hC hW g18 dX14_holding_18 ?_
        refine lv_if_ge (tgt := 26) hx hb dX14_holding_19 (by decide) (fun c19 => ?_) (fun c19 => ?_)
        · have hf := ifp c19 hf
          refine lv_iconst (v := 0) hx hb dX14_holding_26 (by decide) ?_
          exact B27 (f_X14_holding_b4 n) ih r1 x3 0 x2 s hf _ _ _ (lv_sub hl [0, 2] rfl) hW
        · have hf := ifn c19 hf
          refine lv_iconst (v := 1) hx hb dX14_holding_22 (by decide) ?_
          refine lv_goto (tgt := 27) hx hb dX14_holding_23 (by decide) ?_
          exact B27 (f_X14_holding_b4 n) ih r1 x3 1 x2 s hf _ _ _ (lv_sub hl [0, 2] rfl) hW
  unfold f_X14_holding at hf
  refine lv_iconst (v := 0) hx hb dX14_holding_0 (by decide) ?_
  refine lv_istore_n (lv' := [(2, .int 0), (0, .ref (a o)), (1, .ref (a r1))]) hx hb dX14_holding_1 rfl hl (by decide) rfl (fun ls hl => ?_)
  refine lv_iconst (v := 0) hx hb dX14_holding_2 (by decide) ?_
  refine lv_istore_n (lv' := [(3, .int 0), (2, .int 0), (0, .ref (a o)), (1, .ref (a r1))]) hx hb dX14_holding_3 rfl hl (by decide) rfl (fun ls hl => ?_)
  exact B4 fuel r1 0 0 s hf _ _ _ (lv_sub hl [3, 1, 0] rfl) hW
def f_X14_thingOf (o : Nat) (r1 : Nat) (x2 : Int32) (x3 : Int32) (s : ST) : Option (Int32 × ST) :=
  gd (r1 < s.1 ∧ (kd s r1).1 = 100 ∧ ¬ ((17 : Int32) < 0 ∨ (kd s r1).2 ≤ (17 : Int32).toNatClampNeg)) <|
  bnd ((gi s r1 (17 : Int32).toNatClampNeg) : Int32) fun v4 =>
  if x3 = 0 then (some (x2, s)) else
  if x3 = 1 then (gd (r1 < s.1 ∧ (kd s r1).1 = 100 ∧ ¬ ((x2 : Int32) < 0 ∨ (kd s r1).2 ≤ (x2 : Int32).toNatClampNeg)) <|
  some ((gi s r1 (x2 : Int32).toNatClampNeg), s)) else
  if x3 = 2 then (gd (o < s.1 ∧ (kd s o).1 = 14) <|
  (gr s o 4).bind fun q59 =>
  gd (q59 < s.1 ∧ (kd s q59).1 = 100 ∧ ¬ ((x2 : Int32) < 0 ∨ (kd s q59).2 ≤ (x2 : Int32).toNatClampNeg)) <|
  some ((gi s q59 (x2 : Int32).toNatClampNeg), s)) else
  if x3 = 3 then (if 0 ≤ v4 then (gd (r1 < s.1 ∧ (kd s r1).1 = 100 ∧ ¬ ((v4 : Int32) < 0 ∨ (kd s r1).2 ≤ (v4 : Int32).toNatClampNeg)) <|
  some ((gi s r1 (v4 : Int32).toNatClampNeg), s)) else some (0, s)) else
  if x3 = 4 then (if 0 ≤ v4 then (gd (o < s.1 ∧ (kd s o).1 = 14) <|
  (gr s o 4).bind fun q89 =>
  gd (q89 < s.1 ∧ (kd s q89).1 = 100 ∧ ¬ ((v4 : Int32) < 0 ∨ (kd s q89).2 ≤ (v4 : Int32).toNatClampNeg)) <|
  some ((gi s q89 (v4 : Int32).toNatClampNeg), s)) else some ((-1), s)) else
  if x3 = 5 then (if 0 ≤ v4 then (gd (r1 < s.1 ∧ (kd s r1).1 = 100 ∧ ¬ ((18 : Int32) < 0 ∨ (kd s r1).2 ≤ (18 : Int32).toNatClampNeg)) <|
  some ((gi s r1 (18 : Int32).toNatClampNeg), s)) else some (0, s)) else
  if x3 = 6 then (gd (o < s.1 ∧ (kd s o).1 = 14) <|
  ob (f_X14_holding o r1 s) fun v112 s112 =>
  some (v112, s112)) else
  if x3 = 7 then (gd (r1 < s.1 ∧ (kd s r1).1 = 100 ∧ ¬ (((8 + x2) : Int32) < 0 ∨ (kd s r1).2 ≤ ((8 + x2) : Int32).toNatClampNeg)) <|
  some ((gi s r1 ((8 + x2) : Int32).toNatClampNeg), s)) else
  gd (r1 < s.1 ∧ (kd s r1).1 = 100 ∧ ¬ ((19 : Int32) < 0 ∨ (kd s r1).2 ≤ (19 : Int32).toNatClampNeg)) <|
  some ((gi s r1 (19 : Int32).toNatClampNeg), s)
set_option maxHeartbeats 4000000 in
theorem ct_X14_thingOf (l : Launch) (G : GM) (a : Nat → Nat) (o : Nat) (r1 : Nat) (x2 : Int32) (x3 : Int32) (s : ST) (rv : Int32) (sf : ST) (hf : f_X14_thingOf o r1 x2 x3 s = some (rv, sf)) : MD l G yX14_thingOf (ws_ yX14_thingOf cX14_thingOf 5 (some .int)) 2 [.ref (a o), .ref (a r1), .int x2, .int x3] a s (some (.int rv)) sf := by
  refine md_of (d := 2) (lv := [(0, .ref (a o)), (1, .ref (a r1)), (2, .int x2), (3, .int x3)]) (Or.inl (by decide)) (Nat.le_of_ble_eq_true rfl) rfl ?_
  intro p e s0 m args below meth c ls A P hP hC hr hnm hW hl
  have hx := hC.1
  have hb := hC.2.1
  have hts := hC.2.2.2.2.1
  unfold f_X14_thingOf at hf
  refine lv_aload_n hx hb dX14_thingOf_0 rfl (lv_at hl 1 rfl) ?_
  refine lv_bipush (v := 17) hx hb dX14_thingOf_1 (by decide) ?_
  obtain ⟨g3, hf⟩ := gd_some hf
  refine aw_iald hC hW g3 dX14_thingOf_3 ?_
  obtain ⟨v4, ev4, hf⟩ := bnd_some hf
  refine top_i ev4 ?_
  refine lv_istore (lv' := [(4, .int v4), (0, .ref (a o)), (1, .ref (a r1)), (2, .int x2), (3, .int x3)]) hx hb dX14_thingOf_4 hl (by decide) rfl (fun ls hl => ?_)
  refine lv_iload_n hx hb dX14_thingOf_6 rfl (lv_at hl 4 rfl) ?_
  by_cases c7 : x3 = 0
  · have hf := ifp c7 hf
    refine lv_tableIn (tgt := 52) hx hb dX14_thingOf_7 (by rw [c7]; decide) (by rw [c7]; decide) (by rw [c7]; rfl) (by decide) ?_
    refine lv_iload_n hx hb dX14_thingOf_52 rfl (lv_at hl 3 rfl) ?_
    obtain ⟨e1, e2⟩ := so_inj hf
    exact aw_iret hC hW hr rfl (p_eq hP (congrArg (fun z => some (Value.int z)) e1) e2) (Nat.le_of_ble_eq_true rfl) (Nat.le_of_ble_eq_true rfl) dX14_thingOf_53
  have hf := ifn c7 hf
  by_cases c7_1 : x3 = 1
  · have hf := ifp c7_1 hf
    refine lv_tableIn (tgt := 54) hx hb dX14_thingOf_7 (by rw [c7_1]; decide) (by rw [c7_1]; decide) (by rw [c7_1]; rfl) (by decide) ?_
    refine lv_aload_n hx hb dX14_thingOf_54 rfl (lv_at hl 2 rfl) ?_
    refine lv_iload_n hx hb dX14_thingOf_55 rfl (lv_at hl 3 rfl) ?_
    obtain ⟨g56, hf⟩ := gd_some hf
    refine aw_iald hC hW g56 dX14_thingOf_56 ?_
    obtain ⟨e1, e2⟩ := so_inj hf
    exact aw_iret hC hW hr rfl (p_eq hP (congrArg (fun z => some (Value.int z)) e1) e2) (Nat.le_of_ble_eq_true rfl) (Nat.le_of_ble_eq_true rfl) dX14_thingOf_57
  have hf := ifn c7_1 hf
  by_cases c7_2 : x3 = 2
  · have hf := ifp c7_2 hf
    refine lv_tableIn (tgt := 58) hx hb dX14_thingOf_7 (by rw [c7_2]; decide) (by rw [c7_2]; decide) (by rw [c7_2]; rfl) (by decide) ?_
    refine lv_aload_n hx hb dX14_thingOf_58 rfl (lv_at hl 1 rfl) ?_
    obtain ⟨g59, hf⟩ := gd_some hf
    obtain ⟨q59, hq59, hf⟩ := bi_some hf
    refine aw_gR hC hW g59 fl_X14_28 rfl hq59 dX14_thingOf_59 ?_
    refine lv_iload_n hx hb dX14_thingOf_62 rfl (lv_at hl 3 rfl) ?_
    obtain ⟨g63, hf⟩ := gd_some hf
    refine aw_iald hC hW g63 dX14_thingOf_63 ?_
    obtain ⟨e1, e2⟩ := so_inj hf
    exact aw_iret hC hW hr rfl (p_eq hP (congrArg (fun z => some (Value.int z)) e1) e2) (Nat.le_of_ble_eq_true rfl) (Nat.le_of_ble_eq_true rfl) dX14_thingOf_64
  have hf := ifn c7_2 hf
  by_cases c7_3 : x3 = 3
  · have hf := ifp c7_3 hf
    refine lv_tableIn (tgt := 65) hx hb dX14_thingOf_7 (by rw [c7_3]; decide) (by rw [c7_3]; decide) (by rw [c7_3]; rfl) (by decide) ?_
    refine lv_iload hx hb dX14_thingOf_65 (lv_at hl 0 rfl) ?_
    refine lv_if_ge (tgt := 74) hx hb dX14_thingOf_67 (by decide) (fun c67 => ?_) (fun c67 => ?_)
    · have hf := ifp c67 hf
      refine lv_aload_n hx hb dX14_thingOf_74 rfl (lv_at hl 2 rfl) ?_
      refine lv_iload hx hb dX14_thingOf_75 (lv_at hl 0 rfl) ?_
      obtain ⟨g77, hf⟩ := gd_some hf
      refine aw_iald hC hW g77 dX14_thingOf_77 ?_
      obtain ⟨e1, e2⟩ := so_inj hf
      exact aw_iret hC hW hr rfl (p_eq hP (congrArg (fun z => some (Value.int z)) e1) e2) (Nat.le_of_ble_eq_true rfl) (Nat.le_of_ble_eq_true rfl) dX14_thingOf_78
    · have hf := ifn c67 hf
      refine lv_iconst (v := 0) hx hb dX14_thingOf_70 (by decide) ?_
      refine lv_goto (tgt := 78) hx hb dX14_thingOf_71 (by decide) ?_
      obtain ⟨e1, e2⟩ := so_inj hf
      exact aw_iret hC hW hr rfl (p_eq hP (congrArg (fun z => some (Value.int z)) e1) e2) (Nat.le_of_ble_eq_true rfl) (Nat.le_of_ble_eq_true rfl) dX14_thingOf_78
  have hf := ifn c7_3 hf
  by_cases c7_4 : x3 = 4
  · have hf := ifp c7_4 hf
    refine lv_tableIn (tgt := 79) hx hb dX14_thingOf_7 (by rw [c7_4]; decide) (by rw [c7_4]; decide) (by rw [c7_4]; rfl) (by decide) ?_
    refine lv_iload hx hb dX14_thingOf_79 (lv_at hl 0 rfl) ?_
    refine lv_if_ge (tgt := 88) hx hb dX14_thingOf_81 (by decide) (fun c81 => ?_) (fun c81 => ?_)
    · have hf := ifp c81 hf
      refine lv_aload_n hx hb dX14_thingOf_88 rfl (lv_at hl 1 rfl) ?_
      obtain ⟨g89, hf⟩ := gd_some hf
      obtain ⟨q89, hq89, hf⟩ := bi_some hf
      refine aw_gR hC hW g89 fl_X14_28 rfl hq89 dX14_thingOf_89 ?_
      refine lv_iload hx hb dX14_thingOf_92 (lv_at hl 0 rfl) ?_
      obtain ⟨g94, hf⟩ := gd_some hf
      refine aw_iald hC hW g94 dX14_thingOf_94 ?_
      obtain ⟨e1, e2⟩ := so_inj hf
      exact aw_iret hC hW hr rfl (p_eq hP (congrArg (fun z => some (Value.int z)) e1) e2) (Nat.le_of_ble_eq_true rfl) (Nat.le_of_ble_eq_true rfl) dX14_thingOf_95
    · have hf := ifn c81 hf
      refine lv_iconst (v := (-1)) hx hb dX14_thingOf_84 (by decide) ?_
      refine lv_goto (tgt := 95) hx hb dX14_thingOf_85 (by decide) ?_
      obtain ⟨e1, e2⟩ := so_inj hf
      exact aw_iret hC hW hr rfl (p_eq hP (congrArg (fun z => some (Value.int z)) e1) e2) (Nat.le_of_ble_eq_true rfl) (Nat.le_of_ble_eq_true rfl) dX14_thingOf_95
  have hf := ifn c7_4 hf
  by_cases c7_5 : x3 = 5
  · have hf := ifp c7_5 hf
    refine lv_tableIn (tgt := 96) hx hb dX14_thingOf_7 (by rw [c7_5]; decide) (by rw [c7_5]; decide) (by rw [c7_5]; rfl) (by decide) ?_
    refine lv_iload hx hb dX14_thingOf_96 (lv_at hl 0 rfl) ?_
    refine lv_if_ge (tgt := 105) hx hb dX14_thingOf_98 (by decide) (fun c98 => ?_) (fun c98 => ?_)
    · have hf := ifp c98 hf
      refine lv_aload_n hx hb dX14_thingOf_105 rfl (lv_at hl 2 rfl) ?_
      refine lv_bipush (v := 18) hx hb dX14_thingOf_106 (by decide) ?_
      obtain ⟨g108, hf⟩ := gd_some hf
      refine aw_iald hC hW g108 dX14_thingOf_108 ?_
      obtain ⟨e1, e2⟩ := so_inj hf
      exact aw_iret hC hW hr rfl (p_eq hP (congrArg (fun z => some (Value.int z)) e1) e2) (Nat.le_of_ble_eq_true rfl) (Nat.le_of_ble_eq_true rfl) dX14_thingOf_109
    · have hf := ifn c98 hf
      refine lv_iconst (v := 0) hx hb dX14_thingOf_101 (by decide) ?_
      refine lv_goto (tgt := 109) hx hb dX14_thingOf_102 (by decide) ?_
      obtain ⟨e1, e2⟩ := so_inj hf
      exact aw_iret hC hW hr rfl (p_eq hP (congrArg (fun z => some (Value.int z)) e1) e2) (Nat.le_of_ble_eq_true rfl) (Nat.le_of_ble_eq_true rfl) dX14_thingOf_109
  have hf := ifn c7_5 hf
  by_cases c7_6 : x3 = 6
  · have hf := ifp c7_6 hf
    refine lv_tableIn (tgt := 110) hx hb dX14_thingOf_7 (by rw [c7_6]; decide) (by rw [c7_6]; decide) (by rw [c7_6]; rfl) (by decide) ?_
    refine lv_aload_n hx hb dX14_thingOf_110 rfl (lv_at hl 1 rfl) ?_
    refine lv_aload_n hx hb dX14_thingOf_111 rfl (lv_at hl 2 rfl) ?_
    obtain ⟨g112, hf⟩ := gd_some hf
    obtain ⟨v112, s112, h112, hf⟩ := ob_some hf
    refine aw_dV1 (r := o) (As := [.ref (a r1)]) (rest := []) (ct_X14_holding l G a o r1 s v112 s112 h112) hC hW hl.1 vy_X14_holding (Or.inl q1645) g112 rfl rfl rfl rfl (Nat.le_of_ble_eq_true rfl) ⟨Nat.le_of_ble_eq_true rfl, Nat.le_of_ble_eq_true rfl⟩ ⟨Nat.le_of_ble_eq_true rfl, Nat.le_of_ble_eq_true rfl⟩ dX14_thingOf_112 (fun H locs hW => ?_)
    obtain ⟨e1, e2⟩ := so_inj hf
    exact aw_iret hC hW hr rfl (p_eq hP (congrArg (fun z => some (Value.int z)) e1) e2) (Nat.le_of_ble_eq_true rfl) (Nat.le_of_ble_eq_true rfl) dX14_thingOf_115
  have hf := ifn c7_6 hf
  by_cases c7_7 : x3 = 7
  · have hf := ifp c7_7 hf
    refine lv_tableIn (tgt := 116) hx hb dX14_thingOf_7 (by rw [c7_7]; decide) (by rw [c7_7]; decide) (by rw [c7_7]; rfl) (by decide) ?_
    refine lv_aload_n hx hb dX14_thingOf_116 rfl (lv_at hl 2 rfl) ?_
    refine lv_bipush (v := 8) hx hb dX14_thingOf_117 (by decide) ?_
    refine lv_iload_n hx hb dX14_thingOf_119 rfl (lv_at hl 3 rfl) ?_
    refine lv_iadd hx hb dX14_thingOf_120 ?_
    obtain ⟨g121, hf⟩ := gd_some hf
    refine aw_iald hC hW g121 dX14_thingOf_121 ?_
    obtain ⟨e1, e2⟩ := so_inj hf
    exact aw_iret hC hW hr rfl (p_eq hP (congrArg (fun z => some (Value.int z)) e1) e2) (Nat.le_of_ble_eq_true rfl) (Nat.le_of_ble_eq_true rfl) dX14_thingOf_122
  have hf := ifn c7_7 hf
  have zc7 := lv_neT (a := 0) c7 (by decide)
  have zc7_1 := lv_neT (a := 1) c7_1 (by decide)
  have zc7_2 := lv_neT (a := 2) c7_2 (by decide)
  have zc7_3 := lv_neT (a := 3) c7_3 (by decide)
  have zc7_4 := lv_neT (a := 4) c7_4 (by decide)
  have zc7_5 := lv_neT (a := 5) c7_5 (by decide)
  have zc7_6 := lv_neT (a := 6) c7_6 (by decide)
  have zc7_7 := lv_neT (a := 7) c7_7 (by decide)
  refine lv_tableOut (tgt := 123) hx hb dX14_thingOf_7 (by omega) (by decide) ?_
  refine lv_aload_n hx hb dX14_thingOf_123 rfl (lv_at hl 2 rfl) ?_
  refine lv_bipush (v := 19) hx hb dX14_thingOf_124 (by decide) ?_
  obtain ⟨g126, hf⟩ := gd_some hf
  refine aw_iald hC hW g126 dX14_thingOf_126 ?_
  obtain ⟨e1, e2⟩ := so_inj hf
  exact aw_iret hC hW hr rfl (p_eq hP (congrArg (fun z => some (Value.int z)) e1) e2) (Nat.le_of_ble_eq_true rfl) (Nat.le_of_ble_eq_true rfl) dX14_thingOf_127
def f_X14_willOf_b139 (K14 : Nat → Nat → Int32 → Int32 → Int32 → ST → Option (Int32 × ST)) (r0 : Nat) (r1 : Nat) (x2 : Int32) (x3 : Int32) (x4 : Int32) (s : ST) : Option (Int32 × ST) :=
  bnd (x4 + 1 : Int32) fun v139 =>
  K14 r0 r1 x2 x3 v139 s
def f_X14_willOf_b135 (K14 : Nat → Nat → Int32 → Int32 → Int32 → ST → Option (Int32 × ST)) (r0 : Nat) (r1 : Nat) (x2 : Int32) (x3 : Int32) (x4 : Int32) (t0 : Int32) (t1 : Int32) (w2 : Nat) (s : ST) : Option (Int32 × ST) :=
  gd (w2 < s.1 ∧ (kd s w2).1 = 100 ∧ ¬ ((t1 : Int32) < 0 ∨ (kd s w2).2 ≤ (t1 : Int32).toNatClampNeg)) <|
  bnd (pI s w2 (t1 : Int32).toNatClampNeg t0) fun s135 =>
  bnd (x3 + 1 : Int32) fun v136 =>
  f_X14_willOf_b139 K14 r0 r1 x2 v136 x4 s135
def f_X14_willOf_b14 : Nat → Nat → Nat → Int32 → Int32 → Int32 → ST → Option (Int32 × ST)
  | 0, _, _, _, _, _, _ => none
  | n + 1, r0, r1, x2, x3, x4, s =>
  gd (r0 < s.1 ∧ (kd s r0).1 = 14) <|
  if (gi s r0 24) ≤ x4 then ((gr s r0 26).bind fun q146 =>
  gd (q146 < s.1 ∧ (kd s q146).1 = 100 ∧ ¬ ((0 : Int32) < 0 ∨ (kd s q146).2 ≤ (0 : Int32).toNatClampNeg)) <|
  some ((gi s q146 (0 : Int32).toNatClampNeg), s)) else (gr s r0 22).bind fun q24 =>
  gd (q24 < s.1 ∧ (kd s q24).1 = 100 ∧ ¬ ((x4 : Int32) < 0 ∨ (kd s q24).2 ≤ (x4 : Int32).toNatClampNeg)) <|
  bnd ((gi s q24 (x4 : Int32).toNatClampNeg) : Int32) fun v30 =>
  if v30 = 3000 then ((gr s r0 26).bind fun q41 =>
  (gr s r0 26).bind fun q48 =>
  gd (q48 < s.1 ∧ (kd s q48).1 = 100 ∧ ¬ (((x3 - 1) : Int32) < 0 ∨ (kd s q48).2 ≤ ((x3 - 1) : Int32).toNatClampNeg)) <|
  gd (q41 < s.1 ∧ (kd s q41).1 = 100 ∧ ¬ (((x3 - 1) : Int32) < 0 ∨ (kd s q41).2 ≤ ((x3 - 1) : Int32).toNatClampNeg)) <|
  bnd (pI s q41 ((x3 - 1) : Int32).toNatClampNeg (-(gi s q48 ((x3 - 1) : Int32).toNatClampNeg))) fun s56 =>
  f_X14_willOf_b139 (f_X14_willOf_b14 n) r0 r1 x2 x3 x4 s56) else if v30 < 2000 then ((gr s r0 26).bind fun q106 =>
  if v30 < 1000 then (f_X14_willOf_b135 (f_X14_willOf_b14 n) r0 r1 x2 x3 x4 v30 x3 q106 s) else ob (f_X14_thingOf r0 r1 x2 (v30 - 1000) s) fun v127 s127 =>
  f_X14_willOf_b135 (f_X14_willOf_b14 n) r0 r1 x2 x3 x4 v127 x3 q106 s127) else bnd (x3 + (-1) : Int32) fun v68 =>
  (gr s r0 26).bind fun q72 =>
  (gr s r0 26).bind fun q85 =>
  gd (q85 < s.1 ∧ (kd s q85).1 = 100 ∧ ¬ (((v68 - 1) : Int32) < 0 ∨ (kd s q85).2 ≤ ((v68 - 1) : Int32).toNatClampNeg)) <|
  (gr s r0 26).bind fun q93 =>
  gd (q93 < s.1 ∧ (kd s q93).1 = 100 ∧ ¬ ((v68 : Int32) < 0 ∨ (kd s q93).2 ≤ (v68 : Int32).toNatClampNeg)) <|
  ob (f_X14_worked (v30 - 2000) (gi s q85 ((v68 - 1) : Int32).toNatClampNeg) (gi s q93 (v68 : Int32).toNatClampNeg) s) fun v98 s98 =>
  gd (q72 < s98.1 ∧ (kd s98 q72).1 = 100 ∧ ¬ (((v68 - 1) : Int32) < 0 ∨ (kd s98 q72).2 ≤ ((v68 - 1) : Int32).toNatClampNeg)) <|
  bnd (pI s98 q72 ((v68 - 1) : Int32).toNatClampNeg v98) fun s101 =>
  f_X14_willOf_b139 (f_X14_willOf_b14 n) r0 r1 x2 v68 x4 s101
def f_X14_willOf (o : Nat) (r1 : Nat) (x2 : Int32) (s : ST) : Option (Int32 × ST) :=
  gd (o < s.1 ∧ (kd s o).1 = 14) <|
  if (gi s o 24) = 0 then (some (1, s)) else f_X14_willOf_b14 fuel o r1 x2 0 0 s
set_option maxHeartbeats 4000000 in
theorem ct_X14_willOf (l : Launch) (G : GM) (a : Nat → Nat) (o : Nat) (r1 : Nat) (x2 : Int32) (s : ST) (rv : Int32) (sf : ST) (hf : f_X14_willOf o r1 x2 s = some (rv, sf)) : MD l G yX14_willOf (ws_ yX14_willOf cX14_willOf 6 (some .int)) 3 [.ref (a o), .ref (a r1), .int x2] a s (some (.int rv)) sf := by
  refine md_of (d := 3) (lv := [(0, .ref (a o)), (1, .ref (a r1)), (2, .int x2)]) (Or.inl (by decide)) (Nat.le_of_ble_eq_true rfl) rfl ?_
  intro p e s0 m args below meth c ls A P hP hC hr hnm hW hl
  have hx := hC.1
  have hb := hC.2.1
  have hts := hC.2.2.2.2.1
  have B139 : ∀ (K14 : Nat → Nat → Int32 → Int32 → Int32 → ST → Option (Int32 × ST)) (hK14 : ∀ (r0 : Nat) (r1 : Nat) (x2 : Int32) (x3 : Int32) (x4 : Int32) (s : ST), K14 r0 r1 x2 x3 x4 s = some (rv, sf) → ∀ (H : Heap) (locs : List Loc) (ls : Array Slot), lv_has ls 6 [(0, .ref (a r0)), (1, .ref (a r1)), (2, .int x2), (3, .int x3), (4, .int x4)] → AW G a A s s0.heap H locs → WB p l e (rmD 3) s0 m args below meth c H locs G A P 14 ls []), ∀ (r0 : Nat) (r1 : Nat) (x2 : Int32) (x3 : Int32) (x4 : Int32) (s : ST), f_X14_willOf_b139 K14 r0 r1 x2 x3 x4 s = some (rv, sf) → ∀ (H : Heap) (locs : List Loc) (ls : Array Slot), lv_has ls 6 [(0, .ref (a r0)), (1, .ref (a r1)), (2, .int x2), (3, .int x3), (4, .int x4)] → AW G a A s s0.heap H locs → WB p l e (rmD 3) s0 m args below meth c H locs G A P 139 ls [] := by
    intro K14 hK14 r0 r1 x2 x3 x4 s hf H locs ls hl hW
    unfold f_X14_willOf_b139 at hf
    obtain ⟨v139, ev139, hf⟩ := bnd_some hf
    refine lv_iinc (v := v139) (lv' := [(4, .int v139), (0, .ref (a r0)), (1, .ref (a r1)), (2, .int x2), (3, .int x3)]) hx hb dX14_willOf_139 hl (k := 4) rfl (by rw [ev139]; rfl) (by decide) rfl (fun ls hl => ?_)
    refine lv_goto (tgt := 14) hx hb dX14_willOf_142 (by decide) ?_
    exact hK14 r0 r1 x2 x3 v139 s hf _ _ _ (lv_sub hl [1, 2, 3, 4, 0] rfl) hW
  have B135 : ∀ (K14 : Nat → Nat → Int32 → Int32 → Int32 → ST → Option (Int32 × ST)) (hK14 : ∀ (r0 : Nat) (r1 : Nat) (x2 : Int32) (x3 : Int32) (x4 : Int32) (s : ST), K14 r0 r1 x2 x3 x4 s = some (rv, sf) → ∀ (H : Heap) (locs : List Loc) (ls : Array Slot), lv_has ls 6 [(0, .ref (a r0)), (1, .ref (a r1)), (2, .int x2), (3, .int x3), (4, .int x4)] → AW G a A s s0.heap H locs → WB p l e (rmD 3) s0 m args below meth c H locs G A P 14 ls []), ∀ (r0 : Nat) (r1 : Nat) (x2 : Int32) (x3 : Int32) (x4 : Int32) (t0 : Int32) (t1 : Int32) (w2 : Nat) (s : ST), f_X14_willOf_b135 K14 r0 r1 x2 x3 x4 t0 t1 w2 s = some (rv, sf) → ∀ (H : Heap) (locs : List Loc) (ls : Array Slot), lv_has ls 6 [(0, .ref (a r0)), (1, .ref (a r1)), (2, .int x2), (3, .int x3), (4, .int x4)] → AW G a A s s0.heap H locs → WB p l e (rmD 3) s0 m args below meth c H locs G A P 135 ls [.int t0, .int t1, .ref (a w2)] := by
    intro K14 hK14 r0 r1 x2 x3 x4 t0 t1 w2 s hf H locs ls hl hW
    unfold f_X14_willOf_b135 at hf
    obtain ⟨g135, hf⟩ := gd_some hf
    obtain ⟨s135, e135, hf⟩ := bnd_some hf
    refine aw_iast e135 hC hW g135 dX14_willOf_135 (fun H locs hW => ?_)
    obtain ⟨v136, ev136, hf⟩ := bnd_some hf
    refine lv_iinc (v := v136) (lv' := [(3, .int v136), (0, .ref (a r0)), (1, .ref (a r1)), (2, .int x2), (4, .int x4)]) hx hb dX14_willOf_136 hl (k := 3) rfl (by rw [ev136]; rfl) (by decide) rfl (fun ls hl => ?_)
    exact B139 K14 hK14 r0 r1 x2 v136 x4 s135 hf _ _ _ (lv_sub hl [1, 2, 3, 0, 4] rfl) hW
  have B14 : ∀ (n : Nat), ∀ (r0 : Nat) (r1 : Nat) (x2 : Int32) (x3 : Int32) (x4 : Int32) (s : ST), f_X14_willOf_b14 n r0 r1 x2 x3 x4 s = some (rv, sf) → ∀ (H : Heap) (locs : List Loc) (ls : Array Slot), lv_has ls 6 [(0, .ref (a r0)), (1, .ref (a r1)), (2, .int x2), (3, .int x3), (4, .int x4)] → AW G a A s s0.heap H locs → WB p l e (rmD 3) s0 m args below meth c H locs G A P 14 ls [] := by
    intro n
    induction n with
    | zero => intro r0 r1 x2 x3 x4 s hf; cases hf
    | succ n ih =>
      intro r0 r1 x2 x3 x4 s hf H locs ls hl hW
      rw [f_X14_willOf_b14] at hf
      refine lv_iload hx hb dX14_willOf_14 (lv_at hl 4 rfl) ?_
      refine lv_aload_n hx hb dX14_willOf_16 rfl (lv_at hl 0 rfl) ?_
      obtain ⟨g17, hf⟩ := gd_some hf
      refine aw_gI hC hW g17 fl_X14_232 rfl dX14_willOf_17 ?_
      refine lv_icmp_ge (tgt := 145) hx hb dX14_willOf_20 (by decide) (fun c20 => ?_) (fun c20 => ?_)
      · have hf := ifp c20 hf
        refine lv_aload_n hx hb dX14_willOf_145 rfl (lv_at hl 0 rfl) ?_
        obtain ⟨q146, hq146, hf⟩ := bi_some hf
        refine aw_gR hC hW g17 fl_X14_71 rfl hq146 dX14_willOf_146 ?_
        refine lv_iconst (v := 0) hx hb dX14_willOf_149 (by decide) ?_
        obtain ⟨g150, hf⟩ := gd_some hf
        refine aw_iald hC hW g150 dX14_willOf_150 ?_
        obtain ⟨e1, e2⟩ := so_inj hf
        exact aw_iret hC hW hr rfl (p_eq hP (congrArg (fun z => some (Value.int z)) e1) e2) (Nat.le_of_ble_eq_true rfl) (Nat.le_of_ble_eq_true rfl) dX14_willOf_151
      · have hf := ifn c20 hf
        refine lv_aload_n hx hb dX14_willOf_23 rfl (lv_at hl 0 rfl) ?_
        obtain ⟨q24, hq24, hf⟩ := bi_some hf
        refine aw_gR hC hW g17 fl_X14_65 rfl hq24 dX14_willOf_24 ?_
        refine lv_iload hx hb dX14_willOf_27 (lv_at hl 4 rfl) ?_
        obtain ⟨g29, hf⟩ := gd_some hf
        refine aw_iald hC hW g29 dX14_willOf_29 ?_
        obtain ⟨v30, ev30, hf⟩ := bnd_some hf
        refine top_i ev30 ?_
        refine lv_istore (lv' := [(5, .int v30), (0, .ref (a r0)), (1, .ref (a r1)), (2, .int x2), (3, .int x3), (4, .int x4)]) hx hb dX14_willOf_30 hl (by decide) rfl (fun ls hl => ?_)
        refine lv_iload hx hb dX14_willOf_32 (lv_at hl 0 rfl) ?_
        refine lv_sipush (v := 3000) hx hb dX14_willOf_34 (by decide) ?_
        refine lv_icmp_ne (tgt := 60) hx hb dX14_willOf_37 (by decide) (fun c37 => ?_) (fun c37 => ?_)
        · have hf := ifn c37 hf
          refine lv_iload hx hb dX14_willOf_60 (lv_at hl 0 rfl) ?_
          refine lv_sipush (v := 2000) hx hb dX14_willOf_62 (by decide) ?_
          refine lv_icmp_lt (tgt := 105) hx hb dX14_willOf_65 (by decide) (fun c65 => ?_) (fun c65 => ?_)
          · have hf := ifp c65 hf
            refine lv_aload_n hx hb dX14_willOf_105 rfl (lv_at hl 1 rfl) ?_
            obtain ⟨q106, hq106, hf⟩ := bi_some hf
            refine aw_gR hC hW g17 fl_X14_71 rfl hq106 dX14_willOf_106 ?_
            refine lv_iload_n hx hb dX14_willOf_109 rfl (lv_at hl 4 rfl) ?_
            refine lv_iload hx hb dX14_willOf_110 (lv_at hl 0 rfl) ?_
            refine lv_sipush (v := 1000) hx hb dX14_willOf_112 (by decide) ?_
            refine lv_icmp_lt (tgt := 133) hx hb dX14_willOf_115 (by decide) (fun c115 => ?_) (fun c115 => ?_)
            · have hf := ifp c115 hf
              refine lv_iload hx hb dX14_willOf_133 (lv_at hl 0 rfl) ?_
              exact B135 (f_X14_willOf_b14 n) ih r0 r1 x2 x3 x4 v30 x3 q106 s hf _ _ _ (lv_sub hl [1, 2, 3, 4, 5] rfl) hW
            · have hf := ifn c115 hf
              refine lv_aload_n hx hb dX14_willOf_118 rfl (lv_at hl 1 rfl) ?_
              refine lv_aload_n hx hb dX14_willOf_119 rfl (lv_at hl 2 rfl) ?_
              refine lv_iload_n hx hb dX14_willOf_120 rfl (lv_at hl 3 rfl) ?_
              refine lv_iload hx hb dX14_willOf_121 (lv_at hl 0 rfl) ?_
              refine lv_sipush (v := 1000) hx hb dX14_willOf_123 (by decide) ?_
              refine lv_isub hx hb dX14_willOf_126 ?_
              obtain ⟨v127, s127, h127, hf⟩ := ob_some hf
              refine aw_dV1 (r := r0) (As := [.ref (a r1), .int x2, .int (v30 - 1000)]) (rest := [.int x3, .ref (a q106)]) (ct_X14_thingOf l G a r0 r1 x2 (v30 - 1000) s v127 s127 h127) hC hW hl.1 vy_X14_thingOf (Or.inl q1641) g17 rfl rfl rfl rfl (Nat.le_of_ble_eq_true rfl) ⟨Nat.le_of_ble_eq_true rfl, Nat.le_of_ble_eq_true rfl⟩ ⟨Nat.le_of_ble_eq_true rfl, Nat.le_of_ble_eq_true rfl⟩ dX14_willOf_127 (fun H locs hW => ?_)
              refine lv_goto (tgt := 135) hx hb dX14_willOf_130 (by decide) ?_
              exact B135 (f_X14_willOf_b14 n) ih r0 r1 x2 x3 x4 v127 x3 q106 s127 hf _ _ _ (lv_sub hl [1, 2, 3, 4, 5] rfl) hW
          · have hf := ifn c65 hf
            obtain ⟨v68, ev68, hf⟩ := bnd_some hf
            refine lv_iinc (v := v68) (lv' := [(3, .int v68), (5, .int v30), (0, .ref (a r0)), (1, .ref (a r1)), (2, .int x2), (4, .int x4)]) hx hb dX14_willOf_68 hl (k := 4) rfl (by rw [ev68]; rfl) (by decide) rfl (fun ls hl => ?_)
            refine lv_aload_n hx hb dX14_willOf_71 rfl (lv_at hl 2 rfl) ?_
            obtain ⟨q72, hq72, hf⟩ := bi_some hf
            refine aw_gR hC hW g17 fl_X14_71 rfl hq72 dX14_willOf_72 ?_
            refine lv_iload_n hx hb dX14_willOf_75 rfl (lv_at hl 0 rfl) ?_
            refine lv_iconst (v := 1) hx hb dX14_willOf_76 (by decide) ?_
            refine lv_isub hx hb dX14_willOf_77 ?_
            refine lv_iload hx hb dX14_willOf_78 (lv_at hl 1 rfl) ?_
            refine lv_sipush (v := 2000) hx hb dX14_willOf_80 (by decide) ?_
            refine lv_isub hx hb dX14_willOf_83 ?_
            refine lv_aload_n hx hb dX14_willOf_84 rfl (lv_at hl 2 rfl) ?_
            obtain ⟨q85, hq85, hf⟩ := bi_some hf
            refine aw_gR hC hW g17 fl_X14_71 rfl hq85 dX14_willOf_85 ?_
            refine lv_iload_n hx hb dX14_willOf_88 rfl (lv_at hl 0 rfl) ?_
            refine lv_iconst (v := 1) hx hb dX14_willOf_89 (by decide) ?_
            refine lv_isub hx hb dX14_willOf_90 ?_
            obtain ⟨g91, hf⟩ := gd_some hf
            refine aw_iald hC hW g91 dX14_willOf_91 ?_
            refine lv_aload_n hx hb dX14_willOf_92 rfl (lv_at hl 2 rfl) ?_
            obtain ⟨q93, hq93, hf⟩ := bi_some hf
            refine aw_gR hC hW g17 fl_X14_71 rfl hq93 dX14_willOf_93 ?_
            refine lv_iload_n hx hb dX14_willOf_96 rfl (lv_at hl 0 rfl) ?_
            obtain ⟨g97, hf⟩ := gd_some hf
            refine aw_iald hC hW g97 dX14_willOf_97 ?_
            obtain ⟨v98, s98, h98, hf⟩ := ob_some hf
            refine aw_dS1 (As := [.int (v30 - 2000), .int (gi s q85 ((v68 - 1) : Int32).toNatClampNeg), .int (gi s q93 (v68 : Int32).toNatClampNeg)]) (rest := [.int (v68 - 1), .ref (a q72)]) (ct_X14_worked l G a (v30 - 2000) (gi s q85 ((v68 - 1) : Int32).toNatClampNeg) (gi s q93 (v68 : Int32).toNatClampNeg) s v98 s98 h98) hC hW hl.1 sy_X14_worked (Or.inl q1638) rfl rfl (Nat.le_of_ble_eq_true rfl) ⟨Nat.le_of_ble_eq_true rfl, Nat.le_of_ble_eq_true rfl⟩ ⟨Nat.le_of_ble_eq_true rfl, Nat.le_of_ble_eq_true rfl⟩ dX14_willOf_98 (fun H locs hW => ?_)
            obtain ⟨g101, hf⟩ := gd_some hf
            obtain ⟨s101, e101, hf⟩ := bnd_some hf
            refine aw_iast e101 hC hW g101 dX14_willOf_101 (fun H locs hW => ?_)
            refine lv_goto (tgt := 139) hx hb dX14_willOf_102 (by decide) ?_
            exact B139 (f_X14_willOf_b14 n) ih r0 r1 x2 v68 x4 s101 hf _ _ _ (lv_sub hl [2, 3, 4, 0, 5] rfl) hW
        · have hf := ifp c37 hf
          refine lv_aload_n hx hb dX14_willOf_40 rfl (lv_at hl 1 rfl) ?_
          obtain ⟨q41, hq41, hf⟩ := bi_some hf
          refine aw_gR hC hW g17 fl_X14_71 rfl hq41 dX14_willOf_41 ?_
          refine lv_iload_n hx hb dX14_willOf_44 rfl (lv_at hl 4 rfl) ?_
          refine lv_iconst (v := 1) hx hb dX14_willOf_45 (by decide) ?_
          refine lv_isub hx hb dX14_willOf_46 ?_
          refine lv_aload_n hx hb dX14_willOf_47 rfl (lv_at hl 1 rfl) ?_
          obtain ⟨q48, hq48, hf⟩ := bi_some hf
          refine aw_gR hC hW g17 fl_X14_71 rfl hq48 dX14_willOf_48 ?_
          refine lv_iload_n hx hb dX14_willOf_51 rfl (lv_at hl 4 rfl) ?_
          refine lv_iconst (v := 1) hx hb dX14_willOf_52 (by decide) ?_
          refine lv_isub hx hb dX14_willOf_53 ?_
          obtain ⟨g54, hf⟩ := gd_some hf
          refine aw_iald hC hW g54 dX14_willOf_54 ?_
          refine lv_ineg hx hb dX14_willOf_55 ?_
          obtain ⟨g56, hf⟩ := gd_some hf
          obtain ⟨s56, e56, hf⟩ := bnd_some hf
          refine aw_iast e56 hC hW g56 dX14_willOf_56 (fun H locs hW => ?_)
          have g17 := ko_pI e56 g17
          refine lv_goto (tgt := 139) hx hb dX14_willOf_57 (by decide) ?_
          exact B139 (f_X14_willOf_b14 n) ih r0 r1 x2 x3 x4 s56 hf _ _ _ (lv_sub hl [1, 2, 3, 4, 5] rfl) hW
  unfold f_X14_willOf at hf
  refine lv_aload_n hx hb dX14_willOf_0 rfl (lv_at hl 0 rfl) ?_
  obtain ⟨g1, hf⟩ := gd_some hf
  refine aw_gI hC hW g1 fl_X14_232 rfl dX14_willOf_1 ?_
  refine lv_if_ne (tgt := 9) hx hb dX14_willOf_4 (by decide) (fun c4 => ?_) (fun c4 => ?_)
  · have hf := ifn c4 hf
    refine lv_iconst (v := 0) hx hb dX14_willOf_9 (by decide) ?_
    refine lv_istore_n (lv' := [(3, .int 0), (0, .ref (a o)), (1, .ref (a r1)), (2, .int x2)]) hx hb dX14_willOf_10 rfl hl (by decide) rfl (fun ls hl => ?_)
    refine lv_iconst (v := 0) hx hb dX14_willOf_11 (by decide) ?_
    refine lv_istore (lv' := [(4, .int 0), (3, .int 0), (0, .ref (a o)), (1, .ref (a r1)), (2, .int x2)]) hx hb dX14_willOf_12 hl (by decide) rfl (fun ls hl => ?_)
    exact B14 fuel o r1 x2 0 0 s hf _ _ _ (lv_sub hl [2, 3, 4, 1, 0] rfl) hW
  · have hf := ifp c4 hf
    refine lv_iconst (v := 1) hx hb dX14_willOf_7 (by decide) ?_
    obtain ⟨e1, e2⟩ := so_inj hf
    exact aw_iret hC hW hr rfl (p_eq hP (congrArg (fun z => some (Value.int z)) e1) e2) (Nat.le_of_ble_eq_true rfl) (Nat.le_of_ble_eq_true rfl) dX14_willOf_8
def f_X14_willing_b40 (K4 : Nat → Nat → Int32 → Int32 → ST → Option (Int32 × ST)) (r0 : Nat) (r1 : Nat) (x3 : Int32) (t0 : Int32) (t1 : Int32) (s : ST) : Option (Int32 × ST) :=
  bnd ((t1 ||| t0) : Int32) fun v41 =>
  bnd (x3 + 1 : Int32) fun v42 =>
  K4 r0 r1 v41 v42 s
def f_X14_willing_b39 (K4 : Nat → Nat → Int32 → Int32 → ST → Option (Int32 × ST)) (r0 : Nat) (r1 : Nat) (x3 : Int32) (t0 : Int32) (s : ST) : Option (Int32 × ST) :=
  f_X14_willing_b40 K4 r0 r1 x3 0 t0 s
def f_X14_willing_b4 : Nat → Nat → Nat → Int32 → Int32 → ST → Option (Int32 × ST)
  | 0, _, _, _, _, _ => none
  | n + 1, r0, r1, x2, x3, s =>
  gd (r0 < s.1 ∧ (kd s r0).1 = 14) <|
  if (gi s r0 3) ≤ x3 then (some (x2, s)) else gd (r1 < s.1 ∧ (kd s r1).1 = 100 ∧ ¬ ((16 : Int32) < 0 ∨ (kd s r1).2 ≤ (16 : Int32).toNatClampNeg)) <|
  bnd (p_has (gi s r1 (16 : Int32).toNatClampNeg) x3) fun v18 =>
  if v18 = 0 then (f_X14_willing_b39 (f_X14_willing_b4 n) r0 r1 x3 x2 s) else ob (f_X14_willOf r0 r1 x3 s) fun v27 s27 =>
  if v27 = 0 then (f_X14_willing_b39 (f_X14_willing_b4 n) r0 r1 x3 x2 s27) else f_X14_willing_b40 (f_X14_willing_b4 n) r0 r1 x3 (1 <<< (x3 &&& 31)) x2 s27
def f_X14_willing (o : Nat) (r1 : Nat) (s : ST) : Option (Int32 × ST) :=
  f_X14_willing_b4 fuel o r1 0 0 s
set_option maxHeartbeats 4000000 in
theorem ct_X14_willing (l : Launch) (G : GM) (a : Nat → Nat) (o : Nat) (r1 : Nat) (s : ST) (rv : Int32) (sf : ST) (hf : f_X14_willing o r1 s = some (rv, sf)) : MD l G yX14_willing (ws_ yX14_willing cX14_willing 4 (some .int)) 4 [.ref (a o), .ref (a r1)] a s (some (.int rv)) sf := by
  refine md_of (d := 4) (lv := [(0, .ref (a o)), (1, .ref (a r1))]) (Or.inl (by decide)) (Nat.le_of_ble_eq_true rfl) rfl ?_
  intro p e s0 m args below meth c ls A P hP hC hr hnm hW hl
  have hx := hC.1
  have hb := hC.2.1
  have hts := hC.2.2.2.2.1
  have B40 : ∀ (K4 : Nat → Nat → Int32 → Int32 → ST → Option (Int32 × ST)) (hK4 : ∀ (r0 : Nat) (r1 : Nat) (x2 : Int32) (x3 : Int32) (s : ST), K4 r0 r1 x2 x3 s = some (rv, sf) → ∀ (H : Heap) (locs : List Loc) (ls : Array Slot), lv_has ls 4 [(0, .ref (a r0)), (1, .ref (a r1)), (2, .int x2), (3, .int x3)] → AW G a A s s0.heap H locs → WB p l e (rmD 4) s0 m args below meth c H locs G A P 4 ls []), ∀ (r0 : Nat) (r1 : Nat) (x3 : Int32) (t0 : Int32) (t1 : Int32) (s : ST), f_X14_willing_b40 K4 r0 r1 x3 t0 t1 s = some (rv, sf) → ∀ (H : Heap) (locs : List Loc) (ls : Array Slot), lv_has ls 4 [(0, .ref (a r0)), (1, .ref (a r1)), (3, .int x3)] → AW G a A s s0.heap H locs → WB p l e (rmD 4) s0 m args below meth c H locs G A P 40 ls [.int t0, .int t1] := by
    intro K4 hK4 r0 r1 x3 t0 t1 s hf H locs ls hl hW
    unfold f_X14_willing_b40 at hf
    refine lv_ior hx hb dX14_willing_40 ?_
    obtain ⟨v41, ev41, hf⟩ := bnd_some hf
    refine top_i ev41 ?_
    refine lv_istore_n (lv' := [(2, .int v41), (0, .ref (a r0)), (1, .ref (a r1)), (3, .int x3)]) hx hb dX14_willing_41 rfl hl (by decide) rfl (fun ls hl => ?_)
    obtain ⟨v42, ev42, hf⟩ := bnd_some hf
    refine lv_iinc (v := v42) (lv' := [(3, .int v42), (2, .int v41), (0, .ref (a r0)), (1, .ref (a r1))]) hx hb dX14_willing_42 hl (k := 3) rfl (by rw [ev42]; rfl) (by decide) rfl (fun ls hl => ?_)
    refine lv_goto (tgt := 4) hx hb dX14_willing_45 (by decide) ?_
    exact hK4 r0 r1 v41 v42 s hf _ _ _ (lv_sub hl [2, 3, 1, 0] rfl) hW
  have B39 : ∀ (K4 : Nat → Nat → Int32 → Int32 → ST → Option (Int32 × ST)) (hK4 : ∀ (r0 : Nat) (r1 : Nat) (x2 : Int32) (x3 : Int32) (s : ST), K4 r0 r1 x2 x3 s = some (rv, sf) → ∀ (H : Heap) (locs : List Loc) (ls : Array Slot), lv_has ls 4 [(0, .ref (a r0)), (1, .ref (a r1)), (2, .int x2), (3, .int x3)] → AW G a A s s0.heap H locs → WB p l e (rmD 4) s0 m args below meth c H locs G A P 4 ls []), ∀ (r0 : Nat) (r1 : Nat) (x3 : Int32) (t0 : Int32) (s : ST), f_X14_willing_b39 K4 r0 r1 x3 t0 s = some (rv, sf) → ∀ (H : Heap) (locs : List Loc) (ls : Array Slot), lv_has ls 4 [(0, .ref (a r0)), (1, .ref (a r1)), (3, .int x3)] → AW G a A s s0.heap H locs → WB p l e (rmD 4) s0 m args below meth c H locs G A P 39 ls [.int t0] := by
    intro K4 hK4 r0 r1 x3 t0 s hf H locs ls hl hW
    unfold f_X14_willing_b39 at hf
    refine lv_iconst (v := 0) hx hb dX14_willing_39 (by decide) ?_
    exact B40 K4 hK4 r0 r1 x3 0 t0 s hf _ _ _ (lv_sub hl [0, 1, 2] rfl) hW
  have B4 : ∀ (n : Nat), ∀ (r0 : Nat) (r1 : Nat) (x2 : Int32) (x3 : Int32) (s : ST), f_X14_willing_b4 n r0 r1 x2 x3 s = some (rv, sf) → ∀ (H : Heap) (locs : List Loc) (ls : Array Slot), lv_has ls 4 [(0, .ref (a r0)), (1, .ref (a r1)), (2, .int x2), (3, .int x3)] → AW G a A s s0.heap H locs → WB p l e (rmD 4) s0 m args below meth c H locs G A P 4 ls [] := by
    intro n
    induction n with
    | zero => intro r0 r1 x2 x3 s hf; cases hf
    | succ n ih =>
      intro r0 r1 x2 x3 s hf H locs ls hl hW
      rw [f_X14_willing_b4] at hf
      refine lv_iload_n hx hb dX14_willing_4 rfl (lv_at hl 3 rfl) ?_
      refine lv_aload_n hx hb dX14_willing_5 rfl (lv_at hl 0 rfl) ?_
      obtain ⟨g6, hf⟩ := gd_some hf
      refine aw_gI hC hW g6 fl_X14_117 rfl dX14_willing_6 ?_
      refine lv_icmp_ge (tgt := 48) hx hb dX14_willing_9 (by decide) (fun c9 => ?_) (fun c9 => ?_)
      · have hf := ifp c9 hf
        refine lv_iload_n hx hb dX14_willing_48 rfl (lv_at hl 2 rfl) ?_
        obtain ⟨e1, e2⟩ := so_inj hf
        exact aw_iret hC hW hr rfl (p_eq hP (congrArg (fun z => some (Value.int z)) e1) e2) (Nat.le_of_ble_eq_true rfl) (Nat.le_of_ble_eq_true rfl) dX14_willing_49
      · have hf := ifn c9 hf
        refine lv_iload_n hx hb dX14_willing_12 rfl (lv_at hl 2 rfl) ?_
        refine lv_aload_n hx hb dX14_willing_13 rfl (lv_at hl 1 rfl) ?_
        refine lv_bipush (v := 16) hx hb dX14_willing_14 (by decide) ?_
        obtain ⟨g16, hf⟩ := gd_some hf
        refine aw_iald hC hW g16 dX14_willing_16 ?_
        refine lv_iload_n hx hb dX14_willing_17 rfl (lv_at hl 3 rfl) ?_
        obtain ⟨v18, ev18, hf⟩ := bnd_some hf
        refine aw_dS1 (As := [.int (gi s r1 (16 : Int32).toNatClampNeg), .int x3]) (rest := [.int x2]) (pc_X14_has l G a (gi s r1 (16 : Int32).toNatClampNeg) x3 s) hC hW hl.1 sy_X14_has (Or.inl q1626) rfl rfl (Nat.le_of_ble_eq_true rfl) ⟨Nat.le_of_ble_eq_true rfl, Nat.le_of_ble_eq_true rfl⟩ ⟨Nat.le_of_ble_eq_true rfl, Nat.le_of_ble_eq_true rfl⟩ dX14_willing_18 (fun H locs hW => ?_)
        refine top_i ev18 ?_
        refine lv_if_eq (tgt := 39) hx hb dX14_willing_21 (by decide) (fun c21 => ?_) (fun c21 => ?_)
        · have hf := ifp c21 hf
          exact B39 (f_X14_willing_b4 n) ih r0 r1 x3 x2 s hf _ _ _ (lv_sub hl [0, 1, 3] rfl) hW
        · have hf := ifn c21 hf
          refine lv_aload_n hx hb dX14_willing_24 rfl (lv_at hl 0 rfl) ?_
          refine lv_aload_n hx hb dX14_willing_25 rfl (lv_at hl 1 rfl) ?_
          refine lv_iload_n hx hb dX14_willing_26 rfl (lv_at hl 3 rfl) ?_
          obtain ⟨v27, s27, h27, hf⟩ := ob_some hf
          refine aw_dV1 (r := r0) (As := [.ref (a r1), .int x3]) (rest := [.int x2]) (ct_X14_willOf l G a r0 r1 x3 s v27 s27 h27) hC hW hl.1 vy_X14_willOf (Or.inl q1634) g6 rfl rfl rfl rfl (Nat.le_of_ble_eq_true rfl) ⟨Nat.le_of_ble_eq_true rfl, Nat.le_of_ble_eq_true rfl⟩ ⟨Nat.le_of_ble_eq_true rfl, Nat.le_of_ble_eq_true rfl⟩ dX14_willing_27 (fun H locs hW => ?_)
          refine lv_if_eq (tgt := 39) hx hb dX14_willing_30 (by decide) (fun c30 => ?_) (fun c30 => ?_)
          · have hf := ifp c30 hf
            exact B39 (f_X14_willing_b4 n) ih r0 r1 x3 x2 s27 hf _ _ _ (lv_sub hl [0, 1, 3] rfl) hW
          · have hf := ifn c30 hf
            refine lv_iconst (v := 1) hx hb dX14_willing_33 (by decide) ?_
            refine lv_iload_n hx hb dX14_willing_34 rfl (lv_at hl 3 rfl) ?_
            refine lv_ishl hx hb dX14_willing_35 ?_
            refine lv_goto (tgt := 40) hx hb dX14_willing_36 (by decide) ?_
            exact B40 (f_X14_willing_b4 n) ih r0 r1 x3 (1 <<< (x3 &&& 31)) x2 s27 hf _ _ _ (lv_sub hl [0, 1, 3] rfl) hW
  unfold f_X14_willing at hf
  refine lv_iconst (v := 0) hx hb dX14_willing_0 (by decide) ?_
  refine lv_istore_n (lv' := [(2, .int 0), (0, .ref (a o)), (1, .ref (a r1))]) hx hb dX14_willing_1 rfl hl (by decide) rfl (fun ls hl => ?_)
  refine lv_iconst (v := 0) hx hb dX14_willing_2 (by decide) ?_
  refine lv_istore_n (lv' := [(3, .int 0), (2, .int 0), (0, .ref (a o)), (1, .ref (a r1))]) hx hb dX14_willing_3 rfl hl (by decide) rfl (fun ls hl => ?_)
  exact B4 fuel o r1 0 0 s hf _ _ _ (lv_sub hl [2, 3, 1, 0] rfl) hW
def f_X14_shows (o : Nat) (x1 : Int32) (s : ST) : Option (Int32 × ST) :=
  gd (o < s.1 ∧ (kd s o).1 = 14) <|
  bnd (p_max 0 (x1 + (gi s o 9))) fun v7 =>
  gd (¬ (gi s o 8) = 0) <|
  some ((v7 - (v7 - v7 / (gi s o 8) * (gi s o 8))), s)
set_option maxHeartbeats 4000000 in
theorem ct_X14_shows (l : Launch) (G : GM) (a : Nat → Nat) (o : Nat) (x1 : Int32) (s : ST) (rv : Int32) (sf : ST) (hf : f_X14_shows o x1 s = some (rv, sf)) : MD l G yX14_shows (ws_ yX14_shows cX14_shows 3 (some .int)) 1 [.ref (a o), .int x1] a s (some (.int rv)) sf := by
  refine md_of (d := 1) (lv := [(0, .ref (a o)), (1, .int x1)]) (Or.inl (by decide)) (Nat.le_of_ble_eq_true rfl) rfl ?_
  intro p e s0 m args below meth c ls A P hP hC hr hnm hW hl
  have hx := hC.1
  have hb := hC.2.1
  have hts := hC.2.2.2.2.1
  unfold f_X14_shows at hf
  refine lv_iconst (v := 0) hx hb dX14_shows_0 (by decide) ?_
  refine lv_iload_n hx hb dX14_shows_1 rfl (lv_at hl 1 rfl) ?_
  refine lv_aload_n hx hb dX14_shows_2 rfl (lv_at hl 0 rfl) ?_
  obtain ⟨g3, hf⟩ := gd_some hf
  refine aw_gI hC hW g3 fl_X14_251 rfl dX14_shows_3 ?_
  refine lv_iadd hx hb dX14_shows_6 ?_
  obtain ⟨v7, ev7, hf⟩ := bnd_some hf
  refine aw_dS1 (As := [.int 0, .int (x1 + (gi s o 9))]) (rest := []) (pc_J0_max l G a 0 (x1 + (gi s o 9)) s) hC hW hl.1 sy_J0_max (Or.inl q1633) rfl rfl (Nat.le_of_ble_eq_true rfl) ⟨Nat.le_of_ble_eq_true rfl, Nat.le_of_ble_eq_true rfl⟩ ⟨Nat.le_of_ble_eq_true rfl, Nat.le_of_ble_eq_true rfl⟩ dX14_shows_7 (fun H locs hW => ?_)
  refine top_i ev7 ?_
  refine lv_istore_n (lv' := [(2, .int v7), (0, .ref (a o)), (1, .int x1)]) hx hb dX14_shows_10 rfl hl (by decide) rfl (fun ls hl => ?_)
  refine lv_iload_n hx hb dX14_shows_11 rfl (lv_at hl 0 rfl) ?_
  refine lv_iload_n hx hb dX14_shows_12 rfl (lv_at hl 0 rfl) ?_
  refine lv_aload_n hx hb dX14_shows_13 rfl (lv_at hl 1 rfl) ?_
  refine aw_gI hC hW g3 fl_X14_41 rfl dX14_shows_14 ?_
  obtain ⟨g17, hf⟩ := gd_some hf
  refine lv_irem hx hb dX14_shows_17 g17 ?_
  refine lv_isub hx hb dX14_shows_18 ?_
  obtain ⟨e1, e2⟩ := so_inj hf
  exact aw_iret hC hW hr rfl (p_eq hP (congrArg (fun z => some (Value.int z)) e1) e2) (Nat.le_of_ble_eq_true rfl) (Nat.le_of_ble_eq_true rfl) dX14_shows_19
def f_X14_falls_b54 (K4 : Nat → Int32 → Int32 → ST → Option (Int32 × ST)) (r1 : Nat) (x2 : Int32) (x3 : Int32) (s : ST) : Option (Int32 × ST) :=
  bnd (x3 + 1 : Int32) fun v54 =>
  K4 r1 x2 v54 s
def f_X14_falls_b4 : Nat → Nat → Int32 → Int32 → ST → Option (Int32 × ST)
  | 0, _, _, _, _ => none
  | n + 1, r1, x2, x3, s =>
  gd (r1 < s.1 ∧ (kd s r1).1 = 100 ∧ ¬ ((20 : Int32) < 0 ∨ (kd s r1).2 ≤ (20 : Int32).toNatClampNeg)) <|
  if (gi s r1 (20 : Int32).toNatClampNeg) ≤ x3 then (some (x2, s)) else gd (r1 < s.1 ∧ (kd s r1).1 = 100 ∧ ¬ ((17 : Int32) < 0 ∨ (kd s r1).2 ≤ (17 : Int32).toNatClampNeg)) <|
  if (gi s r1 (17 : Int32).toNatClampNeg) < 0 then (f_X14_falls_b54 (f_X14_falls_b4 n) r1 x2 x3 s) else gd (r1 < s.1 ∧ (kd s r1).1 = 100 ∧ ¬ (((21 + x3) : Int32) < 0 ∨ (kd s r1).2 ≤ ((21 + x3) : Int32).toNatClampNeg)) <|
  gd (r1 < s.1 ∧ (kd s r1).1 = 100 ∧ ¬ ((17 : Int32) < 0 ∨ (kd s r1).2 ≤ (17 : Int32).toNatClampNeg)) <|
  if (gi s r1 ((21 + x3) : Int32).toNatClampNeg) = (gi s r1 (17 : Int32).toNatClampNeg) then (gd (r1 < s.1 ∧ (kd s r1).1 = 100 ∧ ¬ (((45 + x3) : Int32) < 0 ∨ (kd s r1).2 ≤ ((45 + x3) : Int32).toNatClampNeg)) <|
  if 0 ≤ (gi s r1 ((45 + x3) : Int32).toNatClampNeg) then (f_X14_falls_b54 (f_X14_falls_b4 n) r1 x2 x3 s) else gd (r1 < s.1 ∧ (kd s r1).1 = 100 ∧ ¬ ((19 : Int32) < 0 ∨ (kd s r1).2 ≤ (19 : Int32).toNatClampNeg)) <|
  gd (r1 < s.1 ∧ (kd s r1).1 = 100 ∧ ¬ (((45 + x3) : Int32) < 0 ∨ (kd s r1).2 ≤ ((45 + x3) : Int32).toNatClampNeg)) <|
  bnd (pI s r1 ((45 + x3) : Int32).toNatClampNeg (gi s r1 (19 : Int32).toNatClampNeg)) fun s50 =>
  bnd (x2 + 1 : Int32) fun v51 =>
  f_X14_falls_b54 (f_X14_falls_b4 n) r1 v51 x3 s50) else f_X14_falls_b54 (f_X14_falls_b4 n) r1 x2 x3 s
def f_X14_falls (o : Nat) (r1 : Nat) (s : ST) : Option (Int32 × ST) :=
  f_X14_falls_b4 fuel r1 0 0 s
set_option maxHeartbeats 4000000 in
theorem ct_X14_falls (l : Launch) (G : GM) (a : Nat → Nat) (o : Nat) (r1 : Nat) (s : ST) (rv : Int32) (sf : ST) (hf : f_X14_falls o r1 s = some (rv, sf)) : MD l G yX14_falls (ws_ yX14_falls cX14_falls 4 (some .int)) 0 [.ref (a o), .ref (a r1)] a s (some (.int rv)) sf := by
  refine md_of (d := 0) (lv := [(0, .ref (a o)), (1, .ref (a r1))]) (Or.inl (by decide)) (Nat.le_of_ble_eq_true rfl) rfl ?_
  intro p e s0 m args below meth c ls A P hP hC hr hnm hW hl
  have hx := hC.1
  have hb := hC.2.1
  have hts := hC.2.2.2.2.1
  have B54 : ∀ (K4 : Nat → Int32 → Int32 → ST → Option (Int32 × ST)) (hK4 : ∀ (r1 : Nat) (x2 : Int32) (x3 : Int32) (s : ST), K4 r1 x2 x3 s = some (rv, sf) → ∀ (H : Heap) (locs : List Loc) (ls : Array Slot), lv_has ls 4 [(1, .ref (a r1)), (2, .int x2), (3, .int x3)] → AW G a A s s0.heap H locs → WB p l e (rmD 0) s0 m args below meth c H locs G A P 4 ls []), ∀ (r1 : Nat) (x2 : Int32) (x3 : Int32) (s : ST), f_X14_falls_b54 K4 r1 x2 x3 s = some (rv, sf) → ∀ (H : Heap) (locs : List Loc) (ls : Array Slot), lv_has ls 4 [(1, .ref (a r1)), (2, .int x2), (3, .int x3)] → AW G a A s s0.heap H locs → WB p l e (rmD 0) s0 m args below meth c H locs G A P 54 ls [] := by
    intro K4 hK4 r1 x2 x3 s hf H locs ls hl hW
    unfold f_X14_falls_b54 at hf
    obtain ⟨v54, ev54, hf⟩ := bnd_some hf
    refine lv_iinc (v := v54) (lv' := [(3, .int v54), (1, .ref (a r1)), (2, .int x2)]) hx hb dX14_falls_54 hl (k := 2) rfl (by rw [ev54]; rfl) (by decide) rfl (fun ls hl => ?_)
    refine lv_goto (tgt := 4) hx hb dX14_falls_57 (by decide) ?_
    exact hK4 r1 x2 v54 s hf _ _ _ (lv_sub hl [1, 2, 0] rfl) hW
  have B4 : ∀ (n : Nat), ∀ (r1 : Nat) (x2 : Int32) (x3 : Int32) (s : ST), f_X14_falls_b4 n r1 x2 x3 s = some (rv, sf) → ∀ (H : Heap) (locs : List Loc) (ls : Array Slot), lv_has ls 4 [(1, .ref (a r1)), (2, .int x2), (3, .int x3)] → AW G a A s s0.heap H locs → WB p l e (rmD 0) s0 m args below meth c H locs G A P 4 ls [] := by
    intro n
    induction n with
    | zero => intro r1 x2 x3 s hf; cases hf
    | succ n ih =>
      intro r1 x2 x3 s hf H locs ls hl hW
      rw [f_X14_falls_b4] at hf
      refine lv_iload_n hx hb dX14_falls_4 rfl (lv_at hl 2 rfl) ?_
      refine lv_aload_n hx hb dX14_falls_5 rfl (lv_at hl 0 rfl) ?_
      refine lv_bipush (v := 20) hx hb dX14_falls_6 (by decide) ?_
      obtain ⟨g8, hf⟩ := gd_some hf
      refine aw_iald hC hW g8 dX14_falls_8 ?_
      refine lv_icmp_ge (tgt := 60) hx hb dX14_falls_9 (by decide) (fun c9 => ?_) (fun c9 => ?_)
      · have hf := ifp c9 hf
        refine lv_iload_n hx hb dX14_falls_60 rfl (lv_at hl 1 rfl) ?_
        obtain ⟨e1, e2⟩ := so_inj hf
        exact aw_iret hC hW hr rfl (p_eq hP (congrArg (fun z => some (Value.int z)) e1) e2) (Nat.le_of_ble_eq_true rfl) (Nat.le_of_ble_eq_true rfl) dX14_falls_61
      · have hf := ifn c9 hf
        refine lv_aload_n hx hb dX14_falls_12 rfl (lv_at hl 0 rfl) ?_
        refine lv_bipush (v := 17) hx hb dX14_falls_13 (by decide) ?_
        obtain ⟨g15, hf⟩ := gd_some hf
        refine aw_iald hC hW g15 dX14_falls_15 ?_
        refine lv_if_lt (tgt := 54) hx hb dX14_falls_16 (by decide) (fun c16 => ?_) (fun c16 => ?_)
        · have hf := ifp c16 hf
          exact B54 (f_X14_falls_b4 n) ih r1 x2 x3 s hf _ _ _ (lv_sub hl [0, 1, 2] rfl) hW
        · have hf := ifn c16 hf
          refine lv_aload_n hx hb dX14_falls_19 rfl (lv_at hl 0 rfl) ?_
          refine lv_bipush (v := 21) hx hb dX14_falls_20 (by decide) ?_
          refine lv_iload_n hx hb dX14_falls_22 rfl (lv_at hl 2 rfl) ?_
          refine lv_iadd hx hb dX14_falls_23 ?_
          obtain ⟨g24, hf⟩ := gd_some hf
          refine aw_iald hC hW g24 dX14_falls_24 ?_
          refine lv_aload_n hx hb dX14_falls_25 rfl (lv_at hl 0 rfl) ?_
          refine lv_bipush (v := 17) hx hb dX14_falls_26 (by decide) ?_
          obtain ⟨g28, hf⟩ := gd_some hf
          refine aw_iald hC hW g28 dX14_falls_28 ?_
          refine lv_icmp_ne (tgt := 54) hx hb dX14_falls_29 (by decide) (fun c29 => ?_) (fun c29 => ?_)
          · have hf := ifn c29 hf
            exact B54 (f_X14_falls_b4 n) ih r1 x2 x3 s hf _ _ _ (lv_sub hl [0, 1, 2] rfl) hW
          · have hf := ifp c29 hf
            refine lv_aload_n hx hb dX14_falls_32 rfl (lv_at hl 0 rfl) ?_
            refine lv_bipush (v := 45) hx hb dX14_falls_33 (by decide) ?_
            refine lv_iload_n hx hb dX14_falls_35 rfl (lv_at hl 2 rfl) ?_
            refine lv_iadd hx hb dX14_falls_36 ?_
            obtain ⟨g37, hf⟩ := gd_some hf
            refine aw_iald hC hW g37 dX14_falls_37 ?_
            refine lv_if_ge (tgt := 54) hx hb dX14_falls_38 (by decide) (fun c38 => ?_) (fun c38 => ?_)
            · have hf := ifp c38 hf
              exact B54 (f_X14_falls_b4 n) ih r1 x2 x3 s hf _ _ _ (lv_sub hl [0, 1, 2] rfl) hW
            · have hf := ifn c38 hf
              refine lv_aload_n hx hb dX14_falls_41 rfl (lv_at hl 0 rfl) ?_
              refine lv_bipush (v := 45) hx hb dX14_falls_42 (by decide) ?_
              refine lv_iload_n hx hb dX14_falls_44 rfl (lv_at hl 2 rfl) ?_
              refine lv_iadd hx hb dX14_falls_45 ?_
              refine lv_aload_n hx hb dX14_falls_46 rfl (lv_at hl 0 rfl) ?_
              refine lv_bipush (v := 19) hx hb dX14_falls_47 (by decide) ?_
              obtain ⟨g49, hf⟩ := gd_some hf
              refine aw_iald hC hW g49 dX14_falls_49 ?_
              obtain ⟨g50, hf⟩ := gd_some hf
              obtain ⟨s50, e50, hf⟩ := bnd_some hf
              refine aw_iast e50 hC hW g50 dX14_falls_50 (fun H locs hW => ?_)
              obtain ⟨v51, ev51, hf⟩ := bnd_some hf
              refine lv_iinc (v := v51) (lv' := [(2, .int v51), (1, .ref (a r1)), (3, .int x3)]) hx hb dX14_falls_51 hl (k := 1) rfl (by rw [ev51]; rfl) (by decide) rfl (fun ls hl => ?_)
              exact B54 (f_X14_falls_b4 n) ih r1 v51 x3 s50 hf _ _ _ (lv_sub hl [1, 0, 2] rfl) hW
  unfold f_X14_falls at hf
  refine lv_iconst (v := 0) hx hb dX14_falls_0 (by decide) ?_
  refine lv_istore_n (lv' := [(2, .int 0), (0, .ref (a o)), (1, .ref (a r1))]) hx hb dX14_falls_1 rfl hl (by decide) rfl (fun ls hl => ?_)
  refine lv_iconst (v := 0) hx hb dX14_falls_2 (by decide) ?_
  refine lv_istore_n (lv' := [(3, .int 0), (2, .int 0), (0, .ref (a o)), (1, .ref (a r1))]) hx hb dX14_falls_3 rfl hl (by decide) rfl (fun ls hl => ?_)
  exact B4 fuel r1 0 0 s hf _ _ _ (lv_sub hl [3, 1, 0] rfl) hW
def f_X14_goes_b266 (K193 : Nat → Nat → Int32 → ST → Option (Unit × ST)) (r0 : Nat) (r1 : Nat) (x4 : Int32) (s : ST) : Option (Unit × ST) :=
  bnd (x4 + 1 : Int32) fun v266 =>
  K193 r0 r1 v266 s
def f_X14_goes_b193 : Nat → Nat → Nat → Int32 → ST → Option (Unit × ST)
  | 0, _, _, _, _ => none
  | n + 1, r0, r1, x4, s =>
  gd (r0 < s.1 ∧ (kd s r0).1 = 14) <|
  if (gi s r0 3) ≤ x4 then (gd (r1 < s.1 ∧ (kd s r1).1 = 100 ∧ ¬ ((19 : Int32) < 0 ∨ (kd s r1).2 ≤ (19 : Int32).toNatClampNeg)) <|
  gd (r1 < s.1 ∧ (kd s r1).1 = 100 ∧ ¬ ((19 : Int32) < 0 ∨ (kd s r1).2 ≤ (19 : Int32).toNatClampNeg)) <|
  bnd (pI s r1 (19 : Int32).toNatClampNeg ((gi s r1 (19 : Int32).toNatClampNeg) + 1)) fun s279 =>
  some ((), s279)) else gd (r1 < s.1 ∧ (kd s r1).1 = 100 ∧ ¬ ((16 : Int32) < 0 ∨ (kd s r1).2 ≤ (16 : Int32).toNatClampNeg)) <|
  bnd (p_has (gi s r1 (16 : Int32).toNatClampNeg) x4) fun v208 =>
  if v208 = 0 then (f_X14_goes_b266 (f_X14_goes_b193 n) r0 r1 x4 s) else (gr s r0 7).bind fun q215 =>
  gd (q215 < s.1 ∧ (kd s q215).1 = 100 ∧ ¬ ((x4 : Int32) < 0 ∨ (kd s q215).2 ≤ (x4 : Int32).toNatClampNeg)) <|
  if (gi s q215 (x4 : Int32).toNatClampNeg) ≤ 0 then (f_X14_goes_b266 (f_X14_goes_b193 n) r0 r1 x4 s) else gd (r1 < s.1 ∧ (kd s r1).1 = 100 ∧ ¬ ((x4 : Int32) < 0 ∨ (kd s r1).2 ≤ (x4 : Int32).toNatClampNeg)) <|
  (gr s r0 6).bind fun q236 =>
  gd (r1 < s.1 ∧ (kd s r1).1 = 100 ∧ ¬ ((19 : Int32) < 0 ∨ (kd s r1).2 ≤ (19 : Int32).toNatClampNeg)) <|
  (gr s r0 7).bind fun q249 =>
  gd (q249 < s.1 ∧ (kd s q249).1 = 100 ∧ ¬ ((x4 : Int32) < 0 ∨ (kd s q249).2 ≤ (x4 : Int32).toNatClampNeg)) <|
  gd (¬ (gi s q249 (x4 : Int32).toNatClampNeg) = 0) <|
  gd (q236 < s.1 ∧ (kd s q236).1 = 100 ∧ ¬ ((((6 * x4) + ((gi s r1 (19 : Int32).toNatClampNeg) - (gi s r1 (19 : Int32).toNatClampNeg) / (gi s q249 (x4 : Int32).toNatClampNeg) * (gi s q249 (x4 : Int32).toNatClampNeg))) : Int32) < 0 ∨ (kd s q236).2 ≤ (((6 * x4) + ((gi s r1 (19 : Int32).toNatClampNeg) - (gi s r1 (19 : Int32).toNatClampNeg) / (gi s q249 (x4 : Int32).toNatClampNeg) * (gi s q249 (x4 : Int32).toNatClampNeg))) : Int32).toNatClampNeg)) <|
  bnd (p_min 999 ((gi s r1 (x4 : Int32).toNatClampNeg) + (gi s q236 (((6 * x4) + ((gi s r1 (19 : Int32).toNatClampNeg) - (gi s r1 (19 : Int32).toNatClampNeg) / (gi s q249 (x4 : Int32).toNatClampNeg) * (gi s q249 (x4 : Int32).toNatClampNeg))) : Int32).toNatClampNeg))) fun v259 =>
  bnd (p_max 1 v259) fun v262 =>
  gd (r1 < s.1 ∧ (kd s r1).1 = 100 ∧ ¬ ((x4 : Int32) < 0 ∨ (kd s r1).2 ≤ (x4 : Int32).toNatClampNeg)) <|
  bnd (pI s r1 (x4 : Int32).toNatClampNeg v262) fun s265 =>
  f_X14_goes_b266 (f_X14_goes_b193 n) r0 r1 x4 s265
def f_X14_goes_b174 (r0 : Nat) (r1 : Nat) (s : ST) : Option (Unit × ST) :=
  gd (r1 < s.1 ∧ (kd s r1).1 = 100 ∧ ¬ ((19 : Int32) < 0 ∨ (kd s r1).2 ≤ (19 : Int32).toNatClampNeg)) <|
  gd (r1 < s.1 ∧ (kd s r1).1 = 100 ∧ ¬ ((17 : Int32) < 0 ∨ (kd s r1).2 ≤ (17 : Int32).toNatClampNeg)) <|
  gd (r1 < s.1 ∧ (kd s r1).1 = 100 ∧ ¬ (((57 + ((gi s r1 (19 : Int32).toNatClampNeg) - (gi s r1 (19 : Int32).toNatClampNeg) / 60 * 60)) : Int32) < 0 ∨ (kd s r1).2 ≤ ((57 + ((gi s r1 (19 : Int32).toNatClampNeg) - (gi s r1 (19 : Int32).toNatClampNeg) / 60 * 60)) : Int32).toNatClampNeg)) <|
  bnd (pI s r1 ((57 + ((gi s r1 (19 : Int32).toNatClampNeg) - (gi s r1 (19 : Int32).toNatClampNeg) / 60 * 60)) : Int32).toNatClampNeg (gi s r1 (17 : Int32).toNatClampNeg)) fun s189 =>
  f_X14_goes_b193 fuel r0 r1 0 s189
def f_X14_goes_b146 (r0 : Nat) (r1 : Nat) (s : ST) : Option (Unit × ST) :=
  gd (r1 < s.1 ∧ (kd s r1).1 = 100 ∧ ¬ ((17 : Int32) < 0 ∨ (kd s r1).2 ≤ (17 : Int32).toNatClampNeg)) <|
  if (gi s r1 (17 : Int32).toNatClampNeg) < 0 then (f_X14_goes_b174 r0 r1 s) else gd (r1 < s.1 ∧ (kd s r1).1 = 100 ∧ ¬ ((17 : Int32) < 0 ∨ (kd s r1).2 ≤ (17 : Int32).toNatClampNeg)) <|
  bnd ((8 + (gi s r1 (17 : Int32).toNatClampNeg)) : Int32) fun v161 =>
  gd (r1 < s.1 ∧ (kd s r1).1 = 100 ∧ ¬ ((v161 : Int32) < 0 ∨ (kd s r1).2 ≤ (v161 : Int32).toNatClampNeg)) <|
  gd (r1 < s.1 ∧ (kd s r1).1 = 100 ∧ ¬ ((v161 : Int32) < 0 ∨ (kd s r1).2 ≤ (v161 : Int32).toNatClampNeg)) <|
  bnd (pI s r1 (v161 : Int32).toNatClampNeg ((gi s r1 (v161 : Int32).toNatClampNeg) + 1)) fun s165 =>
  gd (r1 < s165.1 ∧ (kd s165 r1).1 = 100 ∧ ¬ ((18 : Int32) < 0 ∨ (kd s165 r1).2 ≤ (18 : Int32).toNatClampNeg)) <|
  gd (r1 < s165.1 ∧ (kd s165 r1).1 = 100 ∧ ¬ ((18 : Int32) < 0 ∨ (kd s165 r1).2 ≤ (18 : Int32).toNatClampNeg)) <|
  bnd (pI s165 r1 (18 : Int32).toNatClampNeg ((gi s165 r1 (18 : Int32).toNatClampNeg) + 1)) fun s173 =>
  f_X14_goes_b174 r0 r1 s173
def f_X14_goes_b122 (r0 : Nat) (r1 : Nat) (x3 : Int32) (s : ST) : Option (Unit × ST) :=
  gd (r0 < s.1 ∧ (kd s r0).1 = 14) <|
  ob (f_X14_falls r0 r1 s) fun v129 s129 =>
  gd (r0 < s129.1 ∧ (kd s129 r0).1 = 14) <|
  bnd (pI s129 r0 27 ((gi s r0 27) + v129)) fun s133 =>
  gd (r1 < s133.1 ∧ (kd s133 r1).1 = 100 ∧ ¬ ((17 : Int32) < 0 ∨ (kd s133 r1).2 ≤ (17 : Int32).toNatClampNeg)) <|
  bnd (pI s133 r1 (17 : Int32).toNatClampNeg x3) fun s140 =>
  gd (r1 < s140.1 ∧ (kd s140 r1).1 = 100 ∧ ¬ ((18 : Int32) < 0 ∨ (kd s140 r1).2 ≤ (18 : Int32).toNatClampNeg)) <|
  bnd (pI s140 r1 (18 : Int32).toNatClampNeg 0) fun s145 =>
  f_X14_goes_b146 r0 r1 s145
def f_X14_goes_b84 (K5 : Nat → Nat → Int32 → Int32 → Int32 → ST → Option (Unit × ST)) (r0 : Nat) (r1 : Nat) (x2 : Int32) (x4 : Int32) (t0 : Int32) (s : ST) : Option (Unit × ST) :=
  bnd (x4 + 1 : Int32) fun v85 =>
  K5 r0 r1 x2 t0 v85 s
def f_X14_goes_b83 (K5 : Nat → Nat → Int32 → Int32 → Int32 → ST → Option (Unit × ST)) (r0 : Nat) (r1 : Nat) (x2 : Int32) (x3 : Int32) (x4 : Int32) (s : ST) : Option (Unit × ST) :=
  f_X14_goes_b84 K5 r0 r1 x2 x4 x3 s
def f_X14_goes_b78 (K5 : Nat → Nat → Int32 → Int32 → Int32 → ST → Option (Unit × ST)) (r0 : Nat) (r1 : Nat) (x2 : Int32) (x4 : Int32) (s : ST) : Option (Unit × ST) :=
  f_X14_goes_b84 K5 r0 r1 x2 x4 x4 s
def f_X14_goes_b49 (K5 : Nat → Nat → Int32 → Int32 → Int32 → ST → Option (Unit × ST)) (r0 : Nat) (r1 : Nat) (x2 : Int32) (x3 : Int32) (x4 : Int32) (t0 : Int32) (s : ST) : Option (Unit × ST) :=
  if t0 = 0 then (f_X14_goes_b83 K5 r0 r1 x2 x3 x4 s) else if x3 < 0 then (f_X14_goes_b78 K5 r0 r1 x2 x4 s) else gd (r1 < s.1 ∧ (kd s r1).1 = 100 ∧ ¬ ((x4 : Int32) < 0 ∨ (kd s r1).2 ≤ (x4 : Int32).toNatClampNeg)) <|
  gd (r0 < s.1 ∧ (kd s r0).1 = 14) <|
  ob (f_X14_shows r0 (gi s r1 (x4 : Int32).toNatClampNeg) s) fun v65 s65 =>
  gd (r1 < s65.1 ∧ (kd s65 r1).1 = 100 ∧ ¬ ((x3 : Int32) < 0 ∨ (kd s65 r1).2 ≤ (x3 : Int32).toNatClampNeg)) <|
  gd (r0 < s65.1 ∧ (kd s65 r0).1 = 14) <|
  ob (f_X14_shows r0 (gi s65 r1 (x3 : Int32).toNatClampNeg) s65) fun v72 s72 =>
  if v65 ≤ v72 then (f_X14_goes_b83 K5 r0 r1 x2 x3 x4 s72) else f_X14_goes_b78 K5 r0 r1 x2 x4 s72
def f_X14_goes_b48 (K5 : Nat → Nat → Int32 → Int32 → Int32 → ST → Option (Unit × ST)) (r0 : Nat) (r1 : Nat) (x2 : Int32) (x3 : Int32) (x4 : Int32) (s : ST) : Option (Unit × ST) :=
  f_X14_goes_b49 K5 r0 r1 x2 x3 x4 0 s
def f_X14_goes_b5 : Nat → Nat → Nat → Int32 → Int32 → Int32 → ST → Option (Unit × ST)
  | 0, _, _, _, _, _, _ => none
  | n + 1, r0, r1, x2, x3, x4, s =>
  gd (r0 < s.1 ∧ (kd s r0).1 = 14) <|
  if (gi s r0 3) ≤ x4 then (if x3 < 0 then (f_X14_goes_b146 r0 r1 s) else gd (r1 < s.1 ∧ (kd s r1).1 = 100 ∧ ¬ ((17 : Int32) < 0 ∨ (kd s r1).2 ≤ (17 : Int32).toNatClampNeg)) <|
  if (gi s r1 (17 : Int32).toNatClampNeg) < 0 then (f_X14_goes_b122 r0 r1 x3 s) else gd (r1 < s.1 ∧ (kd s r1).1 = 100 ∧ ¬ ((x3 : Int32) < 0 ∨ (kd s r1).2 ≤ (x3 : Int32).toNatClampNeg)) <|
  ob (f_X14_shows r0 (gi s r1 (x3 : Int32).toNatClampNeg) s) fun v106 s106 =>
  gd (r1 < s106.1 ∧ (kd s106 r1).1 = 100 ∧ ¬ ((17 : Int32) < 0 ∨ (kd s106 r1).2 ≤ (17 : Int32).toNatClampNeg)) <|
  gd (r1 < s106.1 ∧ (kd s106 r1).1 = 100 ∧ ¬ (((gi s106 r1 (17 : Int32).toNatClampNeg) : Int32) < 0 ∨ (kd s106 r1).2 ≤ ((gi s106 r1 (17 : Int32).toNatClampNeg) : Int32).toNatClampNeg)) <|
  gd (r0 < s106.1 ∧ (kd s106 r0).1 = 14) <|
  ob (f_X14_shows r0 (gi s106 r1 ((gi s106 r1 (17 : Int32).toNatClampNeg) : Int32).toNatClampNeg) s106) fun v116 s116 =>
  if v106 ≤ v116 then (f_X14_goes_b146 r0 r1 s116) else f_X14_goes_b122 r0 r1 x3 s116) else bnd (p_has x2 x4) fun v17 =>
  if v17 = 0 then (f_X14_goes_b48 (f_X14_goes_b5 n) r0 r1 x2 x3 x4 s) else gd (r1 < s.1 ∧ (kd s r1).1 = 100 ∧ ¬ ((16 : Int32) < 0 ∨ (kd s r1).2 ≤ (16 : Int32).toNatClampNeg)) <|
  bnd (p_has (gi s r1 (16 : Int32).toNatClampNeg) x4) fun v29 =>
  if v29 = 0 then (f_X14_goes_b48 (f_X14_goes_b5 n) r0 r1 x2 x3 x4 s) else gd (r1 < s.1 ∧ (kd s r1).1 = 100 ∧ ¬ ((17 : Int32) < 0 ∨ (kd s r1).2 ≤ (17 : Int32).toNatClampNeg)) <|
  if x4 = (gi s r1 (17 : Int32).toNatClampNeg) then (f_X14_goes_b48 (f_X14_goes_b5 n) r0 r1 x2 x3 x4 s) else f_X14_goes_b49 (f_X14_goes_b5 n) r0 r1 x2 x3 x4 1 s
def f_X14_goes (o : Nat) (r1 : Nat) (x2 : Int32) (s : ST) : Option (Unit × ST) :=
  f_X14_goes_b5 fuel o r1 x2 (-1) 0 s
set_option maxHeartbeats 4000000 in
theorem ct_X14_goes (l : Launch) (G : GM) (a : Nat → Nat) (o : Nat) (r1 : Nat) (x2 : Int32) (s : ST) (rv : Unit) (sf : ST) (hf : f_X14_goes o r1 x2 s = some (rv, sf)) : MD l G yX14_goes (ws_ yX14_goes cX14_goes 6 none) 2 [.ref (a o), .ref (a r1), .int x2] a s none sf := by
  refine md_of (d := 2) (lv := [(0, .ref (a o)), (1, .ref (a r1)), (2, .int x2)]) (Or.inl (by decide)) (Nat.le_of_ble_eq_true rfl) rfl ?_
  intro p e s0 m args below meth c ls A P hP hC hr hnm hW hl
  have hx := hC.1
  have hb := hC.2.1
  have hts := hC.2.2.2.2.1
  have B266 : ∀ (K193 : Nat → Nat → Int32 → ST → Option (Unit × ST)) (hK193 : ∀ (r0 : Nat) (r1 : Nat) (x4 : Int32) (s : ST), K193 r0 r1 x4 s = some (rv, sf) → ∀ (H : Heap) (locs : List Loc) (ls : Array Slot), lv_has ls 6 [(0, .ref (a r0)), (1, .ref (a r1)), (4, .int x4)] → AW G a A s s0.heap H locs → WB p l e (rmD 2) s0 m args below meth c H locs G A P 193 ls []), ∀ (r0 : Nat) (r1 : Nat) (x4 : Int32) (s : ST), f_X14_goes_b266 K193 r0 r1 x4 s = some (rv, sf) → ∀ (H : Heap) (locs : List Loc) (ls : Array Slot), lv_has ls 6 [(0, .ref (a r0)), (1, .ref (a r1)), (4, .int x4)] → AW G a A s s0.heap H locs → WB p l e (rmD 2) s0 m args below meth c H locs G A P 266 ls [] := by
    intro K193 hK193 r0 r1 x4 s hf H locs ls hl hW
    unfold f_X14_goes_b266 at hf
    obtain ⟨v266, ev266, hf⟩ := bnd_some hf
    refine lv_iinc (v := v266) (lv' := [(4, .int v266), (0, .ref (a r0)), (1, .ref (a r1))]) hx hb dX14_goes_266 hl (k := 2) rfl (by rw [ev266]; rfl) (by decide) rfl (fun ls hl => ?_)
    refine lv_goto (tgt := 193) hx hb dX14_goes_269 (by decide) ?_
    exact hK193 r0 r1 v266 s hf _ _ _ (lv_sub hl [1, 2, 0] rfl) hW
  have B193 : ∀ (n : Nat), ∀ (r0 : Nat) (r1 : Nat) (x4 : Int32) (s : ST), f_X14_goes_b193 n r0 r1 x4 s = some (rv, sf) → ∀ (H : Heap) (locs : List Loc) (ls : Array Slot), lv_has ls 6 [(0, .ref (a r0)), (1, .ref (a r1)), (4, .int x4)] → AW G a A s s0.heap H locs → WB p l e (rmD 2) s0 m args below meth c H locs G A P 193 ls [] := by
    intro n
    induction n with
    | zero => intro r0 r1 x4 s hf; cases hf
    | succ n ih =>
      intro r0 r1 x4 s hf H locs ls hl hW
      rw [f_X14_goes_b193] at hf
      refine lv_iload hx hb dX14_goes_193 (lv_at hl 2 rfl) ?_
      refine lv_aload_n hx hb dX14_goes_195 rfl (lv_at hl 0 rfl) ?_
      obtain ⟨g196, hf⟩ := gd_some hf
      refine aw_gI hC hW g196 fl_X14_117 rfl dX14_goes_196 ?_
      refine lv_icmp_ge (tgt := 272) hx hb dX14_goes_199 (by decide) (fun c199 => ?_) (fun c199 => ?_)
      · have hf := ifp c199 hf
        refine lv_aload_n hx hb dX14_goes_272 rfl (lv_at hl 1 rfl) ?_
        refine lv_bipush (v := 19) hx hb dX14_goes_273 (by decide) ?_
        refine lv_dup2_11 hx hb dX14_goes_275 rfl rfl ?_
        obtain ⟨g276, hf⟩ := gd_some hf
        refine aw_iald hC hW g276 dX14_goes_276 ?_
        refine lv_iconst (v := 1) hx hb dX14_goes_277 (by decide) ?_
        refine lv_iadd hx hb dX14_goes_278 ?_
        obtain ⟨g279, hf⟩ := gd_some hf
        obtain ⟨s279, e279, hf⟩ := bnd_some hf
        refine aw_iast e279 hC hW g279 dX14_goes_279 (fun H locs hW => ?_)
        have g196 := ko_pI e279 g196
        obtain ⟨e1, e2⟩ := so_inj hf
        exact aw_vret hC hW hr (p_eq hP rfl e2) (Nat.le_of_ble_eq_true rfl) (Nat.le_of_ble_eq_true rfl) dX14_goes_280
      · have hf := ifn c199 hf
        refine lv_aload_n hx hb dX14_goes_202 rfl (lv_at hl 1 rfl) ?_
        refine lv_bipush (v := 16) hx hb dX14_goes_203 (by decide) ?_
        obtain ⟨g205, hf⟩ := gd_some hf
        refine aw_iald hC hW g205 dX14_goes_205 ?_
        refine lv_iload hx hb dX14_goes_206 (lv_at hl 2 rfl) ?_
        obtain ⟨v208, ev208, hf⟩ := bnd_some hf
        refine aw_dS1 (As := [.int (gi s r1 (16 : Int32).toNatClampNeg), .int x4]) (rest := []) (pc_X14_has l G a (gi s r1 (16 : Int32).toNatClampNeg) x4 s) hC hW hl.1 sy_X14_has (Or.inl q1626) rfl rfl (Nat.le_of_ble_eq_true rfl) ⟨Nat.le_of_ble_eq_true rfl, Nat.le_of_ble_eq_true rfl⟩ ⟨Nat.le_of_ble_eq_true rfl, Nat.le_of_ble_eq_true rfl⟩ dX14_goes_208 (fun H locs hW => ?_)
        refine top_i ev208 ?_
        refine lv_if_eq (tgt := 266) hx hb dX14_goes_211 (by decide) (fun c211 => ?_) (fun c211 => ?_)
        · have hf := ifp c211 hf
          exact B266 (f_X14_goes_b193 n) ih r0 r1 x4 s hf _ _ _ (lv_sub hl [0, 1, 2] rfl) hW
        · have hf := ifn c211 hf
          refine lv_aload_n hx hb dX14_goes_214 rfl (lv_at hl 0 rfl) ?_
          obtain ⟨q215, hq215, hf⟩ := bi_some hf
          refine aw_gR hC hW g196 fl_X14_38 rfl hq215 dX14_goes_215 ?_
          refine lv_iload hx hb dX14_goes_218 (lv_at hl 2 rfl) ?_
          obtain ⟨g220, hf⟩ := gd_some hf
          refine aw_iald hC hW g220 dX14_goes_220 ?_
          refine lv_if_le (tgt := 266) hx hb dX14_goes_221 (by decide) (fun c221 => ?_) (fun c221 => ?_)
          · have hf := ifp c221 hf
            exact B266 (f_X14_goes_b193 n) ih r0 r1 x4 s hf _ _ _ (lv_sub hl [0, 1, 2] rfl) hW
          · have hf := ifn c221 hf
            refine lv_aload_n hx hb dX14_goes_224 rfl (lv_at hl 1 rfl) ?_
            refine lv_iload hx hb dX14_goes_225 (lv_at hl 2 rfl) ?_
            refine lv_iconst (v := 1) hx hb dX14_goes_227 (by decide) ?_
            refine lv_sipush (v := 999) hx hb dX14_goes_228 (by decide) ?_
            refine lv_aload_n hx hb dX14_goes_231 rfl (lv_at hl 1 rfl) ?_
            refine lv_iload hx hb dX14_goes_232 (lv_at hl 2 rfl) ?_
            obtain ⟨g234, hf⟩ := gd_some hf
            refine aw_iald hC hW g234 dX14_goes_234 ?_
            refine lv_aload_n hx hb dX14_goes_235 rfl (lv_at hl 0 rfl) ?_
            obtain ⟨q236, hq236, hf⟩ := bi_some hf
            refine aw_gR hC hW g196 fl_X14_35 rfl hq236 dX14_goes_236 ?_
            refine lv_bipush (v := 6) hx hb dX14_goes_239 (by decide) ?_
            refine lv_iload hx hb dX14_goes_241 (lv_at hl 2 rfl) ?_
            refine lv_imul hx hb dX14_goes_243 ?_
            refine lv_aload_n hx hb dX14_goes_244 rfl (lv_at hl 1 rfl) ?_
            refine lv_bipush (v := 19) hx hb dX14_goes_245 (by decide) ?_
            obtain ⟨g247, hf⟩ := gd_some hf
            refine aw_iald hC hW g247 dX14_goes_247 ?_
            refine lv_aload_n hx hb dX14_goes_248 rfl (lv_at hl 0 rfl) ?_
            obtain ⟨q249, hq249, hf⟩ := bi_some hf
            refine aw_gR hC hW g196 fl_X14_38 rfl hq249 dX14_goes_249 ?_
            refine lv_iload hx hb dX14_goes_252 (lv_at hl 2 rfl) ?_
            obtain ⟨g254, hf⟩ := gd_some hf
            refine aw_iald hC hW g254 dX14_goes_254 ?_
            obtain ⟨g255, hf⟩ := gd_some hf
            refine lv_irem hx hb dX14_goes_255 g255 ?_
            refine lv_iadd hx hb dX14_goes_256 ?_
            obtain ⟨g257, hf⟩ := gd_some hf
            refine aw_iald hC hW g257 dX14_goes_257 ?_
            refine lv_iadd hx hb dX14_goes_258 ?_
            obtain ⟨v259, ev259, hf⟩ := bnd_some hf
            refine aw_dS1 (As := [.int 999, .int ((gi s r1 (x4 : Int32).toNatClampNeg) + (gi s q236 (((6 * x4) + ((gi s r1 (19 : Int32).toNatClampNeg) - (gi s r1 (19 : Int32).toNatClampNeg) / (gi s q249 (x4 : Int32).toNatClampNeg) * (gi s q249 (x4 : Int32).toNatClampNeg))) : Int32).toNatClampNeg))]) (rest := [.int 1, .int x4, .ref (a r1)]) (pc_J0_min l G a 999 ((gi s r1 (x4 : Int32).toNatClampNeg) + (gi s q236 (((6 * x4) + ((gi s r1 (19 : Int32).toNatClampNeg) - (gi s r1 (19 : Int32).toNatClampNeg) / (gi s q249 (x4 : Int32).toNatClampNeg) * (gi s q249 (x4 : Int32).toNatClampNeg))) : Int32).toNatClampNeg)) s) hC hW hl.1 sy_J0_min (Or.inl q1525) rfl rfl (Nat.le_of_ble_eq_true rfl) ⟨Nat.le_of_ble_eq_true rfl, Nat.le_of_ble_eq_true rfl⟩ ⟨Nat.le_of_ble_eq_true rfl, Nat.le_of_ble_eq_true rfl⟩ dX14_goes_259 (fun H locs hW => ?_)
            refine top_i ev259 ?_
            obtain ⟨v262, ev262, hf⟩ := bnd_some hf
            refine aw_dS1 (As := [.int 1, .int v259]) (rest := [.int x4, .ref (a r1)]) (pc_J0_max l G a 1 v259 s) hC hW hl.1 sy_J0_max (Or.inl q1633) rfl rfl (Nat.le_of_ble_eq_true rfl) ⟨Nat.le_of_ble_eq_true rfl, Nat.le_of_ble_eq_true rfl⟩ ⟨Nat.le_of_ble_eq_true rfl, Nat.le_of_ble_eq_true rfl⟩ dX14_goes_262 (fun H locs hW => ?_)
            refine top_i ev262 ?_
            obtain ⟨g265, hf⟩ := gd_some hf
            obtain ⟨s265, e265, hf⟩ := bnd_some hf
            refine aw_iast e265 hC hW g265 dX14_goes_265 (fun H locs hW => ?_)
            have g196 := ko_pI e265 g196
            exact B266 (f_X14_goes_b193 n) ih r0 r1 x4 s265 hf _ _ _ (lv_sub hl [0, 1, 2] rfl) hW
  have B174 : ∀ (r0 : Nat) (r1 : Nat) (s : ST), f_X14_goes_b174 r0 r1 s = some (rv, sf) → ∀ (H : Heap) (locs : List Loc) (ls : Array Slot), lv_has ls 6 [(0, .ref (a r0)), (1, .ref (a r1))] → AW G a A s s0.heap H locs → WB p l e (rmD 2) s0 m args below meth c H locs G A P 174 ls [] := by
    intro r0 r1 s hf H locs ls hl hW
    unfold f_X14_goes_b174 at hf
    refine lv_aload_n hx hb dX14_goes_174 rfl (lv_at hl 1 rfl) ?_
    refine lv_bipush (v := 57) hx hb dX14_goes_175 (by decide) ?_
    refine lv_aload_n hx hb dX14_goes_177 rfl (lv_at hl 1 rfl) ?_
    refine lv_bipush (v := 19) hx hb dX14_goes_178 (by decide) ?_
    obtain ⟨g180, hf⟩ := gd_some hf
    refine aw_iald hC hW g180 dX14_goes_180 ?_
    refine lv_bipush (v := 60) hx hb dX14_goes_181 (by decide) ?_
    refine lv_irem hx hb dX14_goes_183 (by decide) ?_
    refine lv_iadd hx hb dX14_goes_184 ?_
    refine lv_aload_n hx hb dX14_goes_185 rfl (lv_at hl 1 rfl) ?_
    refine lv_bipush (v := 17) hx hb dX14_goes_186 (by decide) ?_
    obtain ⟨g188, hf⟩ := gd_some hf
    refine aw_iald hC hW g188 dX14_goes_188 ?_
    obtain ⟨g189, hf⟩ := gd_some hf
    obtain ⟨s189, e189, hf⟩ := bnd_some hf
    refine aw_iast e189 hC hW g189 dX14_goes_189 (fun H locs hW => ?_)
    refine lv_iconst (v := 0) hx hb dX14_goes_190 (by decide) ?_
    refine lv_istore (lv' := [(4, .int 0), (0, .ref (a r0)), (1, .ref (a r1))]) hx hb dX14_goes_191 hl (by decide) rfl (fun ls hl => ?_)
    exact B193 fuel r0 r1 0 s189 hf _ _ _ (lv_sub hl [1, 2, 0] rfl) hW
  have B146 : ∀ (r0 : Nat) (r1 : Nat) (s : ST), f_X14_goes_b146 r0 r1 s = some (rv, sf) → ∀ (H : Heap) (locs : List Loc) (ls : Array Slot), lv_has ls 6 [(0, .ref (a r0)), (1, .ref (a r1))] → AW G a A s s0.heap H locs → WB p l e (rmD 2) s0 m args below meth c H locs G A P 146 ls [] := by
    intro r0 r1 s hf H locs ls hl hW
    unfold f_X14_goes_b146 at hf
    refine lv_aload_n hx hb dX14_goes_146 rfl (lv_at hl 1 rfl) ?_
    refine lv_bipush (v := 17) hx hb dX14_goes_147 (by decide) ?_
    obtain ⟨g149, hf⟩ := gd_some hf
    refine aw_iald hC hW g149 dX14_goes_149 ?_
    refine lv_if_lt (tgt := 174) hx hb dX14_goes_150 (by decide) (fun c150 => ?_) (fun c150 => ?_)
    · have hf := ifp c150 hf
      exact B174 r0 r1 s hf _ _ _ (lv_sub hl [0, 1] rfl) hW
    · have hf := ifn c150 hf
      refine lv_aload_n hx hb dX14_goes_153 rfl (lv_at hl 1 rfl) ?_
      refine lv_bipush (v := 8) hx hb dX14_goes_154 (by decide) ?_
      refine lv_aload_n hx hb dX14_goes_156 rfl (lv_at hl 1 rfl) ?_
      refine lv_bipush (v := 17) hx hb dX14_goes_157 (by decide) ?_
      obtain ⟨g159, hf⟩ := gd_some hf
      refine aw_iald hC hW g159 dX14_goes_159 ?_
      refine lv_iadd hx hb dX14_goes_160 ?_
      obtain ⟨v161, ev161, hf⟩ := bnd_some hf
      refine top_i ev161 ?_
      refine lv_dup2_11 hx hb dX14_goes_161 rfl rfl ?_
      obtain ⟨g162, hf⟩ := gd_some hf
      refine aw_iald hC hW g162 dX14_goes_162 ?_
      refine lv_iconst (v := 1) hx hb dX14_goes_163 (by decide) ?_
      refine lv_iadd hx hb dX14_goes_164 ?_
      obtain ⟨g165, hf⟩ := gd_some hf
      obtain ⟨s165, e165, hf⟩ := bnd_some hf
      refine aw_iast e165 hC hW g165 dX14_goes_165 (fun H locs hW => ?_)
      refine lv_aload_n hx hb dX14_goes_166 rfl (lv_at hl 1 rfl) ?_
      refine lv_bipush (v := 18) hx hb dX14_goes_167 (by decide) ?_
      refine lv_dup2_11 hx hb dX14_goes_169 rfl rfl ?_
      obtain ⟨g170, hf⟩ := gd_some hf
      refine aw_iald hC hW g170 dX14_goes_170 ?_
      refine lv_iconst (v := 1) hx hb dX14_goes_171 (by decide) ?_
      refine lv_iadd hx hb dX14_goes_172 ?_
      obtain ⟨g173, hf⟩ := gd_some hf
      obtain ⟨s173, e173, hf⟩ := bnd_some hf
      refine aw_iast e173 hC hW g173 dX14_goes_173 (fun H locs hW => ?_)
      exact B174 r0 r1 s173 hf _ _ _ (lv_sub hl [0, 1] rfl) hW
  have B122 : ∀ (r0 : Nat) (r1 : Nat) (x3 : Int32) (s : ST), f_X14_goes_b122 r0 r1 x3 s = some (rv, sf) → ∀ (H : Heap) (locs : List Loc) (ls : Array Slot), lv_has ls 6 [(0, .ref (a r0)), (1, .ref (a r1)), (3, .int x3)] → AW G a A s s0.heap H locs → WB p l e (rmD 2) s0 m args below meth c H locs G A P 122 ls [] := by
    intro r0 r1 x3 s hf H locs ls hl hW
    unfold f_X14_goes_b122 at hf
    refine lv_aload_n hx hb dX14_goes_122 rfl (lv_at hl 0 rfl) ?_
    refine lv_dup hx hb dX14_goes_123 rfl ?_
    obtain ⟨g124, hf⟩ := gd_some hf
    refine aw_gI hC hW g124 fl_X14_273 rfl dX14_goes_124 ?_
    refine lv_aload_n hx hb dX14_goes_127 rfl (lv_at hl 0 rfl) ?_
    refine lv_aload_n hx hb dX14_goes_128 rfl (lv_at hl 1 rfl) ?_
    obtain ⟨v129, s129, h129, hf⟩ := ob_some hf
    refine aw_dV1 (r := r0) (As := [.ref (a r1)]) (rest := [.int (gi s r0 27), .ref (a r0)]) (ct_X14_falls l G a r0 r1 s v129 s129 h129) hC hW hl.1 vy_X14_falls (Or.inl q1685) g124 rfl rfl rfl rfl (Nat.le_of_ble_eq_true rfl) ⟨Nat.le_of_ble_eq_true rfl, Nat.le_of_ble_eq_true rfl⟩ ⟨Nat.le_of_ble_eq_true rfl, Nat.le_of_ble_eq_true rfl⟩ dX14_goes_129 (fun H locs hW => ?_)
    refine lv_iadd hx hb dX14_goes_132 ?_
    obtain ⟨g133, hf⟩ := gd_some hf
    obtain ⟨s133, e133, hf⟩ := bnd_some hf
    refine aw_pI e133 hC hW g133 fl_X14_273 (Or.inl fn_13_27) rfl rfl rfl dX14_goes_133 (fun H locs hW => ?_)
    have g133 := ko_pI e133 g133
    refine lv_aload_n hx hb dX14_goes_136 rfl (lv_at hl 1 rfl) ?_
    refine lv_bipush (v := 17) hx hb dX14_goes_137 (by decide) ?_
    refine lv_iload_n hx hb dX14_goes_139 rfl (lv_at hl 2 rfl) ?_
    obtain ⟨g140, hf⟩ := gd_some hf
    obtain ⟨s140, e140, hf⟩ := bnd_some hf
    refine aw_iast e140 hC hW g140 dX14_goes_140 (fun H locs hW => ?_)
    have g133 := ko_pI e140 g133
    refine lv_aload_n hx hb dX14_goes_141 rfl (lv_at hl 1 rfl) ?_
    refine lv_bipush (v := 18) hx hb dX14_goes_142 (by decide) ?_
    refine lv_iconst (v := 0) hx hb dX14_goes_144 (by decide) ?_
    obtain ⟨g145, hf⟩ := gd_some hf
    obtain ⟨s145, e145, hf⟩ := bnd_some hf
    refine aw_iast e145 hC hW g145 dX14_goes_145 (fun H locs hW => ?_)
    have g133 := ko_pI e145 g133
    exact B146 r0 r1 s145 hf _ _ _ (lv_sub hl [0, 1] rfl) hW
  have B84 : ∀ (K5 : Nat → Nat → Int32 → Int32 → Int32 → ST → Option (Unit × ST)) (hK5 : ∀ (r0 : Nat) (r1 : Nat) (x2 : Int32) (x3 : Int32) (x4 : Int32) (s : ST), K5 r0 r1 x2 x3 x4 s = some (rv, sf) → ∀ (H : Heap) (locs : List Loc) (ls : Array Slot), lv_has ls 6 [(0, .ref (a r0)), (1, .ref (a r1)), (2, .int x2), (3, .int x3), (4, .int x4)] → AW G a A s s0.heap H locs → WB p l e (rmD 2) s0 m args below meth c H locs G A P 5 ls []), ∀ (r0 : Nat) (r1 : Nat) (x2 : Int32) (x4 : Int32) (t0 : Int32) (s : ST), f_X14_goes_b84 K5 r0 r1 x2 x4 t0 s = some (rv, sf) → ∀ (H : Heap) (locs : List Loc) (ls : Array Slot), lv_has ls 6 [(0, .ref (a r0)), (1, .ref (a r1)), (2, .int x2), (4, .int x4)] → AW G a A s s0.heap H locs → WB p l e (rmD 2) s0 m args below meth c H locs G A P 84 ls [.int t0] := by
    intro K5 hK5 r0 r1 x2 x4 t0 s hf H locs ls hl hW
    unfold f_X14_goes_b84 at hf
    refine lv_istore_n (lv' := [(3, .int t0), (0, .ref (a r0)), (1, .ref (a r1)), (2, .int x2), (4, .int x4)]) hx hb dX14_goes_84 rfl hl (by decide) rfl (fun ls hl => ?_)
    obtain ⟨v85, ev85, hf⟩ := bnd_some hf
    refine lv_iinc (v := v85) (lv' := [(4, .int v85), (3, .int t0), (0, .ref (a r0)), (1, .ref (a r1)), (2, .int x2)]) hx hb dX14_goes_85 hl (k := 4) rfl (by rw [ev85]; rfl) (by decide) rfl (fun ls hl => ?_)
    refine lv_goto (tgt := 5) hx hb dX14_goes_88 (by decide) ?_
    exact hK5 r0 r1 x2 t0 v85 s hf _ _ _ (lv_sub hl [2, 3, 4, 1, 0] rfl) hW
  have B83 : ∀ (K5 : Nat → Nat → Int32 → Int32 → Int32 → ST → Option (Unit × ST)) (hK5 : ∀ (r0 : Nat) (r1 : Nat) (x2 : Int32) (x3 : Int32) (x4 : Int32) (s : ST), K5 r0 r1 x2 x3 x4 s = some (rv, sf) → ∀ (H : Heap) (locs : List Loc) (ls : Array Slot), lv_has ls 6 [(0, .ref (a r0)), (1, .ref (a r1)), (2, .int x2), (3, .int x3), (4, .int x4)] → AW G a A s s0.heap H locs → WB p l e (rmD 2) s0 m args below meth c H locs G A P 5 ls []), ∀ (r0 : Nat) (r1 : Nat) (x2 : Int32) (x3 : Int32) (x4 : Int32) (s : ST), f_X14_goes_b83 K5 r0 r1 x2 x3 x4 s = some (rv, sf) → ∀ (H : Heap) (locs : List Loc) (ls : Array Slot), lv_has ls 6 [(0, .ref (a r0)), (1, .ref (a r1)), (2, .int x2), (3, .int x3), (4, .int x4)] → AW G a A s s0.heap H locs → WB p l e (rmD 2) s0 m args below meth c H locs G A P 83 ls [] := by
    intro K5 hK5 r0 r1 x2 x3 x4 s hf H locs ls hl hW
    unfold f_X14_goes_b83 at hf
    refine lv_iload_n hx hb dX14_goes_83 rfl (lv_at hl 3 rfl) ?_
    exact B84 K5 hK5 r0 r1 x2 x4 x3 s hf _ _ _ (lv_sub hl [0, 1, 2, 4] rfl) hW
  have B78 : ∀ (K5 : Nat → Nat → Int32 → Int32 → Int32 → ST → Option (Unit × ST)) (hK5 : ∀ (r0 : Nat) (r1 : Nat) (x2 : Int32) (x3 : Int32) (x4 : Int32) (s : ST), K5 r0 r1 x2 x3 x4 s = some (rv, sf) → ∀ (H : Heap) (locs : List Loc) (ls : Array Slot), lv_has ls 6 [(0, .ref (a r0)), (1, .ref (a r1)), (2, .int x2), (3, .int x3), (4, .int x4)] → AW G a A s s0.heap H locs → WB p l e (rmD 2) s0 m args below meth c H locs G A P 5 ls []), ∀ (r0 : Nat) (r1 : Nat) (x2 : Int32) (x4 : Int32) (s : ST), f_X14_goes_b78 K5 r0 r1 x2 x4 s = some (rv, sf) → ∀ (H : Heap) (locs : List Loc) (ls : Array Slot), lv_has ls 6 [(0, .ref (a r0)), (1, .ref (a r1)), (2, .int x2), (4, .int x4)] → AW G a A s s0.heap H locs → WB p l e (rmD 2) s0 m args below meth c H locs G A P 78 ls [] := by
    intro K5 hK5 r0 r1 x2 x4 s hf H locs ls hl hW
    unfold f_X14_goes_b78 at hf
    refine lv_iload hx hb dX14_goes_78 (lv_at hl 3 rfl) ?_
    refine lv_goto (tgt := 84) hx hb dX14_goes_80 (by decide) ?_
    exact B84 K5 hK5 r0 r1 x2 x4 x4 s hf _ _ _ (lv_sub hl [0, 1, 2, 3] rfl) hW
  have B49 : ∀ (K5 : Nat → Nat → Int32 → Int32 → Int32 → ST → Option (Unit × ST)) (hK5 : ∀ (r0 : Nat) (r1 : Nat) (x2 : Int32) (x3 : Int32) (x4 : Int32) (s : ST), K5 r0 r1 x2 x3 x4 s = some (rv, sf) → ∀ (H : Heap) (locs : List Loc) (ls : Array Slot), lv_has ls 6 [(0, .ref (a r0)), (1, .ref (a r1)), (2, .int x2), (3, .int x3), (4, .int x4)] → AW G a A s s0.heap H locs → WB p l e (rmD 2) s0 m args below meth c H locs G A P 5 ls []), ∀ (r0 : Nat) (r1 : Nat) (x2 : Int32) (x3 : Int32) (x4 : Int32) (t0 : Int32) (s : ST), f_X14_goes_b49 K5 r0 r1 x2 x3 x4 t0 s = some (rv, sf) → ∀ (H : Heap) (locs : List Loc) (ls : Array Slot), lv_has ls 6 [(0, .ref (a r0)), (1, .ref (a r1)), (2, .int x2), (3, .int x3), (4, .int x4)] → AW G a A s s0.heap H locs → WB p l e (rmD 2) s0 m args below meth c H locs G A P 49 ls [.int t0] := by
    intro K5 hK5 r0 r1 x2 x3 x4 t0 s hf H locs ls hl hW
    unfold f_X14_goes_b49 at hf
    refine lv_istore (lv' := [(5, .int t0), (0, .ref (a r0)), (1, .ref (a r1)), (2, .int x2), (3, .int x3), (4, .int x4)]) hx hb dX14_goes_49 hl (by decide) rfl (fun ls hl => ?_)
    refine lv_iload hx hb dX14_goes_51 (lv_at hl 0 rfl) ?_
    refine lv_if_eq (tgt := 83) hx hb dX14_goes_53 (by decide) (fun c53 => ?_) (fun c53 => ?_)
    · have hf := ifp c53 hf
      exact B83 K5 hK5 r0 r1 x2 x3 x4 s hf _ _ _ (lv_sub hl [1, 2, 3, 4, 5] rfl) hW
    · have hf := ifn c53 hf
      refine lv_iload_n hx hb dX14_goes_56 rfl (lv_at hl 4 rfl) ?_
      refine lv_if_lt (tgt := 78) hx hb dX14_goes_57 (by decide) (fun c57 => ?_) (fun c57 => ?_)
      · have hf := ifp c57 hf
        exact B78 K5 hK5 r0 r1 x2 x4 s hf _ _ _ (lv_sub hl [1, 2, 3, 5] rfl) hW
      · have hf := ifn c57 hf
        refine lv_aload_n hx hb dX14_goes_60 rfl (lv_at hl 1 rfl) ?_
        refine lv_aload_n hx hb dX14_goes_61 rfl (lv_at hl 2 rfl) ?_
        refine lv_iload hx hb dX14_goes_62 (lv_at hl 5 rfl) ?_
        obtain ⟨g64, hf⟩ := gd_some hf
        refine aw_iald hC hW g64 dX14_goes_64 ?_
        obtain ⟨g65, hf⟩ := gd_some hf
        obtain ⟨v65, s65, h65, hf⟩ := ob_some hf
        refine aw_dV1 (r := r0) (As := [.int (gi s r1 (x4 : Int32).toNatClampNeg)]) (rest := []) (ct_X14_shows l G a r0 (gi s r1 (x4 : Int32).toNatClampNeg) s v65 s65 h65) hC hW hl.1 vy_X14_shows (Or.inl q1629) g65 rfl rfl rfl rfl (Nat.le_of_ble_eq_true rfl) ⟨Nat.le_of_ble_eq_true rfl, Nat.le_of_ble_eq_true rfl⟩ ⟨Nat.le_of_ble_eq_true rfl, Nat.le_of_ble_eq_true rfl⟩ dX14_goes_65 (fun H locs hW => ?_)
        refine lv_aload_n hx hb dX14_goes_68 rfl (lv_at hl 1 rfl) ?_
        refine lv_aload_n hx hb dX14_goes_69 rfl (lv_at hl 2 rfl) ?_
        refine lv_iload_n hx hb dX14_goes_70 rfl (lv_at hl 4 rfl) ?_
        obtain ⟨g71, hf⟩ := gd_some hf
        refine aw_iald hC hW g71 dX14_goes_71 ?_
        obtain ⟨g72, hf⟩ := gd_some hf
        obtain ⟨v72, s72, h72, hf⟩ := ob_some hf
        refine aw_dV1 (r := r0) (As := [.int (gi s65 r1 (x3 : Int32).toNatClampNeg)]) (rest := [.int v65]) (ct_X14_shows l G a r0 (gi s65 r1 (x3 : Int32).toNatClampNeg) s65 v72 s72 h72) hC hW hl.1 vy_X14_shows (Or.inl q1629) g72 rfl rfl rfl rfl (Nat.le_of_ble_eq_true rfl) ⟨Nat.le_of_ble_eq_true rfl, Nat.le_of_ble_eq_true rfl⟩ ⟨Nat.le_of_ble_eq_true rfl, Nat.le_of_ble_eq_true rfl⟩ dX14_goes_72 (fun H locs hW => ?_)
        refine lv_icmp_le (tgt := 83) hx hb dX14_goes_75 (by decide) (fun c75 => ?_) (fun c75 => ?_)
        · have hf := ifp c75 hf
          exact B83 K5 hK5 r0 r1 x2 x3 x4 s72 hf _ _ _ (lv_sub hl [1, 2, 3, 4, 5] rfl) hW
        · have hf := ifn c75 hf
          exact B78 K5 hK5 r0 r1 x2 x4 s72 hf _ _ _ (lv_sub hl [1, 2, 3, 5] rfl) hW
  have B48 : ∀ (K5 : Nat → Nat → Int32 → Int32 → Int32 → ST → Option (Unit × ST)) (hK5 : ∀ (r0 : Nat) (r1 : Nat) (x2 : Int32) (x3 : Int32) (x4 : Int32) (s : ST), K5 r0 r1 x2 x3 x4 s = some (rv, sf) → ∀ (H : Heap) (locs : List Loc) (ls : Array Slot), lv_has ls 6 [(0, .ref (a r0)), (1, .ref (a r1)), (2, .int x2), (3, .int x3), (4, .int x4)] → AW G a A s s0.heap H locs → WB p l e (rmD 2) s0 m args below meth c H locs G A P 5 ls []), ∀ (r0 : Nat) (r1 : Nat) (x2 : Int32) (x3 : Int32) (x4 : Int32) (s : ST), f_X14_goes_b48 K5 r0 r1 x2 x3 x4 s = some (rv, sf) → ∀ (H : Heap) (locs : List Loc) (ls : Array Slot), lv_has ls 6 [(0, .ref (a r0)), (1, .ref (a r1)), (2, .int x2), (3, .int x3), (4, .int x4)] → AW G a A s s0.heap H locs → WB p l e (rmD 2) s0 m args below meth c H locs G A P 48 ls [] := by
    intro K5 hK5 r0 r1 x2 x3 x4 s hf H locs ls hl hW
    unfold f_X14_goes_b48 at hf
    refine lv_iconst (v := 0) hx hb dX14_goes_48 (by decide) ?_
    exact B49 K5 hK5 r0 r1 x2 x3 x4 0 s hf _ _ _ (lv_sub hl [0, 1, 2, 3, 4] rfl) hW
  have B5 : ∀ (n : Nat), ∀ (r0 : Nat) (r1 : Nat) (x2 : Int32) (x3 : Int32) (x4 : Int32) (s : ST), f_X14_goes_b5 n r0 r1 x2 x3 x4 s = some (rv, sf) → ∀ (H : Heap) (locs : List Loc) (ls : Array Slot), lv_has ls 6 [(0, .ref (a r0)), (1, .ref (a r1)), (2, .int x2), (3, .int x3), (4, .int x4)] → AW G a A s s0.heap H locs → WB p l e (rmD 2) s0 m args below meth c H locs G A P 5 ls [] := by
    intro n
    induction n with
    | zero => intro r0 r1 x2 x3 x4 s hf; cases hf
    | succ n ih =>
      intro r0 r1 x2 x3 x4 s hf H locs ls hl hW
      rw [f_X14_goes_b5] at hf
      refine lv_iload hx hb dX14_goes_5 (lv_at hl 4 rfl) ?_
      refine lv_aload_n hx hb dX14_goes_7 rfl (lv_at hl 0 rfl) ?_
      obtain ⟨g8, hf⟩ := gd_some hf
      refine aw_gI hC hW g8 fl_X14_117 rfl dX14_goes_8 ?_
      refine lv_icmp_ge (tgt := 91) hx hb dX14_goes_11 (by decide) (fun c11 => ?_) (fun c11 => ?_)
      · have hf := ifp c11 hf
        refine lv_iload_n hx hb dX14_goes_91 rfl (lv_at hl 3 rfl) ?_
        refine lv_if_lt (tgt := 146) hx hb dX14_goes_92 (by decide) (fun c92 => ?_) (fun c92 => ?_)
        · have hf := ifp c92 hf
          exact B146 r0 r1 s hf _ _ _ (lv_sub hl [0, 1] rfl) hW
        · have hf := ifn c92 hf
          refine lv_aload_n hx hb dX14_goes_95 rfl (lv_at hl 1 rfl) ?_
          refine lv_bipush (v := 17) hx hb dX14_goes_96 (by decide) ?_
          obtain ⟨g98, hf⟩ := gd_some hf
          refine aw_iald hC hW g98 dX14_goes_98 ?_
          refine lv_if_lt (tgt := 122) hx hb dX14_goes_99 (by decide) (fun c99 => ?_) (fun c99 => ?_)
          · have hf := ifp c99 hf
            exact B122 r0 r1 x3 s hf _ _ _ (lv_sub hl [0, 1, 3] rfl) hW
          · have hf := ifn c99 hf
            refine lv_aload_n hx hb dX14_goes_102 rfl (lv_at hl 0 rfl) ?_
            refine lv_aload_n hx hb dX14_goes_103 rfl (lv_at hl 1 rfl) ?_
            refine lv_iload_n hx hb dX14_goes_104 rfl (lv_at hl 3 rfl) ?_
            obtain ⟨g105, hf⟩ := gd_some hf
            refine aw_iald hC hW g105 dX14_goes_105 ?_
            obtain ⟨v106, s106, h106, hf⟩ := ob_some hf
            refine aw_dV1 (r := r0) (As := [.int (gi s r1 (x3 : Int32).toNatClampNeg)]) (rest := []) (ct_X14_shows l G a r0 (gi s r1 (x3 : Int32).toNatClampNeg) s v106 s106 h106) hC hW hl.1 vy_X14_shows (Or.inl q1629) g8 rfl rfl rfl rfl (Nat.le_of_ble_eq_true rfl) ⟨Nat.le_of_ble_eq_true rfl, Nat.le_of_ble_eq_true rfl⟩ ⟨Nat.le_of_ble_eq_true rfl, Nat.le_of_ble_eq_true rfl⟩ dX14_goes_106 (fun H locs hW => ?_)
            refine lv_aload_n hx hb dX14_goes_109 rfl (lv_at hl 0 rfl) ?_
            refine lv_aload_n hx hb dX14_goes_110 rfl (lv_at hl 1 rfl) ?_
            refine lv_aload_n hx hb dX14_goes_111 rfl (lv_at hl 1 rfl) ?_
            refine lv_bipush (v := 17) hx hb dX14_goes_112 (by decide) ?_
            obtain ⟨g114, hf⟩ := gd_some hf
            refine aw_iald hC hW g114 dX14_goes_114 ?_
            obtain ⟨g115, hf⟩ := gd_some hf
            refine aw_iald hC hW g115 dX14_goes_115 ?_
            obtain ⟨g116, hf⟩ := gd_some hf
            obtain ⟨v116, s116, h116, hf⟩ := ob_some hf
            refine aw_dV1 (r := r0) (As := [.int (gi s106 r1 ((gi s106 r1 (17 : Int32).toNatClampNeg) : Int32).toNatClampNeg)]) (rest := [.int v106]) (ct_X14_shows l G a r0 (gi s106 r1 ((gi s106 r1 (17 : Int32).toNatClampNeg) : Int32).toNatClampNeg) s106 v116 s116 h116) hC hW hl.1 vy_X14_shows (Or.inl q1629) g116 rfl rfl rfl rfl (Nat.le_of_ble_eq_true rfl) ⟨Nat.le_of_ble_eq_true rfl, Nat.le_of_ble_eq_true rfl⟩ ⟨Nat.le_of_ble_eq_true rfl, Nat.le_of_ble_eq_true rfl⟩ dX14_goes_116 (fun H locs hW => ?_)
            refine lv_icmp_le (tgt := 146) hx hb dX14_goes_119 (by decide) (fun c119 => ?_) (fun c119 => ?_)
            · have hf := ifp c119 hf
              exact B146 r0 r1 s116 hf _ _ _ (lv_sub hl [0, 1] rfl) hW
            · have hf := ifn c119 hf
              exact B122 r0 r1 x3 s116 hf _ _ _ (lv_sub hl [0, 1, 3] rfl) hW
      · have hf := ifn c11 hf
        refine lv_iload_n hx hb dX14_goes_14 rfl (lv_at hl 2 rfl) ?_
        refine lv_iload hx hb dX14_goes_15 (lv_at hl 4 rfl) ?_
        obtain ⟨v17, ev17, hf⟩ := bnd_some hf
        refine aw_dS1 (As := [.int x2, .int x4]) (rest := []) (pc_X14_has l G a x2 x4 s) hC hW hl.1 sy_X14_has (Or.inl q1626) rfl rfl (Nat.le_of_ble_eq_true rfl) ⟨Nat.le_of_ble_eq_true rfl, Nat.le_of_ble_eq_true rfl⟩ ⟨Nat.le_of_ble_eq_true rfl, Nat.le_of_ble_eq_true rfl⟩ dX14_goes_17 (fun H locs hW => ?_)
        refine top_i ev17 ?_
        refine lv_if_eq (tgt := 48) hx hb dX14_goes_20 (by decide) (fun c20 => ?_) (fun c20 => ?_)
        · have hf := ifp c20 hf
          exact B48 (f_X14_goes_b5 n) ih r0 r1 x2 x3 x4 s hf _ _ _ (lv_sub hl [0, 1, 2, 3, 4] rfl) hW
        · have hf := ifn c20 hf
          refine lv_aload_n hx hb dX14_goes_23 rfl (lv_at hl 1 rfl) ?_
          refine lv_bipush (v := 16) hx hb dX14_goes_24 (by decide) ?_
          obtain ⟨g26, hf⟩ := gd_some hf
          refine aw_iald hC hW g26 dX14_goes_26 ?_
          refine lv_iload hx hb dX14_goes_27 (lv_at hl 4 rfl) ?_
          obtain ⟨v29, ev29, hf⟩ := bnd_some hf
          refine aw_dS1 (As := [.int (gi s r1 (16 : Int32).toNatClampNeg), .int x4]) (rest := []) (pc_X14_has l G a (gi s r1 (16 : Int32).toNatClampNeg) x4 s) hC hW hl.1 sy_X14_has (Or.inl q1626) rfl rfl (Nat.le_of_ble_eq_true rfl) ⟨Nat.le_of_ble_eq_true rfl, Nat.le_of_ble_eq_true rfl⟩ ⟨Nat.le_of_ble_eq_true rfl, Nat.le_of_ble_eq_true rfl⟩ dX14_goes_29 (fun H locs hW => ?_)
          refine top_i ev29 ?_
          refine lv_if_eq (tgt := 48) hx hb dX14_goes_32 (by decide) (fun c32 => ?_) (fun c32 => ?_)
          · have hf := ifp c32 hf
            exact B48 (f_X14_goes_b5 n) ih r0 r1 x2 x3 x4 s hf _ _ _ (lv_sub hl [0, 1, 2, 3, 4] rfl) hW
          · have hf := ifn c32 hf
            refine lv_iload hx hb dX14_goes_35 (lv_at hl 4 rfl) ?_
            refine lv_aload_n hx hb dX14_goes_37 rfl (lv_at hl 1 rfl) ?_
            refine lv_bipush (v := 17) hx hb dX14_goes_38 (by decide) ?_
            obtain ⟨g40, hf⟩ := gd_some hf
            refine aw_iald hC hW g40 dX14_goes_40 ?_
            refine lv_icmp_eq (tgt := 48) hx hb dX14_goes_41 (by decide) (fun c41 => ?_) (fun c41 => ?_)
            · have hf := ifp c41 hf
              exact B48 (f_X14_goes_b5 n) ih r0 r1 x2 x3 x4 s hf _ _ _ (lv_sub hl [0, 1, 2, 3, 4] rfl) hW
            · have hf := ifn c41 hf
              refine lv_iconst (v := 1) hx hb dX14_goes_44 (by decide) ?_
              refine lv_goto (tgt := 49) hx hb dX14_goes_45 (by decide) ?_
              exact B49 (f_X14_goes_b5 n) ih r0 r1 x2 x3 x4 1 s hf _ _ _ (lv_sub hl [0, 1, 2, 3, 4] rfl) hW
  unfold f_X14_goes at hf
  refine lv_iconst (v := (-1)) hx hb dX14_goes_0 (by decide) ?_
  refine lv_istore_n (lv' := [(3, .int (-1)), (0, .ref (a o)), (1, .ref (a r1)), (2, .int x2)]) hx hb dX14_goes_1 rfl hl (by decide) rfl (fun ls hl => ?_)
  refine lv_iconst (v := 0) hx hb dX14_goes_2 (by decide) ?_
  refine lv_istore (lv' := [(4, .int 0), (3, .int (-1)), (0, .ref (a o)), (1, .ref (a r1)), (2, .int x2)]) hx hb dX14_goes_3 hl (by decide) rfl (fun ls hl => ?_)
  exact B5 fuel o r1 x2 (-1) 0 s hf _ _ _ (lv_sub hl [2, 3, 4, 1, 0] rfl) hW
def f_X14_goesNext (o : Nat) (x1 : Int32) (s : ST) : Option (Unit × ST) :=
  gd (o < s.1 ∧ (kd s o).1 = 14) <|
  (gr s o 11).bind fun q2 =>
  ob (f_X14_goes o q2 x1 s) fun _ s6 =>
  gd (o < s6.1 ∧ (kd s6 o).1 = 14) <|
  (gr s6 o 11).bind fun q10 =>
  gd (q10 < s6.1 ∧ (kd s6 q10).1 = 100 ∧ ¬ ((17 : Int32) < 0 ∨ (kd s6 q10).2 ≤ (17 : Int32).toNatClampNeg)) <|
  if (gi s6 q10 (17 : Int32).toNatClampNeg) < 0 then (some ((), s6)) else (gr s6 o 32).bind fun q20 =>
  (gr s6 o 11).bind fun q24 =>
  gd (q24 < s6.1 ∧ (kd s6 q24).1 = 100 ∧ ¬ ((17 : Int32) < 0 ∨ (kd s6 q24).2 ≤ (17 : Int32).toNatClampNeg)) <|
  bnd ((gi s6 q24 (17 : Int32).toNatClampNeg) : Int32) fun v30 =>
  gd (q20 < s6.1 ∧ (kd s6 q20).1 = 100 ∧ ¬ ((v30 : Int32) < 0 ∨ (kd s6 q20).2 ≤ (v30 : Int32).toNatClampNeg)) <|
  gd (q20 < s6.1 ∧ (kd s6 q20).1 = 100 ∧ ¬ ((v30 : Int32) < 0 ∨ (kd s6 q20).2 ≤ (v30 : Int32).toNatClampNeg)) <|
  bnd (pI s6 q20 (v30 : Int32).toNatClampNeg ((gi s6 q20 (v30 : Int32).toNatClampNeg) + 1)) fun s34 =>
  some ((), s34)
set_option maxHeartbeats 4000000 in
theorem ct_X14_goesNext (l : Launch) (G : GM) (a : Nat → Nat) (o : Nat) (x1 : Int32) (s : ST) (rv : Unit) (sf : ST) (hf : f_X14_goesNext o x1 s = some (rv, sf)) : MD l G yX14_goesNext (ws_ yX14_goesNext cX14_goesNext 2 none) 3 [.ref (a o), .int x1] a s none sf := by
  refine md_of (d := 3) (lv := [(0, .ref (a o)), (1, .int x1)]) (Or.inl (by decide)) (Nat.le_of_ble_eq_true rfl) rfl ?_
  intro p e s0 m args below meth c ls A P hP hC hr hnm hW hl
  have hx := hC.1
  have hb := hC.2.1
  have hts := hC.2.2.2.2.1
  unfold f_X14_goesNext at hf
  refine lv_aload_n hx hb dX14_goesNext_0 rfl (lv_at hl 0 rfl) ?_
  refine lv_aload_n hx hb dX14_goesNext_1 rfl (lv_at hl 0 rfl) ?_
  obtain ⟨g2, hf⟩ := gd_some hf
  obtain ⟨q2, hq2, hf⟩ := bi_some hf
  refine aw_gR hC hW g2 fl_X14_47 rfl hq2 dX14_goesNext_2 ?_
  refine lv_iload_n hx hb dX14_goesNext_5 rfl (lv_at hl 1 rfl) ?_
  obtain ⟨_, s6, h6, hf⟩ := ob_some hf
  refine aw_dV0 (r := o) (As := [.ref (a q2), .int x1]) (rest := []) (ct_X14_goes l G a o q2 x1 s () s6 h6) hC hW hl.1 vy_X14_goes (Or.inl q1681) g2 rfl rfl rfl rfl (Nat.le_of_ble_eq_true rfl) ⟨Nat.le_of_ble_eq_true rfl, Nat.le_of_ble_eq_true rfl⟩ ⟨Nat.le_of_ble_eq_true rfl, Nat.le_of_ble_eq_true rfl⟩ dX14_goesNext_6 (fun H locs hW => ?_)
  refine lv_aload_n hx hb dX14_goesNext_9 rfl (lv_at hl 0 rfl) ?_
  obtain ⟨g10, hf⟩ := gd_some hf
  obtain ⟨q10, hq10, hf⟩ := bi_some hf
  refine aw_gR hC hW g10 fl_X14_47 rfl hq10 dX14_goesNext_10 ?_
  refine lv_bipush (v := 17) hx hb dX14_goesNext_13 (by decide) ?_
  obtain ⟨g15, hf⟩ := gd_some hf
  refine aw_iald hC hW g15 dX14_goesNext_15 ?_
  refine lv_if_lt (tgt := 35) hx hb dX14_goesNext_16 (by decide) (fun c16 => ?_) (fun c16 => ?_)
  · have hf := ifp c16 hf
    obtain ⟨e1, e2⟩ := so_inj hf
    exact aw_vret hC hW hr (p_eq hP rfl e2) (Nat.le_of_ble_eq_true rfl) (Nat.le_of_ble_eq_true rfl) dX14_goesNext_35
  · have hf := ifn c16 hf
    refine lv_aload_n hx hb dX14_goesNext_19 rfl (lv_at hl 0 rfl) ?_
    obtain ⟨q20, hq20, hf⟩ := bi_some hf
    refine aw_gR hC hW g10 fl_X14_80 rfl hq20 dX14_goesNext_20 ?_
    refine lv_aload_n hx hb dX14_goesNext_23 rfl (lv_at hl 0 rfl) ?_
    obtain ⟨q24, hq24, hf⟩ := bi_some hf
    refine aw_gR hC hW g10 fl_X14_47 rfl hq24 dX14_goesNext_24 ?_
    refine lv_bipush (v := 17) hx hb dX14_goesNext_27 (by decide) ?_
    obtain ⟨g29, hf⟩ := gd_some hf
    refine aw_iald hC hW g29 dX14_goesNext_29 ?_
    obtain ⟨v30, ev30, hf⟩ := bnd_some hf
    refine top_i ev30 ?_
    refine lv_dup2_11 hx hb dX14_goesNext_30 rfl rfl ?_
    obtain ⟨g31, hf⟩ := gd_some hf
    refine aw_iald hC hW g31 dX14_goesNext_31 ?_
    refine lv_iconst (v := 1) hx hb dX14_goesNext_32 (by decide) ?_
    refine lv_iadd hx hb dX14_goesNext_33 ?_
    obtain ⟨g34, hf⟩ := gd_some hf
    obtain ⟨s34, e34, hf⟩ := bnd_some hf
    refine aw_iast e34 hC hW g34 dX14_goesNext_34 (fun H locs hW => ?_)
    have g10 := ko_pI e34 g10
    obtain ⟨e1, e2⟩ := so_inj hf
    exact aw_vret hC hW hr (p_eq hP rfl e2) (Nat.le_of_ble_eq_true rfl) (Nat.le_of_ble_eq_true rfl) dX14_goesNext_35
def f_X14_goesBy_b2 : Nat → Nat → Int32 → Int32 → Int32 → ST → Option (Unit × ST)
  | 0, _, _, _, _, _ => none
  | n + 1, r0, x1, x2, x3, s =>
  if x1 ≤ x3 then (some ((), s)) else gd (r0 < s.1 ∧ (kd s r0).1 = 14) <|
  (gr s r0 11).bind fun q10 =>
  ob (f_X14_willing r0 q10 s) fun v13 s13 =>
  gd (r0 < s13.1 ∧ (kd s13 r0).1 = 14) <|
  ob (f_X14_goesNext r0 (v13 &&& (x2 ^^^ (-1))) s13) fun _ s20 =>
  bnd (x3 + 1 : Int32) fun v23 =>
  f_X14_goesBy_b2 n r0 x1 x2 v23 s20
def f_X14_goesBy (o : Nat) (x1 : Int32) (x2 : Int32) (s : ST) : Option (Unit × ST) :=
  f_X14_goesBy_b2 fuel o x1 x2 0 s
set_option maxHeartbeats 4000000 in
theorem ct_X14_goesBy (l : Launch) (G : GM) (a : Nat → Nat) (o : Nat) (x1 : Int32) (x2 : Int32) (s : ST) (rv : Unit) (sf : ST) (hf : f_X14_goesBy o x1 x2 s = some (rv, sf)) : MD l G yX14_goesBy (ws_ yX14_goesBy cX14_goesBy 4 none) 5 [.ref (a o), .int x1, .int x2] a s none sf := by
  refine md_of (d := 5) (lv := [(0, .ref (a o)), (1, .int x1), (2, .int x2)]) (Or.inl (by decide)) (Nat.le_of_ble_eq_true rfl) rfl ?_
  intro p e s0 m args below meth c ls A P hP hC hr hnm hW hl
  have hx := hC.1
  have hb := hC.2.1
  have hts := hC.2.2.2.2.1
  have B2 : ∀ (n : Nat), ∀ (r0 : Nat) (x1 : Int32) (x2 : Int32) (x3 : Int32) (s : ST), f_X14_goesBy_b2 n r0 x1 x2 x3 s = some (rv, sf) → ∀ (H : Heap) (locs : List Loc) (ls : Array Slot), lv_has ls 4 [(0, .ref (a r0)), (1, .int x1), (2, .int x2), (3, .int x3)] → AW G a A s s0.heap H locs → WB p l e (rmD 5) s0 m args below meth c H locs G A P 2 ls [] := by
    intro n
    induction n with
    | zero => intro r0 x1 x2 x3 s hf; cases hf
    | succ n ih =>
      intro r0 x1 x2 x3 s hf H locs ls hl hW
      rw [f_X14_goesBy_b2] at hf
      refine lv_iload_n hx hb dX14_goesBy_2 rfl (lv_at hl 3 rfl) ?_
      refine lv_iload_n hx hb dX14_goesBy_3 rfl (lv_at hl 1 rfl) ?_
      refine lv_icmp_ge (tgt := 29) hx hb dX14_goesBy_4 (by decide) (fun c4 => ?_) (fun c4 => ?_)
      · have hf := ifp c4 hf
        obtain ⟨e1, e2⟩ := so_inj hf
        exact aw_vret hC hW hr (p_eq hP rfl e2) (Nat.le_of_ble_eq_true rfl) (Nat.le_of_ble_eq_true rfl) dX14_goesBy_29
      · have hf := ifn c4 hf
        refine lv_aload_n hx hb dX14_goesBy_7 rfl (lv_at hl 0 rfl) ?_
        refine lv_aload_n hx hb dX14_goesBy_8 rfl (lv_at hl 0 rfl) ?_
        refine lv_aload_n hx hb dX14_goesBy_9 rfl (lv_at hl 0 rfl) ?_
        obtain ⟨g10, hf⟩ := gd_some hf
        obtain ⟨q10, hq10, hf⟩ := bi_some hf
        refine aw_gR hC hW g10 fl_X14_47 rfl hq10 dX14_goesBy_10 ?_
        obtain ⟨v13, s13, h13, hf⟩ := ob_some hf
        refine aw_dV1 (r := r0) (As := [.ref (a q10)]) (rest := [.ref (a r0)]) (ct_X14_willing l G a r0 q10 s v13 s13 h13) hC hW hl.1 vy_X14_willing (Or.inl q1698) g10 rfl rfl rfl rfl (Nat.le_of_ble_eq_true rfl) ⟨Nat.le_of_ble_eq_true rfl, Nat.le_of_ble_eq_true rfl⟩ ⟨Nat.le_of_ble_eq_true rfl, Nat.le_of_ble_eq_true rfl⟩ dX14_goesBy_13 (fun H locs hW => ?_)
        refine lv_iload_n hx hb dX14_goesBy_16 rfl (lv_at hl 2 rfl) ?_
        refine lv_iconst (v := (-1)) hx hb dX14_goesBy_17 (by decide) ?_
        refine lv_ixor hx hb dX14_goesBy_18 ?_
        refine lv_iand hx hb dX14_goesBy_19 ?_
        obtain ⟨g20, hf⟩ := gd_some hf
        obtain ⟨_, s20, h20, hf⟩ := ob_some hf
        refine aw_dV0 (r := r0) (As := [.int (v13 &&& (x2 ^^^ (-1)))]) (rest := []) (ct_X14_goesNext l G a r0 (v13 &&& (x2 ^^^ (-1))) s13 () s20 h20) hC hW hl.1 vy_X14_goesNext (Or.inl q1760) g20 rfl rfl rfl rfl (Nat.le_of_ble_eq_true rfl) ⟨Nat.le_of_ble_eq_true rfl, Nat.le_of_ble_eq_true rfl⟩ ⟨Nat.le_of_ble_eq_true rfl, Nat.le_of_ble_eq_true rfl⟩ dX14_goesBy_20 (fun H locs hW => ?_)
        obtain ⟨v23, ev23, hf⟩ := bnd_some hf
        refine lv_iinc (v := v23) (lv' := [(3, .int v23), (0, .ref (a r0)), (1, .int x1), (2, .int x2)]) hx hb dX14_goesBy_23 hl (k := 3) rfl (by rw [ev23]; rfl) (by decide) rfl (fun ls hl => ?_)
        refine lv_goto (tgt := 2) hx hb dX14_goesBy_26 (by decide) ?_
        exact ih r0 x1 x2 v23 s20 hf _ _ _ (lv_sub hl [1, 2, 3, 0] rfl) hW
  unfold f_X14_goesBy at hf
  refine lv_iconst (v := 0) hx hb dX14_goesBy_0 (by decide) ?_
  refine lv_istore_n (lv' := [(3, .int 0), (0, .ref (a o)), (1, .int x1), (2, .int x2)]) hx hb dX14_goesBy_1 rfl hl (by decide) rfl (fun ls hl => ?_)
  exact B2 fuel o x1 x2 0 s hf _ _ _ (lv_sub hl [1, 2, 3, 0] rfl) hW
