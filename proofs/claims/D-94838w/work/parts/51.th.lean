set_option maxRecDepth 100000
def t_X15_need (o : Nat) (x1 : Int32) (s : ST) : Option (Int32 × ST) :=
  if x1 = 0 then (gd (o < s.1 ∧ (kd s o).1 = 15) <|
  some ((gi s o 3), s)) else none
set_option maxHeartbeats 4000000 in
theorem tt_X15_need (l : Launch) (hlt : l.stackTraces = false) (G : GM) (a : Nat → Nat) (o : Nat) (x1 : Int32) (s : ST) (pl : Int32) (s1 : ST) (hf : t_X15_need o x1 s = some (pl, s1)) : TM l G yX15_need (ws_ yX15_need cX15_need 2 none) 5 [.ref (a o), .int x1] a s pl s1 := by
  refine tm_of (d := 5) (lv := [(0, .ref (a o)), (1, .int x1)]) (by decide) (Nat.le_of_ble_eq_true rfl) rfl ?_
  intro p e s0 m args below meth c ls A hC hno hW hl
  have hx := hC.1
  have hb := hC.2.1
  have hts := hC.2.2.2.2.1
  unfold t_X15_need at hf
  refine lv_iload_n hx hb dX15_need_0 rfl (lv_at hl 1 rfl) ?_
  refine lv_if_ne (tgt := 16) hx hb dX15_need_1 (by decide) (fun c1 => ?_) (fun c1 => ?_)
  · have hf := ifn c1 hf
    cases hf
  · have hf := ifp c1 hf
    refine aw_tnew hC hW q558 (Nat.le_of_ble_eq_true rfl) (Nat.le_of_ble_eq_true rfl) dX15_need_4 (fun xq H hW hQ9 hq9 hqw9 => ?_)
    refine lv_dup hx hb dX15_need_7 rfl ?_
    refine lv_aload_n hx hb dX15_need_8 rfl (lv_at hl 0 rfl) ?_
    obtain ⟨g9, hf⟩ := gd_some hf
    refine aw_gI hC hW g9 fl_X15_28 rfl dX15_need_9 ?_
    refine aw_tinit (G := G) (a := a) (s := s) (pl := (gi s o 3)) (rest := [.ref xq]) hlt hC hW hl.1 hQ9 hq9 hqw9 q597 iy_X16_init rfl (Nat.le_of_ble_eq_true rfl) ⟨Nat.le_of_ble_eq_true rfl, Nat.le_of_ble_eq_true rfl⟩ ⟨Nat.le_of_ble_eq_true rfl, Nat.le_of_ble_eq_true rfl⟩ dX15_need_12 (fun H locs hW hF9 => ?_)
    obtain ⟨e1, e2⟩ := so_inj hf
    subst e1
    subst e2
    exact aw_tthrow hC hno hW hF9 (Nat.le_of_ble_eq_true rfl) (Nat.le_of_ble_eq_true rfl) dX15_need_15
def t_X15_needw (o : Nat) (x1 : Int32) (s : ST) : Option (Int32 × ST) :=
  if x1 = 0 then (gd (o < s.1 ∧ (kd s o).1 = 17) <|
  some ((gi s o 3), s)) else none
set_option maxHeartbeats 4000000 in
theorem tt_X15_needw (l : Launch) (hlt : l.stackTraces = false) (G : GM) (a : Nat → Nat) (o : Nat) (x1 : Int32) (s : ST) (pl : Int32) (s1 : ST) (hf : t_X15_needw o x1 s = some (pl, s1)) : TM l G yX15_need (ws_ yX15_need cX15_need 2 none) 5 [.ref (a o), .int x1] a s pl s1 := by
  refine tm_of (d := 5) (lv := [(0, .ref (a o)), (1, .int x1)]) (by decide) (Nat.le_of_ble_eq_true rfl) rfl ?_
  intro p e s0 m args below meth c ls A hC hno hW hl
  have hx := hC.1
  have hb := hC.2.1
  have hts := hC.2.2.2.2.1
  unfold t_X15_needw at hf
  refine lv_iload_n hx hb dX15_need_0 rfl (lv_at hl 1 rfl) ?_
  refine lv_if_ne (tgt := 16) hx hb dX15_need_1 (by decide) (fun c1 => ?_) (fun c1 => ?_)
  · have hf := ifn c1 hf
    cases hf
  · have hf := ifp c1 hf
    refine aw_tnew hC hW q558 (Nat.le_of_ble_eq_true rfl) (Nat.le_of_ble_eq_true rfl) dX15_need_4 (fun xq H hW hQ9 hq9 hqw9 => ?_)
    refine lv_dup hx hb dX15_need_7 rfl ?_
    refine lv_aload_n hx hb dX15_need_8 rfl (lv_at hl 0 rfl) ?_
    obtain ⟨g9, hf⟩ := gd_some hf
    refine aw_gI hC hW g9 fl_X15_28_X17 rfl dX15_need_9 ?_
    refine aw_tinit (G := G) (a := a) (s := s) (pl := (gi s o 3)) (rest := [.ref xq]) hlt hC hW hl.1 hQ9 hq9 hqw9 q597 iy_X16_init rfl (Nat.le_of_ble_eq_true rfl) ⟨Nat.le_of_ble_eq_true rfl, Nat.le_of_ble_eq_true rfl⟩ ⟨Nat.le_of_ble_eq_true rfl, Nat.le_of_ble_eq_true rfl⟩ dX15_need_12 (fun H locs hW hF9 => ?_)
    obtain ⟨e1, e2⟩ := so_inj hf
    subst e1
    subst e2
    exact aw_tthrow hC hno hW hF9 (Nat.le_of_ble_eq_true rfl) (Nat.le_of_ble_eq_true rfl) dX15_need_15
def t_X15_needEnd_b17 (t0 : Int32) (w1 : Nat) (s : ST) : Option (Int32 × ST) :=
  gd (w1 < s.1 ∧ (kd s w1).1 = 15) <|
  ox (t_X15_need w1 t0 s) <|
  ob (f_X15_need w1 t0 s) fun _ s17 =>
  none
def t_X15_needEnd (o : Nat) (s : ST) : Option (Int32 × ST) :=
  gd (o < s.1 ∧ (kd s o).1 = 15) <|
  if (gi s o 3) = (gi s o 1) then (t_X15_needEnd_b17 1 o s) else t_X15_needEnd_b17 0 o s
set_option maxHeartbeats 4000000 in
theorem tt_X15_needEnd (l : Launch) (hlt : l.stackTraces = false) (G : GM) (a : Nat → Nat) (o : Nat) (s : ST) (pl : Int32) (s1 : ST) (hf : t_X15_needEnd o s = some (pl, s1)) : TM l G yX15_needEnd (ws_ yX15_needEnd cX15_needEnd 1 none) 6 [.ref (a o)] a s pl s1 := by
  refine tm_of (d := 6) (lv := [(0, .ref (a o))]) (by decide) (Nat.le_of_ble_eq_true rfl) rfl ?_
  intro p e s0 m args below meth c ls A hC hno hW hl
  have hx := hC.1
  have hb := hC.2.1
  have hts := hC.2.2.2.2.1
  have B17 : ∀ (t0 : Int32) (w1 : Nat) (s : ST), t_X15_needEnd_b17 t0 w1 s = some (pl, s1) → ∀ (H : Heap) (locs : List Loc) (ls : Array Slot), lv_has ls 1 [] → AW G a A s s0.heap H locs → WT p l e (rmA 6 1 7) s0 m args below meth c H locs G A (XCF G a s1 pl A) 17 ls [.int t0, .ref (a w1)] := by
    intro t0 w1 s hf H locs ls hl hW
    unfold t_X15_needEnd_b17 at hf
    obtain ⟨g17, hf⟩ := gd_some hf
    rcases ox_some hf with ht17 | hf
    · exact aw_tprop (aw_trV (r := w1) (As := [.int t0]) (rest := []) (tt_X15_need l hlt G a w1 t0 s pl s1 ht17) hC hW hl.1 vy_X15_need q636 g17 rfl rfl rfl rfl (Nat.le_of_ble_eq_true rfl) ⟨Nat.le_of_ble_eq_true rfl, Nat.le_of_ble_eq_true rfl⟩ ⟨Nat.le_of_ble_eq_true rfl, Nat.le_of_ble_eq_true rfl⟩ dX15_needEnd_17) hC hno hW
    obtain ⟨_, s17, h17, hf⟩ := ob_some hf
    refine aw_dV0 (r := w1) (As := [.int t0]) (rest := []) (ct_X15_need l G a w1 t0 s () s17 h17) hC hW hl.1 vy_X15_need (Or.inl q636) g17 rfl rfl rfl rfl (Nat.le_of_ble_eq_true rfl) ⟨Nat.le_of_ble_eq_true rfl, Nat.le_of_ble_eq_true rfl⟩ ⟨Nat.le_of_ble_eq_true rfl, Nat.le_of_ble_eq_true rfl⟩ dX15_needEnd_17 (fun H locs hW => ?_)
    cases hf
  unfold t_X15_needEnd at hf
  refine lv_aload_n hx hb dX15_needEnd_0 rfl (lv_at hl 0 rfl) ?_
  refine lv_aload_n hx hb dX15_needEnd_1 rfl (lv_at hl 0 rfl) ?_
  obtain ⟨g2, hf⟩ := gd_some hf
  refine aw_gI hC hW g2 fl_X15_28 rfl dX15_needEnd_2 ?_
  refine lv_aload_n hx hb dX15_needEnd_5 rfl (lv_at hl 0 rfl) ?_
  refine aw_gI hC hW g2 fl_X15_15 rfl dX15_needEnd_6 ?_
  refine lv_icmp_ne (tgt := 16) hx hb dX15_needEnd_9 (by decide) (fun c9 => ?_) (fun c9 => ?_)
  · have hf := ifn c9 hf
    refine lv_iconst (v := 0) hx hb dX15_needEnd_16 (by decide) ?_
    exact B17 0 o s hf _ _ _ (lv_sub hl [] rfl) hW
  · have hf := ifp c9 hf
    refine lv_iconst (v := 1) hx hb dX15_needEnd_12 (by decide) ?_
    refine lv_goto (tgt := 17) hx hb dX15_needEnd_13 (by decide) ?_
    exact B17 1 o s hf _ _ _ (lv_sub hl [] rfl) hW
def t_X15_needEndw_b17 (t0 : Int32) (w1 : Nat) (s : ST) : Option (Int32 × ST) :=
  gd (w1 < s.1 ∧ (kd s w1).1 = 17) <|
  ox (t_X15_needw w1 t0 s) <|
  ob (f_X15_needw w1 t0 s) fun _ s17 =>
  none
def t_X15_needEndw (o : Nat) (s : ST) : Option (Int32 × ST) :=
  gd (o < s.1 ∧ (kd s o).1 = 17) <|
  if (gi s o 3) = (gi s o 1) then (t_X15_needEndw_b17 1 o s) else t_X15_needEndw_b17 0 o s
set_option maxHeartbeats 4000000 in
theorem tt_X15_needEndw (l : Launch) (hlt : l.stackTraces = false) (G : GM) (a : Nat → Nat) (o : Nat) (s : ST) (pl : Int32) (s1 : ST) (hf : t_X15_needEndw o s = some (pl, s1)) : TM l G yX15_needEnd (ws_ yX15_needEnd cX15_needEnd 1 none) 6 [.ref (a o)] a s pl s1 := by
  refine tm_of (d := 6) (lv := [(0, .ref (a o))]) (by decide) (Nat.le_of_ble_eq_true rfl) rfl ?_
  intro p e s0 m args below meth c ls A hC hno hW hl
  have hx := hC.1
  have hb := hC.2.1
  have hts := hC.2.2.2.2.1
  have B17 : ∀ (t0 : Int32) (w1 : Nat) (s : ST), t_X15_needEndw_b17 t0 w1 s = some (pl, s1) → ∀ (H : Heap) (locs : List Loc) (ls : Array Slot), lv_has ls 1 [] → AW G a A s s0.heap H locs → WT p l e (rmA 6 1 7) s0 m args below meth c H locs G A (XCF G a s1 pl A) 17 ls [.int t0, .ref (a w1)] := by
    intro t0 w1 s hf H locs ls hl hW
    unfold t_X15_needEndw_b17 at hf
    obtain ⟨g17, hf⟩ := gd_some hf
    rcases ox_some hf with ht17 | hf
    · exact aw_tprop (aw_trU (r := w1) (As := [.int t0]) (rest := []) (tt_X15_needw l hlt G a w1 t0 s pl s1 ht17) hC hW hl.1 uy_X17_X15_X15_need q636 g17 rfl rfl rfl (Nat.le_of_ble_eq_true rfl) ⟨Nat.le_of_ble_eq_true rfl, Nat.le_of_ble_eq_true rfl⟩ ⟨Nat.le_of_ble_eq_true rfl, Nat.le_of_ble_eq_true rfl⟩ dX15_needEnd_17) hC hno hW
    obtain ⟨_, s17, h17, hf⟩ := ob_some hf
    refine aw_dU0 (r := w1) (As := [.int t0]) (rest := []) (ct_X15_needw l G a w1 t0 s () s17 h17) hC hW hl.1 uy_X17_X15_X15_need q636 g17 rfl rfl rfl (Nat.le_of_ble_eq_true rfl) ⟨Nat.le_of_ble_eq_true rfl, Nat.le_of_ble_eq_true rfl⟩ ⟨Nat.le_of_ble_eq_true rfl, Nat.le_of_ble_eq_true rfl⟩ dX15_needEnd_17 (fun H locs hW => ?_)
    cases hf
  unfold t_X15_needEndw at hf
  refine lv_aload_n hx hb dX15_needEnd_0 rfl (lv_at hl 0 rfl) ?_
  refine lv_aload_n hx hb dX15_needEnd_1 rfl (lv_at hl 0 rfl) ?_
  obtain ⟨g2, hf⟩ := gd_some hf
  refine aw_gI hC hW g2 fl_X15_28_X17 rfl dX15_needEnd_2 ?_
  refine lv_aload_n hx hb dX15_needEnd_5 rfl (lv_at hl 0 rfl) ?_
  refine aw_gI hC hW g2 fl_X15_15_X17 rfl dX15_needEnd_6 ?_
  refine lv_icmp_ne (tgt := 16) hx hb dX15_needEnd_9 (by decide) (fun c9 => ?_) (fun c9 => ?_)
  · have hf := ifn c9 hf
    refine lv_iconst (v := 0) hx hb dX15_needEnd_16 (by decide) ?_
    exact B17 0 o s hf _ _ _ (lv_sub hl [] rfl) hW
  · have hf := ifp c9 hf
    refine lv_iconst (v := 1) hx hb dX15_needEnd_12 (by decide) ?_
    refine lv_goto (tgt := 17) hx hb dX15_needEnd_13 (by decide) ?_
    exact B17 1 o s hf _ _ _ (lv_sub hl [] rfl) hW
def t_X15_number_b78 (r0 : Nat) (x2 : Int32) (x3 : Int32) (x4 : Int32) (s : ST) : Option (Int32 × ST) :=
  bnd (p_in ((x4 : Int32).toInt64) ((x2 : Int32).toInt64) ((x3 : Int32).toInt64)) fun v85 =>
  if v85 = 0 then (gd (r0 < s.1 ∧ (kd s r0).1 = 15) <|
  some (((gi s r0 3) - 1), s)) else none
def t_X15_number_b24 : Nat → Nat → Int32 → Int32 → Int32 → Int32 → Int32 → ST → Option (Int32 × ST)
  | 0, _, _, _, _, _, _, _ => none
  | n + 1, r0, x1, x2, x3, x4, x5, s =>
  if x1 ≤ x5 then (t_X15_number_b78 r0 x2 x3 x4 s) else gd (r0 < s.1 ∧ (kd s r0).1 = 15) <|
  ob (f_X15_here r0 s) fun v31 s31 =>
  bnd (p_in ((v31 : Int32).toInt64) 48 57) fun v41 =>
  if v41 = 0 then (t_X15_number_b78 r0 x2 x3 x4 s31) else gd (r0 < s31.1 ∧ (kd s31 r0).1 = 15) <|
  ob (f_X15_here r0 s31) fun v53 s53 =>
  bnd ((((10 * x4) + v53) - 48) : Int32) fun v60 =>
  gd (r0 < s53.1 ∧ (kd s53 r0).1 = 15) <|
  bnd (pI s53 r0 3 ((gi s53 r0 3) + 1)) fun s69 =>
  bnd (x5 + 1 : Int32) fun v72 =>
  t_X15_number_b24 n r0 x1 x2 x3 v60 v72 s69
def t_X15_number (o : Nat) (x1 : Int32) (x2 : Int32) (x3 : Int32) (s : ST) : Option (Int32 × ST) :=
  gd (o < s.1 ∧ (kd s o).1 = 15) <|
  ob (f_X15_here o s) fun v2 s2 =>
  bnd (p_in ((v2 : Int32).toInt64) 48 57) fun v12 =>
  gd (o < s2.1 ∧ (kd s2 o).1 = 15) <|
  ox (t_X15_need o v12 s2) <|
  ob (f_X15_need o v12 s2) fun _ s15 =>
  t_X15_number_b24 fuel o x1 x2 x3 0 0 s15
set_option maxHeartbeats 4000000 in
theorem tt_X15_number (l : Launch) (hlt : l.stackTraces = false) (G : GM) (a : Nat → Nat) (o : Nat) (x1 : Int32) (x2 : Int32) (x3 : Int32) (s : ST) (pl : Int32) (s1 : ST) (hf : t_X15_number o x1 x2 x3 s = some (pl, s1)) : TM l G yX15_number (ws_ yX15_number cX15_number 6 (some .int)) 6 [.ref (a o), .int x1, .int x2, .int x3] a s pl s1 := by
  refine tm_of (d := 6) (lv := [(0, .ref (a o)), (1, .int x1), (2, .int x2), (3, .int x3)]) (by decide) (Nat.le_of_ble_eq_true rfl) rfl ?_
  intro p e s0 m args below meth c ls A hC hno hW hl
  have hx := hC.1
  have hb := hC.2.1
  have hts := hC.2.2.2.2.1
  have B78 : ∀ (r0 : Nat) (x2 : Int32) (x3 : Int32) (x4 : Int32) (s : ST), t_X15_number_b78 r0 x2 x3 x4 s = some (pl, s1) → ∀ (H : Heap) (locs : List Loc) (ls : Array Slot), lv_has ls 6 [(0, .ref (a r0)), (2, .int x2), (3, .int x3), (4, .int x4)] → AW G a A s s0.heap H locs → WT p l e (rmA 6 1 7) s0 m args below meth c H locs G A (XCF G a s1 pl A) 78 ls [] := by
    intro r0 x2 x3 x4 s hf H locs ls hl hW
    unfold t_X15_number_b78 at hf
    refine lv_iload hx hb dX15_number_78 (lv_at hl 3 rfl) ?_
    refine lv_i2l (v := (x4 : Int32).toInt64) hx hb dX15_number_80 rfl ?_
    refine lv_iload_n hx hb dX15_number_81 rfl (lv_at hl 1 rfl) ?_
    refine lv_i2l (v := (x2 : Int32).toInt64) hx hb dX15_number_82 rfl ?_
    refine lv_iload_n hx hb dX15_number_83 rfl (lv_at hl 2 rfl) ?_
    refine lv_i2l (v := (x3 : Int32).toInt64) hx hb dX15_number_84 rfl ?_
    obtain ⟨v85, ev85, hf⟩ := bnd_some hf
    refine aw_dS1 (As := [.long ((x4 : Int32).toInt64), .long ((x2 : Int32).toInt64), .long ((x3 : Int32).toInt64)]) (rest := []) (pc_X1_in l G a ((x4 : Int32).toInt64) ((x2 : Int32).toInt64) ((x3 : Int32).toInt64) s) hC hW hl.1 sy_X1_in (Or.inr ⟨_, q635⟩) rfl rfl (Nat.le_of_ble_eq_true rfl) ⟨Nat.le_of_ble_eq_true rfl, Nat.le_of_ble_eq_true rfl⟩ ⟨Nat.le_of_ble_eq_true rfl, Nat.le_of_ble_eq_true rfl⟩ dX15_number_85 (fun H locs hW => ?_)
    refine top_i ev85 ?_
    refine lv_if_ne (tgt := 105) hx hb dX15_number_88 (by decide) (fun c88 => ?_) (fun c88 => ?_)
    · have hf := ifn c88 hf
      refine lv_iload hx hb dX15_number_105 (lv_at hl 3 rfl) ?_
      cases hf
    · have hf := ifp c88 hf
      refine aw_tnew hC hW q558 (Nat.le_of_ble_eq_true rfl) (Nat.le_of_ble_eq_true rfl) dX15_number_91 (fun xq H hW hQ9 hq9 hqw9 => ?_)
      refine lv_dup hx hb dX15_number_94 rfl ?_
      refine lv_aload_n hx hb dX15_number_95 rfl (lv_at hl 0 rfl) ?_
      obtain ⟨g96, hf⟩ := gd_some hf
      refine aw_gI hC hW g96 fl_X15_28 rfl dX15_number_96 ?_
      refine lv_iconst (v := 1) hx hb dX15_number_99 (by decide) ?_
      refine lv_isub hx hb dX15_number_100 ?_
      refine aw_tinit (G := G) (a := a) (s := s) (pl := ((gi s r0 3) - 1)) (rest := [.ref xq]) hlt hC hW hl.1 hQ9 hq9 hqw9 q597 iy_X16_init rfl (Nat.le_of_ble_eq_true rfl) ⟨Nat.le_of_ble_eq_true rfl, Nat.le_of_ble_eq_true rfl⟩ ⟨Nat.le_of_ble_eq_true rfl, Nat.le_of_ble_eq_true rfl⟩ dX15_number_101 (fun H locs hW hF9 => ?_)
      obtain ⟨e1, e2⟩ := so_inj hf
      subst e1
      subst e2
      exact aw_tthrow hC hno hW hF9 (Nat.le_of_ble_eq_true rfl) (Nat.le_of_ble_eq_true rfl) dX15_number_104
  have B24 : ∀ (n : Nat), ∀ (r0 : Nat) (x1 : Int32) (x2 : Int32) (x3 : Int32) (x4 : Int32) (x5 : Int32) (s : ST), t_X15_number_b24 n r0 x1 x2 x3 x4 x5 s = some (pl, s1) → ∀ (H : Heap) (locs : List Loc) (ls : Array Slot), lv_has ls 6 [(0, .ref (a r0)), (1, .int x1), (2, .int x2), (3, .int x3), (4, .int x4), (5, .int x5)] → AW G a A s s0.heap H locs → WT p l e (rmA 6 1 7) s0 m args below meth c H locs G A (XCF G a s1 pl A) 24 ls [] := by
    intro n
    induction n with
    | zero => intro r0 x1 x2 x3 x4 x5 s hf; cases hf
    | succ n ih =>
      intro r0 x1 x2 x3 x4 x5 s hf H locs ls hl hW
      rw [t_X15_number_b24] at hf
      refine lv_iload hx hb dX15_number_24 (lv_at hl 5 rfl) ?_
      refine lv_iload_n hx hb dX15_number_26 rfl (lv_at hl 1 rfl) ?_
      refine lv_icmp_ge (tgt := 78) hx hb dX15_number_27 (by decide) (fun c27 => ?_) (fun c27 => ?_)
      · have hf := ifp c27 hf
        exact B78 r0 x2 x3 x4 s hf _ _ _ (lv_sub hl [0, 2, 3, 4] rfl) hW
      · have hf := ifn c27 hf
        refine lv_aload_n hx hb dX15_number_30 rfl (lv_at hl 0 rfl) ?_
        obtain ⟨g31, hf⟩ := gd_some hf
        obtain ⟨v31, s31, h31, hf⟩ := ob_some hf
        refine aw_dV1 (r := r0) (As := []) (rest := []) (ct_X15_here l G a r0 s v31 s31 h31) hC hW hl.1 vy_X15_here (Or.inl q627) g31 rfl rfl rfl rfl (Nat.le_of_ble_eq_true rfl) ⟨Nat.le_of_ble_eq_true rfl, Nat.le_of_ble_eq_true rfl⟩ ⟨Nat.le_of_ble_eq_true rfl, Nat.le_of_ble_eq_true rfl⟩ dX15_number_31 (fun H locs hW => ?_)
        refine lv_i2l (v := (v31 : Int32).toInt64) hx hb dX15_number_34 rfl ?_
        refine lv_ldc2 (v := 48) hx hb hC.2.2.2.1 (hts _ q633) dX15_number_35 ?_
        refine lv_ldc2 (v := 57) hx hb hC.2.2.2.1 (hts _ q634) dX15_number_38 ?_
        obtain ⟨v41, ev41, hf⟩ := bnd_some hf
        refine aw_dS1 (As := [.long ((v31 : Int32).toInt64), .long 48, .long 57]) (rest := []) (pc_X1_in l G a ((v31 : Int32).toInt64) 48 57 s31) hC hW hl.1 sy_X1_in (Or.inr ⟨_, q635⟩) rfl rfl (Nat.le_of_ble_eq_true rfl) ⟨Nat.le_of_ble_eq_true rfl, Nat.le_of_ble_eq_true rfl⟩ ⟨Nat.le_of_ble_eq_true rfl, Nat.le_of_ble_eq_true rfl⟩ dX15_number_41 (fun H locs hW => ?_)
        refine top_i ev41 ?_
        refine lv_if_eq (tgt := 78) hx hb dX15_number_44 (by decide) (fun c44 => ?_) (fun c44 => ?_)
        · have hf := ifp c44 hf
          exact B78 r0 x2 x3 x4 s31 hf _ _ _ (lv_sub hl [0, 2, 3, 4] rfl) hW
        · have hf := ifn c44 hf
          refine lv_bipush (v := 10) hx hb dX15_number_47 (by decide) ?_
          refine lv_iload hx hb dX15_number_49 (lv_at hl 4 rfl) ?_
          refine lv_imul hx hb dX15_number_51 ?_
          refine lv_aload_n hx hb dX15_number_52 rfl (lv_at hl 0 rfl) ?_
          obtain ⟨g53, hf⟩ := gd_some hf
          obtain ⟨v53, s53, h53, hf⟩ := ob_some hf
          refine aw_dV1 (r := r0) (As := []) (rest := [.int (10 * x4)]) (ct_X15_here l G a r0 s31 v53 s53 h53) hC hW hl.1 vy_X15_here (Or.inl q627) g53 rfl rfl rfl rfl (Nat.le_of_ble_eq_true rfl) ⟨Nat.le_of_ble_eq_true rfl, Nat.le_of_ble_eq_true rfl⟩ ⟨Nat.le_of_ble_eq_true rfl, Nat.le_of_ble_eq_true rfl⟩ dX15_number_53 (fun H locs hW => ?_)
          refine lv_iadd hx hb dX15_number_56 ?_
          refine lv_bipush (v := 48) hx hb dX15_number_57 (by decide) ?_
          refine lv_isub hx hb dX15_number_59 ?_
          obtain ⟨v60, ev60, hf⟩ := bnd_some hf
          refine top_i ev60 ?_
          refine lv_istore (lv' := [(4, .int v60), (0, .ref (a r0)), (1, .int x1), (2, .int x2), (3, .int x3), (5, .int x5)]) hx hb dX15_number_60 hl (by decide) rfl (fun ls hl => ?_)
          refine lv_aload_n hx hb dX15_number_62 rfl (lv_at hl 1 rfl) ?_
          refine lv_dup hx hb dX15_number_63 rfl ?_
          obtain ⟨g64, hf⟩ := gd_some hf
          refine aw_gI hC hW g64 fl_X15_28 rfl dX15_number_64 ?_
          refine lv_iconst (v := 1) hx hb dX15_number_67 (by decide) ?_
          refine lv_iadd hx hb dX15_number_68 ?_
          obtain ⟨s69, e69, hf⟩ := bnd_some hf
          refine aw_pI e69 hC hW g64 fl_X15_28 (Or.inl fn_14_3) rfl rfl rfl dX15_number_69 (fun H locs hW => ?_)
          have g64 := ko_pI e69 g64
          obtain ⟨v72, ev72, hf⟩ := bnd_some hf
          refine lv_iinc (v := v72) (lv' := [(5, .int v72), (4, .int v60), (0, .ref (a r0)), (1, .int x1), (2, .int x2), (3, .int x3)]) hx hb dX15_number_72 hl (k := 5) rfl (by rw [ev72]; rfl) (by decide) rfl (fun ls hl => ?_)
          refine lv_goto (tgt := 24) hx hb dX15_number_75 (by decide) ?_
          exact ih r0 x1 x2 x3 v60 v72 s69 hf _ _ _ (lv_sub hl [2, 3, 4, 5, 1, 0] rfl) hW
  unfold t_X15_number at hf
  refine lv_aload_n hx hb dX15_number_0 rfl (lv_at hl 0 rfl) ?_
  refine lv_aload_n hx hb dX15_number_1 rfl (lv_at hl 0 rfl) ?_
  obtain ⟨g2, hf⟩ := gd_some hf
  obtain ⟨v2, s2, h2, hf⟩ := ob_some hf
  refine aw_dV1 (r := o) (As := []) (rest := [.ref (a o)]) (ct_X15_here l G a o s v2 s2 h2) hC hW hl.1 vy_X15_here (Or.inl q627) g2 rfl rfl rfl rfl (Nat.le_of_ble_eq_true rfl) ⟨Nat.le_of_ble_eq_true rfl, Nat.le_of_ble_eq_true rfl⟩ ⟨Nat.le_of_ble_eq_true rfl, Nat.le_of_ble_eq_true rfl⟩ dX15_number_2 (fun H locs hW => ?_)
  refine lv_i2l (v := (v2 : Int32).toInt64) hx hb dX15_number_5 rfl ?_
  refine lv_ldc2 (v := 48) hx hb hC.2.2.2.1 (hts _ q633) dX15_number_6 ?_
  refine lv_ldc2 (v := 57) hx hb hC.2.2.2.1 (hts _ q634) dX15_number_9 ?_
  obtain ⟨v12, ev12, hf⟩ := bnd_some hf
  refine aw_dS1 (As := [.long ((v2 : Int32).toInt64), .long 48, .long 57]) (rest := [.ref (a o)]) (pc_X1_in l G a ((v2 : Int32).toInt64) 48 57 s2) hC hW hl.1 sy_X1_in (Or.inr ⟨_, q635⟩) rfl rfl (Nat.le_of_ble_eq_true rfl) ⟨Nat.le_of_ble_eq_true rfl, Nat.le_of_ble_eq_true rfl⟩ ⟨Nat.le_of_ble_eq_true rfl, Nat.le_of_ble_eq_true rfl⟩ dX15_number_12 (fun H locs hW => ?_)
  refine top_i ev12 ?_
  obtain ⟨g15, hf⟩ := gd_some hf
  rcases ox_some hf with ht15 | hf
  · exact aw_tprop (aw_trV (r := o) (As := [.int v12]) (rest := []) (tt_X15_need l hlt G a o v12 s2 pl s1 ht15) hC hW hl.1 vy_X15_need q636 g15 rfl rfl rfl rfl (Nat.le_of_ble_eq_true rfl) ⟨Nat.le_of_ble_eq_true rfl, Nat.le_of_ble_eq_true rfl⟩ ⟨Nat.le_of_ble_eq_true rfl, Nat.le_of_ble_eq_true rfl⟩ dX15_number_15) hC hno hW
  obtain ⟨_, s15, h15, hf⟩ := ob_some hf
  refine aw_dV0 (r := o) (As := [.int v12]) (rest := []) (ct_X15_need l G a o v12 s2 () s15 h15) hC hW hl.1 vy_X15_need (Or.inl q636) g15 rfl rfl rfl rfl (Nat.le_of_ble_eq_true rfl) ⟨Nat.le_of_ble_eq_true rfl, Nat.le_of_ble_eq_true rfl⟩ ⟨Nat.le_of_ble_eq_true rfl, Nat.le_of_ble_eq_true rfl⟩ dX15_number_15 (fun H locs hW => ?_)
  refine lv_iconst (v := 0) hx hb dX15_number_18 (by decide) ?_
  refine lv_istore (lv' := [(4, .int 0), (0, .ref (a o)), (1, .int x1), (2, .int x2), (3, .int x3)]) hx hb dX15_number_19 hl (by decide) rfl (fun ls hl => ?_)
  refine lv_iconst (v := 0) hx hb dX15_number_21 (by decide) ?_
  refine lv_istore (lv' := [(5, .int 0), (4, .int 0), (0, .ref (a o)), (1, .int x1), (2, .int x2), (3, .int x3)]) hx hb dX15_number_22 hl (by decide) rfl (fun ls hl => ?_)
  exact B24 fuel o x1 x2 x3 0 0 s15 hf _ _ _ (lv_sub hl [2, 3, 4, 5, 1, 0] rfl) hW
def t_X15_numberw_b78 (r0 : Nat) (x2 : Int32) (x3 : Int32) (x4 : Int32) (s : ST) : Option (Int32 × ST) :=
  bnd (p_in ((x4 : Int32).toInt64) ((x2 : Int32).toInt64) ((x3 : Int32).toInt64)) fun v85 =>
  if v85 = 0 then (gd (r0 < s.1 ∧ (kd s r0).1 = 17) <|
  some (((gi s r0 3) - 1), s)) else none
def t_X15_numberw_b24 : Nat → Nat → Int32 → Int32 → Int32 → Int32 → Int32 → ST → Option (Int32 × ST)
  | 0, _, _, _, _, _, _, _ => none
  | n + 1, r0, x1, x2, x3, x4, x5, s =>
  if x1 ≤ x5 then (t_X15_numberw_b78 r0 x2 x3 x4 s) else gd (r0 < s.1 ∧ (kd s r0).1 = 17) <|
  ob (f_X15_herew r0 s) fun v31 s31 =>
  bnd (p_in ((v31 : Int32).toInt64) 48 57) fun v41 =>
  if v41 = 0 then (t_X15_numberw_b78 r0 x2 x3 x4 s31) else gd (r0 < s31.1 ∧ (kd s31 r0).1 = 17) <|
  ob (f_X15_herew r0 s31) fun v53 s53 =>
  bnd ((((10 * x4) + v53) - 48) : Int32) fun v60 =>
  gd (r0 < s53.1 ∧ (kd s53 r0).1 = 17) <|
  bnd (pI s53 r0 3 ((gi s53 r0 3) + 1)) fun s69 =>
  bnd (x5 + 1 : Int32) fun v72 =>
  t_X15_numberw_b24 n r0 x1 x2 x3 v60 v72 s69
def t_X15_numberw (o : Nat) (x1 : Int32) (x2 : Int32) (x3 : Int32) (s : ST) : Option (Int32 × ST) :=
  gd (o < s.1 ∧ (kd s o).1 = 17) <|
  ob (f_X15_herew o s) fun v2 s2 =>
  bnd (p_in ((v2 : Int32).toInt64) 48 57) fun v12 =>
  gd (o < s2.1 ∧ (kd s2 o).1 = 17) <|
  ox (t_X15_needw o v12 s2) <|
  ob (f_X15_needw o v12 s2) fun _ s15 =>
  t_X15_numberw_b24 fuel o x1 x2 x3 0 0 s15
set_option maxHeartbeats 4000000 in
theorem tt_X15_numberw (l : Launch) (hlt : l.stackTraces = false) (G : GM) (a : Nat → Nat) (o : Nat) (x1 : Int32) (x2 : Int32) (x3 : Int32) (s : ST) (pl : Int32) (s1 : ST) (hf : t_X15_numberw o x1 x2 x3 s = some (pl, s1)) : TM l G yX15_number (ws_ yX15_number cX15_number 6 (some .int)) 6 [.ref (a o), .int x1, .int x2, .int x3] a s pl s1 := by
  refine tm_of (d := 6) (lv := [(0, .ref (a o)), (1, .int x1), (2, .int x2), (3, .int x3)]) (by decide) (Nat.le_of_ble_eq_true rfl) rfl ?_
  intro p e s0 m args below meth c ls A hC hno hW hl
  have hx := hC.1
  have hb := hC.2.1
  have hts := hC.2.2.2.2.1
  have B78 : ∀ (r0 : Nat) (x2 : Int32) (x3 : Int32) (x4 : Int32) (s : ST), t_X15_numberw_b78 r0 x2 x3 x4 s = some (pl, s1) → ∀ (H : Heap) (locs : List Loc) (ls : Array Slot), lv_has ls 6 [(0, .ref (a r0)), (2, .int x2), (3, .int x3), (4, .int x4)] → AW G a A s s0.heap H locs → WT p l e (rmA 6 1 7) s0 m args below meth c H locs G A (XCF G a s1 pl A) 78 ls [] := by
    intro r0 x2 x3 x4 s hf H locs ls hl hW
    unfold t_X15_numberw_b78 at hf
    refine lv_iload hx hb dX15_number_78 (lv_at hl 3 rfl) ?_
    refine lv_i2l (v := (x4 : Int32).toInt64) hx hb dX15_number_80 rfl ?_
    refine lv_iload_n hx hb dX15_number_81 rfl (lv_at hl 1 rfl) ?_
    refine lv_i2l (v := (x2 : Int32).toInt64) hx hb dX15_number_82 rfl ?_
    refine lv_iload_n hx hb dX15_number_83 rfl (lv_at hl 2 rfl) ?_
    refine lv_i2l (v := (x3 : Int32).toInt64) hx hb dX15_number_84 rfl ?_
    obtain ⟨v85, ev85, hf⟩ := bnd_some hf
    refine aw_dS1 (As := [.long ((x4 : Int32).toInt64), .long ((x2 : Int32).toInt64), .long ((x3 : Int32).toInt64)]) (rest := []) (pc_X1_in l G a ((x4 : Int32).toInt64) ((x2 : Int32).toInt64) ((x3 : Int32).toInt64) s) hC hW hl.1 sy_X1_in (Or.inr ⟨_, q635⟩) rfl rfl (Nat.le_of_ble_eq_true rfl) ⟨Nat.le_of_ble_eq_true rfl, Nat.le_of_ble_eq_true rfl⟩ ⟨Nat.le_of_ble_eq_true rfl, Nat.le_of_ble_eq_true rfl⟩ dX15_number_85 (fun H locs hW => ?_)
    refine top_i ev85 ?_
    refine lv_if_ne (tgt := 105) hx hb dX15_number_88 (by decide) (fun c88 => ?_) (fun c88 => ?_)
    · have hf := ifn c88 hf
      refine lv_iload hx hb dX15_number_105 (lv_at hl 3 rfl) ?_
      cases hf
    · have hf := ifp c88 hf
      refine aw_tnew hC hW q558 (Nat.le_of_ble_eq_true rfl) (Nat.le_of_ble_eq_true rfl) dX15_number_91 (fun xq H hW hQ9 hq9 hqw9 => ?_)
      refine lv_dup hx hb dX15_number_94 rfl ?_
      refine lv_aload_n hx hb dX15_number_95 rfl (lv_at hl 0 rfl) ?_
      obtain ⟨g96, hf⟩ := gd_some hf
      refine aw_gI hC hW g96 fl_X15_28_X17 rfl dX15_number_96 ?_
      refine lv_iconst (v := 1) hx hb dX15_number_99 (by decide) ?_
      refine lv_isub hx hb dX15_number_100 ?_
      refine aw_tinit (G := G) (a := a) (s := s) (pl := ((gi s r0 3) - 1)) (rest := [.ref xq]) hlt hC hW hl.1 hQ9 hq9 hqw9 q597 iy_X16_init rfl (Nat.le_of_ble_eq_true rfl) ⟨Nat.le_of_ble_eq_true rfl, Nat.le_of_ble_eq_true rfl⟩ ⟨Nat.le_of_ble_eq_true rfl, Nat.le_of_ble_eq_true rfl⟩ dX15_number_101 (fun H locs hW hF9 => ?_)
      obtain ⟨e1, e2⟩ := so_inj hf
      subst e1
      subst e2
      exact aw_tthrow hC hno hW hF9 (Nat.le_of_ble_eq_true rfl) (Nat.le_of_ble_eq_true rfl) dX15_number_104
  have B24 : ∀ (n : Nat), ∀ (r0 : Nat) (x1 : Int32) (x2 : Int32) (x3 : Int32) (x4 : Int32) (x5 : Int32) (s : ST), t_X15_numberw_b24 n r0 x1 x2 x3 x4 x5 s = some (pl, s1) → ∀ (H : Heap) (locs : List Loc) (ls : Array Slot), lv_has ls 6 [(0, .ref (a r0)), (1, .int x1), (2, .int x2), (3, .int x3), (4, .int x4), (5, .int x5)] → AW G a A s s0.heap H locs → WT p l e (rmA 6 1 7) s0 m args below meth c H locs G A (XCF G a s1 pl A) 24 ls [] := by
    intro n
    induction n with
    | zero => intro r0 x1 x2 x3 x4 x5 s hf; cases hf
    | succ n ih =>
      intro r0 x1 x2 x3 x4 x5 s hf H locs ls hl hW
      rw [t_X15_numberw_b24] at hf
      refine lv_iload hx hb dX15_number_24 (lv_at hl 5 rfl) ?_
      refine lv_iload_n hx hb dX15_number_26 rfl (lv_at hl 1 rfl) ?_
      refine lv_icmp_ge (tgt := 78) hx hb dX15_number_27 (by decide) (fun c27 => ?_) (fun c27 => ?_)
      · have hf := ifp c27 hf
        exact B78 r0 x2 x3 x4 s hf _ _ _ (lv_sub hl [0, 2, 3, 4] rfl) hW
      · have hf := ifn c27 hf
        refine lv_aload_n hx hb dX15_number_30 rfl (lv_at hl 0 rfl) ?_
        obtain ⟨g31, hf⟩ := gd_some hf
        obtain ⟨v31, s31, h31, hf⟩ := ob_some hf
        refine aw_dU1 (r := r0) (As := []) (rest := []) (ct_X15_herew l G a r0 s v31 s31 h31) hC hW hl.1 uy_X17_X15_X15_here q627 g31 rfl rfl rfl (Nat.le_of_ble_eq_true rfl) ⟨Nat.le_of_ble_eq_true rfl, Nat.le_of_ble_eq_true rfl⟩ ⟨Nat.le_of_ble_eq_true rfl, Nat.le_of_ble_eq_true rfl⟩ dX15_number_31 (fun H locs hW => ?_)
        refine lv_i2l (v := (v31 : Int32).toInt64) hx hb dX15_number_34 rfl ?_
        refine lv_ldc2 (v := 48) hx hb hC.2.2.2.1 (hts _ q633) dX15_number_35 ?_
        refine lv_ldc2 (v := 57) hx hb hC.2.2.2.1 (hts _ q634) dX15_number_38 ?_
        obtain ⟨v41, ev41, hf⟩ := bnd_some hf
        refine aw_dS1 (As := [.long ((v31 : Int32).toInt64), .long 48, .long 57]) (rest := []) (pc_X1_in l G a ((v31 : Int32).toInt64) 48 57 s31) hC hW hl.1 sy_X1_in (Or.inr ⟨_, q635⟩) rfl rfl (Nat.le_of_ble_eq_true rfl) ⟨Nat.le_of_ble_eq_true rfl, Nat.le_of_ble_eq_true rfl⟩ ⟨Nat.le_of_ble_eq_true rfl, Nat.le_of_ble_eq_true rfl⟩ dX15_number_41 (fun H locs hW => ?_)
        refine top_i ev41 ?_
        refine lv_if_eq (tgt := 78) hx hb dX15_number_44 (by decide) (fun c44 => ?_) (fun c44 => ?_)
        · have hf := ifp c44 hf
          exact B78 r0 x2 x3 x4 s31 hf _ _ _ (lv_sub hl [0, 2, 3, 4] rfl) hW
        · have hf := ifn c44 hf
          refine lv_bipush (v := 10) hx hb dX15_number_47 (by decide) ?_
          refine lv_iload hx hb dX15_number_49 (lv_at hl 4 rfl) ?_
          refine lv_imul hx hb dX15_number_51 ?_
          refine lv_aload_n hx hb dX15_number_52 rfl (lv_at hl 0 rfl) ?_
          obtain ⟨g53, hf⟩ := gd_some hf
          obtain ⟨v53, s53, h53, hf⟩ := ob_some hf
          refine aw_dU1 (r := r0) (As := []) (rest := [.int (10 * x4)]) (ct_X15_herew l G a r0 s31 v53 s53 h53) hC hW hl.1 uy_X17_X15_X15_here q627 g53 rfl rfl rfl (Nat.le_of_ble_eq_true rfl) ⟨Nat.le_of_ble_eq_true rfl, Nat.le_of_ble_eq_true rfl⟩ ⟨Nat.le_of_ble_eq_true rfl, Nat.le_of_ble_eq_true rfl⟩ dX15_number_53 (fun H locs hW => ?_)
          refine lv_iadd hx hb dX15_number_56 ?_
          refine lv_bipush (v := 48) hx hb dX15_number_57 (by decide) ?_
          refine lv_isub hx hb dX15_number_59 ?_
          obtain ⟨v60, ev60, hf⟩ := bnd_some hf
          refine top_i ev60 ?_
          refine lv_istore (lv' := [(4, .int v60), (0, .ref (a r0)), (1, .int x1), (2, .int x2), (3, .int x3), (5, .int x5)]) hx hb dX15_number_60 hl (by decide) rfl (fun ls hl => ?_)
          refine lv_aload_n hx hb dX15_number_62 rfl (lv_at hl 1 rfl) ?_
          refine lv_dup hx hb dX15_number_63 rfl ?_
          obtain ⟨g64, hf⟩ := gd_some hf
          refine aw_gI hC hW g64 fl_X15_28_X17 rfl dX15_number_64 ?_
          refine lv_iconst (v := 1) hx hb dX15_number_67 (by decide) ?_
          refine lv_iadd hx hb dX15_number_68 ?_
          obtain ⟨s69, e69, hf⟩ := bnd_some hf
          refine aw_pI e69 hC hW g64 fl_X15_28_X17 (Or.inl fn_16_3) rfl rfl rfl dX15_number_69 (fun H locs hW => ?_)
          have g64 := ko_pI e69 g64
          obtain ⟨v72, ev72, hf⟩ := bnd_some hf
          refine lv_iinc (v := v72) (lv' := [(5, .int v72), (4, .int v60), (0, .ref (a r0)), (1, .int x1), (2, .int x2), (3, .int x3)]) hx hb dX15_number_72 hl (k := 5) rfl (by rw [ev72]; rfl) (by decide) rfl (fun ls hl => ?_)
          refine lv_goto (tgt := 24) hx hb dX15_number_75 (by decide) ?_
          exact ih r0 x1 x2 x3 v60 v72 s69 hf _ _ _ (lv_sub hl [2, 3, 4, 5, 1, 0] rfl) hW
  unfold t_X15_numberw at hf
  refine lv_aload_n hx hb dX15_number_0 rfl (lv_at hl 0 rfl) ?_
  refine lv_aload_n hx hb dX15_number_1 rfl (lv_at hl 0 rfl) ?_
  obtain ⟨g2, hf⟩ := gd_some hf
  obtain ⟨v2, s2, h2, hf⟩ := ob_some hf
  refine aw_dU1 (r := o) (As := []) (rest := [.ref (a o)]) (ct_X15_herew l G a o s v2 s2 h2) hC hW hl.1 uy_X17_X15_X15_here q627 g2 rfl rfl rfl (Nat.le_of_ble_eq_true rfl) ⟨Nat.le_of_ble_eq_true rfl, Nat.le_of_ble_eq_true rfl⟩ ⟨Nat.le_of_ble_eq_true rfl, Nat.le_of_ble_eq_true rfl⟩ dX15_number_2 (fun H locs hW => ?_)
  refine lv_i2l (v := (v2 : Int32).toInt64) hx hb dX15_number_5 rfl ?_
  refine lv_ldc2 (v := 48) hx hb hC.2.2.2.1 (hts _ q633) dX15_number_6 ?_
  refine lv_ldc2 (v := 57) hx hb hC.2.2.2.1 (hts _ q634) dX15_number_9 ?_
  obtain ⟨v12, ev12, hf⟩ := bnd_some hf
  refine aw_dS1 (As := [.long ((v2 : Int32).toInt64), .long 48, .long 57]) (rest := [.ref (a o)]) (pc_X1_in l G a ((v2 : Int32).toInt64) 48 57 s2) hC hW hl.1 sy_X1_in (Or.inr ⟨_, q635⟩) rfl rfl (Nat.le_of_ble_eq_true rfl) ⟨Nat.le_of_ble_eq_true rfl, Nat.le_of_ble_eq_true rfl⟩ ⟨Nat.le_of_ble_eq_true rfl, Nat.le_of_ble_eq_true rfl⟩ dX15_number_12 (fun H locs hW => ?_)
  refine top_i ev12 ?_
  obtain ⟨g15, hf⟩ := gd_some hf
  rcases ox_some hf with ht15 | hf
  · exact aw_tprop (aw_trU (r := o) (As := [.int v12]) (rest := []) (tt_X15_needw l hlt G a o v12 s2 pl s1 ht15) hC hW hl.1 uy_X17_X15_X15_need q636 g15 rfl rfl rfl (Nat.le_of_ble_eq_true rfl) ⟨Nat.le_of_ble_eq_true rfl, Nat.le_of_ble_eq_true rfl⟩ ⟨Nat.le_of_ble_eq_true rfl, Nat.le_of_ble_eq_true rfl⟩ dX15_number_15) hC hno hW
  obtain ⟨_, s15, h15, hf⟩ := ob_some hf
  refine aw_dU0 (r := o) (As := [.int v12]) (rest := []) (ct_X15_needw l G a o v12 s2 () s15 h15) hC hW hl.1 uy_X17_X15_X15_need q636 g15 rfl rfl rfl (Nat.le_of_ble_eq_true rfl) ⟨Nat.le_of_ble_eq_true rfl, Nat.le_of_ble_eq_true rfl⟩ ⟨Nat.le_of_ble_eq_true rfl, Nat.le_of_ble_eq_true rfl⟩ dX15_number_15 (fun H locs hW => ?_)
  refine lv_iconst (v := 0) hx hb dX15_number_18 (by decide) ?_
  refine lv_istore (lv' := [(4, .int 0), (0, .ref (a o)), (1, .int x1), (2, .int x2), (3, .int x3)]) hx hb dX15_number_19 hl (by decide) rfl (fun ls hl => ?_)
  refine lv_iconst (v := 0) hx hb dX15_number_21 (by decide) ?_
  refine lv_istore (lv' := [(5, .int 0), (4, .int 0), (0, .ref (a o)), (1, .int x1), (2, .int x2), (3, .int x3)]) hx hb dX15_number_22 hl (by decide) rfl (fun ls hl => ?_)
  exact B24 fuel o x1 x2 x3 0 0 s15 hf _ _ _ (lv_sub hl [2, 3, 4, 5, 1, 0] rfl) hW
def t_X15_habit_b55 (K5 : Nat → Nat → ST → Option (Int32 × ST)) (r0 : Nat) (r1 : Nat) (t0 : Int32) (s : ST) : Option (Int32 × ST) :=
  gd (r0 < s.1 ∧ (kd s r0).1 = 15) <|
  bnd (pI s r0 3 ((gi s r0 3) + 1)) fun s63 =>
  gd (r1 < s63.1 ∧ (kd s63 r1).1 = 3) <|
  (gr s63 r1 3).bind fun q67 =>
  ox (t_X15_number r0 1 0 9 s63) <|
  ob (f_X15_number r0 1 0 9 s63) fun v80 s80 =>
  gd (q67 < s80.1 ∧ (kd s80 q67).1 = 100 ∧ ¬ (((gi s63 r1 2) : Int32) < 0 ∨ (kd s80 q67).2 ≤ ((gi s63 r1 2) : Int32).toNatClampNeg)) <|
  bnd (pI s80 q67 ((gi s63 r1 2) : Int32).toNatClampNeg (t0 * v80)) fun s84 =>
  gd (r1 < s84.1 ∧ (kd s84 r1).1 = 3) <|
  bnd (pI s84 r1 2 ((gi s84 r1 2) + 1)) fun s92 =>
  K5 r0 r1 s92
def t_X15_habit_b38 (K5 : Nat → Nat → ST → Option (Int32 × ST)) (r0 : Nat) (r1 : Nat) (t0 : Int32) (w1 : Nat) (s : ST) : Option (Int32 × ST) :=
  gd (w1 < s.1 ∧ (kd s w1).1 = 15) <|
  ox (t_X15_need w1 t0 s) <|
  ob (f_X15_need w1 t0 s) fun _ s38 =>
  gd (r0 < s38.1 ∧ (kd s38 r0).1 = 15) <|
  ob (f_X15_here r0 s38) fun v42 s42 =>
  if v42 = 43 then (t_X15_habit_b55 K5 r0 r1 1 s42) else t_X15_habit_b55 K5 r0 r1 (-1) s42
def t_X15_habit_b23 (K5 : Nat → Nat → ST → Option (Int32 × ST)) (r0 : Nat) (r1 : Nat) (s : ST) : Option (Int32 × ST) :=
  gd (r1 < s.1 ∧ (kd s r1).1 = 3) <|
  if 6 ≤ (gi s r1 2) then (t_X15_habit_b38 K5 r0 r1 0 r0 s) else t_X15_habit_b38 K5 r0 r1 1 r0 s
def t_X15_habit_b5 : Nat → Nat → Nat → ST → Option (Int32 × ST)
  | 0, _, _, _ => none
  | n + 1, r0, r1, s =>
  gd (r0 < s.1 ∧ (kd s r0).1 = 15) <|
  ob (f_X15_here r0 s) fun v6 s6 =>
  if v6 = 43 then (t_X15_habit_b23 (t_X15_habit_b5 n) r0 r1 s6) else gd (r0 < s6.1 ∧ (kd s6 r0).1 = 15) <|
  ob (f_X15_here r0 s6) fun v15 s15 =>
  if v15 = 45 then (t_X15_habit_b23 (t_X15_habit_b5 n) r0 r1 s15) else none
def t_X15_habit (o : Nat) (r1 : Nat) (s : ST) : Option (Int32 × ST) :=
  gd (r1 < s.1 ∧ (kd s r1).1 = 3) <|
  bnd (pI s r1 2 0) fun s2 =>
  t_X15_habit_b5 fuel o r1 s2
set_option maxHeartbeats 4000000 in
theorem tt_X15_habit (l : Launch) (hlt : l.stackTraces = false) (G : GM) (a : Nat → Nat) (o : Nat) (r1 : Nat) (s : ST) (pl : Int32) (s1 : ST) (hf : t_X15_habit o r1 s = some (pl, s1)) : TM l G yX15_habit (ws_ yX15_habit cX15_habit 3 none) 7 [.ref (a o), .ref (a r1)] a s pl s1 := by
  refine tm_of (d := 7) (lv := [(0, .ref (a o)), (1, .ref (a r1))]) (by decide) (Nat.le_of_ble_eq_true rfl) rfl ?_
  intro p e s0 m args below meth c ls A hC hno hW hl
  have hx := hC.1
  have hb := hC.2.1
  have hts := hC.2.2.2.2.1
  have B55 : ∀ (K5 : Nat → Nat → ST → Option (Int32 × ST)) (hK5 : ∀ (r0 : Nat) (r1 : Nat) (s : ST), K5 r0 r1 s = some (pl, s1) → ∀ (H : Heap) (locs : List Loc) (ls : Array Slot), lv_has ls 3 [(0, .ref (a r0)), (1, .ref (a r1))] → AW G a A s s0.heap H locs → WT p l e (rmA 7 1 7) s0 m args below meth c H locs G A (XCF G a s1 pl A) 5 ls []), ∀ (r0 : Nat) (r1 : Nat) (t0 : Int32) (s : ST), t_X15_habit_b55 K5 r0 r1 t0 s = some (pl, s1) → ∀ (H : Heap) (locs : List Loc) (ls : Array Slot), lv_has ls 3 [(0, .ref (a r0)), (1, .ref (a r1))] → AW G a A s s0.heap H locs → WT p l e (rmA 7 1 7) s0 m args below meth c H locs G A (XCF G a s1 pl A) 55 ls [.int t0] := by
    intro K5 hK5 r0 r1 t0 s hf H locs ls hl hW
    unfold t_X15_habit_b55 at hf
    refine lv_istore_n (lv' := [(2, .int t0), (0, .ref (a r0)), (1, .ref (a r1))]) hx hb dX15_habit_55 rfl hl (by decide) rfl (fun ls hl => ?_)
    refine lv_aload_n hx hb dX15_habit_56 rfl (lv_at hl 1 rfl) ?_
    refine lv_dup hx hb dX15_habit_57 rfl ?_
    obtain ⟨g58, hf⟩ := gd_some hf
    refine aw_gI hC hW g58 fl_X15_28 rfl dX15_habit_58 ?_
    refine lv_iconst (v := 1) hx hb dX15_habit_61 (by decide) ?_
    refine lv_iadd hx hb dX15_habit_62 ?_
    obtain ⟨s63, e63, hf⟩ := bnd_some hf
    refine aw_pI e63 hC hW g58 fl_X15_28 (Or.inl fn_14_3) rfl rfl rfl dX15_habit_63 (fun H locs hW => ?_)
    have g58 := ko_pI e63 g58
    refine lv_aload_n hx hb dX15_habit_66 rfl (lv_at hl 2 rfl) ?_
    obtain ⟨g67, hf⟩ := gd_some hf
    obtain ⟨q67, hq67, hf⟩ := bi_some hf
    refine aw_gR hC hW g67 fl_X15_57 rfl hq67 dX15_habit_67 ?_
    refine lv_aload_n hx hb dX15_habit_70 rfl (lv_at hl 2 rfl) ?_
    refine aw_gI hC hW g67 fl_X15_52 rfl dX15_habit_71 ?_
    refine lv_iload_n hx hb dX15_habit_74 rfl (lv_at hl 0 rfl) ?_
    refine lv_aload_n hx hb dX15_habit_75 rfl (lv_at hl 1 rfl) ?_
    refine lv_iconst (v := 1) hx hb dX15_habit_76 (by decide) ?_
    refine lv_iconst (v := 0) hx hb dX15_habit_77 (by decide) ?_
    refine lv_bipush (v := 9) hx hb dX15_habit_78 (by decide) ?_
    rcases ox_some hf with ht80 | hf
    · exact aw_tprop (aw_trV (r := r0) (As := [.int 1, .int 0, .int 9]) (rest := [.int t0, .int (gi s63 r1 2), .ref (a q67)]) (tt_X15_number l hlt G a r0 1 0 9 s63 pl s1 ht80) hC hW hl.1 vy_X15_number q649 g58 rfl rfl rfl rfl (Nat.le_of_ble_eq_true rfl) ⟨Nat.le_of_ble_eq_true rfl, Nat.le_of_ble_eq_true rfl⟩ ⟨Nat.le_of_ble_eq_true rfl, Nat.le_of_ble_eq_true rfl⟩ dX15_habit_80) hC hno hW
    obtain ⟨v80, s80, h80, hf⟩ := ob_some hf
    refine aw_dV1 (r := r0) (As := [.int 1, .int 0, .int 9]) (rest := [.int t0, .int (gi s63 r1 2), .ref (a q67)]) (ct_X15_number l G a r0 1 0 9 s63 v80 s80 h80) hC hW hl.1 vy_X15_number (Or.inl q649) g58 rfl rfl rfl rfl (Nat.le_of_ble_eq_true rfl) ⟨Nat.le_of_ble_eq_true rfl, Nat.le_of_ble_eq_true rfl⟩ ⟨Nat.le_of_ble_eq_true rfl, Nat.le_of_ble_eq_true rfl⟩ dX15_habit_80 (fun H locs hW => ?_)
    refine lv_imul hx hb dX15_habit_83 ?_
    obtain ⟨g84, hf⟩ := gd_some hf
    obtain ⟨s84, e84, hf⟩ := bnd_some hf
    refine aw_iast e84 hC hW g84 dX15_habit_84 (fun H locs hW => ?_)
    refine lv_aload_n hx hb dX15_habit_85 rfl (lv_at hl 2 rfl) ?_
    refine lv_dup hx hb dX15_habit_86 rfl ?_
    obtain ⟨g87, hf⟩ := gd_some hf
    refine aw_gI hC hW g87 fl_X15_52 rfl dX15_habit_87 ?_
    refine lv_iconst (v := 1) hx hb dX15_habit_90 (by decide) ?_
    refine lv_iadd hx hb dX15_habit_91 ?_
    obtain ⟨s92, e92, hf⟩ := bnd_some hf
    refine aw_pI e92 hC hW g87 fl_X15_52 (Or.inl fn_2_2) rfl rfl rfl dX15_habit_92 (fun H locs hW => ?_)
    have g87 := ko_pI e92 g87
    refine lv_goto (tgt := 5) hx hb dX15_habit_95 (by decide) ?_
    exact hK5 r0 r1 s92 hf _ _ _ (lv_sub hl [1, 2] rfl) hW
  have B38 : ∀ (K5 : Nat → Nat → ST → Option (Int32 × ST)) (hK5 : ∀ (r0 : Nat) (r1 : Nat) (s : ST), K5 r0 r1 s = some (pl, s1) → ∀ (H : Heap) (locs : List Loc) (ls : Array Slot), lv_has ls 3 [(0, .ref (a r0)), (1, .ref (a r1))] → AW G a A s s0.heap H locs → WT p l e (rmA 7 1 7) s0 m args below meth c H locs G A (XCF G a s1 pl A) 5 ls []), ∀ (r0 : Nat) (r1 : Nat) (t0 : Int32) (w1 : Nat) (s : ST), t_X15_habit_b38 K5 r0 r1 t0 w1 s = some (pl, s1) → ∀ (H : Heap) (locs : List Loc) (ls : Array Slot), lv_has ls 3 [(0, .ref (a r0)), (1, .ref (a r1))] → AW G a A s s0.heap H locs → WT p l e (rmA 7 1 7) s0 m args below meth c H locs G A (XCF G a s1 pl A) 38 ls [.int t0, .ref (a w1)] := by
    intro K5 hK5 r0 r1 t0 w1 s hf H locs ls hl hW
    unfold t_X15_habit_b38 at hf
    obtain ⟨g38, hf⟩ := gd_some hf
    rcases ox_some hf with ht38 | hf
    · exact aw_tprop (aw_trV (r := w1) (As := [.int t0]) (rest := []) (tt_X15_need l hlt G a w1 t0 s pl s1 ht38) hC hW hl.1 vy_X15_need q636 g38 rfl rfl rfl rfl (Nat.le_of_ble_eq_true rfl) ⟨Nat.le_of_ble_eq_true rfl, Nat.le_of_ble_eq_true rfl⟩ ⟨Nat.le_of_ble_eq_true rfl, Nat.le_of_ble_eq_true rfl⟩ dX15_habit_38) hC hno hW
    obtain ⟨_, s38, h38, hf⟩ := ob_some hf
    refine aw_dV0 (r := w1) (As := [.int t0]) (rest := []) (ct_X15_need l G a w1 t0 s () s38 h38) hC hW hl.1 vy_X15_need (Or.inl q636) g38 rfl rfl rfl rfl (Nat.le_of_ble_eq_true rfl) ⟨Nat.le_of_ble_eq_true rfl, Nat.le_of_ble_eq_true rfl⟩ ⟨Nat.le_of_ble_eq_true rfl, Nat.le_of_ble_eq_true rfl⟩ dX15_habit_38 (fun H locs hW => ?_)
    refine lv_aload_n hx hb dX15_habit_41 rfl (lv_at hl 0 rfl) ?_
    obtain ⟨g42, hf⟩ := gd_some hf
    obtain ⟨v42, s42, h42, hf⟩ := ob_some hf
    refine aw_dV1 (r := r0) (As := []) (rest := []) (ct_X15_here l G a r0 s38 v42 s42 h42) hC hW hl.1 vy_X15_here (Or.inl q627) g42 rfl rfl rfl rfl (Nat.le_of_ble_eq_true rfl) ⟨Nat.le_of_ble_eq_true rfl, Nat.le_of_ble_eq_true rfl⟩ ⟨Nat.le_of_ble_eq_true rfl, Nat.le_of_ble_eq_true rfl⟩ dX15_habit_42 (fun H locs hW => ?_)
    refine lv_bipush (v := 43) hx hb dX15_habit_45 (by decide) ?_
    refine lv_icmp_ne (tgt := 54) hx hb dX15_habit_47 (by decide) (fun c47 => ?_) (fun c47 => ?_)
    · have hf := ifn c47 hf
      refine lv_iconst (v := (-1)) hx hb dX15_habit_54 (by decide) ?_
      exact B55 K5 hK5 r0 r1 (-1) s42 hf _ _ _ (lv_sub hl [0, 1] rfl) hW
    · have hf := ifp c47 hf
      refine lv_iconst (v := 1) hx hb dX15_habit_50 (by decide) ?_
      refine lv_goto (tgt := 55) hx hb dX15_habit_51 (by decide) ?_
      exact B55 K5 hK5 r0 r1 1 s42 hf _ _ _ (lv_sub hl [0, 1] rfl) hW
  have B23 : ∀ (K5 : Nat → Nat → ST → Option (Int32 × ST)) (hK5 : ∀ (r0 : Nat) (r1 : Nat) (s : ST), K5 r0 r1 s = some (pl, s1) → ∀ (H : Heap) (locs : List Loc) (ls : Array Slot), lv_has ls 3 [(0, .ref (a r0)), (1, .ref (a r1))] → AW G a A s s0.heap H locs → WT p l e (rmA 7 1 7) s0 m args below meth c H locs G A (XCF G a s1 pl A) 5 ls []), ∀ (r0 : Nat) (r1 : Nat) (s : ST), t_X15_habit_b23 K5 r0 r1 s = some (pl, s1) → ∀ (H : Heap) (locs : List Loc) (ls : Array Slot), lv_has ls 3 [(0, .ref (a r0)), (1, .ref (a r1))] → AW G a A s s0.heap H locs → WT p l e (rmA 7 1 7) s0 m args below meth c H locs G A (XCF G a s1 pl A) 23 ls [] := by
    intro K5 hK5 r0 r1 s hf H locs ls hl hW
    unfold t_X15_habit_b23 at hf
    refine lv_aload_n hx hb dX15_habit_23 rfl (lv_at hl 0 rfl) ?_
    refine lv_aload_n hx hb dX15_habit_24 rfl (lv_at hl 1 rfl) ?_
    obtain ⟨g25, hf⟩ := gd_some hf
    refine aw_gI hC hW g25 fl_X15_52 rfl dX15_habit_25 ?_
    refine lv_bipush (v := 6) hx hb dX15_habit_28 (by decide) ?_
    refine lv_icmp_ge (tgt := 37) hx hb dX15_habit_30 (by decide) (fun c30 => ?_) (fun c30 => ?_)
    · have hf := ifp c30 hf
      refine lv_iconst (v := 0) hx hb dX15_habit_37 (by decide) ?_
      exact B38 K5 hK5 r0 r1 0 r0 s hf _ _ _ (lv_sub hl [0, 1] rfl) hW
    · have hf := ifn c30 hf
      refine lv_iconst (v := 1) hx hb dX15_habit_33 (by decide) ?_
      refine lv_goto (tgt := 38) hx hb dX15_habit_34 (by decide) ?_
      exact B38 K5 hK5 r0 r1 1 r0 s hf _ _ _ (lv_sub hl [0, 1] rfl) hW
  have B5 : ∀ (n : Nat), ∀ (r0 : Nat) (r1 : Nat) (s : ST), t_X15_habit_b5 n r0 r1 s = some (pl, s1) → ∀ (H : Heap) (locs : List Loc) (ls : Array Slot), lv_has ls 3 [(0, .ref (a r0)), (1, .ref (a r1))] → AW G a A s s0.heap H locs → WT p l e (rmA 7 1 7) s0 m args below meth c H locs G A (XCF G a s1 pl A) 5 ls [] := by
    intro n
    induction n with
    | zero => intro r0 r1 s hf; cases hf
    | succ n ih =>
      intro r0 r1 s hf H locs ls hl hW
      rw [t_X15_habit_b5] at hf
      refine lv_aload_n hx hb dX15_habit_5 rfl (lv_at hl 0 rfl) ?_
      obtain ⟨g6, hf⟩ := gd_some hf
      obtain ⟨v6, s6, h6, hf⟩ := ob_some hf
      refine aw_dV1 (r := r0) (As := []) (rest := []) (ct_X15_here l G a r0 s v6 s6 h6) hC hW hl.1 vy_X15_here (Or.inl q627) g6 rfl rfl rfl rfl (Nat.le_of_ble_eq_true rfl) ⟨Nat.le_of_ble_eq_true rfl, Nat.le_of_ble_eq_true rfl⟩ ⟨Nat.le_of_ble_eq_true rfl, Nat.le_of_ble_eq_true rfl⟩ dX15_habit_6 (fun H locs hW => ?_)
      refine lv_bipush (v := 43) hx hb dX15_habit_9 (by decide) ?_
      refine lv_icmp_eq (tgt := 23) hx hb dX15_habit_11 (by decide) (fun c11 => ?_) (fun c11 => ?_)
      · have hf := ifp c11 hf
        exact B23 (t_X15_habit_b5 n) ih r0 r1 s6 hf _ _ _ (lv_sub hl [0, 1] rfl) hW
      · have hf := ifn c11 hf
        refine lv_aload_n hx hb dX15_habit_14 rfl (lv_at hl 0 rfl) ?_
        obtain ⟨g15, hf⟩ := gd_some hf
        obtain ⟨v15, s15, h15, hf⟩ := ob_some hf
        refine aw_dV1 (r := r0) (As := []) (rest := []) (ct_X15_here l G a r0 s6 v15 s15 h15) hC hW hl.1 vy_X15_here (Or.inl q627) g15 rfl rfl rfl rfl (Nat.le_of_ble_eq_true rfl) ⟨Nat.le_of_ble_eq_true rfl, Nat.le_of_ble_eq_true rfl⟩ ⟨Nat.le_of_ble_eq_true rfl, Nat.le_of_ble_eq_true rfl⟩ dX15_habit_15 (fun H locs hW => ?_)
        refine lv_bipush (v := 45) hx hb dX15_habit_18 (by decide) ?_
        refine lv_icmp_ne (tgt := 98) hx hb dX15_habit_20 (by decide) (fun c20 => ?_) (fun c20 => ?_)
        · have hf := ifn c20 hf
          cases hf
        · have hf := ifp c20 hf
          exact B23 (t_X15_habit_b5 n) ih r0 r1 s15 hf _ _ _ (lv_sub hl [0, 1] rfl) hW
  unfold t_X15_habit at hf
  refine lv_aload_n hx hb dX15_habit_0 rfl (lv_at hl 1 rfl) ?_
  refine lv_iconst (v := 0) hx hb dX15_habit_1 (by decide) ?_
  obtain ⟨g2, hf⟩ := gd_some hf
  obtain ⟨s2, e2, hf⟩ := bnd_some hf
  refine aw_pI e2 hC hW g2 fl_X15_52 (Or.inl fn_2_2) rfl rfl rfl dX15_habit_2 (fun H locs hW => ?_)
  have g2 := ko_pI e2 g2
  exact B5 fuel o r1 s2 hf _ _ _ (lv_sub hl [0, 1] rfl) hW
def t_X1_letters_b39 (K2 : Nat → Int32 → ST → Option (Int32 × ST)) (r0 : Nat) (x1 : Int32) (x2 : Int32) (t0 : Int32) (w1 : Nat) (s : ST) : Option (Int32 × ST) :=
  gd (w1 < s.1 ∧ (kd s w1).1 = 15) <|
  ox (t_X15_need w1 t0 s) <|
  ob (f_X15_need w1 t0 s) fun _ s39 =>
  bnd ((x1 ||| (1 <<< (x2 &&& 31))) : Int32) fun v47 =>
  gd (r0 < s39.1 ∧ (kd s39 r0).1 = 15) <|
  bnd (pI s39 r0 3 ((gi s39 r0 3) + 1)) fun s55 =>
  K2 r0 v47 s55
def t_X1_letters_b2 : Nat → Nat → Int32 → ST → Option (Int32 × ST)
  | 0, _, _, _ => none
  | n + 1, r0, x1, s =>
  gd (r0 < s.1 ∧ (kd s r0).1 = 15) <|
  ob (f_X15_here r0 s) fun v3 s3 =>
  bnd (p_in ((v3 : Int32).toInt64) 97 104) fun v13 =>
  if v13 = 0 then (none) else gd (r0 < s3.1 ∧ (kd s3 r0).1 = 15) <|
  ob (f_X15_here r0 s3) fun v20 s20 =>
  bnd ((v20 - 97) : Int32) fun v26 =>
  if (x1 >>> (v26 &&& 31)) = 0 then (t_X1_letters_b39 (t_X1_letters_b2 n) r0 x1 v26 1 r0 s20) else t_X1_letters_b39 (t_X1_letters_b2 n) r0 x1 v26 0 r0 s20
def t_X1_letters (r0 : Nat) (s : ST) : Option (Int32 × ST) :=
  t_X1_letters_b2 fuel r0 0 s
set_option maxHeartbeats 4000000 in
theorem tt_X1_letters (l : Launch) (hlt : l.stackTraces = false) (G : GM) (a : Nat → Nat) (r0 : Nat) (s : ST) (pl : Int32) (s1 : ST) (hf : t_X1_letters r0 s = some (pl, s1)) : TM l G yX1_letters (ws_ yX1_letters cX1_letters 3 (some .int)) 6 [.ref (a r0)] a s pl s1 := by
  refine tm_of (d := 6) (lv := [(0, .ref (a r0))]) (by decide) (Nat.le_of_ble_eq_true rfl) rfl ?_
  intro p e s0 m args below meth c ls A hC hno hW hl
  have hx := hC.1
  have hb := hC.2.1
  have hts := hC.2.2.2.2.1
  have B39 : ∀ (K2 : Nat → Int32 → ST → Option (Int32 × ST)) (hK2 : ∀ (r0 : Nat) (x1 : Int32) (s : ST), K2 r0 x1 s = some (pl, s1) → ∀ (H : Heap) (locs : List Loc) (ls : Array Slot), lv_has ls 3 [(0, .ref (a r0)), (1, .int x1)] → AW G a A s s0.heap H locs → WT p l e (rmA 6 1 7) s0 m args below meth c H locs G A (XCF G a s1 pl A) 2 ls []), ∀ (r0 : Nat) (x1 : Int32) (x2 : Int32) (t0 : Int32) (w1 : Nat) (s : ST), t_X1_letters_b39 K2 r0 x1 x2 t0 w1 s = some (pl, s1) → ∀ (H : Heap) (locs : List Loc) (ls : Array Slot), lv_has ls 3 [(0, .ref (a r0)), (1, .int x1), (2, .int x2)] → AW G a A s s0.heap H locs → WT p l e (rmA 6 1 7) s0 m args below meth c H locs G A (XCF G a s1 pl A) 39 ls [.int t0, .ref (a w1)] := by
    intro K2 hK2 r0 x1 x2 t0 w1 s hf H locs ls hl hW
    unfold t_X1_letters_b39 at hf
    obtain ⟨g39, hf⟩ := gd_some hf
    rcases ox_some hf with ht39 | hf
    · exact aw_tprop (aw_trV (r := w1) (As := [.int t0]) (rest := []) (tt_X15_need l hlt G a w1 t0 s pl s1 ht39) hC hW hl.1 vy_X15_need q552 g39 rfl rfl rfl rfl (Nat.le_of_ble_eq_true rfl) ⟨Nat.le_of_ble_eq_true rfl, Nat.le_of_ble_eq_true rfl⟩ ⟨Nat.le_of_ble_eq_true rfl, Nat.le_of_ble_eq_true rfl⟩ dX1_letters_39) hC hno hW
    obtain ⟨_, s39, h39, hf⟩ := ob_some hf
    refine aw_dV0 (r := w1) (As := [.int t0]) (rest := []) (ct_X15_need l G a w1 t0 s () s39 h39) hC hW hl.1 vy_X15_need (Or.inl q552) g39 rfl rfl rfl rfl (Nat.le_of_ble_eq_true rfl) ⟨Nat.le_of_ble_eq_true rfl, Nat.le_of_ble_eq_true rfl⟩ ⟨Nat.le_of_ble_eq_true rfl, Nat.le_of_ble_eq_true rfl⟩ dX1_letters_39 (fun H locs hW => ?_)
    refine lv_iload_n hx hb dX1_letters_42 rfl (lv_at hl 1 rfl) ?_
    refine lv_iconst (v := 1) hx hb dX1_letters_43 (by decide) ?_
    refine lv_iload_n hx hb dX1_letters_44 rfl (lv_at hl 2 rfl) ?_
    refine lv_ishl hx hb dX1_letters_45 ?_
    refine lv_ior hx hb dX1_letters_46 ?_
    obtain ⟨v47, ev47, hf⟩ := bnd_some hf
    refine top_i ev47 ?_
    refine lv_istore_n (lv' := [(1, .int v47), (0, .ref (a r0)), (2, .int x2)]) hx hb dX1_letters_47 rfl hl (by decide) rfl (fun ls hl => ?_)
    refine lv_aload_n hx hb dX1_letters_48 rfl (lv_at hl 1 rfl) ?_
    refine lv_dup hx hb dX1_letters_49 rfl ?_
    obtain ⟨g50, hf⟩ := gd_some hf
    refine aw_gI hC hW g50 fl_X1_385 rfl dX1_letters_50 ?_
    refine lv_iconst (v := 1) hx hb dX1_letters_53 (by decide) ?_
    refine lv_iadd hx hb dX1_letters_54 ?_
    obtain ⟨s55, e55, hf⟩ := bnd_some hf
    refine aw_pI e55 hC hW g50 fl_X1_385 (Or.inl fn_14_3) rfl rfl rfl dX1_letters_55 (fun H locs hW => ?_)
    have g50 := ko_pI e55 g50
    refine lv_goto (tgt := 2) hx hb dX1_letters_58 (by decide) ?_
    exact hK2 r0 v47 s55 hf _ _ _ (lv_sub hl [1, 0] rfl) hW
  have B2 : ∀ (n : Nat), ∀ (r0 : Nat) (x1 : Int32) (s : ST), t_X1_letters_b2 n r0 x1 s = some (pl, s1) → ∀ (H : Heap) (locs : List Loc) (ls : Array Slot), lv_has ls 3 [(0, .ref (a r0)), (1, .int x1)] → AW G a A s s0.heap H locs → WT p l e (rmA 6 1 7) s0 m args below meth c H locs G A (XCF G a s1 pl A) 2 ls [] := by
    intro n
    induction n with
    | zero => intro r0 x1 s hf; cases hf
    | succ n ih =>
      intro r0 x1 s hf H locs ls hl hW
      rw [t_X1_letters_b2] at hf
      refine lv_aload_n hx hb dX1_letters_2 rfl (lv_at hl 0 rfl) ?_
      obtain ⟨g3, hf⟩ := gd_some hf
      obtain ⟨v3, s3, h3, hf⟩ := ob_some hf
      refine aw_dV1 (r := r0) (As := []) (rest := []) (ct_X15_here l G a r0 s v3 s3 h3) hC hW hl.1 vy_X15_here (Or.inl q1029) g3 rfl rfl rfl rfl (Nat.le_of_ble_eq_true rfl) ⟨Nat.le_of_ble_eq_true rfl, Nat.le_of_ble_eq_true rfl⟩ ⟨Nat.le_of_ble_eq_true rfl, Nat.le_of_ble_eq_true rfl⟩ dX1_letters_3 (fun H locs hW => ?_)
      refine lv_i2l (v := (v3 : Int32).toInt64) hx hb dX1_letters_6 rfl ?_
      refine lv_ldc2 (v := 97) hx hb hC.2.2.2.1 (hts _ q1030) dX1_letters_7 ?_
      refine lv_ldc2 (v := 104) hx hb hC.2.2.2.1 (hts _ q1031) dX1_letters_10 ?_
      obtain ⟨v13, ev13, hf⟩ := bnd_some hf
      refine aw_dS1 (As := [.long ((v3 : Int32).toInt64), .long 97, .long 104]) (rest := []) (pc_X1_in l G a ((v3 : Int32).toInt64) 97 104 s3) hC hW hl.1 sy_X1_in (Or.inl q514) rfl rfl (Nat.le_of_ble_eq_true rfl) ⟨Nat.le_of_ble_eq_true rfl, Nat.le_of_ble_eq_true rfl⟩ ⟨Nat.le_of_ble_eq_true rfl, Nat.le_of_ble_eq_true rfl⟩ dX1_letters_13 (fun H locs hW => ?_)
      refine top_i ev13 ?_
      refine lv_if_eq (tgt := 61) hx hb dX1_letters_16 (by decide) (fun c16 => ?_) (fun c16 => ?_)
      · have hf := ifp c16 hf
        refine lv_iload_n hx hb dX1_letters_61 rfl (lv_at hl 1 rfl) ?_
        cases hf
      · have hf := ifn c16 hf
        refine lv_aload_n hx hb dX1_letters_19 rfl (lv_at hl 0 rfl) ?_
        obtain ⟨g20, hf⟩ := gd_some hf
        obtain ⟨v20, s20, h20, hf⟩ := ob_some hf
        refine aw_dV1 (r := r0) (As := []) (rest := []) (ct_X15_here l G a r0 s3 v20 s20 h20) hC hW hl.1 vy_X15_here (Or.inl q1029) g20 rfl rfl rfl rfl (Nat.le_of_ble_eq_true rfl) ⟨Nat.le_of_ble_eq_true rfl, Nat.le_of_ble_eq_true rfl⟩ ⟨Nat.le_of_ble_eq_true rfl, Nat.le_of_ble_eq_true rfl⟩ dX1_letters_20 (fun H locs hW => ?_)
        refine lv_bipush (v := 97) hx hb dX1_letters_23 (by decide) ?_
        refine lv_isub hx hb dX1_letters_25 ?_
        obtain ⟨v26, ev26, hf⟩ := bnd_some hf
        refine top_i ev26 ?_
        refine lv_istore_n (lv' := [(2, .int v26), (0, .ref (a r0)), (1, .int x1)]) hx hb dX1_letters_26 rfl hl (by decide) rfl (fun ls hl => ?_)
        refine lv_aload_n hx hb dX1_letters_27 rfl (lv_at hl 1 rfl) ?_
        refine lv_iload_n hx hb dX1_letters_28 rfl (lv_at hl 2 rfl) ?_
        refine lv_iload_n hx hb dX1_letters_29 rfl (lv_at hl 0 rfl) ?_
        refine lv_ishr hx hb dX1_letters_30 ?_
        refine lv_if_ne (tgt := 38) hx hb dX1_letters_31 (by decide) (fun c31 => ?_) (fun c31 => ?_)
        · have hf := ifn c31 hf
          refine lv_iconst (v := 0) hx hb dX1_letters_38 (by decide) ?_
          exact B39 (t_X1_letters_b2 n) ih r0 x1 v26 0 r0 s20 hf _ _ _ (lv_sub hl [1, 2, 0] rfl) hW
        · have hf := ifp c31 hf
          refine lv_iconst (v := 1) hx hb dX1_letters_34 (by decide) ?_
          refine lv_goto (tgt := 39) hx hb dX1_letters_35 (by decide) ?_
          exact B39 (t_X1_letters_b2 n) ih r0 x1 v26 1 r0 s20 hf _ _ _ (lv_sub hl [1, 2, 0] rfl) hW
  unfold t_X1_letters at hf
  refine lv_iconst (v := 0) hx hb dX1_letters_0 (by decide) ?_
  refine lv_istore_n (lv' := [(1, .int 0), (0, .ref (a r0))]) hx hb dX1_letters_1 rfl hl (by decide) rfl (fun ls hl => ?_)
  exact B2 fuel r0 0 s hf _ _ _ (lv_sub hl [1, 0] rfl) hW
def t_X17_held_r (F : Nat → Nat → Int32 → ST → Option (Int32 × ST)) (o : Nat) (x1 : Int32) (s : ST) : Option (Int32 × ST) :=
  gd (o < s.1 ∧ (kd s o).1 = 17) <|
  ox (F 1 o x1 s) <|
  ob (f_X17_sum o x1 s) fun v2 s2 =>
  gd (o < s2.1 ∧ (kd s2 o).1 = 17) <|
  ob (f_X15_passesw o 60 s2) fun v9 s9 =>
  if v9 = 0 then (gd (o < s9.1 ∧ (kd s9 o).1 = 17) <|
  ob (f_X15_passesw o 62 s9) fun v33 s33 =>
  if v33 = 0 then (gd (o < s33.1 ∧ (kd s33 o).1 = 17) <|
  ob (f_X15_passesw o 61 s33) fun v57 s57 =>
  if v57 = 0 then (none) else gd (o < s57.1 ∧ (kd s57 o).1 = 17) <|
  ox (F 1 o x1 s57) <|
  ob (f_X17_sum o x1 s57) fun v66 s66 =>
  if v2 = v66 then (none) else none) else gd (o < s33.1 ∧ (kd s33 o).1 = 17) <|
  ox (F 1 o x1 s33) <|
  ob (f_X17_sum o x1 s33) fun v42 s42 =>
  if v2 ≤ v42 then (none) else none) else gd (o < s9.1 ∧ (kd s9 o).1 = 17) <|
  ox (F 1 o x1 s9) <|
  ob (f_X17_sum o x1 s9) fun v18 s18 =>
  if v18 ≤ v2 then (none) else none
set_option maxHeartbeats 4000000 in
theorem tt_X17_held_r (l : Launch) (hlt : l.stackTraces = false) (G : GM) (a : Nat → Nat) (d : Nat) (F : Nat → Nat → Int32 → ST → Option (Int32 × ST)) (hF0 : ∀ (o : Nat) (x1 : Int32) (s : ST) (pl : Int32) (s1 : ST), F 0 o x1 s = some (pl, s1) → TM l G yX17_held (ws_ yX17_held cX17_held 3 (some .int)) (125 + d) [.ref (a o), .int x1] a s pl s1) (hF1 : ∀ (o : Nat) (x1 : Int32) (s : ST) (pl : Int32) (s1 : ST), F 1 o x1 s = some (pl, s1) → TM l G yX17_sum (ws_ yX17_sum cX17_sum 5 (some .int)) (125 + d) [.ref (a o), .int x1] a s pl s1) (hF2 : ∀ (o : Nat) (x1 : Int32) (s : ST) (pl : Int32) (s1 : ST), F 2 o x1 s = some (pl, s1) → TM l G yX17_product (ws_ yX17_product cX17_product 5 (some .int)) (125 + d) [.ref (a o), .int x1] a s pl s1) (hF3 : ∀ (o : Nat) (x1 : Int32) (s : ST) (pl : Int32) (s1 : ST), F 3 o x1 s = some (pl, s1) → TM l G yX17_thing (ws_ yX17_thing cX17_thing 3 (some .int)) (125 + d) [.ref (a o), .int x1] a s pl s1) (o : Nat) (x1 : Int32) (s : ST) (pl : Int32) (s1 : ST) (hf : t_X17_held_r F o x1 s = some (pl, s1)) : TM l G yX17_held (ws_ yX17_held cX17_held 3 (some .int)) (125 + (d + 1)) [.ref (a o), .int x1] a s pl s1 := by
  refine tm_of (d := (125 + (d + 1))) (lv := [(0, .ref (a o)), (1, .int x1)]) (by decide) (Nat.le_of_ble_eq_true rfl) rfl ?_
  intro p e s0 m args below meth c ls A hC hno hW hl
  have hx := hC.1
  have hb := hC.2.1
  have hts := hC.2.2.2.2.1
  unfold t_X17_held_r at hf
  refine lv_aload_n hx hb dX17_held_0 rfl (lv_at hl 0 rfl) ?_
  refine lv_iload_n hx hb dX17_held_1 rfl (lv_at hl 1 rfl) ?_
  obtain ⟨g2, hf⟩ := gd_some hf
  rcases ox_some hf with ht2 | hf
  · exact aw_tprop (aw_trV (r := o) (As := [.int x1]) (rest := []) (hF1 o x1 s pl s1 ht2) hC hW hl.1 vy_X17_sum q706 g2 rfl rfl rfl rfl (Nat.le_of_ble_eq_true rfl) ⟨(by show (125 + d) + 1 ≤ (125 + (d + 1)); omega), (by show 8 + (5 + 11) + 40 * (125 + d) ≤ 40 * (125 + (d + 1)); omega)⟩ ⟨Nat.le_of_ble_eq_true rfl, Nat.le_of_ble_eq_true rfl⟩ dX17_held_2) hC hno hW
  obtain ⟨v2, s2, h2, hf⟩ := ob_some hf
  refine aw_dV1 (r := o) (As := [.int x1]) (rest := []) (ct_X17_sum l G a o x1 s v2 s2 h2) hC hW hl.1 vy_X17_sum (Or.inl q706) g2 rfl rfl rfl rfl (Nat.le_of_ble_eq_true rfl) ⟨(by show 120 + 1 ≤ (125 + (d + 1)); omega), (by show 8 + (5 + 11) + 40 * 120 ≤ 40 * (125 + (d + 1)); omega)⟩ ⟨Nat.le_of_ble_eq_true rfl, Nat.le_of_ble_eq_true rfl⟩ dX17_held_2 (fun H locs hW => ?_)
  refine lv_istore_n (lv' := [(2, .int v2), (0, .ref (a o)), (1, .int x1)]) hx hb dX17_held_5 rfl hl (by decide) rfl (fun ls hl => ?_)
  refine lv_aload_n hx hb dX17_held_6 rfl (lv_at hl 1 rfl) ?_
  refine lv_bipush (v := 60) hx hb dX17_held_7 (by decide) ?_
  obtain ⟨g9, hf⟩ := gd_some hf
  obtain ⟨v9, s9, h9, hf⟩ := ob_some hf
  refine aw_dU1 (r := o) (As := [.int 60]) (rest := []) (ct_X15_passesw l G a o 60 s2 v9 s9 h9) hC hW hl.1 uy_X17_X17_X15_passes q718 g9 rfl rfl rfl (Nat.le_of_ble_eq_true rfl) ⟨(by show 1 + 1 ≤ (125 + (d + 1)); omega), (by show 8 + (2 + 11) + 40 * 1 ≤ 40 * (125 + (d + 1)); omega)⟩ ⟨Nat.le_of_ble_eq_true rfl, Nat.le_of_ble_eq_true rfl⟩ dX17_held_9 (fun H locs hW => ?_)
  refine lv_if_eq (tgt := 30) hx hb dX17_held_12 (by decide) (fun c12 => ?_) (fun c12 => ?_)
  · have hf := ifp c12 hf
    refine lv_aload_n hx hb dX17_held_30 rfl (lv_at hl 1 rfl) ?_
    refine lv_bipush (v := 62) hx hb dX17_held_31 (by decide) ?_
    obtain ⟨g33, hf⟩ := gd_some hf
    obtain ⟨v33, s33, h33, hf⟩ := ob_some hf
    refine aw_dU1 (r := o) (As := [.int 62]) (rest := []) (ct_X15_passesw l G a o 62 s9 v33 s33 h33) hC hW hl.1 uy_X17_X17_X15_passes q718 g33 rfl rfl rfl (Nat.le_of_ble_eq_true rfl) ⟨(by show 1 + 1 ≤ (125 + (d + 1)); omega), (by show 8 + (2 + 11) + 40 * 1 ≤ 40 * (125 + (d + 1)); omega)⟩ ⟨Nat.le_of_ble_eq_true rfl, Nat.le_of_ble_eq_true rfl⟩ dX17_held_33 (fun H locs hW => ?_)
    refine lv_if_eq (tgt := 54) hx hb dX17_held_36 (by decide) (fun c36 => ?_) (fun c36 => ?_)
    · have hf := ifp c36 hf
      refine lv_aload_n hx hb dX17_held_54 rfl (lv_at hl 1 rfl) ?_
      refine lv_bipush (v := 61) hx hb dX17_held_55 (by decide) ?_
      obtain ⟨g57, hf⟩ := gd_some hf
      obtain ⟨v57, s57, h57, hf⟩ := ob_some hf
      refine aw_dU1 (r := o) (As := [.int 61]) (rest := []) (ct_X15_passesw l G a o 61 s33 v57 s57 h57) hC hW hl.1 uy_X17_X17_X15_passes q718 g57 rfl rfl rfl (Nat.le_of_ble_eq_true rfl) ⟨(by show 1 + 1 ≤ (125 + (d + 1)); omega), (by show 8 + (2 + 11) + 40 * 1 ≤ 40 * (125 + (d + 1)); omega)⟩ ⟨Nat.le_of_ble_eq_true rfl, Nat.le_of_ble_eq_true rfl⟩ dX17_held_57 (fun H locs hW => ?_)
      refine lv_if_eq (tgt := 78) hx hb dX17_held_60 (by decide) (fun c60 => ?_) (fun c60 => ?_)
      · have hf := ifp c60 hf
        refine lv_iload_n hx hb dX17_held_78 rfl (lv_at hl 0 rfl) ?_
        cases hf
      · have hf := ifn c60 hf
        refine lv_iload_n hx hb dX17_held_63 rfl (lv_at hl 0 rfl) ?_
        refine lv_aload_n hx hb dX17_held_64 rfl (lv_at hl 1 rfl) ?_
        refine lv_iload_n hx hb dX17_held_65 rfl (lv_at hl 2 rfl) ?_
        obtain ⟨g66, hf⟩ := gd_some hf
        rcases ox_some hf with ht66 | hf
        · exact aw_tprop (aw_trV (r := o) (As := [.int x1]) (rest := [.int v2]) (hF1 o x1 s57 pl s1 ht66) hC hW hl.1 vy_X17_sum q706 g66 rfl rfl rfl rfl (Nat.le_of_ble_eq_true rfl) ⟨(by show (125 + d) + 1 ≤ (125 + (d + 1)); omega), (by show 8 + (5 + 11) + 40 * (125 + d) ≤ 40 * (125 + (d + 1)); omega)⟩ ⟨Nat.le_of_ble_eq_true rfl, Nat.le_of_ble_eq_true rfl⟩ dX17_held_66) hC hno hW
        obtain ⟨v66, s66, h66, hf⟩ := ob_some hf
        refine aw_dV1 (r := o) (As := [.int x1]) (rest := [.int v2]) (ct_X17_sum l G a o x1 s57 v66 s66 h66) hC hW hl.1 vy_X17_sum (Or.inl q706) g66 rfl rfl rfl rfl (Nat.le_of_ble_eq_true rfl) ⟨(by show 120 + 1 ≤ (125 + (d + 1)); omega), (by show 8 + (5 + 11) + 40 * 120 ≤ 40 * (125 + (d + 1)); omega)⟩ ⟨Nat.le_of_ble_eq_true rfl, Nat.le_of_ble_eq_true rfl⟩ dX17_held_66 (fun H locs hW => ?_)
        refine lv_icmp_ne (tgt := 76) hx hb dX17_held_69 (by decide) (fun c69 => ?_) (fun c69 => ?_)
        · have hf := ifn c69 hf
          refine lv_iconst (v := 0) hx hb dX17_held_76 (by decide) ?_
          cases hf
        · have hf := ifp c69 hf
          refine lv_iconst (v := 1) hx hb dX17_held_72 (by decide) ?_
          refine lv_goto (tgt := 77) hx hb dX17_held_73 (by decide) ?_
          cases hf
    · have hf := ifn c36 hf
      refine lv_iload_n hx hb dX17_held_39 rfl (lv_at hl 0 rfl) ?_
      refine lv_aload_n hx hb dX17_held_40 rfl (lv_at hl 1 rfl) ?_
      refine lv_iload_n hx hb dX17_held_41 rfl (lv_at hl 2 rfl) ?_
      obtain ⟨g42, hf⟩ := gd_some hf
      rcases ox_some hf with ht42 | hf
      · exact aw_tprop (aw_trV (r := o) (As := [.int x1]) (rest := [.int v2]) (hF1 o x1 s33 pl s1 ht42) hC hW hl.1 vy_X17_sum q706 g42 rfl rfl rfl rfl (Nat.le_of_ble_eq_true rfl) ⟨(by show (125 + d) + 1 ≤ (125 + (d + 1)); omega), (by show 8 + (5 + 11) + 40 * (125 + d) ≤ 40 * (125 + (d + 1)); omega)⟩ ⟨Nat.le_of_ble_eq_true rfl, Nat.le_of_ble_eq_true rfl⟩ dX17_held_42) hC hno hW
      obtain ⟨v42, s42, h42, hf⟩ := ob_some hf
      refine aw_dV1 (r := o) (As := [.int x1]) (rest := [.int v2]) (ct_X17_sum l G a o x1 s33 v42 s42 h42) hC hW hl.1 vy_X17_sum (Or.inl q706) g42 rfl rfl rfl rfl (Nat.le_of_ble_eq_true rfl) ⟨(by show 120 + 1 ≤ (125 + (d + 1)); omega), (by show 8 + (5 + 11) + 40 * 120 ≤ 40 * (125 + (d + 1)); omega)⟩ ⟨Nat.le_of_ble_eq_true rfl, Nat.le_of_ble_eq_true rfl⟩ dX17_held_42 (fun H locs hW => ?_)
      refine lv_icmp_le (tgt := 52) hx hb dX17_held_45 (by decide) (fun c45 => ?_) (fun c45 => ?_)
      · have hf := ifp c45 hf
        refine lv_iconst (v := 0) hx hb dX17_held_52 (by decide) ?_
        cases hf
      · have hf := ifn c45 hf
        refine lv_iconst (v := 1) hx hb dX17_held_48 (by decide) ?_
        refine lv_goto (tgt := 53) hx hb dX17_held_49 (by decide) ?_
        cases hf
  · have hf := ifn c12 hf
    refine lv_iload_n hx hb dX17_held_15 rfl (lv_at hl 0 rfl) ?_
    refine lv_aload_n hx hb dX17_held_16 rfl (lv_at hl 1 rfl) ?_
    refine lv_iload_n hx hb dX17_held_17 rfl (lv_at hl 2 rfl) ?_
    obtain ⟨g18, hf⟩ := gd_some hf
    rcases ox_some hf with ht18 | hf
    · exact aw_tprop (aw_trV (r := o) (As := [.int x1]) (rest := [.int v2]) (hF1 o x1 s9 pl s1 ht18) hC hW hl.1 vy_X17_sum q706 g18 rfl rfl rfl rfl (Nat.le_of_ble_eq_true rfl) ⟨(by show (125 + d) + 1 ≤ (125 + (d + 1)); omega), (by show 8 + (5 + 11) + 40 * (125 + d) ≤ 40 * (125 + (d + 1)); omega)⟩ ⟨Nat.le_of_ble_eq_true rfl, Nat.le_of_ble_eq_true rfl⟩ dX17_held_18) hC hno hW
    obtain ⟨v18, s18, h18, hf⟩ := ob_some hf
    refine aw_dV1 (r := o) (As := [.int x1]) (rest := [.int v2]) (ct_X17_sum l G a o x1 s9 v18 s18 h18) hC hW hl.1 vy_X17_sum (Or.inl q706) g18 rfl rfl rfl rfl (Nat.le_of_ble_eq_true rfl) ⟨(by show 120 + 1 ≤ (125 + (d + 1)); omega), (by show 8 + (5 + 11) + 40 * 120 ≤ 40 * (125 + (d + 1)); omega)⟩ ⟨Nat.le_of_ble_eq_true rfl, Nat.le_of_ble_eq_true rfl⟩ dX17_held_18 (fun H locs hW => ?_)
    refine lv_icmp_ge (tgt := 28) hx hb dX17_held_21 (by decide) (fun c21 => ?_) (fun c21 => ?_)
    · have hf := ifp c21 hf
      refine lv_iconst (v := 0) hx hb dX17_held_28 (by decide) ?_
      cases hf
    · have hf := ifn c21 hf
      refine lv_iconst (v := 1) hx hb dX17_held_24 (by decide) ?_
      refine lv_goto (tgt := 29) hx hb dX17_held_25 (by decide) ?_
      cases hf
def t_X17_sum_b71 (F : Nat → Nat → Int32 → ST → Option (Int32 × ST)) (K6 : Nat → Int32 → Int32 → ST → Option (Int32 × ST)) (r0 : Nat) (x1 : Int32) (t0 : Int32) (s : ST) : Option (Int32 × ST) :=
  K6 r0 x1 t0 s
def t_X17_sum_b38 (F : Nat → Nat → Int32 → ST → Option (Int32 × ST)) (K6 : Nat → Int32 → Int32 → ST → Option (Int32 × ST)) (r0 : Nat) (x1 : Int32) (x2 : Int32) (t0 : Int32) (s : ST) : Option (Int32 × ST) :=
  gd (r0 < s.1 ∧ (kd s r0).1 = 17) <|
  bnd (pI s r0 3 ((gi s r0 3) + 1)) fun s46 =>
  ox (F 2 r0 x1 s46) <|
  ob (f_X17_product r0 x1 s46) fun v51 s51 =>
  if t0 = 0 then (t_X17_sum_b71 F K6 r0 x1 (x2 - v51) s51) else t_X17_sum_b71 F K6 r0 x1 (x2 + v51) s51
def t_X17_sum_b24 (F : Nat → Nat → Int32 → ST → Option (Int32 × ST)) (K6 : Nat → Int32 → Int32 → ST → Option (Int32 × ST)) (r0 : Nat) (x1 : Int32) (x2 : Int32) (s : ST) : Option (Int32 × ST) :=
  gd (r0 < s.1 ∧ (kd s r0).1 = 17) <|
  ob (f_X15_herew r0 s) fun v25 s25 =>
  if v25 = 43 then (t_X17_sum_b38 F K6 r0 x1 x2 1 s25) else t_X17_sum_b38 F K6 r0 x1 x2 0 s25
def t_X17_sum_b6 (F : Nat → Nat → Int32 → ST → Option (Int32 × ST))  : Nat → Nat → Int32 → Int32 → ST → Option (Int32 × ST)
  | 0, _, _, _, _ => none
  | n + 1, r0, x1, x2, s =>
  gd (r0 < s.1 ∧ (kd s r0).1 = 17) <|
  ob (f_X15_herew r0 s) fun v7 s7 =>
  if v7 = 43 then (t_X17_sum_b24 F (t_X17_sum_b6 F n) r0 x1 x2 s7) else gd (r0 < s7.1 ∧ (kd s7 r0).1 = 17) <|
  ob (f_X15_herew r0 s7) fun v16 s16 =>
  if v16 = 45 then (t_X17_sum_b24 F (t_X17_sum_b6 F n) r0 x1 x2 s16) else none
def t_X17_sum_r (F : Nat → Nat → Int32 → ST → Option (Int32 × ST)) (o : Nat) (x1 : Int32) (s : ST) : Option (Int32 × ST) :=
  gd (o < s.1 ∧ (kd s o).1 = 17) <|
  ox (F 2 o x1 s) <|
  ob (f_X17_product o x1 s) fun v2 s2 =>
  t_X17_sum_b6 F fuel o x1 v2 s2
set_option maxHeartbeats 4000000 in
theorem tt_X17_sum_r (l : Launch) (hlt : l.stackTraces = false) (G : GM) (a : Nat → Nat) (d : Nat) (F : Nat → Nat → Int32 → ST → Option (Int32 × ST)) (hF0 : ∀ (o : Nat) (x1 : Int32) (s : ST) (pl : Int32) (s1 : ST), F 0 o x1 s = some (pl, s1) → TM l G yX17_held (ws_ yX17_held cX17_held 3 (some .int)) (125 + d) [.ref (a o), .int x1] a s pl s1) (hF1 : ∀ (o : Nat) (x1 : Int32) (s : ST) (pl : Int32) (s1 : ST), F 1 o x1 s = some (pl, s1) → TM l G yX17_sum (ws_ yX17_sum cX17_sum 5 (some .int)) (125 + d) [.ref (a o), .int x1] a s pl s1) (hF2 : ∀ (o : Nat) (x1 : Int32) (s : ST) (pl : Int32) (s1 : ST), F 2 o x1 s = some (pl, s1) → TM l G yX17_product (ws_ yX17_product cX17_product 5 (some .int)) (125 + d) [.ref (a o), .int x1] a s pl s1) (hF3 : ∀ (o : Nat) (x1 : Int32) (s : ST) (pl : Int32) (s1 : ST), F 3 o x1 s = some (pl, s1) → TM l G yX17_thing (ws_ yX17_thing cX17_thing 3 (some .int)) (125 + d) [.ref (a o), .int x1] a s pl s1) (o : Nat) (x1 : Int32) (s : ST) (pl : Int32) (s1 : ST) (hf : t_X17_sum_r F o x1 s = some (pl, s1)) : TM l G yX17_sum (ws_ yX17_sum cX17_sum 5 (some .int)) (125 + (d + 1)) [.ref (a o), .int x1] a s pl s1 := by
  refine tm_of (d := (125 + (d + 1))) (lv := [(0, .ref (a o)), (1, .int x1)]) (by decide) (Nat.le_of_ble_eq_true rfl) rfl ?_
  intro p e s0 m args below meth c ls A hC hno hW hl
  have hx := hC.1
  have hb := hC.2.1
  have hts := hC.2.2.2.2.1
  have B71 : ∀ (K6 : Nat → Int32 → Int32 → ST → Option (Int32 × ST)) (hK6 : ∀ (r0 : Nat) (x1 : Int32) (x2 : Int32) (s : ST), K6 r0 x1 x2 s = some (pl, s1) → ∀ (H : Heap) (locs : List Loc) (ls : Array Slot), lv_has ls 5 [(0, .ref (a r0)), (1, .int x1), (2, .int x2)] → AW G a A s s0.heap H locs → WT p l e (rmA (125 + (d + 1)) 1 7) s0 m args below meth c H locs G A (XCF G a s1 pl A) 6 ls []), ∀ (r0 : Nat) (x1 : Int32) (t0 : Int32) (s : ST), t_X17_sum_b71 F K6 r0 x1 t0 s = some (pl, s1) → ∀ (H : Heap) (locs : List Loc) (ls : Array Slot), lv_has ls 5 [(0, .ref (a r0)), (1, .int x1)] → AW G a A s s0.heap H locs → WT p l e (rmA (125 + (d + 1)) 1 7) s0 m args below meth c H locs G A (XCF G a s1 pl A) 71 ls [.int t0] := by
    intro K6 hK6 r0 x1 t0 s hf H locs ls hl hW
    unfold t_X17_sum_b71 at hf
    refine lv_istore_n (lv' := [(2, .int t0), (0, .ref (a r0)), (1, .int x1)]) hx hb dX17_sum_71 rfl hl (by decide) rfl (fun ls hl => ?_)
    refine lv_goto (tgt := 6) hx hb dX17_sum_72 (by decide) ?_
    exact hK6 r0 x1 t0 s hf _ _ _ (lv_sub hl [1, 2, 0] rfl) hW
  have B38 : ∀ (K6 : Nat → Int32 → Int32 → ST → Option (Int32 × ST)) (hK6 : ∀ (r0 : Nat) (x1 : Int32) (x2 : Int32) (s : ST), K6 r0 x1 x2 s = some (pl, s1) → ∀ (H : Heap) (locs : List Loc) (ls : Array Slot), lv_has ls 5 [(0, .ref (a r0)), (1, .int x1), (2, .int x2)] → AW G a A s s0.heap H locs → WT p l e (rmA (125 + (d + 1)) 1 7) s0 m args below meth c H locs G A (XCF G a s1 pl A) 6 ls []), ∀ (r0 : Nat) (x1 : Int32) (x2 : Int32) (t0 : Int32) (s : ST), t_X17_sum_b38 F K6 r0 x1 x2 t0 s = some (pl, s1) → ∀ (H : Heap) (locs : List Loc) (ls : Array Slot), lv_has ls 5 [(0, .ref (a r0)), (1, .int x1), (2, .int x2)] → AW G a A s s0.heap H locs → WT p l e (rmA (125 + (d + 1)) 1 7) s0 m args below meth c H locs G A (XCF G a s1 pl A) 38 ls [.int t0] := by
    intro K6 hK6 r0 x1 x2 t0 s hf H locs ls hl hW
    unfold t_X17_sum_b38 at hf
    refine lv_istore_n (lv' := [(3, .int t0), (0, .ref (a r0)), (1, .int x1), (2, .int x2)]) hx hb dX17_sum_38 rfl hl (by decide) rfl (fun ls hl => ?_)
    refine lv_aload_n hx hb dX17_sum_39 rfl (lv_at hl 1 rfl) ?_
    refine lv_dup hx hb dX17_sum_40 rfl ?_
    obtain ⟨g41, hf⟩ := gd_some hf
    refine aw_gI hC hW g41 fl_X17_31 rfl dX17_sum_41 ?_
    refine lv_iconst (v := 1) hx hb dX17_sum_44 (by decide) ?_
    refine lv_iadd hx hb dX17_sum_45 ?_
    obtain ⟨s46, e46, hf⟩ := bnd_some hf
    refine aw_pI e46 hC hW g41 fl_X17_31 (Or.inl fn_16_3) rfl rfl rfl dX17_sum_46 (fun H locs hW => ?_)
    have g41 := ko_pI e46 g41
    refine lv_aload_n hx hb dX17_sum_49 rfl (lv_at hl 1 rfl) ?_
    refine lv_iload_n hx hb dX17_sum_50 rfl (lv_at hl 2 rfl) ?_
    rcases ox_some hf with ht51 | hf
    · exact aw_tprop (aw_trV (r := r0) (As := [.int x1]) (rest := []) (hF2 r0 x1 s46 pl s1 ht51) hC hW hl.1 vy_X17_product q710 g41 rfl rfl rfl rfl (Nat.le_of_ble_eq_true rfl) ⟨(by show (125 + d) + 1 ≤ (125 + (d + 1)); omega), (by show 8 + (5 + 11) + 40 * (125 + d) ≤ 40 * (125 + (d + 1)); omega)⟩ ⟨Nat.le_of_ble_eq_true rfl, Nat.le_of_ble_eq_true rfl⟩ dX17_sum_51) hC hno hW
    obtain ⟨v51, s51, h51, hf⟩ := ob_some hf
    refine aw_dV1 (r := r0) (As := [.int x1]) (rest := []) (ct_X17_product l G a r0 x1 s46 v51 s51 h51) hC hW hl.1 vy_X17_product (Or.inl q710) g41 rfl rfl rfl rfl (Nat.le_of_ble_eq_true rfl) ⟨(by show 120 + 1 ≤ (125 + (d + 1)); omega), (by show 8 + (5 + 11) + 40 * 120 ≤ 40 * (125 + (d + 1)); omega)⟩ ⟨Nat.le_of_ble_eq_true rfl, Nat.le_of_ble_eq_true rfl⟩ dX17_sum_51 (fun H locs hW => ?_)
    refine lv_istore (lv' := [(4, .int v51), (3, .int t0), (0, .ref (a r0)), (1, .int x1), (2, .int x2)]) hx hb dX17_sum_54 hl (by decide) rfl (fun ls hl => ?_)
    refine lv_iload_n hx hb dX17_sum_56 rfl (lv_at hl 1 rfl) ?_
    refine lv_if_eq (tgt := 67) hx hb dX17_sum_57 (by decide) (fun c57 => ?_) (fun c57 => ?_)
    · have hf := ifp c57 hf
      refine lv_iload_n hx hb dX17_sum_67 rfl (lv_at hl 4 rfl) ?_
      refine lv_iload hx hb dX17_sum_68 (lv_at hl 0 rfl) ?_
      refine lv_isub hx hb dX17_sum_70 ?_
      exact B71 K6 hK6 r0 x1 (x2 - v51) s51 hf _ _ _ (lv_sub hl [2, 3] rfl) hW
    · have hf := ifn c57 hf
      refine lv_iload_n hx hb dX17_sum_60 rfl (lv_at hl 4 rfl) ?_
      refine lv_iload hx hb dX17_sum_61 (lv_at hl 0 rfl) ?_
      refine lv_iadd hx hb dX17_sum_63 ?_
      refine lv_goto (tgt := 71) hx hb dX17_sum_64 (by decide) ?_
      exact B71 K6 hK6 r0 x1 (x2 + v51) s51 hf _ _ _ (lv_sub hl [2, 3] rfl) hW
  have B24 : ∀ (K6 : Nat → Int32 → Int32 → ST → Option (Int32 × ST)) (hK6 : ∀ (r0 : Nat) (x1 : Int32) (x2 : Int32) (s : ST), K6 r0 x1 x2 s = some (pl, s1) → ∀ (H : Heap) (locs : List Loc) (ls : Array Slot), lv_has ls 5 [(0, .ref (a r0)), (1, .int x1), (2, .int x2)] → AW G a A s s0.heap H locs → WT p l e (rmA (125 + (d + 1)) 1 7) s0 m args below meth c H locs G A (XCF G a s1 pl A) 6 ls []), ∀ (r0 : Nat) (x1 : Int32) (x2 : Int32) (s : ST), t_X17_sum_b24 F K6 r0 x1 x2 s = some (pl, s1) → ∀ (H : Heap) (locs : List Loc) (ls : Array Slot), lv_has ls 5 [(0, .ref (a r0)), (1, .int x1), (2, .int x2)] → AW G a A s s0.heap H locs → WT p l e (rmA (125 + (d + 1)) 1 7) s0 m args below meth c H locs G A (XCF G a s1 pl A) 24 ls [] := by
    intro K6 hK6 r0 x1 x2 s hf H locs ls hl hW
    unfold t_X17_sum_b24 at hf
    refine lv_aload_n hx hb dX17_sum_24 rfl (lv_at hl 0 rfl) ?_
    obtain ⟨g25, hf⟩ := gd_some hf
    obtain ⟨v25, s25, h25, hf⟩ := ob_some hf
    refine aw_dU1 (r := r0) (As := []) (rest := []) (ct_X15_herew l G a r0 s v25 s25 h25) hC hW hl.1 uy_X17_X17_X15_here q722 g25 rfl rfl rfl (Nat.le_of_ble_eq_true rfl) ⟨(by show 0 + 1 ≤ (125 + (d + 1)); omega), (by show 8 + (1 + 11) + 40 * 0 ≤ 40 * (125 + (d + 1)); omega)⟩ ⟨Nat.le_of_ble_eq_true rfl, Nat.le_of_ble_eq_true rfl⟩ dX17_sum_25 (fun H locs hW => ?_)
    refine lv_bipush (v := 43) hx hb dX17_sum_28 (by decide) ?_
    refine lv_icmp_ne (tgt := 37) hx hb dX17_sum_30 (by decide) (fun c30 => ?_) (fun c30 => ?_)
    · have hf := ifn c30 hf
      refine lv_iconst (v := 0) hx hb dX17_sum_37 (by decide) ?_
      exact B38 K6 hK6 r0 x1 x2 0 s25 hf _ _ _ (lv_sub hl [0, 1, 2] rfl) hW
    · have hf := ifp c30 hf
      refine lv_iconst (v := 1) hx hb dX17_sum_33 (by decide) ?_
      refine lv_goto (tgt := 38) hx hb dX17_sum_34 (by decide) ?_
      exact B38 K6 hK6 r0 x1 x2 1 s25 hf _ _ _ (lv_sub hl [0, 1, 2] rfl) hW
  have B6 : ∀ (n : Nat), ∀ (r0 : Nat) (x1 : Int32) (x2 : Int32) (s : ST), t_X17_sum_b6 F n r0 x1 x2 s = some (pl, s1) → ∀ (H : Heap) (locs : List Loc) (ls : Array Slot), lv_has ls 5 [(0, .ref (a r0)), (1, .int x1), (2, .int x2)] → AW G a A s s0.heap H locs → WT p l e (rmA (125 + (d + 1)) 1 7) s0 m args below meth c H locs G A (XCF G a s1 pl A) 6 ls [] := by
    intro n
    induction n with
    | zero => intro r0 x1 x2 s hf; cases hf
    | succ n ih =>
      intro r0 x1 x2 s hf H locs ls hl hW
      rw [t_X17_sum_b6] at hf
      refine lv_aload_n hx hb dX17_sum_6 rfl (lv_at hl 0 rfl) ?_
      obtain ⟨g7, hf⟩ := gd_some hf
      obtain ⟨v7, s7, h7, hf⟩ := ob_some hf
      refine aw_dU1 (r := r0) (As := []) (rest := []) (ct_X15_herew l G a r0 s v7 s7 h7) hC hW hl.1 uy_X17_X17_X15_here q722 g7 rfl rfl rfl (Nat.le_of_ble_eq_true rfl) ⟨(by show 0 + 1 ≤ (125 + (d + 1)); omega), (by show 8 + (1 + 11) + 40 * 0 ≤ 40 * (125 + (d + 1)); omega)⟩ ⟨Nat.le_of_ble_eq_true rfl, Nat.le_of_ble_eq_true rfl⟩ dX17_sum_7 (fun H locs hW => ?_)
      refine lv_bipush (v := 43) hx hb dX17_sum_10 (by decide) ?_
      refine lv_icmp_eq (tgt := 24) hx hb dX17_sum_12 (by decide) (fun c12 => ?_) (fun c12 => ?_)
      · have hf := ifp c12 hf
        exact B24 (t_X17_sum_b6 F n) ih r0 x1 x2 s7 hf _ _ _ (lv_sub hl [0, 1, 2] rfl) hW
      · have hf := ifn c12 hf
        refine lv_aload_n hx hb dX17_sum_15 rfl (lv_at hl 0 rfl) ?_
        obtain ⟨g16, hf⟩ := gd_some hf
        obtain ⟨v16, s16, h16, hf⟩ := ob_some hf
        refine aw_dU1 (r := r0) (As := []) (rest := []) (ct_X15_herew l G a r0 s7 v16 s16 h16) hC hW hl.1 uy_X17_X17_X15_here q722 g16 rfl rfl rfl (Nat.le_of_ble_eq_true rfl) ⟨(by show 0 + 1 ≤ (125 + (d + 1)); omega), (by show 8 + (1 + 11) + 40 * 0 ≤ 40 * (125 + (d + 1)); omega)⟩ ⟨Nat.le_of_ble_eq_true rfl, Nat.le_of_ble_eq_true rfl⟩ dX17_sum_16 (fun H locs hW => ?_)
        refine lv_bipush (v := 45) hx hb dX17_sum_19 (by decide) ?_
        refine lv_icmp_ne (tgt := 75) hx hb dX17_sum_21 (by decide) (fun c21 => ?_) (fun c21 => ?_)
        · have hf := ifn c21 hf
          refine lv_iload_n hx hb dX17_sum_75 rfl (lv_at hl 2 rfl) ?_
          cases hf
        · have hf := ifp c21 hf
          exact B24 (t_X17_sum_b6 F n) ih r0 x1 x2 s16 hf _ _ _ (lv_sub hl [0, 1, 2] rfl) hW
  unfold t_X17_sum_r at hf
  refine lv_aload_n hx hb dX17_sum_0 rfl (lv_at hl 0 rfl) ?_
  refine lv_iload_n hx hb dX17_sum_1 rfl (lv_at hl 1 rfl) ?_
  obtain ⟨g2, hf⟩ := gd_some hf
  rcases ox_some hf with ht2 | hf
  · exact aw_tprop (aw_trV (r := o) (As := [.int x1]) (rest := []) (hF2 o x1 s pl s1 ht2) hC hW hl.1 vy_X17_product q710 g2 rfl rfl rfl rfl (Nat.le_of_ble_eq_true rfl) ⟨(by show (125 + d) + 1 ≤ (125 + (d + 1)); omega), (by show 8 + (5 + 11) + 40 * (125 + d) ≤ 40 * (125 + (d + 1)); omega)⟩ ⟨Nat.le_of_ble_eq_true rfl, Nat.le_of_ble_eq_true rfl⟩ dX17_sum_2) hC hno hW
  obtain ⟨v2, s2, h2, hf⟩ := ob_some hf
  refine aw_dV1 (r := o) (As := [.int x1]) (rest := []) (ct_X17_product l G a o x1 s v2 s2 h2) hC hW hl.1 vy_X17_product (Or.inl q710) g2 rfl rfl rfl rfl (Nat.le_of_ble_eq_true rfl) ⟨(by show 120 + 1 ≤ (125 + (d + 1)); omega), (by show 8 + (5 + 11) + 40 * 120 ≤ 40 * (125 + (d + 1)); omega)⟩ ⟨Nat.le_of_ble_eq_true rfl, Nat.le_of_ble_eq_true rfl⟩ dX17_sum_2 (fun H locs hW => ?_)
  refine lv_istore_n (lv' := [(2, .int v2), (0, .ref (a o)), (1, .int x1)]) hx hb dX17_sum_5 rfl hl (by decide) rfl (fun ls hl => ?_)
  exact B6 fuel o x1 v2 s2 hf _ _ _ (lv_sub hl [1, 2, 0] rfl) hW
def t_X17_product_b80 (F : Nat → Nat → Int32 → ST → Option (Int32 × ST)) (K6 : Nat → Int32 → Int32 → ST → Option (Int32 × ST)) (r0 : Nat) (x1 : Int32) (t0 : Int32) (s : ST) : Option (Int32 × ST) :=
  K6 r0 x1 t0 s
def t_X17_product_b38 (F : Nat → Nat → Int32 → ST → Option (Int32 × ST)) (K6 : Nat → Int32 → Int32 → ST → Option (Int32 × ST)) (r0 : Nat) (x1 : Int32) (x2 : Int32) (t0 : Int32) (s : ST) : Option (Int32 × ST) :=
  gd (r0 < s.1 ∧ (kd s r0).1 = 17) <|
  bnd (pI s r0 3 ((gi s r0 3) + 1)) fun s46 =>
  ox (F 3 r0 x1 s46) <|
  ob (f_X17_thing r0 x1 s46) fun v51 s51 =>
  if t0 = 0 then (if v51 = 0 then (t_X17_product_b80 F K6 r0 x1 0 s51) else gd (¬ v51 = 0) <|
  t_X17_product_b80 F K6 r0 x1 (x2 / v51) s51) else t_X17_product_b80 F K6 r0 x1 (x2 * v51) s51
def t_X17_product_b24 (F : Nat → Nat → Int32 → ST → Option (Int32 × ST)) (K6 : Nat → Int32 → Int32 → ST → Option (Int32 × ST)) (r0 : Nat) (x1 : Int32) (x2 : Int32) (s : ST) : Option (Int32 × ST) :=
  gd (r0 < s.1 ∧ (kd s r0).1 = 17) <|
  ob (f_X15_herew r0 s) fun v25 s25 =>
  if v25 = 42 then (t_X17_product_b38 F K6 r0 x1 x2 1 s25) else t_X17_product_b38 F K6 r0 x1 x2 0 s25
def t_X17_product_b6 (F : Nat → Nat → Int32 → ST → Option (Int32 × ST))  : Nat → Nat → Int32 → Int32 → ST → Option (Int32 × ST)
  | 0, _, _, _, _ => none
  | n + 1, r0, x1, x2, s =>
  gd (r0 < s.1 ∧ (kd s r0).1 = 17) <|
  ob (f_X15_herew r0 s) fun v7 s7 =>
  if v7 = 42 then (t_X17_product_b24 F (t_X17_product_b6 F n) r0 x1 x2 s7) else gd (r0 < s7.1 ∧ (kd s7 r0).1 = 17) <|
  ob (f_X15_herew r0 s7) fun v16 s16 =>
  if v16 = 47 then (t_X17_product_b24 F (t_X17_product_b6 F n) r0 x1 x2 s16) else none
def t_X17_product_r (F : Nat → Nat → Int32 → ST → Option (Int32 × ST)) (o : Nat) (x1 : Int32) (s : ST) : Option (Int32 × ST) :=
  gd (o < s.1 ∧ (kd s o).1 = 17) <|
  ox (F 3 o x1 s) <|
  ob (f_X17_thing o x1 s) fun v2 s2 =>
  t_X17_product_b6 F fuel o x1 v2 s2
set_option maxHeartbeats 4000000 in
theorem tt_X17_product_r (l : Launch) (hlt : l.stackTraces = false) (G : GM) (a : Nat → Nat) (d : Nat) (F : Nat → Nat → Int32 → ST → Option (Int32 × ST)) (hF0 : ∀ (o : Nat) (x1 : Int32) (s : ST) (pl : Int32) (s1 : ST), F 0 o x1 s = some (pl, s1) → TM l G yX17_held (ws_ yX17_held cX17_held 3 (some .int)) (125 + d) [.ref (a o), .int x1] a s pl s1) (hF1 : ∀ (o : Nat) (x1 : Int32) (s : ST) (pl : Int32) (s1 : ST), F 1 o x1 s = some (pl, s1) → TM l G yX17_sum (ws_ yX17_sum cX17_sum 5 (some .int)) (125 + d) [.ref (a o), .int x1] a s pl s1) (hF2 : ∀ (o : Nat) (x1 : Int32) (s : ST) (pl : Int32) (s1 : ST), F 2 o x1 s = some (pl, s1) → TM l G yX17_product (ws_ yX17_product cX17_product 5 (some .int)) (125 + d) [.ref (a o), .int x1] a s pl s1) (hF3 : ∀ (o : Nat) (x1 : Int32) (s : ST) (pl : Int32) (s1 : ST), F 3 o x1 s = some (pl, s1) → TM l G yX17_thing (ws_ yX17_thing cX17_thing 3 (some .int)) (125 + d) [.ref (a o), .int x1] a s pl s1) (o : Nat) (x1 : Int32) (s : ST) (pl : Int32) (s1 : ST) (hf : t_X17_product_r F o x1 s = some (pl, s1)) : TM l G yX17_product (ws_ yX17_product cX17_product 5 (some .int)) (125 + (d + 1)) [.ref (a o), .int x1] a s pl s1 := by
  refine tm_of (d := (125 + (d + 1))) (lv := [(0, .ref (a o)), (1, .int x1)]) (by decide) (Nat.le_of_ble_eq_true rfl) rfl ?_
  intro p e s0 m args below meth c ls A hC hno hW hl
  have hx := hC.1
  have hb := hC.2.1
  have hts := hC.2.2.2.2.1
  have B80 : ∀ (K6 : Nat → Int32 → Int32 → ST → Option (Int32 × ST)) (hK6 : ∀ (r0 : Nat) (x1 : Int32) (x2 : Int32) (s : ST), K6 r0 x1 x2 s = some (pl, s1) → ∀ (H : Heap) (locs : List Loc) (ls : Array Slot), lv_has ls 5 [(0, .ref (a r0)), (1, .int x1), (2, .int x2)] → AW G a A s s0.heap H locs → WT p l e (rmA (125 + (d + 1)) 1 7) s0 m args below meth c H locs G A (XCF G a s1 pl A) 6 ls []), ∀ (r0 : Nat) (x1 : Int32) (t0 : Int32) (s : ST), t_X17_product_b80 F K6 r0 x1 t0 s = some (pl, s1) → ∀ (H : Heap) (locs : List Loc) (ls : Array Slot), lv_has ls 5 [(0, .ref (a r0)), (1, .int x1)] → AW G a A s s0.heap H locs → WT p l e (rmA (125 + (d + 1)) 1 7) s0 m args below meth c H locs G A (XCF G a s1 pl A) 80 ls [.int t0] := by
    intro K6 hK6 r0 x1 t0 s hf H locs ls hl hW
    unfold t_X17_product_b80 at hf
    refine lv_istore_n (lv' := [(2, .int t0), (0, .ref (a r0)), (1, .int x1)]) hx hb dX17_product_80 rfl hl (by decide) rfl (fun ls hl => ?_)
    refine lv_goto (tgt := 6) hx hb dX17_product_81 (by decide) ?_
    exact hK6 r0 x1 t0 s hf _ _ _ (lv_sub hl [1, 2, 0] rfl) hW
  have B38 : ∀ (K6 : Nat → Int32 → Int32 → ST → Option (Int32 × ST)) (hK6 : ∀ (r0 : Nat) (x1 : Int32) (x2 : Int32) (s : ST), K6 r0 x1 x2 s = some (pl, s1) → ∀ (H : Heap) (locs : List Loc) (ls : Array Slot), lv_has ls 5 [(0, .ref (a r0)), (1, .int x1), (2, .int x2)] → AW G a A s s0.heap H locs → WT p l e (rmA (125 + (d + 1)) 1 7) s0 m args below meth c H locs G A (XCF G a s1 pl A) 6 ls []), ∀ (r0 : Nat) (x1 : Int32) (x2 : Int32) (t0 : Int32) (s : ST), t_X17_product_b38 F K6 r0 x1 x2 t0 s = some (pl, s1) → ∀ (H : Heap) (locs : List Loc) (ls : Array Slot), lv_has ls 5 [(0, .ref (a r0)), (1, .int x1), (2, .int x2)] → AW G a A s s0.heap H locs → WT p l e (rmA (125 + (d + 1)) 1 7) s0 m args below meth c H locs G A (XCF G a s1 pl A) 38 ls [.int t0] := by
    intro K6 hK6 r0 x1 x2 t0 s hf H locs ls hl hW
    unfold t_X17_product_b38 at hf
    refine lv_istore_n (lv' := [(3, .int t0), (0, .ref (a r0)), (1, .int x1), (2, .int x2)]) hx hb dX17_product_38 rfl hl (by decide) rfl (fun ls hl => ?_)
    refine lv_aload_n hx hb dX17_product_39 rfl (lv_at hl 1 rfl) ?_
    refine lv_dup hx hb dX17_product_40 rfl ?_
    obtain ⟨g41, hf⟩ := gd_some hf
    refine aw_gI hC hW g41 fl_X17_31 rfl dX17_product_41 ?_
    refine lv_iconst (v := 1) hx hb dX17_product_44 (by decide) ?_
    refine lv_iadd hx hb dX17_product_45 ?_
    obtain ⟨s46, e46, hf⟩ := bnd_some hf
    refine aw_pI e46 hC hW g41 fl_X17_31 (Or.inl fn_16_3) rfl rfl rfl dX17_product_46 (fun H locs hW => ?_)
    have g41 := ko_pI e46 g41
    refine lv_aload_n hx hb dX17_product_49 rfl (lv_at hl 1 rfl) ?_
    refine lv_iload_n hx hb dX17_product_50 rfl (lv_at hl 2 rfl) ?_
    rcases ox_some hf with ht51 | hf
    · exact aw_tprop (aw_trV (r := r0) (As := [.int x1]) (rest := []) (hF3 r0 x1 s46 pl s1 ht51) hC hW hl.1 vy_X17_thing q714 g41 rfl rfl rfl rfl (Nat.le_of_ble_eq_true rfl) ⟨(by show (125 + d) + 1 ≤ (125 + (d + 1)); omega), (by show 8 + (3 + 11) + 40 * (125 + d) ≤ 40 * (125 + (d + 1)); omega)⟩ ⟨Nat.le_of_ble_eq_true rfl, Nat.le_of_ble_eq_true rfl⟩ dX17_product_51) hC hno hW
    obtain ⟨v51, s51, h51, hf⟩ := ob_some hf
    refine aw_dV1 (r := r0) (As := [.int x1]) (rest := []) (ct_X17_thing l G a r0 x1 s46 v51 s51 h51) hC hW hl.1 vy_X17_thing (Or.inl q714) g41 rfl rfl rfl rfl (Nat.le_of_ble_eq_true rfl) ⟨(by show 120 + 1 ≤ (125 + (d + 1)); omega), (by show 8 + (3 + 11) + 40 * 120 ≤ 40 * (125 + (d + 1)); omega)⟩ ⟨Nat.le_of_ble_eq_true rfl, Nat.le_of_ble_eq_true rfl⟩ dX17_product_51 (fun H locs hW => ?_)
    refine lv_istore (lv' := [(4, .int v51), (3, .int t0), (0, .ref (a r0)), (1, .int x1), (2, .int x2)]) hx hb dX17_product_54 hl (by decide) rfl (fun ls hl => ?_)
    refine lv_iload_n hx hb dX17_product_56 rfl (lv_at hl 1 rfl) ?_
    refine lv_if_eq (tgt := 67) hx hb dX17_product_57 (by decide) (fun c57 => ?_) (fun c57 => ?_)
    · have hf := ifp c57 hf
      refine lv_iload hx hb dX17_product_67 (lv_at hl 0 rfl) ?_
      refine lv_if_ne (tgt := 76) hx hb dX17_product_69 (by decide) (fun c69 => ?_) (fun c69 => ?_)
      · have hf := ifn c69 hf
        refine lv_iload_n hx hb dX17_product_76 rfl (lv_at hl 4 rfl) ?_
        refine lv_iload hx hb dX17_product_77 (lv_at hl 0 rfl) ?_
        obtain ⟨g79, hf⟩ := gd_some hf
        refine lv_idiv hx hb dX17_product_79 g79 ?_
        exact B80 K6 hK6 r0 x1 (x2 / v51) s51 hf _ _ _ (lv_sub hl [2, 3] rfl) hW
      · have hf := ifp c69 hf
        refine lv_iconst (v := 0) hx hb dX17_product_72 (by decide) ?_
        refine lv_goto (tgt := 80) hx hb dX17_product_73 (by decide) ?_
        exact B80 K6 hK6 r0 x1 0 s51 hf _ _ _ (lv_sub hl [2, 3] rfl) hW
    · have hf := ifn c57 hf
      refine lv_iload_n hx hb dX17_product_60 rfl (lv_at hl 4 rfl) ?_
      refine lv_iload hx hb dX17_product_61 (lv_at hl 0 rfl) ?_
      refine lv_imul hx hb dX17_product_63 ?_
      refine lv_goto (tgt := 80) hx hb dX17_product_64 (by decide) ?_
      exact B80 K6 hK6 r0 x1 (x2 * v51) s51 hf _ _ _ (lv_sub hl [2, 3] rfl) hW
  have B24 : ∀ (K6 : Nat → Int32 → Int32 → ST → Option (Int32 × ST)) (hK6 : ∀ (r0 : Nat) (x1 : Int32) (x2 : Int32) (s : ST), K6 r0 x1 x2 s = some (pl, s1) → ∀ (H : Heap) (locs : List Loc) (ls : Array Slot), lv_has ls 5 [(0, .ref (a r0)), (1, .int x1), (2, .int x2)] → AW G a A s s0.heap H locs → WT p l e (rmA (125 + (d + 1)) 1 7) s0 m args below meth c H locs G A (XCF G a s1 pl A) 6 ls []), ∀ (r0 : Nat) (x1 : Int32) (x2 : Int32) (s : ST), t_X17_product_b24 F K6 r0 x1 x2 s = some (pl, s1) → ∀ (H : Heap) (locs : List Loc) (ls : Array Slot), lv_has ls 5 [(0, .ref (a r0)), (1, .int x1), (2, .int x2)] → AW G a A s s0.heap H locs → WT p l e (rmA (125 + (d + 1)) 1 7) s0 m args below meth c H locs G A (XCF G a s1 pl A) 24 ls [] := by
    intro K6 hK6 r0 x1 x2 s hf H locs ls hl hW
    unfold t_X17_product_b24 at hf
    refine lv_aload_n hx hb dX17_product_24 rfl (lv_at hl 0 rfl) ?_
    obtain ⟨g25, hf⟩ := gd_some hf
    obtain ⟨v25, s25, h25, hf⟩ := ob_some hf
    refine aw_dU1 (r := r0) (As := []) (rest := []) (ct_X15_herew l G a r0 s v25 s25 h25) hC hW hl.1 uy_X17_X17_X15_here q722 g25 rfl rfl rfl (Nat.le_of_ble_eq_true rfl) ⟨(by show 0 + 1 ≤ (125 + (d + 1)); omega), (by show 8 + (1 + 11) + 40 * 0 ≤ 40 * (125 + (d + 1)); omega)⟩ ⟨Nat.le_of_ble_eq_true rfl, Nat.le_of_ble_eq_true rfl⟩ dX17_product_25 (fun H locs hW => ?_)
    refine lv_bipush (v := 42) hx hb dX17_product_28 (by decide) ?_
    refine lv_icmp_ne (tgt := 37) hx hb dX17_product_30 (by decide) (fun c30 => ?_) (fun c30 => ?_)
    · have hf := ifn c30 hf
      refine lv_iconst (v := 0) hx hb dX17_product_37 (by decide) ?_
      exact B38 K6 hK6 r0 x1 x2 0 s25 hf _ _ _ (lv_sub hl [0, 1, 2] rfl) hW
    · have hf := ifp c30 hf
      refine lv_iconst (v := 1) hx hb dX17_product_33 (by decide) ?_
      refine lv_goto (tgt := 38) hx hb dX17_product_34 (by decide) ?_
      exact B38 K6 hK6 r0 x1 x2 1 s25 hf _ _ _ (lv_sub hl [0, 1, 2] rfl) hW
  have B6 : ∀ (n : Nat), ∀ (r0 : Nat) (x1 : Int32) (x2 : Int32) (s : ST), t_X17_product_b6 F n r0 x1 x2 s = some (pl, s1) → ∀ (H : Heap) (locs : List Loc) (ls : Array Slot), lv_has ls 5 [(0, .ref (a r0)), (1, .int x1), (2, .int x2)] → AW G a A s s0.heap H locs → WT p l e (rmA (125 + (d + 1)) 1 7) s0 m args below meth c H locs G A (XCF G a s1 pl A) 6 ls [] := by
    intro n
    induction n with
    | zero => intro r0 x1 x2 s hf; cases hf
    | succ n ih =>
      intro r0 x1 x2 s hf H locs ls hl hW
      rw [t_X17_product_b6] at hf
      refine lv_aload_n hx hb dX17_product_6 rfl (lv_at hl 0 rfl) ?_
      obtain ⟨g7, hf⟩ := gd_some hf
      obtain ⟨v7, s7, h7, hf⟩ := ob_some hf
      refine aw_dU1 (r := r0) (As := []) (rest := []) (ct_X15_herew l G a r0 s v7 s7 h7) hC hW hl.1 uy_X17_X17_X15_here q722 g7 rfl rfl rfl (Nat.le_of_ble_eq_true rfl) ⟨(by show 0 + 1 ≤ (125 + (d + 1)); omega), (by show 8 + (1 + 11) + 40 * 0 ≤ 40 * (125 + (d + 1)); omega)⟩ ⟨Nat.le_of_ble_eq_true rfl, Nat.le_of_ble_eq_true rfl⟩ dX17_product_7 (fun H locs hW => ?_)
      refine lv_bipush (v := 42) hx hb dX17_product_10 (by decide) ?_
      refine lv_icmp_eq (tgt := 24) hx hb dX17_product_12 (by decide) (fun c12 => ?_) (fun c12 => ?_)
      · have hf := ifp c12 hf
        exact B24 (t_X17_product_b6 F n) ih r0 x1 x2 s7 hf _ _ _ (lv_sub hl [0, 1, 2] rfl) hW
      · have hf := ifn c12 hf
        refine lv_aload_n hx hb dX17_product_15 rfl (lv_at hl 0 rfl) ?_
        obtain ⟨g16, hf⟩ := gd_some hf
        obtain ⟨v16, s16, h16, hf⟩ := ob_some hf
        refine aw_dU1 (r := r0) (As := []) (rest := []) (ct_X15_herew l G a r0 s7 v16 s16 h16) hC hW hl.1 uy_X17_X17_X15_here q722 g16 rfl rfl rfl (Nat.le_of_ble_eq_true rfl) ⟨(by show 0 + 1 ≤ (125 + (d + 1)); omega), (by show 8 + (1 + 11) + 40 * 0 ≤ 40 * (125 + (d + 1)); omega)⟩ ⟨Nat.le_of_ble_eq_true rfl, Nat.le_of_ble_eq_true rfl⟩ dX17_product_16 (fun H locs hW => ?_)
        refine lv_bipush (v := 47) hx hb dX17_product_19 (by decide) ?_
        refine lv_icmp_ne (tgt := 84) hx hb dX17_product_21 (by decide) (fun c21 => ?_) (fun c21 => ?_)
        · have hf := ifn c21 hf
          refine lv_iload_n hx hb dX17_product_84 rfl (lv_at hl 2 rfl) ?_
          cases hf
        · have hf := ifp c21 hf
          exact B24 (t_X17_product_b6 F n) ih r0 x1 x2 s16 hf _ _ _ (lv_sub hl [0, 1, 2] rfl) hW
  unfold t_X17_product_r at hf
  refine lv_aload_n hx hb dX17_product_0 rfl (lv_at hl 0 rfl) ?_
  refine lv_iload_n hx hb dX17_product_1 rfl (lv_at hl 1 rfl) ?_
  obtain ⟨g2, hf⟩ := gd_some hf
  rcases ox_some hf with ht2 | hf
  · exact aw_tprop (aw_trV (r := o) (As := [.int x1]) (rest := []) (hF3 o x1 s pl s1 ht2) hC hW hl.1 vy_X17_thing q714 g2 rfl rfl rfl rfl (Nat.le_of_ble_eq_true rfl) ⟨(by show (125 + d) + 1 ≤ (125 + (d + 1)); omega), (by show 8 + (3 + 11) + 40 * (125 + d) ≤ 40 * (125 + (d + 1)); omega)⟩ ⟨Nat.le_of_ble_eq_true rfl, Nat.le_of_ble_eq_true rfl⟩ dX17_product_2) hC hno hW
  obtain ⟨v2, s2, h2, hf⟩ := ob_some hf
  refine aw_dV1 (r := o) (As := [.int x1]) (rest := []) (ct_X17_thing l G a o x1 s v2 s2 h2) hC hW hl.1 vy_X17_thing (Or.inl q714) g2 rfl rfl rfl rfl (Nat.le_of_ble_eq_true rfl) ⟨(by show 120 + 1 ≤ (125 + (d + 1)); omega), (by show 8 + (3 + 11) + 40 * 120 ≤ 40 * (125 + (d + 1)); omega)⟩ ⟨Nat.le_of_ble_eq_true rfl, Nat.le_of_ble_eq_true rfl⟩ dX17_product_2 (fun H locs hW => ?_)
  refine lv_istore_n (lv' := [(2, .int v2), (0, .ref (a o)), (1, .int x1)]) hx hb dX17_product_5 rfl hl (by decide) rfl (fun ls hl => ?_)
  exact B6 fuel o x1 v2 s2 hf _ _ _ (lv_sub hl [1, 2, 0] rfl) hW
def t_X17_thing_b121 (F : Nat → Nat → Int32 → ST → Option (Int32 × ST))  (r0 : Nat) (x2 : Int32) (t0 : Int32) (w1 : Nat) (s : ST) : Option (Int32 × ST) :=
  gd (w1 < s.1 ∧ (kd s w1).1 = 17) <|
  ox (t_X15_needw w1 t0 s) <|
  ob (f_X15_needw w1 t0 s) fun _ s121 =>
  gd (r0 < s121.1 ∧ (kd s121 r0).1 = 17) <|
  bnd (pI s121 r0 3 ((gi s121 r0 3) + 1)) fun s131 =>
  obn (gr s131 r0 4) (none) fun q135 => ob (f_X17_letter r0 x2 s131) fun v147 s147 =>
  none
def t_X17_thing_b120 (F : Nat → Nat → Int32 → ST → Option (Int32 × ST))  (r0 : Nat) (x2 : Int32) (w0 : Nat) (s : ST) : Option (Int32 × ST) :=
  t_X17_thing_b121 F r0 x2 0 w0 s
def t_X17_thing_b36 (F : Nat → Nat → Int32 → ST → Option (Int32 × ST))  (r0 : Nat) (x1 : Int32) (t0 : Int32) (w1 : Nat) (s : ST) : Option (Int32 × ST) :=
  gd (w1 < s.1 ∧ (kd s w1).1 = 17) <|
  ox (t_X15_needw w1 t0 s) <|
  ob (f_X15_needw w1 t0 s) fun _ s36 =>
  gd (r0 < s36.1 ∧ (kd s36 r0).1 = 17) <|
  bnd (pI s36 r0 3 ((gi s36 r0 3) + 1)) fun s46 =>
  ox (F 0 r0 (x1 + 1) s46) <|
  ob (f_X17_held r0 (x1 + 1) s46) fun v53 s53 =>
  gd (r0 < s53.1 ∧ (kd s53 r0).1 = 17) <|
  ob (f_X15_passesw r0 41 s53) fun v61 s61 =>
  gd (r0 < s61.1 ∧ (kd s61 r0).1 = 17) <|
  ox (t_X15_needw r0 v61 s61) <|
  ob (f_X15_needw r0 v61 s61) fun _ s64 =>
  none
def t_X17_thing_r (F : Nat → Nat → Int32 → ST → Option (Int32 × ST)) (o : Nat) (x1 : Int32) (s : ST) : Option (Int32 × ST) :=
  gd (o < s.1 ∧ (kd s o).1 = 17) <|
  ob (f_X15_passesw o 45 s) fun v3 s3 =>
  if v3 = 0 then (gd (o < s3.1 ∧ (kd s3 o).1 = 17) <|
  ob (f_X15_herew o s3) fun v17 s17 =>
  if v17 = 40 then (if 4 ≤ x1 then (t_X17_thing_b36 F o x1 0 o s17) else t_X17_thing_b36 F o x1 1 o s17) else gd (o < s17.1 ∧ (kd s17 o).1 = 17) <|
  ob (f_X15_herew o s17) fun v70 s70 =>
  bnd (p_in ((v70 : Int32).toInt64) 48 57) fun v80 =>
  if v80 = 0 then (gd (o < s70.1 ∧ (kd s70 o).1 = 17) <|
  ob (f_X15_herew o s70) fun v97 s97 =>
  if v97 = (-1) then (t_X17_thing_b120 F o v97 o s97) else ob (f_J3_indexOf 5 v97 s97) fun v110 s110 =>
  if v110 < 0 then (t_X17_thing_b120 F o v97 o s110) else t_X17_thing_b121 F o v97 1 o s110) else gd (o < s70.1 ∧ (kd s70 o).1 = 17) <|
  ox (t_X15_numberw o 3 0 999 s70) <|
  ob (f_X15_numberw o 3 0 999 s70) fun v92 s92 =>
  none) else gd (o < s3.1 ∧ (kd s3 o).1 = 17) <|
  ox (F 3 o x1 s3) <|
  ob (f_X17_thing o x1 s3) fun v11 s11 =>
  none
set_option maxHeartbeats 4000000 in
theorem tt_X17_thing_r (l : Launch) (hlt : l.stackTraces = false) (G : GM) (a : Nat → Nat) (d : Nat) (F : Nat → Nat → Int32 → ST → Option (Int32 × ST)) (hF0 : ∀ (o : Nat) (x1 : Int32) (s : ST) (pl : Int32) (s1 : ST), F 0 o x1 s = some (pl, s1) → TM l G yX17_held (ws_ yX17_held cX17_held 3 (some .int)) (125 + d) [.ref (a o), .int x1] a s pl s1) (hF1 : ∀ (o : Nat) (x1 : Int32) (s : ST) (pl : Int32) (s1 : ST), F 1 o x1 s = some (pl, s1) → TM l G yX17_sum (ws_ yX17_sum cX17_sum 5 (some .int)) (125 + d) [.ref (a o), .int x1] a s pl s1) (hF2 : ∀ (o : Nat) (x1 : Int32) (s : ST) (pl : Int32) (s1 : ST), F 2 o x1 s = some (pl, s1) → TM l G yX17_product (ws_ yX17_product cX17_product 5 (some .int)) (125 + d) [.ref (a o), .int x1] a s pl s1) (hF3 : ∀ (o : Nat) (x1 : Int32) (s : ST) (pl : Int32) (s1 : ST), F 3 o x1 s = some (pl, s1) → TM l G yX17_thing (ws_ yX17_thing cX17_thing 3 (some .int)) (125 + d) [.ref (a o), .int x1] a s pl s1) (o : Nat) (x1 : Int32) (s : ST) (pl : Int32) (s1 : ST) (hf : t_X17_thing_r F o x1 s = some (pl, s1)) : TM l G yX17_thing (ws_ yX17_thing cX17_thing 3 (some .int)) (125 + (d + 1)) [.ref (a o), .int x1] a s pl s1 := by
  refine tm_of (d := (125 + (d + 1))) (lv := [(0, .ref (a o)), (1, .int x1)]) (by decide) (Nat.le_of_ble_eq_true rfl) rfl ?_
  intro p e s0 m args below meth c ls A hC hno hW hl
  have hx := hC.1
  have hb := hC.2.1
  have hts := hC.2.2.2.2.1
  have B121 : ∀ (r0 : Nat) (x2 : Int32) (t0 : Int32) (w1 : Nat) (s : ST), t_X17_thing_b121 F r0 x2 t0 w1 s = some (pl, s1) → ∀ (H : Heap) (locs : List Loc) (ls : Array Slot), lv_has ls 3 [(0, .ref (a r0)), (2, .int x2)] → AW G a A s s0.heap H locs → WT p l e (rmA (125 + (d + 1)) 1 7) s0 m args below meth c H locs G A (XCF G a s1 pl A) 121 ls [.int t0, .ref (a w1)] := by
    intro r0 x2 t0 w1 s hf H locs ls hl hW
    unfold t_X17_thing_b121 at hf
    obtain ⟨g121, hf⟩ := gd_some hf
    rcases ox_some hf with ht121 | hf
    · exact aw_tprop (aw_trU (r := w1) (As := [.int t0]) (rest := []) (tt_X15_needw l hlt G a w1 t0 s pl s1 ht121) hC hW hl.1 uy_X17_X17_X15_need q726 g121 rfl rfl rfl (Nat.le_of_ble_eq_true rfl) ⟨(by show 5 + 1 ≤ (125 + (d + 1)); omega), (by show 8 + (2 + 11) + 40 * 5 ≤ 40 * (125 + (d + 1)); omega)⟩ ⟨Nat.le_of_ble_eq_true rfl, Nat.le_of_ble_eq_true rfl⟩ dX17_thing_121) hC hno hW
    obtain ⟨_, s121, h121, hf⟩ := ob_some hf
    refine aw_dU0 (r := w1) (As := [.int t0]) (rest := []) (ct_X15_needw l G a w1 t0 s () s121 h121) hC hW hl.1 uy_X17_X17_X15_need q726 g121 rfl rfl rfl (Nat.le_of_ble_eq_true rfl) ⟨(by show 0 + 1 ≤ (125 + (d + 1)); omega), (by show 8 + (2 + 11) + 40 * 0 ≤ 40 * (125 + (d + 1)); omega)⟩ ⟨Nat.le_of_ble_eq_true rfl, Nat.le_of_ble_eq_true rfl⟩ dX17_thing_121 (fun H locs hW => ?_)
    refine lv_aload_n hx hb dX17_thing_124 rfl (lv_at hl 0 rfl) ?_
    refine lv_dup hx hb dX17_thing_125 rfl ?_
    obtain ⟨g126, hf⟩ := gd_some hf
    refine aw_gI hC hW g126 fl_X17_31 rfl dX17_thing_126 ?_
    refine lv_iconst (v := 1) hx hb dX17_thing_129 (by decide) ?_
    refine lv_iadd hx hb dX17_thing_130 ?_
    obtain ⟨s131, e131, hf⟩ := bnd_some hf
    refine aw_pI e131 hC hW g126 fl_X17_31 (Or.inl fn_16_3) rfl rfl rfl dX17_thing_131 (fun H locs hW => ?_)
    have g126 := ko_pI e131 g126
    refine lv_aload_n hx hb dX17_thing_134 rfl (lv_at hl 0 rfl) ?_
    rcases obn_cases hf with ⟨hq135, hf⟩ | ⟨q135, hq135, hf⟩
    · refine aw_gN hC hW g126 fl_X17_23 rfl hq135 dX17_thing_135 ?_
      refine lv_ifnonnullN hx hb dX17_thing_138 ?_
      refine lv_iconst (v := 0) hx hb dX17_thing_141 (by decide) ?_
      refine lv_goto (tgt := 150) hx hb dX17_thing_142 (by decide) ?_
      cases hf
    · refine aw_gR hC hW g126 fl_X17_23 rfl hq135 dX17_thing_135 ?_
      refine lv_ifnonnull (tgt := 145) hx hb dX17_thing_138 (by decide) ?_
      refine lv_aload_n hx hb dX17_thing_145 rfl (lv_at hl 0 rfl) ?_
      refine lv_iload_n hx hb dX17_thing_146 rfl (lv_at hl 1 rfl) ?_
      obtain ⟨v147, s147, h147, hf⟩ := ob_some hf
      refine aw_dV1 (r := r0) (As := [.int x2]) (rest := []) (ct_X17_letter l G a r0 x2 s131 v147 s147 h147) hC hW hl.1 vy_X17_letter (Or.inl q822) g126 rfl rfl rfl rfl (Nat.le_of_ble_eq_true rfl) ⟨(by show 2 + 1 ≤ (125 + (d + 1)); omega), (by show 8 + (3 + 11) + 40 * 2 ≤ 40 * (125 + (d + 1)); omega)⟩ ⟨Nat.le_of_ble_eq_true rfl, Nat.le_of_ble_eq_true rfl⟩ dX17_thing_147 (fun H locs hW => ?_)
      cases hf
  have B120 : ∀ (r0 : Nat) (x2 : Int32) (w0 : Nat) (s : ST), t_X17_thing_b120 F r0 x2 w0 s = some (pl, s1) → ∀ (H : Heap) (locs : List Loc) (ls : Array Slot), lv_has ls 3 [(0, .ref (a r0)), (2, .int x2)] → AW G a A s s0.heap H locs → WT p l e (rmA (125 + (d + 1)) 1 7) s0 m args below meth c H locs G A (XCF G a s1 pl A) 120 ls [.ref (a w0)] := by
    intro r0 x2 w0 s hf H locs ls hl hW
    unfold t_X17_thing_b120 at hf
    refine lv_iconst (v := 0) hx hb dX17_thing_120 (by decide) ?_
    exact B121 r0 x2 0 w0 s hf _ _ _ (lv_sub hl [0, 1] rfl) hW
  have B36 : ∀ (r0 : Nat) (x1 : Int32) (t0 : Int32) (w1 : Nat) (s : ST), t_X17_thing_b36 F r0 x1 t0 w1 s = some (pl, s1) → ∀ (H : Heap) (locs : List Loc) (ls : Array Slot), lv_has ls 3 [(0, .ref (a r0)), (1, .int x1)] → AW G a A s s0.heap H locs → WT p l e (rmA (125 + (d + 1)) 1 7) s0 m args below meth c H locs G A (XCF G a s1 pl A) 36 ls [.int t0, .ref (a w1)] := by
    intro r0 x1 t0 w1 s hf H locs ls hl hW
    unfold t_X17_thing_b36 at hf
    obtain ⟨g36, hf⟩ := gd_some hf
    rcases ox_some hf with ht36 | hf
    · exact aw_tprop (aw_trU (r := w1) (As := [.int t0]) (rest := []) (tt_X15_needw l hlt G a w1 t0 s pl s1 ht36) hC hW hl.1 uy_X17_X17_X15_need q726 g36 rfl rfl rfl (Nat.le_of_ble_eq_true rfl) ⟨(by show 5 + 1 ≤ (125 + (d + 1)); omega), (by show 8 + (2 + 11) + 40 * 5 ≤ 40 * (125 + (d + 1)); omega)⟩ ⟨Nat.le_of_ble_eq_true rfl, Nat.le_of_ble_eq_true rfl⟩ dX17_thing_36) hC hno hW
    obtain ⟨_, s36, h36, hf⟩ := ob_some hf
    refine aw_dU0 (r := w1) (As := [.int t0]) (rest := []) (ct_X15_needw l G a w1 t0 s () s36 h36) hC hW hl.1 uy_X17_X17_X15_need q726 g36 rfl rfl rfl (Nat.le_of_ble_eq_true rfl) ⟨(by show 0 + 1 ≤ (125 + (d + 1)); omega), (by show 8 + (2 + 11) + 40 * 0 ≤ 40 * (125 + (d + 1)); omega)⟩ ⟨Nat.le_of_ble_eq_true rfl, Nat.le_of_ble_eq_true rfl⟩ dX17_thing_36 (fun H locs hW => ?_)
    refine lv_aload_n hx hb dX17_thing_39 rfl (lv_at hl 0 rfl) ?_
    refine lv_dup hx hb dX17_thing_40 rfl ?_
    obtain ⟨g41, hf⟩ := gd_some hf
    refine aw_gI hC hW g41 fl_X17_31 rfl dX17_thing_41 ?_
    refine lv_iconst (v := 1) hx hb dX17_thing_44 (by decide) ?_
    refine lv_iadd hx hb dX17_thing_45 ?_
    obtain ⟨s46, e46, hf⟩ := bnd_some hf
    refine aw_pI e46 hC hW g41 fl_X17_31 (Or.inl fn_16_3) rfl rfl rfl dX17_thing_46 (fun H locs hW => ?_)
    have g41 := ko_pI e46 g41
    refine lv_aload_n hx hb dX17_thing_49 rfl (lv_at hl 0 rfl) ?_
    refine lv_iload_n hx hb dX17_thing_50 rfl (lv_at hl 1 rfl) ?_
    refine lv_iconst (v := 1) hx hb dX17_thing_51 (by decide) ?_
    refine lv_iadd hx hb dX17_thing_52 ?_
    rcases ox_some hf with ht53 | hf
    · exact aw_tprop (aw_trV (r := r0) (As := [.int (x1 + 1)]) (rest := []) (hF0 r0 (x1 + 1) s46 pl s1 ht53) hC hW hl.1 vy_X17_held q702 g41 rfl rfl rfl rfl (Nat.le_of_ble_eq_true rfl) ⟨(by show (125 + d) + 1 ≤ (125 + (d + 1)); omega), (by show 8 + (3 + 11) + 40 * (125 + d) ≤ 40 * (125 + (d + 1)); omega)⟩ ⟨Nat.le_of_ble_eq_true rfl, Nat.le_of_ble_eq_true rfl⟩ dX17_thing_53) hC hno hW
    obtain ⟨v53, s53, h53, hf⟩ := ob_some hf
    refine aw_dV1 (r := r0) (As := [.int (x1 + 1)]) (rest := []) (ct_X17_held l G a r0 (x1 + 1) s46 v53 s53 h53) hC hW hl.1 vy_X17_held (Or.inl q702) g41 rfl rfl rfl rfl (Nat.le_of_ble_eq_true rfl) ⟨(by show 120 + 1 ≤ (125 + (d + 1)); omega), (by show 8 + (3 + 11) + 40 * 120 ≤ 40 * (125 + (d + 1)); omega)⟩ ⟨Nat.le_of_ble_eq_true rfl, Nat.le_of_ble_eq_true rfl⟩ dX17_thing_53 (fun H locs hW => ?_)
    refine lv_istore_n (lv' := [(2, .int v53), (0, .ref (a r0)), (1, .int x1)]) hx hb dX17_thing_56 rfl hl (by decide) rfl (fun ls hl => ?_)
    refine lv_aload_n hx hb dX17_thing_57 rfl (lv_at hl 1 rfl) ?_
    refine lv_aload_n hx hb dX17_thing_58 rfl (lv_at hl 1 rfl) ?_
    refine lv_bipush (v := 41) hx hb dX17_thing_59 (by decide) ?_
    obtain ⟨g61, hf⟩ := gd_some hf
    obtain ⟨v61, s61, h61, hf⟩ := ob_some hf
    refine aw_dU1 (r := r0) (As := [.int 41]) (rest := [.ref (a r0)]) (ct_X15_passesw l G a r0 41 s53 v61 s61 h61) hC hW hl.1 uy_X17_X17_X15_passes q718 g61 rfl rfl rfl (Nat.le_of_ble_eq_true rfl) ⟨(by show 1 + 1 ≤ (125 + (d + 1)); omega), (by show 8 + (2 + 11) + 40 * 1 ≤ 40 * (125 + (d + 1)); omega)⟩ ⟨Nat.le_of_ble_eq_true rfl, Nat.le_of_ble_eq_true rfl⟩ dX17_thing_61 (fun H locs hW => ?_)
    obtain ⟨g64, hf⟩ := gd_some hf
    rcases ox_some hf with ht64 | hf
    · exact aw_tprop (aw_trU (r := r0) (As := [.int v61]) (rest := []) (tt_X15_needw l hlt G a r0 v61 s61 pl s1 ht64) hC hW hl.1 uy_X17_X17_X15_need q726 g64 rfl rfl rfl (Nat.le_of_ble_eq_true rfl) ⟨(by show 5 + 1 ≤ (125 + (d + 1)); omega), (by show 8 + (2 + 11) + 40 * 5 ≤ 40 * (125 + (d + 1)); omega)⟩ ⟨Nat.le_of_ble_eq_true rfl, Nat.le_of_ble_eq_true rfl⟩ dX17_thing_64) hC hno hW
    obtain ⟨_, s64, h64, hf⟩ := ob_some hf
    refine aw_dU0 (r := r0) (As := [.int v61]) (rest := []) (ct_X15_needw l G a r0 v61 s61 () s64 h64) hC hW hl.1 uy_X17_X17_X15_need q726 g64 rfl rfl rfl (Nat.le_of_ble_eq_true rfl) ⟨(by show 0 + 1 ≤ (125 + (d + 1)); omega), (by show 8 + (2 + 11) + 40 * 0 ≤ 40 * (125 + (d + 1)); omega)⟩ ⟨Nat.le_of_ble_eq_true rfl, Nat.le_of_ble_eq_true rfl⟩ dX17_thing_64 (fun H locs hW => ?_)
    refine lv_iload_n hx hb dX17_thing_67 rfl (lv_at hl 0 rfl) ?_
    cases hf
  unfold t_X17_thing_r at hf
  refine lv_aload_n hx hb dX17_thing_0 rfl (lv_at hl 0 rfl) ?_
  refine lv_bipush (v := 45) hx hb dX17_thing_1 (by decide) ?_
  obtain ⟨g3, hf⟩ := gd_some hf
  obtain ⟨v3, s3, h3, hf⟩ := ob_some hf
  refine aw_dU1 (r := o) (As := [.int 45]) (rest := []) (ct_X15_passesw l G a o 45 s v3 s3 h3) hC hW hl.1 uy_X17_X17_X15_passes q718 g3 rfl rfl rfl (Nat.le_of_ble_eq_true rfl) ⟨(by show 1 + 1 ≤ (125 + (d + 1)); omega), (by show 8 + (2 + 11) + 40 * 1 ≤ 40 * (125 + (d + 1)); omega)⟩ ⟨Nat.le_of_ble_eq_true rfl, Nat.le_of_ble_eq_true rfl⟩ dX17_thing_3 (fun H locs hW => ?_)
  refine lv_if_eq (tgt := 16) hx hb dX17_thing_6 (by decide) (fun c6 => ?_) (fun c6 => ?_)
  · have hf := ifp c6 hf
    refine lv_aload_n hx hb dX17_thing_16 rfl (lv_at hl 0 rfl) ?_
    obtain ⟨g17, hf⟩ := gd_some hf
    obtain ⟨v17, s17, h17, hf⟩ := ob_some hf
    refine aw_dU1 (r := o) (As := []) (rest := []) (ct_X15_herew l G a o s3 v17 s17 h17) hC hW hl.1 uy_X17_X17_X15_here q722 g17 rfl rfl rfl (Nat.le_of_ble_eq_true rfl) ⟨(by show 0 + 1 ≤ (125 + (d + 1)); omega), (by show 8 + (1 + 11) + 40 * 0 ≤ 40 * (125 + (d + 1)); omega)⟩ ⟨Nat.le_of_ble_eq_true rfl, Nat.le_of_ble_eq_true rfl⟩ dX17_thing_17 (fun H locs hW => ?_)
    refine lv_bipush (v := 40) hx hb dX17_thing_20 (by decide) ?_
    refine lv_icmp_ne (tgt := 69) hx hb dX17_thing_22 (by decide) (fun c22 => ?_) (fun c22 => ?_)
    · have hf := ifn c22 hf
      refine lv_aload_n hx hb dX17_thing_69 rfl (lv_at hl 0 rfl) ?_
      obtain ⟨g70, hf⟩ := gd_some hf
      obtain ⟨v70, s70, h70, hf⟩ := ob_some hf
      refine aw_dU1 (r := o) (As := []) (rest := []) (ct_X15_herew l G a o s17 v70 s70 h70) hC hW hl.1 uy_X17_X17_X15_here q722 g70 rfl rfl rfl (Nat.le_of_ble_eq_true rfl) ⟨(by show 0 + 1 ≤ (125 + (d + 1)); omega), (by show 8 + (1 + 11) + 40 * 0 ≤ 40 * (125 + (d + 1)); omega)⟩ ⟨Nat.le_of_ble_eq_true rfl, Nat.le_of_ble_eq_true rfl⟩ dX17_thing_70 (fun H locs hW => ?_)
      refine lv_i2l (v := (v70 : Int32).toInt64) hx hb dX17_thing_73 rfl ?_
      refine lv_ldc2 (v := 48) hx hb hC.2.2.2.1 (hts _ q730) dX17_thing_74 ?_
      refine lv_ldc2 (v := 57) hx hb hC.2.2.2.1 (hts _ q731) dX17_thing_77 ?_
      obtain ⟨v80, ev80, hf⟩ := bnd_some hf
      refine aw_dS1 (As := [.long ((v70 : Int32).toInt64), .long 48, .long 57]) (rest := []) (pc_X1_in l G a ((v70 : Int32).toInt64) 48 57 s70) hC hW hl.1 sy_X1_in (Or.inr ⟨_, q732⟩) rfl rfl (Nat.le_of_ble_eq_true rfl) ⟨(by show 0 + 1 ≤ (125 + (d + 1)); omega), (by show 8 + (6 + 11) + 40 * 0 ≤ 40 * (125 + (d + 1)); omega)⟩ ⟨Nat.le_of_ble_eq_true rfl, Nat.le_of_ble_eq_true rfl⟩ dX17_thing_80 (fun H locs hW => ?_)
      refine top_i ev80 ?_
      refine lv_if_eq (tgt := 96) hx hb dX17_thing_83 (by decide) (fun c83 => ?_) (fun c83 => ?_)
      · have hf := ifp c83 hf
        refine lv_aload_n hx hb dX17_thing_96 rfl (lv_at hl 0 rfl) ?_
        obtain ⟨g97, hf⟩ := gd_some hf
        obtain ⟨v97, s97, h97, hf⟩ := ob_some hf
        refine aw_dU1 (r := o) (As := []) (rest := []) (ct_X15_herew l G a o s70 v97 s97 h97) hC hW hl.1 uy_X17_X17_X15_here q722 g97 rfl rfl rfl (Nat.le_of_ble_eq_true rfl) ⟨(by show 0 + 1 ≤ (125 + (d + 1)); omega), (by show 8 + (1 + 11) + 40 * 0 ≤ 40 * (125 + (d + 1)); omega)⟩ ⟨Nat.le_of_ble_eq_true rfl, Nat.le_of_ble_eq_true rfl⟩ dX17_thing_97 (fun H locs hW => ?_)
        refine lv_istore_n (lv' := [(2, .int v97), (0, .ref (a o)), (1, .int x1)]) hx hb dX17_thing_100 rfl hl (by decide) rfl (fun ls hl => ?_)
        refine lv_aload_n hx hb dX17_thing_101 rfl (lv_at hl 1 rfl) ?_
        refine lv_iload_n hx hb dX17_thing_102 rfl (lv_at hl 0 rfl) ?_
        refine lv_iconst (v := (-1)) hx hb dX17_thing_103 (by decide) ?_
        refine lv_icmp_eq (tgt := 120) hx hb dX17_thing_104 (by decide) (fun c104 => ?_) (fun c104 => ?_)
        · have hf := ifp c104 hf
          exact B120 o v97 o s97 hf _ _ _ (lv_sub hl [1, 0] rfl) hW
        · have hf := ifn c104 hf
          refine aw_ldcS 5 (by decide) rfl rfl hC dX17_thing_107 ?_
          refine lv_iload_n hx hb dX17_thing_109 rfl (lv_at hl 0 rfl) ?_
          obtain ⟨v110, s110, h110, hf⟩ := ob_some hf
          refine aw_dSt1 (i := 5) (As := [.int v97]) (rest := [.ref (a o)]) (by decide) (ct_J3_indexOf l G a 5 v97 s97 v110 s110 h110) hC hW hl.1 vy_J3_indexOf rfl q738 rfl rfl (Nat.le_of_ble_eq_true rfl) ⟨(by show 3 + 1 ≤ (125 + (d + 1)); omega), (by show 8 + (2 + 11) + 40 * 3 ≤ 40 * (125 + (d + 1)); omega)⟩ ⟨Nat.le_of_ble_eq_true rfl, Nat.le_of_ble_eq_true rfl⟩ dX17_thing_110 (fun H locs hW => ?_)
          refine lv_if_lt (tgt := 120) hx hb dX17_thing_113 (by decide) (fun c113 => ?_) (fun c113 => ?_)
          · have hf := ifp c113 hf
            exact B120 o v97 o s110 hf _ _ _ (lv_sub hl [1, 0] rfl) hW
          · have hf := ifn c113 hf
            refine lv_iconst (v := 1) hx hb dX17_thing_116 (by decide) ?_
            refine lv_goto (tgt := 121) hx hb dX17_thing_117 (by decide) ?_
            exact B121 o v97 1 o s110 hf _ _ _ (lv_sub hl [1, 0] rfl) hW
      · have hf := ifn c83 hf
        refine lv_aload_n hx hb dX17_thing_86 rfl (lv_at hl 0 rfl) ?_
        refine lv_iconst (v := 3) hx hb dX17_thing_87 (by decide) ?_
        refine lv_iconst (v := 0) hx hb dX17_thing_88 (by decide) ?_
        refine lv_sipush (v := 999) hx hb dX17_thing_89 (by decide) ?_
        obtain ⟨g92, hf⟩ := gd_some hf
        rcases ox_some hf with ht92 | hf
        · exact aw_tprop (aw_trU (r := o) (As := [.int 3, .int 0, .int 999]) (rest := []) (tt_X15_numberw l hlt G a o 3 0 999 s70 pl s1 ht92) hC hW hl.1 uy_X17_X17_X15_number q733 g92 rfl rfl rfl (Nat.le_of_ble_eq_true rfl) ⟨(by show 6 + 1 ≤ (125 + (d + 1)); omega), (by show 8 + (6 + 11) + 40 * 6 ≤ 40 * (125 + (d + 1)); omega)⟩ ⟨Nat.le_of_ble_eq_true rfl, Nat.le_of_ble_eq_true rfl⟩ dX17_thing_92) hC hno hW
        obtain ⟨v92, s92, h92, hf⟩ := ob_some hf
        refine aw_dU1 (r := o) (As := [.int 3, .int 0, .int 999]) (rest := []) (ct_X15_numberw l G a o 3 0 999 s70 v92 s92 h92) hC hW hl.1 uy_X17_X17_X15_number q733 g92 rfl rfl rfl (Nat.le_of_ble_eq_true rfl) ⟨(by show 1 + 1 ≤ (125 + (d + 1)); omega), (by show 8 + (6 + 11) + 40 * 1 ≤ 40 * (125 + (d + 1)); omega)⟩ ⟨Nat.le_of_ble_eq_true rfl, Nat.le_of_ble_eq_true rfl⟩ dX17_thing_92 (fun H locs hW => ?_)
        cases hf
    · have hf := ifp c22 hf
      refine lv_aload_n hx hb dX17_thing_25 rfl (lv_at hl 0 rfl) ?_
      refine lv_iload_n hx hb dX17_thing_26 rfl (lv_at hl 1 rfl) ?_
      refine lv_iconst (v := 4) hx hb dX17_thing_27 (by decide) ?_
      refine lv_icmp_ge (tgt := 35) hx hb dX17_thing_28 (by decide) (fun c28 => ?_) (fun c28 => ?_)
      · have hf := ifp c28 hf
        refine lv_iconst (v := 0) hx hb dX17_thing_35 (by decide) ?_
        exact B36 o x1 0 o s17 hf _ _ _ (lv_sub hl [0, 1] rfl) hW
      · have hf := ifn c28 hf
        refine lv_iconst (v := 1) hx hb dX17_thing_31 (by decide) ?_
        refine lv_goto (tgt := 36) hx hb dX17_thing_32 (by decide) ?_
        exact B36 o x1 1 o s17 hf _ _ _ (lv_sub hl [0, 1] rfl) hW
  · have hf := ifn c6 hf
    refine lv_aload_n hx hb dX17_thing_9 rfl (lv_at hl 0 rfl) ?_
    refine lv_iload_n hx hb dX17_thing_10 rfl (lv_at hl 1 rfl) ?_
    obtain ⟨g11, hf⟩ := gd_some hf
    rcases ox_some hf with ht11 | hf
    · exact aw_tprop (aw_trV (r := o) (As := [.int x1]) (rest := []) (hF3 o x1 s3 pl s1 ht11) hC hW hl.1 vy_X17_thing q714 g11 rfl rfl rfl rfl (Nat.le_of_ble_eq_true rfl) ⟨(by show (125 + d) + 1 ≤ (125 + (d + 1)); omega), (by show 8 + (3 + 11) + 40 * (125 + d) ≤ 40 * (125 + (d + 1)); omega)⟩ ⟨Nat.le_of_ble_eq_true rfl, Nat.le_of_ble_eq_true rfl⟩ dX17_thing_11) hC hno hW
    obtain ⟨v11, s11, h11, hf⟩ := ob_some hf
    refine aw_dV1 (r := o) (As := [.int x1]) (rest := []) (ct_X17_thing l G a o x1 s3 v11 s11 h11) hC hW hl.1 vy_X17_thing (Or.inl q714) g11 rfl rfl rfl rfl (Nat.le_of_ble_eq_true rfl) ⟨(by show 120 + 1 ≤ (125 + (d + 1)); omega), (by show 8 + (3 + 11) + 40 * 120 ≤ 40 * (125 + (d + 1)); omega)⟩ ⟨Nat.le_of_ble_eq_true rfl, Nat.le_of_ble_eq_true rfl⟩ dX17_thing_11 (fun H locs hW => ?_)
    refine lv_ineg hx hb dX17_thing_14 ?_
    cases hf
def tg_will : Nat → Nat → Nat → Int32 → ST → Option (Int32 × ST)
  | 0, _, _, _, _ => none
  | d + 1, k, o, x, s => if k = 0 then t_X17_held_r (tg_will d) o x s else if k = 1 then t_X17_sum_r (tg_will d) o x s else if k = 2 then t_X17_product_r (tg_will d) o x s else t_X17_thing_r (tg_will d) o x s
theorem tt_g_will (l : Launch) (hlt : l.stackTraces = false) (G : GM) (a : Nat → Nat) : ∀ d : Nat, (∀ (o : Nat) (x1 : Int32) (s : ST) (pl : Int32) (s1 : ST), tg_will d 0 o x1 s = some (pl, s1) → TM l G yX17_held (ws_ yX17_held cX17_held 3 (some .int)) (125 + d) [.ref (a o), .int x1] a s pl s1) ∧ (∀ (o : Nat) (x1 : Int32) (s : ST) (pl : Int32) (s1 : ST), tg_will d 1 o x1 s = some (pl, s1) → TM l G yX17_sum (ws_ yX17_sum cX17_sum 5 (some .int)) (125 + d) [.ref (a o), .int x1] a s pl s1) ∧ (∀ (o : Nat) (x1 : Int32) (s : ST) (pl : Int32) (s1 : ST), tg_will d 2 o x1 s = some (pl, s1) → TM l G yX17_product (ws_ yX17_product cX17_product 5 (some .int)) (125 + d) [.ref (a o), .int x1] a s pl s1) ∧ (∀ (o : Nat) (x1 : Int32) (s : ST) (pl : Int32) (s1 : ST), tg_will d 3 o x1 s = some (pl, s1) → TM l G yX17_thing (ws_ yX17_thing cX17_thing 3 (some .int)) (125 + d) [.ref (a o), .int x1] a s pl s1) := by
  intro d
  induction d with
  | zero => exact ⟨(by intro o x1 s pl s1 hf; cases hf), (by intro o x1 s pl s1 hf; cases hf), (by intro o x1 s pl s1 hf; cases hf), (by intro o x1 s pl s1 hf; cases hf)⟩
  | succ d ih =>
    obtain ⟨hF0, hF1, hF2, hF3⟩ := ih
    have r0 : ∀ (o : Nat) (x1 : Int32) (s : ST) (pl : Int32) (s1 : ST), tg_will (d + 1) 0 o x1 s = some (pl, s1) → TM l G yX17_held (ws_ yX17_held cX17_held 3 (some .int)) (125 + (d + 1)) [.ref (a o), .int x1] a s pl s1 := by
      intro o x1 s pl s1 hf
      exact tt_X17_held_r l hlt G a d (tg_will d) hF0 hF1 hF2 hF3 o x1 s pl s1 hf
    have r1 : ∀ (o : Nat) (x1 : Int32) (s : ST) (pl : Int32) (s1 : ST), tg_will (d + 1) 1 o x1 s = some (pl, s1) → TM l G yX17_sum (ws_ yX17_sum cX17_sum 5 (some .int)) (125 + (d + 1)) [.ref (a o), .int x1] a s pl s1 := by
      intro o x1 s pl s1 hf
      exact tt_X17_sum_r l hlt G a d (tg_will d) hF0 hF1 hF2 hF3 o x1 s pl s1 hf
    have r2 : ∀ (o : Nat) (x1 : Int32) (s : ST) (pl : Int32) (s1 : ST), tg_will (d + 1) 2 o x1 s = some (pl, s1) → TM l G yX17_product (ws_ yX17_product cX17_product 5 (some .int)) (125 + (d + 1)) [.ref (a o), .int x1] a s pl s1 := by
      intro o x1 s pl s1 hf
      exact tt_X17_product_r l hlt G a d (tg_will d) hF0 hF1 hF2 hF3 o x1 s pl s1 hf
    have r3 : ∀ (o : Nat) (x1 : Int32) (s : ST) (pl : Int32) (s1 : ST), tg_will (d + 1) 3 o x1 s = some (pl, s1) → TM l G yX17_thing (ws_ yX17_thing cX17_thing 3 (some .int)) (125 + (d + 1)) [.ref (a o), .int x1] a s pl s1 := by
      intro o x1 s pl s1 hf
      exact tt_X17_thing_r l hlt G a d (tg_will d) hF0 hF1 hF2 hF3 o x1 s pl s1 hf
    exact ⟨r0, r1, r2, r3⟩
def t_X17_held (o : Nat) (x1 : Int32) (s : ST) : Option (Int32 × ST) := tg_will 100 0 o x1 s
theorem tt_X17_held (l : Launch) (hlt : l.stackTraces = false) (G : GM) (a : Nat → Nat) (o : Nat) (x1 : Int32) (s : ST) (pl : Int32) (s1 : ST) (hf : t_X17_held o x1 s = some (pl, s1)) : TM l G yX17_held (ws_ yX17_held cX17_held 3 (some .int)) 225 [.ref (a o), .int x1] a s pl s1 := (tt_g_will l hlt G a 100).1 o x1 s pl s1 hf
def t_X17_sum (o : Nat) (x1 : Int32) (s : ST) : Option (Int32 × ST) := tg_will 100 1 o x1 s
theorem tt_X17_sum (l : Launch) (hlt : l.stackTraces = false) (G : GM) (a : Nat → Nat) (o : Nat) (x1 : Int32) (s : ST) (pl : Int32) (s1 : ST) (hf : t_X17_sum o x1 s = some (pl, s1)) : TM l G yX17_sum (ws_ yX17_sum cX17_sum 5 (some .int)) 225 [.ref (a o), .int x1] a s pl s1 := (tt_g_will l hlt G a 100).2.1 o x1 s pl s1 hf
def t_X17_product (o : Nat) (x1 : Int32) (s : ST) : Option (Int32 × ST) := tg_will 100 2 o x1 s
theorem tt_X17_product (l : Launch) (hlt : l.stackTraces = false) (G : GM) (a : Nat → Nat) (o : Nat) (x1 : Int32) (s : ST) (pl : Int32) (s1 : ST) (hf : t_X17_product o x1 s = some (pl, s1)) : TM l G yX17_product (ws_ yX17_product cX17_product 5 (some .int)) 225 [.ref (a o), .int x1] a s pl s1 := (tt_g_will l hlt G a 100).2.2.1 o x1 s pl s1 hf
def t_X17_thing (o : Nat) (x1 : Int32) (s : ST) : Option (Int32 × ST) := tg_will 100 3 o x1 s
theorem tt_X17_thing (l : Launch) (hlt : l.stackTraces = false) (G : GM) (a : Nat → Nat) (o : Nat) (x1 : Int32) (s : ST) (pl : Int32) (s1 : ST) (hf : t_X17_thing o x1 s = some (pl, s1)) : TM l G yX17_thing (ws_ yX17_thing cX17_thing 3 (some .int)) 225 [.ref (a o), .int x1] a s pl s1 := (tt_g_will l hlt G a 100).2.2.2 o x1 s pl s1 hf
def t_X17_read (o : Nat) (s : ST) : Option (Int32 × ST) :=
  gd (o < s.1 ∧ (kd s o).1 = 17) <|
  ox (t_X17_held o 0 s) <|
  ob (f_X17_held o 0 s) fun v2 s2 =>
  gd (o < s2.1 ∧ (kd s2 o).1 = 17) <|
  ox (t_X15_needEndw o s2) <|
  ob (f_X15_needEndw o s2) fun _ s7 =>
  none
set_option maxHeartbeats 4000000 in
theorem tt_X17_read (l : Launch) (hlt : l.stackTraces = false) (G : GM) (a : Nat → Nat) (o : Nat) (s : ST) (pl : Int32) (s1 : ST) (hf : t_X17_read o s = some (pl, s1)) : TM l G yX17_read (ws_ yX17_read cX17_read 1 (some (.object "HeavierServes$Will"))) 226 [.ref (a o)] a s pl s1 := by
  refine tm_of (d := 226) (lv := [(0, .ref (a o))]) (by decide) (Nat.le_of_ble_eq_true rfl) rfl ?_
  intro p e s0 m args below meth c ls A hC hno hW hl
  have hx := hC.1
  have hb := hC.2.1
  have hts := hC.2.2.2.2.1
  unfold t_X17_read at hf
  refine lv_aload_n hx hb dX17_read_0 rfl (lv_at hl 0 rfl) ?_
  refine lv_iconst (v := 0) hx hb dX17_read_1 (by decide) ?_
  obtain ⟨g2, hf⟩ := gd_some hf
  rcases ox_some hf with ht2 | hf
  · exact aw_tprop (aw_trV (r := o) (As := [.int 0]) (rest := []) (tt_X17_held l hlt G a o 0 s pl s1 ht2) hC hW hl.1 vy_X17_held q702 g2 rfl rfl rfl rfl (Nat.le_of_ble_eq_true rfl) ⟨Nat.le_of_ble_eq_true rfl, Nat.le_of_ble_eq_true rfl⟩ ⟨Nat.le_of_ble_eq_true rfl, Nat.le_of_ble_eq_true rfl⟩ dX17_read_2) hC hno hW
  obtain ⟨v2, s2, h2, hf⟩ := ob_some hf
  refine aw_dV1 (r := o) (As := [.int 0]) (rest := []) (ct_X17_held l G a o 0 s v2 s2 h2) hC hW hl.1 vy_X17_held (Or.inl q702) g2 rfl rfl rfl rfl (Nat.le_of_ble_eq_true rfl) ⟨Nat.le_of_ble_eq_true rfl, Nat.le_of_ble_eq_true rfl⟩ ⟨Nat.le_of_ble_eq_true rfl, Nat.le_of_ble_eq_true rfl⟩ dX17_read_2 (fun H locs hW => ?_)
  refine lv_pop hx hb dX17_read_5 rfl ?_
  refine lv_aload_n hx hb dX17_read_6 rfl (lv_at hl 0 rfl) ?_
  obtain ⟨g7, hf⟩ := gd_some hf
  rcases ox_some hf with ht7 | hf
  · exact aw_tprop (aw_trU (r := o) (As := []) (rest := []) (tt_X15_needEndw l hlt G a o s2 pl s1 ht7) hC hW hl.1 uy_X17_X17_X15_needEnd q840 g7 rfl rfl rfl (Nat.le_of_ble_eq_true rfl) ⟨Nat.le_of_ble_eq_true rfl, Nat.le_of_ble_eq_true rfl⟩ ⟨Nat.le_of_ble_eq_true rfl, Nat.le_of_ble_eq_true rfl⟩ dX17_read_7) hC hno hW
  obtain ⟨_, s7, h7, hf⟩ := ob_some hf
  refine aw_dU0 (r := o) (As := []) (rest := []) (ct_X15_needEndw l G a o s2 () s7 h7) hC hW hl.1 uy_X17_X17_X15_needEnd q840 g7 rfl rfl rfl (Nat.le_of_ble_eq_true rfl) ⟨Nat.le_of_ble_eq_true rfl, Nat.le_of_ble_eq_true rfl⟩ ⟨Nat.le_of_ble_eq_true rfl, Nat.le_of_ble_eq_true rfl⟩ dX17_read_7 (fun H locs hW => ?_)
  refine lv_aload_n hx hb dX17_read_10 rfl (lv_at hl 0 rfl) ?_
  cases hf
