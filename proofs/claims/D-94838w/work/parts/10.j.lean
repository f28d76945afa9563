set_option maxRecDepth 100000
def f_J0_max (x0 : Int32) (x1 : Int32) (s : ST) : Option (Int32 × ST) :=
  if x0 < x1 then (some (x1, s)) else some (x0, s)
set_option maxHeartbeats 4000000 in
theorem ct_J0_max (l : Launch) (G : GM) (a : Nat → Nat) (x0 : Int32) (x1 : Int32) (s : ST) (rv : Int32) (sf : ST) (hf : f_J0_max x0 x1 s = some (rv, sf)) : MD l G yJ0_max (ws_ yJ0_max cJ0_max 2 (some .int)) 0 [.int x0, .int x1] a s (some (.int rv)) sf := by
  refine md_of (d := 0) (lv := [(0, .int x0), (1, .int x1)]) (Or.inr (by decide +kernel)) (Nat.le_of_ble_eq_true rfl) rfl ?_
  intro p e s0 m args below meth c ls A P hP hC hr hnm hW hl
  have hx := hC.1
  have hb := hC.2.1
  have hts := hC.2.2.2.2.1
  unfold f_J0_max at hf
  refine lv_iload_n hx hb dJ0_max_0 rfl (lv_at hl 0 rfl) ?_
  refine lv_iload_n hx hb dJ0_max_1 rfl (lv_at hl 1 rfl) ?_
  refine lv_icmp_lt (tgt := 9) hx hb dJ0_max_2 (by decide) (fun c2 => ?_) (fun c2 => ?_)
  · have hf := ifp c2 hf
    refine lv_iload_n hx hb dJ0_max_9 rfl (lv_at hl 1 rfl) ?_
    obtain ⟨e1, e2⟩ := so_inj hf
    exact aw_iret hC hW hr rfl (p_eq hP (congrArg (fun z => some (Value.int z)) e1) e2) (Nat.le_of_ble_eq_true rfl) (Nat.le_of_ble_eq_true rfl) dJ0_max_10
  · have hf := ifn c2 hf
    refine lv_iload_n hx hb dJ0_max_5 rfl (lv_at hl 0 rfl) ?_
    refine lv_goto (tgt := 10) hx hb dJ0_max_6 (by decide) ?_
    obtain ⟨e1, e2⟩ := so_inj hf
    exact aw_iret hC hW hr rfl (p_eq hP (congrArg (fun z => some (Value.int z)) e1) e2) (Nat.le_of_ble_eq_true rfl) (Nat.le_of_ble_eq_true rfl) dJ0_max_10
theorem pf_J0_max (x0 : Int32) (x1 : Int32) (s : ST) : f_J0_max x0 x1 s = some (p_max x0 x1, s) := by
  unfold f_J0_max p_max
  split <;> rfl
theorem pc_J0_max (l : Launch) (G : GM) (a : Nat → Nat) (x0 : Int32) (x1 : Int32) (s : ST) : MD l G yJ0_max (ws_ yJ0_max cJ0_max 2 (some .int)) 0 [.int x0, .int x1] a s (some (.int (p_max x0 x1))) s := ct_J0_max l G a x0 x1 s _ _ (pf_J0_max x0 x1 s)
def f_J0_min (x0 : Int32) (x1 : Int32) (s : ST) : Option (Int32 × ST) :=
  if x1 < x0 then (some (x1, s)) else some (x0, s)
set_option maxHeartbeats 4000000 in
theorem ct_J0_min (l : Launch) (G : GM) (a : Nat → Nat) (x0 : Int32) (x1 : Int32) (s : ST) (rv : Int32) (sf : ST) (hf : f_J0_min x0 x1 s = some (rv, sf)) : MD l G yJ0_min (ws_ yJ0_min cJ0_min 2 (some .int)) 0 [.int x0, .int x1] a s (some (.int rv)) sf := by
  refine md_of (d := 0) (lv := [(0, .int x0), (1, .int x1)]) (Or.inr (by decide +kernel)) (Nat.le_of_ble_eq_true rfl) rfl ?_
  intro p e s0 m args below meth c ls A P hP hC hr hnm hW hl
  have hx := hC.1
  have hb := hC.2.1
  have hts := hC.2.2.2.2.1
  unfold f_J0_min at hf
  refine lv_iload_n hx hb dJ0_min_0 rfl (lv_at hl 0 rfl) ?_
  refine lv_iload_n hx hb dJ0_min_1 rfl (lv_at hl 1 rfl) ?_
  refine lv_icmp_gt (tgt := 9) hx hb dJ0_min_2 (by decide) (fun c2 => ?_) (fun c2 => ?_)
  · have hf := ifp c2 hf
    refine lv_iload_n hx hb dJ0_min_9 rfl (lv_at hl 1 rfl) ?_
    obtain ⟨e1, e2⟩ := so_inj hf
    exact aw_iret hC hW hr rfl (p_eq hP (congrArg (fun z => some (Value.int z)) e1) e2) (Nat.le_of_ble_eq_true rfl) (Nat.le_of_ble_eq_true rfl) dJ0_min_10
  · have hf := ifn c2 hf
    refine lv_iload_n hx hb dJ0_min_5 rfl (lv_at hl 0 rfl) ?_
    refine lv_goto (tgt := 10) hx hb dJ0_min_6 (by decide) ?_
    obtain ⟨e1, e2⟩ := so_inj hf
    exact aw_iret hC hW hr rfl (p_eq hP (congrArg (fun z => some (Value.int z)) e1) e2) (Nat.le_of_ble_eq_true rfl) (Nat.le_of_ble_eq_true rfl) dJ0_min_10
theorem pf_J0_min (x0 : Int32) (x1 : Int32) (s : ST) : f_J0_min x0 x1 s = some (p_min x0 x1, s) := by
  unfold f_J0_min p_min
  split <;> rfl
theorem pc_J0_min (l : Launch) (G : GM) (a : Nat → Nat) (x0 : Int32) (x1 : Int32) (s : ST) : MD l G yJ0_min (ws_ yJ0_min cJ0_min 2 (some .int)) 0 [.int x0, .int x1] a s (some (.int (p_min x0 x1))) s := ct_J0_min l G a x0 x1 s _ _ (pf_J0_min x0 x1 s)
def f_J12_fill_b5 : Nat → Nat → Int32 → Int32 → Int32 → ST → Option (Unit × ST)
  | 0, _, _, _, _, _ => none
  | n + 1, r0, x1, x2, x3, s =>
  if x3 ≤ x2 then (some ((), s)) else gd (r0 < s.1 ∧ (kd s r0).1 = 100 ∧ ¬ ((x2 : Int32) < 0 ∨ (kd s r0).2 ≤ (x2 : Int32).toNatClampNeg)) <|
  bnd (pI s r0 (x2 : Int32).toNatClampNeg x1) fun s13 =>
  bnd (x2 + 1 : Int32) fun v14 =>
  f_J12_fill_b5 n r0 x1 v14 x3 s13
def f_J12_fill (r0 : Nat) (x1 : Int32) (s : ST) : Option (Unit × ST) :=
  gd (r0 < s.1 ∧ 100 ≤ (kd s r0).1 ∧ (kd s r0).1 < 108) <|
  bnd ((Int32.ofNat (kd s r0).2) : Int32) fun v4 =>
  f_J12_fill_b5 fuel r0 x1 0 v4 s
set_option maxHeartbeats 4000000 in
theorem ct_J12_fill (l : Launch) (G : GM) (a : Nat → Nat) (r0 : Nat) (x1 : Int32) (s : ST) (rv : Unit) (sf : ST) (hf : f_J12_fill r0 x1 s = some (rv, sf)) : MD l G yJ12_fill (ws_ yJ12_fill cJ12_fill 4 none) 0 [.ref (a r0), .int x1] a s none sf := by
  refine md_of (d := 0) (lv := [(0, .ref (a r0)), (1, .int x1)]) (Or.inr (by decide +kernel)) (Nat.le_of_ble_eq_true rfl) rfl ?_
  intro p e s0 m args below meth c ls A P hP hC hr hnm hW hl
  have hx := hC.1
  have hb := hC.2.1
  have hts := hC.2.2.2.2.1
  have B5 : ∀ (n : Nat), ∀ (r0 : Nat) (x1 : Int32) (x2 : Int32) (x3 : Int32) (s : ST), f_J12_fill_b5 n r0 x1 x2 x3 s = some (rv, sf) → ∀ (H : Heap) (locs : List Loc) (ls : Array Slot), lv_has ls 4 [(0, .ref (a r0)), (1, .int x1), (2, .int x2), (3, .int x3)] → AW G a A s s0.heap H locs → WB p l e (rmD 0) s0 m args below meth c H locs G A P 5 ls [] := by
    intro n
    induction n with
    | zero => intro r0 x1 x2 x3 s hf; cases hf
    | succ n ih =>
      intro r0 x1 x2 x3 s hf H locs ls hl hW
      rw [f_J12_fill_b5] at hf
      refine lv_iload_n hx hb dJ12_fill_5 rfl (lv_at hl 2 rfl) ?_
      refine lv_iload_n hx hb dJ12_fill_6 rfl (lv_at hl 3 rfl) ?_
      refine lv_icmp_ge (tgt := 20) hx hb dJ12_fill_7 (by decide) (fun c7 => ?_) (fun c7 => ?_)
      · have hf := ifp c7 hf
        obtain ⟨e1, e2⟩ := so_inj hf
        exact aw_vret hC hW hr (p_eq hP rfl e2) (Nat.le_of_ble_eq_true rfl) (Nat.le_of_ble_eq_true rfl) dJ12_fill_20
      · have hf := ifn c7 hf
        refine lv_aload_n hx hb dJ12_fill_10 rfl (lv_at hl 0 rfl) ?_
        refine lv_iload_n hx hb dJ12_fill_11 rfl (lv_at hl 2 rfl) ?_
        refine lv_iload_n hx hb dJ12_fill_12 rfl (lv_at hl 1 rfl) ?_
        obtain ⟨g13, hf⟩ := gd_some hf
        obtain ⟨s13, e13, hf⟩ := bnd_some hf
        refine aw_iast e13 hC hW g13 dJ12_fill_13 (fun H locs hW => ?_)
        obtain ⟨v14, ev14, hf⟩ := bnd_some hf
        refine lv_iinc (v := v14) (lv' := [(2, .int v14), (0, .ref (a r0)), (1, .int x1), (3, .int x3)]) hx hb dJ12_fill_14 hl (k := 2) rfl (by rw [ev14]; rfl) (by decide) rfl (fun ls hl => ?_)
        refine lv_goto (tgt := 5) hx hb dJ12_fill_17 (by decide) ?_
        exact ih r0 x1 v14 x3 s13 hf _ _ _ (lv_sub hl [1, 2, 0, 3] rfl) hW
  unfold f_J12_fill at hf
  refine lv_iconst (v := 0) hx hb dJ12_fill_0 (by decide) ?_
  refine lv_istore_n (lv' := [(2, .int 0), (0, .ref (a r0)), (1, .int x1)]) hx hb dJ12_fill_1 rfl hl (by decide) rfl (fun ls hl => ?_)
  refine lv_aload_n hx hb dJ12_fill_2 rfl (lv_at hl 1 rfl) ?_
  obtain ⟨g3, hf⟩ := gd_some hf
  refine aw_alen hC hW g3 rfl dJ12_fill_3 ?_
  obtain ⟨v4, ev4, hf⟩ := bnd_some hf
  refine top_i ev4 ?_
  refine lv_istore_n (lv' := [(3, .int v4), (2, .int 0), (0, .ref (a r0)), (1, .int x1)]) hx hb dJ12_fill_4 rfl hl (by decide) rfl (fun ls hl => ?_)
  exact B5 fuel r0 x1 0 v4 s hf _ _ _ (lv_sub hl [2, 3, 1, 0] rfl) hW
def f_J12_fill_2_b6 : Nat → Nat → Int64 → Int32 → Int32 → ST → Option (Unit × ST)
  | 0, _, _, _, _, _ => none
  | n + 1, r0, y1, x3, x4, s =>
  if x4 ≤ x3 then (some ((), s)) else gd (r0 < s.1 ∧ (kd s r0).1 = 104 ∧ ¬ ((x3 : Int32) < 0 ∨ (kd s r0).2 ≤ (x3 : Int32).toNatClampNeg)) <|
  bnd (pL s r0 (x3 : Int32).toNatClampNeg y1) fun s15 =>
  bnd (x3 + 1 : Int32) fun v16 =>
  f_J12_fill_2_b6 n r0 y1 v16 x4 s15
def f_J12_fill_2 (r0 : Nat) (y1 : Int64) (s : ST) : Option (Unit × ST) :=
  gd (r0 < s.1 ∧ 100 ≤ (kd s r0).1 ∧ (kd s r0).1 < 108) <|
  bnd ((Int32.ofNat (kd s r0).2) : Int32) fun v4 =>
  f_J12_fill_2_b6 fuel r0 y1 0 v4 s
set_option maxHeartbeats 4000000 in
theorem ct_J12_fill_2 (l : Launch) (G : GM) (a : Nat → Nat) (r0 : Nat) (y1 : Int64) (s : ST) (rv : Unit) (sf : ST) (hf : f_J12_fill_2 r0 y1 s = some (rv, sf)) : MD l G yJ12_fill_2 (ws_ yJ12_fill_2 cJ12_fill_2 5 none) 0 [.ref (a r0), .long y1] a s none sf := by
  refine md_of (d := 0) (lv := [(0, .ref (a r0)), (1, .long y1)]) (Or.inr (by decide +kernel)) (Nat.le_of_ble_eq_true rfl) rfl ?_
  intro p e s0 m args below meth c ls A P hP hC hr hnm hW hl
  have hx := hC.1
  have hb := hC.2.1
  have hts := hC.2.2.2.2.1
  have B6 : ∀ (n : Nat), ∀ (r0 : Nat) (y1 : Int64) (x3 : Int32) (x4 : Int32) (s : ST), f_J12_fill_2_b6 n r0 y1 x3 x4 s = some (rv, sf) → ∀ (H : Heap) (locs : List Loc) (ls : Array Slot), lv_has ls 5 [(0, .ref (a r0)), (1, .long y1), (3, .int x3), (4, .int x4)] → AW G a A s s0.heap H locs → WB p l e (rmD 0) s0 m args below meth c H locs G A P 6 ls [] := by
    intro n
    induction n with
    | zero => intro r0 y1 x3 x4 s hf; cases hf
    | succ n ih =>
      intro r0 y1 x3 x4 s hf H locs ls hl hW
      rw [f_J12_fill_2_b6] at hf
      refine lv_iload_n hx hb dJ12_fill_2_6 rfl (lv_at hl 2 rfl) ?_
      refine lv_iload hx hb dJ12_fill_2_7 (lv_at hl 3 rfl) ?_
      refine lv_icmp_ge (tgt := 22) hx hb dJ12_fill_2_9 (by decide) (fun c9 => ?_) (fun c9 => ?_)
      · have hf := ifp c9 hf
        obtain ⟨e1, e2⟩ := so_inj hf
        exact aw_vret hC hW hr (p_eq hP rfl e2) (Nat.le_of_ble_eq_true rfl) (Nat.le_of_ble_eq_true rfl) dJ12_fill_2_22
      · have hf := ifn c9 hf
        refine lv_aload_n hx hb dJ12_fill_2_12 rfl (lv_at hl 0 rfl) ?_
        refine lv_iload_n hx hb dJ12_fill_2_13 rfl (lv_at hl 2 rfl) ?_
        refine lv_lload_n hx hb dJ12_fill_2_14 rfl (lv_at hl 1 rfl) ?_
        obtain ⟨g15, hf⟩ := gd_some hf
        obtain ⟨s15, e15, hf⟩ := bnd_some hf
        refine aw_last e15 hC hW g15 dJ12_fill_2_15 (fun H locs hW => ?_)
        obtain ⟨v16, ev16, hf⟩ := bnd_some hf
        refine lv_iinc (v := v16) (lv' := [(3, .int v16), (0, .ref (a r0)), (1, .long y1), (4, .int x4)]) hx hb dJ12_fill_2_16 hl (k := 2) rfl (by rw [ev16]; rfl) (by decide) rfl (fun ls hl => ?_)
        refine lv_goto (tgt := 6) hx hb dJ12_fill_2_19 (by decide) ?_
        exact ih r0 y1 v16 x4 s15 hf _ _ _ (lv_sub hl [1, 2, 0, 3] rfl) hW
  unfold f_J12_fill_2 at hf
  refine lv_iconst (v := 0) hx hb dJ12_fill_2_0 (by decide) ?_
  refine lv_istore_n (lv' := [(3, .int 0), (0, .ref (a r0)), (1, .long y1)]) hx hb dJ12_fill_2_1 rfl hl (by decide) rfl (fun ls hl => ?_)
  refine lv_aload_n hx hb dJ12_fill_2_2 rfl (lv_at hl 1 rfl) ?_
  obtain ⟨g3, hf⟩ := gd_some hf
  refine aw_alen hC hW g3 rfl dJ12_fill_2_3 ?_
  obtain ⟨v4, ev4, hf⟩ := bnd_some hf
  refine top_i ev4 ?_
  refine lv_istore (lv' := [(4, .int v4), (3, .int 0), (0, .ref (a r0)), (1, .long y1)]) hx hb dJ12_fill_2_4 hl (by decide) rfl (fun ls hl => ?_)
  exact B6 fuel r0 y1 0 v4 s hf _ _ _ (lv_sub hl [2, 3, 1, 0] rfl) hW
def f_J8_bitCount (x0 : Int32) (s : ST) : Option (Int32 × ST) :=
  bnd ((x0 - ((((x0).toUInt32 >>> ((1 : Int32).toUInt32 &&& Int32.toUInt32 31)).toInt32) &&& 1431655765)) : Int32) fun v9 =>
  bnd (((v9 &&& 858993459) + ((((v9).toUInt32 >>> ((2 : Int32).toUInt32 &&& Int32.toUInt32 31)).toInt32) &&& 858993459)) : Int32) fun v23 =>
  bnd (((v23 + (((v23).toUInt32 >>> ((4 : Int32).toUInt32 &&& Int32.toUInt32 31)).toInt32)) &&& 252645135) : Int32) fun v33 =>
  bnd ((v33 + (((v33).toUInt32 >>> ((8 : Int32).toUInt32 &&& Int32.toUInt32 31)).toInt32)) : Int32) fun v40 =>
  bnd ((v40 + (((v40).toUInt32 >>> ((16 : Int32).toUInt32 &&& Int32.toUInt32 31)).toInt32)) : Int32) fun v47 =>
  some ((v47 &&& 63), s)
set_option maxHeartbeats 4000000 in
theorem ct_J8_bitCount (l : Launch) (G : GM) (a : Nat → Nat) (x0 : Int32) (s : ST) (rv : Int32) (sf : ST) (hf : f_J8_bitCount x0 s = some (rv, sf)) : MD l G yJ8_bitCount (ws_ yJ8_bitCount cJ8_bitCount 1 (some .int)) 0 [.int x0] a s (some (.int rv)) sf := by
  refine md_of (d := 0) (lv := [(0, .int x0)]) (Or.inr (by decide +kernel)) (Nat.le_of_ble_eq_true rfl) rfl ?_
  intro p e s0 m args below meth c ls A P hP hC hr hnm hW hl
  have hx := hC.1
  have hb := hC.2.1
  have hts := hC.2.2.2.2.1
  unfold f_J8_bitCount at hf
  refine lv_iload_n hx hb dJ8_bitCount_0 rfl (lv_at hl 0 rfl) ?_
  refine lv_iload_n hx hb dJ8_bitCount_1 rfl (lv_at hl 0 rfl) ?_
  refine lv_iconst (v := 1) hx hb dJ8_bitCount_2 (by decide) ?_
  refine lv_iushr (v := ((x0).toUInt32 >>> ((1 : Int32).toUInt32 &&& Int32.toUInt32 31)).toInt32) hx hb dJ8_bitCount_3 rfl ?_
  refine lv_ldcw (v := 1431655765) hx hb hC.2.2.2.1 (hts _ q837) dJ8_bitCount_4 ?_
  refine lv_iand hx hb dJ8_bitCount_7 ?_
  refine lv_isub hx hb dJ8_bitCount_8 ?_
  obtain ⟨v9, ev9, hf⟩ := bnd_some hf
  refine top_i ev9 ?_
  refine lv_istore_n (lv' := [(0, .int v9)]) hx hb dJ8_bitCount_9 rfl hl (by decide) rfl (fun ls hl => ?_)
  refine lv_iload_n hx hb dJ8_bitCount_10 rfl (lv_at hl 0 rfl) ?_
  refine lv_ldcw (v := 858993459) hx hb hC.2.2.2.1 (hts _ q838) dJ8_bitCount_11 ?_
  refine lv_iand hx hb dJ8_bitCount_14 ?_
  refine lv_iload_n hx hb dJ8_bitCount_15 rfl (lv_at hl 0 rfl) ?_
  refine lv_iconst (v := 2) hx hb dJ8_bitCount_16 (by decide) ?_
  refine lv_iushr (v := ((v9).toUInt32 >>> ((2 : Int32).toUInt32 &&& Int32.toUInt32 31)).toInt32) hx hb dJ8_bitCount_17 rfl ?_
  refine lv_ldcw (v := 858993459) hx hb hC.2.2.2.1 (hts _ q838) dJ8_bitCount_18 ?_
  refine lv_iand hx hb dJ8_bitCount_21 ?_
  refine lv_iadd hx hb dJ8_bitCount_22 ?_
  obtain ⟨v23, ev23, hf⟩ := bnd_some hf
  refine top_i ev23 ?_
  refine lv_istore_n (lv' := [(0, .int v23)]) hx hb dJ8_bitCount_23 rfl hl (by decide) rfl (fun ls hl => ?_)
  refine lv_iload_n hx hb dJ8_bitCount_24 rfl (lv_at hl 0 rfl) ?_
  refine lv_iload_n hx hb dJ8_bitCount_25 rfl (lv_at hl 0 rfl) ?_
  refine lv_iconst (v := 4) hx hb dJ8_bitCount_26 (by decide) ?_
  refine lv_iushr (v := ((v23).toUInt32 >>> ((4 : Int32).toUInt32 &&& Int32.toUInt32 31)).toInt32) hx hb dJ8_bitCount_27 rfl ?_
  refine lv_iadd hx hb dJ8_bitCount_28 ?_
  refine lv_ldcw (v := 252645135) hx hb hC.2.2.2.1 (hts _ q839) dJ8_bitCount_29 ?_
  refine lv_iand hx hb dJ8_bitCount_32 ?_
  obtain ⟨v33, ev33, hf⟩ := bnd_some hf
  refine top_i ev33 ?_
  refine lv_istore_n (lv' := [(0, .int v33)]) hx hb dJ8_bitCount_33 rfl hl (by decide) rfl (fun ls hl => ?_)
  refine lv_iload_n hx hb dJ8_bitCount_34 rfl (lv_at hl 0 rfl) ?_
  refine lv_iload_n hx hb dJ8_bitCount_35 rfl (lv_at hl 0 rfl) ?_
  refine lv_bipush (v := 8) hx hb dJ8_bitCount_36 (by decide) ?_
  refine lv_iushr (v := ((v33).toUInt32 >>> ((8 : Int32).toUInt32 &&& Int32.toUInt32 31)).toInt32) hx hb dJ8_bitCount_38 rfl ?_
  refine lv_iadd hx hb dJ8_bitCount_39 ?_
  obtain ⟨v40, ev40, hf⟩ := bnd_some hf
  refine top_i ev40 ?_
  refine lv_istore_n (lv' := [(0, .int v40)]) hx hb dJ8_bitCount_40 rfl hl (by decide) rfl (fun ls hl => ?_)
  refine lv_iload_n hx hb dJ8_bitCount_41 rfl (lv_at hl 0 rfl) ?_
  refine lv_iload_n hx hb dJ8_bitCount_42 rfl (lv_at hl 0 rfl) ?_
  refine lv_bipush (v := 16) hx hb dJ8_bitCount_43 (by decide) ?_
  refine lv_iushr (v := ((v40).toUInt32 >>> ((16 : Int32).toUInt32 &&& Int32.toUInt32 31)).toInt32) hx hb dJ8_bitCount_45 rfl ?_
  refine lv_iadd hx hb dJ8_bitCount_46 ?_
  obtain ⟨v47, ev47, hf⟩ := bnd_some hf
  refine top_i ev47 ?_
  refine lv_istore_n (lv' := [(0, .int v47)]) hx hb dJ8_bitCount_47 rfl hl (by decide) rfl (fun ls hl => ?_)
  refine lv_iload_n hx hb dJ8_bitCount_48 rfl (lv_at hl 0 rfl) ?_
  refine lv_bipush (v := 63) hx hb dJ8_bitCount_49 (by decide) ?_
  refine lv_iand hx hb dJ8_bitCount_51 ?_
  obtain ⟨e1, e2⟩ := so_inj hf
  exact aw_iret hC hW hr rfl (p_eq hP (congrArg (fun z => some (Value.int z)) e1) e2) (Nat.le_of_ble_eq_true rfl) (Nat.le_of_ble_eq_true rfl) dJ8_bitCount_52
def f_X1_in (y0 : Int64) (y2 : Int64) (y4 : Int64) (s : ST) : Option (Int32 × ST) :=
  if (lg_cmp y0 y2) < 0 then (some (0, s)) else if 0 < (lg_cmp y0 y4) then (some (0, s)) else some (1, s)
set_option maxHeartbeats 4000000 in
theorem ct_X1_in (l : Launch) (G : GM) (a : Nat → Nat) (y0 : Int64) (y2 : Int64) (y4 : Int64) (s : ST) (rv : Int32) (sf : ST) (hf : f_X1_in y0 y2 y4 s = some (rv, sf)) : MD l G yX1_in (ws_ yX1_in cX1_in 6 (some .boolean)) 0 [.long y0, .long y2, .long y4] a s (some (.int rv)) sf := by
  refine md_of (d := 0) (lv := [(0, .long y0), (2, .long y2), (4, .long y4)]) (Or.inl (by decide)) (Nat.le_of_ble_eq_true rfl) rfl ?_
  intro p e s0 m args below meth c ls A P hP hC hr hnm hW hl
  have hx := hC.1
  have hb := hC.2.1
  have hts := hC.2.2.2.2.1
  unfold f_X1_in at hf
  refine lv_lload_n hx hb dX1_in_0 rfl (lv_at hl 0 rfl) ?_
  refine lv_lload_n hx hb dX1_in_1 rfl (lv_at hl 1 rfl) ?_
  refine W.lcmp hx hb dX1_in_2 ?_
  refine lv_if_lt (tgt := 17) hx hb dX1_in_3 (by decide) (fun c3 => ?_) (fun c3 => ?_)
  · have hf := ifp c3 hf
    refine lv_iconst (v := 0) hx hb dX1_in_17 (by decide) ?_
    obtain ⟨e1, e2⟩ := so_inj hf
    exact aw_iret hC hW hr rfl (p_eq hP (congrArg (fun z => some (Value.int z)) e1) e2) (Nat.le_of_ble_eq_true rfl) (Nat.le_of_ble_eq_true rfl) dX1_in_18
  · have hf := ifn c3 hf
    refine lv_lload_n hx hb dX1_in_6 rfl (lv_at hl 0 rfl) ?_
    refine lv_lload hx hb dX1_in_7 (lv_at hl 2 rfl) ?_
    refine W.lcmp hx hb dX1_in_9 ?_
    refine lv_if_gt (tgt := 17) hx hb dX1_in_10 (by decide) (fun c10 => ?_) (fun c10 => ?_)
    · have hf := ifp c10 hf
      refine lv_iconst (v := 0) hx hb dX1_in_17 (by decide) ?_
      obtain ⟨e1, e2⟩ := so_inj hf
      exact aw_iret hC hW hr rfl (p_eq hP (congrArg (fun z => some (Value.int z)) e1) e2) (Nat.le_of_ble_eq_true rfl) (Nat.le_of_ble_eq_true rfl) dX1_in_18
    · have hf := ifn c10 hf
      refine lv_iconst (v := 1) hx hb dX1_in_13 (by decide) ?_
      refine lv_goto (tgt := 18) hx hb dX1_in_14 (by decide) ?_
      obtain ⟨e1, e2⟩ := so_inj hf
      exact aw_iret hC hW hr rfl (p_eq hP (congrArg (fun z => some (Value.int z)) e1) e2) (Nat.le_of_ble_eq_true rfl) (Nat.le_of_ble_eq_true rfl) dX1_in_18
theorem pf_X1_in (y0 : Int64) (y2 : Int64) (y4 : Int64) (s : ST) : f_X1_in y0 y2 y4 s = some (p_in y0 y2 y4, s) := by
  unfold f_X1_in p_in
  by_cases h1 : y0 < y2
  · rw [if_pos (lgc_lt.mpr h1), if_neg (fun h => absurd h.1 (Int64.not_le.mpr h1))]
  · rw [if_neg (fun h => h1 (lgc_lt.mp h))]
    by_cases h2 : y4 < y0
    · rw [if_pos (lgc_gt.mpr h2), if_neg (fun h => absurd h.2 (Int64.not_le.mpr h2))]
    · rw [if_neg (fun h => h2 (lgc_gt.mp h)), if_pos ⟨Int64.not_lt.mp h1, Int64.not_lt.mp h2⟩]
theorem pc_X1_in (l : Launch) (G : GM) (a : Nat → Nat) (y0 : Int64) (y2 : Int64) (y4 : Int64) (s : ST) : MD l G yX1_in (ws_ yX1_in cX1_in 6 (some .boolean)) 0 [.long y0, .long y2, .long y4] a s (some (.int (p_in y0 y2 y4))) s := ct_X1_in l G a y0 y2 y4 s _ _ (pf_X1_in y0 y2 y4 s)
def f_X1_has (x0 : Int32) (x1 : Int32) (s : ST) : Option (Int32 × ST) :=
  if ((x0 >>> (x1 &&& 31)) &&& 1) = 1 then (some (1, s)) else some (0, s)
set_option maxHeartbeats 4000000 in
theorem ct_X1_has (l : Launch) (G : GM) (a : Nat → Nat) (x0 : Int32) (x1 : Int32) (s : ST) (rv : Int32) (sf : ST) (hf : f_X1_has x0 x1 s = some (rv, sf)) : MD l G yX1_has (ws_ yX1_has cX1_has 2 (some .boolean)) 0 [.int x0, .int x1] a s (some (.int rv)) sf := by
  refine md_of (d := 0) (lv := [(0, .int x0), (1, .int x1)]) (Or.inl (by decide)) (Nat.le_of_ble_eq_true rfl) rfl ?_
  intro p e s0 m args below meth c ls A P hP hC hr hnm hW hl
  have hx := hC.1
  have hb := hC.2.1
  have hts := hC.2.2.2.2.1
  unfold f_X1_has at hf
  refine lv_iload_n hx hb dX1_has_0 rfl (lv_at hl 0 rfl) ?_
  refine lv_iload_n hx hb dX1_has_1 rfl (lv_at hl 1 rfl) ?_
  refine lv_ishr hx hb dX1_has_2 ?_
  refine lv_iconst (v := 1) hx hb dX1_has_3 (by decide) ?_
  refine lv_iand hx hb dX1_has_4 ?_
  refine lv_iconst (v := 1) hx hb dX1_has_5 (by decide) ?_
  refine lv_icmp_ne (tgt := 13) hx hb dX1_has_6 (by decide) (fun c6 => ?_) (fun c6 => ?_)
  · have hf := ifn c6 hf
    refine lv_iconst (v := 0) hx hb dX1_has_13 (by decide) ?_
    obtain ⟨e1, e2⟩ := so_inj hf
    exact aw_iret hC hW hr rfl (p_eq hP (congrArg (fun z => some (Value.int z)) e1) e2) (Nat.le_of_ble_eq_true rfl) (Nat.le_of_ble_eq_true rfl) dX1_has_14
  · have hf := ifp c6 hf
    refine lv_iconst (v := 1) hx hb dX1_has_9 (by decide) ?_
    refine lv_goto (tgt := 14) hx hb dX1_has_10 (by decide) ?_
    obtain ⟨e1, e2⟩ := so_inj hf
    exact aw_iret hC hW hr rfl (p_eq hP (congrArg (fun z => some (Value.int z)) e1) e2) (Nat.le_of_ble_eq_true rfl) (Nat.le_of_ble_eq_true rfl) dX1_has_14
theorem pf_X1_has (x0 : Int32) (x1 : Int32) (s : ST) : f_X1_has x0 x1 s = some (p_has x0 x1, s) := by
  unfold f_X1_has p_has
  split <;> rfl
theorem pc_X1_has (l : Launch) (G : GM) (a : Nat → Nat) (x0 : Int32) (x1 : Int32) (s : ST) : MD l G yX1_has (ws_ yX1_has cX1_has 2 (some .boolean)) 0 [.int x0, .int x1] a s (some (.int (p_has x0 x1))) s := ct_X1_has l G a x0 x1 s _ _ (pf_X1_has x0 x1 s)
def f_X14_has (x0 : Int32) (x1 : Int32) (s : ST) : Option (Int32 × ST) :=
  if ((x0 >>> (x1 &&& 31)) &&& 1) = 1 then (some (1, s)) else some (0, s)
set_option maxHeartbeats 4000000 in
theorem ct_X14_has (l : Launch) (G : GM) (a : Nat → Nat) (x0 : Int32) (x1 : Int32) (s : ST) (rv : Int32) (sf : ST) (hf : f_X14_has x0 x1 s = some (rv, sf)) : MD l G yX14_has (ws_ yX14_has cX14_has 2 (some .boolean)) 0 [.int x0, .int x1] a s (some (.int rv)) sf := by
  refine md_of (d := 0) (lv := [(0, .int x0), (1, .int x1)]) (Or.inl (by decide)) (Nat.le_of_ble_eq_true rfl) rfl ?_
  intro p e s0 m args below meth c ls A P hP hC hr hnm hW hl
  have hx := hC.1
  have hb := hC.2.1
  have hts := hC.2.2.2.2.1
  unfold f_X14_has at hf
  refine lv_iload_n hx hb dX14_has_0 rfl (lv_at hl 0 rfl) ?_
  refine lv_iload_n hx hb dX14_has_1 rfl (lv_at hl 1 rfl) ?_
  refine lv_ishr hx hb dX14_has_2 ?_
  refine lv_iconst (v := 1) hx hb dX14_has_3 (by decide) ?_
  refine lv_iand hx hb dX14_has_4 ?_
  refine lv_iconst (v := 1) hx hb dX14_has_5 (by decide) ?_
  refine lv_icmp_ne (tgt := 13) hx hb dX14_has_6 (by decide) (fun c6 => ?_) (fun c6 => ?_)
  · have hf := ifn c6 hf
    refine lv_iconst (v := 0) hx hb dX14_has_13 (by decide) ?_
    obtain ⟨e1, e2⟩ := so_inj hf
    exact aw_iret hC hW hr rfl (p_eq hP (congrArg (fun z => some (Value.int z)) e1) e2) (Nat.le_of_ble_eq_true rfl) (Nat.le_of_ble_eq_true rfl) dX14_has_14
  · have hf := ifp c6 hf
    refine lv_iconst (v := 1) hx hb dX14_has_9 (by decide) ?_
    refine lv_goto (tgt := 14) hx hb dX14_has_10 (by decide) ?_
    obtain ⟨e1, e2⟩ := so_inj hf
    exact aw_iret hC hW hr rfl (p_eq hP (congrArg (fun z => some (Value.int z)) e1) e2) (Nat.le_of_ble_eq_true rfl) (Nat.le_of_ble_eq_true rfl) dX14_has_14
theorem pf_X14_has (x0 : Int32) (x1 : Int32) (s : ST) : f_X14_has x0 x1 s = some (p_has x0 x1, s) := by
  unfold f_X14_has p_has
  split <;> rfl
theorem pc_X14_has (l : Launch) (G : GM) (a : Nat → Nat) (x0 : Int32) (x1 : Int32) (s : ST) : MD l G yX14_has (ws_ yX14_has cX14_has 2 (some .boolean)) 0 [.int x0, .int x1] a s (some (.int (p_has x0 x1))) s := ct_X14_has l G a x0 x1 s _ _ (pf_X14_has x0 x1 s)
def f_X14_flag (x0 : Int32) (s : ST) : Option (Int32 × ST) :=
  if x0 = 0 then (some (0, s)) else some (1, s)
set_option maxHeartbeats 4000000 in
theorem ct_X14_flag (l : Launch) (G : GM) (a : Nat → Nat) (x0 : Int32) (s : ST) (rv : Int32) (sf : ST) (hf : f_X14_flag x0 s = some (rv, sf)) : MD l G yX14_flag (ws_ yX14_flag cX14_flag 1 (some .int)) 0 [.int x0] a s (some (.int rv)) sf := by
  refine md_of (d := 0) (lv := [(0, .int x0)]) (Or.inl (by decide)) (Nat.le_of_ble_eq_true rfl) rfl ?_
  intro p e s0 m args below meth c ls A P hP hC hr hnm hW hl
  have hx := hC.1
  have hb := hC.2.1
  have hts := hC.2.2.2.2.1
  unfold f_X14_flag at hf
  refine lv_iload_n hx hb dX14_flag_0 rfl (lv_at hl 0 rfl) ?_
  refine lv_if_eq (tgt := 8) hx hb dX14_flag_1 (by decide) (fun c1 => ?_) (fun c1 => ?_)
  · have hf := ifp c1 hf
    refine lv_iconst (v := 0) hx hb dX14_flag_8 (by decide) ?_
    obtain ⟨e1, e2⟩ := so_inj hf
    exact aw_iret hC hW hr rfl (p_eq hP (congrArg (fun z => some (Value.int z)) e1) e2) (Nat.le_of_ble_eq_true rfl) (Nat.le_of_ble_eq_true rfl) dX14_flag_9
  · have hf := ifn c1 hf
    refine lv_iconst (v := 1) hx hb dX14_flag_4 (by decide) ?_
    refine lv_goto (tgt := 9) hx hb dX14_flag_5 (by decide) ?_
    obtain ⟨e1, e2⟩ := so_inj hf
    exact aw_iret hC hW hr rfl (p_eq hP (congrArg (fun z => some (Value.int z)) e1) e2) (Nat.le_of_ble_eq_true rfl) (Nat.le_of_ble_eq_true rfl) dX14_flag_9
theorem pf_X14_flag (x0 : Int32) (s : ST) : f_X14_flag x0 s = some (p_flag x0, s) := by
  unfold f_X14_flag p_flag
  split <;> rfl
theorem pc_X14_flag (l : Launch) (G : GM) (a : Nat → Nat) (x0 : Int32) (s : ST) : MD l G yX14_flag (ws_ yX14_flag cX14_flag 1 (some .int)) 0 [.int x0] a s (some (.int (p_flag x0))) s := ct_X14_flag l G a x0 s _ _ (pf_X14_flag x0 s)
def f_X14_in (y0 : Int64) (y2 : Int64) (y4 : Int64) (s : ST) : Option (Int32 × ST) :=
  if (lg_cmp y0 y2) < 0 then (some (0, s)) else if 0 < (lg_cmp y0 y4) then (some (0, s)) else some (1, s)
set_option maxHeartbeats 4000000 in
theorem ct_X14_in (l : Launch) (G : GM) (a : Nat → Nat) (y0 : Int64) (y2 : Int64) (y4 : Int64) (s : ST) (rv : Int32) (sf : ST) (hf : f_X14_in y0 y2 y4 s = some (rv, sf)) : MD l G yX14_in (ws_ yX14_in cX14_in 6 (some .boolean)) 0 [.long y0, .long y2, .long y4] a s (some (.int rv)) sf := by
  refine md_of (d := 0) (lv := [(0, .long y0), (2, .long y2), (4, .long y4)]) (Or.inl (by decide)) (Nat.le_of_ble_eq_true rfl) rfl ?_
  intro p e s0 m args below meth c ls A P hP hC hr hnm hW hl
  have hx := hC.1
  have hb := hC.2.1
  have hts := hC.2.2.2.2.1
  unfold f_X14_in at hf
  refine lv_lload_n hx hb dX14_in_0 rfl (lv_at hl 0 rfl) ?_
  refine lv_lload_n hx hb dX14_in_1 rfl (lv_at hl 1 rfl) ?_
  refine W.lcmp hx hb dX14_in_2 ?_
  refine lv_if_lt (tgt := 17) hx hb dX14_in_3 (by decide) (fun c3 => ?_) (fun c3 => ?_)
  · have hf := ifp c3 hf
    refine lv_iconst (v := 0) hx hb dX14_in_17 (by decide) ?_
    obtain ⟨e1, e2⟩ := so_inj hf
    exact aw_iret hC hW hr rfl (p_eq hP (congrArg (fun z => some (Value.int z)) e1) e2) (Nat.le_of_ble_eq_true rfl) (Nat.le_of_ble_eq_true rfl) dX14_in_18
  · have hf := ifn c3 hf
    refine lv_lload_n hx hb dX14_in_6 rfl (lv_at hl 0 rfl) ?_
    refine lv_lload hx hb dX14_in_7 (lv_at hl 2 rfl) ?_
    refine W.lcmp hx hb dX14_in_9 ?_
    refine lv_if_gt (tgt := 17) hx hb dX14_in_10 (by decide) (fun c10 => ?_) (fun c10 => ?_)
    · have hf := ifp c10 hf
      refine lv_iconst (v := 0) hx hb dX14_in_17 (by decide) ?_
      obtain ⟨e1, e2⟩ := so_inj hf
      exact aw_iret hC hW hr rfl (p_eq hP (congrArg (fun z => some (Value.int z)) e1) e2) (Nat.le_of_ble_eq_true rfl) (Nat.le_of_ble_eq_true rfl) dX14_in_18
    · have hf := ifn c10 hf
      refine lv_iconst (v := 1) hx hb dX14_in_13 (by decide) ?_
      refine lv_goto (tgt := 18) hx hb dX14_in_14 (by decide) ?_
      obtain ⟨e1, e2⟩ := so_inj hf
      exact aw_iret hC hW hr rfl (p_eq hP (congrArg (fun z => some (Value.int z)) e1) e2) (Nat.le_of_ble_eq_true rfl) (Nat.le_of_ble_eq_true rfl) dX14_in_18
theorem pf_X14_in (y0 : Int64) (y2 : Int64) (y4 : Int64) (s : ST) : f_X14_in y0 y2 y4 s = some (p_in y0 y2 y4, s) := by
  unfold f_X14_in p_in
  by_cases h1 : y0 < y2
  · rw [if_pos (lgc_lt.mpr h1), if_neg (fun h => absurd h.1 (Int64.not_le.mpr h1))]
  · rw [if_neg (fun h => h1 (lgc_lt.mp h))]
    by_cases h2 : y4 < y0
    · rw [if_pos (lgc_gt.mpr h2), if_neg (fun h => absurd h.2 (Int64.not_le.mpr h2))]
    · rw [if_neg (fun h => h2 (lgc_gt.mp h)), if_pos ⟨Int64.not_lt.mp h1, Int64.not_lt.mp h2⟩]
theorem pc_X14_in (l : Launch) (G : GM) (a : Nat → Nat) (y0 : Int64) (y2 : Int64) (y4 : Int64) (s : ST) : MD l G yX14_in (ws_ yX14_in cX14_in 6 (some .boolean)) 0 [.long y0, .long y2, .long y4] a s (some (.int (p_in y0 y2 y4))) s := ct_X14_in l G a y0 y2 y4 s _ _ (pf_X14_in y0 y2 y4 s)
def f_J3_isLatin1 (o : Nat) (s : ST) : Option (Int32 × ST) :=
  gd (o < 6) <|
  some (1, s)
set_option maxHeartbeats 4000000 in
theorem ct_J3_isLatin1 (l : Launch) (G : GM) (a : Nat → Nat) (o : Nat) (s : ST) (rv : Int32) (sf : ST) (hf : f_J3_isLatin1 o s = some (rv, sf)) : MD l G yJ3_isLatin1 (ws_ yJ3_isLatin1 cJ3_isLatin1 1 (some .boolean)) 0 [.ref (G.2.2.2.1 o)] a s (some (.int rv)) sf := by
  refine md_of (d := 0) (lv := [(0, .ref (G.2.2.2.1 o))]) (Or.inr (by decide +kernel)) (Nat.le_of_ble_eq_true rfl) rfl ?_
  intro p e s0 m args below meth c ls A P hP hC hr hnm hW hl
  have hx := hC.1
  have hb := hC.2.1
  have hts := hC.2.2.2.2.1
  unfold f_J3_isLatin1 at hf
  refine aw_compact hC hW q750 dJ3_isLatin1_0 ?_
  refine lv_if_eq (tgt := 17) hx hb dJ3_isLatin1_3 (by decide) (fun c3 => absurd c3 (by decide)) (fun _ => ?_)
  refine lv_aload_n hx hb dJ3_isLatin1_6 rfl (lv_at hl 0 rfl) ?_
  obtain ⟨gs7, hf⟩ := gd_some hf
  refine aw_scod gs7 hC hW q1971 dJ3_isLatin1_7 ?_
  refine lv_if_ne (tgt := 17) hx hb dJ3_isLatin1_10 (by decide) (fun c10 => absurd c10 (by decide)) (fun _ => ?_)
  refine lv_iconst (v := 1) hx hb dJ3_isLatin1_13 (by decide) ?_
  refine lv_goto (tgt := 18) hx hb dJ3_isLatin1_14 (by decide) ?_
  obtain ⟨e1, e2⟩ := so_inj hf
  exact aw_iret hC hW hr rfl (p_eq hP (congrArg (fun z => some (Value.int z)) e1) e2) (Nat.le_of_ble_eq_true rfl) (Nat.le_of_ble_eq_true rfl) dJ3_isLatin1_18
def f_J3_coder (o : Nat) (s : ST) : Option (Int32 × ST) :=
  gd (o < 6) <|
  some (0, s)
set_option maxHeartbeats 4000000 in
theorem ct_J3_coder (l : Launch) (G : GM) (a : Nat → Nat) (o : Nat) (s : ST) (rv : Int32) (sf : ST) (hf : f_J3_coder o s = some (rv, sf)) : MD l G yJ3_coder (ws_ yJ3_coder cJ3_coder 1 (some .byte)) 0 [.ref (G.2.2.2.1 o)] a s (some (.int rv)) sf := by
  refine md_of (d := 0) (lv := [(0, .ref (G.2.2.2.1 o))]) (Or.inr (by decide +kernel)) (Nat.le_of_ble_eq_true rfl) rfl ?_
  intro p e s0 m args below meth c ls A P hP hC hr hnm hW hl
  have hx := hC.1
  have hb := hC.2.1
  have hts := hC.2.2.2.2.1
  unfold f_J3_coder at hf
  refine aw_compact hC hW q750 dJ3_coder_0 ?_
  refine lv_if_eq (tgt := 13) hx hb dJ3_coder_3 (by decide) (fun c3 => absurd c3 (by decide)) (fun _ => ?_)
  refine lv_aload_n hx hb dJ3_coder_6 rfl (lv_at hl 0 rfl) ?_
  obtain ⟨gs7, hf⟩ := gd_some hf
  refine aw_scod gs7 hC hW q1971 dJ3_coder_7 ?_
  refine lv_goto (tgt := 14) hx hb dJ3_coder_10 (by decide) ?_
  obtain ⟨e1, e2⟩ := so_inj hf
  exact aw_iret hC hW hr rfl (p_eq hP (congrArg (fun z => some (Value.int z)) e1) e2) (Nat.le_of_ble_eq_true rfl) (Nat.le_of_ble_eq_true rfl) dJ3_coder_14
def f_J3_length (o : Nat) (s : ST) : Option (Int32 × ST) :=
  gd (o < 6) <|
  ob (f_J3_coder o s) fun v6 s6 =>
  some (((Int32.ofNat (stLen o)) >>> (v6 &&& 31)), s6)
set_option maxHeartbeats 4000000 in
theorem ct_J3_length (l : Launch) (G : GM) (a : Nat → Nat) (o : Nat) (s : ST) (rv : Int32) (sf : ST) (hf : f_J3_length o s = some (rv, sf)) : MD l G yJ3_length (ws_ yJ3_length cJ3_length 1 (some .int)) 1 [.ref (G.2.2.2.1 o)] a s (some (.int rv)) sf := by
  refine md_of (d := 1) (lv := [(0, .ref (G.2.2.2.1 o))]) (Or.inr (by decide +kernel)) (Nat.le_of_ble_eq_true rfl) rfl ?_
  intro p e s0 m args below meth c ls A P hP hC hr hnm hW hl
  have hx := hC.1
  have hb := hC.2.1
  have hts := hC.2.2.2.2.1
  unfold f_J3_length at hf
  refine lv_aload_n hx hb dJ3_length_0 rfl (lv_at hl 0 rfl) ?_
  obtain ⟨gs1, hf⟩ := gd_some hf
  refine aw_sval gs1 hC hW q1970 dJ3_length_1 ?_
  refine aw_slen gs1 hC hW dJ3_length_4 ?_
  refine lv_aload_n hx hb dJ3_length_5 rfl (lv_at hl 0 rfl) ?_
  obtain ⟨v6, s6, h6, hf⟩ := ob_some hf
  refine aw_dSt1 (i := o) (As := []) (rest := [.int (Int32.ofNat (stLen o))]) gs1 (ct_J3_coder l G a o s v6 s6 h6) hC hW hl.1 vy_J3_coder rfl q756 rfl rfl (Nat.le_of_ble_eq_true rfl) ⟨Nat.le_of_ble_eq_true rfl, Nat.le_of_ble_eq_true rfl⟩ ⟨Nat.le_of_ble_eq_true rfl, Nat.le_of_ble_eq_true rfl⟩ dJ3_length_6 (fun H locs hW => ?_)
  refine lv_ishr hx hb dJ3_length_9 ?_
  obtain ⟨e1, e2⟩ := so_inj hf
  exact aw_iret hC hW hr rfl (p_eq hP (congrArg (fun z => some (Value.int z)) e1) e2) (Nat.le_of_ble_eq_true rfl) (Nat.le_of_ble_eq_true rfl) dJ3_length_10
def f_J5_checkIndex_b9 (x0 : Int32) (x1 : Int32) (s : ST) : Option (Int32 × ST) :=
  none
def f_J5_checkIndex (x0 : Int32) (x1 : Int32) (s : ST) : Option (Int32 × ST) :=
  if x0 < 0 then (f_J5_checkIndex_b9 x0 x1 s) else if x0 < x1 then (some (x0, s)) else f_J5_checkIndex_b9 x0 x1 s
set_option maxHeartbeats 4000000 in
theorem ct_J5_checkIndex (l : Launch) (G : GM) (a : Nat → Nat) (x0 : Int32) (x1 : Int32) (ov2 : Value) (hov2 : ov2 = .null ∨ ∃ t, ov2 = .ref t) (s : ST) (rv : Int32) (sf : ST) (hf : f_J5_checkIndex x0 x1 s = some (rv, sf)) : MD l G yJ5_checkIndex (ws_ yJ5_checkIndex cJ5_checkIndex 3 (some .int)) 0 [.int x0, .int x1, ov2] a s (some (.int rv)) sf := by
  refine md_of (d := 0) (lv := [(0, .int x0), (1, .int x1), (2, ov2)]) (Or.inr (by decide +kernel)) (by rcases hov2 with rfl | ⟨t, rfl⟩ <;> exact Nat.le_of_ble_eq_true rfl) rfl ?_
  intro p e s0 m args below meth c ls A P hP hC hr hnm hW hl
  have hx := hC.1
  have hb := hC.2.1
  have hts := hC.2.2.2.2.1
  have B9 : ∀ (x0 : Int32) (x1 : Int32) (s : ST), f_J5_checkIndex_b9 x0 x1 s = some (rv, sf) → ∀ (H : Heap) (locs : List Loc) (ls : Array Slot), lv_has ls 3 [(0, .int x0), (1, .int x1)] → AW G a A s s0.heap H locs → WB p l e (rmD 0) s0 m args below meth c H locs G A P 9 ls [] := by
    intro x0 x1 s hf H locs ls hl hW
    unfold f_J5_checkIndex_b9 at hf
    cases hf
  unfold f_J5_checkIndex at hf
  refine lv_iload_n hx hb dJ5_checkIndex_0 rfl (lv_at hl 0 rfl) ?_
  refine lv_if_lt (tgt := 9) hx hb dJ5_checkIndex_1 (by decide) (fun c1 => ?_) (fun c1 => ?_)
  · have hf := ifp c1 hf
    exact B9 x0 x1 s hf _ _ _ (lv_sub hl [0, 1] rfl) hW
  · have hf := ifn c1 hf
    refine lv_iload_n hx hb dJ5_checkIndex_4 rfl (lv_at hl 0 rfl) ?_
    refine lv_iload_n hx hb dJ5_checkIndex_5 rfl (lv_at hl 1 rfl) ?_
    refine lv_icmp_lt (tgt := 16) hx hb dJ5_checkIndex_6 (by decide) (fun c6 => ?_) (fun c6 => ?_)
    · have hf := ifp c6 hf
      refine lv_iload_n hx hb dJ5_checkIndex_16 rfl (lv_at hl 0 rfl) ?_
      obtain ⟨e1, e2⟩ := so_inj hf
      exact aw_iret hC hW hr rfl (p_eq hP (congrArg (fun z => some (Value.int z)) e1) e2) (Nat.le_of_ble_eq_true rfl) (Nat.le_of_ble_eq_true rfl) dJ5_checkIndex_17
    · have hf := ifn c6 hf
      exact B9 x0 x1 s hf _ _ _ (lv_sub hl [0, 1] rfl) hW
def f_J3_checkIndex (x0 : Int32) (x1 : Int32) (s : ST) : Option (Unit × ST) :=
  ob (f_J5_checkIndex x0 x1 s) fun v5 s5 =>
  some ((), s5)
set_option maxHeartbeats 4000000 in
theorem ct_J3_checkIndex (l : Launch) (G : GM) (a : Nat → Nat) (x0 : Int32) (x1 : Int32) (s : ST) (rv : Unit) (sf : ST) (hf : f_J3_checkIndex x0 x1 s = some (rv, sf)) : MD l G yJ3_checkIndex (ws_ yJ3_checkIndex cJ3_checkIndex 2 none) 1 [.int x0, .int x1] a s none sf := by
  refine md_of (d := 1) (lv := [(0, .int x0), (1, .int x1)]) (Or.inr (by decide +kernel)) (Nat.le_of_ble_eq_true rfl) rfl ?_
  intro p e s0 m args below meth c ls A P hP hC hr hnm hW hl
  have hx := hC.1
  have hb := hC.2.1
  have hts := hC.2.2.2.2.1
  unfold f_J3_checkIndex at hf
  refine lv_iload_n hx hb dJ3_checkIndex_0 rfl (lv_at hl 0 rfl) ?_
  refine lv_iload_n hx hb dJ3_checkIndex_1 rfl (lv_at hl 1 rfl) ?_
  refine aw_sioobe hC hW q791 dJ3_checkIndex_2 (fun ov hov => ?_)
  obtain ⟨v5, s5, h5, hf⟩ := ob_some hf
  refine aw_dS1 (As := [.int x0, .int x1, ov]) (rest := []) (ct_J5_checkIndex l G a x0 x1 ov hov s v5 s5 h5) hC hW hl.1 sy_J5_checkIndex (Or.inl q1563) rfl rfl (Nat.le_of_ble_eq_true rfl) ⟨Nat.le_of_ble_eq_true rfl, Nat.le_of_ble_eq_true rfl⟩ ⟨Nat.le_of_ble_eq_true rfl, Nat.le_of_ble_eq_true rfl⟩ dJ3_checkIndex_5 (fun H locs hW => ?_)
  refine lv_pop hx hb dJ3_checkIndex_8 rfl ?_
  obtain ⟨e1, e2⟩ := so_inj hf
  exact aw_vret hC hW hr (p_eq hP rfl e2) (Nat.le_of_ble_eq_true rfl) (Nat.le_of_ble_eq_true rfl) dJ3_checkIndex_9
def f_J4_charAt (j0 : Nat) (x1 : Int32) (s : ST) : Option (Int32 × ST) :=
  gd (j0 < 6) <|
  ob (f_J3_checkIndex x1 (Int32.ofNat (stLen j0)) s) fun _ s3 =>
  gd (¬ ((x1 : Int32) < 0 ∨ stLen j0 ≤ (x1 : Int32).toNatClampNeg)) <|
  gd (narR .char (((((stAt j0 x1) &&& 255) : Int32).toUInt32 % 65536).toInt32) = (((((stAt j0 x1) &&& 255) : Int32).toUInt32 % 65536).toInt32)) <|
  some ((((((stAt j0 x1) &&& 255) : Int32).toUInt32 % 65536).toInt32), s3)
set_option maxHeartbeats 4000000 in
theorem ct_J4_charAt (l : Launch) (G : GM) (a : Nat → Nat) (j0 : Nat) (x1 : Int32) (s : ST) (rv : Int32) (sf : ST) (hf : f_J4_charAt j0 x1 s = some (rv, sf)) : MD l G yJ4_charAt (ws_ yJ4_charAt cJ4_charAt 2 (some .char)) 2 [.ref (G.2.2.2.2 j0), .int x1] a s (some (.int rv)) sf := by
  refine md_of (d := 2) (lv := [(0, .ref (G.2.2.2.2 j0)), (1, .int x1)]) (Or.inr (by decide +kernel)) (Nat.le_of_ble_eq_true rfl) rfl ?_
  intro p e s0 m args below meth c ls A P hP hC hr hnm hW hl
  have hx := hC.1
  have hb := hC.2.1
  have hts := hC.2.2.2.2.1
  unfold f_J4_charAt at hf
  refine lv_iload_n hx hb dJ4_charAt_0 rfl (lv_at hl 1 rfl) ?_
  refine lv_aload_n hx hb dJ4_charAt_1 rfl (lv_at hl 0 rfl) ?_
  obtain ⟨gs2, hf⟩ := gd_some hf
  refine aw_slen gs2 hC hW dJ4_charAt_2 ?_
  obtain ⟨_, s3, h3, hf⟩ := ob_some hf
  refine aw_dS0 (As := [.int x1, .int (Int32.ofNat (stLen j0))]) (rest := []) (ct_J3_checkIndex l G a x1 (Int32.ofNat (stLen j0)) s () s3 h3) hC hW hl.1 sy_J3_checkIndex (Or.inl q1560) rfl rfl (Nat.le_of_ble_eq_true rfl) ⟨Nat.le_of_ble_eq_true rfl, Nat.le_of_ble_eq_true rfl⟩ ⟨Nat.le_of_ble_eq_true rfl, Nat.le_of_ble_eq_true rfl⟩ dJ4_charAt_3 (fun H locs hW => ?_)
  refine lv_aload_n hx hb dJ4_charAt_6 rfl (lv_at hl 0 rfl) ?_
  refine lv_iload_n hx hb dJ4_charAt_7 rfl (lv_at hl 1 rfl) ?_
  obtain ⟨g8, hf⟩ := gd_some hf
  refine aw_sbal gs2 g8 hC hW dJ4_charAt_8 ?_
  refine lv_sipush (v := 255) hx hb dJ4_charAt_9 (by decide) ?_
  refine lv_iand hx hb dJ4_charAt_12 ?_
  refine lv_i2c (v := ((((stAt j0 x1) &&& 255) : Int32).toUInt32 % 65536).toInt32) hx hb dJ4_charAt_13 rfl ?_
  obtain ⟨gz14, hf⟩ := gd_some hf
  obtain ⟨e1, e2⟩ := so_inj hf
  exact aw_iret hC hW hr (nbR gz14) (p_eq hP (congrArg (fun z => some (Value.int z)) e1) e2) (Nat.le_of_ble_eq_true rfl) (Nat.le_of_ble_eq_true rfl) dJ4_charAt_14
def f_J3_charAt (o : Nat) (x1 : Int32) (s : ST) : Option (Int32 × ST) :=
  gd (o < 6) <|
  ob (f_J3_isLatin1 o s) fun v1 s1 =>
  if v1 = 0 then (none) else ob (f_J4_charAt o x1 s1) fun v12 s12 =>
  gd (narR .char v12 = v12) <|
  some (v12, s12)
set_option maxHeartbeats 4000000 in
theorem ct_J3_charAt (l : Launch) (G : GM) (a : Nat → Nat) (o : Nat) (x1 : Int32) (s : ST) (rv : Int32) (sf : ST) (hf : f_J3_charAt o x1 s = some (rv, sf)) : MD l G yJ3_charAt (ws_ yJ3_charAt cJ3_charAt 2 (some .char)) 3 [.ref (G.2.2.2.1 o), .int x1] a s (some (.int rv)) sf := by
  refine md_of (d := 3) (lv := [(0, .ref (G.2.2.2.1 o)), (1, .int x1)]) (Or.inr (by decide +kernel)) (Nat.le_of_ble_eq_true rfl) rfl ?_
  intro p e s0 m args below meth c ls A P hP hC hr hnm hW hl
  have hx := hC.1
  have hb := hC.2.1
  have hts := hC.2.2.2.2.1
  unfold f_J3_charAt at hf
  refine lv_aload_n hx hb dJ3_charAt_0 rfl (lv_at hl 0 rfl) ?_
  obtain ⟨gs1, hf⟩ := gd_some hf
  obtain ⟨v1, s1, h1, hf⟩ := ob_some hf
  refine aw_dSt1 (i := o) (As := []) (rest := []) gs1 (ct_J3_isLatin1 l G a o s v1 s1 h1) hC hW hl.1 vy_J3_isLatin1 rfl q746 rfl rfl (Nat.le_of_ble_eq_true rfl) ⟨Nat.le_of_ble_eq_true rfl, Nat.le_of_ble_eq_true rfl⟩ ⟨Nat.le_of_ble_eq_true rfl, Nat.le_of_ble_eq_true rfl⟩ dJ3_charAt_1 (fun H locs hW => ?_)
  refine lv_if_eq (tgt := 16) hx hb dJ3_charAt_4 (by decide) (fun c4 => ?_) (fun c4 => ?_)
  · have hf := ifp c4 hf
    refine lv_aload_n hx hb dJ3_charAt_16 rfl (lv_at hl 0 rfl) ?_
    refine aw_sval gs1 hC hW q1970 dJ3_charAt_17 ?_
    refine lv_iload_n hx hb dJ3_charAt_20 rfl (lv_at hl 1 rfl) ?_
    cases hf
  · have hf := ifn c4 hf
    refine lv_aload_n hx hb dJ3_charAt_7 rfl (lv_at hl 0 rfl) ?_
    refine aw_sval gs1 hC hW q1970 dJ3_charAt_8 ?_
    refine lv_iload_n hx hb dJ3_charAt_11 rfl (lv_at hl 1 rfl) ?_
    obtain ⟨v12, s12, h12, hf⟩ := ob_some hf
    refine aw_dS1 (As := [.ref (G.2.2.2.2 o), .int x1]) (rest := []) (ct_J4_charAt l G a o x1 s1 v12 s12 h12) hC hW hl.1 sy_J4_charAt (Or.inl q1557) rfl rfl (Nat.le_of_ble_eq_true rfl) ⟨Nat.le_of_ble_eq_true rfl, Nat.le_of_ble_eq_true rfl⟩ ⟨Nat.le_of_ble_eq_true rfl, Nat.le_of_ble_eq_true rfl⟩ dJ3_charAt_12 (fun H locs hW => ?_)
    obtain ⟨gz15, hf⟩ := gd_some hf
    obtain ⟨e1, e2⟩ := so_inj hf
    exact aw_iret hC hW hr (nbR gz15) (p_eq hP (congrArg (fun z => some (Value.int z)) e1) e2) (Nat.le_of_ble_eq_true rfl) (Nat.le_of_ble_eq_true rfl) dJ3_charAt_15
def f_J4_canEncode (x0 : Int32) (s : ST) : Option (Int32 × ST) :=
  if x0 < 0 then (some (0, s)) else if 255 < x0 then (some (0, s)) else some (1, s)
set_option maxHeartbeats 4000000 in
theorem ct_J4_canEncode (l : Launch) (G : GM) (a : Nat → Nat) (x0 : Int32) (s : ST) (rv : Int32) (sf : ST) (hf : f_J4_canEncode x0 s = some (rv, sf)) : MD l G yJ4_canEncode (ws_ yJ4_canEncode cJ4_canEncode 1 (some .boolean)) 0 [.int x0] a s (some (.int rv)) sf := by
  refine md_of (d := 0) (lv := [(0, .int x0)]) (Or.inr (by decide +kernel)) (Nat.le_of_ble_eq_true rfl) rfl ?_
  intro p e s0 m args below meth c ls A P hP hC hr hnm hW hl
  have hx := hC.1
  have hb := hC.2.1
  have hts := hC.2.2.2.2.1
  unfold f_J4_canEncode at hf
  refine lv_iload_n hx hb dJ4_canEncode_0 rfl (lv_at hl 0 rfl) ?_
  refine lv_if_lt (tgt := 15) hx hb dJ4_canEncode_1 (by decide) (fun c1 => ?_) (fun c1 => ?_)
  · have hf := ifp c1 hf
    refine lv_iconst (v := 0) hx hb dJ4_canEncode_15 (by decide) ?_
    obtain ⟨e1, e2⟩ := so_inj hf
    exact aw_iret hC hW hr rfl (p_eq hP (congrArg (fun z => some (Value.int z)) e1) e2) (Nat.le_of_ble_eq_true rfl) (Nat.le_of_ble_eq_true rfl) dJ4_canEncode_16
  · have hf := ifn c1 hf
    refine lv_iload_n hx hb dJ4_canEncode_4 rfl (lv_at hl 0 rfl) ?_
    refine lv_sipush (v := 255) hx hb dJ4_canEncode_5 (by decide) ?_
    refine lv_icmp_gt (tgt := 15) hx hb dJ4_canEncode_8 (by decide) (fun c8 => ?_) (fun c8 => ?_)
    · have hf := ifp c8 hf
      refine lv_iconst (v := 0) hx hb dJ4_canEncode_15 (by decide) ?_
      obtain ⟨e1, e2⟩ := so_inj hf
      exact aw_iret hC hW hr rfl (p_eq hP (congrArg (fun z => some (Value.int z)) e1) e2) (Nat.le_of_ble_eq_true rfl) (Nat.le_of_ble_eq_true rfl) dJ4_canEncode_16
    · have hf := ifn c8 hf
      refine lv_iconst (v := 1) hx hb dJ4_canEncode_11 (by decide) ?_
      refine lv_goto (tgt := 16) hx hb dJ4_canEncode_12 (by decide) ?_
      obtain ⟨e1, e2⟩ := so_inj hf
      exact aw_iret hC hW hr rfl (p_eq hP (congrArg (fun z => some (Value.int z)) e1) e2) (Nat.le_of_ble_eq_true rfl) (Nat.le_of_ble_eq_true rfl) dJ4_canEncode_16
def f_J4_indexOfChar_b7 : Nat → Nat → Int32 → Int32 → Int32 → ST → Option (Int32 × ST)
  | 0, _, _, _, _, _ => none
  | n + 1, j0, x3, x4, x5, s =>
  if x3 ≤ x5 then (some ((-1), s)) else gd (j0 < 6) <|
  gd (¬ ((x5 : Int32) < 0 ∨ stLen j0 ≤ (x5 : Int32).toNatClampNeg)) <|
  if (stAt j0 x5) = x4 then (some (x5, s)) else bnd (x5 + 1 : Int32) fun v25 =>
  f_J4_indexOfChar_b7 n j0 x3 x4 v25 s
def f_J4_indexOfChar (j0 : Nat) (x1 : Int32) (x2 : Int32) (x3 : Int32) (s : ST) : Option (Int32 × ST) :=
  bnd (((x1 : Int32).toInt8.toInt32) : Int32) fun v2 =>
  f_J4_indexOfChar_b7 fuel j0 x3 v2 x2 s
set_option maxHeartbeats 4000000 in
theorem ct_J4_indexOfChar (l : Launch) (G : GM) (a : Nat → Nat) (j0 : Nat) (x1 : Int32) (x2 : Int32) (x3 : Int32) (s : ST) (rv : Int32) (sf : ST) (hf : f_J4_indexOfChar j0 x1 x2 x3 s = some (rv, sf)) : MD l G yJ4_indexOfChar (ws_ yJ4_indexOfChar cJ4_indexOfChar 6 (some .int)) 0 [.ref (G.2.2.2.2 j0), .int x1, .int x2, .int x3] a s (some (.int rv)) sf := by
  refine md_of (d := 0) (lv := [(0, .ref (G.2.2.2.2 j0)), (1, .int x1), (2, .int x2), (3, .int x3)]) (Or.inr (by decide +kernel)) (Nat.le_of_ble_eq_true rfl) rfl ?_
  intro p e s0 m args below meth c ls A P hP hC hr hnm hW hl
  have hx := hC.1
  have hb := hC.2.1
  have hts := hC.2.2.2.2.1
  have B7 : ∀ (n : Nat), ∀ (j0 : Nat) (x3 : Int32) (x4 : Int32) (x5 : Int32) (s : ST), f_J4_indexOfChar_b7 n j0 x3 x4 x5 s = some (rv, sf) → ∀ (H : Heap) (locs : List Loc) (ls : Array Slot), lv_has ls 6 [(0, .ref (G.2.2.2.2 j0)), (3, .int x3), (4, .int x4), (5, .int x5)] → AW G a A s s0.heap H locs → WB p l e (rmD 0) s0 m args below meth c H locs G A P 7 ls [] := by
    intro n
    induction n with
    | zero => intro j0 x3 x4 x5 s hf; cases hf
    | succ n ih =>
      intro j0 x3 x4 x5 s hf H locs ls hl hW
      rw [f_J4_indexOfChar_b7] at hf
      refine lv_iload hx hb dJ4_indexOfChar_7 (lv_at hl 3 rfl) ?_
      refine lv_iload_n hx hb dJ4_indexOfChar_9 rfl (lv_at hl 1 rfl) ?_
      refine lv_icmp_ge (tgt := 31) hx hb dJ4_indexOfChar_10 (by decide) (fun c10 => ?_) (fun c10 => ?_)
      · have hf := ifp c10 hf
        refine lv_iconst (v := (-1)) hx hb dJ4_indexOfChar_31 (by decide) ?_
        obtain ⟨e1, e2⟩ := so_inj hf
        exact aw_iret hC hW hr rfl (p_eq hP (congrArg (fun z => some (Value.int z)) e1) e2) (Nat.le_of_ble_eq_true rfl) (Nat.le_of_ble_eq_true rfl) dJ4_indexOfChar_32
      · have hf := ifn c10 hf
        refine lv_aload_n hx hb dJ4_indexOfChar_13 rfl (lv_at hl 0 rfl) ?_
        refine lv_iload hx hb dJ4_indexOfChar_14 (lv_at hl 3 rfl) ?_
        obtain ⟨gs16, hf⟩ := gd_some hf
        obtain ⟨g16, hf⟩ := gd_some hf
        refine aw_sbal gs16 g16 hC hW dJ4_indexOfChar_16 ?_
        refine lv_iload hx hb dJ4_indexOfChar_17 (lv_at hl 2 rfl) ?_
        refine lv_icmp_ne (tgt := 25) hx hb dJ4_indexOfChar_19 (by decide) (fun c19 => ?_) (fun c19 => ?_)
        · have hf := ifn c19 hf
          obtain ⟨v25, ev25, hf⟩ := bnd_some hf
          refine lv_iinc (v := v25) (lv' := [(5, .int v25), (0, .ref (G.2.2.2.2 j0)), (3, .int x3), (4, .int x4)]) hx hb dJ4_indexOfChar_25 hl (k := 3) rfl (by rw [ev25]; rfl) (by decide) rfl (fun ls hl => ?_)
          refine lv_goto (tgt := 7) hx hb dJ4_indexOfChar_28 (by decide) ?_
          exact ih j0 x3 x4 v25 s hf _ _ _ (lv_sub hl [1, 2, 3, 0] rfl) hW
        · have hf := ifp c19 hf
          refine lv_iload hx hb dJ4_indexOfChar_22 (lv_at hl 3 rfl) ?_
          obtain ⟨e1, e2⟩ := so_inj hf
          exact aw_iret hC hW hr rfl (p_eq hP (congrArg (fun z => some (Value.int z)) e1) e2) (Nat.le_of_ble_eq_true rfl) (Nat.le_of_ble_eq_true rfl) dJ4_indexOfChar_24
  unfold f_J4_indexOfChar at hf
  refine lv_iload_n hx hb dJ4_indexOfChar_0 rfl (lv_at hl 1 rfl) ?_
  refine lv_i2b (v := (x1 : Int32).toInt8.toInt32) hx hb dJ4_indexOfChar_1 rfl ?_
  obtain ⟨v2, ev2, hf⟩ := bnd_some hf
  refine top_i ev2 ?_
  refine lv_istore (lv' := [(4, .int v2), (0, .ref (G.2.2.2.2 j0)), (1, .int x1), (2, .int x2), (3, .int x3)]) hx hb dJ4_indexOfChar_2 hl (by decide) rfl (fun ls hl => ?_)
  refine lv_iload_n hx hb dJ4_indexOfChar_4 rfl (lv_at hl 3 rfl) ?_
  refine lv_istore (lv' := [(5, .int x2), (4, .int v2), (0, .ref (G.2.2.2.2 j0)), (1, .int x1), (2, .int x2), (3, .int x3)]) hx hb dJ4_indexOfChar_5 hl (by decide) rfl (fun ls hl => ?_)
  exact B7 fuel j0 x3 v2 x2 s hf _ _ _ (lv_sub hl [2, 5, 1, 0] rfl) hW
def f_J4_indexOf (j0 : Nat) (x1 : Int32) (x2 : Int32) (x3 : Int32) (s : ST) : Option (Int32 × ST) :=
  ob (f_J4_canEncode x1 s) fun v1 s1 =>
  if v1 = 0 then (some ((-1), s1)) else bnd (p_max x2 0) fun v11 =>
  gd (j0 < 6) <|
  bnd (p_min x3 (Int32.ofNat (stLen j0))) fun v18 =>
  if v11 < v18 then (ob (f_J4_indexOfChar j0 x1 v11 v18 s1) fun v33 s33 =>
  some (v33, s33)) else some ((-1), s1)
set_option maxHeartbeats 4000000 in
theorem ct_J4_indexOf (l : Launch) (G : GM) (a : Nat → Nat) (j0 : Nat) (x1 : Int32) (x2 : Int32) (x3 : Int32) (s : ST) (rv : Int32) (sf : ST) (hf : f_J4_indexOf j0 x1 x2 x3 s = some (rv, sf)) : MD l G yJ4_indexOf (ws_ yJ4_indexOf cJ4_indexOf 4 (some .int)) 1 [.ref (G.2.2.2.2 j0), .int x1, .int x2, .int x3] a s (some (.int rv)) sf := by
  refine md_of (d := 1) (lv := [(0, .ref (G.2.2.2.2 j0)), (1, .int x1), (2, .int x2), (3, .int x3)]) (Or.inr (by decide +kernel)) (Nat.le_of_ble_eq_true rfl) rfl ?_
  intro p e s0 m args below meth c ls A P hP hC hr hnm hW hl
  have hx := hC.1
  have hb := hC.2.1
  have hts := hC.2.2.2.2.1
  unfold f_J4_indexOf at hf
  refine lv_iload_n hx hb dJ4_indexOf_0 rfl (lv_at hl 1 rfl) ?_
  obtain ⟨v1, s1, h1, hf⟩ := ob_some hf
  refine aw_dS1 (As := [.int x1]) (rest := []) (ct_J4_canEncode l G a x1 s v1 s1 h1) hC hW hl.1 sy_J4_canEncode (Or.inl q763) rfl rfl (Nat.le_of_ble_eq_true rfl) ⟨Nat.le_of_ble_eq_true rfl, Nat.le_of_ble_eq_true rfl⟩ ⟨Nat.le_of_ble_eq_true rfl, Nat.le_of_ble_eq_true rfl⟩ dJ4_indexOf_1 (fun H locs hW => ?_)
  refine lv_if_ne (tgt := 9) hx hb dJ4_indexOf_4 (by decide) (fun c4 => ?_) (fun c4 => ?_)
  · have hf := ifn c4 hf
    refine lv_iload_n hx hb dJ4_indexOf_9 rfl (lv_at hl 2 rfl) ?_
    refine lv_iconst (v := 0) hx hb dJ4_indexOf_10 (by decide) ?_
    obtain ⟨v11, ev11, hf⟩ := bnd_some hf
    refine aw_dS1 (As := [.int x2, .int 0]) (rest := []) (pc_J0_max l G a x2 0 s1) hC hW hl.1 sy_J0_max (Or.inl q766) rfl rfl (Nat.le_of_ble_eq_true rfl) ⟨Nat.le_of_ble_eq_true rfl, Nat.le_of_ble_eq_true rfl⟩ ⟨Nat.le_of_ble_eq_true rfl, Nat.le_of_ble_eq_true rfl⟩ dJ4_indexOf_11 (fun H locs hW => ?_)
    refine top_i ev11 ?_
    refine lv_istore_n (lv' := [(2, .int v11), (0, .ref (G.2.2.2.2 j0)), (1, .int x1), (3, .int x3)]) hx hb dJ4_indexOf_14 rfl hl (by decide) rfl (fun ls hl => ?_)
    refine lv_iload_n hx hb dJ4_indexOf_15 rfl (lv_at hl 3 rfl) ?_
    refine lv_aload_n hx hb dJ4_indexOf_16 rfl (lv_at hl 1 rfl) ?_
    obtain ⟨gs17, hf⟩ := gd_some hf
    refine aw_slen gs17 hC hW dJ4_indexOf_17 ?_
    obtain ⟨v18, ev18, hf⟩ := bnd_some hf
    refine aw_dS1 (As := [.int x3, .int (Int32.ofNat (stLen j0))]) (rest := []) (pc_J0_min l G a x3 (Int32.ofNat (stLen j0)) s1) hC hW hl.1 sy_J0_min (Or.inl q769) rfl rfl (Nat.le_of_ble_eq_true rfl) ⟨Nat.le_of_ble_eq_true rfl, Nat.le_of_ble_eq_true rfl⟩ ⟨Nat.le_of_ble_eq_true rfl, Nat.le_of_ble_eq_true rfl⟩ dJ4_indexOf_18 (fun H locs hW => ?_)
    refine top_i ev18 ?_
    refine lv_istore_n (lv' := [(3, .int v18), (2, .int v11), (0, .ref (G.2.2.2.2 j0)), (1, .int x1)]) hx hb dJ4_indexOf_21 rfl hl (by decide) rfl (fun ls hl => ?_)
    refine lv_iload_n hx hb dJ4_indexOf_22 rfl (lv_at hl 1 rfl) ?_
    refine lv_iload_n hx hb dJ4_indexOf_23 rfl (lv_at hl 0 rfl) ?_
    refine lv_icmp_lt (tgt := 29) hx hb dJ4_indexOf_24 (by decide) (fun c24 => ?_) (fun c24 => ?_)
    · have hf := ifp c24 hf
      refine lv_aload_n hx hb dJ4_indexOf_29 rfl (lv_at hl 2 rfl) ?_
      refine lv_iload_n hx hb dJ4_indexOf_30 rfl (lv_at hl 3 rfl) ?_
      refine lv_iload_n hx hb dJ4_indexOf_31 rfl (lv_at hl 1 rfl) ?_
      refine lv_iload_n hx hb dJ4_indexOf_32 rfl (lv_at hl 0 rfl) ?_
      obtain ⟨v33, s33, h33, hf⟩ := ob_some hf
      refine aw_dS1 (As := [.ref (G.2.2.2.2 j0), .int x1, .int v11, .int v18]) (rest := []) (ct_J4_indexOfChar l G a j0 x1 v11 v18 s1 v33 s33 h33) hC hW hl.1 sy_J4_indexOfChar (Or.inl q770) rfl rfl (Nat.le_of_ble_eq_true rfl) ⟨Nat.le_of_ble_eq_true rfl, Nat.le_of_ble_eq_true rfl⟩ ⟨Nat.le_of_ble_eq_true rfl, Nat.le_of_ble_eq_true rfl⟩ dJ4_indexOf_33 (fun H locs hW => ?_)
      obtain ⟨e1, e2⟩ := so_inj hf
      exact aw_iret hC hW hr rfl (p_eq hP (congrArg (fun z => some (Value.int z)) e1) e2) (Nat.le_of_ble_eq_true rfl) (Nat.le_of_ble_eq_true rfl) dJ4_indexOf_36
    · have hf := ifn c24 hf
      refine lv_iconst (v := (-1)) hx hb dJ4_indexOf_27 (by decide) ?_
      obtain ⟨e1, e2⟩ := so_inj hf
      exact aw_iret hC hW hr rfl (p_eq hP (congrArg (fun z => some (Value.int z)) e1) e2) (Nat.le_of_ble_eq_true rfl) (Nat.le_of_ble_eq_true rfl) dJ4_indexOf_28
  · have hf := ifp c4 hf
    refine lv_iconst (v := (-1)) hx hb dJ4_indexOf_7 (by decide) ?_
    obtain ⟨e1, e2⟩ := so_inj hf
    exact aw_iret hC hW hr rfl (p_eq hP (congrArg (fun z => some (Value.int z)) e1) e2) (Nat.le_of_ble_eq_true rfl) (Nat.le_of_ble_eq_true rfl) dJ4_indexOf_8
def f_J3_indexOf_2 (o : Nat) (x1 : Int32) (x2 : Int32) (s : ST) : Option (Int32 × ST) :=
  gd (o < 6) <|
  ob (f_J3_isLatin1 o s) fun v1 s1 =>
  if v1 = 0 then (ob (f_J3_length o s1) fun v30 s30 =>
  none) else ob (f_J3_length o s1) fun v14 s14 =>
  ob (f_J4_indexOf o x1 x2 v14 s14) fun v17 s17 =>
  some (v17, s17)
set_option maxHeartbeats 4000000 in
theorem ct_J3_indexOf_2 (l : Launch) (G : GM) (a : Nat → Nat) (o : Nat) (x1 : Int32) (x2 : Int32) (s : ST) (rv : Int32) (sf : ST) (hf : f_J3_indexOf_2 o x1 x2 s = some (rv, sf)) : MD l G yJ3_indexOf_2 (ws_ yJ3_indexOf_2 cJ3_indexOf_2 3 (some .int)) 2 [.ref (G.2.2.2.1 o), .int x1, .int x2] a s (some (.int rv)) sf := by
  refine md_of (d := 2) (lv := [(0, .ref (G.2.2.2.1 o)), (1, .int x1), (2, .int x2)]) (Or.inr (by decide +kernel)) (Nat.le_of_ble_eq_true rfl) rfl ?_
  intro p e s0 m args below meth c ls A P hP hC hr hnm hW hl
  have hx := hC.1
  have hb := hC.2.1
  have hts := hC.2.2.2.2.1
  unfold f_J3_indexOf_2 at hf
  refine lv_aload_n hx hb dJ3_indexOf_2_0 rfl (lv_at hl 0 rfl) ?_
  obtain ⟨gs1, hf⟩ := gd_some hf
  obtain ⟨v1, s1, h1, hf⟩ := ob_some hf
  refine aw_dSt1 (i := o) (As := []) (rest := []) gs1 (ct_J3_isLatin1 l G a o s v1 s1 h1) hC hW hl.1 vy_J3_isLatin1 rfl q746 rfl rfl (Nat.le_of_ble_eq_true rfl) ⟨Nat.le_of_ble_eq_true rfl, Nat.le_of_ble_eq_true rfl⟩ ⟨Nat.le_of_ble_eq_true rfl, Nat.le_of_ble_eq_true rfl⟩ dJ3_indexOf_2_1 (fun H locs hW => ?_)
  refine lv_if_eq (tgt := 23) hx hb dJ3_indexOf_2_4 (by decide) (fun c4 => ?_) (fun c4 => ?_)
  · have hf := ifp c4 hf
    refine lv_aload_n hx hb dJ3_indexOf_2_23 rfl (lv_at hl 0 rfl) ?_
    refine aw_sval gs1 hC hW q1970 dJ3_indexOf_2_24 ?_
    refine lv_iload_n hx hb dJ3_indexOf_2_27 rfl (lv_at hl 1 rfl) ?_
    refine lv_iload_n hx hb dJ3_indexOf_2_28 rfl (lv_at hl 2 rfl) ?_
    refine lv_aload_n hx hb dJ3_indexOf_2_29 rfl (lv_at hl 0 rfl) ?_
    obtain ⟨v30, s30, h30, hf⟩ := ob_some hf
    refine aw_dSt1 (i := o) (As := []) (rest := [.int x2, .int x1, .ref (G.2.2.2.2 o)]) gs1 (ct_J3_length l G a o s1 v30 s30 h30) hC hW hl.1 vy_J3_length rfl q752 rfl rfl (Nat.le_of_ble_eq_true rfl) ⟨Nat.le_of_ble_eq_true rfl, Nat.le_of_ble_eq_true rfl⟩ ⟨Nat.le_of_ble_eq_true rfl, Nat.le_of_ble_eq_true rfl⟩ dJ3_indexOf_2_30 (fun H locs hW => ?_)
    cases hf
  · have hf := ifn c4 hf
    refine lv_aload_n hx hb dJ3_indexOf_2_7 rfl (lv_at hl 0 rfl) ?_
    refine aw_sval gs1 hC hW q1970 dJ3_indexOf_2_8 ?_
    refine lv_iload_n hx hb dJ3_indexOf_2_11 rfl (lv_at hl 1 rfl) ?_
    refine lv_iload_n hx hb dJ3_indexOf_2_12 rfl (lv_at hl 2 rfl) ?_
    refine lv_aload_n hx hb dJ3_indexOf_2_13 rfl (lv_at hl 0 rfl) ?_
    obtain ⟨v14, s14, h14, hf⟩ := ob_some hf
    refine aw_dSt1 (i := o) (As := []) (rest := [.int x2, .int x1, .ref (G.2.2.2.2 o)]) gs1 (ct_J3_length l G a o s1 v14 s14 h14) hC hW hl.1 vy_J3_length rfl q752 rfl rfl (Nat.le_of_ble_eq_true rfl) ⟨Nat.le_of_ble_eq_true rfl, Nat.le_of_ble_eq_true rfl⟩ ⟨Nat.le_of_ble_eq_true rfl, Nat.le_of_ble_eq_true rfl⟩ dJ3_indexOf_2_14 (fun H locs hW => ?_)
    obtain ⟨v17, s17, h17, hf⟩ := ob_some hf
    refine aw_dS1 (As := [.ref (G.2.2.2.2 o), .int x1, .int x2, .int v14]) (rest := []) (ct_J4_indexOf l G a o x1 x2 v14 s14 v17 s17 h17) hC hW hl.1 sy_J4_indexOf (Or.inl q760) rfl rfl (Nat.le_of_ble_eq_true rfl) ⟨Nat.le_of_ble_eq_true rfl, Nat.le_of_ble_eq_true rfl⟩ ⟨Nat.le_of_ble_eq_true rfl, Nat.le_of_ble_eq_true rfl⟩ dJ3_indexOf_2_17 (fun H locs hW => ?_)
    refine lv_goto (tgt := 36) hx hb dJ3_indexOf_2_20 (by decide) ?_
    obtain ⟨e1, e2⟩ := so_inj hf
    exact aw_iret hC hW hr rfl (p_eq hP (congrArg (fun z => some (Value.int z)) e1) e2) (Nat.le_of_ble_eq_true rfl) (Nat.le_of_ble_eq_true rfl) dJ3_indexOf_2_36
def f_J3_indexOf (o : Nat) (x1 : Int32) (s : ST) : Option (Int32 × ST) :=
  gd (o < 6) <|
  ob (f_J3_indexOf_2 o x1 0 s) fun v3 s3 =>
  some (v3, s3)
set_option maxHeartbeats 4000000 in
theorem ct_J3_indexOf (l : Launch) (G : GM) (a : Nat → Nat) (o : Nat) (x1 : Int32) (s : ST) (rv : Int32) (sf : ST) (hf : f_J3_indexOf o x1 s = some (rv, sf)) : MD l G yJ3_indexOf (ws_ yJ3_indexOf cJ3_indexOf 2 (some .int)) 3 [.ref (G.2.2.2.1 o), .int x1] a s (some (.int rv)) sf := by
  refine md_of (d := 3) (lv := [(0, .ref (G.2.2.2.1 o)), (1, .int x1)]) (Or.inr (by decide +kernel)) (Nat.le_of_ble_eq_true rfl) rfl ?_
  intro p e s0 m args below meth c ls A P hP hC hr hnm hW hl
  have hx := hC.1
  have hb := hC.2.1
  have hts := hC.2.2.2.2.1
  unfold f_J3_indexOf at hf
  refine lv_aload_n hx hb dJ3_indexOf_0 rfl (lv_at hl 0 rfl) ?_
  refine lv_iload_n hx hb dJ3_indexOf_1 rfl (lv_at hl 1 rfl) ?_
  refine lv_iconst (v := 0) hx hb dJ3_indexOf_2 (by decide) ?_
  obtain ⟨gs3, hf⟩ := gd_some hf
  obtain ⟨v3, s3, h3, hf⟩ := ob_some hf
  refine aw_dSt1 (i := o) (As := [.int x1, .int 0]) (rest := []) gs3 (ct_J3_indexOf_2 l G a o x1 0 s v3 s3 h3) hC hW hl.1 vy_J3_indexOf_2 rfl q742 rfl rfl (Nat.le_of_ble_eq_true rfl) ⟨Nat.le_of_ble_eq_true rfl, Nat.le_of_ble_eq_true rfl⟩ ⟨Nat.le_of_ble_eq_true rfl, Nat.le_of_ble_eq_true rfl⟩ dJ3_indexOf_3 (fun H locs hW => ?_)
  obtain ⟨e1, e2⟩ := so_inj hf
  exact aw_iret hC hW hr rfl (p_eq hP (congrArg (fun z => some (Value.int z)) e1) e2) (Nat.le_of_ble_eq_true rfl) (Nat.le_of_ble_eq_true rfl) dJ3_indexOf_6
