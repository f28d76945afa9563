set_option maxRecDepth 100000
def f_X14_will_b61 : Nat → Nat → Int32 → ST → Option (Int32 × ST)
  | 0, _, _, _ => none
  | n + 1, r0, x4, s =>
  gd (r0 < s.1 ∧ (kd s r0).1 = 14) <|
  if (gi s r0 25) ≤ x4 then (some (0, s)) else (gr s r0 22).bind fun q71 =>
  (gr s r0 23).bind fun q77 =>
  gd (q77 < s.1 ∧ (kd s q77).1 = 100 ∧ ¬ ((x4 : Int32) < 0 ∨ (kd s q77).2 ≤ (x4 : Int32).toNatClampNeg)) <|
  gd (q71 < s.1 ∧ (kd s q71).1 = 100 ∧ ¬ ((x4 : Int32) < 0 ∨ (kd s q71).2 ≤ (x4 : Int32).toNatClampNeg)) <|
  bnd (pI s q71 (x4 : Int32).toNatClampNeg (gi s q77 (x4 : Int32).toNatClampNeg)) fun s83 =>
  bnd (x4 + 1 : Int32) fun v84 =>
  f_X14_will_b61 n r0 v84 s83
def f_X14_will_b34 (r0 : Nat) (x1 : Int32) (t0 : Int32) (s : ST) : Option (Int32 × ST) :=
  gd (r0 < s.1 ∧ (kd s r0).1 = 14) <|
  ob (f_X14_faultOf r0 x1 40 t0 s) fun v40 s40 =>
  if 0 ≤ v40 then (gd (r0 < s40.1 ∧ (kd s40 r0).1 = 14) <|
  bnd (pI s40 r0 24 (gi s40 r0 25)) fun s55 =>
  f_X14_will_b61 fuel r0 0 s55) else some (v40, s40)
def f_X14_will_b29 (r0 : Nat) (x1 : Int32) (s : ST) : Option (Int32 × ST) :=
  f_X14_will_b34 r0 x1 1 s
def f_X14_will (o : Nat) (s : ST) : Option (Int32 × ST) :=
  gd (o < s.1 ∧ (kd s o).1 = 14) <|
  bnd (pI s o 0 0) fun s2 =>
  ob (f_X14_begins o 40 s2) fun v8 s8 =>
  gd (o < s8.1 ∧ (kd s8 o).1 = 14) <|
  bnd (pI s8 o 25 0) fun s14 =>
  if v8 = 0 then (f_X14_will_b29 o v8 s14) else ob (f_X14_readsRank o 0 s14) fun v23 s23 =>
  if v23 = 0 then (f_X14_will_b34 o v8 0 s23) else f_X14_will_b29 o v8 s23
set_option maxHeartbeats 4000000 in
theorem ct_X14_will (l : Launch) (G : GM) (a : Nat → Nat) (o : Nat) (s : ST) (rv : Int32) (sf : ST) (hf : f_X14_will o s = some (rv, sf)) : MD l G yX14_will (ws_ yX14_will cX14_will 5 (some .int)) 321 [.ref (a o)] a s (some (.int rv)) sf := by
  refine md_of (d := 321) (lv := [(0, .ref (a o))]) (Or.inl (by decide)) (Nat.le_of_ble_eq_true rfl) rfl ?_
  intro p e s0 m args below meth c ls A P hP hC hr hnm hW hl
  have hx := hC.1
  have hb := hC.2.1
  have hts := hC.2.2.2.2.1
  have B61 : ∀ (n : Nat), ∀ (r0 : Nat) (x4 : Int32) (s : ST), f_X14_will_b61 n r0 x4 s = some (rv, sf) → ∀ (H : Heap) (locs : List Loc) (ls : Array Slot), lv_has ls 5 [(0, .ref (a r0)), (4, .int x4)] → AW G a A s s0.heap H locs → WB p l e (rmD 321) s0 m args below meth c H locs G A P 61 ls [] := by
    intro n
    induction n with
    | zero => intro r0 x4 s hf; cases hf
    | succ n ih =>
      intro r0 x4 s hf H locs ls hl hW
      rw [f_X14_will_b61] at hf
      refine lv_iload hx hb dX14_will_61 (lv_at hl 1 rfl) ?_
      refine lv_aload_n hx hb dX14_will_63 rfl (lv_at hl 0 rfl) ?_
      obtain ⟨g64, hf⟩ := gd_some hf
      refine aw_gI hC hW g64 fl_X14_213 rfl dX14_will_64 ?_
      refine lv_icmp_ge (tgt := 90) hx hb dX14_will_67 (by decide) (fun c67 => ?_) (fun c67 => ?_)
      · have hf := ifp c67 hf
        refine lv_iconst (v := 0) hx hb dX14_will_90 (by decide) ?_
        obtain ⟨e1, e2⟩ := so_inj hf
        exact aw_iret hC hW hr rfl (p_eq hP (congrArg (fun z => some (Value.int z)) e1) e2) (Nat.le_of_ble_eq_true rfl) (Nat.le_of_ble_eq_true rfl) dX14_will_91
      · have hf := ifn c67 hf
        refine lv_aload_n hx hb dX14_will_70 rfl (lv_at hl 0 rfl) ?_
        obtain ⟨q71, hq71, hf⟩ := bi_some hf
        refine aw_gR hC hW g64 fl_X14_65 rfl hq71 dX14_will_71 ?_
        refine lv_iload hx hb dX14_will_74 (lv_at hl 1 rfl) ?_
        refine lv_aload_n hx hb dX14_will_76 rfl (lv_at hl 0 rfl) ?_
        obtain ⟨q77, hq77, hf⟩ := bi_some hf
        refine aw_gR hC hW g64 fl_X14_68 rfl hq77 dX14_will_77 ?_
        refine lv_iload hx hb dX14_will_80 (lv_at hl 1 rfl) ?_
        obtain ⟨g82, hf⟩ := gd_some hf
        refine aw_iald hC hW g82 dX14_will_82 ?_
        obtain ⟨g83, hf⟩ := gd_some hf
        obtain ⟨s83, e83, hf⟩ := bnd_some hf
        refine aw_iast e83 hC hW g83 dX14_will_83 (fun H locs hW => ?_)
        have g64 := ko_pI e83 g64
        obtain ⟨v84, ev84, hf⟩ := bnd_some hf
        refine lv_iinc (v := v84) (lv' := [(4, .int v84), (0, .ref (a r0))]) hx hb dX14_will_84 hl (k := 1) rfl (by rw [ev84]; rfl) (by decide) rfl (fun ls hl => ?_)
        refine lv_goto (tgt := 61) hx hb dX14_will_87 (by decide) ?_
        exact ih r0 v84 s83 hf _ _ _ (lv_sub hl [1, 0] rfl) hW
  have B34 : ∀ (r0 : Nat) (x1 : Int32) (t0 : Int32) (s : ST), f_X14_will_b34 r0 x1 t0 s = some (rv, sf) → ∀ (H : Heap) (locs : List Loc) (ls : Array Slot), lv_has ls 5 [(0, .ref (a r0)), (1, .int x1)] → AW G a A s s0.heap H locs → WB p l e (rmD 321) s0 m args below meth c H locs G A P 34 ls [.int t0] := by
    intro r0 x1 t0 s hf H locs ls hl hW
    unfold f_X14_will_b34 at hf
    refine lv_istore_n (lv' := [(2, .int t0), (0, .ref (a r0)), (1, .int x1)]) hx hb dX14_will_34 rfl hl (by decide) rfl (fun ls hl => ?_)
    refine lv_aload_n hx hb dX14_will_35 rfl (lv_at hl 1 rfl) ?_
    refine lv_iload_n hx hb dX14_will_36 rfl (lv_at hl 2 rfl) ?_
    refine lv_bipush (v := 40) hx hb dX14_will_37 (by decide) ?_
    refine lv_iload_n hx hb dX14_will_39 rfl (lv_at hl 0 rfl) ?_
    obtain ⟨g40, hf⟩ := gd_some hf
    obtain ⟨v40, s40, h40, hf⟩ := ob_some hf
    refine aw_dV1 (r := r0) (As := [.int x1, .int 40, .int t0]) (rest := []) (ct_X14_faultOf l G a r0 x1 40 t0 s v40 s40 h40) hC hW hl.1 vy_X14_faultOf (Or.inl q1578) g40 rfl rfl rfl rfl (Nat.le_of_ble_eq_true rfl) ⟨Nat.le_of_ble_eq_true rfl, Nat.le_of_ble_eq_true rfl⟩ ⟨Nat.le_of_ble_eq_true rfl, Nat.le_of_ble_eq_true rfl⟩ dX14_will_40 (fun H locs hW => ?_)
    refine lv_istore_n (lv' := [(3, .int v40), (2, .int t0), (0, .ref (a r0)), (1, .int x1)]) hx hb dX14_will_43 rfl hl (by decide) rfl (fun ls hl => ?_)
    refine lv_iload_n hx hb dX14_will_44 rfl (lv_at hl 0 rfl) ?_
    refine lv_if_ge (tgt := 50) hx hb dX14_will_45 (by decide) (fun c45 => ?_) (fun c45 => ?_)
    · have hf := ifp c45 hf
      refine lv_aload_n hx hb dX14_will_50 rfl (lv_at hl 2 rfl) ?_
      refine lv_aload_n hx hb dX14_will_51 rfl (lv_at hl 2 rfl) ?_
      obtain ⟨g52, hf⟩ := gd_some hf
      refine aw_gI hC hW g52 fl_X14_213 rfl dX14_will_52 ?_
      obtain ⟨s55, e55, hf⟩ := bnd_some hf
      refine aw_pI e55 hC hW g52 fl_X14_232 (Or.inl fn_13_24) rfl rfl rfl dX14_will_55 (fun H locs hW => ?_)
      have g52 := ko_pI e55 g52
      refine lv_iconst (v := 0) hx hb dX14_will_58 (by decide) ?_
      refine lv_istore (lv' := [(4, .int 0), (3, .int v40), (2, .int t0), (0, .ref (a r0)), (1, .int x1)]) hx hb dX14_will_59 hl (by decide) rfl (fun ls hl => ?_)
      exact B61 fuel r0 0 s55 hf _ _ _ (lv_sub hl [3, 0] rfl) hW
    · have hf := ifn c45 hf
      refine lv_iload_n hx hb dX14_will_48 rfl (lv_at hl 0 rfl) ?_
      obtain ⟨e1, e2⟩ := so_inj hf
      exact aw_iret hC hW hr rfl (p_eq hP (congrArg (fun z => some (Value.int z)) e1) e2) (Nat.le_of_ble_eq_true rfl) (Nat.le_of_ble_eq_true rfl) dX14_will_49
  have B29 : ∀ (r0 : Nat) (x1 : Int32) (s : ST), f_X14_will_b29 r0 x1 s = some (rv, sf) → ∀ (H : Heap) (locs : List Loc) (ls : Array Slot), lv_has ls 5 [(0, .ref (a r0)), (1, .int x1)] → AW G a A s s0.heap H locs → WB p l e (rmD 321) s0 m args below meth c H locs G A P 29 ls [] := by
    intro r0 x1 s hf H locs ls hl hW
    unfold f_X14_will_b29 at hf
    refine lv_iconst (v := 1) hx hb dX14_will_29 (by decide) ?_
    refine lv_goto (tgt := 34) hx hb dX14_will_30 (by decide) ?_
    exact B34 r0 x1 1 s hf _ _ _ (lv_sub hl [0, 1] rfl) hW
  unfold f_X14_will at hf
  refine lv_aload_n hx hb dX14_will_0 rfl (lv_at hl 0 rfl) ?_
  refine lv_iconst (v := 0) hx hb dX14_will_1 (by decide) ?_
  obtain ⟨g2, hf⟩ := gd_some hf
  obtain ⟨s2, e2, hf⟩ := bnd_some hf
  refine aw_pI e2 hC hW g2 fl_X14_3 (Or.inl fn_13_0) rfl rfl rfl dX14_will_2 (fun H locs hW => ?_)
  have g2 := ko_pI e2 g2
  refine lv_aload_n hx hb dX14_will_5 rfl (lv_at hl 0 rfl) ?_
  refine lv_bipush (v := 40) hx hb dX14_will_6 (by decide) ?_
  obtain ⟨v8, s8, h8, hf⟩ := ob_some hf
  refine aw_dV1 (r := o) (As := [.int 40]) (rest := []) (ct_X14_begins l G a o 40 s2 v8 s8 h8) hC hW hl.1 vy_X14_begins (Or.inl q1521) g2 rfl rfl rfl rfl (Nat.le_of_ble_eq_true rfl) ⟨Nat.le_of_ble_eq_true rfl, Nat.le_of_ble_eq_true rfl⟩ ⟨Nat.le_of_ble_eq_true rfl, Nat.le_of_ble_eq_true rfl⟩ dX14_will_8 (fun H locs hW => ?_)
  refine lv_istore_n (lv' := [(1, .int v8), (0, .ref (a o))]) hx hb dX14_will_11 rfl hl (by decide) rfl (fun ls hl => ?_)
  refine lv_aload_n hx hb dX14_will_12 rfl (lv_at hl 1 rfl) ?_
  refine lv_iconst (v := 0) hx hb dX14_will_13 (by decide) ?_
  obtain ⟨g14, hf⟩ := gd_some hf
  obtain ⟨s14, e14, hf⟩ := bnd_some hf
  refine aw_pI e14 hC hW g14 fl_X14_213 (Or.inl fn_13_25) rfl rfl rfl dX14_will_14 (fun H locs hW => ?_)
  have g14 := ko_pI e14 g14
  refine lv_iload_n hx hb dX14_will_17 rfl (lv_at hl 0 rfl) ?_
  refine lv_if_eq (tgt := 29) hx hb dX14_will_18 (by decide) (fun c18 => ?_) (fun c18 => ?_)
  · have hf := ifp c18 hf
    exact B29 o v8 s14 hf _ _ _ (lv_sub hl [1, 0] rfl) hW
  · have hf := ifn c18 hf
    refine lv_aload_n hx hb dX14_will_21 rfl (lv_at hl 1 rfl) ?_
    refine lv_iconst (v := 0) hx hb dX14_will_22 (by decide) ?_
    obtain ⟨v23, s23, h23, hf⟩ := ob_some hf
    refine aw_dV1 (r := o) (As := [.int 0]) (rest := []) (ct_X14_readsRank l G a o 0 s14 v23 s23 h23) hC hW hl.1 vy_X14_readsRank (Or.inl q1602) g14 rfl rfl rfl rfl (Nat.le_of_ble_eq_true rfl) ⟨Nat.le_of_ble_eq_true rfl, Nat.le_of_ble_eq_true rfl⟩ ⟨Nat.le_of_ble_eq_true rfl, Nat.le_of_ble_eq_true rfl⟩ dX14_will_23 (fun H locs hW => ?_)
    refine lv_if_eq (tgt := 33) hx hb dX14_will_26 (by decide) (fun c26 => ?_) (fun c26 => ?_)
    · have hf := ifp c26 hf
      refine lv_iconst (v := 0) hx hb dX14_will_33 (by decide) ?_
      exact B34 o v8 0 s23 hf _ _ _ (lv_sub hl [1, 0] rfl) hW
    · have hf := ifn c26 hf
      exact B29 o v8 s23 hf _ _ _ (lv_sub hl [1, 0] rfl) hW
