set_option maxRecDepth 100000
theorem sy_X1_rowOf : SY yX1_rowOf cX1_rowOf 7 (some (.object "java/lang/Object")) 4 := ⟨q899, q75, q900, ⟨by decide +kernel, by decide +kernel, by decide +kernel⟩⟩
theorem sy_X1_entry : SY yX1_entry cX1_entry 2 (some .int) 2 := ⟨q902, q75, q903, ⟨by decide +kernel, by decide +kernel, by decide +kernel⟩⟩
def t_X1_rowOf (x0 : Int32) (x1 : Int32) (x2 : Int32) (x3 : Int32) (s : ST) : Option (Int32 × ST) :=
  if x0 = 0 then (gd ((x1 : Int32) < 0) <|
  some (0, s)) else if x0 = 1 then (gd ((x1 : Int32) < 0) <|
  some (0, s)) else gd ((x1 : Int32) < 0) <|
  some (0, s)
set_option maxHeartbeats 4000000 in
theorem tt_X1_rowOf (l : Launch) (hlt : l.stackTraces = false) (G : GM) (a : Nat → Nat) (x0 : Int32) (x1 : Int32) (x2 : Int32) (x3 : Int32) (s : ST) (pl : Int32) (s1 : ST) (hf : t_X1_rowOf x0 x1 x2 x3 s = some (pl, s1)) : TZ l G yX1_rowOf (ws_ yX1_rowOf cX1_rowOf 7 (some (.object "java/lang/Object"))) 258 [.int x0, .int x1, .int x2, .int x3] a s s1 := by
  refine tz_of (d := 258) (lv := [(0, .int x0), (1, .int x1), (2, .int x2), (3, .int x3)]) (by decide) (Nat.le_of_ble_eq_true rfl) rfl ?_
  intro p e s0 m args below meth c ls A hC hno hW hl
  have hx := hC.1
  have hb := hC.2.1
  have hts := hC.2.2.2.2.1
  unfold t_X1_rowOf at hf
  refine lv_iload_n hx hb dX1_rowOf_0 rfl (lv_at hl 2 rfl) ?_
  refine lv_istore (lv' := [(4, .int x2), (0, .int x0), (1, .int x1), (2, .int x2), (3, .int x3)]) hx hb dX1_rowOf_1 hl (by decide) rfl (fun ls hl => ?_)
  refine lv_iload_n hx hb dX1_rowOf_3 rfl (lv_at hl 1 rfl) ?_
  refine lv_if_ne (tgt := 44) hx hb dX1_rowOf_4 (by decide) (fun c4 => ?_) (fun c4 => ?_)
  · have hf := ifn c4 hf
    refine lv_iload_n hx hb dX1_rowOf_44 rfl (lv_at hl 1 rfl) ?_
    refine lv_iconst (v := 1) hx hb dX1_rowOf_45 (by decide) ?_
    refine lv_icmp_ne (tgt := 86) hx hb dX1_rowOf_46 (by decide) (fun c46 => ?_) (fun c46 => ?_)
    · have hf := ifn c46 hf
      refine lv_iload_n hx hb dX1_rowOf_86 rfl (lv_at hl 2 rfl) ?_
      obtain ⟨g87, hf⟩ := gd_some hf
      obtain ⟨-, e2⟩ := so_inj hf
      subst e2
      exact aw_nase hlt hC hno hW hl.1 g87 ⟨Nat.le_of_ble_eq_true rfl, Nat.le_of_ble_eq_true rfl, Nat.le_of_ble_eq_true rfl, Nat.le_of_ble_eq_true rfl⟩ (Nat.le_of_ble_eq_true rfl) dX1_rowOf_87
    · have hf := ifp c46 hf
      refine lv_iload_n hx hb dX1_rowOf_49 rfl (lv_at hl 2 rfl) ?_
      obtain ⟨g50, hf⟩ := gd_some hf
      obtain ⟨-, e2⟩ := so_inj hf
      subst e2
      exact aw_nase hlt hC hno hW hl.1 g50 ⟨Nat.le_of_ble_eq_true rfl, Nat.le_of_ble_eq_true rfl, Nat.le_of_ble_eq_true rfl, Nat.le_of_ble_eq_true rfl⟩ (Nat.le_of_ble_eq_true rfl) dX1_rowOf_50
  · have hf := ifp c4 hf
    refine lv_iload_n hx hb dX1_rowOf_7 rfl (lv_at hl 2 rfl) ?_
    obtain ⟨g8, hf⟩ := gd_some hf
    obtain ⟨-, e2⟩ := so_inj hf
    subst e2
    exact aw_nase hlt hC hno hW hl.1 g8 ⟨Nat.le_of_ble_eq_true rfl, Nat.le_of_ble_eq_true rfl, Nat.le_of_ble_eq_true rfl, Nat.le_of_ble_eq_true rfl⟩ (Nat.le_of_ble_eq_true rfl) dX1_rowOf_8
def f_X1_sheet_b102 (K52 : Nat → Int32 → Nat → Int32 → Int32 → ST → Option (Int32 × ST)) (r0 : Nat) (x2 : Int32) (r5 : Nat) (x6 : Int32) (x7 : Int32) (t0 : Int32) (t1 : Int32) (w2 : Nat) (s : ST) : Option (Int32 × ST) :=
  gd (w2 < s.1 ∧ (kd s w2).1 = 100 ∧ ¬ ((t1 : Int32) < 0 ∨ (kd s w2).2 ≤ (t1 : Int32).toNatClampNeg)) <|
  bnd (pI s w2 (t1 : Int32).toNatClampNeg t0) fun s102 =>
  gd (r0 < s102.1 ∧ (kd s102 r0).1 = 1) <|
  (gr s102 r0 1).bind fun q106 =>
  gd (q106 < s102.1 ∧ (kd s102 q106).1 = 2) <|
  (gr s102 q106 0).bind fun q109 =>
  gd (q109 < s102.1 ∧ (kd s102 q109).1 = 100 ∧ ¬ ((x7 : Int32) < 0 ∨ (kd s102 q109).2 ≤ (x7 : Int32).toNatClampNeg)) <|
  bnd ((x6 + (gi s102 q109 (x7 : Int32).toNatClampNeg)) : Int32) fun v116 =>
  bnd (x7 + 1 : Int32) fun v118 =>
  K52 r0 x2 r5 v116 v118 s102
def f_X1_sheet_b81 (K52 : Nat → Int32 → Nat → Int32 → Int32 → ST → Option (Int32 × ST)) (r0 : Nat) (x2 : Int32) (r5 : Nat) (x6 : Int32) (x7 : Int32) (t0 : Int32) (w1 : Nat) (s : ST) : Option (Int32 × ST) :=
  f_X1_sheet_b102 K52 r0 x2 r5 x6 x7 1 t0 w1 s
def f_X1_sheet_b52 : Nat → Nat → Int32 → Nat → Int32 → Int32 → ST → Option (Int32 × ST)
  | 0, _, _, _, _, _, _ => none
  | n + 1, r0, x2, r5, x6, x7, s =>
  gd (r0 < s.1 ∧ (kd s r0).1 = 1) <|
  if (gi s r0 4) ≤ x7 then (some (x6, s)) else (gr s r0 1).bind fun q62 =>
  gd (q62 < s.1 ∧ (kd s q62).1 = 2) <|
  (gr s q62 0).bind fun q65 =>
  if x7 < x2 then (ob (f_X1_entry r5 x7 s) fun v93 s93 =>
  gd (s.1 ≤ s93.1) <|
  bnd (p_min 999 v93) fun v96 =>
  bnd (p_max 1 v96) fun v99 =>
  f_X1_sheet_b102 (f_X1_sheet_b52 n) r0 x2 r5 x6 x7 v99 x7 q65 s93) else f_X1_sheet_b81 (f_X1_sheet_b52 n) r0 x2 r5 x6 x7 x7 q65 s
def f_X1_sheet_b46q (r0 : Nat) (x2 : Int32) (r5 : Nat) (s : ST) : Option (Int32 × ST) :=
  f_X1_sheet_b52 fuel r0 x2 r5 0 0 s
def f_X1_sheet_b102q (K52 : Nat → Int32 → Int32 → Int32 → ST → Option (Int32 × ST)) (r0 : Nat) (x2 : Int32) (x6 : Int32) (x7 : Int32) (t0 : Int32) (t1 : Int32) (w2 : Nat) (s : ST) : Option (Int32 × ST) :=
  gd (w2 < s.1 ∧ (kd s w2).1 = 100 ∧ ¬ ((t1 : Int32) < 0 ∨ (kd s w2).2 ≤ (t1 : Int32).toNatClampNeg)) <|
  bnd (pI s w2 (t1 : Int32).toNatClampNeg t0) fun s102 =>
  gd (r0 < s102.1 ∧ (kd s102 r0).1 = 1) <|
  (gr s102 r0 1).bind fun q106 =>
  gd (q106 < s102.1 ∧ (kd s102 q106).1 = 2) <|
  (gr s102 q106 0).bind fun q109 =>
  gd (q109 < s102.1 ∧ (kd s102 q109).1 = 100 ∧ ¬ ((x7 : Int32) < 0 ∨ (kd s102 q109).2 ≤ (x7 : Int32).toNatClampNeg)) <|
  bnd ((x6 + (gi s102 q109 (x7 : Int32).toNatClampNeg)) : Int32) fun v116 =>
  bnd (x7 + 1 : Int32) fun v118 =>
  K52 r0 x2 v116 v118 s102
def f_X1_sheet_b81q (K52 : Nat → Int32 → Int32 → Int32 → ST → Option (Int32 × ST)) (r0 : Nat) (x2 : Int32) (x6 : Int32) (x7 : Int32) (t0 : Int32) (w1 : Nat) (s : ST) : Option (Int32 × ST) :=
  f_X1_sheet_b102q K52 r0 x2 x6 x7 1 t0 w1 s
def f_X1_sheet_b52q : Nat → Nat → Int32 → Int32 → Int32 → ST → Option (Int32 × ST)
  | 0, _, _, _, _, _ => none
  | n + 1, r0, x2, x6, x7, s =>
  gd (r0 < s.1 ∧ (kd s r0).1 = 1) <|
  if (gi s r0 4) ≤ x7 then (some ((-3), s)) else (gr s r0 1).bind fun q62 =>
  gd (q62 < s.1 ∧ (kd s q62).1 = 2) <|
  (gr s q62 0).bind fun q65 =>
  f_X1_sheet_b81q (f_X1_sheet_b52q n) r0 x2 x6 x7 x7 q65 s
def f_X1_sheet_b46 (r0 : Nat) (x2 : Int32) (s : ST) : Option (Int32 × ST) :=
  f_X1_sheet_b52q fuel r0 x2 0 0 s
def f_X1_sheet (o : Nat) (x1 : Int32) (x2 : Int32) (x3 : Int32) (x4 : Int32) (s : ST) : Option (Int32 × ST) :=
  bnd (p_in ((x1 : Int32).toInt64) 0 3) fun v6 =>
  if v6 = 0 then (some ((-1), s)) else if x2 ≤ 8 then (if 3 ≤ x1 then (f_X1_sheet_b46 o x2 s) else oh (t_X1_rowOf x1 x2 x3 x4 s) (fun pl33 sx33 => gd (s.1 ≤ sx33.1) <| some ((-2), sx33)) <|
  gd (o < s.1) <|
  ob (f_X1_rowOf x1 x2 x3 x4 s) fun v33 s33 =>
  f_X1_sheet_b46q o x2 v33 s33) else some ((-1), s)
set_option maxHeartbeats 4000000 in
theorem cta_X1_sheet (l : Launch) (hlt : l.stackTraces = false) (G : GM) (a : Nat → Nat) (o : Nat) (x1 : Int32) (x2 : Int32) (x3 : Int32) (x4 : Int32) (s : ST) (rv : Int32) (sf : ST) (hf : f_X1_sheet o x1 x2 x3 x4 s = some (rv, sf)) : MA l G yX1_sheet (wsW_ yX1_sheet cX1_sheet 8 (some .int) [(28, 38, 41, 306)]) 259 6 78 [.ref (a o), .int x1, .int x2, .int x3, .int x4] a s (fun _ => (some (.int rv))) sf := by
  refine ma_ofH (d := 259) (mc := 6) (ms := 78) (lv := [(0, .ref (a o)), (1, .int x1), (2, .int x2), (3, .int x3), (4, .int x4)]) (by decide) (Nat.le_of_ble_eq_true rfl) rfl ?_
  intro p e s0 m args below meth c ls A P hP hC hTab hr hnm hW hl
  have hx := hC.1
  have hb := hC.2.1
  have hts := hC.2.2.2.2.1
  obtain ⟨N0, hN0⟩ : ∃ N0, N0 = s.1 := ⟨_, rfl⟩
  rw [← hN0] at hP
  have hE : EX a a N0 := EX.rf
  have hN : N0 ≤ s.1 := Nat.le_of_eq hN0
  have B102 : ∀ (K52 : Nat → Int32 → Nat → Int32 → Int32 → ST → Option (Int32 × ST)) (hK52 : ∀ (ab : Nat → Nat) (hE : EX a ab N0) (r0 : Nat) (x2 : Int32) (r5 : Nat) (x6 : Int32) (x7 : Int32) (s : ST) (hN : N0 ≤ s.1), K52 r0 x2 r5 x6 x7 s = some (rv, sf) → ∀ (H : Heap) (locs : List Loc) (ls : Array Slot), lv_has ls 8 [(0, .ref (ab r0)), (2, .int x2), (5, .ref (ab r5)), (6, .int x6), (7, .int x7)] → AW G ab A s s0.heap H locs → WBA p l e (rmA 259 6 78) s0 m args below meth c H locs G A P 3 24 6 78 52 ls []), ∀ (ab : Nat → Nat) (hE : EX a ab N0) (r0 : Nat) (x2 : Int32) (r5 : Nat) (x6 : Int32) (x7 : Int32) (t0 : Int32) (t1 : Int32) (w2 : Nat) (s : ST) (hN : N0 ≤ s.1), f_X1_sheet_b102 K52 r0 x2 r5 x6 x7 t0 t1 w2 s = some (rv, sf) → ∀ (H : Heap) (locs : List Loc) (ls : Array Slot), lv_has ls 8 [(0, .ref (ab r0)), (2, .int x2), (5, .ref (ab r5)), (6, .int x6), (7, .int x7)] → AW G ab A s s0.heap H locs → WBA p l e (rmA 259 6 78) s0 m args below meth c H locs G A P 3 24 6 78 102 ls [.int t0, .int t1, .ref (ab w2)] := by
    intro K52 hK52 ab hE r0 x2 r5 x6 x7 t0 t1 w2 s hN hf H locs ls hl hW
    unfold f_X1_sheet_b102 at hf
    obtain ⟨g102, hf⟩ := gd_some hf
    obtain ⟨s102, e102, hf⟩ := bnd_some hf
    refine aw_iast e102 hC hW g102 dX1_sheet_102 (fun H locs hW => ?_)
    have hN := n_pI e102 hN
    refine lv_iload hx hb dX1_sheet_103 (lv_at hl 3 rfl) ?_
    refine lv_aload_n hx hb dX1_sheet_105 rfl (lv_at hl 0 rfl) ?_
    obtain ⟨g106, hf⟩ := gd_some hf
    obtain ⟨q106, hq106, hf⟩ := bi_some hf
    refine aw_gR hC hW g106 fl_X1_18 rfl hq106 dX1_sheet_106 ?_
    obtain ⟨g109, hf⟩ := gd_some hf
    obtain ⟨q109, hq109, hf⟩ := bi_some hf
    refine aw_gR hC hW g109 fl_X1_236 rfl hq109 dX1_sheet_109 ?_
    refine lv_iload hx hb dX1_sheet_112 (lv_at hl 4 rfl) ?_
    obtain ⟨g114, hf⟩ := gd_some hf
    refine aw_iald hC hW g114 dX1_sheet_114 ?_
    refine lv_iadd hx hb dX1_sheet_115 ?_
    obtain ⟨v116, ev116, hf⟩ := bnd_some hf
    refine top_i ev116 ?_
    refine lv_istore (lv' := [(6, .int v116), (0, .ref (ab r0)), (2, .int x2), (5, .ref (ab r5)), (7, .int x7)]) hx hb dX1_sheet_116 hl (by decide) rfl (fun ls hl => ?_)
    obtain ⟨v118, ev118, hf⟩ := bnd_some hf
    refine lv_iinc (v := v118) (lv' := [(7, .int v118), (6, .int v116), (0, .ref (ab r0)), (2, .int x2), (5, .ref (ab r5))]) hx hb dX1_sheet_118 hl (k := 4) rfl (by rw [ev118]; rfl) (by decide) rfl (fun ls hl => ?_)
    refine lv_goto (tgt := 52) hx hb dX1_sheet_121 (by decide) ?_
    exact hK52 ab hE r0 x2 r5 v116 v118 s102 hN hf _ _ _ (lv_sub hl [2, 3, 4, 1, 0] rfl) hW
  have B81 : ∀ (K52 : Nat → Int32 → Nat → Int32 → Int32 → ST → Option (Int32 × ST)) (hK52 : ∀ (ab : Nat → Nat) (hE : EX a ab N0) (r0 : Nat) (x2 : Int32) (r5 : Nat) (x6 : Int32) (x7 : Int32) (s : ST) (hN : N0 ≤ s.1), K52 r0 x2 r5 x6 x7 s = some (rv, sf) → ∀ (H : Heap) (locs : List Loc) (ls : Array Slot), lv_has ls 8 [(0, .ref (ab r0)), (2, .int x2), (5, .ref (ab r5)), (6, .int x6), (7, .int x7)] → AW G ab A s s0.heap H locs → WBA p l e (rmA 259 6 78) s0 m args below meth c H locs G A P 3 24 6 78 52 ls []), ∀ (ab : Nat → Nat) (hE : EX a ab N0) (r0 : Nat) (x2 : Int32) (r5 : Nat) (x6 : Int32) (x7 : Int32) (t0 : Int32) (w1 : Nat) (s : ST) (hN : N0 ≤ s.1), f_X1_sheet_b81 K52 r0 x2 r5 x6 x7 t0 w1 s = some (rv, sf) → ∀ (H : Heap) (locs : List Loc) (ls : Array Slot), lv_has ls 8 [(0, .ref (ab r0)), (2, .int x2), (5, .ref (ab r5)), (6, .int x6), (7, .int x7)] → AW G ab A s s0.heap H locs → WBA p l e (rmA 259 6 78) s0 m args below meth c H locs G A P 3 24 6 78 81 ls [.int t0, .ref (ab w1)] := by
    intro K52 hK52 ab hE r0 x2 r5 x6 x7 t0 w1 s hN hf H locs ls hl hW
    unfold f_X1_sheet_b81 at hf
    refine lv_iconst (v := 1) hx hb dX1_sheet_81 (by decide) ?_
    refine lv_goto (tgt := 102) hx hb dX1_sheet_82 (by decide) ?_
    refine W.widen (k := 3) (n := 24) (Nat.le_of_ble_eq_true rfl) (Nat.le_of_ble_eq_true rfl) ?_
    exact B102 K52 hK52 ab hE r0 x2 r5 x6 x7 1 t0 w1 s hN hf _ _ _ (lv_sub hl [0, 1, 2, 3, 4] rfl) hW
  have B52 : ∀ (n : Nat), ∀ (ab : Nat → Nat) (hE : EX a ab N0) (r0 : Nat) (x2 : Int32) (r5 : Nat) (x6 : Int32) (x7 : Int32) (s : ST) (hN : N0 ≤ s.1), f_X1_sheet_b52 n r0 x2 r5 x6 x7 s = some (rv, sf) → ∀ (H : Heap) (locs : List Loc) (ls : Array Slot), lv_has ls 8 [(0, .ref (ab r0)), (2, .int x2), (5, .ref (ab r5)), (6, .int x6), (7, .int x7)] → AW G ab A s s0.heap H locs → WBA p l e (rmA 259 6 78) s0 m args below meth c H locs G A P 3 24 6 78 52 ls [] := by
    intro n
    induction n with
    | zero => intro ab hE r0 x2 r5 x6 x7 s hN hf; cases hf
    | succ n ih =>
      intro ab hE r0 x2 r5 x6 x7 s hN hf H locs ls hl hW
      rw [f_X1_sheet_b52] at hf
      refine lv_iload hx hb dX1_sheet_52 (lv_at hl 4 rfl) ?_
      refine lv_aload_n hx hb dX1_sheet_54 rfl (lv_at hl 0 rfl) ?_
      obtain ⟨g55, hf⟩ := gd_some hf
      refine aw_gI hC hW g55 fl_X1_157 rfl dX1_sheet_55 ?_
      refine lv_icmp_ge (tgt := 124) hx hb dX1_sheet_58 (by decide) (fun c58 => ?_) (fun c58 => ?_)
      · have hf := ifp c58 hf
        refine lv_aload hx hb dX1_sheet_124 (lv_at hl 2 rfl) ?_
        refine lv_ifnonnull (tgt := 134) hx hb dX1_sheet_126 (by decide) ?_
        refine lv_iload hx hb dX1_sheet_134 (lv_at hl 3 rfl) ?_
        obtain ⟨e1, e2⟩ := so_inj hf
        exact aw_iret hC hW hr rfl (p_eq (hP _ hE (e2 ▸ hN)) (congrArg (fun z => some (Value.int z)) e1) e2) (Nat.le_of_ble_eq_true rfl) (Nat.le_of_ble_eq_true rfl) dX1_sheet_136
      · have hf := ifn c58 hf
        refine lv_aload_n hx hb dX1_sheet_61 rfl (lv_at hl 0 rfl) ?_
        obtain ⟨q62, hq62, hf⟩ := bi_some hf
        refine aw_gR hC hW g55 fl_X1_18 rfl hq62 dX1_sheet_62 ?_
        obtain ⟨g65, hf⟩ := gd_some hf
        obtain ⟨q65, hq65, hf⟩ := bi_some hf
        refine aw_gR hC hW g65 fl_X1_236 rfl hq65 dX1_sheet_65 ?_
        refine lv_iload hx hb dX1_sheet_68 (lv_at hl 4 rfl) ?_
        refine lv_aload hx hb dX1_sheet_70 (lv_at hl 2 rfl) ?_
        refine lv_ifnull hx hb dX1_sheet_72 ?_
        refine lv_iload hx hb dX1_sheet_75 (lv_at hl 4 rfl) ?_
        refine lv_iload_n hx hb dX1_sheet_77 rfl (lv_at hl 1 rfl) ?_
        refine lv_icmp_lt (tgt := 85) hx hb dX1_sheet_78 (by decide) (fun c78 => ?_) (fun c78 => ?_)
        · have hf := ifp c78 hf
          refine lv_iconst (v := 1) hx hb dX1_sheet_85 (by decide) ?_
          refine lv_sipush (v := 999) hx hb dX1_sheet_86 (by decide) ?_
          refine lv_aload hx hb dX1_sheet_89 (lv_at hl 2 rfl) ?_
          refine lv_iload hx hb dX1_sheet_91 (lv_at hl 4 rfl) ?_
          obtain ⟨v93, s93, h93, hf⟩ := ob_some hf
          obtain ⟨hN1, hf⟩ := gd_some hf
          have hN := Nat.le_trans hN hN1
          refine aw_dS1 (As := [.ref (ab r5), .int x7]) (rest := [.int 999, .int 1, .int x7, .ref (ab q65)]) (ct_X1_entry l G ab r5 x7 s v93 s93 h93) hC hW hl.1 sy_X1_entry (Or.inl q901) rfl rfl (Nat.le_of_ble_eq_true rfl) ⟨Nat.le_of_ble_eq_true rfl, Nat.le_of_ble_eq_true rfl⟩ ⟨Nat.le_of_ble_eq_true rfl, Nat.le_of_ble_eq_true rfl⟩ dX1_sheet_93 (fun H locs hW => ?_)
          obtain ⟨v96, ev96, hf⟩ := bnd_some hf
          refine aw_dS1 (As := [.int 999, .int v93]) (rest := [.int 1, .int x7, .ref (ab q65)]) (pc_J0_min l G ab 999 v93 s93) hC hW hl.1 sy_J0_min (Or.inl q906) rfl rfl (Nat.le_of_ble_eq_true rfl) ⟨Nat.le_of_ble_eq_true rfl, Nat.le_of_ble_eq_true rfl⟩ ⟨Nat.le_of_ble_eq_true rfl, Nat.le_of_ble_eq_true rfl⟩ dX1_sheet_96 (fun H locs hW => ?_)
          refine top_i ev96 ?_
          obtain ⟨v99, ev99, hf⟩ := bnd_some hf
          refine aw_dS1 (As := [.int 1, .int v96]) (rest := [.int x7, .ref (ab q65)]) (pc_J0_max l G ab 1 v96 s93) hC hW hl.1 sy_J0_max (Or.inl q907) rfl rfl (Nat.le_of_ble_eq_true rfl) ⟨Nat.le_of_ble_eq_true rfl, Nat.le_of_ble_eq_true rfl⟩ ⟨Nat.le_of_ble_eq_true rfl, Nat.le_of_ble_eq_true rfl⟩ dX1_sheet_99 (fun H locs hW => ?_)
          refine top_i ev99 ?_
          refine W.widen (k := 3) (n := 24) (Nat.le_of_ble_eq_true rfl) (Nat.le_of_ble_eq_true rfl) ?_
          exact B102 (f_X1_sheet_b52 n) ih ab hE r0 x2 r5 x6 x7 v99 x7 q65 s93 hN hf _ _ _ (lv_sub hl [0, 1, 2, 3, 4] rfl) hW
        · have hf := ifn c78 hf
          refine W.widen (k := 3) (n := 24) (Nat.le_of_ble_eq_true rfl) (Nat.le_of_ble_eq_true rfl) ?_
          exact B81 (f_X1_sheet_b52 n) ih ab hE r0 x2 r5 x6 x7 x7 q65 s hN hf _ _ _ (lv_sub hl [0, 1, 2, 3, 4] rfl) hW
  have B46q : ∀ (ab : Nat → Nat) (hE : EX a ab N0) (r0 : Nat) (x2 : Int32) (r5 : Nat) (s : ST) (hN : N0 ≤ s.1), f_X1_sheet_b46q r0 x2 r5 s = some (rv, sf) → ∀ (H : Heap) (locs : List Loc) (ls : Array Slot), lv_has ls 8 [(0, .ref (ab r0)), (2, .int x2), (5, .ref (ab r5))] → AW G ab A s s0.heap H locs → WBA p l e (rmA 259 6 78) s0 m args below meth c H locs G A P 3 24 6 78 46 ls [] := by
    intro ab hE r0 x2 r5 s hN hf H locs ls hl hW
    unfold f_X1_sheet_b46q at hf
    refine lv_iconst (v := 0) hx hb dX1_sheet_46 (by decide) ?_
    refine lv_istore (lv' := [(6, .int 0), (0, .ref (ab r0)), (2, .int x2), (5, .ref (ab r5))]) hx hb dX1_sheet_47 hl (by decide) rfl (fun ls hl => ?_)
    refine lv_iconst (v := 0) hx hb dX1_sheet_49 (by decide) ?_
    refine lv_istore (lv' := [(7, .int 0), (6, .int 0), (0, .ref (ab r0)), (2, .int x2), (5, .ref (ab r5))]) hx hb dX1_sheet_50 hl (by decide) rfl (fun ls hl => ?_)
    refine W.widen (k := 3) (n := 24) (Nat.le_of_ble_eq_true rfl) (Nat.le_of_ble_eq_true rfl) ?_
    exact B52 fuel ab hE r0 x2 r5 0 0 s hN hf _ _ _ (lv_sub hl [2, 3, 4, 1, 0] rfl) hW
  have B102q : ∀ (K52 : Nat → Int32 → Int32 → Int32 → ST → Option (Int32 × ST)) (hK52 : ∀ (ab : Nat → Nat) (hE : EX a ab N0) (r0 : Nat) (x2 : Int32) (x6 : Int32) (x7 : Int32) (s : ST) (hN : N0 ≤ s.1), K52 r0 x2 x6 x7 s = some (rv, sf) → ∀ (H : Heap) (locs : List Loc) (ls : Array Slot), lv_has ls 8 [(0, .ref (ab r0)), (2, .int x2), (5, .null), (6, .int x6), (7, .int x7)] → AW G ab A s s0.heap H locs → WBA p l e (rmA 259 6 78) s0 m args below meth c H locs G A P 3 24 6 78 52 ls []), ∀ (ab : Nat → Nat) (hE : EX a ab N0) (r0 : Nat) (x2 : Int32) (x6 : Int32) (x7 : Int32) (t0 : Int32) (t1 : Int32) (w2 : Nat) (s : ST) (hN : N0 ≤ s.1), f_X1_sheet_b102q K52 r0 x2 x6 x7 t0 t1 w2 s = some (rv, sf) → ∀ (H : Heap) (locs : List Loc) (ls : Array Slot), lv_has ls 8 [(0, .ref (ab r0)), (2, .int x2), (5, .null), (6, .int x6), (7, .int x7)] → AW G ab A s s0.heap H locs → WBA p l e (rmA 259 6 78) s0 m args below meth c H locs G A P 3 24 6 78 102 ls [.int t0, .int t1, .ref (ab w2)] := by
    intro K52 hK52 ab hE r0 x2 x6 x7 t0 t1 w2 s hN hf H locs ls hl hW
    unfold f_X1_sheet_b102q at hf
    obtain ⟨g102, hf⟩ := gd_some hf
    obtain ⟨s102, e102, hf⟩ := bnd_some hf
    refine aw_iast e102 hC hW g102 dX1_sheet_102 (fun H locs hW => ?_)
    have hN := n_pI e102 hN
    refine lv_iload hx hb dX1_sheet_103 (lv_at hl 3 rfl) ?_
    refine lv_aload_n hx hb dX1_sheet_105 rfl (lv_at hl 0 rfl) ?_
    obtain ⟨g106, hf⟩ := gd_some hf
    obtain ⟨q106, hq106, hf⟩ := bi_some hf
    refine aw_gR hC hW g106 fl_X1_18 rfl hq106 dX1_sheet_106 ?_
    obtain ⟨g109, hf⟩ := gd_some hf
    obtain ⟨q109, hq109, hf⟩ := bi_some hf
    refine aw_gR hC hW g109 fl_X1_236 rfl hq109 dX1_sheet_109 ?_
    refine lv_iload hx hb dX1_sheet_112 (lv_at hl 4 rfl) ?_
    obtain ⟨g114, hf⟩ := gd_some hf
    refine aw_iald hC hW g114 dX1_sheet_114 ?_
    refine lv_iadd hx hb dX1_sheet_115 ?_
    obtain ⟨v116, ev116, hf⟩ := bnd_some hf
    refine top_i ev116 ?_
    refine lv_istore (lv' := [(6, .int v116), (0, .ref (ab r0)), (2, .int x2), (5, .null), (7, .int x7)]) hx hb dX1_sheet_116 hl (by decide) rfl (fun ls hl => ?_)
    obtain ⟨v118, ev118, hf⟩ := bnd_some hf
    refine lv_iinc (v := v118) (lv' := [(7, .int v118), (6, .int v116), (0, .ref (ab r0)), (2, .int x2), (5, .null)]) hx hb dX1_sheet_118 hl (k := 4) rfl (by rw [ev118]; rfl) (by decide) rfl (fun ls hl => ?_)
    refine lv_goto (tgt := 52) hx hb dX1_sheet_121 (by decide) ?_
    exact hK52 ab hE r0 x2 v116 v118 s102 hN hf _ _ _ (lv_sub hl [2, 3, 4, 1, 0] rfl) hW
  have B81q : ∀ (K52 : Nat → Int32 → Int32 → Int32 → ST → Option (Int32 × ST)) (hK52 : ∀ (ab : Nat → Nat) (hE : EX a ab N0) (r0 : Nat) (x2 : Int32) (x6 : Int32) (x7 : Int32) (s : ST) (hN : N0 ≤ s.1), K52 r0 x2 x6 x7 s = some (rv, sf) → ∀ (H : Heap) (locs : List Loc) (ls : Array Slot), lv_has ls 8 [(0, .ref (ab r0)), (2, .int x2), (5, .null), (6, .int x6), (7, .int x7)] → AW G ab A s s0.heap H locs → WBA p l e (rmA 259 6 78) s0 m args below meth c H locs G A P 3 24 6 78 52 ls []), ∀ (ab : Nat → Nat) (hE : EX a ab N0) (r0 : Nat) (x2 : Int32) (x6 : Int32) (x7 : Int32) (t0 : Int32) (w1 : Nat) (s : ST) (hN : N0 ≤ s.1), f_X1_sheet_b81q K52 r0 x2 x6 x7 t0 w1 s = some (rv, sf) → ∀ (H : Heap) (locs : List Loc) (ls : Array Slot), lv_has ls 8 [(0, .ref (ab r0)), (2, .int x2), (5, .null), (6, .int x6), (7, .int x7)] → AW G ab A s s0.heap H locs → WBA p l e (rmA 259 6 78) s0 m args below meth c H locs G A P 3 24 6 78 81 ls [.int t0, .ref (ab w1)] := by
    intro K52 hK52 ab hE r0 x2 x6 x7 t0 w1 s hN hf H locs ls hl hW
    unfold f_X1_sheet_b81q at hf
    refine lv_iconst (v := 1) hx hb dX1_sheet_81 (by decide) ?_
    refine lv_goto (tgt := 102) hx hb dX1_sheet_82 (by decide) ?_
    refine W.widen (k := 3) (n := 24) (Nat.le_of_ble_eq_true rfl) (Nat.le_of_ble_eq_true rfl) ?_
    exact B102q K52 hK52 ab hE r0 x2 x6 x7 1 t0 w1 s hN hf _ _ _ (lv_sub hl [0, 1, 2, 3, 4] rfl) hW
  have B52q : ∀ (n : Nat), ∀ (ab : Nat → Nat) (hE : EX a ab N0) (r0 : Nat) (x2 : Int32) (x6 : Int32) (x7 : Int32) (s : ST) (hN : N0 ≤ s.1), f_X1_sheet_b52q n r0 x2 x6 x7 s = some (rv, sf) → ∀ (H : Heap) (locs : List Loc) (ls : Array Slot), lv_has ls 8 [(0, .ref (ab r0)), (2, .int x2), (5, .null), (6, .int x6), (7, .int x7)] → AW G ab A s s0.heap H locs → WBA p l e (rmA 259 6 78) s0 m args below meth c H locs G A P 3 24 6 78 52 ls [] := by
    intro n
    induction n with
    | zero => intro ab hE r0 x2 x6 x7 s hN hf; cases hf
    | succ n ih =>
      intro ab hE r0 x2 x6 x7 s hN hf H locs ls hl hW
      rw [f_X1_sheet_b52q] at hf
      refine lv_iload hx hb dX1_sheet_52 (lv_at hl 4 rfl) ?_
      refine lv_aload_n hx hb dX1_sheet_54 rfl (lv_at hl 0 rfl) ?_
      obtain ⟨g55, hf⟩ := gd_some hf
      refine aw_gI hC hW g55 fl_X1_157 rfl dX1_sheet_55 ?_
      refine lv_icmp_ge (tgt := 124) hx hb dX1_sheet_58 (by decide) (fun c58 => ?_) (fun c58 => ?_)
      · have hf := ifp c58 hf
        refine lv_aloadN hx hb dX1_sheet_124 (lv_at hl 2 rfl) ?_
        refine lv_ifnonnullN hx hb dX1_sheet_126 ?_
        refine lv_bipush (v := (-3)) hx hb dX1_sheet_129 (by decide) ?_
        refine lv_goto (tgt := 136) hx hb dX1_sheet_131 (by decide) ?_
        obtain ⟨e1, e2⟩ := so_inj hf
        exact aw_iret hC hW hr rfl (p_eq (hP _ hE (e2 ▸ hN)) (congrArg (fun z => some (Value.int z)) e1) e2) (Nat.le_of_ble_eq_true rfl) (Nat.le_of_ble_eq_true rfl) dX1_sheet_136
      · have hf := ifn c58 hf
        refine lv_aload_n hx hb dX1_sheet_61 rfl (lv_at hl 0 rfl) ?_
        obtain ⟨q62, hq62, hf⟩ := bi_some hf
        refine aw_gR hC hW g55 fl_X1_18 rfl hq62 dX1_sheet_62 ?_
        obtain ⟨g65, hf⟩ := gd_some hf
        obtain ⟨q65, hq65, hf⟩ := bi_some hf
        refine aw_gR hC hW g65 fl_X1_236 rfl hq65 dX1_sheet_65 ?_
        refine lv_iload hx hb dX1_sheet_68 (lv_at hl 4 rfl) ?_
        refine lv_aloadN hx hb dX1_sheet_70 (lv_at hl 2 rfl) ?_
        refine lv_ifnullN (tgt := 81) hx hb dX1_sheet_72 (by decide) ?_
        refine W.widen (k := 3) (n := 24) (Nat.le_of_ble_eq_true rfl) (Nat.le_of_ble_eq_true rfl) ?_
        exact B81q (f_X1_sheet_b52q n) ih ab hE r0 x2 x6 x7 x7 q65 s hN hf _ _ _ (lv_sub hl [0, 1, 2, 3, 4] rfl) hW
  have B46 : ∀ (ab : Nat → Nat) (hE : EX a ab N0) (r0 : Nat) (x2 : Int32) (s : ST) (hN : N0 ≤ s.1), f_X1_sheet_b46 r0 x2 s = some (rv, sf) → ∀ (H : Heap) (locs : List Loc) (ls : Array Slot), lv_has ls 8 [(0, .ref (ab r0)), (2, .int x2), (5, .null)] → AW G ab A s s0.heap H locs → WBA p l e (rmA 259 6 78) s0 m args below meth c H locs G A P 3 24 6 78 46 ls [] := by
    intro ab hE r0 x2 s hN hf H locs ls hl hW
    unfold f_X1_sheet_b46 at hf
    refine lv_iconst (v := 0) hx hb dX1_sheet_46 (by decide) ?_
    refine lv_istore (lv' := [(6, .int 0), (0, .ref (ab r0)), (2, .int x2), (5, .null)]) hx hb dX1_sheet_47 hl (by decide) rfl (fun ls hl => ?_)
    refine lv_iconst (v := 0) hx hb dX1_sheet_49 (by decide) ?_
    refine lv_istore (lv' := [(7, .int 0), (6, .int 0), (0, .ref (ab r0)), (2, .int x2), (5, .null)]) hx hb dX1_sheet_50 hl (by decide) rfl (fun ls hl => ?_)
    refine W.widen (k := 3) (n := 24) (Nat.le_of_ble_eq_true rfl) (Nat.le_of_ble_eq_true rfl) ?_
    exact B52q fuel ab hE r0 x2 0 0 s hN hf _ _ _ (lv_sub hl [2, 3, 4, 1, 0] rfl) hW
  unfold f_X1_sheet at hf
  refine lv_iload_n hx hb dX1_sheet_0 rfl (lv_at hl 1 rfl) ?_
  refine lv_i2l (v := (x1 : Int32).toInt64) hx hb dX1_sheet_1 rfl ?_
  refine lv_lconst (v := 0) hx hb dX1_sheet_2 (by decide) ?_
  refine lv_ldc2 (v := 3) hx hb hC.2.2.2.1 (hts _ q858) dX1_sheet_3 ?_
  obtain ⟨v6, ev6, hf⟩ := bnd_some hf
  refine aw_dS1 (As := [.long ((x1 : Int32).toInt64), .long 0, .long 3]) (rest := []) (pc_X1_in l G a ((x1 : Int32).toInt64) 0 3 s) hC hW hl.1 sy_X1_in (Or.inl q514) rfl rfl (Nat.le_of_ble_eq_true rfl) ⟨Nat.le_of_ble_eq_true rfl, Nat.le_of_ble_eq_true rfl⟩ ⟨Nat.le_of_ble_eq_true rfl, Nat.le_of_ble_eq_true rfl⟩ dX1_sheet_6 (fun H locs hW => ?_)
  refine top_i ev6 ?_
  refine lv_if_eq (tgt := 18) hx hb dX1_sheet_9 (by decide) (fun c9 => ?_) (fun c9 => ?_)
  · have hf := ifp c9 hf
    refine lv_iconst (v := (-1)) hx hb dX1_sheet_18 (by decide) ?_
    obtain ⟨e1, e2⟩ := so_inj hf
    exact aw_iret hC hW hr rfl (p_eq (hP _ hE (e2 ▸ hN)) (congrArg (fun z => some (Value.int z)) e1) e2) (Nat.le_of_ble_eq_true rfl) (Nat.le_of_ble_eq_true rfl) dX1_sheet_19
  · have hf := ifn c9 hf
    refine lv_iload_n hx hb dX1_sheet_12 rfl (lv_at hl 2 rfl) ?_
    refine lv_bipush (v := 8) hx hb dX1_sheet_13 (by decide) ?_
    refine lv_icmp_le (tgt := 20) hx hb dX1_sheet_15 (by decide) (fun c15 => ?_) (fun c15 => ?_)
    · have hf := ifp c15 hf
      refine lv_null hx hb dX1_sheet_20 ?_
      refine lv_astoreN (lv' := [(5, .null), (0, .ref (a o)), (1, .int x1), (2, .int x2), (3, .int x3), (4, .int x4)]) hx hb dX1_sheet_21 hl (by decide) rfl (fun ls hl => ?_)
      refine lv_iload_n hx hb dX1_sheet_23 rfl (lv_at hl 2 rfl) ?_
      refine lv_iconst (v := 3) hx hb dX1_sheet_24 (by decide) ?_
      refine lv_icmp_ge (tgt := 46) hx hb dX1_sheet_25 (by decide) (fun c25 => ?_) (fun c25 => ?_)
      · have hf := ifp c25 hf
        refine W.widen (k := 3) (n := 24) (Nat.le_of_ble_eq_true rfl) (Nat.le_of_ble_eq_true rfl) ?_
        exact B46 a hE o x2 s hN hf _ _ _ (lv_sub hl [1, 3, 0] rfl) hW
      · have hf := ifn c25 hf
        refine lv_iload_n hx hb dX1_sheet_28 rfl (lv_at hl 2 rfl) ?_
        refine lv_iload_n hx hb dX1_sheet_29 rfl (lv_at hl 3 rfl) ?_
        refine lv_iload_n hx hb dX1_sheet_30 rfl (lv_at hl 4 rfl) ?_
        refine lv_iload hx hb dX1_sheet_31 (lv_at hl 5 rfl) ?_
        rcases oh_cases hf with ⟨pl33, sx33, ht33, hf⟩ | hf
        · refine aw_zrunX (aw_zrS (As := [.int x1, .int x2, .int x3, .int x4]) (rest := []) (tt_X1_rowOf l hlt G a x1 x2 x3 x4 s pl33 sx33 ht33) hC hW hl.1 sy_X1_rowOf q898 rfl rfl (Nat.le_of_ble_eq_true rfl) ⟨Nat.le_of_ble_eq_true rfl, Nat.le_of_ble_eq_true rfl⟩ ⟨Nat.le_of_ble_eq_true rfl, Nat.le_of_ble_eq_true rfl⟩ dX1_sheet_33) hC hW (fun q9 H locs hW hF9 => aw_catch hC hTab hF9.choose_spec.1 hF9.choose_spec.2.1 hF9.choose_spec.2.2 ⟨Nat.le_of_ble_eq_true rfl, Nat.le_of_ble_eq_true rfl, by decide⟩ q869 q889 ?_)
          obtain ⟨hN1, hf⟩ := gd_some hf
          have hN := Nat.le_trans hN hN1
          refine lv_astore (lv' := [(6, .ref q9), (5, .null), (0, .ref (a o)), (1, .int x1), (2, .int x2), (3, .int x3), (4, .int x4)]) hx hb dX1_sheet_41 hl (by decide) rfl (fun ls hl => ?_)
          refine lv_bipush (v := (-2)) hx hb dX1_sheet_43 (by decide) ?_
          obtain ⟨e1, e2⟩ := so_inj hf
          exact aw_iret hC hW hr rfl (p_eq (hP _ hE (e2 ▸ hN)) (congrArg (fun z => some (Value.int z)) e1) e2) (Nat.le_of_ble_eq_true rfl) (Nat.le_of_ble_eq_true rfl) dX1_sheet_45
        obtain ⟨gr33, hf⟩ := gd_some hf
        obtain ⟨v33, s33, h33, hf⟩ := ob_some hf
        refine aw_run hC hW (aw_runS hC hW hl.1 (As := [.int x1, .int x2, .int x3, .int x4]) (rest := []) (cta_X1_rowOf l G a x1 x2 x3 x4 s v33 s33 h33) sy_X1_rowOf (Or.inl q898) rfl rfl (Nat.le_of_ble_eq_true rfl) ⟨Nat.le_of_ble_eq_true rfl, Nat.le_of_ble_eq_true rfl⟩ ⟨Nat.le_of_ble_eq_true rfl, Nat.le_of_ble_eq_true rfl⟩ dX1_sheet_33) (fun v9 a33 s9 H locs hp9 hW => ?_)
        obtain ⟨rfl, h9s, hE1, hN1⟩ := hp9
        rw [h9s] at hW
        have hE : EX a a33 N0 := hE.trans hE1 hN
        have hN := Nat.le_trans hN hN1
        have hl : lv_has ls 8 [(5, .null), (0, .ref (a33 o)), (1, .int x1), (2, .int x2), (3, .int x3), (4, .int x4)] := by simp only [hE1 _ gr33]; exact hl
        refine W.eq (g2 := F0 m 36 ls [.ref (a33 v33)]) rfl ?_
        refine W.widen (k := 3) (n := 24) (Nat.le_of_ble_eq_true rfl) (Nat.le_of_ble_eq_true rfl) ?_
        refine lv_astore (lv' := [(5, .ref (a33 v33)), (0, .ref (a33 o)), (1, .int x1), (2, .int x2), (3, .int x3), (4, .int x4)]) hx hb dX1_sheet_36 hl (by decide) rfl (fun ls hl => ?_)
        refine lv_goto (tgt := 46) hx hb dX1_sheet_38 (by decide) ?_
        refine W.widen (k := 3) (n := 24) (Nat.le_of_ble_eq_true rfl) (Nat.le_of_ble_eq_true rfl) ?_
        exact B46q a33 hE o x2 v33 s33 hN hf _ _ _ (lv_sub hl [1, 3, 0] rfl) hW
    · have hf := ifn c15 hf
      refine lv_iconst (v := (-1)) hx hb dX1_sheet_18 (by decide) ?_
      obtain ⟨e1, e2⟩ := so_inj hf
      exact aw_iret hC hW hr rfl (p_eq (hP _ hE (e2 ▸ hN)) (congrArg (fun z => some (Value.int z)) e1) e2) (Nat.le_of_ble_eq_true rfl) (Nat.le_of_ble_eq_true rfl) dX1_sheet_19
