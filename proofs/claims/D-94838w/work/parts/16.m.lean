set_option maxRecDepth 100000
def f_X14_laws_b105 (t0 : Int32) (s : ST) : Option (Int32 × ST) :=
  bnd (p_flag t0) fun v105 =>
  some (v105, s)
def f_X14_laws_b36 (r0 : Nat) (s : ST) : Option (Int32 × ST) :=
  gd (r0 < s.1 ∧ (kd s r0).1 = 14) <|
  ob (f_X14_refuse r0 s) fun v37 s37 =>
  some (v37, s37)
def f_X14_laws (o : Nat) (x1 : Int32) (x2 : Int32) (s : ST) : Option (Int32 × ST) :=
  gd (o < s.1 ∧ (kd s o).1 = 14) <|
  bnd (pI s o 0 0) fun s2 =>
  (gr s2 o 10).bind fun q9 =>
  gd (q9 < s2.1 ∧ (kd s2 q9).1 = 100 ∧ ¬ ((20 : Int32) < 0 ∨ (kd s2 q9).2 ≤ (20 : Int32).toNatClampNeg)) <|
  bnd (p_in ((x1 : Int32).toInt64) 0 ((((gi s2 q9 (20 : Int32).toNatClampNeg) - 1) : Int32).toInt64)) fun v18 =>
  if v18 = 0 then (f_X14_laws_b36 o s2) else bnd (p_in ((x2 : Int32).toInt64) 0 3) fun v30 =>
  if v30 = 0 then (f_X14_laws_b36 o s2) else if x2 = 0 then ((gr s2 o 10).bind fun q69 =>
  gd (q69 < s2.1 ∧ (kd s2 q69).1 = 100 ∧ ¬ (((21 + x1) : Int32) < 0 ∨ (kd s2 q69).2 ≤ ((21 + x1) : Int32).toNatClampNeg)) <|
  some ((gi s2 q69 ((21 + x1) : Int32).toNatClampNeg), s2)) else
  if x2 = 1 then ((gr s2 o 10).bind fun q79 =>
  gd (q79 < s2.1 ∧ (kd s2 q79).1 = 100 ∧ ¬ (((33 + x1) : Int32) < 0 ∨ (kd s2 q79).2 ≤ ((33 + x1) : Int32).toNatClampNeg)) <|
  some ((gi s2 q79 ((33 + x1) : Int32).toNatClampNeg), s2)) else
  if x2 = 2 then ((gr s2 o 10).bind fun q89 =>
  gd (q89 < s2.1 ∧ (kd s2 q89).1 = 100 ∧ ¬ (((45 + x1) : Int32) < 0 ∨ (kd s2 q89).2 ≤ ((45 + x1) : Int32).toNatClampNeg)) <|
  if 0 ≤ (gi s2 q89 ((45 + x1) : Int32).toNatClampNeg) then (f_X14_laws_b105 0 s2) else f_X14_laws_b105 1 s2) else
  (gr s2 o 10).bind fun q110 =>
  gd (q110 < s2.1 ∧ (kd s2 q110).1 = 100 ∧ ¬ (((45 + x1) : Int32) < 0 ∨ (kd s2 q110).2 ≤ ((45 + x1) : Int32).toNatClampNeg)) <|
  some ((gi s2 q110 ((45 + x1) : Int32).toNatClampNeg), s2)
set_option maxHeartbeats 4000000 in
theorem ct_X14_laws (l : Launch) (G : GM) (a : Nat → Nat) (o : Nat) (x1 : Int32) (x2 : Int32) (s : ST) (rv : Int32) (sf : ST) (hf : f_X14_laws o x1 x2 s = some (rv, sf)) : MD l G yX14_laws (ws_ yX14_laws cX14_laws 3 (some .int)) 1 [.ref (a o), .int x1, .int x2] a s (some (.int rv)) sf := by
  refine md_of (d := 1) (lv := [(0, .ref (a o)), (1, .int x1), (2, .int x2)]) (Or.inl (by decide)) (Nat.le_of_ble_eq_true rfl) rfl ?_
  intro p e s0 m args below meth c ls A P hP hC hr hnm hW hl
  have hx := hC.1
  have hb := hC.2.1
  have hts := hC.2.2.2.2.1
  have B105 : ∀ (t0 : Int32) (s : ST), f_X14_laws_b105 t0 s = some (rv, sf) → ∀ (H : Heap) (locs : List Loc) (ls : Array Slot), lv_has ls 3 [] → AW G a A s s0.heap H locs → WB p l e (rmD 1) s0 m args below meth c H locs G A P 105 ls [.int t0] := by
    intro t0 s hf H locs ls hl hW
    unfold f_X14_laws_b105 at hf
    obtain ⟨v105, ev105, hf⟩ := bnd_some hf
    refine aw_dS1 (As := [.int t0]) (rest := []) (pc_X14_flag l G a t0 s) hC hW hl.1 sy_X14_flag (Or.inl q1544) rfl rfl (Nat.le_of_ble_eq_true rfl) ⟨Nat.le_of_ble_eq_true rfl, Nat.le_of_ble_eq_true rfl⟩ ⟨Nat.le_of_ble_eq_true rfl, Nat.le_of_ble_eq_true rfl⟩ dX14_laws_105 (fun H locs hW => ?_)
    refine top_i ev105 ?_
    obtain ⟨e1, e2⟩ := so_inj hf
    exact aw_iret hC hW hr rfl (p_eq hP (congrArg (fun z => some (Value.int z)) e1) e2) (Nat.le_of_ble_eq_true rfl) (Nat.le_of_ble_eq_true rfl) dX14_laws_108
  have B36 : ∀ (r0 : Nat) (s : ST), f_X14_laws_b36 r0 s = some (rv, sf) → ∀ (H : Heap) (locs : List Loc) (ls : Array Slot), lv_has ls 3 [(0, .ref (a r0))] → AW G a A s s0.heap H locs → WB p l e (rmD 1) s0 m args below meth c H locs G A P 36 ls [] := by
    intro r0 s hf H locs ls hl hW
    unfold f_X14_laws_b36 at hf
    refine lv_aload_n hx hb dX14_laws_36 rfl (lv_at hl 0 rfl) ?_
    obtain ⟨g37, hf⟩ := gd_some hf
    obtain ⟨v37, s37, h37, hf⟩ := ob_some hf
    refine aw_dV1 (r := r0) (As := []) (rest := []) (ct_X14_refuse l G a r0 s v37 s37 h37) hC hW hl.1 vy_X14_refuse (Or.inl q1622) g37 rfl rfl rfl rfl (Nat.le_of_ble_eq_true rfl) ⟨Nat.le_of_ble_eq_true rfl, Nat.le_of_ble_eq_true rfl⟩ ⟨Nat.le_of_ble_eq_true rfl, Nat.le_of_ble_eq_true rfl⟩ dX14_laws_37 (fun H locs hW => ?_)
    obtain ⟨e1, e2⟩ := so_inj hf
    exact aw_iret hC hW hr rfl (p_eq hP (congrArg (fun z => some (Value.int z)) e1) e2) (Nat.le_of_ble_eq_true rfl) (Nat.le_of_ble_eq_true rfl) dX14_laws_40
  unfold f_X14_laws at hf
  refine lv_aload_n hx hb dX14_laws_0 rfl (lv_at hl 0 rfl) ?_
  refine lv_iconst (v := 0) hx hb dX14_laws_1 (by decide) ?_
  obtain ⟨g2, hf⟩ := gd_some hf
  obtain ⟨s2, e2, hf⟩ := bnd_some hf
  refine aw_pI e2 hC hW g2 fl_X14_3 (Or.inl fn_13_0) rfl rfl rfl dX14_laws_2 (fun H locs hW => ?_)
  have g2 := ko_pI e2 g2
  refine lv_iload_n hx hb dX14_laws_5 rfl (lv_at hl 1 rfl) ?_
  refine lv_i2l (v := (x1 : Int32).toInt64) hx hb dX14_laws_6 rfl ?_
  refine lv_lconst (v := 0) hx hb dX14_laws_7 (by decide) ?_
  refine lv_aload_n hx hb dX14_laws_8 rfl (lv_at hl 0 rfl) ?_
  obtain ⟨q9, hq9, hf⟩ := bi_some hf
  refine aw_gR hC hW g2 fl_X14_44 rfl hq9 dX14_laws_9 ?_
  refine lv_bipush (v := 20) hx hb dX14_laws_12 (by decide) ?_
  obtain ⟨g14, hf⟩ := gd_some hf
  refine aw_iald hC hW g14 dX14_laws_14 ?_
  refine lv_iconst (v := 1) hx hb dX14_laws_15 (by decide) ?_
  refine lv_isub hx hb dX14_laws_16 ?_
  refine lv_i2l (v := (((gi s2 q9 (20 : Int32).toNatClampNeg) - 1) : Int32).toInt64) hx hb dX14_laws_17 rfl ?_
  obtain ⟨v18, ev18, hf⟩ := bnd_some hf
  refine aw_dS1 (As := [.long ((x1 : Int32).toInt64), .long 0, .long ((((gi s2 q9 (20 : Int32).toNatClampNeg) - 1) : Int32).toInt64)]) (rest := []) (pc_X14_in l G a ((x1 : Int32).toInt64) 0 ((((gi s2 q9 (20 : Int32).toNatClampNeg) - 1) : Int32).toInt64) s2) hC hW hl.1 sy_X14_in (Or.inl q1514) rfl rfl (Nat.le_of_ble_eq_true rfl) ⟨Nat.le_of_ble_eq_true rfl, Nat.le_of_ble_eq_true rfl⟩ ⟨Nat.le_of_ble_eq_true rfl, Nat.le_of_ble_eq_true rfl⟩ dX14_laws_18 (fun H locs hW => ?_)
  refine top_i ev18 ?_
  refine lv_if_eq (tgt := 36) hx hb dX14_laws_21 (by decide) (fun c21 => ?_) (fun c21 => ?_)
  · have hf := ifp c21 hf
    exact B36 o s2 hf _ _ _ (lv_sub hl [0] rfl) hW
  · have hf := ifn c21 hf
    refine lv_iload_n hx hb dX14_laws_24 rfl (lv_at hl 2 rfl) ?_
    refine lv_i2l (v := (x2 : Int32).toInt64) hx hb dX14_laws_25 rfl ?_
    refine lv_lconst (v := 0) hx hb dX14_laws_26 (by decide) ?_
    refine lv_ldc2 (v := 3) hx hb hC.2.2.2.1 (hts _ q1658) dX14_laws_27 ?_
    obtain ⟨v30, ev30, hf⟩ := bnd_some hf
    refine aw_dS1 (As := [.long ((x2 : Int32).toInt64), .long 0, .long 3]) (rest := []) (pc_X14_in l G a ((x2 : Int32).toInt64) 0 3 s2) hC hW hl.1 sy_X14_in (Or.inl q1514) rfl rfl (Nat.le_of_ble_eq_true rfl) ⟨Nat.le_of_ble_eq_true rfl, Nat.le_of_ble_eq_true rfl⟩ ⟨Nat.le_of_ble_eq_true rfl, Nat.le_of_ble_eq_true rfl⟩ dX14_laws_30 (fun H locs hW => ?_)
    refine top_i ev30 ?_
    refine lv_if_ne (tgt := 41) hx hb dX14_laws_33 (by decide) (fun c33 => ?_) (fun c33 => ?_)
    · have hf := ifn c33 hf
      refine lv_iload_n hx hb dX14_laws_41 rfl (lv_at hl 2 rfl) ?_
      by_cases c42 : x2 = 0
      · have hf := ifp c42 hf
        refine lv_tableIn (tgt := 68) hx hb dX14_laws_42 (by rw [c42]; decide) (by rw [c42]; decide) (by rw [c42]; rfl) (by decide) ?_
        refine lv_aload_n hx hb dX14_laws_68 rfl (lv_at hl 0 rfl) ?_
        obtain ⟨q69, hq69, hf⟩ := bi_some hf
        refine aw_gR hC hW g2 fl_X14_44 rfl hq69 dX14_laws_69 ?_
        refine lv_bipush (v := 21) hx hb dX14_laws_72 (by decide) ?_
        refine lv_iload_n hx hb dX14_laws_74 rfl (lv_at hl 1 rfl) ?_
        refine lv_iadd hx hb dX14_laws_75 ?_
        obtain ⟨g76, hf⟩ := gd_some hf
        refine aw_iald hC hW g76 dX14_laws_76 ?_
        obtain ⟨e1, e2⟩ := so_inj hf
        exact aw_iret hC hW hr rfl (p_eq hP (congrArg (fun z => some (Value.int z)) e1) e2) (Nat.le_of_ble_eq_true rfl) (Nat.le_of_ble_eq_true rfl) dX14_laws_77
      have hf := ifn c42 hf
      by_cases c42_1 : x2 = 1
      · have hf := ifp c42_1 hf
        refine lv_tableIn (tgt := 78) hx hb dX14_laws_42 (by rw [c42_1]; decide) (by rw [c42_1]; decide) (by rw [c42_1]; rfl) (by decide) ?_
        refine lv_aload_n hx hb dX14_laws_78 rfl (lv_at hl 0 rfl) ?_
        obtain ⟨q79, hq79, hf⟩ := bi_some hf
        refine aw_gR hC hW g2 fl_X14_44 rfl hq79 dX14_laws_79 ?_
        refine lv_bipush (v := 33) hx hb dX14_laws_82 (by decide) ?_
        refine lv_iload_n hx hb dX14_laws_84 rfl (lv_at hl 1 rfl) ?_
        refine lv_iadd hx hb dX14_laws_85 ?_
        obtain ⟨g86, hf⟩ := gd_some hf
        refine aw_iald hC hW g86 dX14_laws_86 ?_
        obtain ⟨e1, e2⟩ := so_inj hf
        exact aw_iret hC hW hr rfl (p_eq hP (congrArg (fun z => some (Value.int z)) e1) e2) (Nat.le_of_ble_eq_true rfl) (Nat.le_of_ble_eq_true rfl) dX14_laws_87
      have hf := ifn c42_1 hf
      by_cases c42_2 : x2 = 2
      · have hf := ifp c42_2 hf
        refine lv_tableIn (tgt := 88) hx hb dX14_laws_42 (by rw [c42_2]; decide) (by rw [c42_2]; decide) (by rw [c42_2]; rfl) (by decide) ?_
        refine lv_aload_n hx hb dX14_laws_88 rfl (lv_at hl 0 rfl) ?_
        obtain ⟨q89, hq89, hf⟩ := bi_some hf
        refine aw_gR hC hW g2 fl_X14_44 rfl hq89 dX14_laws_89 ?_
        refine lv_bipush (v := 45) hx hb dX14_laws_92 (by decide) ?_
        refine lv_iload_n hx hb dX14_laws_94 rfl (lv_at hl 1 rfl) ?_
        refine lv_iadd hx hb dX14_laws_95 ?_
        obtain ⟨g96, hf⟩ := gd_some hf
        refine aw_iald hC hW g96 dX14_laws_96 ?_
        refine lv_if_ge (tgt := 104) hx hb dX14_laws_97 (by decide) (fun c97 => ?_) (fun c97 => ?_)
        · have hf := ifp c97 hf
          refine lv_iconst (v := 0) hx hb dX14_laws_104 (by decide) ?_
          exact B105 0 s2 hf _ _ _ (lv_sub hl [] rfl) hW
        · have hf := ifn c97 hf
          refine lv_iconst (v := 1) hx hb dX14_laws_100 (by decide) ?_
          refine lv_goto (tgt := 105) hx hb dX14_laws_101 (by decide) ?_
          exact B105 1 s2 hf _ _ _ (lv_sub hl [] rfl) hW
      have hf := ifn c42_2 hf
      have zc42 := lv_neT (a := 0) c42 (by decide)
      have zc42_1 := lv_neT (a := 1) c42_1 (by decide)
      have zc42_2 := lv_neT (a := 2) c42_2 (by decide)
      refine lv_tableOut (tgt := 109) hx hb dX14_laws_42 (by omega) (by decide) ?_
      refine lv_aload_n hx hb dX14_laws_109 rfl (lv_at hl 0 rfl) ?_
      obtain ⟨q110, hq110, hf⟩ := bi_some hf
      refine aw_gR hC hW g2 fl_X14_44 rfl hq110 dX14_laws_110 ?_
      refine lv_bipush (v := 45) hx hb dX14_laws_113 (by decide) ?_
      refine lv_iload_n hx hb dX14_laws_115 rfl (lv_at hl 1 rfl) ?_
      refine lv_iadd hx hb dX14_laws_116 ?_
      obtain ⟨g117, hf⟩ := gd_some hf
      refine aw_iald hC hW g117 dX14_laws_117 ?_
      obtain ⟨e1, e2⟩ := so_inj hf
      exact aw_iret hC hW hr rfl (p_eq hP (congrArg (fun z => some (Value.int z)) e1) e2) (Nat.le_of_ble_eq_true rfl) (Nat.le_of_ble_eq_true rfl) dX14_laws_118
    · have hf := ifp c33 hf
      exact B36 o s2 hf _ _ _ (lv_sub hl [0] rfl) hW
def f_X14_oddsOf_b256 (y5 : Int64) (t0 : Int32) (w1 : Nat) (s : ST) : Option (Unit × ST) :=
  gd (w1 < s.1 ∧ (kd s w1).1 = 104 ∧ ¬ ((t0 : Int32) < 0 ∨ (kd s w1).2 ≤ (t0 : Int32).toNatClampNeg)) <|
  gd (w1 < s.1 ∧ (kd s w1).1 = 104 ∧ ¬ ((t0 : Int32) < 0 ∨ (kd s w1).2 ≤ (t0 : Int32).toNatClampNeg)) <|
  bnd (pL s w1 (t0 : Int32).toNatClampNeg ((gl s w1 (t0 : Int32).toNatClampNeg) + y5)) fun s261 =>
  some ((), s261)
def f_X14_oddsOf_b182 (K132 : Nat → Nat → Nat → Int32 → Int64 → Int32 → Int32 → Int32 → ST → Option (Unit × ST)) (r0 : Nat) (r1 : Nat) (r2 : Nat) (x4 : Int32) (y5 : Int64) (x7 : Int32) (x9 : Int32) (t0 : Int32) (s : ST) : Option (Unit × ST) :=
  bnd (x9 + 1 : Int32) fun v184 =>
  K132 r0 r1 r2 x4 y5 x7 t0 v184 s
def f_X14_oddsOf_b180 (K132 : Nat → Nat → Nat → Int32 → Int64 → Int32 → Int32 → Int32 → ST → Option (Unit × ST)) (r0 : Nat) (r1 : Nat) (r2 : Nat) (x4 : Int32) (y5 : Int64) (x7 : Int32) (x8 : Int32) (x9 : Int32) (s : ST) : Option (Unit × ST) :=
  f_X14_oddsOf_b182 K132 r0 r1 r2 x4 y5 x7 x9 x8 s
def f_X14_oddsOf_b175 (K132 : Nat → Nat → Nat → Int32 → Int64 → Int32 → Int32 → Int32 → ST → Option (Unit × ST)) (r0 : Nat) (r1 : Nat) (r2 : Nat) (x4 : Int32) (y5 : Int64) (x7 : Int32) (x9 : Int32) (s : ST) : Option (Unit × ST) :=
  f_X14_oddsOf_b182 K132 r0 r1 r2 x4 y5 x7 x9 x9 s
def f_X14_oddsOf_b132 (K121 : Nat → Nat → Nat → Int32 → Int64 → Int32 → ST → Option (Unit × ST)) : Nat → Nat → Nat → Nat → Int32 → Int64 → Int32 → Int32 → Int32 → ST → Option (Unit × ST)
  | 0, _, _, _, _, _, _, _, _, _ => none
  | n + 1, r0, r1, r2, x4, y5, x7, x8, x9, s =>
  gd (r0 < s.1 ∧ (kd s r0).1 = 14) <|
  if (gi s r0 3) ≤ x9 then ((gr s r0 5).bind fun q202 =>
  gd (q202 < s.1 ∧ (kd s q202).1 = 100 ∧ ¬ ((x8 : Int32) < 0 ∨ (kd s q202).2 ≤ (x8 : Int32).toNatClampNeg)) <|
  gd (r2 < s.1 ∧ (kd s r2).1 = 104 ∧ ¬ ((x8 : Int32) < 0 ∨ (kd s r2).2 ≤ (x8 : Int32).toNatClampNeg)) <|
  bnd (pL s r2 (x8 : Int32).toNatClampNeg ((y5 / 10) * (((10 - (gi s q202 (x8 : Int32).toNatClampNeg)) : Int32).toInt64))) fun s211 =>
  (gr s211 r0 5).bind fun q219 =>
  gd (q219 < s211.1 ∧ (kd s211 q219).1 = 100 ∧ ¬ ((x8 : Int32) < 0 ∨ (kd s211 q219).2 ≤ (x8 : Int32).toNatClampNeg)) <|
  bnd (((y5 / 10) * (((gi s211 q219 (x8 : Int32).toNatClampNeg) : Int32).toInt64)) : Int64) fun v227 =>
  bnd ((x7 &&& ((1 <<< (x8 &&& 31)) ^^^ (-1))) : Int32) fun v238 =>
  K121 r0 r1 r2 x4 v227 v238 s211) else bnd (p_has x7 x9) fun v145 =>
  if v145 = 0 then (f_X14_oddsOf_b180 (f_X14_oddsOf_b132 K121 n) r0 r1 r2 x4 y5 x7 x8 x9 s) else if x8 < 0 then (f_X14_oddsOf_b175 (f_X14_oddsOf_b132 K121 n) r0 r1 r2 x4 y5 x7 x9 s) else gd (r1 < s.1 ∧ (kd s r1).1 = 100 ∧ ¬ ((x9 : Int32) < 0 ∨ (kd s r1).2 ≤ (x9 : Int32).toNatClampNeg)) <|
  ob (f_X14_shows r0 (gi s r1 (x9 : Int32).toNatClampNeg) s) fun v161 s161 =>
  gd (r1 < s161.1 ∧ (kd s161 r1).1 = 100 ∧ ¬ ((x8 : Int32) < 0 ∨ (kd s161 r1).2 ≤ (x8 : Int32).toNatClampNeg)) <|
  gd (r0 < s161.1 ∧ (kd s161 r0).1 = 14) <|
  ob (f_X14_shows r0 (gi s161 r1 (x8 : Int32).toNatClampNeg) s161) fun v169 s169 =>
  if v161 ≤ v169 then (f_X14_oddsOf_b180 (f_X14_oddsOf_b132 K121 n) r0 r1 r2 x4 y5 x7 x8 x9 s169) else f_X14_oddsOf_b175 (f_X14_oddsOf_b132 K121 n) r0 r1 r2 x4 y5 x7 x9 s169
def f_X14_oddsOf_b121 : Nat → Nat → Nat → Nat → Int32 → Int64 → Int32 → ST → Option (Unit × ST)
  | 0, _, _, _, _, _, _, _ => none
  | n + 1, r0, r1, r2, x4, y5, x7, s =>
  if x7 = 0 then (if 0 ≤ x4 then (f_X14_oddsOf_b256 y5 x4 r2 s) else f_X14_oddsOf_b256 y5 8 r2 s) else f_X14_oddsOf_b132 (f_X14_oddsOf_b121 n) fuel r0 r1 r2 x4 y5 x7 (-1) 0 s
def f_X14_oddsOf_b112 (K41 : Nat → Nat → Nat → Int32 → Int32 → Int64 → Int32 → Int32 → ST → Option (Unit × ST)) (r0 : Nat) (r1 : Nat) (r2 : Nat) (x3 : Int32) (x4 : Int32) (y5 : Int64) (x8 : Int32) (t0 : Int32) (t1 : Int32) (s : ST) : Option (Unit × ST) :=
  bnd ((t1 ||| t0) : Int32) fun v113 =>
  bnd (x8 + 1 : Int32) fun v115 =>
  K41 r0 r1 r2 x3 x4 y5 v113 v115 s
def f_X14_oddsOf_b111 (K41 : Nat → Nat → Nat → Int32 → Int32 → Int64 → Int32 → Int32 → ST → Option (Unit × ST)) (r0 : Nat) (r1 : Nat) (r2 : Nat) (x3 : Int32) (x4 : Int32) (y5 : Int64) (x8 : Int32) (t0 : Int32) (s : ST) : Option (Unit × ST) :=
  f_X14_oddsOf_b112 K41 r0 r1 r2 x3 x4 y5 x8 0 t0 s
def f_X14_oddsOf_b79 (K41 : Nat → Nat → Nat → Int32 → Int32 → Int64 → Int32 → Int32 → ST → Option (Unit × ST)) (r0 : Nat) (r1 : Nat) (r2 : Nat) (x3 : Int32) (x4 : Int32) (y5 : Int64) (x7 : Int32) (x8 : Int32) (t0 : Int32) (s : ST) : Option (Unit × ST) :=
  bnd (p_has x3 x8) fun v86 =>
  if v86 = 0 then (f_X14_oddsOf_b111 K41 r0 r1 r2 x3 x4 y5 x8 x7 s) else if x8 = x4 then (f_X14_oddsOf_b111 K41 r0 r1 r2 x3 x4 y5 x8 x7 s) else if t0 = 0 then (f_X14_oddsOf_b111 K41 r0 r1 r2 x3 x4 y5 x8 x7 s) else f_X14_oddsOf_b112 K41 r0 r1 r2 x3 x4 y5 x8 (1 <<< (x8 &&& 31)) x7 s
def f_X14_oddsOf_b74 (K41 : Nat → Nat → Nat → Int32 → Int32 → Int64 → Int32 → Int32 → ST → Option (Unit × ST)) (r0 : Nat) (r1 : Nat) (r2 : Nat) (x3 : Int32) (x4 : Int32) (y5 : Int64) (x7 : Int32) (x8 : Int32) (s : ST) : Option (Unit × ST) :=
  f_X14_oddsOf_b79 K41 r0 r1 r2 x3 x4 y5 x7 x8 1 s
def f_X14_oddsOf_b41 : Nat → Nat → Nat → Nat → Int32 → Int32 → Int64 → Int32 → Int32 → ST → Option (Unit × ST)
  | 0, _, _, _, _, _, _, _, _, _ => none
  | n + 1, r0, r1, r2, x3, x4, y5, x7, x8, s =>
  gd (r0 < s.1 ∧ (kd s r0).1 = 14) <|
  if (gi s r0 3) ≤ x8 then (f_X14_oddsOf_b121 fuel r0 r1 r2 x4 y5 x7 s) else if x4 < 0 then (f_X14_oddsOf_b74 (f_X14_oddsOf_b41 n) r0 r1 r2 x3 x4 y5 x7 x8 s) else gd (r1 < s.1 ∧ (kd s r1).1 = 100 ∧ ¬ ((x8 : Int32) < 0 ∨ (kd s r1).2 ≤ (x8 : Int32).toNatClampNeg)) <|
  ob (f_X14_shows r0 (gi s r1 (x8 : Int32).toNatClampNeg) s) fun v60 s60 =>
  gd (r1 < s60.1 ∧ (kd s60 r1).1 = 100 ∧ ¬ ((x4 : Int32) < 0 ∨ (kd s60 r1).2 ≤ (x4 : Int32).toNatClampNeg)) <|
  gd (r0 < s60.1 ∧ (kd s60 r0).1 = 14) <|
  ob (f_X14_shows r0 (gi s60 r1 (x4 : Int32).toNatClampNeg) s60) fun v68 s68 =>
  if v60 ≤ v68 then (f_X14_oddsOf_b79 (f_X14_oddsOf_b41 n) r0 r1 r2 x3 x4 y5 x7 x8 0 s68) else f_X14_oddsOf_b74 (f_X14_oddsOf_b41 n) r0 r1 r2 x3 x4 y5 x7 x8 s68
def f_X14_oddsOf_b2 : Nat → Nat → Nat → Nat → Int32 → ST → Option (Unit × ST)
  | 0, _, _, _, _, _ => none
  | n + 1, r0, r1, r2, x3, s =>
  if 8 < x3 then (gd (r0 < s.1 ∧ (kd s r0).1 = 14) <|
  ob (f_X14_willing r0 r1 s) fun v20 s20 =>
  gd (r1 < s20.1 ∧ (kd s20 r1).1 = 100 ∧ ¬ ((17 : Int32) < 0 ∨ (kd s20 r1).2 ≤ (17 : Int32).toNatClampNeg)) <|
  bnd ((gi s20 r1 (17 : Int32).toNatClampNeg) : Int32) fun v28 =>
  f_X14_oddsOf_b41 fuel r0 r1 r2 v20 v28 100000000 0 0 s20) else gd (r2 < s.1 ∧ (kd s r2).1 = 104 ∧ ¬ ((x3 : Int32) < 0 ∨ (kd s r2).2 ≤ (x3 : Int32).toNatClampNeg)) <|
  bnd (pL s r2 (x3 : Int32).toNatClampNeg 0) fun s11 =>
  bnd (x3 + 1 : Int32) fun v12 =>
  f_X14_oddsOf_b2 n r0 r1 r2 v12 s11
def f_X14_oddsOf (o : Nat) (r1 : Nat) (r2 : Nat) (s : ST) : Option (Unit × ST) :=
  f_X14_oddsOf_b2 fuel o r1 r2 0 s
set_option maxHeartbeats 4000000 in
theorem ct_X14_oddsOf (l : Launch) (G : GM) (a : Nat → Nat) (o : Nat) (r1 : Nat) (r2 : Nat) (s : ST) (rv : Unit) (sf : ST) (hf : f_X14_oddsOf o r1 r2 s = some (rv, sf)) : MD l G yX14_oddsOf (ws_ yX14_oddsOf cX14_oddsOf 10 none) 5 [.ref (a o), .ref (a r1), .ref (a r2)] a s none sf := by
  refine md_of (d := 5) (lv := [(0, .ref (a o)), (1, .ref (a r1)), (2, .ref (a r2))]) (Or.inl (by decide)) (Nat.le_of_ble_eq_true rfl) rfl ?_
  intro p e s0 m args below meth c ls A P hP hC hr hnm hW hl
  have hx := hC.1
  have hb := hC.2.1
  have hts := hC.2.2.2.2.1
  have B256 : ∀ (y5 : Int64) (t0 : Int32) (w1 : Nat) (s : ST), f_X14_oddsOf_b256 y5 t0 w1 s = some (rv, sf) → ∀ (H : Heap) (locs : List Loc) (ls : Array Slot), lv_has ls 10 [(5, .long y5)] → AW G a A s s0.heap H locs → WB p l e (rmD 5) s0 m args below meth c H locs G A P 256 ls [.int t0, .ref (a w1)] := by
    intro y5 t0 w1 s hf H locs ls hl hW
    unfold f_X14_oddsOf_b256 at hf
    refine lv_dup2_11 hx hb dX14_oddsOf_256 rfl rfl ?_
    obtain ⟨g257, hf⟩ := gd_some hf
    refine aw_lald hC hW g257 dX14_oddsOf_257 ?_
    refine lv_lload hx hb dX14_oddsOf_258 (lv_at hl 0 rfl) ?_
    refine lv_ladd hx hb dX14_oddsOf_260 ?_
    obtain ⟨g261, hf⟩ := gd_some hf
    obtain ⟨s261, e261, hf⟩ := bnd_some hf
    refine aw_last e261 hC hW g261 dX14_oddsOf_261 (fun H locs hW => ?_)
    obtain ⟨e1, e2⟩ := so_inj hf
    exact aw_vret hC hW hr (p_eq hP rfl e2) (Nat.le_of_ble_eq_true rfl) (Nat.le_of_ble_eq_true rfl) dX14_oddsOf_262
  have B182 : ∀ (K132 : Nat → Nat → Nat → Int32 → Int64 → Int32 → Int32 → Int32 → ST → Option (Unit × ST)) (hK132 : ∀ (r0 : Nat) (r1 : Nat) (r2 : Nat) (x4 : Int32) (y5 : Int64) (x7 : Int32) (x8 : Int32) (x9 : Int32) (s : ST), K132 r0 r1 r2 x4 y5 x7 x8 x9 s = some (rv, sf) → ∀ (H : Heap) (locs : List Loc) (ls : Array Slot), lv_has ls 10 [(0, .ref (a r0)), (1, .ref (a r1)), (2, .ref (a r2)), (4, .int x4), (5, .long y5), (7, .int x7), (8, .int x8), (9, .int x9)] → AW G a A s s0.heap H locs → WB p l e (rmD 5) s0 m args below meth c H locs G A P 132 ls []), ∀ (r0 : Nat) (r1 : Nat) (r2 : Nat) (x4 : Int32) (y5 : Int64) (x7 : Int32) (x9 : Int32) (t0 : Int32) (s : ST), f_X14_oddsOf_b182 K132 r0 r1 r2 x4 y5 x7 x9 t0 s = some (rv, sf) → ∀ (H : Heap) (locs : List Loc) (ls : Array Slot), lv_has ls 10 [(0, .ref (a r0)), (1, .ref (a r1)), (2, .ref (a r2)), (4, .int x4), (5, .long y5), (7, .int x7), (9, .int x9)] → AW G a A s s0.heap H locs → WB p l e (rmD 5) s0 m args below meth c H locs G A P 182 ls [.int t0] := by
    intro K132 hK132 r0 r1 r2 x4 y5 x7 x9 t0 s hf H locs ls hl hW
    unfold f_X14_oddsOf_b182 at hf
    refine lv_istore (lv' := [(8, .int t0), (0, .ref (a r0)), (1, .ref (a r1)), (2, .ref (a r2)), (4, .int x4), (5, .long y5), (7, .int x7), (9, .int x9)]) hx hb dX14_oddsOf_182 hl (by decide) rfl (fun ls hl => ?_)
    obtain ⟨v184, ev184, hf⟩ := bnd_some hf
    refine lv_iinc (v := v184) (lv' := [(9, .int v184), (8, .int t0), (0, .ref (a r0)), (1, .ref (a r1)), (2, .ref (a r2)), (4, .int x4), (5, .long y5), (7, .int x7)]) hx hb dX14_oddsOf_184 hl (k := 7) rfl (by rw [ev184]; rfl) (by decide) rfl (fun ls hl => ?_)
    refine lv_goto (tgt := 132) hx hb dX14_oddsOf_187 (by decide) ?_
    exact hK132 r0 r1 r2 x4 y5 x7 t0 v184 s hf _ _ _ (lv_sub hl [2, 3, 4, 5, 6, 7, 1, 0] rfl) hW
  have B180 : ∀ (K132 : Nat → Nat → Nat → Int32 → Int64 → Int32 → Int32 → Int32 → ST → Option (Unit × ST)) (hK132 : ∀ (r0 : Nat) (r1 : Nat) (r2 : Nat) (x4 : Int32) (y5 : Int64) (x7 : Int32) (x8 : Int32) (x9 : Int32) (s : ST), K132 r0 r1 r2 x4 y5 x7 x8 x9 s = some (rv, sf) → ∀ (H : Heap) (locs : List Loc) (ls : Array Slot), lv_has ls 10 [(0, .ref (a r0)), (1, .ref (a r1)), (2, .ref (a r2)), (4, .int x4), (5, .long y5), (7, .int x7), (8, .int x8), (9, .int x9)] → AW G a A s s0.heap H locs → WB p l e (rmD 5) s0 m args below meth c H locs G A P 132 ls []), ∀ (r0 : Nat) (r1 : Nat) (r2 : Nat) (x4 : Int32) (y5 : Int64) (x7 : Int32) (x8 : Int32) (x9 : Int32) (s : ST), f_X14_oddsOf_b180 K132 r0 r1 r2 x4 y5 x7 x8 x9 s = some (rv, sf) → ∀ (H : Heap) (locs : List Loc) (ls : Array Slot), lv_has ls 10 [(0, .ref (a r0)), (1, .ref (a r1)), (2, .ref (a r2)), (4, .int x4), (5, .long y5), (7, .int x7), (8, .int x8), (9, .int x9)] → AW G a A s s0.heap H locs → WB p l e (rmD 5) s0 m args below meth c H locs G A P 180 ls [] := by
    intro K132 hK132 r0 r1 r2 x4 y5 x7 x8 x9 s hf H locs ls hl hW
    unfold f_X14_oddsOf_b180 at hf
    refine lv_iload hx hb dX14_oddsOf_180 (lv_at hl 6 rfl) ?_
    exact B182 K132 hK132 r0 r1 r2 x4 y5 x7 x9 x8 s hf _ _ _ (lv_sub hl [0, 1, 2, 3, 4, 5, 7] rfl) hW
  have B175 : ∀ (K132 : Nat → Nat → Nat → Int32 → Int64 → Int32 → Int32 → Int32 → ST → Option (Unit × ST)) (hK132 : ∀ (r0 : Nat) (r1 : Nat) (r2 : Nat) (x4 : Int32) (y5 : Int64) (x7 : Int32) (x8 : Int32) (x9 : Int32) (s : ST), K132 r0 r1 r2 x4 y5 x7 x8 x9 s = some (rv, sf) → ∀ (H : Heap) (locs : List Loc) (ls : Array Slot), lv_has ls 10 [(0, .ref (a r0)), (1, .ref (a r1)), (2, .ref (a r2)), (4, .int x4), (5, .long y5), (7, .int x7), (8, .int x8), (9, .int x9)] → AW G a A s s0.heap H locs → WB p l e (rmD 5) s0 m args below meth c H locs G A P 132 ls []), ∀ (r0 : Nat) (r1 : Nat) (r2 : Nat) (x4 : Int32) (y5 : Int64) (x7 : Int32) (x9 : Int32) (s : ST), f_X14_oddsOf_b175 K132 r0 r1 r2 x4 y5 x7 x9 s = some (rv, sf) → ∀ (H : Heap) (locs : List Loc) (ls : Array Slot), lv_has ls 10 [(0, .ref (a r0)), (1, .ref (a r1)), (2, .ref (a r2)), (4, .int x4), (5, .long y5), (7, .int x7), (9, .int x9)] → AW G a A s s0.heap H locs → WB p l e (rmD 5) s0 m args below meth c H locs G A P 175 ls [] := by
    intro K132 hK132 r0 r1 r2 x4 y5 x7 x9 s hf H locs ls hl hW
    unfold f_X14_oddsOf_b175 at hf
    refine lv_iload hx hb dX14_oddsOf_175 (lv_at hl 6 rfl) ?_
    refine lv_goto (tgt := 182) hx hb dX14_oddsOf_177 (by decide) ?_
    exact B182 K132 hK132 r0 r1 r2 x4 y5 x7 x9 x9 s hf _ _ _ (lv_sub hl [0, 1, 2, 3, 4, 5, 6] rfl) hW
  have B132 : ∀ (K121 : Nat → Nat → Nat → Int32 → Int64 → Int32 → ST → Option (Unit × ST)) (hK121 : ∀ (r0 : Nat) (r1 : Nat) (r2 : Nat) (x4 : Int32) (y5 : Int64) (x7 : Int32) (s : ST), K121 r0 r1 r2 x4 y5 x7 s = some (rv, sf) → ∀ (H : Heap) (locs : List Loc) (ls : Array Slot), lv_has ls 10 [(0, .ref (a r0)), (1, .ref (a r1)), (2, .ref (a r2)), (4, .int x4), (5, .long y5), (7, .int x7)] → AW G a A s s0.heap H locs → WB p l e (rmD 5) s0 m args below meth c H locs G A P 121 ls []), ∀ (n : Nat), ∀ (r0 : Nat) (r1 : Nat) (r2 : Nat) (x4 : Int32) (y5 : Int64) (x7 : Int32) (x8 : Int32) (x9 : Int32) (s : ST), f_X14_oddsOf_b132 K121 n r0 r1 r2 x4 y5 x7 x8 x9 s = some (rv, sf) → ∀ (H : Heap) (locs : List Loc) (ls : Array Slot), lv_has ls 10 [(0, .ref (a r0)), (1, .ref (a r1)), (2, .ref (a r2)), (4, .int x4), (5, .long y5), (7, .int x7), (8, .int x8), (9, .int x9)] → AW G a A s s0.heap H locs → WB p l e (rmD 5) s0 m args below meth c H locs G A P 132 ls [] := by
    intro K121 hK121
    intro n
    induction n with
    | zero => intro r0 r1 r2 x4 y5 x7 x8 x9 s hf; cases hf
    | succ n ih =>
      intro r0 r1 r2 x4 y5 x7 x8 x9 s hf H locs ls hl hW
      rw [f_X14_oddsOf_b132] at hf
      refine lv_iload hx hb dX14_oddsOf_132 (lv_at hl 7 rfl) ?_
      refine lv_aload_n hx hb dX14_oddsOf_134 rfl (lv_at hl 0 rfl) ?_
      obtain ⟨g135, hf⟩ := gd_some hf
      refine aw_gI hC hW g135 fl_X14_117 rfl dX14_oddsOf_135 ?_
      refine lv_icmp_ge (tgt := 190) hx hb dX14_oddsOf_138 (by decide) (fun c138 => ?_) (fun c138 => ?_)
      · have hf := ifp c138 hf
        refine lv_aload_n hx hb dX14_oddsOf_190 rfl (lv_at hl 2 rfl) ?_
        refine lv_iload hx hb dX14_oddsOf_191 (lv_at hl 6 rfl) ?_
        refine lv_lload hx hb dX14_oddsOf_193 (lv_at hl 4 rfl) ?_
        refine lv_ldc2 (v := 10) hx hb hC.2.2.2.1 (hts _ q1781) dX14_oddsOf_195 ?_
        refine lv_ldiv hx hb dX14_oddsOf_198 (by decide) ?_
        refine lv_bipush (v := 10) hx hb dX14_oddsOf_199 (by decide) ?_
        refine lv_aload_n hx hb dX14_oddsOf_201 rfl (lv_at hl 0 rfl) ?_
        obtain ⟨q202, hq202, hf⟩ := bi_some hf
        refine aw_gR hC hW g135 fl_X14_32 rfl hq202 dX14_oddsOf_202 ?_
        refine lv_iload hx hb dX14_oddsOf_205 (lv_at hl 6 rfl) ?_
        obtain ⟨g207, hf⟩ := gd_some hf
        refine aw_iald hC hW g207 dX14_oddsOf_207 ?_
        refine lv_isub hx hb dX14_oddsOf_208 ?_
        refine lv_i2l (v := ((10 - (gi s q202 (x8 : Int32).toNatClampNeg)) : Int32).toInt64) hx hb dX14_oddsOf_209 rfl ?_
        refine lv_lmul hx hb dX14_oddsOf_210 ?_
        obtain ⟨g211, hf⟩ := gd_some hf
        obtain ⟨s211, e211, hf⟩ := bnd_some hf
        refine aw_last e211 hC hW g211 dX14_oddsOf_211 (fun H locs hW => ?_)
        have g135 := ko_pL e211 g135
        refine lv_lload hx hb dX14_oddsOf_212 (lv_at hl 4 rfl) ?_
        refine lv_ldc2 (v := 10) hx hb hC.2.2.2.1 (hts _ q1781) dX14_oddsOf_214 ?_
        refine lv_ldiv hx hb dX14_oddsOf_217 (by decide) ?_
        refine lv_aload_n hx hb dX14_oddsOf_218 rfl (lv_at hl 0 rfl) ?_
        obtain ⟨q219, hq219, hf⟩ := bi_some hf
        refine aw_gR hC hW g135 fl_X14_32 rfl hq219 dX14_oddsOf_219 ?_
        refine lv_iload hx hb dX14_oddsOf_222 (lv_at hl 6 rfl) ?_
        obtain ⟨g224, hf⟩ := gd_some hf
        refine aw_iald hC hW g224 dX14_oddsOf_224 ?_
        refine lv_i2l (v := ((gi s211 q219 (x8 : Int32).toNatClampNeg) : Int32).toInt64) hx hb dX14_oddsOf_225 rfl ?_
        refine lv_lmul hx hb dX14_oddsOf_226 ?_
        obtain ⟨v227, ev227, hf⟩ := bnd_some hf
        refine top_l ev227 ?_
        refine lv_lstore (lv' := [(5, .long v227), (0, .ref (a r0)), (1, .ref (a r1)), (2, .ref (a r2)), (4, .int x4), (7, .int x7), (8, .int x8), (9, .int x9)]) hx hb dX14_oddsOf_227 hl (by decide) rfl (fun ls hl => ?_)
        refine lv_iload hx hb dX14_oddsOf_229 (lv_at hl 5 rfl) ?_
        refine lv_iconst (v := 1) hx hb dX14_oddsOf_231 (by decide) ?_
        refine lv_iload hx hb dX14_oddsOf_232 (lv_at hl 6 rfl) ?_
        refine lv_ishl hx hb dX14_oddsOf_234 ?_
        refine lv_iconst (v := (-1)) hx hb dX14_oddsOf_235 (by decide) ?_
        refine lv_ixor hx hb dX14_oddsOf_236 ?_
        refine lv_iand hx hb dX14_oddsOf_237 ?_
        obtain ⟨v238, ev238, hf⟩ := bnd_some hf
        refine top_i ev238 ?_
        refine lv_istore (lv' := [(7, .int v238), (5, .long v227), (0, .ref (a r0)), (1, .ref (a r1)), (2, .ref (a r2)), (4, .int x4), (8, .int x8), (9, .int x9)]) hx hb dX14_oddsOf_238 hl (by decide) rfl (fun ls hl => ?_)
        refine lv_goto (tgt := 121) hx hb dX14_oddsOf_240 (by decide) ?_
        exact hK121 r0 r1 r2 x4 v227 v238 s211 hf _ _ _ (lv_sub hl [2, 3, 4, 5, 1, 0] rfl) hW
      · have hf := ifn c138 hf
        refine lv_iload hx hb dX14_oddsOf_141 (lv_at hl 5 rfl) ?_
        refine lv_iload hx hb dX14_oddsOf_143 (lv_at hl 7 rfl) ?_
        obtain ⟨v145, ev145, hf⟩ := bnd_some hf
        refine aw_dS1 (As := [.int x7, .int x9]) (rest := []) (pc_X14_has l G a x7 x9 s) hC hW hl.1 sy_X14_has (Or.inl q1626) rfl rfl (Nat.le_of_ble_eq_true rfl) ⟨Nat.le_of_ble_eq_true rfl, Nat.le_of_ble_eq_true rfl⟩ ⟨Nat.le_of_ble_eq_true rfl, Nat.le_of_ble_eq_true rfl⟩ dX14_oddsOf_145 (fun H locs hW => ?_)
        refine top_i ev145 ?_
        refine lv_if_eq (tgt := 180) hx hb dX14_oddsOf_148 (by decide) (fun c148 => ?_) (fun c148 => ?_)
        · have hf := ifp c148 hf
          exact B180 (f_X14_oddsOf_b132 K121 n) ih r0 r1 r2 x4 y5 x7 x8 x9 s hf _ _ _ (lv_sub hl [0, 1, 2, 3, 4, 5, 6, 7] rfl) hW
        · have hf := ifn c148 hf
          refine lv_iload hx hb dX14_oddsOf_151 (lv_at hl 6 rfl) ?_
          refine lv_if_lt (tgt := 175) hx hb dX14_oddsOf_153 (by decide) (fun c153 => ?_) (fun c153 => ?_)
          · have hf := ifp c153 hf
            exact B175 (f_X14_oddsOf_b132 K121 n) ih r0 r1 r2 x4 y5 x7 x9 s hf _ _ _ (lv_sub hl [0, 1, 2, 3, 4, 5, 7] rfl) hW
          · have hf := ifn c153 hf
            refine lv_aload_n hx hb dX14_oddsOf_156 rfl (lv_at hl 0 rfl) ?_
            refine lv_aload_n hx hb dX14_oddsOf_157 rfl (lv_at hl 1 rfl) ?_
            refine lv_iload hx hb dX14_oddsOf_158 (lv_at hl 7 rfl) ?_
            obtain ⟨g160, hf⟩ := gd_some hf
            refine aw_iald hC hW g160 dX14_oddsOf_160 ?_
            obtain ⟨v161, s161, h161, hf⟩ := ob_some hf
            refine aw_dV1 (r := r0) (As := [.int (gi s r1 (x9 : Int32).toNatClampNeg)]) (rest := []) (ct_X14_shows l G a r0 (gi s r1 (x9 : Int32).toNatClampNeg) s v161 s161 h161) hC hW hl.1 vy_X14_shows (Or.inl q1629) g135 rfl rfl rfl rfl (Nat.le_of_ble_eq_true rfl) ⟨Nat.le_of_ble_eq_true rfl, Nat.le_of_ble_eq_true rfl⟩ ⟨Nat.le_of_ble_eq_true rfl, Nat.le_of_ble_eq_true rfl⟩ dX14_oddsOf_161 (fun H locs hW => ?_)
            refine lv_aload_n hx hb dX14_oddsOf_164 rfl (lv_at hl 0 rfl) ?_
            refine lv_aload_n hx hb dX14_oddsOf_165 rfl (lv_at hl 1 rfl) ?_
            refine lv_iload hx hb dX14_oddsOf_166 (lv_at hl 6 rfl) ?_
            obtain ⟨g168, hf⟩ := gd_some hf
            refine aw_iald hC hW g168 dX14_oddsOf_168 ?_
            obtain ⟨g169, hf⟩ := gd_some hf
            obtain ⟨v169, s169, h169, hf⟩ := ob_some hf
            refine aw_dV1 (r := r0) (As := [.int (gi s161 r1 (x8 : Int32).toNatClampNeg)]) (rest := [.int v161]) (ct_X14_shows l G a r0 (gi s161 r1 (x8 : Int32).toNatClampNeg) s161 v169 s169 h169) hC hW hl.1 vy_X14_shows (Or.inl q1629) g169 rfl rfl rfl rfl (Nat.le_of_ble_eq_true rfl) ⟨Nat.le_of_ble_eq_true rfl, Nat.le_of_ble_eq_true rfl⟩ ⟨Nat.le_of_ble_eq_true rfl, Nat.le_of_ble_eq_true rfl⟩ dX14_oddsOf_169 (fun H locs hW => ?_)
            refine lv_icmp_le (tgt := 180) hx hb dX14_oddsOf_172 (by decide) (fun c172 => ?_) (fun c172 => ?_)
            · have hf := ifp c172 hf
              exact B180 (f_X14_oddsOf_b132 K121 n) ih r0 r1 r2 x4 y5 x7 x8 x9 s169 hf _ _ _ (lv_sub hl [0, 1, 2, 3, 4, 5, 6, 7] rfl) hW
            · have hf := ifn c172 hf
              exact B175 (f_X14_oddsOf_b132 K121 n) ih r0 r1 r2 x4 y5 x7 x9 s169 hf _ _ _ (lv_sub hl [0, 1, 2, 3, 4, 5, 7] rfl) hW
  have B121 : ∀ (n : Nat), ∀ (r0 : Nat) (r1 : Nat) (r2 : Nat) (x4 : Int32) (y5 : Int64) (x7 : Int32) (s : ST), f_X14_oddsOf_b121 n r0 r1 r2 x4 y5 x7 s = some (rv, sf) → ∀ (H : Heap) (locs : List Loc) (ls : Array Slot), lv_has ls 10 [(0, .ref (a r0)), (1, .ref (a r1)), (2, .ref (a r2)), (4, .int x4), (5, .long y5), (7, .int x7)] → AW G a A s s0.heap H locs → WB p l e (rmD 5) s0 m args below meth c H locs G A P 121 ls [] := by
    intro n
    induction n with
    | zero => intro r0 r1 r2 x4 y5 x7 s hf; cases hf
    | succ n ih =>
      intro r0 r1 r2 x4 y5 x7 s hf H locs ls hl hW
      rw [f_X14_oddsOf_b121] at hf
      refine lv_iload hx hb dX14_oddsOf_121 (lv_at hl 5 rfl) ?_
      refine lv_if_eq (tgt := 243) hx hb dX14_oddsOf_123 (by decide) (fun c123 => ?_) (fun c123 => ?_)
      · have hf := ifp c123 hf
        refine lv_aload_n hx hb dX14_oddsOf_243 rfl (lv_at hl 2 rfl) ?_
        refine lv_iload hx hb dX14_oddsOf_244 (lv_at hl 3 rfl) ?_
        refine lv_if_ge (tgt := 254) hx hb dX14_oddsOf_246 (by decide) (fun c246 => ?_) (fun c246 => ?_)
        · have hf := ifp c246 hf
          refine lv_iload hx hb dX14_oddsOf_254 (lv_at hl 3 rfl) ?_
          exact B256 y5 x4 r2 s hf _ _ _ (lv_sub hl [4] rfl) hW
        · have hf := ifn c246 hf
          refine lv_bipush (v := 8) hx hb dX14_oddsOf_249 (by decide) ?_
          refine lv_goto (tgt := 256) hx hb dX14_oddsOf_251 (by decide) ?_
          exact B256 y5 8 r2 s hf _ _ _ (lv_sub hl [4] rfl) hW
      · have hf := ifn c123 hf
        refine lv_iconst (v := (-1)) hx hb dX14_oddsOf_126 (by decide) ?_
        refine lv_istore (lv' := [(8, .int (-1)), (0, .ref (a r0)), (1, .ref (a r1)), (2, .ref (a r2)), (4, .int x4), (5, .long y5), (7, .int x7)]) hx hb dX14_oddsOf_127 hl (by decide) rfl (fun ls hl => ?_)
        refine lv_iconst (v := 0) hx hb dX14_oddsOf_129 (by decide) ?_
        refine lv_istore (lv' := [(9, .int 0), (8, .int (-1)), (0, .ref (a r0)), (1, .ref (a r1)), (2, .ref (a r2)), (4, .int x4), (5, .long y5), (7, .int x7)]) hx hb dX14_oddsOf_130 hl (by decide) rfl (fun ls hl => ?_)
        exact B132 (f_X14_oddsOf_b121 n) ih fuel r0 r1 r2 x4 y5 x7 (-1) 0 s hf _ _ _ (lv_sub hl [2, 3, 4, 5, 6, 7, 1, 0] rfl) hW
  have B112 : ∀ (K41 : Nat → Nat → Nat → Int32 → Int32 → Int64 → Int32 → Int32 → ST → Option (Unit × ST)) (hK41 : ∀ (r0 : Nat) (r1 : Nat) (r2 : Nat) (x3 : Int32) (x4 : Int32) (y5 : Int64) (x7 : Int32) (x8 : Int32) (s : ST), K41 r0 r1 r2 x3 x4 y5 x7 x8 s = some (rv, sf) → ∀ (H : Heap) (locs : List Loc) (ls : Array Slot), lv_has ls 10 [(0, .ref (a r0)), (1, .ref (a r1)), (2, .ref (a r2)), (3, .int x3), (4, .int x4), (5, .long y5), (7, .int x7), (8, .int x8)] → AW G a A s s0.heap H locs → WB p l e (rmD 5) s0 m args below meth c H locs G A P 41 ls []), ∀ (r0 : Nat) (r1 : Nat) (r2 : Nat) (x3 : Int32) (x4 : Int32) (y5 : Int64) (x8 : Int32) (t0 : Int32) (t1 : Int32) (s : ST), f_X14_oddsOf_b112 K41 r0 r1 r2 x3 x4 y5 x8 t0 t1 s = some (rv, sf) → ∀ (H : Heap) (locs : List Loc) (ls : Array Slot), lv_has ls 10 [(0, .ref (a r0)), (1, .ref (a r1)), (2, .ref (a r2)), (3, .int x3), (4, .int x4), (5, .long y5), (8, .int x8)] → AW G a A s s0.heap H locs → WB p l e (rmD 5) s0 m args below meth c H locs G A P 112 ls [.int t0, .int t1] := by
    intro K41 hK41 r0 r1 r2 x3 x4 y5 x8 t0 t1 s hf H locs ls hl hW
    unfold f_X14_oddsOf_b112 at hf
    refine lv_ior hx hb dX14_oddsOf_112 ?_
    obtain ⟨v113, ev113, hf⟩ := bnd_some hf
    refine top_i ev113 ?_
    refine lv_istore (lv' := [(7, .int v113), (0, .ref (a r0)), (1, .ref (a r1)), (2, .ref (a r2)), (3, .int x3), (4, .int x4), (5, .long y5), (8, .int x8)]) hx hb dX14_oddsOf_113 hl (by decide) rfl (fun ls hl => ?_)
    obtain ⟨v115, ev115, hf⟩ := bnd_some hf
    refine lv_iinc (v := v115) (lv' := [(8, .int v115), (7, .int v113), (0, .ref (a r0)), (1, .ref (a r1)), (2, .ref (a r2)), (3, .int x3), (4, .int x4), (5, .long y5)]) hx hb dX14_oddsOf_115 hl (k := 7) rfl (by rw [ev115]; rfl) (by decide) rfl (fun ls hl => ?_)
    refine lv_goto (tgt := 41) hx hb dX14_oddsOf_118 (by decide) ?_
    exact hK41 r0 r1 r2 x3 x4 y5 v113 v115 s hf _ _ _ (lv_sub hl [2, 3, 4, 5, 6, 7, 1, 0] rfl) hW
  have B111 : ∀ (K41 : Nat → Nat → Nat → Int32 → Int32 → Int64 → Int32 → Int32 → ST → Option (Unit × ST)) (hK41 : ∀ (r0 : Nat) (r1 : Nat) (r2 : Nat) (x3 : Int32) (x4 : Int32) (y5 : Int64) (x7 : Int32) (x8 : Int32) (s : ST), K41 r0 r1 r2 x3 x4 y5 x7 x8 s = some (rv, sf) → ∀ (H : Heap) (locs : List Loc) (ls : Array Slot), lv_has ls 10 [(0, .ref (a r0)), (1, .ref (a r1)), (2, .ref (a r2)), (3, .int x3), (4, .int x4), (5, .long y5), (7, .int x7), (8, .int x8)] → AW G a A s s0.heap H locs → WB p l e (rmD 5) s0 m args below meth c H locs G A P 41 ls []), ∀ (r0 : Nat) (r1 : Nat) (r2 : Nat) (x3 : Int32) (x4 : Int32) (y5 : Int64) (x8 : Int32) (t0 : Int32) (s : ST), f_X14_oddsOf_b111 K41 r0 r1 r2 x3 x4 y5 x8 t0 s = some (rv, sf) → ∀ (H : Heap) (locs : List Loc) (ls : Array Slot), lv_has ls 10 [(0, .ref (a r0)), (1, .ref (a r1)), (2, .ref (a r2)), (3, .int x3), (4, .int x4), (5, .long y5), (8, .int x8)] → AW G a A s s0.heap H locs → WB p l e (rmD 5) s0 m args below meth c H locs G A P 111 ls [.int t0] := by
    intro K41 hK41 r0 r1 r2 x3 x4 y5 x8 t0 s hf H locs ls hl hW
    unfold f_X14_oddsOf_b111 at hf
    refine lv_iconst (v := 0) hx hb dX14_oddsOf_111 (by decide) ?_
    exact B112 K41 hK41 r0 r1 r2 x3 x4 y5 x8 0 t0 s hf _ _ _ (lv_sub hl [0, 1, 2, 3, 4, 5, 6] rfl) hW
  have B79 : ∀ (K41 : Nat → Nat → Nat → Int32 → Int32 → Int64 → Int32 → Int32 → ST → Option (Unit × ST)) (hK41 : ∀ (r0 : Nat) (r1 : Nat) (r2 : Nat) (x3 : Int32) (x4 : Int32) (y5 : Int64) (x7 : Int32) (x8 : Int32) (s : ST), K41 r0 r1 r2 x3 x4 y5 x7 x8 s = some (rv, sf) → ∀ (H : Heap) (locs : List Loc) (ls : Array Slot), lv_has ls 10 [(0, .ref (a r0)), (1, .ref (a r1)), (2, .ref (a r2)), (3, .int x3), (4, .int x4), (5, .long y5), (7, .int x7), (8, .int x8)] → AW G a A s s0.heap H locs → WB p l e (rmD 5) s0 m args below meth c H locs G A P 41 ls []), ∀ (r0 : Nat) (r1 : Nat) (r2 : Nat) (x3 : Int32) (x4 : Int32) (y5 : Int64) (x7 : Int32) (x8 : Int32) (t0 : Int32) (s : ST), f_X14_oddsOf_b79 K41 r0 r1 r2 x3 x4 y5 x7 x8 t0 s = some (rv, sf) → ∀ (H : Heap) (locs : List Loc) (ls : Array Slot), lv_has ls 10 [(0, .ref (a r0)), (1, .ref (a r1)), (2, .ref (a r2)), (3, .int x3), (4, .int x4), (5, .long y5), (7, .int x7), (8, .int x8)] → AW G a A s s0.heap H locs → WB p l e (rmD 5) s0 m args below meth c H locs G A P 79 ls [.int t0] := by
    intro K41 hK41 r0 r1 r2 x3 x4 y5 x7 x8 t0 s hf H locs ls hl hW
    unfold f_X14_oddsOf_b79 at hf
    refine lv_istore (lv' := [(9, .int t0), (0, .ref (a r0)), (1, .ref (a r1)), (2, .ref (a r2)), (3, .int x3), (4, .int x4), (5, .long y5), (7, .int x7), (8, .int x8)]) hx hb dX14_oddsOf_79 hl (by decide) rfl (fun ls hl => ?_)
    refine lv_iload hx hb dX14_oddsOf_81 (lv_at hl 7 rfl) ?_
    refine lv_iload_n hx hb dX14_oddsOf_83 rfl (lv_at hl 4 rfl) ?_
    refine lv_iload hx hb dX14_oddsOf_84 (lv_at hl 8 rfl) ?_
    obtain ⟨v86, ev86, hf⟩ := bnd_some hf
    refine aw_dS1 (As := [.int x3, .int x8]) (rest := [.int x7]) (pc_X14_has l G a x3 x8 s) hC hW hl.1 sy_X14_has (Or.inl q1626) rfl rfl (Nat.le_of_ble_eq_true rfl) ⟨Nat.le_of_ble_eq_true rfl, Nat.le_of_ble_eq_true rfl⟩ ⟨Nat.le_of_ble_eq_true rfl, Nat.le_of_ble_eq_true rfl⟩ dX14_oddsOf_86 (fun H locs hW => ?_)
    refine top_i ev86 ?_
    refine lv_if_eq (tgt := 111) hx hb dX14_oddsOf_89 (by decide) (fun c89 => ?_) (fun c89 => ?_)
    · have hf := ifp c89 hf
      exact B111 K41 hK41 r0 r1 r2 x3 x4 y5 x8 x7 s hf _ _ _ (lv_sub hl [1, 2, 3, 4, 5, 6, 8] rfl) hW
    · have hf := ifn c89 hf
      refine lv_iload hx hb dX14_oddsOf_92 (lv_at hl 8 rfl) ?_
      refine lv_iload hx hb dX14_oddsOf_94 (lv_at hl 5 rfl) ?_
      refine lv_icmp_eq (tgt := 111) hx hb dX14_oddsOf_96 (by decide) (fun c96 => ?_) (fun c96 => ?_)
      · have hf := ifp c96 hf
        exact B111 K41 hK41 r0 r1 r2 x3 x4 y5 x8 x7 s hf _ _ _ (lv_sub hl [1, 2, 3, 4, 5, 6, 8] rfl) hW
      · have hf := ifn c96 hf
        refine lv_iload hx hb dX14_oddsOf_99 (lv_at hl 0 rfl) ?_
        refine lv_if_eq (tgt := 111) hx hb dX14_oddsOf_101 (by decide) (fun c101 => ?_) (fun c101 => ?_)
        · have hf := ifp c101 hf
          exact B111 K41 hK41 r0 r1 r2 x3 x4 y5 x8 x7 s hf _ _ _ (lv_sub hl [1, 2, 3, 4, 5, 6, 8] rfl) hW
        · have hf := ifn c101 hf
          refine lv_iconst (v := 1) hx hb dX14_oddsOf_104 (by decide) ?_
          refine lv_iload hx hb dX14_oddsOf_105 (lv_at hl 8 rfl) ?_
          refine lv_ishl hx hb dX14_oddsOf_107 ?_
          refine lv_goto (tgt := 112) hx hb dX14_oddsOf_108 (by decide) ?_
          exact B112 K41 hK41 r0 r1 r2 x3 x4 y5 x8 (1 <<< (x8 &&& 31)) x7 s hf _ _ _ (lv_sub hl [1, 2, 3, 4, 5, 6, 8] rfl) hW
  have B74 : ∀ (K41 : Nat → Nat → Nat → Int32 → Int32 → Int64 → Int32 → Int32 → ST → Option (Unit × ST)) (hK41 : ∀ (r0 : Nat) (r1 : Nat) (r2 : Nat) (x3 : Int32) (x4 : Int32) (y5 : Int64) (x7 : Int32) (x8 : Int32) (s : ST), K41 r0 r1 r2 x3 x4 y5 x7 x8 s = some (rv, sf) → ∀ (H : Heap) (locs : List Loc) (ls : Array Slot), lv_has ls 10 [(0, .ref (a r0)), (1, .ref (a r1)), (2, .ref (a r2)), (3, .int x3), (4, .int x4), (5, .long y5), (7, .int x7), (8, .int x8)] → AW G a A s s0.heap H locs → WB p l e (rmD 5) s0 m args below meth c H locs G A P 41 ls []), ∀ (r0 : Nat) (r1 : Nat) (r2 : Nat) (x3 : Int32) (x4 : Int32) (y5 : Int64) (x7 : Int32) (x8 : Int32) (s : ST), f_X14_oddsOf_b74 K41 r0 r1 r2 x3 x4 y5 x7 x8 s = some (rv, sf) → ∀ (H : Heap) (locs : List Loc) (ls : Array Slot), lv_has ls 10 [(0, .ref (a r0)), (1, .ref (a r1)), (2, .ref (a r2)), (3, .int x3), (4, .int x4), (5, .long y5), (7, .int x7), (8, .int x8)] → AW G a A s s0.heap H locs → WB p l e (rmD 5) s0 m args below meth c H locs G A P 74 ls [] := by
    intro K41 hK41 r0 r1 r2 x3 x4 y5 x7 x8 s hf H locs ls hl hW
    unfold f_X14_oddsOf_b74 at hf
    refine lv_iconst (v := 1) hx hb dX14_oddsOf_74 (by decide) ?_
    refine lv_goto (tgt := 79) hx hb dX14_oddsOf_75 (by decide) ?_
    exact B79 K41 hK41 r0 r1 r2 x3 x4 y5 x7 x8 1 s hf _ _ _ (lv_sub hl [0, 1, 2, 3, 4, 5, 6, 7] rfl) hW
  have B41 : ∀ (n : Nat), ∀ (r0 : Nat) (r1 : Nat) (r2 : Nat) (x3 : Int32) (x4 : Int32) (y5 : Int64) (x7 : Int32) (x8 : Int32) (s : ST), f_X14_oddsOf_b41 n r0 r1 r2 x3 x4 y5 x7 x8 s = some (rv, sf) → ∀ (H : Heap) (locs : List Loc) (ls : Array Slot), lv_has ls 10 [(0, .ref (a r0)), (1, .ref (a r1)), (2, .ref (a r2)), (3, .int x3), (4, .int x4), (5, .long y5), (7, .int x7), (8, .int x8)] → AW G a A s s0.heap H locs → WB p l e (rmD 5) s0 m args below meth c H locs G A P 41 ls [] := by
    intro n
    induction n with
    | zero => intro r0 r1 r2 x3 x4 y5 x7 x8 s hf; cases hf
    | succ n ih =>
      intro r0 r1 r2 x3 x4 y5 x7 x8 s hf H locs ls hl hW
      rw [f_X14_oddsOf_b41] at hf
      refine lv_iload hx hb dX14_oddsOf_41 (lv_at hl 7 rfl) ?_
      refine lv_aload_n hx hb dX14_oddsOf_43 rfl (lv_at hl 0 rfl) ?_
      obtain ⟨g44, hf⟩ := gd_some hf
      refine aw_gI hC hW g44 fl_X14_117 rfl dX14_oddsOf_44 ?_
      refine lv_icmp_ge (tgt := 121) hx hb dX14_oddsOf_47 (by decide) (fun c47 => ?_) (fun c47 => ?_)
      · have hf := ifp c47 hf
        exact B121 fuel r0 r1 r2 x4 y5 x7 s hf _ _ _ (lv_sub hl [0, 1, 2, 4, 5, 6] rfl) hW
      · have hf := ifn c47 hf
        refine lv_iload hx hb dX14_oddsOf_50 (lv_at hl 4 rfl) ?_
        refine lv_if_lt (tgt := 74) hx hb dX14_oddsOf_52 (by decide) (fun c52 => ?_) (fun c52 => ?_)
        · have hf := ifp c52 hf
          exact B74 (f_X14_oddsOf_b41 n) ih r0 r1 r2 x3 x4 y5 x7 x8 s hf _ _ _ (lv_sub hl [0, 1, 2, 3, 4, 5, 6, 7] rfl) hW
        · have hf := ifn c52 hf
          refine lv_aload_n hx hb dX14_oddsOf_55 rfl (lv_at hl 0 rfl) ?_
          refine lv_aload_n hx hb dX14_oddsOf_56 rfl (lv_at hl 1 rfl) ?_
          refine lv_iload hx hb dX14_oddsOf_57 (lv_at hl 7 rfl) ?_
          obtain ⟨g59, hf⟩ := gd_some hf
          refine aw_iald hC hW g59 dX14_oddsOf_59 ?_
          obtain ⟨v60, s60, h60, hf⟩ := ob_some hf
          refine aw_dV1 (r := r0) (As := [.int (gi s r1 (x8 : Int32).toNatClampNeg)]) (rest := []) (ct_X14_shows l G a r0 (gi s r1 (x8 : Int32).toNatClampNeg) s v60 s60 h60) hC hW hl.1 vy_X14_shows (Or.inl q1629) g44 rfl rfl rfl rfl (Nat.le_of_ble_eq_true rfl) ⟨Nat.le_of_ble_eq_true rfl, Nat.le_of_ble_eq_true rfl⟩ ⟨Nat.le_of_ble_eq_true rfl, Nat.le_of_ble_eq_true rfl⟩ dX14_oddsOf_60 (fun H locs hW => ?_)
          refine lv_aload_n hx hb dX14_oddsOf_63 rfl (lv_at hl 0 rfl) ?_
          refine lv_aload_n hx hb dX14_oddsOf_64 rfl (lv_at hl 1 rfl) ?_
          refine lv_iload hx hb dX14_oddsOf_65 (lv_at hl 4 rfl) ?_
          obtain ⟨g67, hf⟩ := gd_some hf
          refine aw_iald hC hW g67 dX14_oddsOf_67 ?_
          obtain ⟨g68, hf⟩ := gd_some hf
          obtain ⟨v68, s68, h68, hf⟩ := ob_some hf
          refine aw_dV1 (r := r0) (As := [.int (gi s60 r1 (x4 : Int32).toNatClampNeg)]) (rest := [.int v60]) (ct_X14_shows l G a r0 (gi s60 r1 (x4 : Int32).toNatClampNeg) s60 v68 s68 h68) hC hW hl.1 vy_X14_shows (Or.inl q1629) g68 rfl rfl rfl rfl (Nat.le_of_ble_eq_true rfl) ⟨Nat.le_of_ble_eq_true rfl, Nat.le_of_ble_eq_true rfl⟩ ⟨Nat.le_of_ble_eq_true rfl, Nat.le_of_ble_eq_true rfl⟩ dX14_oddsOf_68 (fun H locs hW => ?_)
          refine lv_icmp_le (tgt := 78) hx hb dX14_oddsOf_71 (by decide) (fun c71 => ?_) (fun c71 => ?_)
          · have hf := ifp c71 hf
            refine lv_iconst (v := 0) hx hb dX14_oddsOf_78 (by decide) ?_
            exact B79 (f_X14_oddsOf_b41 n) ih r0 r1 r2 x3 x4 y5 x7 x8 0 s68 hf _ _ _ (lv_sub hl [0, 1, 2, 3, 4, 5, 6, 7] rfl) hW
          · have hf := ifn c71 hf
            exact B74 (f_X14_oddsOf_b41 n) ih r0 r1 r2 x3 x4 y5 x7 x8 s68 hf _ _ _ (lv_sub hl [0, 1, 2, 3, 4, 5, 6, 7] rfl) hW
  have B2 : ∀ (n : Nat), ∀ (r0 : Nat) (r1 : Nat) (r2 : Nat) (x3 : Int32) (s : ST), f_X14_oddsOf_b2 n r0 r1 r2 x3 s = some (rv, sf) → ∀ (H : Heap) (locs : List Loc) (ls : Array Slot), lv_has ls 10 [(0, .ref (a r0)), (1, .ref (a r1)), (2, .ref (a r2)), (3, .int x3)] → AW G a A s s0.heap H locs → WB p l e (rmD 5) s0 m args below meth c H locs G A P 2 ls [] := by
    intro n
    induction n with
    | zero => intro r0 r1 r2 x3 s hf; cases hf
    | succ n ih =>
      intro r0 r1 r2 x3 s hf H locs ls hl hW
      rw [f_X14_oddsOf_b2] at hf
      refine lv_iload_n hx hb dX14_oddsOf_2 rfl (lv_at hl 3 rfl) ?_
      refine lv_bipush (v := 8) hx hb dX14_oddsOf_3 (by decide) ?_
      refine lv_icmp_gt (tgt := 18) hx hb dX14_oddsOf_5 (by decide) (fun c5 => ?_) (fun c5 => ?_)
      · have hf := ifp c5 hf
        refine lv_aload_n hx hb dX14_oddsOf_18 rfl (lv_at hl 0 rfl) ?_
        refine lv_aload_n hx hb dX14_oddsOf_19 rfl (lv_at hl 1 rfl) ?_
        obtain ⟨g20, hf⟩ := gd_some hf
        obtain ⟨v20, s20, h20, hf⟩ := ob_some hf
        refine aw_dV1 (r := r0) (As := [.ref (a r1)]) (rest := []) (ct_X14_willing l G a r0 r1 s v20 s20 h20) hC hW hl.1 vy_X14_willing (Or.inl q1698) g20 rfl rfl rfl rfl (Nat.le_of_ble_eq_true rfl) ⟨Nat.le_of_ble_eq_true rfl, Nat.le_of_ble_eq_true rfl⟩ ⟨Nat.le_of_ble_eq_true rfl, Nat.le_of_ble_eq_true rfl⟩ dX14_oddsOf_20 (fun H locs hW => ?_)
        refine lv_istore_n (lv' := [(3, .int v20), (0, .ref (a r0)), (1, .ref (a r1)), (2, .ref (a r2))]) hx hb dX14_oddsOf_23 rfl hl (by decide) rfl (fun ls hl => ?_)
        refine lv_aload_n hx hb dX14_oddsOf_24 rfl (lv_at hl 2 rfl) ?_
        refine lv_bipush (v := 17) hx hb dX14_oddsOf_25 (by decide) ?_
        obtain ⟨g27, hf⟩ := gd_some hf
        refine aw_iald hC hW g27 dX14_oddsOf_27 ?_
        obtain ⟨v28, ev28, hf⟩ := bnd_some hf
        refine top_i ev28 ?_
        refine lv_istore (lv' := [(4, .int v28), (3, .int v20), (0, .ref (a r0)), (1, .ref (a r1)), (2, .ref (a r2))]) hx hb dX14_oddsOf_28 hl (by decide) rfl (fun ls hl => ?_)
        refine lv_ldc2 (v := 100000000) hx hb hC.2.2.2.1 (hts _ q1918) dX14_oddsOf_30 ?_
        refine lv_lstore (lv' := [(5, .long 100000000), (4, .int v28), (3, .int v20), (0, .ref (a r0)), (1, .ref (a r1)), (2, .ref (a r2))]) hx hb dX14_oddsOf_33 hl (by decide) rfl (fun ls hl => ?_)
        refine lv_iconst (v := 0) hx hb dX14_oddsOf_35 (by decide) ?_
        refine lv_istore (lv' := [(7, .int 0), (5, .long 100000000), (4, .int v28), (3, .int v20), (0, .ref (a r0)), (1, .ref (a r1)), (2, .ref (a r2))]) hx hb dX14_oddsOf_36 hl (by decide) rfl (fun ls hl => ?_)
        refine lv_iconst (v := 0) hx hb dX14_oddsOf_38 (by decide) ?_
        refine lv_istore (lv' := [(8, .int 0), (7, .int 0), (5, .long 100000000), (4, .int v28), (3, .int v20), (0, .ref (a r0)), (1, .ref (a r1)), (2, .ref (a r2))]) hx hb dX14_oddsOf_39 hl (by decide) rfl (fun ls hl => ?_)
        exact B41 fuel r0 r1 r2 v20 v28 100000000 0 0 s20 hf _ _ _ (lv_sub hl [5, 6, 7, 4, 3, 2, 1, 0] rfl) hW
      · have hf := ifn c5 hf
        refine lv_aload_n hx hb dX14_oddsOf_8 rfl (lv_at hl 2 rfl) ?_
        refine lv_iload_n hx hb dX14_oddsOf_9 rfl (lv_at hl 3 rfl) ?_
        refine lv_lconst (v := 0) hx hb dX14_oddsOf_10 (by decide) ?_
        obtain ⟨g11, hf⟩ := gd_some hf
        obtain ⟨s11, e11, hf⟩ := bnd_some hf
        refine aw_last e11 hC hW g11 dX14_oddsOf_11 (fun H locs hW => ?_)
        obtain ⟨v12, ev12, hf⟩ := bnd_some hf
        refine lv_iinc (v := v12) (lv' := [(3, .int v12), (0, .ref (a r0)), (1, .ref (a r1)), (2, .ref (a r2))]) hx hb dX14_oddsOf_12 hl (k := 3) rfl (by rw [ev12]; rfl) (by decide) rfl (fun ls hl => ?_)
        refine lv_goto (tgt := 2) hx hb dX14_oddsOf_15 (by decide) ?_
        exact ih r0 r1 r2 v12 s11 hf _ _ _ (lv_sub hl [1, 2, 3, 0] rfl) hW
  unfold f_X14_oddsOf at hf
  refine lv_iconst (v := 0) hx hb dX14_oddsOf_0 (by decide) ?_
  refine lv_istore_n (lv' := [(3, .int 0), (0, .ref (a o)), (1, .ref (a r1)), (2, .ref (a r2))]) hx hb dX14_oddsOf_1 rfl hl (by decide) rfl (fun ls hl => ?_)
  exact B2 fuel o r1 r2 0 s hf _ _ _ (lv_sub hl [1, 2, 3, 0] rfl) hW
def f_X14_likely_b51 (K22 : Nat → Int32 → Int32 → ST → Option (Int32 × ST)) (r0 : Nat) (x2 : Int32) (t0 : Int32) (s : ST) : Option (Int32 × ST) :=
  bnd (x2 + 1 : Int32) fun v52 =>
  K22 r0 t0 v52 s
def f_X14_likely_b22 : Nat → Nat → Int32 → Int32 → ST → Option (Int32 × ST)
  | 0, _, _, _, _ => none
  | n + 1, r0, x1, x2, s =>
  gd (r0 < s.1 ∧ (kd s r0).1 = 14) <|
  if (gi s r0 3) ≤ x2 then (bnd (pI s r0 1 0) fun s60 =>
  (gr s60 r0 40).bind fun q65 =>
  gd (q65 < s60.1 ∧ (kd s60 q65).1 = 104 ∧ ¬ ((x1 : Int32) < 0 ∨ (kd s60 q65).2 ≤ (x1 : Int32).toNatClampNeg)) <|
  ob (f_X14_entersFraction r0 (gl s60 q65 (x1 : Int32).toNatClampNeg) 100000000 s60) fun _ s73 =>
  if x1 = 8 then (some ((-1), s73)) else some (x1, s73)) else (gr s r0 40).bind fun q31 =>
  gd (q31 < s.1 ∧ (kd s q31).1 = 104 ∧ ¬ ((x2 : Int32) < 0 ∨ (kd s q31).2 ≤ (x2 : Int32).toNatClampNeg)) <|
  (gr s r0 40).bind fun q37 =>
  gd (q37 < s.1 ∧ (kd s q37).1 = 104 ∧ ¬ ((x1 : Int32) < 0 ∨ (kd s q37).2 ≤ (x1 : Int32).toNatClampNeg)) <|
  if (lg_cmp (gl s q31 (x2 : Int32).toNatClampNeg) (gl s q37 (x1 : Int32).toNatClampNeg)) ≤ 0 then (f_X14_likely_b51 (f_X14_likely_b22 n) r0 x2 x1 s) else f_X14_likely_b51 (f_X14_likely_b22 n) r0 x2 x2 s
def f_X14_likely (o : Nat) (s : ST) : Option (Int32 × ST) :=
  gd (o < s.1 ∧ (kd s o).1 = 14) <|
  bnd (pI s o 0 0) fun s2 =>
  (gr s2 o 10).bind fun q7 =>
  (gr s2 o 40).bind fun q11 =>
  ob (f_X14_oddsOf o q7 q11 s2) fun _ s14 =>
  f_X14_likely_b22 fuel o 8 0 s14
set_option maxHeartbeats 4000000 in
theorem ct_X14_likely (l : Launch) (G : GM) (a : Nat → Nat) (o : Nat) (s : ST) (rv : Int32) (sf : ST) (hf : f_X14_likely o s = some (rv, sf)) : MD l G yX14_likely (ws_ yX14_likely cX14_likely 3 (some .int)) 102 [.ref (a o)] a s (some (.int rv)) sf := by
  refine md_of (d := 102) (lv := [(0, .ref (a o))]) (Or.inl (by decide)) (Nat.le_of_ble_eq_true rfl) rfl ?_
  intro p e s0 m args below meth c ls A P hP hC hr hnm hW hl
  have hx := hC.1
  have hb := hC.2.1
  have hts := hC.2.2.2.2.1
  have B51 : ∀ (K22 : Nat → Int32 → Int32 → ST → Option (Int32 × ST)) (hK22 : ∀ (r0 : Nat) (x1 : Int32) (x2 : Int32) (s : ST), K22 r0 x1 x2 s = some (rv, sf) → ∀ (H : Heap) (locs : List Loc) (ls : Array Slot), lv_has ls 3 [(0, .ref (a r0)), (1, .int x1), (2, .int x2)] → AW G a A s s0.heap H locs → WB p l e (rmD 102) s0 m args below meth c H locs G A P 22 ls []), ∀ (r0 : Nat) (x2 : Int32) (t0 : Int32) (s : ST), f_X14_likely_b51 K22 r0 x2 t0 s = some (rv, sf) → ∀ (H : Heap) (locs : List Loc) (ls : Array Slot), lv_has ls 3 [(0, .ref (a r0)), (2, .int x2)] → AW G a A s s0.heap H locs → WB p l e (rmD 102) s0 m args below meth c H locs G A P 51 ls [.int t0] := by
    intro K22 hK22 r0 x2 t0 s hf H locs ls hl hW
    unfold f_X14_likely_b51 at hf
    refine lv_istore_n (lv' := [(1, .int t0), (0, .ref (a r0)), (2, .int x2)]) hx hb dX14_likely_51 rfl hl (by decide) rfl (fun ls hl => ?_)
    obtain ⟨v52, ev52, hf⟩ := bnd_some hf
    refine lv_iinc (v := v52) (lv' := [(2, .int v52), (1, .int t0), (0, .ref (a r0))]) hx hb dX14_likely_52 hl (k := 2) rfl (by rw [ev52]; rfl) (by decide) rfl (fun ls hl => ?_)
    refine lv_goto (tgt := 22) hx hb dX14_likely_55 (by decide) ?_
    exact hK22 r0 t0 v52 s hf _ _ _ (lv_sub hl [2, 1, 0] rfl) hW
  have B22 : ∀ (n : Nat), ∀ (r0 : Nat) (x1 : Int32) (x2 : Int32) (s : ST), f_X14_likely_b22 n r0 x1 x2 s = some (rv, sf) → ∀ (H : Heap) (locs : List Loc) (ls : Array Slot), lv_has ls 3 [(0, .ref (a r0)), (1, .int x1), (2, .int x2)] → AW G a A s s0.heap H locs → WB p l e (rmD 102) s0 m args below meth c H locs G A P 22 ls [] := by
    intro n
    induction n with
    | zero => intro r0 x1 x2 s hf; cases hf
    | succ n ih =>
      intro r0 x1 x2 s hf H locs ls hl hW
      rw [f_X14_likely_b22] at hf
      refine lv_iload_n hx hb dX14_likely_22 rfl (lv_at hl 2 rfl) ?_
      refine lv_aload_n hx hb dX14_likely_23 rfl (lv_at hl 0 rfl) ?_
      obtain ⟨g24, hf⟩ := gd_some hf
      refine aw_gI hC hW g24 fl_X14_117 rfl dX14_likely_24 ?_
      refine lv_icmp_ge (tgt := 58) hx hb dX14_likely_27 (by decide) (fun c27 => ?_) (fun c27 => ?_)
      · have hf := ifp c27 hf
        refine lv_aload_n hx hb dX14_likely_58 rfl (lv_at hl 0 rfl) ?_
        refine lv_iconst (v := 0) hx hb dX14_likely_59 (by decide) ?_
        obtain ⟨s60, e60, hf⟩ := bnd_some hf
        refine aw_pI e60 hC hW g24 fl_X14_15 (Or.inl fn_13_1) rfl rfl rfl dX14_likely_60 (fun H locs hW => ?_)
        have g24 := ko_pI e60 g24
        refine lv_aload_n hx hb dX14_likely_63 rfl (lv_at hl 0 rfl) ?_
        refine lv_aload_n hx hb dX14_likely_64 rfl (lv_at hl 0 rfl) ?_
        obtain ⟨q65, hq65, hf⟩ := bi_some hf
        refine aw_gR hC hW g24 fl_X14_98 rfl hq65 dX14_likely_65 ?_
        refine lv_iload_n hx hb dX14_likely_68 rfl (lv_at hl 1 rfl) ?_
        obtain ⟨g69, hf⟩ := gd_some hf
        refine aw_lald hC hW g69 dX14_likely_69 ?_
        refine lv_ldc2 (v := 100000000) hx hb hC.2.2.2.1 (hts _ q1918) dX14_likely_70 ?_
        obtain ⟨_, s73, h73, hf⟩ := ob_some hf
        refine aw_dV0 (r := r0) (As := [.long (gl s60 q65 (x1 : Int32).toNatClampNeg), .long 100000000]) (rest := []) (ct_X14_entersFraction l G a r0 (gl s60 q65 (x1 : Int32).toNatClampNeg) 100000000 s60 () s73 h73) hC hW hl.1 vy_X14_entersFraction (Or.inl q1907) g24 rfl rfl rfl rfl (Nat.le_of_ble_eq_true rfl) ⟨Nat.le_of_ble_eq_true rfl, Nat.le_of_ble_eq_true rfl⟩ ⟨Nat.le_of_ble_eq_true rfl, Nat.le_of_ble_eq_true rfl⟩ dX14_likely_73 (fun H locs hW => ?_)
        refine lv_iload_n hx hb dX14_likely_76 rfl (lv_at hl 1 rfl) ?_
        refine lv_bipush (v := 8) hx hb dX14_likely_77 (by decide) ?_
        refine lv_icmp_ne (tgt := 86) hx hb dX14_likely_79 (by decide) (fun c79 => ?_) (fun c79 => ?_)
        · have hf := ifn c79 hf
          refine lv_iload_n hx hb dX14_likely_86 rfl (lv_at hl 1 rfl) ?_
          obtain ⟨e1, e2⟩ := so_inj hf
          exact aw_iret hC hW hr rfl (p_eq hP (congrArg (fun z => some (Value.int z)) e1) e2) (Nat.le_of_ble_eq_true rfl) (Nat.le_of_ble_eq_true rfl) dX14_likely_87
        · have hf := ifp c79 hf
          refine lv_iconst (v := (-1)) hx hb dX14_likely_82 (by decide) ?_
          refine lv_goto (tgt := 87) hx hb dX14_likely_83 (by decide) ?_
          obtain ⟨e1, e2⟩ := so_inj hf
          exact aw_iret hC hW hr rfl (p_eq hP (congrArg (fun z => some (Value.int z)) e1) e2) (Nat.le_of_ble_eq_true rfl) (Nat.le_of_ble_eq_true rfl) dX14_likely_87
      · have hf := ifn c27 hf
        refine lv_aload_n hx hb dX14_likely_30 rfl (lv_at hl 0 rfl) ?_
        obtain ⟨q31, hq31, hf⟩ := bi_some hf
        refine aw_gR hC hW g24 fl_X14_98 rfl hq31 dX14_likely_31 ?_
        refine lv_iload_n hx hb dX14_likely_34 rfl (lv_at hl 2 rfl) ?_
        obtain ⟨g35, hf⟩ := gd_some hf
        refine aw_lald hC hW g35 dX14_likely_35 ?_
        refine lv_aload_n hx hb dX14_likely_36 rfl (lv_at hl 0 rfl) ?_
        obtain ⟨q37, hq37, hf⟩ := bi_some hf
        refine aw_gR hC hW g24 fl_X14_98 rfl hq37 dX14_likely_37 ?_
        refine lv_iload_n hx hb dX14_likely_40 rfl (lv_at hl 1 rfl) ?_
        obtain ⟨g41, hf⟩ := gd_some hf
        refine aw_lald hC hW g41 dX14_likely_41 ?_
        refine W.lcmp hx hb dX14_likely_42 ?_
        refine lv_if_le (tgt := 50) hx hb dX14_likely_43 (by decide) (fun c43 => ?_) (fun c43 => ?_)
        · have hf := ifp c43 hf
          refine lv_iload_n hx hb dX14_likely_50 rfl (lv_at hl 1 rfl) ?_
          exact B51 (f_X14_likely_b22 n) ih r0 x2 x1 s hf _ _ _ (lv_sub hl [0, 2] rfl) hW
        · have hf := ifn c43 hf
          refine lv_iload_n hx hb dX14_likely_46 rfl (lv_at hl 2 rfl) ?_
          refine lv_goto (tgt := 51) hx hb dX14_likely_47 (by decide) ?_
          exact B51 (f_X14_likely_b22 n) ih r0 x2 x2 s hf _ _ _ (lv_sub hl [0, 2] rfl) hW
  unfold f_X14_likely at hf
  refine lv_aload_n hx hb dX14_likely_0 rfl (lv_at hl 0 rfl) ?_
  refine lv_iconst (v := 0) hx hb dX14_likely_1 (by decide) ?_
  obtain ⟨g2, hf⟩ := gd_some hf
  obtain ⟨s2, e2, hf⟩ := bnd_some hf
  refine aw_pI e2 hC hW g2 fl_X14_3 (Or.inl fn_13_0) rfl rfl rfl dX14_likely_2 (fun H locs hW => ?_)
  have g2 := ko_pI e2 g2
  refine lv_aload_n hx hb dX14_likely_5 rfl (lv_at hl 0 rfl) ?_
  refine lv_aload_n hx hb dX14_likely_6 rfl (lv_at hl 0 rfl) ?_
  obtain ⟨q7, hq7, hf⟩ := bi_some hf
  refine aw_gR hC hW g2 fl_X14_44 rfl hq7 dX14_likely_7 ?_
  refine lv_aload_n hx hb dX14_likely_10 rfl (lv_at hl 0 rfl) ?_
  obtain ⟨q11, hq11, hf⟩ := bi_some hf
  refine aw_gR hC hW g2 fl_X14_98 rfl hq11 dX14_likely_11 ?_
  obtain ⟨_, s14, h14, hf⟩ := ob_some hf
  refine aw_dV0 (r := o) (As := [.ref (a q7), .ref (a q11)]) (rest := []) (ct_X14_oddsOf l G a o q7 q11 s2 () s14 h14) hC hW hl.1 vy_X14_oddsOf (Or.inl q1914) g2 rfl rfl rfl rfl (Nat.le_of_ble_eq_true rfl) ⟨Nat.le_of_ble_eq_true rfl, Nat.le_of_ble_eq_true rfl⟩ ⟨Nat.le_of_ble_eq_true rfl, Nat.le_of_ble_eq_true rfl⟩ dX14_likely_14 (fun H locs hW => ?_)
  refine lv_bipush (v := 8) hx hb dX14_likely_17 (by decide) ?_
  refine lv_istore_n (lv' := [(1, .int 8), (0, .ref (a o))]) hx hb dX14_likely_19 rfl hl (by decide) rfl (fun ls hl => ?_)
  refine lv_iconst (v := 0) hx hb dX14_likely_20 (by decide) ?_
  refine lv_istore_n (lv' := [(2, .int 0), (1, .int 8), (0, .ref (a o))]) hx hb dX14_likely_21 rfl hl (by decide) rfl (fun ls hl => ?_)
  exact B22 fuel o 8 0 s14 hf _ _ _ (lv_sub hl [2, 1, 0] rfl) hW
def f_X14_most_b154 (K35 : Nat → Int32 → Int32 → Int32 → Int32 → Int32 → ST → Option (Int32 × ST)) (r0 : Nat) (x1 : Int32) (x2 : Int32) (x3 : Int32) (x4 : Int32) (x5 : Int32) (s : ST) : Option (Int32 × ST) :=
  bnd (x5 + 1 : Int32) fun v154 =>
  K35 r0 x1 x2 x3 x4 v154 s
def f_X14_most_b143 (K35 : Nat → Int32 → Int32 → Int32 → Int32 → Int32 → ST → Option (Int32 × ST)) (r0 : Nat) (x1 : Int32) (x2 : Int32) (x5 : Int32) (s : ST) : Option (Int32 × ST) :=
  gd (r0 < s.1 ∧ (kd s r0).1 = 14) <|
  (gr s r0 32).bind fun q144 =>
  gd (q144 < s.1 ∧ (kd s q144).1 = 100 ∧ ¬ ((x1 : Int32) < 0 ∨ (kd s q144).2 ≤ (x1 : Int32).toNatClampNeg)) <|
  bnd ((gi s q144 (x1 : Int32).toNatClampNeg) : Int32) fun v149 =>
  f_X14_most_b154 K35 r0 x1 x2 v149 x5 x5 s
def f_X14_most_b126 (K35 : Nat → Int32 → Int32 → Int32 → Int32 → Int32 → ST → Option (Int32 × ST)) (r0 : Nat) (x1 : Int32) (x2 : Int32) (x3 : Int32) (x4 : Int32) (x5 : Int32) (t0 : Int32) (s : ST) : Option (Int32 × ST) :=
  gd (r0 < s.1 ∧ (kd s r0).1 = 14) <|
  (gr s r0 32).bind fun q129 =>
  gd (q129 < s.1 ∧ (kd s q129).1 = 100 ∧ ¬ ((x1 : Int32) < 0 ∨ (kd s q129).2 ≤ (x1 : Int32).toNatClampNeg)) <|
  if x3 < (gi s q129 (x1 : Int32).toNatClampNeg) then (f_X14_most_b143 K35 r0 x1 x2 x5 s) else if t0 = 0 then (f_X14_most_b154 K35 r0 x1 x2 x3 x4 x5 s) else f_X14_most_b143 K35 r0 x1 x2 x5 s
def f_X14_most_b125 (K35 : Nat → Int32 → Int32 → Int32 → Int32 → Int32 → ST → Option (Int32 × ST)) (r0 : Nat) (x1 : Int32) (x2 : Int32) (x3 : Int32) (x4 : Int32) (x5 : Int32) (s : ST) : Option (Int32 × ST) :=
  f_X14_most_b126 K35 r0 x1 x2 x3 x4 x5 0 s
def f_X14_most_b88 (K50 : Nat → Int32 → Int32 → Int32 → Int32 → Int32 → Int32 → ST → Option (Int32 × ST)) (r0 : Nat) (x1 : Int32) (x2 : Int32) (x3 : Int32) (x4 : Int32) (x5 : Int32) (x6 : Int32) (t0 : Int32) (t1 : Int32) (w2 : Nat) (s : ST) : Option (Int32 × ST) :=
  gd (w2 < s.1 ∧ (kd s w2).1 = 14) <|
  ob (f_X14_goesNext w2 (t1 ||| t0) s) fun _ s89 =>
  bnd (x6 + 1 : Int32) fun v92 =>
  K50 r0 x1 x2 x3 x4 x5 v92 s89
def f_X14_most_b50 (K35 : Nat → Int32 → Int32 → Int32 → Int32 → Int32 → ST → Option (Int32 × ST)) : Nat → Nat → Int32 → Int32 → Int32 → Int32 → Int32 → Int32 → ST → Option (Int32 × ST)
  | 0, _, _, _, _, _, _, _, _ => none
  | n + 1, r0, x1, x2, x3, x4, x5, x6, s =>
  if x2 ≤ x6 then (gd (r0 < s.1 ∧ (kd s r0).1 = 14) <|
  (gr s r0 32).bind fun q99 =>
  gd (q99 < s.1 ∧ (kd s q99).1 = 100 ∧ ¬ ((x1 : Int32) < 0 ∨ (kd s q99).2 ≤ (x1 : Int32).toNatClampNeg)) <|
  if (gi s q99 (x1 : Int32).toNatClampNeg) = x3 then (ob (f_J8_bitCount x5 s) fun v110 s110 =>
  ob (f_J8_bitCount x4 s110) fun v115 s115 =>
  if v115 ≤ v110 then (f_X14_most_b125 K35 r0 x1 x2 x3 x4 x5 s115) else f_X14_most_b126 K35 r0 x1 x2 x3 x4 x5 1 s115) else f_X14_most_b125 K35 r0 x1 x2 x3 x4 x5 s) else gd (r0 < s.1 ∧ (kd s r0).1 = 14) <|
  (gr s r0 11).bind fun q59 =>
  ob (f_X14_willing r0 q59 s) fun v62 s62 =>
  bnd (p_has x5 x6) fun v75 =>
  if v75 = 0 then (f_X14_most_b88 (f_X14_most_b50 K35 n) r0 x1 x2 x3 x4 x5 x6 0 (v62 &&& ((1 <<< (x1 &&& 31)) ^^^ (-1))) r0 s62) else f_X14_most_b88 (f_X14_most_b50 K35 n) r0 x1 x2 x3 x4 x5 x6 (1 <<< (x1 &&& 31)) (v62 &&& ((1 <<< (x1 &&& 31)) ^^^ (-1))) r0 s62
def f_X14_most_b35 : Nat → Nat → Int32 → Int32 → Int32 → Int32 → Int32 → ST → Option (Int32 × ST)
  | 0, _, _, _, _, _, _, _ => none
  | n + 1, r0, x1, x2, x3, x4, x5, s =>
  if (1 <<< (x2 &&& 31)) ≤ x5 then (gd (r0 < s.1 ∧ (kd s r0).1 = 14) <|
  bnd (pI s r0 1 0) fun s162 =>
  ob (f_X14_enters r0 ((x4 : Int32).toInt64) s162) fun _ s169 =>
  some (x3, s169)) else gd (r0 < s.1 ∧ (kd s r0).1 = 14) <|
  ob (f_X14_starts r0 s) fun _ s44 =>
  f_X14_most_b50 (f_X14_most_b35 n) fuel r0 x1 x2 x3 x4 x5 0 s44
def f_X14_most (o : Nat) (x1 : Int32) (x2 : Int32) (s : ST) : Option (Int32 × ST) :=
  gd (o < s.1 ∧ (kd s o).1 = 14) <|
  bnd (pI s o 0 0) fun s2 =>
  ob (f_X14_isAlive o x1 s2) fun v7 s7 =>
  if v7 = 0 then (some ((-1), s7)) else bnd (p_in ((x2 : Int32).toInt64) 0 10) fun v19 =>
  if v19 = 0 then (some ((-1), s7)) else f_X14_most_b35 fuel o x1 x2 (-1) 0 0 s7
set_option maxHeartbeats 4000000 in
theorem ct_X14_most (l : Launch) (G : GM) (a : Nat → Nat) (o : Nat) (x1 : Int32) (x2 : Int32) (s : ST) (rv : Int32) (sf : ST) (hf : f_X14_most o x1 x2 s = some (rv, sf)) : MD l G yX14_most (ws_ yX14_most cX14_most 7 (some .int)) 5 [.ref (a o), .int x1, .int x2] a s (some (.int rv)) sf := by
  refine md_of (d := 5) (lv := [(0, .ref (a o)), (1, .int x1), (2, .int x2)]) (Or.inl (by decide)) (Nat.le_of_ble_eq_true rfl) rfl ?_
  intro p e s0 m args below meth c ls A P hP hC hr hnm hW hl
  have hx := hC.1
  have hb := hC.2.1
  have hts := hC.2.2.2.2.1
  have B154 : ∀ (K35 : Nat → Int32 → Int32 → Int32 → Int32 → Int32 → ST → Option (Int32 × ST)) (hK35 : ∀ (r0 : Nat) (x1 : Int32) (x2 : Int32) (x3 : Int32) (x4 : Int32) (x5 : Int32) (s : ST), K35 r0 x1 x2 x3 x4 x5 s = some (rv, sf) → ∀ (H : Heap) (locs : List Loc) (ls : Array Slot), lv_has ls 7 [(0, .ref (a r0)), (1, .int x1), (2, .int x2), (3, .int x3), (4, .int x4), (5, .int x5)] → AW G a A s s0.heap H locs → WB p l e (rmD 5) s0 m args below meth c H locs G A P 35 ls []), ∀ (r0 : Nat) (x1 : Int32) (x2 : Int32) (x3 : Int32) (x4 : Int32) (x5 : Int32) (s : ST), f_X14_most_b154 K35 r0 x1 x2 x3 x4 x5 s = some (rv, sf) → ∀ (H : Heap) (locs : List Loc) (ls : Array Slot), lv_has ls 7 [(0, .ref (a r0)), (1, .int x1), (2, .int x2), (3, .int x3), (4, .int x4), (5, .int x5)] → AW G a A s s0.heap H locs → WB p l e (rmD 5) s0 m args below meth c H locs G A P 154 ls [] := by
    intro K35 hK35 r0 x1 x2 x3 x4 x5 s hf H locs ls hl hW
    unfold f_X14_most_b154 at hf
    obtain ⟨v154, ev154, hf⟩ := bnd_some hf
    refine lv_iinc (v := v154) (lv' := [(5, .int v154), (0, .ref (a r0)), (1, .int x1), (2, .int x2), (3, .int x3), (4, .int x4)]) hx hb dX14_most_154 hl (k := 5) rfl (by rw [ev154]; rfl) (by decide) rfl (fun ls hl => ?_)
    refine lv_goto (tgt := 35) hx hb dX14_most_157 (by decide) ?_
    exact hK35 r0 x1 x2 x3 x4 v154 s hf _ _ _ (lv_sub hl [1, 2, 3, 4, 5, 0] rfl) hW
  have B143 : ∀ (K35 : Nat → Int32 → Int32 → Int32 → Int32 → Int32 → ST → Option (Int32 × ST)) (hK35 : ∀ (r0 : Nat) (x1 : Int32) (x2 : Int32) (x3 : Int32) (x4 : Int32) (x5 : Int32) (s : ST), K35 r0 x1 x2 x3 x4 x5 s = some (rv, sf) → ∀ (H : Heap) (locs : List Loc) (ls : Array Slot), lv_has ls 7 [(0, .ref (a r0)), (1, .int x1), (2, .int x2), (3, .int x3), (4, .int x4), (5, .int x5)] → AW G a A s s0.heap H locs → WB p l e (rmD 5) s0 m args below meth c H locs G A P 35 ls []), ∀ (r0 : Nat) (x1 : Int32) (x2 : Int32) (x5 : Int32) (s : ST), f_X14_most_b143 K35 r0 x1 x2 x5 s = some (rv, sf) → ∀ (H : Heap) (locs : List Loc) (ls : Array Slot), lv_has ls 7 [(0, .ref (a r0)), (1, .int x1), (2, .int x2), (5, .int x5)] → AW G a A s s0.heap H locs → WB p l e (rmD 5) s0 m args below meth c H locs G A P 143 ls [] := by
    intro K35 hK35 r0 x1 x2 x5 s hf H locs ls hl hW
    unfold f_X14_most_b143 at hf
    refine lv_aload_n hx hb dX14_most_143 rfl (lv_at hl 0 rfl) ?_
    obtain ⟨g144, hf⟩ := gd_some hf
    obtain ⟨q144, hq144, hf⟩ := bi_some hf
    refine aw_gR hC hW g144 fl_X14_80 rfl hq144 dX14_most_144 ?_
    refine lv_iload_n hx hb dX14_most_147 rfl (lv_at hl 1 rfl) ?_
    obtain ⟨g148, hf⟩ := gd_some hf
    refine aw_iald hC hW g148 dX14_most_148 ?_
    obtain ⟨v149, ev149, hf⟩ := bnd_some hf
    refine top_i ev149 ?_
    refine lv_istore_n (lv' := [(3, .int v149), (0, .ref (a r0)), (1, .int x1), (2, .int x2), (5, .int x5)]) hx hb dX14_most_149 rfl hl (by decide) rfl (fun ls hl => ?_)
    refine lv_iload hx hb dX14_most_150 (lv_at hl 4 rfl) ?_
    refine lv_istore (lv' := [(4, .int x5), (3, .int v149), (0, .ref (a r0)), (1, .int x1), (2, .int x2), (5, .int x5)]) hx hb dX14_most_152 hl (by decide) rfl (fun ls hl => ?_)
    exact B154 K35 hK35 r0 x1 x2 v149 x5 x5 s hf _ _ _ (lv_sub hl [2, 3, 4, 1, 0, 5] rfl) hW
  have B126 : ∀ (K35 : Nat → Int32 → Int32 → Int32 → Int32 → Int32 → ST → Option (Int32 × ST)) (hK35 : ∀ (r0 : Nat) (x1 : Int32) (x2 : Int32) (x3 : Int32) (x4 : Int32) (x5 : Int32) (s : ST), K35 r0 x1 x2 x3 x4 x5 s = some (rv, sf) → ∀ (H : Heap) (locs : List Loc) (ls : Array Slot), lv_has ls 7 [(0, .ref (a r0)), (1, .int x1), (2, .int x2), (3, .int x3), (4, .int x4), (5, .int x5)] → AW G a A s s0.heap H locs → WB p l e (rmD 5) s0 m args below meth c H locs G A P 35 ls []), ∀ (r0 : Nat) (x1 : Int32) (x2 : Int32) (x3 : Int32) (x4 : Int32) (x5 : Int32) (t0 : Int32) (s : ST), f_X14_most_b126 K35 r0 x1 x2 x3 x4 x5 t0 s = some (rv, sf) → ∀ (H : Heap) (locs : List Loc) (ls : Array Slot), lv_has ls 7 [(0, .ref (a r0)), (1, .int x1), (2, .int x2), (3, .int x3), (4, .int x4), (5, .int x5)] → AW G a A s s0.heap H locs → WB p l e (rmD 5) s0 m args below meth c H locs G A P 126 ls [.int t0] := by
    intro K35 hK35 r0 x1 x2 x3 x4 x5 t0 s hf H locs ls hl hW
    unfold f_X14_most_b126 at hf
    refine lv_istore (lv' := [(6, .int t0), (0, .ref (a r0)), (1, .int x1), (2, .int x2), (3, .int x3), (4, .int x4), (5, .int x5)]) hx hb dX14_most_126 hl (by decide) rfl (fun ls hl => ?_)
    refine lv_aload_n hx hb dX14_most_128 rfl (lv_at hl 1 rfl) ?_
    obtain ⟨g129, hf⟩ := gd_some hf
    obtain ⟨q129, hq129, hf⟩ := bi_some hf
    refine aw_gR hC hW g129 fl_X14_80 rfl hq129 dX14_most_129 ?_
    refine lv_iload_n hx hb dX14_most_132 rfl (lv_at hl 2 rfl) ?_
    obtain ⟨g133, hf⟩ := gd_some hf
    refine aw_iald hC hW g133 dX14_most_133 ?_
    refine lv_iload_n hx hb dX14_most_134 rfl (lv_at hl 4 rfl) ?_
    refine lv_icmp_gt (tgt := 143) hx hb dX14_most_135 (by decide) (fun c135 => ?_) (fun c135 => ?_)
    · have hf := ifp c135 hf
      exact B143 K35 hK35 r0 x1 x2 x5 s hf _ _ _ (lv_sub hl [1, 2, 3, 6] rfl) hW
    · have hf := ifn c135 hf
      refine lv_iload hx hb dX14_most_138 (lv_at hl 0 rfl) ?_
      refine lv_if_eq (tgt := 154) hx hb dX14_most_140 (by decide) (fun c140 => ?_) (fun c140 => ?_)
      · have hf := ifp c140 hf
        exact B154 K35 hK35 r0 x1 x2 x3 x4 x5 s hf _ _ _ (lv_sub hl [1, 2, 3, 4, 5, 6] rfl) hW
      · have hf := ifn c140 hf
        exact B143 K35 hK35 r0 x1 x2 x5 s hf _ _ _ (lv_sub hl [1, 2, 3, 6] rfl) hW
  have B125 : ∀ (K35 : Nat → Int32 → Int32 → Int32 → Int32 → Int32 → ST → Option (Int32 × ST)) (hK35 : ∀ (r0 : Nat) (x1 : Int32) (x2 : Int32) (x3 : Int32) (x4 : Int32) (x5 : Int32) (s : ST), K35 r0 x1 x2 x3 x4 x5 s = some (rv, sf) → ∀ (H : Heap) (locs : List Loc) (ls : Array Slot), lv_has ls 7 [(0, .ref (a r0)), (1, .int x1), (2, .int x2), (3, .int x3), (4, .int x4), (5, .int x5)] → AW G a A s s0.heap H locs → WB p l e (rmD 5) s0 m args below meth c H locs G A P 35 ls []), ∀ (r0 : Nat) (x1 : Int32) (x2 : Int32) (x3 : Int32) (x4 : Int32) (x5 : Int32) (s : ST), f_X14_most_b125 K35 r0 x1 x2 x3 x4 x5 s = some (rv, sf) → ∀ (H : Heap) (locs : List Loc) (ls : Array Slot), lv_has ls 7 [(0, .ref (a r0)), (1, .int x1), (2, .int x2), (3, .int x3), (4, .int x4), (5, .int x5)] → AW G a A s s0.heap H locs → WB p l e (rmD 5) s0 m args below meth c H locs G A P 125 ls [] := by
    intro K35 hK35 r0 x1 x2 x3 x4 x5 s hf H locs ls hl hW
    unfold f_X14_most_b125 at hf
    refine lv_iconst (v := 0) hx hb dX14_most_125 (by decide) ?_
    exact B126 K35 hK35 r0 x1 x2 x3 x4 x5 0 s hf _ _ _ (lv_sub hl [0, 1, 2, 3, 4, 5] rfl) hW
  have B88 : ∀ (K50 : Nat → Int32 → Int32 → Int32 → Int32 → Int32 → Int32 → ST → Option (Int32 × ST)) (hK50 : ∀ (r0 : Nat) (x1 : Int32) (x2 : Int32) (x3 : Int32) (x4 : Int32) (x5 : Int32) (x6 : Int32) (s : ST), K50 r0 x1 x2 x3 x4 x5 x6 s = some (rv, sf) → ∀ (H : Heap) (locs : List Loc) (ls : Array Slot), lv_has ls 7 [(0, .ref (a r0)), (1, .int x1), (2, .int x2), (3, .int x3), (4, .int x4), (5, .int x5), (6, .int x6)] → AW G a A s s0.heap H locs → WB p l e (rmD 5) s0 m args below meth c H locs G A P 50 ls []), ∀ (r0 : Nat) (x1 : Int32) (x2 : Int32) (x3 : Int32) (x4 : Int32) (x5 : Int32) (x6 : Int32) (t0 : Int32) (t1 : Int32) (w2 : Nat) (s : ST), f_X14_most_b88 K50 r0 x1 x2 x3 x4 x5 x6 t0 t1 w2 s = some (rv, sf) → ∀ (H : Heap) (locs : List Loc) (ls : Array Slot), lv_has ls 7 [(0, .ref (a r0)), (1, .int x1), (2, .int x2), (3, .int x3), (4, .int x4), (5, .int x5), (6, .int x6)] → AW G a A s s0.heap H locs → WB p l e (rmD 5) s0 m args below meth c H locs G A P 88 ls [.int t0, .int t1, .ref (a w2)] := by
    intro K50 hK50 r0 x1 x2 x3 x4 x5 x6 t0 t1 w2 s hf H locs ls hl hW
    unfold f_X14_most_b88 at hf
    refine lv_ior hx hb dX14_most_88 ?_
    obtain ⟨g89, hf⟩ := gd_some hf
    obtain ⟨_, s89, h89, hf⟩ := ob_some hf
    refine aw_dV0 (r := w2) (As := [.int (t1 ||| t0)]) (rest := []) (ct_X14_goesNext l G a w2 (t1 ||| t0) s () s89 h89) hC hW hl.1 vy_X14_goesNext (Or.inl q1760) g89 rfl rfl rfl rfl (Nat.le_of_ble_eq_true rfl) ⟨Nat.le_of_ble_eq_true rfl, Nat.le_of_ble_eq_true rfl⟩ ⟨Nat.le_of_ble_eq_true rfl, Nat.le_of_ble_eq_true rfl⟩ dX14_most_89 (fun H locs hW => ?_)
    obtain ⟨v92, ev92, hf⟩ := bnd_some hf
    refine lv_iinc (v := v92) (lv' := [(6, .int v92), (0, .ref (a r0)), (1, .int x1), (2, .int x2), (3, .int x3), (4, .int x4), (5, .int x5)]) hx hb dX14_most_92 hl (k := 6) rfl (by rw [ev92]; rfl) (by decide) rfl (fun ls hl => ?_)
    refine lv_goto (tgt := 50) hx hb dX14_most_95 (by decide) ?_
    exact hK50 r0 x1 x2 x3 x4 x5 v92 s89 hf _ _ _ (lv_sub hl [1, 2, 3, 4, 5, 6, 0] rfl) hW
  have B50 : ∀ (K35 : Nat → Int32 → Int32 → Int32 → Int32 → Int32 → ST → Option (Int32 × ST)) (hK35 : ∀ (r0 : Nat) (x1 : Int32) (x2 : Int32) (x3 : Int32) (x4 : Int32) (x5 : Int32) (s : ST), K35 r0 x1 x2 x3 x4 x5 s = some (rv, sf) → ∀ (H : Heap) (locs : List Loc) (ls : Array Slot), lv_has ls 7 [(0, .ref (a r0)), (1, .int x1), (2, .int x2), (3, .int x3), (4, .int x4), (5, .int x5)] → AW G a A s s0.heap H locs → WB p l e (rmD 5) s0 m args below meth c H locs G A P 35 ls []), ∀ (n : Nat), ∀ (r0 : Nat) (x1 : Int32) (x2 : Int32) (x3 : Int32) (x4 : Int32) (x5 : Int32) (x6 : Int32) (s : ST), f_X14_most_b50 K35 n r0 x1 x2 x3 x4 x5 x6 s = some (rv, sf) → ∀ (H : Heap) (locs : List Loc) (ls : Array Slot), lv_has ls 7 [(0, .ref (a r0)), (1, .int x1), (2, .int x2), (3, .int x3), (4, .int x4), (5, .int x5), (6, .int x6)] → AW G a A s s0.heap H locs → WB p l e (rmD 5) s0 m args below meth c H locs G A P 50 ls [] := by
    intro K35 hK35
    intro n
    induction n with
    | zero => intro r0 x1 x2 x3 x4 x5 x6 s hf; cases hf
    | succ n ih =>
      intro r0 x1 x2 x3 x4 x5 x6 s hf H locs ls hl hW
      rw [f_X14_most_b50] at hf
      refine lv_iload hx hb dX14_most_50 (lv_at hl 6 rfl) ?_
      refine lv_iload_n hx hb dX14_most_52 rfl (lv_at hl 2 rfl) ?_
      refine lv_icmp_ge (tgt := 98) hx hb dX14_most_53 (by decide) (fun c53 => ?_) (fun c53 => ?_)
      · have hf := ifp c53 hf
        refine lv_aload_n hx hb dX14_most_98 rfl (lv_at hl 0 rfl) ?_
        obtain ⟨g99, hf⟩ := gd_some hf
        obtain ⟨q99, hq99, hf⟩ := bi_some hf
        refine aw_gR hC hW g99 fl_X14_80 rfl hq99 dX14_most_99 ?_
        refine lv_iload_n hx hb dX14_most_102 rfl (lv_at hl 1 rfl) ?_
        obtain ⟨g103, hf⟩ := gd_some hf
        refine aw_iald hC hW g103 dX14_most_103 ?_
        refine lv_iload_n hx hb dX14_most_104 rfl (lv_at hl 3 rfl) ?_
        refine lv_icmp_ne (tgt := 125) hx hb dX14_most_105 (by decide) (fun c105 => ?_) (fun c105 => ?_)
        · have hf := ifn c105 hf
          exact B125 K35 hK35 r0 x1 x2 x3 x4 x5 s hf _ _ _ (lv_sub hl [0, 1, 2, 3, 4, 5] rfl) hW
        · have hf := ifp c105 hf
          refine lv_iload hx hb dX14_most_108 (lv_at hl 5 rfl) ?_
          obtain ⟨v110, s110, h110, hf⟩ := ob_some hf
          refine aw_dS1 (As := [.int x5]) (rest := []) (ct_J8_bitCount l G a x5 s v110 s110 h110) hC hW hl.1 sy_J8_bitCount (Or.inl q1782) rfl rfl (Nat.le_of_ble_eq_true rfl) ⟨Nat.le_of_ble_eq_true rfl, Nat.le_of_ble_eq_true rfl⟩ ⟨Nat.le_of_ble_eq_true rfl, Nat.le_of_ble_eq_true rfl⟩ dX14_most_110 (fun H locs hW => ?_)
          refine lv_iload hx hb dX14_most_113 (lv_at hl 4 rfl) ?_
          obtain ⟨v115, s115, h115, hf⟩ := ob_some hf
          refine aw_dS1 (As := [.int x4]) (rest := [.int v110]) (ct_J8_bitCount l G a x4 s110 v115 s115 h115) hC hW hl.1 sy_J8_bitCount (Or.inl q1782) rfl rfl (Nat.le_of_ble_eq_true rfl) ⟨Nat.le_of_ble_eq_true rfl, Nat.le_of_ble_eq_true rfl⟩ ⟨Nat.le_of_ble_eq_true rfl, Nat.le_of_ble_eq_true rfl⟩ dX14_most_115 (fun H locs hW => ?_)
          refine lv_icmp_ge (tgt := 125) hx hb dX14_most_118 (by decide) (fun c118 => ?_) (fun c118 => ?_)
          · have hf := ifp c118 hf
            exact B125 K35 hK35 r0 x1 x2 x3 x4 x5 s115 hf _ _ _ (lv_sub hl [0, 1, 2, 3, 4, 5] rfl) hW
          · have hf := ifn c118 hf
            refine lv_iconst (v := 1) hx hb dX14_most_121 (by decide) ?_
            refine lv_goto (tgt := 126) hx hb dX14_most_122 (by decide) ?_
            exact B126 K35 hK35 r0 x1 x2 x3 x4 x5 1 s115 hf _ _ _ (lv_sub hl [0, 1, 2, 3, 4, 5] rfl) hW
      · have hf := ifn c53 hf
        refine lv_aload_n hx hb dX14_most_56 rfl (lv_at hl 0 rfl) ?_
        refine lv_aload_n hx hb dX14_most_57 rfl (lv_at hl 0 rfl) ?_
        refine lv_aload_n hx hb dX14_most_58 rfl (lv_at hl 0 rfl) ?_
        obtain ⟨g59, hf⟩ := gd_some hf
        obtain ⟨q59, hq59, hf⟩ := bi_some hf
        refine aw_gR hC hW g59 fl_X14_47 rfl hq59 dX14_most_59 ?_
        obtain ⟨v62, s62, h62, hf⟩ := ob_some hf
        refine aw_dV1 (r := r0) (As := [.ref (a q59)]) (rest := [.ref (a r0)]) (ct_X14_willing l G a r0 q59 s v62 s62 h62) hC hW hl.1 vy_X14_willing (Or.inl q1698) g59 rfl rfl rfl rfl (Nat.le_of_ble_eq_true rfl) ⟨Nat.le_of_ble_eq_true rfl, Nat.le_of_ble_eq_true rfl⟩ ⟨Nat.le_of_ble_eq_true rfl, Nat.le_of_ble_eq_true rfl⟩ dX14_most_62 (fun H locs hW => ?_)
        refine lv_iconst (v := 1) hx hb dX14_most_65 (by decide) ?_
        refine lv_iload_n hx hb dX14_most_66 rfl (lv_at hl 1 rfl) ?_
        refine lv_ishl hx hb dX14_most_67 ?_
        refine lv_iconst (v := (-1)) hx hb dX14_most_68 (by decide) ?_
        refine lv_ixor hx hb dX14_most_69 ?_
        refine lv_iand hx hb dX14_most_70 ?_
        refine lv_iload hx hb dX14_most_71 (lv_at hl 5 rfl) ?_
        refine lv_iload hx hb dX14_most_73 (lv_at hl 6 rfl) ?_
        obtain ⟨v75, ev75, hf⟩ := bnd_some hf
        refine aw_dS1 (As := [.int x5, .int x6]) (rest := [.int (v62 &&& ((1 <<< (x1 &&& 31)) ^^^ (-1))), .ref (a r0)]) (pc_X14_has l G a x5 x6 s62) hC hW hl.1 sy_X14_has (Or.inl q1626) rfl rfl (Nat.le_of_ble_eq_true rfl) ⟨Nat.le_of_ble_eq_true rfl, Nat.le_of_ble_eq_true rfl⟩ ⟨Nat.le_of_ble_eq_true rfl, Nat.le_of_ble_eq_true rfl⟩ dX14_most_75 (fun H locs hW => ?_)
        refine top_i ev75 ?_
        refine lv_if_eq (tgt := 87) hx hb dX14_most_78 (by decide) (fun c78 => ?_) (fun c78 => ?_)
        · have hf := ifp c78 hf
          refine lv_iconst (v := 0) hx hb dX14_most_87 (by decide) ?_
          exact B88 (f_X14_most_b50 K35 n) ih r0 x1 x2 x3 x4 x5 x6 0 (v62 &&& ((1 <<< (x1 &&& 31)) ^^^ (-1))) r0 s62 hf _ _ _ (lv_sub hl [0, 1, 2, 3, 4, 5, 6] rfl) hW
        · have hf := ifn c78 hf
          refine lv_iconst (v := 1) hx hb dX14_most_81 (by decide) ?_
          refine lv_iload_n hx hb dX14_most_82 rfl (lv_at hl 1 rfl) ?_
          refine lv_ishl hx hb dX14_most_83 ?_
          refine lv_goto (tgt := 88) hx hb dX14_most_84 (by decide) ?_
          exact B88 (f_X14_most_b50 K35 n) ih r0 x1 x2 x3 x4 x5 x6 (1 <<< (x1 &&& 31)) (v62 &&& ((1 <<< (x1 &&& 31)) ^^^ (-1))) r0 s62 hf _ _ _ (lv_sub hl [0, 1, 2, 3, 4, 5, 6] rfl) hW
  have B35 : ∀ (n : Nat), ∀ (r0 : Nat) (x1 : Int32) (x2 : Int32) (x3 : Int32) (x4 : Int32) (x5 : Int32) (s : ST), f_X14_most_b35 n r0 x1 x2 x3 x4 x5 s = some (rv, sf) → ∀ (H : Heap) (locs : List Loc) (ls : Array Slot), lv_has ls 7 [(0, .ref (a r0)), (1, .int x1), (2, .int x2), (3, .int x3), (4, .int x4), (5, .int x5)] → AW G a A s s0.heap H locs → WB p l e (rmD 5) s0 m args below meth c H locs G A P 35 ls [] := by
    intro n
    induction n with
    | zero => intro r0 x1 x2 x3 x4 x5 s hf; cases hf
    | succ n ih =>
      intro r0 x1 x2 x3 x4 x5 s hf H locs ls hl hW
      rw [f_X14_most_b35] at hf
      refine lv_iload hx hb dX14_most_35 (lv_at hl 5 rfl) ?_
      refine lv_iconst (v := 1) hx hb dX14_most_37 (by decide) ?_
      refine lv_iload_n hx hb dX14_most_38 rfl (lv_at hl 2 rfl) ?_
      refine lv_ishl hx hb dX14_most_39 ?_
      refine lv_icmp_ge (tgt := 160) hx hb dX14_most_40 (by decide) (fun c40 => ?_) (fun c40 => ?_)
      · have hf := ifp c40 hf
        refine lv_aload_n hx hb dX14_most_160 rfl (lv_at hl 0 rfl) ?_
        refine lv_iconst (v := 0) hx hb dX14_most_161 (by decide) ?_
        obtain ⟨g162, hf⟩ := gd_some hf
        obtain ⟨s162, e162, hf⟩ := bnd_some hf
        refine aw_pI e162 hC hW g162 fl_X14_15 (Or.inl fn_13_1) rfl rfl rfl dX14_most_162 (fun H locs hW => ?_)
        have g162 := ko_pI e162 g162
        refine lv_aload_n hx hb dX14_most_165 rfl (lv_at hl 0 rfl) ?_
        refine lv_iload hx hb dX14_most_166 (lv_at hl 4 rfl) ?_
        refine lv_i2l (v := (x4 : Int32).toInt64) hx hb dX14_most_168 rfl ?_
        obtain ⟨_, s169, h169, hf⟩ := ob_some hf
        refine aw_dV0 (r := r0) (As := [.long ((x4 : Int32).toInt64)]) (rest := []) (ct_X14_enters l G a r0 ((x4 : Int32).toInt64) s162 () s169 h169) hC hW hl.1 vy_X14_enters (Or.inl q1689) g162 rfl rfl rfl rfl (Nat.le_of_ble_eq_true rfl) ⟨Nat.le_of_ble_eq_true rfl, Nat.le_of_ble_eq_true rfl⟩ ⟨Nat.le_of_ble_eq_true rfl, Nat.le_of_ble_eq_true rfl⟩ dX14_most_169 (fun H locs hW => ?_)
        refine lv_iload_n hx hb dX14_most_172 rfl (lv_at hl 3 rfl) ?_
        obtain ⟨e1, e2⟩ := so_inj hf
        exact aw_iret hC hW hr rfl (p_eq hP (congrArg (fun z => some (Value.int z)) e1) e2) (Nat.le_of_ble_eq_true rfl) (Nat.le_of_ble_eq_true rfl) dX14_most_173
      · have hf := ifn c40 hf
        refine lv_aload_n hx hb dX14_most_43 rfl (lv_at hl 0 rfl) ?_
        obtain ⟨g44, hf⟩ := gd_some hf
        obtain ⟨_, s44, h44, hf⟩ := ob_some hf
        refine aw_dV0 (r := r0) (As := []) (rest := []) (ct_X14_starts l G a r0 s () s44 h44) hC hW hl.1 vy_X14_starts (Or.inl q1749) g44 rfl rfl rfl rfl (Nat.le_of_ble_eq_true rfl) ⟨Nat.le_of_ble_eq_true rfl, Nat.le_of_ble_eq_true rfl⟩ ⟨Nat.le_of_ble_eq_true rfl, Nat.le_of_ble_eq_true rfl⟩ dX14_most_44 (fun H locs hW => ?_)
        refine lv_iconst (v := 0) hx hb dX14_most_47 (by decide) ?_
        refine lv_istore (lv' := [(6, .int 0), (0, .ref (a r0)), (1, .int x1), (2, .int x2), (3, .int x3), (4, .int x4), (5, .int x5)]) hx hb dX14_most_48 hl (by decide) rfl (fun ls hl => ?_)
        exact B50 (f_X14_most_b35 n) ih fuel r0 x1 x2 x3 x4 x5 0 s44 hf _ _ _ (lv_sub hl [1, 2, 3, 4, 5, 6, 0] rfl) hW
  unfold f_X14_most at hf
  refine lv_aload_n hx hb dX14_most_0 rfl (lv_at hl 0 rfl) ?_
  refine lv_iconst (v := 0) hx hb dX14_most_1 (by decide) ?_
  obtain ⟨g2, hf⟩ := gd_some hf
  obtain ⟨s2, e2, hf⟩ := bnd_some hf
  refine aw_pI e2 hC hW g2 fl_X14_3 (Or.inl fn_13_0) rfl rfl rfl dX14_most_2 (fun H locs hW => ?_)
  have g2 := ko_pI e2 g2
  refine lv_aload_n hx hb dX14_most_5 rfl (lv_at hl 0 rfl) ?_
  refine lv_iload_n hx hb dX14_most_6 rfl (lv_at hl 1 rfl) ?_
  obtain ⟨v7, s7, h7, hf⟩ := ob_some hf
  refine aw_dV1 (r := o) (As := [.int x1]) (rest := []) (ct_X14_isAlive l G a o x1 s2 v7 s7 h7) hC hW hl.1 vy_X14_isAlive (Or.inl q1722) g2 rfl rfl rfl rfl (Nat.le_of_ble_eq_true rfl) ⟨Nat.le_of_ble_eq_true rfl, Nat.le_of_ble_eq_true rfl⟩ ⟨Nat.le_of_ble_eq_true rfl, Nat.le_of_ble_eq_true rfl⟩ dX14_most_7 (fun H locs hW => ?_)
  refine lv_if_eq (tgt := 25) hx hb dX14_most_10 (by decide) (fun c10 => ?_) (fun c10 => ?_)
  · have hf := ifp c10 hf
    refine lv_iconst (v := (-1)) hx hb dX14_most_25 (by decide) ?_
    obtain ⟨e1, e2⟩ := so_inj hf
    exact aw_iret hC hW hr rfl (p_eq hP (congrArg (fun z => some (Value.int z)) e1) e2) (Nat.le_of_ble_eq_true rfl) (Nat.le_of_ble_eq_true rfl) dX14_most_26
  · have hf := ifn c10 hf
    refine lv_iload_n hx hb dX14_most_13 rfl (lv_at hl 2 rfl) ?_
    refine lv_i2l (v := (x2 : Int32).toInt64) hx hb dX14_most_14 rfl ?_
    refine lv_lconst (v := 0) hx hb dX14_most_15 (by decide) ?_
    refine lv_ldc2 (v := 10) hx hb hC.2.2.2.1 (hts _ q1781) dX14_most_16 ?_
    obtain ⟨v19, ev19, hf⟩ := bnd_some hf
    refine aw_dS1 (As := [.long ((x2 : Int32).toInt64), .long 0, .long 10]) (rest := []) (pc_X14_in l G a ((x2 : Int32).toInt64) 0 10 s7) hC hW hl.1 sy_X14_in (Or.inl q1514) rfl rfl (Nat.le_of_ble_eq_true rfl) ⟨Nat.le_of_ble_eq_true rfl, Nat.le_of_ble_eq_true rfl⟩ ⟨Nat.le_of_ble_eq_true rfl, Nat.le_of_ble_eq_true rfl⟩ dX14_most_19 (fun H locs hW => ?_)
    refine top_i ev19 ?_
    refine lv_if_ne (tgt := 27) hx hb dX14_most_22 (by decide) (fun c22 => ?_) (fun c22 => ?_)
    · have hf := ifn c22 hf
      refine lv_iconst (v := (-1)) hx hb dX14_most_27 (by decide) ?_
      refine lv_istore_n (lv' := [(3, .int (-1)), (0, .ref (a o)), (1, .int x1), (2, .int x2)]) hx hb dX14_most_28 rfl hl (by decide) rfl (fun ls hl => ?_)
      refine lv_iconst (v := 0) hx hb dX14_most_29 (by decide) ?_
      refine lv_istore (lv' := [(4, .int 0), (3, .int (-1)), (0, .ref (a o)), (1, .int x1), (2, .int x2)]) hx hb dX14_most_30 hl (by decide) rfl (fun ls hl => ?_)
      refine lv_iconst (v := 0) hx hb dX14_most_32 (by decide) ?_
      refine lv_istore (lv' := [(5, .int 0), (4, .int 0), (3, .int (-1)), (0, .ref (a o)), (1, .int x1), (2, .int x2)]) hx hb dX14_most_33 hl (by decide) rfl (fun ls hl => ?_)
      exact B35 fuel o x1 x2 (-1) 0 0 s7 hf _ _ _ (lv_sub hl [3, 4, 5, 2, 1, 0] rfl) hW
    · have hf := ifp c22 hf
      refine lv_iconst (v := (-1)) hx hb dX14_most_25 (by decide) ?_
      obtain ⟨e1, e2⟩ := so_inj hf
      exact aw_iret hC hW hr rfl (p_eq hP (congrArg (fun z => some (Value.int z)) e1) e2) (Nat.le_of_ble_eq_true rfl) (Nat.le_of_ble_eq_true rfl) dX14_most_26
def f_X14_odds_b182 (K100 : Nat → Int32 → Int64 → Int32 → ST → Option (Int32 × ST)) (r0 : Nat) (x1 : Int32) (y3 : Int64) (x5 : Int32) (s : ST) : Option (Int32 × ST) :=
  bnd (x5 + 1 : Int32) fun v182 =>
  K100 r0 x1 y3 v182 s
def f_X14_odds_b150 (K100 : Nat → Int32 → Int64 → Int32 → ST → Option (Int32 × ST)) (r0 : Nat) (x1 : Int32) (y3 : Int64) (x5 : Int32) (t0 : Int32) (w1 : Nat) (w2 : Nat) (s : ST) : Option (Int32 × ST) :=
  gd (w2 < s.1 ∧ (kd s w2).1 = 14) <|
  ob (f_X14_goes w2 w1 t0 s) fun _ s150 =>
  gd (r0 < s150.1 ∧ (kd s150 r0).1 = 14) <|
  (gr s150 r0 42).bind fun q155 =>
  (gr s150 r0 41).bind fun q159 =>
  ob (f_X14_oddsOf r0 q155 q159 s150) fun _ s162 =>
  gd (r0 < s162.1 ∧ (kd s162 r0).1 = 14) <|
  (gr s162 r0 40).bind fun q167 =>
  gd (q167 < s162.1 ∧ (kd s162 q167).1 = 104 ∧ ¬ ((x5 : Int32) < 0 ∨ (kd s162 q167).2 ≤ (x5 : Int32).toNatClampNeg)) <|
  (gr s162 r0 41).bind fun q174 =>
  gd (q174 < s162.1 ∧ (kd s162 q174).1 = 104 ∧ ¬ ((x1 : Int32) < 0 ∨ (kd s162 q174).2 ≤ (x1 : Int32).toNatClampNeg)) <|
  bnd ((y3 + ((gl s162 q167 (x5 : Int32).toNatClampNeg) * (gl s162 q174 (x1 : Int32).toNatClampNeg))) : Int64) fun v181 =>
  f_X14_odds_b182 K100 r0 x1 v181 x5 s162
def f_X14_odds_b100 : Nat → Nat → Int32 → Int64 → Int32 → ST → Option (Int32 × ST)
  | 0, _, _, _, _, _ => none
  | n + 1, r0, x1, y3, x5, s =>
  if 8 < x5 then (gd (r0 < s.1 ∧ (kd s r0).1 = 14) <|
  ob (f_X14_entersFraction r0 y3 10000000000000000 s) fun _ s193 =>
  some (0, s193)) else gd (r0 < s.1 ∧ (kd s r0).1 = 14) <|
  (gr s r0 40).bind fun q108 =>
  gd (q108 < s.1 ∧ (kd s q108).1 = 104 ∧ ¬ ((x5 : Int32) < 0 ∨ (kd s q108).2 ≤ (x5 : Int32).toNatClampNeg)) <|
  if (lg_cmp (gl s q108 (x5 : Int32).toNatClampNeg) 0) ≤ 0 then (f_X14_odds_b182 (f_X14_odds_b100 n) r0 x1 y3 x5 s) else (gr s r0 10).bind fun q120 =>
  (gr s r0 42).bind fun q124 =>
  ob (f_X14_puts q120 q124 s) fun _ s127 =>
  gd (r0 < s127.1 ∧ (kd s127 r0).1 = 14) <|
  (gr s127 r0 42).bind fun q132 =>
  if x5 = 8 then (f_X14_odds_b150 (f_X14_odds_b100 n) r0 x1 y3 x5 0 q132 r0 s127) else f_X14_odds_b150 (f_X14_odds_b100 n) r0 x1 y3 x5 (1 <<< (x5 &&& 31)) q132 r0 s127
def f_X14_odds_b53 (t0 : Int32) (w1 : Nat) (s : ST) : Option (Int32 × ST) :=
  bnd (p_flag t0) fun v53 =>
  gd (w1 < s.1 ∧ (kd s w1).1 = 14) <|
  ob (f_X14_entersFraction w1 ((v53 : Int32).toInt64) 1 s) fun _ s58 =>
  some (0, s58)
def f_X14_odds (o : Nat) (x1 : Int32) (x2 : Int32) (s : ST) : Option (Int32 × ST) :=
  gd (o < s.1 ∧ (kd s o).1 = 14) <|
  bnd (pI s o 0 0) fun s2 =>
  ob (f_X14_isPerson o x1 s2) fun v7 s7 =>
  if v7 = 0 then (some ((-1), s7)) else bnd (p_in ((x2 : Int32).toInt64) 0 2) fun v19 =>
  if v19 = 0 then (some ((-1), s7)) else gd (o < s7.1 ∧ (kd s7 o).1 = 14) <|
  bnd (pI s7 o 1 0) fun s29 =>
  if x2 = 0 then ((gr s29 o 10).bind fun q38 =>
  gd (q38 < s29.1 ∧ (kd s29 q38).1 = 100 ∧ ¬ ((17 : Int32) < 0 ∨ (kd s29 q38).2 ≤ (17 : Int32).toNatClampNeg)) <|
  if (gi s29 q38 (17 : Int32).toNatClampNeg) = x1 then (f_X14_odds_b53 1 o s29) else f_X14_odds_b53 0 o s29) else (gr s29 o 10).bind fun q65 =>
  (gr s29 o 40).bind fun q69 =>
  ob (f_X14_oddsOf o q65 q69 s29) fun _ s72 =>
  if x2 = 1 then (gd (o < s72.1 ∧ (kd s72 o).1 = 14) <|
  (gr s72 o 40).bind fun q82 =>
  gd (q82 < s72.1 ∧ (kd s72 q82).1 = 104 ∧ ¬ ((x1 : Int32) < 0 ∨ (kd s72 q82).2 ≤ (x1 : Int32).toNatClampNeg)) <|
  ob (f_X14_entersFraction o (gl s72 q82 (x1 : Int32).toNatClampNeg) 100000000 s72) fun _ s90 =>
  some (0, s90)) else f_X14_odds_b100 fuel o x1 0 0 s72
set_option maxHeartbeats 4000000 in
theorem ct_X14_odds (l : Launch) (G : GM) (a : Nat → Nat) (o : Nat) (x1 : Int32) (x2 : Int32) (s : ST) (rv : Int32) (sf : ST) (hf : f_X14_odds o x1 x2 s = some (rv, sf)) : MD l G yX14_odds (ws_ yX14_odds cX14_odds 6 (some .int)) 102 [.ref (a o), .int x1, .int x2] a s (some (.int rv)) sf := by
  refine md_of (d := 102) (lv := [(0, .ref (a o)), (1, .int x1), (2, .int x2)]) (Or.inl (by decide)) (Nat.le_of_ble_eq_true rfl) rfl ?_
  intro p e s0 m args below meth c ls A P hP hC hr hnm hW hl
  have hx := hC.1
  have hb := hC.2.1
  have hts := hC.2.2.2.2.1
  have B182 : ∀ (K100 : Nat → Int32 → Int64 → Int32 → ST → Option (Int32 × ST)) (hK100 : ∀ (r0 : Nat) (x1 : Int32) (y3 : Int64) (x5 : Int32) (s : ST), K100 r0 x1 y3 x5 s = some (rv, sf) → ∀ (H : Heap) (locs : List Loc) (ls : Array Slot), lv_has ls 6 [(0, .ref (a r0)), (1, .int x1), (3, .long y3), (5, .int x5)] → AW G a A s s0.heap H locs → WB p l e (rmD 102) s0 m args below meth c H locs G A P 100 ls []), ∀ (r0 : Nat) (x1 : Int32) (y3 : Int64) (x5 : Int32) (s : ST), f_X14_odds_b182 K100 r0 x1 y3 x5 s = some (rv, sf) → ∀ (H : Heap) (locs : List Loc) (ls : Array Slot), lv_has ls 6 [(0, .ref (a r0)), (1, .int x1), (3, .long y3), (5, .int x5)] → AW G a A s s0.heap H locs → WB p l e (rmD 102) s0 m args below meth c H locs G A P 182 ls [] := by
    intro K100 hK100 r0 x1 y3 x5 s hf H locs ls hl hW
    unfold f_X14_odds_b182 at hf
    obtain ⟨v182, ev182, hf⟩ := bnd_some hf
    refine lv_iinc (v := v182) (lv' := [(5, .int v182), (0, .ref (a r0)), (1, .int x1), (3, .long y3)]) hx hb dX14_odds_182 hl (k := 3) rfl (by rw [ev182]; rfl) (by decide) rfl (fun ls hl => ?_)
    refine lv_goto (tgt := 100) hx hb dX14_odds_185 (by decide) ?_
    exact hK100 r0 x1 y3 v182 s hf _ _ _ (lv_sub hl [1, 2, 3, 0] rfl) hW
  have B150 : ∀ (K100 : Nat → Int32 → Int64 → Int32 → ST → Option (Int32 × ST)) (hK100 : ∀ (r0 : Nat) (x1 : Int32) (y3 : Int64) (x5 : Int32) (s : ST), K100 r0 x1 y3 x5 s = some (rv, sf) → ∀ (H : Heap) (locs : List Loc) (ls : Array Slot), lv_has ls 6 [(0, .ref (a r0)), (1, .int x1), (3, .long y3), (5, .int x5)] → AW G a A s s0.heap H locs → WB p l e (rmD 102) s0 m args below meth c H locs G A P 100 ls []), ∀ (r0 : Nat) (x1 : Int32) (y3 : Int64) (x5 : Int32) (t0 : Int32) (w1 : Nat) (w2 : Nat) (s : ST), f_X14_odds_b150 K100 r0 x1 y3 x5 t0 w1 w2 s = some (rv, sf) → ∀ (H : Heap) (locs : List Loc) (ls : Array Slot), lv_has ls 6 [(0, .ref (a r0)), (1, .int x1), (3, .long y3), (5, .int x5)] → AW G a A s s0.heap H locs → WB p l e (rmD 102) s0 m args below meth c H locs G A P 150 ls [.int t0, .ref (a w1), .ref (a w2)] := by
    intro K100 hK100 r0 x1 y3 x5 t0 w1 w2 s hf H locs ls hl hW
    unfold f_X14_odds_b150 at hf
    obtain ⟨g150, hf⟩ := gd_some hf
    obtain ⟨_, s150, h150, hf⟩ := ob_some hf
    refine aw_dV0 (r := w2) (As := [.ref (a w1), .int t0]) (rest := []) (ct_X14_goes l G a w2 w1 t0 s () s150 h150) hC hW hl.1 vy_X14_goes (Or.inl q1681) g150 rfl rfl rfl rfl (Nat.le_of_ble_eq_true rfl) ⟨Nat.le_of_ble_eq_true rfl, Nat.le_of_ble_eq_true rfl⟩ ⟨Nat.le_of_ble_eq_true rfl, Nat.le_of_ble_eq_true rfl⟩ dX14_odds_150 (fun H locs hW => ?_)
    refine lv_aload_n hx hb dX14_odds_153 rfl (lv_at hl 0 rfl) ?_
    refine lv_aload_n hx hb dX14_odds_154 rfl (lv_at hl 0 rfl) ?_
    obtain ⟨g155, hf⟩ := gd_some hf
    obtain ⟨q155, hq155, hf⟩ := bi_some hf
    refine aw_gR hC hW g155 fl_X14_104 rfl hq155 dX14_odds_155 ?_
    refine lv_aload_n hx hb dX14_odds_158 rfl (lv_at hl 0 rfl) ?_
    obtain ⟨q159, hq159, hf⟩ := bi_some hf
    refine aw_gR hC hW g155 fl_X14_101 rfl hq159 dX14_odds_159 ?_
    obtain ⟨_, s162, h162, hf⟩ := ob_some hf
    refine aw_dV0 (r := r0) (As := [.ref (a q155), .ref (a q159)]) (rest := []) (ct_X14_oddsOf l G a r0 q155 q159 s150 () s162 h162) hC hW hl.1 vy_X14_oddsOf (Or.inl q1914) g155 rfl rfl rfl rfl (Nat.le_of_ble_eq_true rfl) ⟨Nat.le_of_ble_eq_true rfl, Nat.le_of_ble_eq_true rfl⟩ ⟨Nat.le_of_ble_eq_true rfl, Nat.le_of_ble_eq_true rfl⟩ dX14_odds_162 (fun H locs hW => ?_)
    refine lv_lload_n hx hb dX14_odds_165 rfl (lv_at hl 2 rfl) ?_
    refine lv_aload_n hx hb dX14_odds_166 rfl (lv_at hl 0 rfl) ?_
    obtain ⟨g167, hf⟩ := gd_some hf
    obtain ⟨q167, hq167, hf⟩ := bi_some hf
    refine aw_gR hC hW g167 fl_X14_98 rfl hq167 dX14_odds_167 ?_
    refine lv_iload hx hb dX14_odds_170 (lv_at hl 3 rfl) ?_
    obtain ⟨g172, hf⟩ := gd_some hf
    refine aw_lald hC hW g172 dX14_odds_172 ?_
    refine lv_aload_n hx hb dX14_odds_173 rfl (lv_at hl 0 rfl) ?_
    obtain ⟨q174, hq174, hf⟩ := bi_some hf
    refine aw_gR hC hW g167 fl_X14_101 rfl hq174 dX14_odds_174 ?_
    refine lv_iload_n hx hb dX14_odds_177 rfl (lv_at hl 1 rfl) ?_
    obtain ⟨g178, hf⟩ := gd_some hf
    refine aw_lald hC hW g178 dX14_odds_178 ?_
    refine lv_lmul hx hb dX14_odds_179 ?_
    refine lv_ladd hx hb dX14_odds_180 ?_
    obtain ⟨v181, ev181, hf⟩ := bnd_some hf
    refine top_l ev181 ?_
    refine lv_lstore_n (lv' := [(3, .long v181), (0, .ref (a r0)), (1, .int x1), (5, .int x5)]) hx hb dX14_odds_181 rfl hl (by decide) rfl (fun ls hl => ?_)
    exact B182 K100 hK100 r0 x1 v181 x5 s162 hf _ _ _ (lv_sub hl [1, 2, 0, 3] rfl) hW
  have B100 : ∀ (n : Nat), ∀ (r0 : Nat) (x1 : Int32) (y3 : Int64) (x5 : Int32) (s : ST), f_X14_odds_b100 n r0 x1 y3 x5 s = some (rv, sf) → ∀ (H : Heap) (locs : List Loc) (ls : Array Slot), lv_has ls 6 [(0, .ref (a r0)), (1, .int x1), (3, .long y3), (5, .int x5)] → AW G a A s s0.heap H locs → WB p l e (rmD 102) s0 m args below meth c H locs G A P 100 ls [] := by
    intro n
    induction n with
    | zero => intro r0 x1 y3 x5 s hf; cases hf
    | succ n ih =>
      intro r0 x1 y3 x5 s hf H locs ls hl hW
      rw [f_X14_odds_b100] at hf
      refine lv_iload hx hb dX14_odds_100 (lv_at hl 3 rfl) ?_
      refine lv_bipush (v := 8) hx hb dX14_odds_102 (by decide) ?_
      refine lv_icmp_gt (tgt := 188) hx hb dX14_odds_104 (by decide) (fun c104 => ?_) (fun c104 => ?_)
      · have hf := ifp c104 hf
        refine lv_aload_n hx hb dX14_odds_188 rfl (lv_at hl 0 rfl) ?_
        refine lv_lload_n hx hb dX14_odds_189 rfl (lv_at hl 2 rfl) ?_
        refine lv_ldc2 (v := 10000000000000000) hx hb hC.2.2.2.1 (hts _ q1919) dX14_odds_190 ?_
        obtain ⟨g193, hf⟩ := gd_some hf
        obtain ⟨_, s193, h193, hf⟩ := ob_some hf
        refine aw_dV0 (r := r0) (As := [.long y3, .long 10000000000000000]) (rest := []) (ct_X14_entersFraction l G a r0 y3 10000000000000000 s () s193 h193) hC hW hl.1 vy_X14_entersFraction (Or.inl q1907) g193 rfl rfl rfl rfl (Nat.le_of_ble_eq_true rfl) ⟨Nat.le_of_ble_eq_true rfl, Nat.le_of_ble_eq_true rfl⟩ ⟨Nat.le_of_ble_eq_true rfl, Nat.le_of_ble_eq_true rfl⟩ dX14_odds_193 (fun H locs hW => ?_)
        refine lv_iconst (v := 0) hx hb dX14_odds_196 (by decide) ?_
        obtain ⟨e1, e2⟩ := so_inj hf
        exact aw_iret hC hW hr rfl (p_eq hP (congrArg (fun z => some (Value.int z)) e1) e2) (Nat.le_of_ble_eq_true rfl) (Nat.le_of_ble_eq_true rfl) dX14_odds_197
      · have hf := ifn c104 hf
        refine lv_aload_n hx hb dX14_odds_107 rfl (lv_at hl 0 rfl) ?_
        obtain ⟨g108, hf⟩ := gd_some hf
        obtain ⟨q108, hq108, hf⟩ := bi_some hf
        refine aw_gR hC hW g108 fl_X14_98 rfl hq108 dX14_odds_108 ?_
        refine lv_iload hx hb dX14_odds_111 (lv_at hl 3 rfl) ?_
        obtain ⟨g113, hf⟩ := gd_some hf
        refine aw_lald hC hW g113 dX14_odds_113 ?_
        refine lv_lconst (v := 0) hx hb dX14_odds_114 (by decide) ?_
        refine W.lcmp hx hb dX14_odds_115 ?_
        refine lv_if_le (tgt := 182) hx hb dX14_odds_116 (by decide) (fun c116 => ?_) (fun c116 => ?_)
        · have hf := ifp c116 hf
          exact B182 (f_X14_odds_b100 n) ih r0 x1 y3 x5 s hf _ _ _ (lv_sub hl [0, 1, 2, 3] rfl) hW
        · have hf := ifn c116 hf
          refine lv_aload_n hx hb dX14_odds_119 rfl (lv_at hl 0 rfl) ?_
          obtain ⟨q120, hq120, hf⟩ := bi_some hf
          refine aw_gR hC hW g108 fl_X14_44 rfl hq120 dX14_odds_120 ?_
          refine lv_aload_n hx hb dX14_odds_123 rfl (lv_at hl 0 rfl) ?_
          obtain ⟨q124, hq124, hf⟩ := bi_some hf
          refine aw_gR hC hW g108 fl_X14_104 rfl hq124 dX14_odds_124 ?_
          obtain ⟨_, s127, h127, hf⟩ := ob_some hf
          refine aw_dS0 (As := [.ref (a q120), .ref (a q124)]) (rest := []) (ct_X14_puts l G a q120 q124 s () s127 h127) hC hW hl.1 sy_X14_puts (Or.inl q1753) rfl rfl (Nat.le_of_ble_eq_true rfl) ⟨Nat.le_of_ble_eq_true rfl, Nat.le_of_ble_eq_true rfl⟩ ⟨Nat.le_of_ble_eq_true rfl, Nat.le_of_ble_eq_true rfl⟩ dX14_odds_127 (fun H locs hW => ?_)
          refine lv_aload_n hx hb dX14_odds_130 rfl (lv_at hl 0 rfl) ?_
          refine lv_aload_n hx hb dX14_odds_131 rfl (lv_at hl 0 rfl) ?_
          obtain ⟨g132, hf⟩ := gd_some hf
          obtain ⟨q132, hq132, hf⟩ := bi_some hf
          refine aw_gR hC hW g132 fl_X14_104 rfl hq132 dX14_odds_132 ?_
          refine lv_iload hx hb dX14_odds_135 (lv_at hl 3 rfl) ?_
          refine lv_bipush (v := 8) hx hb dX14_odds_137 (by decide) ?_
          refine lv_icmp_ne (tgt := 146) hx hb dX14_odds_139 (by decide) (fun c139 => ?_) (fun c139 => ?_)
          · have hf := ifn c139 hf
            refine lv_iconst (v := 1) hx hb dX14_odds_146 (by decide) ?_
            refine lv_iload hx hb dX14_odds_147 (lv_at hl 3 rfl) ?_
            refine lv_ishl hx hb dX14_odds_149 ?_
            exact B150 (f_X14_odds_b100 n) ih r0 x1 y3 x5 (1 <<< (x5 &&& 31)) q132 r0 s127 hf _ _ _ (lv_sub hl [0, 1, 2, 3] rfl) hW
          · have hf := ifp c139 hf
            refine lv_iconst (v := 0) hx hb dX14_odds_142 (by decide) ?_
            refine lv_goto (tgt := 150) hx hb dX14_odds_143 (by decide) ?_
            exact B150 (f_X14_odds_b100 n) ih r0 x1 y3 x5 0 q132 r0 s127 hf _ _ _ (lv_sub hl [0, 1, 2, 3] rfl) hW
  have B53 : ∀ (t0 : Int32) (w1 : Nat) (s : ST), f_X14_odds_b53 t0 w1 s = some (rv, sf) → ∀ (H : Heap) (locs : List Loc) (ls : Array Slot), lv_has ls 6 [] → AW G a A s s0.heap H locs → WB p l e (rmD 102) s0 m args below meth c H locs G A P 53 ls [.int t0, .ref (a w1)] := by
    intro t0 w1 s hf H locs ls hl hW
    unfold f_X14_odds_b53 at hf
    obtain ⟨v53, ev53, hf⟩ := bnd_some hf
    refine aw_dS1 (As := [.int t0]) (rest := [.ref (a w1)]) (pc_X14_flag l G a t0 s) hC hW hl.1 sy_X14_flag (Or.inl q1544) rfl rfl (Nat.le_of_ble_eq_true rfl) ⟨Nat.le_of_ble_eq_true rfl, Nat.le_of_ble_eq_true rfl⟩ ⟨Nat.le_of_ble_eq_true rfl, Nat.le_of_ble_eq_true rfl⟩ dX14_odds_53 (fun H locs hW => ?_)
    refine top_i ev53 ?_
    refine lv_i2l (v := (v53 : Int32).toInt64) hx hb dX14_odds_56 rfl ?_
    refine lv_lconst (v := 1) hx hb dX14_odds_57 (by decide) ?_
    obtain ⟨g58, hf⟩ := gd_some hf
    obtain ⟨_, s58, h58, hf⟩ := ob_some hf
    refine aw_dV0 (r := w1) (As := [.long ((v53 : Int32).toInt64), .long 1]) (rest := []) (ct_X14_entersFraction l G a w1 ((v53 : Int32).toInt64) 1 s () s58 h58) hC hW hl.1 vy_X14_entersFraction (Or.inl q1907) g58 rfl rfl rfl rfl (Nat.le_of_ble_eq_true rfl) ⟨Nat.le_of_ble_eq_true rfl, Nat.le_of_ble_eq_true rfl⟩ ⟨Nat.le_of_ble_eq_true rfl, Nat.le_of_ble_eq_true rfl⟩ dX14_odds_58 (fun H locs hW => ?_)
    refine lv_iconst (v := 0) hx hb dX14_odds_61 (by decide) ?_
    obtain ⟨e1, e2⟩ := so_inj hf
    exact aw_iret hC hW hr rfl (p_eq hP (congrArg (fun z => some (Value.int z)) e1) e2) (Nat.le_of_ble_eq_true rfl) (Nat.le_of_ble_eq_true rfl) dX14_odds_62
  unfold f_X14_odds at hf
  refine lv_aload_n hx hb dX14_odds_0 rfl (lv_at hl 0 rfl) ?_
  refine lv_iconst (v := 0) hx hb dX14_odds_1 (by decide) ?_
  obtain ⟨g2, hf⟩ := gd_some hf
  obtain ⟨s2, e2, hf⟩ := bnd_some hf
  refine aw_pI e2 hC hW g2 fl_X14_3 (Or.inl fn_13_0) rfl rfl rfl dX14_odds_2 (fun H locs hW => ?_)
  have g2 := ko_pI e2 g2
  refine lv_aload_n hx hb dX14_odds_5 rfl (lv_at hl 0 rfl) ?_
  refine lv_iload_n hx hb dX14_odds_6 rfl (lv_at hl 1 rfl) ?_
  obtain ⟨v7, s7, h7, hf⟩ := ob_some hf
  refine aw_dV1 (r := o) (As := [.int x1]) (rest := []) (ct_X14_isPerson l G a o x1 s2 v7 s7 h7) hC hW hl.1 vy_X14_isPerson (Or.inl q1594) g2 rfl rfl rfl rfl (Nat.le_of_ble_eq_true rfl) ⟨Nat.le_of_ble_eq_true rfl, Nat.le_of_ble_eq_true rfl⟩ ⟨Nat.le_of_ble_eq_true rfl, Nat.le_of_ble_eq_true rfl⟩ dX14_odds_7 (fun H locs hW => ?_)
  refine lv_if_eq (tgt := 25) hx hb dX14_odds_10 (by decide) (fun c10 => ?_) (fun c10 => ?_)
  · have hf := ifp c10 hf
    refine lv_iconst (v := (-1)) hx hb dX14_odds_25 (by decide) ?_
    obtain ⟨e1, e2⟩ := so_inj hf
    exact aw_iret hC hW hr rfl (p_eq hP (congrArg (fun z => some (Value.int z)) e1) e2) (Nat.le_of_ble_eq_true rfl) (Nat.le_of_ble_eq_true rfl) dX14_odds_26
  · have hf := ifn c10 hf
    refine lv_iload_n hx hb dX14_odds_13 rfl (lv_at hl 2 rfl) ?_
    refine lv_i2l (v := (x2 : Int32).toInt64) hx hb dX14_odds_14 rfl ?_
    refine lv_lconst (v := 0) hx hb dX14_odds_15 (by decide) ?_
    refine lv_ldc2 (v := 2) hx hb hC.2.2.2.1 (hts _ q1906) dX14_odds_16 ?_
    obtain ⟨v19, ev19, hf⟩ := bnd_some hf
    refine aw_dS1 (As := [.long ((x2 : Int32).toInt64), .long 0, .long 2]) (rest := []) (pc_X14_in l G a ((x2 : Int32).toInt64) 0 2 s7) hC hW hl.1 sy_X14_in (Or.inl q1514) rfl rfl (Nat.le_of_ble_eq_true rfl) ⟨Nat.le_of_ble_eq_true rfl, Nat.le_of_ble_eq_true rfl⟩ ⟨Nat.le_of_ble_eq_true rfl, Nat.le_of_ble_eq_true rfl⟩ dX14_odds_19 (fun H locs hW => ?_)
    refine top_i ev19 ?_
    refine lv_if_ne (tgt := 27) hx hb dX14_odds_22 (by decide) (fun c22 => ?_) (fun c22 => ?_)
    · have hf := ifn c22 hf
      refine lv_aload_n hx hb dX14_odds_27 rfl (lv_at hl 0 rfl) ?_
      refine lv_iconst (v := 0) hx hb dX14_odds_28 (by decide) ?_
      obtain ⟨g29, hf⟩ := gd_some hf
      obtain ⟨s29, e29, hf⟩ := bnd_some hf
      refine aw_pI e29 hC hW g29 fl_X14_15 (Or.inl fn_13_1) rfl rfl rfl dX14_odds_29 (fun H locs hW => ?_)
      have g29 := ko_pI e29 g29
      refine lv_iload_n hx hb dX14_odds_32 rfl (lv_at hl 2 rfl) ?_
      refine lv_if_ne (tgt := 63) hx hb dX14_odds_33 (by decide) (fun c33 => ?_) (fun c33 => ?_)
      · have hf := ifn c33 hf
        refine lv_aload_n hx hb dX14_odds_63 rfl (lv_at hl 0 rfl) ?_
        refine lv_aload_n hx hb dX14_odds_64 rfl (lv_at hl 0 rfl) ?_
        obtain ⟨q65, hq65, hf⟩ := bi_some hf
        refine aw_gR hC hW g29 fl_X14_44 rfl hq65 dX14_odds_65 ?_
        refine lv_aload_n hx hb dX14_odds_68 rfl (lv_at hl 0 rfl) ?_
        obtain ⟨q69, hq69, hf⟩ := bi_some hf
        refine aw_gR hC hW g29 fl_X14_98 rfl hq69 dX14_odds_69 ?_
        obtain ⟨_, s72, h72, hf⟩ := ob_some hf
        refine aw_dV0 (r := o) (As := [.ref (a q65), .ref (a q69)]) (rest := []) (ct_X14_oddsOf l G a o q65 q69 s29 () s72 h72) hC hW hl.1 vy_X14_oddsOf (Or.inl q1914) g29 rfl rfl rfl rfl (Nat.le_of_ble_eq_true rfl) ⟨Nat.le_of_ble_eq_true rfl, Nat.le_of_ble_eq_true rfl⟩ ⟨Nat.le_of_ble_eq_true rfl, Nat.le_of_ble_eq_true rfl⟩ dX14_odds_72 (fun H locs hW => ?_)
        refine lv_iload_n hx hb dX14_odds_75 rfl (lv_at hl 2 rfl) ?_
        refine lv_iconst (v := 1) hx hb dX14_odds_76 (by decide) ?_
        refine lv_icmp_ne (tgt := 95) hx hb dX14_odds_77 (by decide) (fun c77 => ?_) (fun c77 => ?_)
        · have hf := ifn c77 hf
          refine lv_lconst (v := 0) hx hb dX14_odds_95 (by decide) ?_
          refine lv_lstore_n (lv' := [(3, .long 0), (0, .ref (a o)), (1, .int x1), (2, .int x2)]) hx hb dX14_odds_96 rfl hl (by decide) rfl (fun ls hl => ?_)
          refine lv_iconst (v := 0) hx hb dX14_odds_97 (by decide) ?_
          refine lv_istore (lv' := [(5, .int 0), (3, .long 0), (0, .ref (a o)), (1, .int x1), (2, .int x2)]) hx hb dX14_odds_98 hl (by decide) rfl (fun ls hl => ?_)
          exact B100 fuel o x1 0 0 s72 hf _ _ _ (lv_sub hl [2, 3, 1, 0] rfl) hW
        · have hf := ifp c77 hf
          refine lv_aload_n hx hb dX14_odds_80 rfl (lv_at hl 0 rfl) ?_
          refine lv_aload_n hx hb dX14_odds_81 rfl (lv_at hl 0 rfl) ?_
          obtain ⟨g82, hf⟩ := gd_some hf
          obtain ⟨q82, hq82, hf⟩ := bi_some hf
          refine aw_gR hC hW g82 fl_X14_98 rfl hq82 dX14_odds_82 ?_
          refine lv_iload_n hx hb dX14_odds_85 rfl (lv_at hl 1 rfl) ?_
          obtain ⟨g86, hf⟩ := gd_some hf
          refine aw_lald hC hW g86 dX14_odds_86 ?_
          refine lv_ldc2 (v := 100000000) hx hb hC.2.2.2.1 (hts _ q1918) dX14_odds_87 ?_
          obtain ⟨_, s90, h90, hf⟩ := ob_some hf
          refine aw_dV0 (r := o) (As := [.long (gl s72 q82 (x1 : Int32).toNatClampNeg), .long 100000000]) (rest := []) (ct_X14_entersFraction l G a o (gl s72 q82 (x1 : Int32).toNatClampNeg) 100000000 s72 () s90 h90) hC hW hl.1 vy_X14_entersFraction (Or.inl q1907) g82 rfl rfl rfl rfl (Nat.le_of_ble_eq_true rfl) ⟨Nat.le_of_ble_eq_true rfl, Nat.le_of_ble_eq_true rfl⟩ ⟨Nat.le_of_ble_eq_true rfl, Nat.le_of_ble_eq_true rfl⟩ dX14_odds_90 (fun H locs hW => ?_)
          refine lv_iconst (v := 0) hx hb dX14_odds_93 (by decide) ?_
          obtain ⟨e1, e2⟩ := so_inj hf
          exact aw_iret hC hW hr rfl (p_eq hP (congrArg (fun z => some (Value.int z)) e1) e2) (Nat.le_of_ble_eq_true rfl) (Nat.le_of_ble_eq_true rfl) dX14_odds_94
      · have hf := ifp c33 hf
        refine lv_aload_n hx hb dX14_odds_36 rfl (lv_at hl 0 rfl) ?_
        refine lv_aload_n hx hb dX14_odds_37 rfl (lv_at hl 0 rfl) ?_
        obtain ⟨q38, hq38, hf⟩ := bi_some hf
        refine aw_gR hC hW g29 fl_X14_44 rfl hq38 dX14_odds_38 ?_
        refine lv_bipush (v := 17) hx hb dX14_odds_41 (by decide) ?_
        obtain ⟨g43, hf⟩ := gd_some hf
        refine aw_iald hC hW g43 dX14_odds_43 ?_
        refine lv_iload_n hx hb dX14_odds_44 rfl (lv_at hl 1 rfl) ?_
        refine lv_icmp_ne (tgt := 52) hx hb dX14_odds_45 (by decide) (fun c45 => ?_) (fun c45 => ?_)
        · have hf := ifn c45 hf
          refine lv_iconst (v := 0) hx hb dX14_odds_52 (by decide) ?_
          exact B53 0 o s29 hf _ _ _ (lv_sub hl [] rfl) hW
        · have hf := ifp c45 hf
          refine lv_iconst (v := 1) hx hb dX14_odds_48 (by decide) ?_
          refine lv_goto (tgt := 53) hx hb dX14_odds_49 (by decide) ?_
          exact B53 1 o s29 hf _ _ _ (lv_sub hl [] rfl) hW
    · have hf := ifp c22 hf
      refine lv_iconst (v := (-1)) hx hb dX14_odds_25 (by decide) ?_
      obtain ⟨e1, e2⟩ := so_inj hf
      exact aw_iret hC hW hr rfl (p_eq hP (congrArg (fun z => some (Value.int z)) e1) e2) (Nat.le_of_ble_eq_true rfl) (Nat.le_of_ble_eq_true rfl) dX14_odds_26
