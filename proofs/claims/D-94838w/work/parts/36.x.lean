set_option maxRecDepth 100000
def f_X1_fool_b20  (s : ST) : Option (Int32 × ST) :=
  none
def f_X1_fool (o : Nat) (x1 : Int32) (x2 : Int32) (s : ST) : Option (Int32 × ST) :=
  gd (o < s.1 ∧ (kd s o).1 = 1) <|
  ob (f_X1_isOne o x1 s) fun v2 s2 =>
  if v2 = 0 then (f_X1_fool_b20 s2) else bnd (p_in ((x2 : Int32).toInt64) 0 99) fun v14 =>
  if v14 = 0 then (f_X1_fool_b20 s2) else gd (o < s2.1 ∧ (kd s2 o).1 = 1) <|
  (gr s2 o 0).bind fun q29 =>
  gd (q29 < s2.1 ∧ (kd s2 q29).1 = 105 ∧ ¬ ((x1 : Int32) < 0 ∨ (kd s2 q29).2 ≤ (x1 : Int32).toNatClampNeg)) <|
  (gr s2 q29 (x1 : Int32).toNatClampNeg).bind fun q33 =>
  gd (q33 < s2.1 ∧ (kd s2 q33).1 = 3) <|
  bnd ((gi s2 q33 0) : Int32) fun v37 =>
  (gr s2 o 16).bind fun q41 =>
  ob (f_X1_partiesBy o x2 q41 s2) fun _ s44 =>
  gd (o < s44.1 ∧ (kd s44 o).1 = 1) <|
  (gr s44 o 24).bind fun q48 =>
  gd (q48 < s44.1 ∧ (kd s44 q48).1 = 100 ∧ ¬ ((v37 : Int32) < 0 ∨ (kd s44 q48).2 ≤ (v37 : Int32).toNatClampNeg)) <|
  bnd ((gi s44 q48 (v37 : Int32).toNatClampNeg) : Int32) fun v53 =>
  (gr s44 o 25).bind fun q56 =>
  gd (q56 < s44.1 ∧ (kd s44 q56).1 = 9) <|
  bnd (pI s44 q56 0 x1) fun s60 =>
  (gr s60 o 25).bind fun q66 =>
  ob (f_X1_partiesBy o x2 q66 s60) fun _ s69 =>
  gd (o < s69.1 ∧ (kd s69 o).1 = 1) <|
  bnd (pI s69 o 12 0) fun s74 =>
  ob (f_X1_tell o ((v53 : Int32).toInt64) s74) fun _ s81 =>
  gd (o < s81.1 ∧ (kd s81 o).1 = 1) <|
  (gr s81 o 24).bind fun q86 =>
  gd (q86 < s81.1 ∧ (kd s81 q86).1 = 100 ∧ ¬ ((v37 : Int32) < 0 ∨ (kd s81 q86).2 ≤ (v37 : Int32).toNatClampNeg)) <|
  ob (f_X1_tell o (((gi s81 q86 (v37 : Int32).toNatClampNeg) : Int32).toInt64) s81) fun _ s92 =>
  gd (o < s92.1 ∧ (kd s92 o).1 = 1) <|
  (gr s92 o 24).bind fun q98 =>
  gd (q98 < s92.1 ∧ (kd s92 q98).1 = 100 ∧ ¬ ((v37 : Int32) < 0 ∨ (kd s92 q98).2 ≤ (v37 : Int32).toNatClampNeg)) <|
  some ((v53 - (gi s92 q98 (v37 : Int32).toNatClampNeg)), s92)
set_option maxHeartbeats 4000000 in
theorem ct_X1_fool (l : Launch) (G : GM) (a : Nat → Nat) (o : Nat) (x1 : Int32) (x2 : Int32) (s : ST) (rv : Int32) (sf : ST) (hf : f_X1_fool o x1 x2 s = some (rv, sf)) : MD l G yX1_fool (ws_ yX1_fool cX1_fool 5 (some .int)) 128 [.ref (a o), .int x1, .int x2] a s (some (.int rv)) sf := by
  refine md_of (d := 128) (lv := [(0, .ref (a o)), (1, .int x1), (2, .int x2)]) (Or.inl (by decide)) (Nat.le_of_ble_eq_true rfl) rfl ?_
  intro p e s0 m args below meth c ls A P hP hC hr hnm hW hl
  have hx := hC.1
  have hb := hC.2.1
  have hts := hC.2.2.2.2.1
  have B20 : ∀  (s : ST), f_X1_fool_b20  s = some (rv, sf) → ∀ (H : Heap) (locs : List Loc) (ls : Array Slot), lv_has ls 5 [] → AW G a A s s0.heap H locs → WB p l e (rmD 128) s0 m args below meth c H locs G A P 20 ls [] := by
    intro  s hf H locs ls hl hW
    unfold f_X1_fool_b20 at hf
    cases hf
  unfold f_X1_fool at hf
  refine lv_aload_n hx hb dX1_fool_0 rfl (lv_at hl 0 rfl) ?_
  refine lv_iload_n hx hb dX1_fool_1 rfl (lv_at hl 1 rfl) ?_
  obtain ⟨g2, hf⟩ := gd_some hf
  obtain ⟨v2, s2, h2, hf⟩ := ob_some hf
  refine aw_dV1 (r := o) (As := [.int x1]) (rest := []) (ct_X1_isOne l G a o x1 s v2 s2 h2) hC hW hl.1 vy_X1_isOne (Or.inl q848) g2 rfl rfl rfl rfl (Nat.le_of_ble_eq_true rfl) ⟨Nat.le_of_ble_eq_true rfl, Nat.le_of_ble_eq_true rfl⟩ ⟨Nat.le_of_ble_eq_true rfl, Nat.le_of_ble_eq_true rfl⟩ dX1_fool_2 (fun H locs hW => ?_)
  refine lv_if_eq (tgt := 20) hx hb dX1_fool_5 (by decide) (fun c5 => ?_) (fun c5 => ?_)
  · have hf := ifp c5 hf
    exact B20 s2 hf _ _ _ (lv_sub hl [] rfl) hW
  · have hf := ifn c5 hf
    refine lv_iload_n hx hb dX1_fool_8 rfl (lv_at hl 2 rfl) ?_
    refine lv_i2l (v := (x2 : Int32).toInt64) hx hb dX1_fool_9 rfl ?_
    refine lv_lconst (v := 0) hx hb dX1_fool_10 (by decide) ?_
    refine lv_ldc2 (v := 99) hx hb hC.2.2.2.1 (hts _ q1021) dX1_fool_11 ?_
    obtain ⟨v14, ev14, hf⟩ := bnd_some hf
    refine aw_dS1 (As := [.long ((x2 : Int32).toInt64), .long 0, .long 99]) (rest := []) (pc_X1_in l G a ((x2 : Int32).toInt64) 0 99 s2) hC hW hl.1 sy_X1_in (Or.inl q514) rfl rfl (Nat.le_of_ble_eq_true rfl) ⟨Nat.le_of_ble_eq_true rfl, Nat.le_of_ble_eq_true rfl⟩ ⟨Nat.le_of_ble_eq_true rfl, Nat.le_of_ble_eq_true rfl⟩ dX1_fool_14 (fun H locs hW => ?_)
    refine top_i ev14 ?_
    refine lv_if_ne (tgt := 28) hx hb dX1_fool_17 (by decide) (fun c17 => ?_) (fun c17 => ?_)
    · have hf := ifn c17 hf
      refine lv_aload_n hx hb dX1_fool_28 rfl (lv_at hl 0 rfl) ?_
      obtain ⟨g29, hf⟩ := gd_some hf
      obtain ⟨q29, hq29, hf⟩ := bi_some hf
      refine aw_gR hC hW g29 fl_X1_11 rfl hq29 dX1_fool_29 ?_
      refine lv_iload_n hx hb dX1_fool_32 rfl (lv_at hl 1 rfl) ?_
      obtain ⟨g33, hf⟩ := gd_some hf
      obtain ⟨q33, hq33, hf⟩ := bi_some hf
      refine aw_aald (j := 0) hC hW (by decide) g33 hq33 dX1_fool_33 ?_
      obtain ⟨g34, hf⟩ := gd_some hf
      refine aw_gI hC hW g34 fl_X1_211 rfl dX1_fool_34 ?_
      obtain ⟨v37, ev37, hf⟩ := bnd_some hf
      refine top_i ev37 ?_
      refine lv_istore_n (lv' := [(3, .int v37), (0, .ref (a o)), (1, .int x1), (2, .int x2)]) hx hb dX1_fool_37 rfl hl (by decide) rfl (fun ls hl => ?_)
      refine lv_aload_n hx hb dX1_fool_38 rfl (lv_at hl 1 rfl) ?_
      refine lv_iload_n hx hb dX1_fool_39 rfl (lv_at hl 3 rfl) ?_
      refine lv_aload_n hx hb dX1_fool_40 rfl (lv_at hl 1 rfl) ?_
      obtain ⟨q41, hq41, hf⟩ := bi_some hf
      refine aw_gR hC hW g29 fl_X1_54 rfl hq41 dX1_fool_41 ?_
      obtain ⟨_, s44, h44, hf⟩ := ob_some hf
      refine aw_dV0 (r := o) (As := [.int x2, .ref (a q41)]) (rest := []) (ct_X1_partiesBy l G a o x2 q41 s2 () s44 h44) hC hW hl.1 vy_X1_partiesBy (Or.inl q1108) g29 rfl rfl rfl rfl (Nat.le_of_ble_eq_true rfl) ⟨Nat.le_of_ble_eq_true rfl, Nat.le_of_ble_eq_true rfl⟩ ⟨Nat.le_of_ble_eq_true rfl, Nat.le_of_ble_eq_true rfl⟩ dX1_fool_44 (fun H locs hW => ?_)
      refine lv_aload_n hx hb dX1_fool_47 rfl (lv_at hl 1 rfl) ?_
      obtain ⟨g48, hf⟩ := gd_some hf
      obtain ⟨q48, hq48, hf⟩ := bi_some hf
      refine aw_gR hC hW g48 fl_X1_89 rfl hq48 dX1_fool_48 ?_
      refine lv_iload_n hx hb dX1_fool_51 rfl (lv_at hl 0 rfl) ?_
      obtain ⟨g52, hf⟩ := gd_some hf
      refine aw_iald hC hW g52 dX1_fool_52 ?_
      obtain ⟨v53, ev53, hf⟩ := bnd_some hf
      refine top_i ev53 ?_
      refine lv_istore (lv' := [(4, .int v53), (3, .int v37), (0, .ref (a o)), (1, .int x1), (2, .int x2)]) hx hb dX1_fool_53 hl (by decide) rfl (fun ls hl => ?_)
      refine lv_aload_n hx hb dX1_fool_55 rfl (lv_at hl 2 rfl) ?_
      obtain ⟨q56, hq56, hf⟩ := bi_some hf
      refine aw_gR hC hW g48 fl_X1_95 rfl hq56 dX1_fool_56 ?_
      refine lv_iload_n hx hb dX1_fool_59 rfl (lv_at hl 3 rfl) ?_
      obtain ⟨g60, hf⟩ := gd_some hf
      obtain ⟨s60, e60, hf⟩ := bnd_some hf
      refine aw_pI e60 hC hW g60 fl_X1_453 (Or.inl fn_8_0) rfl rfl rfl dX1_fool_60 (fun H locs hW => ?_)
      have g48 := ko_pI e60 g48
      have g60 := ko_pI e60 g60
      refine lv_aload_n hx hb dX1_fool_63 rfl (lv_at hl 2 rfl) ?_
      refine lv_iload_n hx hb dX1_fool_64 rfl (lv_at hl 4 rfl) ?_
      refine lv_aload_n hx hb dX1_fool_65 rfl (lv_at hl 2 rfl) ?_
      obtain ⟨q66, hq66, hf⟩ := bi_some hf
      refine aw_gR hC hW g48 fl_X1_95 rfl hq66 dX1_fool_66 ?_
      obtain ⟨_, s69, h69, hf⟩ := ob_some hf
      refine aw_dV0 (r := o) (As := [.int x2, .ref (a q66)]) (rest := []) (ct_X1_partiesBy l G a o x2 q66 s60 () s69 h69) hC hW hl.1 vy_X1_partiesBy (Or.inl q1108) g48 rfl rfl rfl rfl (Nat.le_of_ble_eq_true rfl) ⟨Nat.le_of_ble_eq_true rfl, Nat.le_of_ble_eq_true rfl⟩ ⟨Nat.le_of_ble_eq_true rfl, Nat.le_of_ble_eq_true rfl⟩ dX1_fool_69 (fun H locs hW => ?_)
      refine lv_aload_n hx hb dX1_fool_72 rfl (lv_at hl 2 rfl) ?_
      refine lv_iconst (v := 0) hx hb dX1_fool_73 (by decide) ?_
      obtain ⟨g74, hf⟩ := gd_some hf
      obtain ⟨s74, e74, hf⟩ := bnd_some hf
      refine aw_pI e74 hC hW g74 fl_X1_154 (Or.inl fn_0_12) rfl rfl rfl dX1_fool_74 (fun H locs hW => ?_)
      have g74 := ko_pI e74 g74
      refine lv_aload_n hx hb dX1_fool_77 rfl (lv_at hl 2 rfl) ?_
      refine lv_iload hx hb dX1_fool_78 (lv_at hl 0 rfl) ?_
      refine lv_i2l (v := (v53 : Int32).toInt64) hx hb dX1_fool_80 rfl ?_
      obtain ⟨_, s81, h81, hf⟩ := ob_some hf
      refine aw_dV0 (r := o) (As := [.long ((v53 : Int32).toInt64)]) (rest := []) (ct_X1_tell l G a o ((v53 : Int32).toInt64) s74 () s81 h81) hC hW hl.1 vy_X1_tell (Or.inl q1013) g74 rfl rfl rfl rfl (Nat.le_of_ble_eq_true rfl) ⟨Nat.le_of_ble_eq_true rfl, Nat.le_of_ble_eq_true rfl⟩ ⟨Nat.le_of_ble_eq_true rfl, Nat.le_of_ble_eq_true rfl⟩ dX1_fool_81 (fun H locs hW => ?_)
      refine lv_aload_n hx hb dX1_fool_84 rfl (lv_at hl 2 rfl) ?_
      refine lv_aload_n hx hb dX1_fool_85 rfl (lv_at hl 2 rfl) ?_
      obtain ⟨g86, hf⟩ := gd_some hf
      obtain ⟨q86, hq86, hf⟩ := bi_some hf
      refine aw_gR hC hW g86 fl_X1_89 rfl hq86 dX1_fool_86 ?_
      refine lv_iload_n hx hb dX1_fool_89 rfl (lv_at hl 1 rfl) ?_
      obtain ⟨g90, hf⟩ := gd_some hf
      refine aw_iald hC hW g90 dX1_fool_90 ?_
      refine lv_i2l (v := ((gi s81 q86 (v37 : Int32).toNatClampNeg) : Int32).toInt64) hx hb dX1_fool_91 rfl ?_
      obtain ⟨_, s92, h92, hf⟩ := ob_some hf
      refine aw_dV0 (r := o) (As := [.long (((gi s81 q86 (v37 : Int32).toNatClampNeg) : Int32).toInt64)]) (rest := []) (ct_X1_tell l G a o (((gi s81 q86 (v37 : Int32).toNatClampNeg) : Int32).toInt64) s81 () s92 h92) hC hW hl.1 vy_X1_tell (Or.inl q1013) g86 rfl rfl rfl rfl (Nat.le_of_ble_eq_true rfl) ⟨Nat.le_of_ble_eq_true rfl, Nat.le_of_ble_eq_true rfl⟩ ⟨Nat.le_of_ble_eq_true rfl, Nat.le_of_ble_eq_true rfl⟩ dX1_fool_92 (fun H locs hW => ?_)
      refine lv_iload hx hb dX1_fool_95 (lv_at hl 0 rfl) ?_
      refine lv_aload_n hx hb dX1_fool_97 rfl (lv_at hl 2 rfl) ?_
      obtain ⟨g98, hf⟩ := gd_some hf
      obtain ⟨q98, hq98, hf⟩ := bi_some hf
      refine aw_gR hC hW g98 fl_X1_89 rfl hq98 dX1_fool_98 ?_
      refine lv_iload_n hx hb dX1_fool_101 rfl (lv_at hl 1 rfl) ?_
      obtain ⟨g102, hf⟩ := gd_some hf
      refine aw_iald hC hW g102 dX1_fool_102 ?_
      refine lv_isub hx hb dX1_fool_103 ?_
      obtain ⟨e1, e2⟩ := so_inj hf
      exact aw_iret hC hW hr rfl (p_eq hP (congrArg (fun z => some (Value.int z)) e1) e2) (Nat.le_of_ble_eq_true rfl) (Nat.le_of_ble_eq_true rfl) dX1_fool_104
    · have hf := ifp c17 hf
      exact B20 s2 hf _ _ _ (lv_sub hl [] rfl) hW
def f_X1_isSo_b87 (K48 : Nat → Nat → Int32 → Int32 → Int32 → ST → Option (Int32 × ST)) (r0 : Nat) (r1 : Nat) (x2 : Int32) (x3 : Int32) (x4 : Int32) (s : ST) : Option (Int32 × ST) :=
  bnd (x4 + 1 : Int32) fun v87 =>
  K48 r0 r1 x2 x3 v87 s
def f_X1_isSo_b48 (K31 : Nat → Nat → Int32 → Int32 → ST → Option (Int32 × ST)) : Nat → Nat → Nat → Int32 → Int32 → Int32 → ST → Option (Int32 × ST)
  | 0, _, _, _, _, _, _ => none
  | n + 1, r0, r1, x2, x3, x4, s =>
  gd (r0 < s.1 ∧ (kd s r0).1 = 1) <|
  if (gi s r0 35) ≤ x4 then (bnd (x3 + 1 : Int32) fun v93 =>
  K31 r0 r1 x2 v93 s) else (gr s r0 34).bind fun q58 =>
  gd (q58 < s.1 ∧ (kd s q58).1 = 100 ∧ ¬ ((x4 : Int32) < 0 ∨ (kd s q58).2 ≤ (x4 : Int32).toNatClampNeg)) <|
  if (gi s q58 (x4 : Int32).toNatClampNeg) = x3 then ((gr s r0 2).bind fun q69 =>
  gd (q69 < s.1 ∧ (kd s q69).1 = 2) <|
  (gr s r0 33).bind fun q76 =>
  gd (q76 < s.1 ∧ (kd s q76).1 = 100 ∧ ¬ ((x4 : Int32) < 0 ∨ (kd s q76).2 ≤ (x4 : Int32).toNatClampNeg)) <|
  if (gi s q69 7) = (gi s q76 (x4 : Int32).toNatClampNeg) then (f_X1_isSo_b87 (f_X1_isSo_b48 K31 n) r0 r1 x2 x3 x4 s) else some (0, s)) else f_X1_isSo_b87 (f_X1_isSo_b48 K31 n) r0 r1 x2 x3 x4 s
def f_X1_isSo_b31 : Nat → Nat → Nat → Int32 → Int32 → ST → Option (Int32 × ST)
  | 0, _, _, _, _, _ => none
  | n + 1, r0, r1, x2, x3, s =>
  if x2 < x3 then (some (1, s)) else gd (r0 < s.1 ∧ (kd s r0).1 = 1) <|
  (gr s r0 2).bind fun q38 =>
  ob (f_X1_goes r0 q38 r1 s) fun _ s42 =>
  f_X1_isSo_b48 (f_X1_isSo_b31 n) fuel r0 r1 x2 x3 0 s42
def f_X1_isSo_b4 : Nat → Nat → Nat → Int32 → Int32 → ST → Option (Int32 × ST)
  | 0, _, _, _, _, _ => none
  | n + 1, r0, r1, x2, x3, s =>
  gd (r0 < s.1 ∧ (kd s r0).1 = 1) <|
  if (gi s r0 35) ≤ x3 then (f_X1_isSo_b31 fuel r0 r1 x2 1 s) else (gr s r0 34).bind fun q14 =>
  gd (q14 < s.1 ∧ (kd s q14).1 = 100 ∧ ¬ ((x3 : Int32) < 0 ∨ (kd s q14).2 ≤ (x3 : Int32).toNatClampNeg)) <|
  bnd (p_max x2 (gi s q14 (x3 : Int32).toNatClampNeg)) fun v19 =>
  bnd (x3 + 1 : Int32) fun v23 =>
  f_X1_isSo_b4 n r0 r1 v19 v23 s
def f_X1_isSo (o : Nat) (r1 : Nat) (s : ST) : Option (Int32 × ST) :=
  f_X1_isSo_b4 fuel o r1 0 0 s
set_option maxHeartbeats 4000000 in
theorem ct_X1_isSo (l : Launch) (G : GM) (a : Nat → Nat) (o : Nat) (r1 : Nat) (s : ST) (rv : Int32) (sf : ST) (hf : f_X1_isSo o r1 s = some (rv, sf)) : MD l G yX1_isSo (ws_ yX1_isSo cX1_isSo 5 (some .boolean)) 127 [.ref (a o), .ref (a r1)] a s (some (.int rv)) sf := by
  refine md_of (d := 127) (lv := [(0, .ref (a o)), (1, .ref (a r1))]) (Or.inl (by decide)) (Nat.le_of_ble_eq_true rfl) rfl ?_
  intro p e s0 m args below meth c ls A P hP hC hr hnm hW hl
  have hx := hC.1
  have hb := hC.2.1
  have hts := hC.2.2.2.2.1
  have B87 : ∀ (K48 : Nat → Nat → Int32 → Int32 → Int32 → ST → Option (Int32 × ST)) (hK48 : ∀ (r0 : Nat) (r1 : Nat) (x2 : Int32) (x3 : Int32) (x4 : Int32) (s : ST), K48 r0 r1 x2 x3 x4 s = some (rv, sf) → ∀ (H : Heap) (locs : List Loc) (ls : Array Slot), lv_has ls 5 [(0, .ref (a r0)), (1, .ref (a r1)), (2, .int x2), (3, .int x3), (4, .int x4)] → AW G a A s s0.heap H locs → WB p l e (rmD 127) s0 m args below meth c H locs G A P 48 ls []), ∀ (r0 : Nat) (r1 : Nat) (x2 : Int32) (x3 : Int32) (x4 : Int32) (s : ST), f_X1_isSo_b87 K48 r0 r1 x2 x3 x4 s = some (rv, sf) → ∀ (H : Heap) (locs : List Loc) (ls : Array Slot), lv_has ls 5 [(0, .ref (a r0)), (1, .ref (a r1)), (2, .int x2), (3, .int x3), (4, .int x4)] → AW G a A s s0.heap H locs → WB p l e (rmD 127) s0 m args below meth c H locs G A P 87 ls [] := by
    intro K48 hK48 r0 r1 x2 x3 x4 s hf H locs ls hl hW
    unfold f_X1_isSo_b87 at hf
    obtain ⟨v87, ev87, hf⟩ := bnd_some hf
    refine lv_iinc (v := v87) (lv' := [(4, .int v87), (0, .ref (a r0)), (1, .ref (a r1)), (2, .int x2), (3, .int x3)]) hx hb dX1_isSo_87 hl (k := 4) rfl (by rw [ev87]; rfl) (by decide) rfl (fun ls hl => ?_)
    refine lv_goto (tgt := 48) hx hb dX1_isSo_90 (by decide) ?_
    exact hK48 r0 r1 x2 x3 v87 s hf _ _ _ (lv_sub hl [1, 2, 3, 4, 0] rfl) hW
  have B48 : ∀ (K31 : Nat → Nat → Int32 → Int32 → ST → Option (Int32 × ST)) (hK31 : ∀ (r0 : Nat) (r1 : Nat) (x2 : Int32) (x3 : Int32) (s : ST), K31 r0 r1 x2 x3 s = some (rv, sf) → ∀ (H : Heap) (locs : List Loc) (ls : Array Slot), lv_has ls 5 [(0, .ref (a r0)), (1, .ref (a r1)), (2, .int x2), (3, .int x3)] → AW G a A s s0.heap H locs → WB p l e (rmD 127) s0 m args below meth c H locs G A P 31 ls []), ∀ (n : Nat), ∀ (r0 : Nat) (r1 : Nat) (x2 : Int32) (x3 : Int32) (x4 : Int32) (s : ST), f_X1_isSo_b48 K31 n r0 r1 x2 x3 x4 s = some (rv, sf) → ∀ (H : Heap) (locs : List Loc) (ls : Array Slot), lv_has ls 5 [(0, .ref (a r0)), (1, .ref (a r1)), (2, .int x2), (3, .int x3), (4, .int x4)] → AW G a A s s0.heap H locs → WB p l e (rmD 127) s0 m args below meth c H locs G A P 48 ls [] := by
    intro K31 hK31
    intro n
    induction n with
    | zero => intro r0 r1 x2 x3 x4 s hf; cases hf
    | succ n ih =>
      intro r0 r1 x2 x3 x4 s hf H locs ls hl hW
      rw [f_X1_isSo_b48] at hf
      refine lv_iload hx hb dX1_isSo_48 (lv_at hl 4 rfl) ?_
      refine lv_aload_n hx hb dX1_isSo_50 rfl (lv_at hl 0 rfl) ?_
      obtain ⟨g51, hf⟩ := gd_some hf
      refine aw_gI hC hW g51 fl_X1_488 rfl dX1_isSo_51 ?_
      refine lv_icmp_ge (tgt := 93) hx hb dX1_isSo_54 (by decide) (fun c54 => ?_) (fun c54 => ?_)
      · have hf := ifp c54 hf
        obtain ⟨v93, ev93, hf⟩ := bnd_some hf
        refine lv_iinc (v := v93) (lv' := [(3, .int v93), (0, .ref (a r0)), (1, .ref (a r1)), (2, .int x2), (4, .int x4)]) hx hb dX1_isSo_93 hl (k := 3) rfl (by rw [ev93]; rfl) (by decide) rfl (fun ls hl => ?_)
        refine lv_goto (tgt := 31) hx hb dX1_isSo_96 (by decide) ?_
        exact hK31 r0 r1 x2 v93 s hf _ _ _ (lv_sub hl [1, 2, 3, 0] rfl) hW
      · have hf := ifn c54 hf
        refine lv_aload_n hx hb dX1_isSo_57 rfl (lv_at hl 0 rfl) ?_
        obtain ⟨q58, hq58, hf⟩ := bi_some hf
        refine aw_gR hC hW g51 fl_X1_136 rfl hq58 dX1_isSo_58 ?_
        refine lv_iload hx hb dX1_isSo_61 (lv_at hl 4 rfl) ?_
        obtain ⟨g63, hf⟩ := gd_some hf
        refine aw_iald hC hW g63 dX1_isSo_63 ?_
        refine lv_iload_n hx hb dX1_isSo_64 rfl (lv_at hl 3 rfl) ?_
        refine lv_icmp_ne (tgt := 87) hx hb dX1_isSo_65 (by decide) (fun c65 => ?_) (fun c65 => ?_)
        · have hf := ifn c65 hf
          exact B87 (f_X1_isSo_b48 K31 n) ih r0 r1 x2 x3 x4 s hf _ _ _ (lv_sub hl [0, 1, 2, 3, 4] rfl) hW
        · have hf := ifp c65 hf
          refine lv_aload_n hx hb dX1_isSo_68 rfl (lv_at hl 0 rfl) ?_
          obtain ⟨q69, hq69, hf⟩ := bi_some hf
          refine aw_gR hC hW g51 fl_X1_22 rfl hq69 dX1_isSo_69 ?_
          obtain ⟨g72, hf⟩ := gd_some hf
          refine aw_gI hC hW g72 fl_X1_315 rfl dX1_isSo_72 ?_
          refine lv_aload_n hx hb dX1_isSo_75 rfl (lv_at hl 0 rfl) ?_
          obtain ⟨q76, hq76, hf⟩ := bi_some hf
          refine aw_gR hC hW g51 fl_X1_133 rfl hq76 dX1_isSo_76 ?_
          refine lv_iload hx hb dX1_isSo_79 (lv_at hl 4 rfl) ?_
          obtain ⟨g81, hf⟩ := gd_some hf
          refine aw_iald hC hW g81 dX1_isSo_81 ?_
          refine lv_icmp_eq (tgt := 87) hx hb dX1_isSo_82 (by decide) (fun c82 => ?_) (fun c82 => ?_)
          · have hf := ifp c82 hf
            exact B87 (f_X1_isSo_b48 K31 n) ih r0 r1 x2 x3 x4 s hf _ _ _ (lv_sub hl [0, 1, 2, 3, 4] rfl) hW
          · have hf := ifn c82 hf
            refine lv_iconst (v := 0) hx hb dX1_isSo_85 (by decide) ?_
            obtain ⟨e1, e2⟩ := so_inj hf
            exact aw_iret hC hW hr rfl (p_eq hP (congrArg (fun z => some (Value.int z)) e1) e2) (Nat.le_of_ble_eq_true rfl) (Nat.le_of_ble_eq_true rfl) dX1_isSo_86
  have B31 : ∀ (n : Nat), ∀ (r0 : Nat) (r1 : Nat) (x2 : Int32) (x3 : Int32) (s : ST), f_X1_isSo_b31 n r0 r1 x2 x3 s = some (rv, sf) → ∀ (H : Heap) (locs : List Loc) (ls : Array Slot), lv_has ls 5 [(0, .ref (a r0)), (1, .ref (a r1)), (2, .int x2), (3, .int x3)] → AW G a A s s0.heap H locs → WB p l e (rmD 127) s0 m args below meth c H locs G A P 31 ls [] := by
    intro n
    induction n with
    | zero => intro r0 r1 x2 x3 s hf; cases hf
    | succ n ih =>
      intro r0 r1 x2 x3 s hf H locs ls hl hW
      rw [f_X1_isSo_b31] at hf
      refine lv_iload_n hx hb dX1_isSo_31 rfl (lv_at hl 3 rfl) ?_
      refine lv_iload_n hx hb dX1_isSo_32 rfl (lv_at hl 2 rfl) ?_
      refine lv_icmp_gt (tgt := 99) hx hb dX1_isSo_33 (by decide) (fun c33 => ?_) (fun c33 => ?_)
      · have hf := ifp c33 hf
        refine lv_iconst (v := 1) hx hb dX1_isSo_99 (by decide) ?_
        obtain ⟨e1, e2⟩ := so_inj hf
        exact aw_iret hC hW hr rfl (p_eq hP (congrArg (fun z => some (Value.int z)) e1) e2) (Nat.le_of_ble_eq_true rfl) (Nat.le_of_ble_eq_true rfl) dX1_isSo_100
      · have hf := ifn c33 hf
        refine lv_aload_n hx hb dX1_isSo_36 rfl (lv_at hl 0 rfl) ?_
        refine lv_aload_n hx hb dX1_isSo_37 rfl (lv_at hl 0 rfl) ?_
        obtain ⟨g38, hf⟩ := gd_some hf
        obtain ⟨q38, hq38, hf⟩ := bi_some hf
        refine aw_gR hC hW g38 fl_X1_22 rfl hq38 dX1_isSo_38 ?_
        refine lv_aload_n hx hb dX1_isSo_41 rfl (lv_at hl 1 rfl) ?_
        obtain ⟨_, s42, h42, hf⟩ := ob_some hf
        refine aw_dV0 (r := r0) (As := [.ref (a q38), .ref (a r1)]) (rest := []) (ct_X1_goes l G a r0 q38 r1 s () s42 h42) hC hW hl.1 vy_X1_goes (Or.inl q922) g38 rfl rfl rfl rfl (Nat.le_of_ble_eq_true rfl) ⟨Nat.le_of_ble_eq_true rfl, Nat.le_of_ble_eq_true rfl⟩ ⟨Nat.le_of_ble_eq_true rfl, Nat.le_of_ble_eq_true rfl⟩ dX1_isSo_42 (fun H locs hW => ?_)
        refine lv_iconst (v := 0) hx hb dX1_isSo_45 (by decide) ?_
        refine lv_istore (lv' := [(4, .int 0), (0, .ref (a r0)), (1, .ref (a r1)), (2, .int x2), (3, .int x3)]) hx hb dX1_isSo_46 hl (by decide) rfl (fun ls hl => ?_)
        exact B48 (f_X1_isSo_b31 n) ih fuel r0 r1 x2 x3 0 s42 hf _ _ _ (lv_sub hl [1, 2, 3, 4, 0] rfl) hW
  have B4 : ∀ (n : Nat), ∀ (r0 : Nat) (r1 : Nat) (x2 : Int32) (x3 : Int32) (s : ST), f_X1_isSo_b4 n r0 r1 x2 x3 s = some (rv, sf) → ∀ (H : Heap) (locs : List Loc) (ls : Array Slot), lv_has ls 5 [(0, .ref (a r0)), (1, .ref (a r1)), (2, .int x2), (3, .int x3)] → AW G a A s s0.heap H locs → WB p l e (rmD 127) s0 m args below meth c H locs G A P 4 ls [] := by
    intro n
    induction n with
    | zero => intro r0 r1 x2 x3 s hf; cases hf
    | succ n ih =>
      intro r0 r1 x2 x3 s hf H locs ls hl hW
      rw [f_X1_isSo_b4] at hf
      refine lv_iload_n hx hb dX1_isSo_4 rfl (lv_at hl 3 rfl) ?_
      refine lv_aload_n hx hb dX1_isSo_5 rfl (lv_at hl 0 rfl) ?_
      obtain ⟨g6, hf⟩ := gd_some hf
      refine aw_gI hC hW g6 fl_X1_488 rfl dX1_isSo_6 ?_
      refine lv_icmp_ge (tgt := 29) hx hb dX1_isSo_9 (by decide) (fun c9 => ?_) (fun c9 => ?_)
      · have hf := ifp c9 hf
        refine lv_iconst (v := 1) hx hb dX1_isSo_29 (by decide) ?_
        refine lv_istore_n (lv' := [(3, .int 1), (0, .ref (a r0)), (1, .ref (a r1)), (2, .int x2)]) hx hb dX1_isSo_30 rfl hl (by decide) rfl (fun ls hl => ?_)
        exact B31 fuel r0 r1 x2 1 s hf _ _ _ (lv_sub hl [1, 2, 3, 0] rfl) hW
      · have hf := ifn c9 hf
        refine lv_iload_n hx hb dX1_isSo_12 rfl (lv_at hl 2 rfl) ?_
        refine lv_aload_n hx hb dX1_isSo_13 rfl (lv_at hl 0 rfl) ?_
        obtain ⟨q14, hq14, hf⟩ := bi_some hf
        refine aw_gR hC hW g6 fl_X1_136 rfl hq14 dX1_isSo_14 ?_
        refine lv_iload_n hx hb dX1_isSo_17 rfl (lv_at hl 3 rfl) ?_
        obtain ⟨g18, hf⟩ := gd_some hf
        refine aw_iald hC hW g18 dX1_isSo_18 ?_
        obtain ⟨v19, ev19, hf⟩ := bnd_some hf
        refine aw_dS1 (As := [.int x2, .int (gi s q14 (x3 : Int32).toNatClampNeg)]) (rest := []) (pc_J0_max l G a x2 (gi s q14 (x3 : Int32).toNatClampNeg) s) hC hW hl.1 sy_J0_max (Or.inl q907) rfl rfl (Nat.le_of_ble_eq_true rfl) ⟨Nat.le_of_ble_eq_true rfl, Nat.le_of_ble_eq_true rfl⟩ ⟨Nat.le_of_ble_eq_true rfl, Nat.le_of_ble_eq_true rfl⟩ dX1_isSo_19 (fun H locs hW => ?_)
        refine top_i ev19 ?_
        refine lv_istore_n (lv' := [(2, .int v19), (0, .ref (a r0)), (1, .ref (a r1)), (3, .int x3)]) hx hb dX1_isSo_22 rfl hl (by decide) rfl (fun ls hl => ?_)
        obtain ⟨v23, ev23, hf⟩ := bnd_some hf
        refine lv_iinc (v := v23) (lv' := [(3, .int v23), (2, .int v19), (0, .ref (a r0)), (1, .ref (a r1))]) hx hb dX1_isSo_23 hl (k := 3) rfl (by rw [ev23]; rfl) (by decide) rfl (fun ls hl => ?_)
        refine lv_goto (tgt := 4) hx hb dX1_isSo_26 (by decide) ?_
        exact ih r0 r1 v19 v23 s hf _ _ _ (lv_sub hl [2, 3, 1, 0] rfl) hW
  unfold f_X1_isSo at hf
  refine lv_iconst (v := 0) hx hb dX1_isSo_0 (by decide) ?_
  refine lv_istore_n (lv' := [(2, .int 0), (0, .ref (a o)), (1, .ref (a r1))]) hx hb dX1_isSo_1 rfl hl (by decide) rfl (fun ls hl => ?_)
  refine lv_iconst (v := 0) hx hb dX1_isSo_2 (by decide) ?_
  refine lv_istore_n (lv' := [(3, .int 0), (2, .int 0), (0, .ref (a o)), (1, .ref (a r1))]) hx hb dX1_isSo_3 rfl hl (by decide) rfl (fun ls hl => ?_)
  exact B4 fuel o r1 0 0 s hf _ _ _ (lv_sub hl [2, 3, 1, 0] rfl) hW
def f_X1_absent_b108 (x1 : Int32) (u0 : Int64) (w1 : Nat) (s : ST) : Option (Int32 × ST) :=
  gd (w1 < s.1 ∧ (kd s w1).1 = 1) <|
  ob (f_X1_tell w1 u0 s) fun _ s108 =>
  some (x1, s108)
def f_X1_absent_b69 (K4 : Nat → Int32 → Int32 → ST → Option (Int32 × ST)) (r0 : Nat) (x1 : Int32) (x2 : Int32) (s : ST) : Option (Int32 × ST) :=
  bnd (x2 + 1 : Int32) fun v69 =>
  K4 r0 x1 v69 s
def f_X1_absent_b67 (K4 : Nat → Int32 → Int32 → ST → Option (Int32 × ST)) (r0 : Nat) (x2 : Int32) (t0 : Int32) (t1 : Int32) (s : ST) : Option (Int32 × ST) :=
  bnd ((t1 ||| t0) : Int32) fun v68 =>
  f_X1_absent_b69 K4 r0 v68 x2 s
def f_X1_absent_b4 : Nat → Nat → Int32 → Int32 → ST → Option (Int32 × ST)
  | 0, _, _, _, _ => none
  | n + 1, r0, x1, x2, s =>
  gd (r0 < s.1 ∧ (kd s r0).1 = 1) <|
  if (gi s r0 4) ≤ x2 then ((gr s r0 2).bind fun q76 =>
  (gr s r0 1).bind fun q80 =>
  gd (q76 < s.1 ∧ (kd s q76).1 = 2) <|
  ob (f_X2_be q76 q80 s) fun _ s83 =>
  gd (r0 < s83.1 ∧ (kd s83 r0).1 = 1) <|
  bnd (pI s83 r0 12 0) fun s88 =>
  (gr s88 r0 16).bind fun q94 =>
  ob (f_X1_isSo r0 q94 s88) fun v97 s97 =>
  if v97 = 0 then (f_X1_absent_b108 x1 0 r0 s97) else f_X1_absent_b108 x1 1 r0 s97) else (gr s r0 1).bind fun q13 =>
  gd (q13 < s.1 ∧ (kd s q13).1 = 2) <|
  bnd (p_has (gi s q13 6) x2) fun v20 =>
  if v20 = 0 then (f_X1_absent_b69 (f_X1_absent_b4 n) r0 x1 x2 s) else (gr s r0 25).bind fun q30 =>
  gd (q30 < s.1 ∧ (kd s q30).1 = 9) <|
  bnd (pI s q30 0 x2) fun s34 =>
  (gr s34 r0 2).bind fun q38 =>
  (gr s34 r0 1).bind fun q42 =>
  gd (q38 < s34.1 ∧ (kd s34 q38).1 = 2) <|
  ob (f_X2_be q38 q42 s34) fun _ s45 =>
  gd (r0 < s45.1 ∧ (kd s45 r0).1 = 1) <|
  (gr s45 r0 25).bind fun q51 =>
  ob (f_X1_isSo r0 q51 s45) fun v54 s54 =>
  if v54 = 0 then (f_X1_absent_b67 (f_X1_absent_b4 n) r0 x2 0 x1 s54) else f_X1_absent_b67 (f_X1_absent_b4 n) r0 x2 (1 <<< (x2 &&& 31)) x1 s54
def f_X1_absent (o : Nat) (s : ST) : Option (Int32 × ST) :=
  f_X1_absent_b4 fuel o 0 0 s
set_option maxHeartbeats 4000000 in
theorem ct_X1_absent (l : Launch) (G : GM) (a : Nat → Nat) (o : Nat) (s : ST) (rv : Int32) (sf : ST) (hf : f_X1_absent o s = some (rv, sf)) : MD l G yX1_absent (ws_ yX1_absent cX1_absent 3 (some .int)) 128 [.ref (a o)] a s (some (.int rv)) sf := by
  refine md_of (d := 128) (lv := [(0, .ref (a o))]) (Or.inl (by decide)) (Nat.le_of_ble_eq_true rfl) rfl ?_
  intro p e s0 m args below meth c ls A P hP hC hr hnm hW hl
  have hx := hC.1
  have hb := hC.2.1
  have hts := hC.2.2.2.2.1
  have B108 : ∀ (x1 : Int32) (u0 : Int64) (w1 : Nat) (s : ST), f_X1_absent_b108 x1 u0 w1 s = some (rv, sf) → ∀ (H : Heap) (locs : List Loc) (ls : Array Slot), lv_has ls 3 [(1, .int x1)] → AW G a A s s0.heap H locs → WB p l e (rmD 128) s0 m args below meth c H locs G A P 108 ls [.long u0, .ref (a w1)] := by
    intro x1 u0 w1 s hf H locs ls hl hW
    unfold f_X1_absent_b108 at hf
    obtain ⟨g108, hf⟩ := gd_some hf
    obtain ⟨_, s108, h108, hf⟩ := ob_some hf
    refine aw_dV0 (r := w1) (As := [.long u0]) (rest := []) (ct_X1_tell l G a w1 u0 s () s108 h108) hC hW hl.1 vy_X1_tell (Or.inl q1013) g108 rfl rfl rfl rfl (Nat.le_of_ble_eq_true rfl) ⟨Nat.le_of_ble_eq_true rfl, Nat.le_of_ble_eq_true rfl⟩ ⟨Nat.le_of_ble_eq_true rfl, Nat.le_of_ble_eq_true rfl⟩ dX1_absent_108 (fun H locs hW => ?_)
    refine lv_iload_n hx hb dX1_absent_111 rfl (lv_at hl 0 rfl) ?_
    obtain ⟨e1, e2⟩ := so_inj hf
    exact aw_iret hC hW hr rfl (p_eq hP (congrArg (fun z => some (Value.int z)) e1) e2) (Nat.le_of_ble_eq_true rfl) (Nat.le_of_ble_eq_true rfl) dX1_absent_112
  have B69 : ∀ (K4 : Nat → Int32 → Int32 → ST → Option (Int32 × ST)) (hK4 : ∀ (r0 : Nat) (x1 : Int32) (x2 : Int32) (s : ST), K4 r0 x1 x2 s = some (rv, sf) → ∀ (H : Heap) (locs : List Loc) (ls : Array Slot), lv_has ls 3 [(0, .ref (a r0)), (1, .int x1), (2, .int x2)] → AW G a A s s0.heap H locs → WB p l e (rmD 128) s0 m args below meth c H locs G A P 4 ls []), ∀ (r0 : Nat) (x1 : Int32) (x2 : Int32) (s : ST), f_X1_absent_b69 K4 r0 x1 x2 s = some (rv, sf) → ∀ (H : Heap) (locs : List Loc) (ls : Array Slot), lv_has ls 3 [(0, .ref (a r0)), (1, .int x1), (2, .int x2)] → AW G a A s s0.heap H locs → WB p l e (rmD 128) s0 m args below meth c H locs G A P 69 ls [] := by
    intro K4 hK4 r0 x1 x2 s hf H locs ls hl hW
    unfold f_X1_absent_b69 at hf
    obtain ⟨v69, ev69, hf⟩ := bnd_some hf
    refine lv_iinc (v := v69) (lv' := [(2, .int v69), (0, .ref (a r0)), (1, .int x1)]) hx hb dX1_absent_69 hl (k := 2) rfl (by rw [ev69]; rfl) (by decide) rfl (fun ls hl => ?_)
    refine lv_goto (tgt := 4) hx hb dX1_absent_72 (by decide) ?_
    exact hK4 r0 x1 v69 s hf _ _ _ (lv_sub hl [1, 2, 0] rfl) hW
  have B67 : ∀ (K4 : Nat → Int32 → Int32 → ST → Option (Int32 × ST)) (hK4 : ∀ (r0 : Nat) (x1 : Int32) (x2 : Int32) (s : ST), K4 r0 x1 x2 s = some (rv, sf) → ∀ (H : Heap) (locs : List Loc) (ls : Array Slot), lv_has ls 3 [(0, .ref (a r0)), (1, .int x1), (2, .int x2)] → AW G a A s s0.heap H locs → WB p l e (rmD 128) s0 m args below meth c H locs G A P 4 ls []), ∀ (r0 : Nat) (x2 : Int32) (t0 : Int32) (t1 : Int32) (s : ST), f_X1_absent_b67 K4 r0 x2 t0 t1 s = some (rv, sf) → ∀ (H : Heap) (locs : List Loc) (ls : Array Slot), lv_has ls 3 [(0, .ref (a r0)), (2, .int x2)] → AW G a A s s0.heap H locs → WB p l e (rmD 128) s0 m args below meth c H locs G A P 67 ls [.int t0, .int t1] := by
    intro K4 hK4 r0 x2 t0 t1 s hf H locs ls hl hW
    unfold f_X1_absent_b67 at hf
    refine lv_ior hx hb dX1_absent_67 ?_
    obtain ⟨v68, ev68, hf⟩ := bnd_some hf
    refine top_i ev68 ?_
    refine lv_istore_n (lv' := [(1, .int v68), (0, .ref (a r0)), (2, .int x2)]) hx hb dX1_absent_68 rfl hl (by decide) rfl (fun ls hl => ?_)
    exact B69 K4 hK4 r0 v68 x2 s hf _ _ _ (lv_sub hl [1, 0, 2] rfl) hW
  have B4 : ∀ (n : Nat), ∀ (r0 : Nat) (x1 : Int32) (x2 : Int32) (s : ST), f_X1_absent_b4 n r0 x1 x2 s = some (rv, sf) → ∀ (H : Heap) (locs : List Loc) (ls : Array Slot), lv_has ls 3 [(0, .ref (a r0)), (1, .int x1), (2, .int x2)] → AW G a A s s0.heap H locs → WB p l e (rmD 128) s0 m args below meth c H locs G A P 4 ls [] := by
    intro n
    induction n with
    | zero => intro r0 x1 x2 s hf; cases hf
    | succ n ih =>
      intro r0 x1 x2 s hf H locs ls hl hW
      rw [f_X1_absent_b4] at hf
      refine lv_iload_n hx hb dX1_absent_4 rfl (lv_at hl 2 rfl) ?_
      refine lv_aload_n hx hb dX1_absent_5 rfl (lv_at hl 0 rfl) ?_
      obtain ⟨g6, hf⟩ := gd_some hf
      refine aw_gI hC hW g6 fl_X1_157 rfl dX1_absent_6 ?_
      refine lv_icmp_ge (tgt := 75) hx hb dX1_absent_9 (by decide) (fun c9 => ?_) (fun c9 => ?_)
      · have hf := ifp c9 hf
        refine lv_aload_n hx hb dX1_absent_75 rfl (lv_at hl 0 rfl) ?_
        obtain ⟨q76, hq76, hf⟩ := bi_some hf
        refine aw_gR hC hW g6 fl_X1_22 rfl hq76 dX1_absent_76 ?_
        refine lv_aload_n hx hb dX1_absent_79 rfl (lv_at hl 0 rfl) ?_
        obtain ⟨q80, hq80, hf⟩ := bi_some hf
        refine aw_gR hC hW g6 fl_X1_18 rfl hq80 dX1_absent_80 ?_
        obtain ⟨g83, hf⟩ := gd_some hf
        obtain ⟨_, s83, h83, hf⟩ := ob_some hf
        refine aw_dV0 (r := q76) (As := [.ref (a q80)]) (rest := []) (ct_X2_be l G a q76 q80 s () s83 h83) hC hW hl.1 vy_X2_be (Or.inl q917) g83 rfl rfl rfl rfl (Nat.le_of_ble_eq_true rfl) ⟨Nat.le_of_ble_eq_true rfl, Nat.le_of_ble_eq_true rfl⟩ ⟨Nat.le_of_ble_eq_true rfl, Nat.le_of_ble_eq_true rfl⟩ dX1_absent_83 (fun H locs hW => ?_)
        refine lv_aload_n hx hb dX1_absent_86 rfl (lv_at hl 0 rfl) ?_
        refine lv_iconst (v := 0) hx hb dX1_absent_87 (by decide) ?_
        obtain ⟨g88, hf⟩ := gd_some hf
        obtain ⟨s88, e88, hf⟩ := bnd_some hf
        refine aw_pI e88 hC hW g88 fl_X1_154 (Or.inl fn_0_12) rfl rfl rfl dX1_absent_88 (fun H locs hW => ?_)
        have g88 := ko_pI e88 g88
        refine lv_aload_n hx hb dX1_absent_91 rfl (lv_at hl 0 rfl) ?_
        refine lv_aload_n hx hb dX1_absent_92 rfl (lv_at hl 0 rfl) ?_
        refine lv_aload_n hx hb dX1_absent_93 rfl (lv_at hl 0 rfl) ?_
        obtain ⟨q94, hq94, hf⟩ := bi_some hf
        refine aw_gR hC hW g88 fl_X1_54 rfl hq94 dX1_absent_94 ?_
        obtain ⟨v97, s97, h97, hf⟩ := ob_some hf
        refine aw_dV1 (r := r0) (As := [.ref (a q94)]) (rest := [.ref (a r0)]) (ct_X1_isSo l G a r0 q94 s88 v97 s97 h97) hC hW hl.1 vy_X1_isSo (Or.inl q1226) g88 rfl rfl rfl rfl (Nat.le_of_ble_eq_true rfl) ⟨Nat.le_of_ble_eq_true rfl, Nat.le_of_ble_eq_true rfl⟩ ⟨Nat.le_of_ble_eq_true rfl, Nat.le_of_ble_eq_true rfl⟩ dX1_absent_97 (fun H locs hW => ?_)
        refine lv_if_eq (tgt := 107) hx hb dX1_absent_100 (by decide) (fun c100 => ?_) (fun c100 => ?_)
        · have hf := ifp c100 hf
          refine lv_lconst (v := 0) hx hb dX1_absent_107 (by decide) ?_
          exact B108 x1 0 r0 s97 hf _ _ _ (lv_sub hl [1] rfl) hW
        · have hf := ifn c100 hf
          refine lv_lconst (v := 1) hx hb dX1_absent_103 (by decide) ?_
          refine lv_goto (tgt := 108) hx hb dX1_absent_104 (by decide) ?_
          exact B108 x1 1 r0 s97 hf _ _ _ (lv_sub hl [1] rfl) hW
      · have hf := ifn c9 hf
        refine lv_aload_n hx hb dX1_absent_12 rfl (lv_at hl 0 rfl) ?_
        obtain ⟨q13, hq13, hf⟩ := bi_some hf
        refine aw_gR hC hW g6 fl_X1_18 rfl hq13 dX1_absent_13 ?_
        obtain ⟨g16, hf⟩ := gd_some hf
        refine aw_gI hC hW g16 fl_X1_168 rfl dX1_absent_16 ?_
        refine lv_iload_n hx hb dX1_absent_19 rfl (lv_at hl 2 rfl) ?_
        obtain ⟨v20, ev20, hf⟩ := bnd_some hf
        refine aw_dS1 (As := [.int (gi s q13 6), .int x2]) (rest := []) (pc_X1_has l G a (gi s q13 6) x2 s) hC hW hl.1 sy_X1_has (Or.inl q930) rfl rfl (Nat.le_of_ble_eq_true rfl) ⟨Nat.le_of_ble_eq_true rfl, Nat.le_of_ble_eq_true rfl⟩ ⟨Nat.le_of_ble_eq_true rfl, Nat.le_of_ble_eq_true rfl⟩ dX1_absent_20 (fun H locs hW => ?_)
        refine top_i ev20 ?_
        refine lv_if_ne (tgt := 29) hx hb dX1_absent_23 (by decide) (fun c23 => ?_) (fun c23 => ?_)
        · have hf := ifn c23 hf
          refine lv_aload_n hx hb dX1_absent_29 rfl (lv_at hl 0 rfl) ?_
          obtain ⟨q30, hq30, hf⟩ := bi_some hf
          refine aw_gR hC hW g6 fl_X1_95 rfl hq30 dX1_absent_30 ?_
          refine lv_iload_n hx hb dX1_absent_33 rfl (lv_at hl 2 rfl) ?_
          obtain ⟨g34, hf⟩ := gd_some hf
          obtain ⟨s34, e34, hf⟩ := bnd_some hf
          refine aw_pI e34 hC hW g34 fl_X1_453 (Or.inl fn_8_0) rfl rfl rfl dX1_absent_34 (fun H locs hW => ?_)
          have g6 := ko_pI e34 g6
          have g16 := ko_pI e34 g16
          have g34 := ko_pI e34 g34
          refine lv_aload_n hx hb dX1_absent_37 rfl (lv_at hl 0 rfl) ?_
          obtain ⟨q38, hq38, hf⟩ := bi_some hf
          refine aw_gR hC hW g6 fl_X1_22 rfl hq38 dX1_absent_38 ?_
          refine lv_aload_n hx hb dX1_absent_41 rfl (lv_at hl 0 rfl) ?_
          obtain ⟨q42, hq42, hf⟩ := bi_some hf
          refine aw_gR hC hW g6 fl_X1_18 rfl hq42 dX1_absent_42 ?_
          obtain ⟨g45, hf⟩ := gd_some hf
          obtain ⟨_, s45, h45, hf⟩ := ob_some hf
          refine aw_dV0 (r := q38) (As := [.ref (a q42)]) (rest := []) (ct_X2_be l G a q38 q42 s34 () s45 h45) hC hW hl.1 vy_X2_be (Or.inl q917) g45 rfl rfl rfl rfl (Nat.le_of_ble_eq_true rfl) ⟨Nat.le_of_ble_eq_true rfl, Nat.le_of_ble_eq_true rfl⟩ ⟨Nat.le_of_ble_eq_true rfl, Nat.le_of_ble_eq_true rfl⟩ dX1_absent_45 (fun H locs hW => ?_)
          refine lv_iload_n hx hb dX1_absent_48 rfl (lv_at hl 1 rfl) ?_
          refine lv_aload_n hx hb dX1_absent_49 rfl (lv_at hl 0 rfl) ?_
          refine lv_aload_n hx hb dX1_absent_50 rfl (lv_at hl 0 rfl) ?_
          obtain ⟨g51, hf⟩ := gd_some hf
          obtain ⟨q51, hq51, hf⟩ := bi_some hf
          refine aw_gR hC hW g51 fl_X1_95 rfl hq51 dX1_absent_51 ?_
          obtain ⟨v54, s54, h54, hf⟩ := ob_some hf
          refine aw_dV1 (r := r0) (As := [.ref (a q51)]) (rest := [.int x1]) (ct_X1_isSo l G a r0 q51 s45 v54 s54 h54) hC hW hl.1 vy_X1_isSo (Or.inl q1226) g51 rfl rfl rfl rfl (Nat.le_of_ble_eq_true rfl) ⟨Nat.le_of_ble_eq_true rfl, Nat.le_of_ble_eq_true rfl⟩ ⟨Nat.le_of_ble_eq_true rfl, Nat.le_of_ble_eq_true rfl⟩ dX1_absent_54 (fun H locs hW => ?_)
          refine lv_if_eq (tgt := 66) hx hb dX1_absent_57 (by decide) (fun c57 => ?_) (fun c57 => ?_)
          · have hf := ifp c57 hf
            refine lv_iconst (v := 0) hx hb dX1_absent_66 (by decide) ?_
            exact B67 (f_X1_absent_b4 n) ih r0 x2 0 x1 s54 hf _ _ _ (lv_sub hl [0, 2] rfl) hW
          · have hf := ifn c57 hf
            refine lv_iconst (v := 1) hx hb dX1_absent_60 (by decide) ?_
            refine lv_iload_n hx hb dX1_absent_61 rfl (lv_at hl 2 rfl) ?_
            refine lv_ishl hx hb dX1_absent_62 ?_
            refine lv_goto (tgt := 67) hx hb dX1_absent_63 (by decide) ?_
            exact B67 (f_X1_absent_b4 n) ih r0 x2 (1 <<< (x2 &&& 31)) x1 s54 hf _ _ _ (lv_sub hl [0, 2] rfl) hW
        · have hf := ifp c23 hf
          refine lv_goto (tgt := 69) hx hb dX1_absent_26 (by decide) ?_
          exact B69 (f_X1_absent_b4 n) ih r0 x1 x2 s hf _ _ _ (lv_sub hl [0, 1, 2] rfl) hW
  unfold f_X1_absent at hf
  refine lv_iconst (v := 0) hx hb dX1_absent_0 (by decide) ?_
  refine lv_istore_n (lv' := [(1, .int 0), (0, .ref (a o))]) hx hb dX1_absent_1 rfl hl (by decide) rfl (fun ls hl => ?_)
  refine lv_iconst (v := 0) hx hb dX1_absent_2 (by decide) ?_
  refine lv_istore_n (lv' := [(2, .int 0), (1, .int 0), (0, .ref (a o))]) hx hb dX1_absent_3 rfl hl (by decide) rfl (fun ls hl => ?_)
  exact B4 fuel o 0 0 s hf _ _ _ (lv_sub hl [2, 1, 0] rfl) hW
def f_X10_isSo_b20 : Nat → Nat → Int32 → ST → Option (Int32 × ST)
  | 0, _, _, _ => none
  | n + 1, r0, x2, s =>
  gd (r0 < s.1 ∧ (kd s r0).1 = 10) <|
  if (gi s r0 0) ≤ x2 then (some (1, s)) else (gr s r0 1).bind fun q29 =>
  (gr s r0 1).bind fun q33 =>
  gd (q33 < s.1 ∧ (kd s q33).1 = 1) <|
  (gr s q33 2).bind fun q36 =>
  (gr s r0 1).bind fun q40 =>
  gd (q40 < s.1 ∧ (kd s q40).1 = 1) <|
  (gr s q40 16).bind fun q43 =>
  gd (q29 < s.1 ∧ (kd s q29).1 = 1) <|
  ob (f_X1_goes q29 q36 q43 s) fun _ s46 =>
  gd (r0 < s46.1 ∧ (kd s46 r0).1 = 10) <|
  (gr s46 r0 1).bind fun q50 =>
  gd (q50 < s46.1 ∧ (kd s46 q50).1 = 1) <|
  if (gi s46 q50 21) = 0 then (bnd (x2 + 1 : Int32) fun v61 =>
  f_X10_isSo_b20 n r0 v61 s46) else some (0, s46)
def f_X10_isSo (o : Nat) (x1 : Int32) (s : ST) : Option (Int32 × ST) :=
  gd (o < s.1 ∧ (kd s o).1 = 10) <|
  (gr s o 1).bind fun q1 =>
  (gr s o 1).bind fun q5 =>
  gd (q5 < s.1 ∧ (kd s q5).1 = 1) <|
  (gr s q5 1).bind fun q8 =>
  gd (q8 < s.1 ∧ (kd s q8).1 = 2) <|
  gd (q1 < s.1 ∧ (kd s q1).1 = 1) <|
  ob (f_X1_begin q1 (gi s q8 7) x1 s) fun _ s15 =>
  f_X10_isSo_b20 fuel o 0 s15
set_option maxHeartbeats 4000000 in
theorem ct_X10_isSo (l : Launch) (G : GM) (a : Nat → Nat) (o : Nat) (x1 : Int32) (s : ST) (rv : Int32) (sf : ST) (hf : f_X10_isSo o x1 s = some (rv, sf)) : MD l G yX10_isSo (ws_ yX10_isSo cX10_isSo 3 (some .boolean)) 127 [.ref (a o), .int x1] a s (some (.int rv)) sf := by
  refine md_of (d := 127) (lv := [(0, .ref (a o)), (1, .int x1)]) (Or.inl (by decide)) (Nat.le_of_ble_eq_true rfl) rfl ?_
  intro p e s0 m args below meth c ls A P hP hC hr hnm hW hl
  have hx := hC.1
  have hb := hC.2.1
  have hts := hC.2.2.2.2.1
  have B20 : ∀ (n : Nat), ∀ (r0 : Nat) (x2 : Int32) (s : ST), f_X10_isSo_b20 n r0 x2 s = some (rv, sf) → ∀ (H : Heap) (locs : List Loc) (ls : Array Slot), lv_has ls 3 [(0, .ref (a r0)), (2, .int x2)] → AW G a A s s0.heap H locs → WB p l e (rmD 127) s0 m args below meth c H locs G A P 20 ls [] := by
    intro n
    induction n with
    | zero => intro r0 x2 s hf; cases hf
    | succ n ih =>
      intro r0 x2 s hf H locs ls hl hW
      rw [f_X10_isSo_b20] at hf
      refine lv_iload_n hx hb dX10_isSo_20 rfl (lv_at hl 1 rfl) ?_
      refine lv_aload_n hx hb dX10_isSo_21 rfl (lv_at hl 0 rfl) ?_
      obtain ⟨g22, hf⟩ := gd_some hf
      refine aw_gI hC hW g22 fl_X10_29 rfl dX10_isSo_22 ?_
      refine lv_icmp_ge (tgt := 67) hx hb dX10_isSo_25 (by decide) (fun c25 => ?_) (fun c25 => ?_)
      · have hf := ifp c25 hf
        refine lv_iconst (v := 1) hx hb dX10_isSo_67 (by decide) ?_
        obtain ⟨e1, e2⟩ := so_inj hf
        exact aw_iret hC hW hr rfl (p_eq hP (congrArg (fun z => some (Value.int z)) e1) e2) (Nat.le_of_ble_eq_true rfl) (Nat.le_of_ble_eq_true rfl) dX10_isSo_68
      · have hf := ifn c25 hf
        refine lv_aload_n hx hb dX10_isSo_28 rfl (lv_at hl 0 rfl) ?_
        obtain ⟨q29, hq29, hf⟩ := bi_some hf
        refine aw_gR hC hW g22 fl_X10_1 rfl hq29 dX10_isSo_29 ?_
        refine lv_aload_n hx hb dX10_isSo_32 rfl (lv_at hl 0 rfl) ?_
        obtain ⟨q33, hq33, hf⟩ := bi_some hf
        refine aw_gR hC hW g22 fl_X10_1 rfl hq33 dX10_isSo_33 ?_
        obtain ⟨g36, hf⟩ := gd_some hf
        obtain ⟨q36, hq36, hf⟩ := bi_some hf
        refine aw_gR hC hW g36 fl_X10_32 rfl hq36 dX10_isSo_36 ?_
        refine lv_aload_n hx hb dX10_isSo_39 rfl (lv_at hl 0 rfl) ?_
        obtain ⟨q40, hq40, hf⟩ := bi_some hf
        refine aw_gR hC hW g22 fl_X10_1 rfl hq40 dX10_isSo_40 ?_
        obtain ⟨g43, hf⟩ := gd_some hf
        obtain ⟨q43, hq43, hf⟩ := bi_some hf
        refine aw_gR hC hW g43 fl_X10_35 rfl hq43 dX10_isSo_43 ?_
        obtain ⟨g46, hf⟩ := gd_some hf
        obtain ⟨_, s46, h46, hf⟩ := ob_some hf
        refine aw_dV0 (r := q29) (As := [.ref (a q36), .ref (a q43)]) (rest := []) (ct_X1_goes l G a q29 q36 q43 s () s46 h46) hC hW hl.1 vy_X1_goes (Or.inr ⟨_, q1138⟩) g46 rfl rfl rfl rfl (Nat.le_of_ble_eq_true rfl) ⟨Nat.le_of_ble_eq_true rfl, Nat.le_of_ble_eq_true rfl⟩ ⟨Nat.le_of_ble_eq_true rfl, Nat.le_of_ble_eq_true rfl⟩ dX10_isSo_46 (fun H locs hW => ?_)
        refine lv_aload_n hx hb dX10_isSo_49 rfl (lv_at hl 0 rfl) ?_
        obtain ⟨g50, hf⟩ := gd_some hf
        obtain ⟨q50, hq50, hf⟩ := bi_some hf
        refine aw_gR hC hW g50 fl_X10_1 rfl hq50 dX10_isSo_50 ?_
        obtain ⟨g53, hf⟩ := gd_some hf
        refine aw_gI hC hW g53 fl_X10_43 rfl dX10_isSo_53 ?_
        refine lv_if_eq (tgt := 61) hx hb dX10_isSo_56 (by decide) (fun c56 => ?_) (fun c56 => ?_)
        · have hf := ifp c56 hf
          obtain ⟨v61, ev61, hf⟩ := bnd_some hf
          refine lv_iinc (v := v61) (lv' := [(2, .int v61), (0, .ref (a r0))]) hx hb dX10_isSo_61 hl (k := 1) rfl (by rw [ev61]; rfl) (by decide) rfl (fun ls hl => ?_)
          refine lv_goto (tgt := 20) hx hb dX10_isSo_64 (by decide) ?_
          exact ih r0 v61 s46 hf _ _ _ (lv_sub hl [1, 0] rfl) hW
        · have hf := ifn c56 hf
          refine lv_iconst (v := 0) hx hb dX10_isSo_59 (by decide) ?_
          obtain ⟨e1, e2⟩ := so_inj hf
          exact aw_iret hC hW hr rfl (p_eq hP (congrArg (fun z => some (Value.int z)) e1) e2) (Nat.le_of_ble_eq_true rfl) (Nat.le_of_ble_eq_true rfl) dX10_isSo_60
  unfold f_X10_isSo at hf
  refine lv_aload_n hx hb dX10_isSo_0 rfl (lv_at hl 0 rfl) ?_
  obtain ⟨g1, hf⟩ := gd_some hf
  obtain ⟨q1, hq1, hf⟩ := bi_some hf
  refine aw_gR hC hW g1 fl_X10_1 rfl hq1 dX10_isSo_1 ?_
  refine lv_aload_n hx hb dX10_isSo_4 rfl (lv_at hl 0 rfl) ?_
  obtain ⟨q5, hq5, hf⟩ := bi_some hf
  refine aw_gR hC hW g1 fl_X10_1 rfl hq5 dX10_isSo_5 ?_
  obtain ⟨g8, hf⟩ := gd_some hf
  obtain ⟨q8, hq8, hf⟩ := bi_some hf
  refine aw_gR hC hW g8 fl_X10_13 rfl hq8 dX10_isSo_8 ?_
  obtain ⟨g11, hf⟩ := gd_some hf
  refine aw_gI hC hW g11 fl_X10_19 rfl dX10_isSo_11 ?_
  refine lv_iload_n hx hb dX10_isSo_14 rfl (lv_at hl 1 rfl) ?_
  obtain ⟨g15, hf⟩ := gd_some hf
  obtain ⟨_, s15, h15, hf⟩ := ob_some hf
  refine aw_dV0 (r := q1) (As := [.int (gi s q8 7), .int x1]) (rest := []) (ct_X1_begin l G a q1 (gi s q8 7) x1 s () s15 h15) hC hW hl.1 vy_X1_begin (Or.inr ⟨_, q1134⟩) g15 rfl rfl rfl rfl (Nat.le_of_ble_eq_true rfl) ⟨Nat.le_of_ble_eq_true rfl, Nat.le_of_ble_eq_true rfl⟩ ⟨Nat.le_of_ble_eq_true rfl, Nat.le_of_ble_eq_true rfl⟩ dX10_isSo_15 (fun H locs hW => ?_)
  refine lv_iconst (v := 0) hx hb dX10_isSo_18 (by decide) ?_
  refine lv_istore_n (lv' := [(2, .int 0), (0, .ref (a o)), (1, .int x1)]) hx hb dX10_isSo_19 rfl hl (by decide) rfl (fun ls hl => ?_)
  exact B20 fuel o 0 s15 hf _ _ _ (lv_sub hl [1, 0] rfl) hW
def f_X11_isSo_b14 : Nat → Nat → Int32 → ST → Option (Int32 × ST)
  | 0, _, _, _ => none
  | n + 1, r0, x2, s =>
  gd (r0 < s.1 ∧ (kd s r0).1 = 11) <|
  if (gi s r0 1) ≤ x2 then ((gr s r0 2).bind fun q50 =>
  gd (q50 < s.1 ∧ (kd s q50).1 = 1) <|
  (gr s q50 2).bind fun q53 =>
  gd (q53 < s.1 ∧ (kd s q53).1 = 2) <|
  if (gi s q53 7) = (gi s r0 0) then (some (1, s)) else some (0, s)) else (gr s r0 2).bind fun q23 =>
  (gr s r0 2).bind fun q27 =>
  gd (q27 < s.1 ∧ (kd s q27).1 = 1) <|
  (gr s q27 2).bind fun q30 =>
  (gr s r0 2).bind fun q34 =>
  gd (q34 < s.1 ∧ (kd s q34).1 = 1) <|
  (gr s q34 16).bind fun q37 =>
  gd (q23 < s.1 ∧ (kd s q23).1 = 1) <|
  ob (f_X1_goes q23 q30 q37 s) fun _ s40 =>
  bnd (x2 + 1 : Int32) fun v43 =>
  f_X11_isSo_b14 n r0 v43 s40
def f_X11_isSo (o : Nat) (x1 : Int32) (s : ST) : Option (Int32 × ST) :=
  gd (o < s.1 ∧ (kd s o).1 = 11) <|
  (gr s o 2).bind fun q1 =>
  gd (q1 < s.1 ∧ (kd s q1).1 = 1) <|
  ob (f_X1_begin q1 (gi s o 0) x1 s) fun _ s9 =>
  f_X11_isSo_b14 fuel o 0 s9
set_option maxHeartbeats 4000000 in
theorem ct_X11_isSo (l : Launch) (G : GM) (a : Nat → Nat) (o : Nat) (x1 : Int32) (s : ST) (rv : Int32) (sf : ST) (hf : f_X11_isSo o x1 s = some (rv, sf)) : MD l G yX11_isSo (ws_ yX11_isSo cX11_isSo 3 (some .boolean)) 127 [.ref (a o), .int x1] a s (some (.int rv)) sf := by
  refine md_of (d := 127) (lv := [(0, .ref (a o)), (1, .int x1)]) (Or.inl (by decide)) (Nat.le_of_ble_eq_true rfl) rfl ?_
  intro p e s0 m args below meth c ls A P hP hC hr hnm hW hl
  have hx := hC.1
  have hb := hC.2.1
  have hts := hC.2.2.2.2.1
  have B14 : ∀ (n : Nat), ∀ (r0 : Nat) (x2 : Int32) (s : ST), f_X11_isSo_b14 n r0 x2 s = some (rv, sf) → ∀ (H : Heap) (locs : List Loc) (ls : Array Slot), lv_has ls 3 [(0, .ref (a r0)), (2, .int x2)] → AW G a A s s0.heap H locs → WB p l e (rmD 127) s0 m args below meth c H locs G A P 14 ls [] := by
    intro n
    induction n with
    | zero => intro r0 x2 s hf; cases hf
    | succ n ih =>
      intro r0 x2 s hf H locs ls hl hW
      rw [f_X11_isSo_b14] at hf
      refine lv_iload_n hx hb dX11_isSo_14 rfl (lv_at hl 1 rfl) ?_
      refine lv_aload_n hx hb dX11_isSo_15 rfl (lv_at hl 0 rfl) ?_
      obtain ⟨g16, hf⟩ := gd_some hf
      refine aw_gI hC hW g16 fl_X11_23 rfl dX11_isSo_16 ?_
      refine lv_icmp_ge (tgt := 49) hx hb dX11_isSo_19 (by decide) (fun c19 => ?_) (fun c19 => ?_)
      · have hf := ifp c19 hf
        refine lv_aload_n hx hb dX11_isSo_49 rfl (lv_at hl 0 rfl) ?_
        obtain ⟨q50, hq50, hf⟩ := bi_some hf
        refine aw_gR hC hW g16 fl_X11_1 rfl hq50 dX11_isSo_50 ?_
        obtain ⟨g53, hf⟩ := gd_some hf
        obtain ⟨q53, hq53, hf⟩ := bi_some hf
        refine aw_gR hC hW g53 fl_X11_26 rfl hq53 dX11_isSo_53 ?_
        obtain ⟨g56, hf⟩ := gd_some hf
        refine aw_gI hC hW g56 fl_X11_38 rfl dX11_isSo_56 ?_
        refine lv_aload_n hx hb dX11_isSo_59 rfl (lv_at hl 0 rfl) ?_
        refine aw_gI hC hW g16 fl_X11_13 rfl dX11_isSo_60 ?_
        refine lv_icmp_ne (tgt := 70) hx hb dX11_isSo_63 (by decide) (fun c63 => ?_) (fun c63 => ?_)
        · have hf := ifn c63 hf
          refine lv_iconst (v := 0) hx hb dX11_isSo_70 (by decide) ?_
          obtain ⟨e1, e2⟩ := so_inj hf
          exact aw_iret hC hW hr rfl (p_eq hP (congrArg (fun z => some (Value.int z)) e1) e2) (Nat.le_of_ble_eq_true rfl) (Nat.le_of_ble_eq_true rfl) dX11_isSo_71
        · have hf := ifp c63 hf
          refine lv_iconst (v := 1) hx hb dX11_isSo_66 (by decide) ?_
          refine lv_goto (tgt := 71) hx hb dX11_isSo_67 (by decide) ?_
          obtain ⟨e1, e2⟩ := so_inj hf
          exact aw_iret hC hW hr rfl (p_eq hP (congrArg (fun z => some (Value.int z)) e1) e2) (Nat.le_of_ble_eq_true rfl) (Nat.le_of_ble_eq_true rfl) dX11_isSo_71
      · have hf := ifn c19 hf
        refine lv_aload_n hx hb dX11_isSo_22 rfl (lv_at hl 0 rfl) ?_
        obtain ⟨q23, hq23, hf⟩ := bi_some hf
        refine aw_gR hC hW g16 fl_X11_1 rfl hq23 dX11_isSo_23 ?_
        refine lv_aload_n hx hb dX11_isSo_26 rfl (lv_at hl 0 rfl) ?_
        obtain ⟨q27, hq27, hf⟩ := bi_some hf
        refine aw_gR hC hW g16 fl_X11_1 rfl hq27 dX11_isSo_27 ?_
        obtain ⟨g30, hf⟩ := gd_some hf
        obtain ⟨q30, hq30, hf⟩ := bi_some hf
        refine aw_gR hC hW g30 fl_X11_26 rfl hq30 dX11_isSo_30 ?_
        refine lv_aload_n hx hb dX11_isSo_33 rfl (lv_at hl 0 rfl) ?_
        obtain ⟨q34, hq34, hf⟩ := bi_some hf
        refine aw_gR hC hW g16 fl_X11_1 rfl hq34 dX11_isSo_34 ?_
        obtain ⟨g37, hf⟩ := gd_some hf
        obtain ⟨q37, hq37, hf⟩ := bi_some hf
        refine aw_gR hC hW g37 fl_X11_30 rfl hq37 dX11_isSo_37 ?_
        obtain ⟨g40, hf⟩ := gd_some hf
        obtain ⟨_, s40, h40, hf⟩ := ob_some hf
        refine aw_dV0 (r := q23) (As := [.ref (a q30), .ref (a q37)]) (rest := []) (ct_X1_goes l G a q23 q30 q37 s () s40 h40) hC hW hl.1 vy_X1_goes (Or.inr ⟨_, q1146⟩) g40 rfl rfl rfl rfl (Nat.le_of_ble_eq_true rfl) ⟨Nat.le_of_ble_eq_true rfl, Nat.le_of_ble_eq_true rfl⟩ ⟨Nat.le_of_ble_eq_true rfl, Nat.le_of_ble_eq_true rfl⟩ dX11_isSo_40 (fun H locs hW => ?_)
        obtain ⟨v43, ev43, hf⟩ := bnd_some hf
        refine lv_iinc (v := v43) (lv' := [(2, .int v43), (0, .ref (a r0))]) hx hb dX11_isSo_43 hl (k := 1) rfl (by rw [ev43]; rfl) (by decide) rfl (fun ls hl => ?_)
        refine lv_goto (tgt := 14) hx hb dX11_isSo_46 (by decide) ?_
        exact ih r0 v43 s40 hf _ _ _ (lv_sub hl [1, 0] rfl) hW
  unfold f_X11_isSo at hf
  refine lv_aload_n hx hb dX11_isSo_0 rfl (lv_at hl 0 rfl) ?_
  obtain ⟨g1, hf⟩ := gd_some hf
  obtain ⟨q1, hq1, hf⟩ := bi_some hf
  refine aw_gR hC hW g1 fl_X11_1 rfl hq1 dX11_isSo_1 ?_
  refine lv_aload_n hx hb dX11_isSo_4 rfl (lv_at hl 0 rfl) ?_
  refine aw_gI hC hW g1 fl_X11_13 rfl dX11_isSo_5 ?_
  refine lv_iload_n hx hb dX11_isSo_8 rfl (lv_at hl 1 rfl) ?_
  obtain ⟨g9, hf⟩ := gd_some hf
  obtain ⟨_, s9, h9, hf⟩ := ob_some hf
  refine aw_dV0 (r := q1) (As := [.int (gi s o 0), .int x1]) (rest := []) (ct_X1_begin l G a q1 (gi s o 0) x1 s () s9 h9) hC hW hl.1 vy_X1_begin (Or.inr ⟨_, q1145⟩) g9 rfl rfl rfl rfl (Nat.le_of_ble_eq_true rfl) ⟨Nat.le_of_ble_eq_true rfl, Nat.le_of_ble_eq_true rfl⟩ ⟨Nat.le_of_ble_eq_true rfl, Nat.le_of_ble_eq_true rfl⟩ dX11_isSo_9 (fun H locs hW => ?_)
  refine lv_iconst (v := 0) hx hb dX11_isSo_12 (by decide) ?_
  refine lv_istore_n (lv' := [(2, .int 0), (0, .ref (a o)), (1, .int x1)]) hx hb dX11_isSo_13 rfl hl (by decide) rfl (fun ls hl => ?_)
  exact B14 fuel o 0 s9 hf _ _ _ (lv_sub hl [1, 0] rfl) hW
def f_X12_isSo_b15 : Nat → Nat → Int32 → ST → Option (Int32 × ST)
  | 0, _, _, _ => none
  | n + 1, r0, x2, s =>
  gd (r0 < s.1 ∧ (kd s r0).1 = 12) <|
  if (gi s r0 1) ≤ x2 then (some (1, s)) else (gr s r0 2).bind fun q24 =>
  (gr s r0 2).bind fun q28 =>
  gd (q28 < s.1 ∧ (kd s q28).1 = 1) <|
  (gr s q28 2).bind fun q31 =>
  (gr s r0 2).bind fun q35 =>
  gd (q35 < s.1 ∧ (kd s q35).1 = 1) <|
  (gr s q35 16).bind fun q38 =>
  gd (q24 < s.1 ∧ (kd s q24).1 = 1) <|
  ob (f_X1_goes q24 q31 q38 s) fun _ s41 =>
  gd (r0 < s41.1 ∧ (kd s41 r0).1 = 12) <|
  (gr s41 r0 2).bind fun q45 =>
  gd (q45 < s41.1 ∧ (kd s41 q45).1 = 1) <|
  (gr s41 q45 2).bind fun q48 =>
  gd (q48 < s41.1 ∧ (kd s41 q48).1 = 2) <|
  if (gi s41 q48 7) = (gi s41 r0 0) then (some (0, s41)) else bnd (x2 + 1 : Int32) fun v63 =>
  f_X12_isSo_b15 n r0 v63 s41
def f_X12_isSo (o : Nat) (x1 : Int32) (s : ST) : Option (Int32 × ST) :=
  gd (o < s.1 ∧ (kd s o).1 = 12) <|
  (gr s o 2).bind fun q1 =>
  gd (q1 < s.1 ∧ (kd s q1).1 = 1) <|
  ob (f_X1_begin q1 (gi s o 0) (-x1) s) fun _ s10 =>
  f_X12_isSo_b15 fuel o 0 s10
set_option maxHeartbeats 4000000 in
theorem ct_X12_isSo (l : Launch) (G : GM) (a : Nat → Nat) (o : Nat) (x1 : Int32) (s : ST) (rv : Int32) (sf : ST) (hf : f_X12_isSo o x1 s = some (rv, sf)) : MD l G yX12_isSo (ws_ yX12_isSo cX12_isSo 3 (some .boolean)) 127 [.ref (a o), .int x1] a s (some (.int rv)) sf := by
  refine md_of (d := 127) (lv := [(0, .ref (a o)), (1, .int x1)]) (Or.inl (by decide)) (Nat.le_of_ble_eq_true rfl) rfl ?_
  intro p e s0 m args below meth c ls A P hP hC hr hnm hW hl
  have hx := hC.1
  have hb := hC.2.1
  have hts := hC.2.2.2.2.1
  have B15 : ∀ (n : Nat), ∀ (r0 : Nat) (x2 : Int32) (s : ST), f_X12_isSo_b15 n r0 x2 s = some (rv, sf) → ∀ (H : Heap) (locs : List Loc) (ls : Array Slot), lv_has ls 3 [(0, .ref (a r0)), (2, .int x2)] → AW G a A s s0.heap H locs → WB p l e (rmD 127) s0 m args below meth c H locs G A P 15 ls [] := by
    intro n
    induction n with
    | zero => intro r0 x2 s hf; cases hf
    | succ n ih =>
      intro r0 x2 s hf H locs ls hl hW
      rw [f_X12_isSo_b15] at hf
      refine lv_iload_n hx hb dX12_isSo_15 rfl (lv_at hl 1 rfl) ?_
      refine lv_aload_n hx hb dX12_isSo_16 rfl (lv_at hl 0 rfl) ?_
      obtain ⟨g17, hf⟩ := gd_some hf
      refine aw_gI hC hW g17 fl_X12_23 rfl dX12_isSo_17 ?_
      refine lv_icmp_ge (tgt := 69) hx hb dX12_isSo_20 (by decide) (fun c20 => ?_) (fun c20 => ?_)
      · have hf := ifp c20 hf
        refine lv_iconst (v := 1) hx hb dX12_isSo_69 (by decide) ?_
        obtain ⟨e1, e2⟩ := so_inj hf
        exact aw_iret hC hW hr rfl (p_eq hP (congrArg (fun z => some (Value.int z)) e1) e2) (Nat.le_of_ble_eq_true rfl) (Nat.le_of_ble_eq_true rfl) dX12_isSo_70
      · have hf := ifn c20 hf
        refine lv_aload_n hx hb dX12_isSo_23 rfl (lv_at hl 0 rfl) ?_
        obtain ⟨q24, hq24, hf⟩ := bi_some hf
        refine aw_gR hC hW g17 fl_X12_1 rfl hq24 dX12_isSo_24 ?_
        refine lv_aload_n hx hb dX12_isSo_27 rfl (lv_at hl 0 rfl) ?_
        obtain ⟨q28, hq28, hf⟩ := bi_some hf
        refine aw_gR hC hW g17 fl_X12_1 rfl hq28 dX12_isSo_28 ?_
        obtain ⟨g31, hf⟩ := gd_some hf
        obtain ⟨q31, hq31, hf⟩ := bi_some hf
        refine aw_gR hC hW g31 fl_X12_26 rfl hq31 dX12_isSo_31 ?_
        refine lv_aload_n hx hb dX12_isSo_34 rfl (lv_at hl 0 rfl) ?_
        obtain ⟨q35, hq35, hf⟩ := bi_some hf
        refine aw_gR hC hW g17 fl_X12_1 rfl hq35 dX12_isSo_35 ?_
        obtain ⟨g38, hf⟩ := gd_some hf
        obtain ⟨q38, hq38, hf⟩ := bi_some hf
        refine aw_gR hC hW g38 fl_X12_30 rfl hq38 dX12_isSo_38 ?_
        obtain ⟨g41, hf⟩ := gd_some hf
        obtain ⟨_, s41, h41, hf⟩ := ob_some hf
        refine aw_dV0 (r := q24) (As := [.ref (a q31), .ref (a q38)]) (rest := []) (ct_X1_goes l G a q24 q31 q38 s () s41 h41) hC hW hl.1 vy_X1_goes (Or.inr ⟨_, q1154⟩) g41 rfl rfl rfl rfl (Nat.le_of_ble_eq_true rfl) ⟨Nat.le_of_ble_eq_true rfl, Nat.le_of_ble_eq_true rfl⟩ ⟨Nat.le_of_ble_eq_true rfl, Nat.le_of_ble_eq_true rfl⟩ dX12_isSo_41 (fun H locs hW => ?_)
        refine lv_aload_n hx hb dX12_isSo_44 rfl (lv_at hl 0 rfl) ?_
        obtain ⟨g45, hf⟩ := gd_some hf
        obtain ⟨q45, hq45, hf⟩ := bi_some hf
        refine aw_gR hC hW g45 fl_X12_1 rfl hq45 dX12_isSo_45 ?_
        obtain ⟨g48, hf⟩ := gd_some hf
        obtain ⟨q48, hq48, hf⟩ := bi_some hf
        refine aw_gR hC hW g48 fl_X12_26 rfl hq48 dX12_isSo_48 ?_
        obtain ⟨g51, hf⟩ := gd_some hf
        refine aw_gI hC hW g51 fl_X12_38 rfl dX12_isSo_51 ?_
        refine lv_aload_n hx hb dX12_isSo_54 rfl (lv_at hl 0 rfl) ?_
        refine aw_gI hC hW g45 fl_X12_13 rfl dX12_isSo_55 ?_
        refine lv_icmp_ne (tgt := 63) hx hb dX12_isSo_58 (by decide) (fun c58 => ?_) (fun c58 => ?_)
        · have hf := ifn c58 hf
          obtain ⟨v63, ev63, hf⟩ := bnd_some hf
          refine lv_iinc (v := v63) (lv' := [(2, .int v63), (0, .ref (a r0))]) hx hb dX12_isSo_63 hl (k := 1) rfl (by rw [ev63]; rfl) (by decide) rfl (fun ls hl => ?_)
          refine lv_goto (tgt := 15) hx hb dX12_isSo_66 (by decide) ?_
          exact ih r0 v63 s41 hf _ _ _ (lv_sub hl [1, 0] rfl) hW
        · have hf := ifp c58 hf
          refine lv_iconst (v := 0) hx hb dX12_isSo_61 (by decide) ?_
          obtain ⟨e1, e2⟩ := so_inj hf
          exact aw_iret hC hW hr rfl (p_eq hP (congrArg (fun z => some (Value.int z)) e1) e2) (Nat.le_of_ble_eq_true rfl) (Nat.le_of_ble_eq_true rfl) dX12_isSo_62
  unfold f_X12_isSo at hf
  refine lv_aload_n hx hb dX12_isSo_0 rfl (lv_at hl 0 rfl) ?_
  obtain ⟨g1, hf⟩ := gd_some hf
  obtain ⟨q1, hq1, hf⟩ := bi_some hf
  refine aw_gR hC hW g1 fl_X12_1 rfl hq1 dX12_isSo_1 ?_
  refine lv_aload_n hx hb dX12_isSo_4 rfl (lv_at hl 0 rfl) ?_
  refine aw_gI hC hW g1 fl_X12_13 rfl dX12_isSo_5 ?_
  refine lv_iload_n hx hb dX12_isSo_8 rfl (lv_at hl 1 rfl) ?_
  refine lv_ineg hx hb dX12_isSo_9 ?_
  obtain ⟨g10, hf⟩ := gd_some hf
  obtain ⟨_, s10, h10, hf⟩ := ob_some hf
  refine aw_dV0 (r := q1) (As := [.int (gi s o 0), .int (-x1)]) (rest := []) (ct_X1_begin l G a q1 (gi s o 0) (-x1) s () s10 h10) hC hW hl.1 vy_X1_begin (Or.inr ⟨_, q1153⟩) g10 rfl rfl rfl rfl (Nat.le_of_ble_eq_true rfl) ⟨Nat.le_of_ble_eq_true rfl, Nat.le_of_ble_eq_true rfl⟩ ⟨Nat.le_of_ble_eq_true rfl, Nat.le_of_ble_eq_true rfl⟩ dX12_isSo_10 (fun H locs hW => ?_)
  refine lv_iconst (v := 0) hx hb dX12_isSo_13 (by decide) ?_
  refine lv_istore_n (lv' := [(2, .int 0), (0, .ref (a o)), (1, .int x1)]) hx hb dX12_isSo_14 rfl hl (by decide) rfl (fun ls hl => ?_)
  exact B15 fuel o 0 s10 hf _ _ _ (lv_sub hl [1, 0] rfl) hW
def f_X13_isSo_b85 (K30 : Nat → Int32 → ST → Option (Int32 × ST)) (r0 : Nat) (x2 : Int32) (s : ST) : Option (Int32 × ST) :=
  bnd (x2 + 1 : Int32) fun v85 =>
  K30 r0 v85 s
def f_X13_isSo_b30 : Nat → Nat → Int32 → ST → Option (Int32 × ST)
  | 0, _, _, _ => none
  | n + 1, r0, x2, s =>
  gd (r0 < s.1 ∧ (kd s r0).1 = 13) <|
  (gr s r0 1).bind fun q32 =>
  gd (q32 < s.1 ∧ (kd s q32).1 = 1) <|
  if (gi s q32 4) ≤ x2 then ((gr s r0 1).bind fun q92 =>
  (gr s r0 1).bind fun q96 =>
  gd (q96 < s.1 ∧ (kd s q96).1 = 1) <|
  (gr s q96 2).bind fun q99 =>
  (gr s r0 1).bind fun q103 =>
  gd (q103 < s.1 ∧ (kd s q103).1 = 1) <|
  (gr s q103 17).bind fun q106 =>
  gd (q92 < s.1 ∧ (kd s q92).1 = 1) <|
  ob (f_X1_goes q92 q99 q106 s) fun _ s109 =>
  gd (r0 < s109.1 ∧ (kd s109 r0).1 = 13) <|
  (gr s109 r0 1).bind fun q113 =>
  gd (q113 < s109.1 ∧ (kd s109 q113).1 = 1) <|
  (gr s109 q113 2).bind fun q116 =>
  gd (q116 < s109.1 ∧ (kd s109 q116).1 = 2) <|
  if (gi s109 q116 7) = (gi s109 r0 0) then (some (1, s109)) else some (0, s109)) else if x2 = (gi s r0 0) then (f_X13_isSo_b85 (f_X13_isSo_b30 n) r0 x2 s) else (gr s r0 1).bind fun q50 =>
  (gr s r0 1).bind fun q54 =>
  gd (q54 < s.1 ∧ (kd s q54).1 = 1) <|
  (gr s q54 2).bind fun q57 =>
  gd (q50 < s.1 ∧ (kd s q50).1 = 1) <|
  ob (f_X1_willOf q50 q57 x2 s) fun v61 s61 =>
  if v61 = 0 then (f_X13_isSo_b85 (f_X13_isSo_b30 n) r0 x2 s61) else gd (r0 < s61.1 ∧ (kd s61 r0).1 = 13) <|
  (gr s61 r0 1).bind fun q68 =>
  gd (q68 < s61.1 ∧ (kd s61 q68).1 = 1) <|
  (gr s61 q68 17).bind fun q71 =>
  gd (q71 < s61.1 ∧ (kd s61 q71).1 = 5) <|
  bnd (pI s61 q71 0 ((gi s61 q71 0) ||| (1 <<< (x2 &&& 31)))) fun s82 =>
  f_X13_isSo_b85 (f_X13_isSo_b30 n) r0 x2 s82
def f_X13_isSo (o : Nat) (x1 : Int32) (s : ST) : Option (Int32 × ST) :=
  gd (o < s.1 ∧ (kd s o).1 = 13) <|
  (gr s o 1).bind fun q1 =>
  gd (q1 < s.1 ∧ (kd s q1).1 = 1) <|
  ob (f_X1_begin q1 (gi s o 0) x1 s) fun _ s9 =>
  gd (o < s9.1 ∧ (kd s9 o).1 = 13) <|
  (gr s9 o 1).bind fun q13 =>
  gd (q13 < s9.1 ∧ (kd s9 q13).1 = 1) <|
  (gr s9 q13 17).bind fun q16 =>
  gd (q16 < s9.1 ∧ (kd s9 q16).1 = 5) <|
  bnd (pI s9 q16 0 (1 <<< ((gi s9 o 0) &&& 31))) fun s25 =>
  f_X13_isSo_b30 fuel o 0 s25
set_option maxHeartbeats 4000000 in
theorem ct_X13_isSo (l : Launch) (G : GM) (a : Nat → Nat) (o : Nat) (x1 : Int32) (s : ST) (rv : Int32) (sf : ST) (hf : f_X13_isSo o x1 s = some (rv, sf)) : MD l G yX13_isSo (ws_ yX13_isSo cX13_isSo 3 (some .boolean)) 127 [.ref (a o), .int x1] a s (some (.int rv)) sf := by
  refine md_of (d := 127) (lv := [(0, .ref (a o)), (1, .int x1)]) (Or.inl (by decide)) (Nat.le_of_ble_eq_true rfl) rfl ?_
  intro p e s0 m args below meth c ls A P hP hC hr hnm hW hl
  have hx := hC.1
  have hb := hC.2.1
  have hts := hC.2.2.2.2.1
  have B85 : ∀ (K30 : Nat → Int32 → ST → Option (Int32 × ST)) (hK30 : ∀ (r0 : Nat) (x2 : Int32) (s : ST), K30 r0 x2 s = some (rv, sf) → ∀ (H : Heap) (locs : List Loc) (ls : Array Slot), lv_has ls 3 [(0, .ref (a r0)), (2, .int x2)] → AW G a A s s0.heap H locs → WB p l e (rmD 127) s0 m args below meth c H locs G A P 30 ls []), ∀ (r0 : Nat) (x2 : Int32) (s : ST), f_X13_isSo_b85 K30 r0 x2 s = some (rv, sf) → ∀ (H : Heap) (locs : List Loc) (ls : Array Slot), lv_has ls 3 [(0, .ref (a r0)), (2, .int x2)] → AW G a A s s0.heap H locs → WB p l e (rmD 127) s0 m args below meth c H locs G A P 85 ls [] := by
    intro K30 hK30 r0 x2 s hf H locs ls hl hW
    unfold f_X13_isSo_b85 at hf
    obtain ⟨v85, ev85, hf⟩ := bnd_some hf
    refine lv_iinc (v := v85) (lv' := [(2, .int v85), (0, .ref (a r0))]) hx hb dX13_isSo_85 hl (k := 1) rfl (by rw [ev85]; rfl) (by decide) rfl (fun ls hl => ?_)
    refine lv_goto (tgt := 30) hx hb dX13_isSo_88 (by decide) ?_
    exact hK30 r0 v85 s hf _ _ _ (lv_sub hl [1, 0] rfl) hW
  have B30 : ∀ (n : Nat), ∀ (r0 : Nat) (x2 : Int32) (s : ST), f_X13_isSo_b30 n r0 x2 s = some (rv, sf) → ∀ (H : Heap) (locs : List Loc) (ls : Array Slot), lv_has ls 3 [(0, .ref (a r0)), (2, .int x2)] → AW G a A s s0.heap H locs → WB p l e (rmD 127) s0 m args below meth c H locs G A P 30 ls [] := by
    intro n
    induction n with
    | zero => intro r0 x2 s hf; cases hf
    | succ n ih =>
      intro r0 x2 s hf H locs ls hl hW
      rw [f_X13_isSo_b30] at hf
      refine lv_iload_n hx hb dX13_isSo_30 rfl (lv_at hl 1 rfl) ?_
      refine lv_aload_n hx hb dX13_isSo_31 rfl (lv_at hl 0 rfl) ?_
      obtain ⟨g32, hf⟩ := gd_some hf
      obtain ⟨q32, hq32, hf⟩ := bi_some hf
      refine aw_gR hC hW g32 fl_X13_1 rfl hq32 dX13_isSo_32 ?_
      obtain ⟨g35, hf⟩ := gd_some hf
      refine aw_gI hC hW g35 fl_X13_32 rfl dX13_isSo_35 ?_
      refine lv_icmp_ge (tgt := 91) hx hb dX13_isSo_38 (by decide) (fun c38 => ?_) (fun c38 => ?_)
      · have hf := ifp c38 hf
        refine lv_aload_n hx hb dX13_isSo_91 rfl (lv_at hl 0 rfl) ?_
        obtain ⟨q92, hq92, hf⟩ := bi_some hf
        refine aw_gR hC hW g32 fl_X13_1 rfl hq92 dX13_isSo_92 ?_
        refine lv_aload_n hx hb dX13_isSo_95 rfl (lv_at hl 0 rfl) ?_
        obtain ⟨q96, hq96, hf⟩ := bi_some hf
        refine aw_gR hC hW g32 fl_X13_1 rfl hq96 dX13_isSo_96 ?_
        obtain ⟨g99, hf⟩ := gd_some hf
        obtain ⟨q99, hq99, hf⟩ := bi_some hf
        refine aw_gR hC hW g99 fl_X13_35 rfl hq99 dX13_isSo_99 ?_
        refine lv_aload_n hx hb dX13_isSo_102 rfl (lv_at hl 0 rfl) ?_
        obtain ⟨q103, hq103, hf⟩ := bi_some hf
        refine aw_gR hC hW g32 fl_X13_1 rfl hq103 dX13_isSo_103 ?_
        obtain ⟨g106, hf⟩ := gd_some hf
        obtain ⟨q106, hq106, hf⟩ := bi_some hf
        refine aw_gR hC hW g106 fl_X13_23 rfl hq106 dX13_isSo_106 ?_
        obtain ⟨g109, hf⟩ := gd_some hf
        obtain ⟨_, s109, h109, hf⟩ := ob_some hf
        refine aw_dV0 (r := q92) (As := [.ref (a q99), .ref (a q106)]) (rest := []) (ct_X1_goes l G a q92 q99 q106 s () s109 h109) hC hW hl.1 vy_X1_goes (Or.inr ⟨_, q1163⟩) g109 rfl rfl rfl rfl (Nat.le_of_ble_eq_true rfl) ⟨Nat.le_of_ble_eq_true rfl, Nat.le_of_ble_eq_true rfl⟩ ⟨Nat.le_of_ble_eq_true rfl, Nat.le_of_ble_eq_true rfl⟩ dX13_isSo_109 (fun H locs hW => ?_)
        refine lv_aload_n hx hb dX13_isSo_112 rfl (lv_at hl 0 rfl) ?_
        obtain ⟨g113, hf⟩ := gd_some hf
        obtain ⟨q113, hq113, hf⟩ := bi_some hf
        refine aw_gR hC hW g113 fl_X13_1 rfl hq113 dX13_isSo_113 ?_
        obtain ⟨g116, hf⟩ := gd_some hf
        obtain ⟨q116, hq116, hf⟩ := bi_some hf
        refine aw_gR hC hW g116 fl_X13_35 rfl hq116 dX13_isSo_116 ?_
        obtain ⟨g119, hf⟩ := gd_some hf
        refine aw_gI hC hW g119 fl_X13_47 rfl dX13_isSo_119 ?_
        refine lv_aload_n hx hb dX13_isSo_122 rfl (lv_at hl 0 rfl) ?_
        refine aw_gI hC hW g113 fl_X13_13 rfl dX13_isSo_123 ?_
        refine lv_icmp_ne (tgt := 133) hx hb dX13_isSo_126 (by decide) (fun c126 => ?_) (fun c126 => ?_)
        · have hf := ifn c126 hf
          refine lv_iconst (v := 0) hx hb dX13_isSo_133 (by decide) ?_
          obtain ⟨e1, e2⟩ := so_inj hf
          exact aw_iret hC hW hr rfl (p_eq hP (congrArg (fun z => some (Value.int z)) e1) e2) (Nat.le_of_ble_eq_true rfl) (Nat.le_of_ble_eq_true rfl) dX13_isSo_134
        · have hf := ifp c126 hf
          refine lv_iconst (v := 1) hx hb dX13_isSo_129 (by decide) ?_
          refine lv_goto (tgt := 134) hx hb dX13_isSo_130 (by decide) ?_
          obtain ⟨e1, e2⟩ := so_inj hf
          exact aw_iret hC hW hr rfl (p_eq hP (congrArg (fun z => some (Value.int z)) e1) e2) (Nat.le_of_ble_eq_true rfl) (Nat.le_of_ble_eq_true rfl) dX13_isSo_134
      · have hf := ifn c38 hf
        refine lv_iload_n hx hb dX13_isSo_41 rfl (lv_at hl 1 rfl) ?_
        refine lv_aload_n hx hb dX13_isSo_42 rfl (lv_at hl 0 rfl) ?_
        refine aw_gI hC hW g32 fl_X13_13 rfl dX13_isSo_43 ?_
        refine lv_icmp_eq (tgt := 85) hx hb dX13_isSo_46 (by decide) (fun c46 => ?_) (fun c46 => ?_)
        · have hf := ifp c46 hf
          exact B85 (f_X13_isSo_b30 n) ih r0 x2 s hf _ _ _ (lv_sub hl [0, 1] rfl) hW
        · have hf := ifn c46 hf
          refine lv_aload_n hx hb dX13_isSo_49 rfl (lv_at hl 0 rfl) ?_
          obtain ⟨q50, hq50, hf⟩ := bi_some hf
          refine aw_gR hC hW g32 fl_X13_1 rfl hq50 dX13_isSo_50 ?_
          refine lv_aload_n hx hb dX13_isSo_53 rfl (lv_at hl 0 rfl) ?_
          obtain ⟨q54, hq54, hf⟩ := bi_some hf
          refine aw_gR hC hW g32 fl_X13_1 rfl hq54 dX13_isSo_54 ?_
          obtain ⟨g57, hf⟩ := gd_some hf
          obtain ⟨q57, hq57, hf⟩ := bi_some hf
          refine aw_gR hC hW g57 fl_X13_35 rfl hq57 dX13_isSo_57 ?_
          refine lv_iload_n hx hb dX13_isSo_60 rfl (lv_at hl 1 rfl) ?_
          obtain ⟨g61, hf⟩ := gd_some hf
          obtain ⟨v61, s61, h61, hf⟩ := ob_some hf
          refine aw_dV1 (r := q50) (As := [.ref (a q57), .int x2]) (rest := []) (ct_X1_willOf l G a q50 q57 x2 s v61 s61 h61) hC hW hl.1 vy_X1_willOf (Or.inr ⟨_, q1162⟩) g61 rfl rfl rfl rfl (Nat.le_of_ble_eq_true rfl) ⟨Nat.le_of_ble_eq_true rfl, Nat.le_of_ble_eq_true rfl⟩ ⟨Nat.le_of_ble_eq_true rfl, Nat.le_of_ble_eq_true rfl⟩ dX13_isSo_61 (fun H locs hW => ?_)
          refine lv_if_eq (tgt := 85) hx hb dX13_isSo_64 (by decide) (fun c64 => ?_) (fun c64 => ?_)
          · have hf := ifp c64 hf
            exact B85 (f_X13_isSo_b30 n) ih r0 x2 s61 hf _ _ _ (lv_sub hl [0, 1] rfl) hW
          · have hf := ifn c64 hf
            refine lv_aload_n hx hb dX13_isSo_67 rfl (lv_at hl 0 rfl) ?_
            obtain ⟨g68, hf⟩ := gd_some hf
            obtain ⟨q68, hq68, hf⟩ := bi_some hf
            refine aw_gR hC hW g68 fl_X13_1 rfl hq68 dX13_isSo_68 ?_
            obtain ⟨g71, hf⟩ := gd_some hf
            obtain ⟨q71, hq71, hf⟩ := bi_some hf
            refine aw_gR hC hW g71 fl_X13_23 rfl hq71 dX13_isSo_71 ?_
            refine lv_dup hx hb dX13_isSo_74 rfl ?_
            obtain ⟨g75, hf⟩ := gd_some hf
            refine aw_gI hC hW g75 fl_X13_27 rfl dX13_isSo_75 ?_
            refine lv_iconst (v := 1) hx hb dX13_isSo_78 (by decide) ?_
            refine lv_iload_n hx hb dX13_isSo_79 rfl (lv_at hl 1 rfl) ?_
            refine lv_ishl hx hb dX13_isSo_80 ?_
            refine lv_ior hx hb dX13_isSo_81 ?_
            obtain ⟨s82, e82, hf⟩ := bnd_some hf
            refine aw_pI e82 hC hW g75 fl_X13_27 (Or.inl fn_4_0) rfl rfl rfl dX13_isSo_82 (fun H locs hW => ?_)
            have g68 := ko_pI e82 g68
            have g71 := ko_pI e82 g71
            have g75 := ko_pI e82 g75
            exact B85 (f_X13_isSo_b30 n) ih r0 x2 s82 hf _ _ _ (lv_sub hl [0, 1] rfl) hW
  unfold f_X13_isSo at hf
  refine lv_aload_n hx hb dX13_isSo_0 rfl (lv_at hl 0 rfl) ?_
  obtain ⟨g1, hf⟩ := gd_some hf
  obtain ⟨q1, hq1, hf⟩ := bi_some hf
  refine aw_gR hC hW g1 fl_X13_1 rfl hq1 dX13_isSo_1 ?_
  refine lv_aload_n hx hb dX13_isSo_4 rfl (lv_at hl 0 rfl) ?_
  refine aw_gI hC hW g1 fl_X13_13 rfl dX13_isSo_5 ?_
  refine lv_iload_n hx hb dX13_isSo_8 rfl (lv_at hl 1 rfl) ?_
  obtain ⟨g9, hf⟩ := gd_some hf
  obtain ⟨_, s9, h9, hf⟩ := ob_some hf
  refine aw_dV0 (r := q1) (As := [.int (gi s o 0), .int x1]) (rest := []) (ct_X1_begin l G a q1 (gi s o 0) x1 s () s9 h9) hC hW hl.1 vy_X1_begin (Or.inr ⟨_, q1161⟩) g9 rfl rfl rfl rfl (Nat.le_of_ble_eq_true rfl) ⟨Nat.le_of_ble_eq_true rfl, Nat.le_of_ble_eq_true rfl⟩ ⟨Nat.le_of_ble_eq_true rfl, Nat.le_of_ble_eq_true rfl⟩ dX13_isSo_9 (fun H locs hW => ?_)
  refine lv_aload_n hx hb dX13_isSo_12 rfl (lv_at hl 0 rfl) ?_
  obtain ⟨g13, hf⟩ := gd_some hf
  obtain ⟨q13, hq13, hf⟩ := bi_some hf
  refine aw_gR hC hW g13 fl_X13_1 rfl hq13 dX13_isSo_13 ?_
  obtain ⟨g16, hf⟩ := gd_some hf
  obtain ⟨q16, hq16, hf⟩ := bi_some hf
  refine aw_gR hC hW g16 fl_X13_23 rfl hq16 dX13_isSo_16 ?_
  refine lv_iconst (v := 1) hx hb dX13_isSo_19 (by decide) ?_
  refine lv_aload_n hx hb dX13_isSo_20 rfl (lv_at hl 0 rfl) ?_
  refine aw_gI hC hW g13 fl_X13_13 rfl dX13_isSo_21 ?_
  refine lv_ishl hx hb dX13_isSo_24 ?_
  obtain ⟨g25, hf⟩ := gd_some hf
  obtain ⟨s25, e25, hf⟩ := bnd_some hf
  refine aw_pI e25 hC hW g25 fl_X13_27 (Or.inl fn_4_0) rfl rfl rfl dX13_isSo_25 (fun H locs hW => ?_)
  have g13 := ko_pI e25 g13
  have g16 := ko_pI e25 g16
  have g25 := ko_pI e25 g25
  refine lv_iconst (v := 0) hx hb dX13_isSo_28 (by decide) ?_
  refine lv_istore_n (lv' := [(2, .int 0), (0, .ref (a o)), (1, .int x1)]) hx hb dX13_isSo_29 rfl hl (by decide) rfl (fun ls hl => ?_)
  exact B30 fuel o 0 s25 hf _ _ _ (lv_sub hl [1, 0] rfl) hW
def f_X1_byTurns (o : Nat) (x1 : Int32) (x2 : Int32) (s : ST) : Option (Int32 × ST) :=
  bnd (p_in ((x1 : Int32).toInt64) 0 3) fun v6 =>
  if v6 = 0 then (some ((-1), s)) else bnd (p_in ((x2 : Int32).toInt64) 0 99) fun v18 =>
  if v18 = 0 then (some ((-1), s)) else gd (o < s.1 ∧ (kd s o).1 = 1) <|
  (gr s o 20).bind fun q27 =>
  gd (q27 < s.1 ∧ (kd s q27).1 = 8) <|
  bnd (pI s q27 0 x1) fun s31 =>
  (gr s31 o 20).bind fun q35 =>
  (gr s31 o 1).bind fun q39 =>
  gd (q39 < s31.1 ∧ (kd s31 q39).1 = 2) <|
  gd (q35 < s31.1 ∧ (kd s31 q35).1 = 8) <|
  bnd (pI s31 q35 1 (gi s31 q39 9)) fun s45 =>
  (gr s45 o 20).bind fun q51 =>
  ob (f_X1_partiesBy o x2 q51 s45) fun _ s54 =>
  gd (o < s54.1 ∧ (kd s54 o).1 = 1) <|
  (gr s54 o 24).bind fun q58 =>
  gd (q58 < s54.1 ∧ (kd s54 q58).1 = 100 ∧ ¬ ((x1 : Int32) < 0 ∨ (kd s54 q58).2 ≤ (x1 : Int32).toNatClampNeg)) <|
  bnd ((gi s54 q58 (x1 : Int32).toNatClampNeg) : Int32) fun v63 =>
  (gr s54 o 16).bind fun q67 =>
  ob (f_X1_partiesBy o x2 q67 s54) fun _ s70 =>
  gd (o < s70.1 ∧ (kd s70 o).1 = 1) <|
  bnd (pI s70 o 12 0) fun s75 =>
  (gr s75 o 24).bind fun q81 =>
  gd (q81 < s75.1 ∧ (kd s75 q81).1 = 100 ∧ ¬ ((x1 : Int32) < 0 ∨ (kd s75 q81).2 ≤ (x1 : Int32).toNatClampNeg)) <|
  ob (f_X1_tell o (((v63 - (gi s75 q81 (x1 : Int32).toNatClampNeg)) : Int32).toInt64) s75) fun _ s88 =>
  some (v63, s88)
set_option maxHeartbeats 4000000 in
theorem ct_X1_byTurns (l : Launch) (G : GM) (a : Nat → Nat) (o : Nat) (x1 : Int32) (x2 : Int32) (s : ST) (rv : Int32) (sf : ST) (hf : f_X1_byTurns o x1 x2 s = some (rv, sf)) : MD l G yX1_byTurns (ws_ yX1_byTurns cX1_byTurns 4 (some .int)) 128 [.ref (a o), .int x1, .int x2] a s (some (.int rv)) sf := by
  refine md_of (d := 128) (lv := [(0, .ref (a o)), (1, .int x1), (2, .int x2)]) (Or.inl (by decide)) (Nat.le_of_ble_eq_true rfl) rfl ?_
  intro p e s0 m args below meth c ls A P hP hC hr hnm hW hl
  have hx := hC.1
  have hb := hC.2.1
  have hts := hC.2.2.2.2.1
  unfold f_X1_byTurns at hf
  refine lv_iload_n hx hb dX1_byTurns_0 rfl (lv_at hl 1 rfl) ?_
  refine lv_i2l (v := (x1 : Int32).toInt64) hx hb dX1_byTurns_1 rfl ?_
  refine lv_lconst (v := 0) hx hb dX1_byTurns_2 (by decide) ?_
  refine lv_ldc2 (v := 3) hx hb hC.2.2.2.1 (hts _ q858) dX1_byTurns_3 ?_
  obtain ⟨v6, ev6, hf⟩ := bnd_some hf
  refine aw_dS1 (As := [.long ((x1 : Int32).toInt64), .long 0, .long 3]) (rest := []) (pc_X1_in l G a ((x1 : Int32).toInt64) 0 3 s) hC hW hl.1 sy_X1_in (Or.inl q514) rfl rfl (Nat.le_of_ble_eq_true rfl) ⟨Nat.le_of_ble_eq_true rfl, Nat.le_of_ble_eq_true rfl⟩ ⟨Nat.le_of_ble_eq_true rfl, Nat.le_of_ble_eq_true rfl⟩ dX1_byTurns_6 (fun H locs hW => ?_)
  refine top_i ev6 ?_
  refine lv_if_eq (tgt := 24) hx hb dX1_byTurns_9 (by decide) (fun c9 => ?_) (fun c9 => ?_)
  · have hf := ifp c9 hf
    refine lv_iconst (v := (-1)) hx hb dX1_byTurns_24 (by decide) ?_
    obtain ⟨e1, e2⟩ := so_inj hf
    exact aw_iret hC hW hr rfl (p_eq hP (congrArg (fun z => some (Value.int z)) e1) e2) (Nat.le_of_ble_eq_true rfl) (Nat.le_of_ble_eq_true rfl) dX1_byTurns_25
  · have hf := ifn c9 hf
    refine lv_iload_n hx hb dX1_byTurns_12 rfl (lv_at hl 2 rfl) ?_
    refine lv_i2l (v := (x2 : Int32).toInt64) hx hb dX1_byTurns_13 rfl ?_
    refine lv_lconst (v := 0) hx hb dX1_byTurns_14 (by decide) ?_
    refine lv_ldc2 (v := 99) hx hb hC.2.2.2.1 (hts _ q1021) dX1_byTurns_15 ?_
    obtain ⟨v18, ev18, hf⟩ := bnd_some hf
    refine aw_dS1 (As := [.long ((x2 : Int32).toInt64), .long 0, .long 99]) (rest := []) (pc_X1_in l G a ((x2 : Int32).toInt64) 0 99 s) hC hW hl.1 sy_X1_in (Or.inl q514) rfl rfl (Nat.le_of_ble_eq_true rfl) ⟨Nat.le_of_ble_eq_true rfl, Nat.le_of_ble_eq_true rfl⟩ ⟨Nat.le_of_ble_eq_true rfl, Nat.le_of_ble_eq_true rfl⟩ dX1_byTurns_18 (fun H locs hW => ?_)
    refine top_i ev18 ?_
    refine lv_if_ne (tgt := 26) hx hb dX1_byTurns_21 (by decide) (fun c21 => ?_) (fun c21 => ?_)
    · have hf := ifn c21 hf
      refine lv_aload_n hx hb dX1_byTurns_26 rfl (lv_at hl 0 rfl) ?_
      obtain ⟨g27, hf⟩ := gd_some hf
      obtain ⟨q27, hq27, hf⟩ := bi_some hf
      refine aw_gR hC hW g27 fl_X1_82 rfl hq27 dX1_byTurns_27 ?_
      refine lv_iload_n hx hb dX1_byTurns_30 rfl (lv_at hl 1 rfl) ?_
      obtain ⟨g31, hf⟩ := gd_some hf
      obtain ⟨s31, e31, hf⟩ := bnd_some hf
      refine aw_pI e31 hC hW g31 fl_X1_451 (Or.inl fn_7_0) rfl rfl rfl dX1_byTurns_31 (fun H locs hW => ?_)
      have g27 := ko_pI e31 g27
      have g31 := ko_pI e31 g31
      refine lv_aload_n hx hb dX1_byTurns_34 rfl (lv_at hl 0 rfl) ?_
      obtain ⟨q35, hq35, hf⟩ := bi_some hf
      refine aw_gR hC hW g27 fl_X1_82 rfl hq35 dX1_byTurns_35 ?_
      refine lv_aload_n hx hb dX1_byTurns_38 rfl (lv_at hl 0 rfl) ?_
      obtain ⟨q39, hq39, hf⟩ := bi_some hf
      refine aw_gR hC hW g27 fl_X1_18 rfl hq39 dX1_byTurns_39 ?_
      obtain ⟨g42, hf⟩ := gd_some hf
      refine aw_gI hC hW g42 fl_X1_348 rfl dX1_byTurns_42 ?_
      obtain ⟨g45, hf⟩ := gd_some hf
      obtain ⟨s45, e45, hf⟩ := bnd_some hf
      refine aw_pI e45 hC hW g45 fl_X1_452 (Or.inl fn_7_1) rfl rfl rfl dX1_byTurns_45 (fun H locs hW => ?_)
      have g27 := ko_pI e45 g27
      have g31 := ko_pI e45 g31
      have g42 := ko_pI e45 g42
      have g45 := ko_pI e45 g45
      refine lv_aload_n hx hb dX1_byTurns_48 rfl (lv_at hl 0 rfl) ?_
      refine lv_iload_n hx hb dX1_byTurns_49 rfl (lv_at hl 2 rfl) ?_
      refine lv_aload_n hx hb dX1_byTurns_50 rfl (lv_at hl 0 rfl) ?_
      obtain ⟨q51, hq51, hf⟩ := bi_some hf
      refine aw_gR hC hW g27 fl_X1_82 rfl hq51 dX1_byTurns_51 ?_
      obtain ⟨_, s54, h54, hf⟩ := ob_some hf
      refine aw_dV0 (r := o) (As := [.int x2, .ref (a q51)]) (rest := []) (ct_X1_partiesBy l G a o x2 q51 s45 () s54 h54) hC hW hl.1 vy_X1_partiesBy (Or.inl q1108) g27 rfl rfl rfl rfl (Nat.le_of_ble_eq_true rfl) ⟨Nat.le_of_ble_eq_true rfl, Nat.le_of_ble_eq_true rfl⟩ ⟨Nat.le_of_ble_eq_true rfl, Nat.le_of_ble_eq_true rfl⟩ dX1_byTurns_54 (fun H locs hW => ?_)
      refine lv_aload_n hx hb dX1_byTurns_57 rfl (lv_at hl 0 rfl) ?_
      obtain ⟨g58, hf⟩ := gd_some hf
      obtain ⟨q58, hq58, hf⟩ := bi_some hf
      refine aw_gR hC hW g58 fl_X1_89 rfl hq58 dX1_byTurns_58 ?_
      refine lv_iload_n hx hb dX1_byTurns_61 rfl (lv_at hl 1 rfl) ?_
      obtain ⟨g62, hf⟩ := gd_some hf
      refine aw_iald hC hW g62 dX1_byTurns_62 ?_
      obtain ⟨v63, ev63, hf⟩ := bnd_some hf
      refine top_i ev63 ?_
      refine lv_istore_n (lv' := [(3, .int v63), (0, .ref (a o)), (1, .int x1), (2, .int x2)]) hx hb dX1_byTurns_63 rfl hl (by decide) rfl (fun ls hl => ?_)
      refine lv_aload_n hx hb dX1_byTurns_64 rfl (lv_at hl 1 rfl) ?_
      refine lv_iload_n hx hb dX1_byTurns_65 rfl (lv_at hl 3 rfl) ?_
      refine lv_aload_n hx hb dX1_byTurns_66 rfl (lv_at hl 1 rfl) ?_
      obtain ⟨q67, hq67, hf⟩ := bi_some hf
      refine aw_gR hC hW g58 fl_X1_54 rfl hq67 dX1_byTurns_67 ?_
      obtain ⟨_, s70, h70, hf⟩ := ob_some hf
      refine aw_dV0 (r := o) (As := [.int x2, .ref (a q67)]) (rest := []) (ct_X1_partiesBy l G a o x2 q67 s54 () s70 h70) hC hW hl.1 vy_X1_partiesBy (Or.inl q1108) g58 rfl rfl rfl rfl (Nat.le_of_ble_eq_true rfl) ⟨Nat.le_of_ble_eq_true rfl, Nat.le_of_ble_eq_true rfl⟩ ⟨Nat.le_of_ble_eq_true rfl, Nat.le_of_ble_eq_true rfl⟩ dX1_byTurns_70 (fun H locs hW => ?_)
      refine lv_aload_n hx hb dX1_byTurns_73 rfl (lv_at hl 1 rfl) ?_
      refine lv_iconst (v := 0) hx hb dX1_byTurns_74 (by decide) ?_
      obtain ⟨g75, hf⟩ := gd_some hf
      obtain ⟨s75, e75, hf⟩ := bnd_some hf
      refine aw_pI e75 hC hW g75 fl_X1_154 (Or.inl fn_0_12) rfl rfl rfl dX1_byTurns_75 (fun H locs hW => ?_)
      have g75 := ko_pI e75 g75
      refine lv_aload_n hx hb dX1_byTurns_78 rfl (lv_at hl 1 rfl) ?_
      refine lv_iload_n hx hb dX1_byTurns_79 rfl (lv_at hl 0 rfl) ?_
      refine lv_aload_n hx hb dX1_byTurns_80 rfl (lv_at hl 1 rfl) ?_
      obtain ⟨q81, hq81, hf⟩ := bi_some hf
      refine aw_gR hC hW g75 fl_X1_89 rfl hq81 dX1_byTurns_81 ?_
      refine lv_iload_n hx hb dX1_byTurns_84 rfl (lv_at hl 2 rfl) ?_
      obtain ⟨g85, hf⟩ := gd_some hf
      refine aw_iald hC hW g85 dX1_byTurns_85 ?_
      refine lv_isub hx hb dX1_byTurns_86 ?_
      refine lv_i2l (v := ((v63 - (gi s75 q81 (x1 : Int32).toNatClampNeg)) : Int32).toInt64) hx hb dX1_byTurns_87 rfl ?_
      obtain ⟨_, s88, h88, hf⟩ := ob_some hf
      refine aw_dV0 (r := o) (As := [.long (((v63 - (gi s75 q81 (x1 : Int32).toNatClampNeg)) : Int32).toInt64)]) (rest := []) (ct_X1_tell l G a o (((v63 - (gi s75 q81 (x1 : Int32).toNatClampNeg)) : Int32).toInt64) s75 () s88 h88) hC hW hl.1 vy_X1_tell (Or.inl q1013) g75 rfl rfl rfl rfl (Nat.le_of_ble_eq_true rfl) ⟨Nat.le_of_ble_eq_true rfl, Nat.le_of_ble_eq_true rfl⟩ ⟨Nat.le_of_ble_eq_true rfl, Nat.le_of_ble_eq_true rfl⟩ dX1_byTurns_88 (fun H locs hW => ?_)
      refine lv_iload_n hx hb dX1_byTurns_91 rfl (lv_at hl 0 rfl) ?_
      obtain ⟨e1, e2⟩ := so_inj hf
      exact aw_iret hC hW hr rfl (p_eq hP (congrArg (fun z => some (Value.int z)) e1) e2) (Nat.le_of_ble_eq_true rfl) (Nat.le_of_ble_eq_true rfl) dX1_byTurns_92
    · have hf := ifp c21 hf
      refine lv_iconst (v := (-1)) hx hb dX1_byTurns_24 (by decide) ?_
      obtain ⟨e1, e2⟩ := so_inj hf
      exact aw_iret hC hW hr rfl (p_eq hP (congrArg (fun z => some (Value.int z)) e1) e2) (Nat.le_of_ble_eq_true rfl) (Nat.le_of_ble_eq_true rfl) dX1_byTurns_25
def f_X1_ever_b114 (K71 : Nat → Int32 → Int32 → Int32 → Int32 → Int32 → Int32 → ST → Option (Int32 × ST)) (r0 : Nat) (x1 : Int32) (x2 : Int32) (x3 : Int32) (x5 : Int32) (x6 : Int32) (x7 : Int32) (s : ST) : Option (Int32 × ST) :=
  bnd (x7 + 1 : Int32) fun v114 =>
  K71 r0 x1 x2 x3 x5 x6 v114 s
def f_X1_ever_b71 (K59 : Nat → Int32 → Int32 → Int32 → Int32 → Int32 → ST → Option (Int32 × ST)) : Nat → Nat → Int32 → Int32 → Int32 → Int32 → Int32 → Int32 → ST → Option (Int32 × ST)
  | 0, _, _, _, _, _, _, _, _ => none
  | n + 1, r0, x1, x2, x3, x5, x6, x7, s =>
  gd (r0 < s.1 ∧ (kd s r0).1 = 1) <|
  if (gi s r0 4) ≤ x7 then (bnd ((x6 &&& 255) : Int32) fun v128 =>
  bnd ((x3 ||| v128) : Int32) fun v134 =>
  (gr s r0 17).bind fun q136 =>
  gd (q136 < s.1 ∧ (kd s q136).1 = 5) <|
  bnd (pI s q136 0 0) fun s140 =>
  (gr s140 r0 2).bind fun q145 =>
  (gr s140 r0 17).bind fun q149 =>
  ob (f_X1_goes r0 q145 q149 s140) fun _ s152 =>
  bnd (x5 + 1 : Int32) fun v155 =>
  K59 r0 x1 x6 v134 v128 v155 s152) else (gr s r0 1).bind fun q81 =>
  gd (q81 < s.1 ∧ (kd s q81).1 = 2) <|
  bnd (p_has (gi s q81 6) x7) fun v89 =>
  if v89 = 0 then (f_X1_ever_b114 (f_X1_ever_b71 K59 n) r0 x1 x2 x3 x5 x6 x7 s) else ob (f_X1_canFollow r0 x7 x2 s) fun v99 s99 =>
  if v99 = 0 then (f_X1_ever_b114 (f_X1_ever_b71 K59 n) r0 x1 x2 x3 x5 x6 x7 s99) else bnd ((x6 ||| (1 <<< (x7 &&& 31))) : Int32) fun v112 =>
  f_X1_ever_b114 (f_X1_ever_b71 K59 n) r0 x1 x2 x3 x5 v112 x7 s99
def f_X1_ever_b59 : Nat → Nat → Int32 → Int32 → Int32 → Int32 → Int32 → ST → Option (Int32 × ST)
  | 0, _, _, _, _, _, _, _ => none
  | n + 1, r0, x1, x2, x3, x4, x5, s =>
  if x1 ≤ x5 then (gd (r0 < s.1 ∧ (kd s r0).1 = 1) <|
  bnd (pI s r0 12 0) fun s163 =>
  ob (f_X1_tell r0 ((x4 : Int32).toInt64) s163) fun _ s170 =>
  some (x3, s170)) else f_X1_ever_b71 (f_X1_ever_b59 n) fuel r0 x1 x2 x3 x5 x2 0 s
def f_X1_ever_b38 (r0 : Nat) (x1 : Int32) (t0 : Int32) (t1 : Int32) (s : ST) : Option (Int32 × ST) :=
  bnd ((t1 <<< (t0 &&& 31)) : Int32) fun v39 =>
  gd (r0 < s.1 ∧ (kd s r0).1 = 1) <|
  (gr s r0 2).bind fun q46 =>
  (gr s r0 1).bind fun q50 =>
  gd (q46 < s.1 ∧ (kd s q46).1 = 2) <|
  ob (f_X2_be q46 q50 s) fun _ s53 =>
  f_X1_ever_b59 fuel r0 x1 v39 0 0 0 s53
def f_X1_ever (o : Nat) (x1 : Int32) (s : ST) : Option (Int32 × ST) :=
  bnd (p_in ((x1 : Int32).toInt64) 0 12) fun v6 =>
  if v6 = 0 then (some ((-1), s)) else gd (o < s.1 ∧ (kd s o).1 = 1) <|
  (gr s o 1).bind fun q16 =>
  gd (q16 < s.1 ∧ (kd s q16).1 = 2) <|
  if (gi s q16 7) = (-1) then (f_X1_ever_b38 o x1 8 1 s) else (gr s o 1).bind fun q32 =>
  gd (q32 < s.1 ∧ (kd s q32).1 = 2) <|
  f_X1_ever_b38 o x1 (gi s q32 7) 1 s
set_option maxHeartbeats 4000000 in
theorem ct_X1_ever (l : Launch) (G : GM) (a : Nat → Nat) (o : Nat) (x1 : Int32) (s : ST) (rv : Int32) (sf : ST) (hf : f_X1_ever o x1 s = some (rv, sf)) : MD l G yX1_ever (ws_ yX1_ever cX1_ever 8 (some .int)) 127 [.ref (a o), .int x1] a s (some (.int rv)) sf := by
  refine md_of (d := 127) (lv := [(0, .ref (a o)), (1, .int x1)]) (Or.inl (by decide)) (Nat.le_of_ble_eq_true rfl) rfl ?_
  intro p e s0 m args below meth c ls A P hP hC hr hnm hW hl
  have hx := hC.1
  have hb := hC.2.1
  have hts := hC.2.2.2.2.1
  have B114 : ∀ (K71 : Nat → Int32 → Int32 → Int32 → Int32 → Int32 → Int32 → ST → Option (Int32 × ST)) (hK71 : ∀ (r0 : Nat) (x1 : Int32) (x2 : Int32) (x3 : Int32) (x5 : Int32) (x6 : Int32) (x7 : Int32) (s : ST), K71 r0 x1 x2 x3 x5 x6 x7 s = some (rv, sf) → ∀ (H : Heap) (locs : List Loc) (ls : Array Slot), lv_has ls 8 [(0, .ref (a r0)), (1, .int x1), (2, .int x2), (3, .int x3), (5, .int x5), (6, .int x6), (7, .int x7)] → AW G a A s s0.heap H locs → WB p l e (rmD 127) s0 m args below meth c H locs G A P 71 ls []), ∀ (r0 : Nat) (x1 : Int32) (x2 : Int32) (x3 : Int32) (x5 : Int32) (x6 : Int32) (x7 : Int32) (s : ST), f_X1_ever_b114 K71 r0 x1 x2 x3 x5 x6 x7 s = some (rv, sf) → ∀ (H : Heap) (locs : List Loc) (ls : Array Slot), lv_has ls 8 [(0, .ref (a r0)), (1, .int x1), (2, .int x2), (3, .int x3), (5, .int x5), (6, .int x6), (7, .int x7)] → AW G a A s s0.heap H locs → WB p l e (rmD 127) s0 m args below meth c H locs G A P 114 ls [] := by
    intro K71 hK71 r0 x1 x2 x3 x5 x6 x7 s hf H locs ls hl hW
    unfold f_X1_ever_b114 at hf
    obtain ⟨v114, ev114, hf⟩ := bnd_some hf
    refine lv_iinc (v := v114) (lv' := [(7, .int v114), (0, .ref (a r0)), (1, .int x1), (2, .int x2), (3, .int x3), (5, .int x5), (6, .int x6)]) hx hb dX1_ever_114 hl (k := 6) rfl (by rw [ev114]; rfl) (by decide) rfl (fun ls hl => ?_)
    refine lv_goto (tgt := 71) hx hb dX1_ever_117 (by decide) ?_
    exact hK71 r0 x1 x2 x3 x5 x6 v114 s hf _ _ _ (lv_sub hl [1, 2, 3, 4, 5, 6, 0] rfl) hW
  have B71 : ∀ (K59 : Nat → Int32 → Int32 → Int32 → Int32 → Int32 → ST → Option (Int32 × ST)) (hK59 : ∀ (r0 : Nat) (x1 : Int32) (x2 : Int32) (x3 : Int32) (x4 : Int32) (x5 : Int32) (s : ST), K59 r0 x1 x2 x3 x4 x5 s = some (rv, sf) → ∀ (H : Heap) (locs : List Loc) (ls : Array Slot), lv_has ls 8 [(0, .ref (a r0)), (1, .int x1), (2, .int x2), (3, .int x3), (4, .int x4), (5, .int x5)] → AW G a A s s0.heap H locs → WB p l e (rmD 127) s0 m args below meth c H locs G A P 59 ls []), ∀ (n : Nat), ∀ (r0 : Nat) (x1 : Int32) (x2 : Int32) (x3 : Int32) (x5 : Int32) (x6 : Int32) (x7 : Int32) (s : ST), f_X1_ever_b71 K59 n r0 x1 x2 x3 x5 x6 x7 s = some (rv, sf) → ∀ (H : Heap) (locs : List Loc) (ls : Array Slot), lv_has ls 8 [(0, .ref (a r0)), (1, .int x1), (2, .int x2), (3, .int x3), (5, .int x5), (6, .int x6), (7, .int x7)] → AW G a A s s0.heap H locs → WB p l e (rmD 127) s0 m args below meth c H locs G A P 71 ls [] := by
    intro K59 hK59
    intro n
    induction n with
    | zero => intro r0 x1 x2 x3 x5 x6 x7 s hf; cases hf
    | succ n ih =>
      intro r0 x1 x2 x3 x5 x6 x7 s hf H locs ls hl hW
      rw [f_X1_ever_b71] at hf
      refine lv_iload hx hb dX1_ever_71 (lv_at hl 6 rfl) ?_
      refine lv_aload_n hx hb dX1_ever_73 rfl (lv_at hl 0 rfl) ?_
      obtain ⟨g74, hf⟩ := gd_some hf
      refine aw_gI hC hW g74 fl_X1_157 rfl dX1_ever_74 ?_
      refine lv_icmp_ge (tgt := 120) hx hb dX1_ever_77 (by decide) (fun c77 => ?_) (fun c77 => ?_)
      · have hf := ifp c77 hf
        refine lv_iload hx hb dX1_ever_120 (lv_at hl 5 rfl) ?_
        refine lv_istore_n (lv' := [(2, .int x6), (0, .ref (a r0)), (1, .int x1), (3, .int x3), (5, .int x5), (6, .int x6), (7, .int x7)]) hx hb dX1_ever_122 rfl hl (by decide) rfl (fun ls hl => ?_)
        refine lv_iload_n hx hb dX1_ever_123 rfl (lv_at hl 0 rfl) ?_
        refine lv_sipush (v := 255) hx hb dX1_ever_124 (by decide) ?_
        refine lv_iand hx hb dX1_ever_127 ?_
        obtain ⟨v128, ev128, hf⟩ := bnd_some hf
        refine top_i ev128 ?_
        refine lv_istore (lv' := [(4, .int v128), (2, .int x6), (0, .ref (a r0)), (1, .int x1), (3, .int x3), (5, .int x5), (6, .int x6), (7, .int x7)]) hx hb dX1_ever_128 hl (by decide) rfl (fun ls hl => ?_)
        refine lv_iload_n hx hb dX1_ever_130 rfl (lv_at hl 4 rfl) ?_
        refine lv_iload hx hb dX1_ever_131 (lv_at hl 0 rfl) ?_
        refine lv_ior hx hb dX1_ever_133 ?_
        obtain ⟨v134, ev134, hf⟩ := bnd_some hf
        refine top_i ev134 ?_
        refine lv_istore_n (lv' := [(3, .int v134), (4, .int v128), (2, .int x6), (0, .ref (a r0)), (1, .int x1), (5, .int x5), (6, .int x6), (7, .int x7)]) hx hb dX1_ever_134 rfl hl (by decide) rfl (fun ls hl => ?_)
        refine lv_aload_n hx hb dX1_ever_135 rfl (lv_at hl 3 rfl) ?_
        obtain ⟨q136, hq136, hf⟩ := bi_some hf
        refine aw_gR hC hW g74 fl_X1_61 rfl hq136 dX1_ever_136 ?_
        refine lv_iconst (v := 0) hx hb dX1_ever_139 (by decide) ?_
        obtain ⟨g140, hf⟩ := gd_some hf
        obtain ⟨s140, e140, hf⟩ := bnd_some hf
        refine aw_pI e140 hC hW g140 fl_X1_360 (Or.inl fn_4_0) rfl rfl rfl dX1_ever_140 (fun H locs hW => ?_)
        have g74 := ko_pI e140 g74
        have g140 := ko_pI e140 g140
        refine lv_aload_n hx hb dX1_ever_143 rfl (lv_at hl 3 rfl) ?_
        refine lv_aload_n hx hb dX1_ever_144 rfl (lv_at hl 3 rfl) ?_
        obtain ⟨q145, hq145, hf⟩ := bi_some hf
        refine aw_gR hC hW g74 fl_X1_22 rfl hq145 dX1_ever_145 ?_
        refine lv_aload_n hx hb dX1_ever_148 rfl (lv_at hl 3 rfl) ?_
        obtain ⟨q149, hq149, hf⟩ := bi_some hf
        refine aw_gR hC hW g74 fl_X1_61 rfl hq149 dX1_ever_149 ?_
        obtain ⟨_, s152, h152, hf⟩ := ob_some hf
        refine aw_dV0 (r := r0) (As := [.ref (a q145), .ref (a q149)]) (rest := []) (ct_X1_goes l G a r0 q145 q149 s140 () s152 h152) hC hW hl.1 vy_X1_goes (Or.inl q922) g74 rfl rfl rfl rfl (Nat.le_of_ble_eq_true rfl) ⟨Nat.le_of_ble_eq_true rfl, Nat.le_of_ble_eq_true rfl⟩ ⟨Nat.le_of_ble_eq_true rfl, Nat.le_of_ble_eq_true rfl⟩ dX1_ever_152 (fun H locs hW => ?_)
        obtain ⟨v155, ev155, hf⟩ := bnd_some hf
        refine lv_iinc (v := v155) (lv' := [(5, .int v155), (3, .int v134), (4, .int v128), (2, .int x6), (0, .ref (a r0)), (1, .int x1), (6, .int x6), (7, .int x7)]) hx hb dX1_ever_155 hl (k := 5) rfl (by rw [ev155]; rfl) (by decide) rfl (fun ls hl => ?_)
        refine lv_goto (tgt := 59) hx hb dX1_ever_158 (by decide) ?_
        exact hK59 r0 x1 x6 v134 v128 v155 s152 hf _ _ _ (lv_sub hl [4, 5, 3, 1, 2, 0] rfl) hW
      · have hf := ifn c77 hf
        refine lv_aload_n hx hb dX1_ever_80 rfl (lv_at hl 0 rfl) ?_
        obtain ⟨q81, hq81, hf⟩ := bi_some hf
        refine aw_gR hC hW g74 fl_X1_18 rfl hq81 dX1_ever_81 ?_
        obtain ⟨g84, hf⟩ := gd_some hf
        refine aw_gI hC hW g84 fl_X1_168 rfl dX1_ever_84 ?_
        refine lv_iload hx hb dX1_ever_87 (lv_at hl 6 rfl) ?_
        obtain ⟨v89, ev89, hf⟩ := bnd_some hf
        refine aw_dS1 (As := [.int (gi s q81 6), .int x7]) (rest := []) (pc_X1_has l G a (gi s q81 6) x7 s) hC hW hl.1 sy_X1_has (Or.inl q930) rfl rfl (Nat.le_of_ble_eq_true rfl) ⟨Nat.le_of_ble_eq_true rfl, Nat.le_of_ble_eq_true rfl⟩ ⟨Nat.le_of_ble_eq_true rfl, Nat.le_of_ble_eq_true rfl⟩ dX1_ever_89 (fun H locs hW => ?_)
        refine top_i ev89 ?_
        refine lv_if_eq (tgt := 114) hx hb dX1_ever_92 (by decide) (fun c92 => ?_) (fun c92 => ?_)
        · have hf := ifp c92 hf
          exact B114 (f_X1_ever_b71 K59 n) ih r0 x1 x2 x3 x5 x6 x7 s hf _ _ _ (lv_sub hl [0, 1, 2, 3, 4, 5, 6] rfl) hW
        · have hf := ifn c92 hf
          refine lv_aload_n hx hb dX1_ever_95 rfl (lv_at hl 0 rfl) ?_
          refine lv_iload hx hb dX1_ever_96 (lv_at hl 6 rfl) ?_
          refine lv_iload_n hx hb dX1_ever_98 rfl (lv_at hl 2 rfl) ?_
          obtain ⟨v99, s99, h99, hf⟩ := ob_some hf
          refine aw_dV1 (r := r0) (As := [.int x7, .int x2]) (rest := []) (ct_X1_canFollow l G a r0 x7 x2 s v99 s99 h99) hC hW hl.1 vy_X1_canFollow (Or.inl q1077) g74 rfl rfl rfl rfl (Nat.le_of_ble_eq_true rfl) ⟨Nat.le_of_ble_eq_true rfl, Nat.le_of_ble_eq_true rfl⟩ ⟨Nat.le_of_ble_eq_true rfl, Nat.le_of_ble_eq_true rfl⟩ dX1_ever_99 (fun H locs hW => ?_)
          refine lv_if_eq (tgt := 114) hx hb dX1_ever_102 (by decide) (fun c102 => ?_) (fun c102 => ?_)
          · have hf := ifp c102 hf
            exact B114 (f_X1_ever_b71 K59 n) ih r0 x1 x2 x3 x5 x6 x7 s99 hf _ _ _ (lv_sub hl [0, 1, 2, 3, 4, 5, 6] rfl) hW
          · have hf := ifn c102 hf
            refine lv_iload hx hb dX1_ever_105 (lv_at hl 5 rfl) ?_
            refine lv_iconst (v := 1) hx hb dX1_ever_107 (by decide) ?_
            refine lv_iload hx hb dX1_ever_108 (lv_at hl 6 rfl) ?_
            refine lv_ishl hx hb dX1_ever_110 ?_
            refine lv_ior hx hb dX1_ever_111 ?_
            obtain ⟨v112, ev112, hf⟩ := bnd_some hf
            refine top_i ev112 ?_
            refine lv_istore (lv' := [(6, .int v112), (0, .ref (a r0)), (1, .int x1), (2, .int x2), (3, .int x3), (5, .int x5), (7, .int x7)]) hx hb dX1_ever_112 hl (by decide) rfl (fun ls hl => ?_)
            exact B114 (f_X1_ever_b71 K59 n) ih r0 x1 x2 x3 x5 v112 x7 s99 hf _ _ _ (lv_sub hl [1, 2, 3, 4, 5, 0, 6] rfl) hW
  have B59 : ∀ (n : Nat), ∀ (r0 : Nat) (x1 : Int32) (x2 : Int32) (x3 : Int32) (x4 : Int32) (x5 : Int32) (s : ST), f_X1_ever_b59 n r0 x1 x2 x3 x4 x5 s = some (rv, sf) → ∀ (H : Heap) (locs : List Loc) (ls : Array Slot), lv_has ls 8 [(0, .ref (a r0)), (1, .int x1), (2, .int x2), (3, .int x3), (4, .int x4), (5, .int x5)] → AW G a A s s0.heap H locs → WB p l e (rmD 127) s0 m args below meth c H locs G A P 59 ls [] := by
    intro n
    induction n with
    | zero => intro r0 x1 x2 x3 x4 x5 s hf; cases hf
    | succ n ih =>
      intro r0 x1 x2 x3 x4 x5 s hf H locs ls hl hW
      rw [f_X1_ever_b59] at hf
      refine lv_iload hx hb dX1_ever_59 (lv_at hl 5 rfl) ?_
      refine lv_iload_n hx hb dX1_ever_61 rfl (lv_at hl 1 rfl) ?_
      refine lv_icmp_ge (tgt := 161) hx hb dX1_ever_62 (by decide) (fun c62 => ?_) (fun c62 => ?_)
      · have hf := ifp c62 hf
        refine lv_aload_n hx hb dX1_ever_161 rfl (lv_at hl 0 rfl) ?_
        refine lv_iconst (v := 0) hx hb dX1_ever_162 (by decide) ?_
        obtain ⟨g163, hf⟩ := gd_some hf
        obtain ⟨s163, e163, hf⟩ := bnd_some hf
        refine aw_pI e163 hC hW g163 fl_X1_154 (Or.inl fn_0_12) rfl rfl rfl dX1_ever_163 (fun H locs hW => ?_)
        have g163 := ko_pI e163 g163
        refine lv_aload_n hx hb dX1_ever_166 rfl (lv_at hl 0 rfl) ?_
        refine lv_iload hx hb dX1_ever_167 (lv_at hl 4 rfl) ?_
        refine lv_i2l (v := (x4 : Int32).toInt64) hx hb dX1_ever_169 rfl ?_
        obtain ⟨_, s170, h170, hf⟩ := ob_some hf
        refine aw_dV0 (r := r0) (As := [.long ((x4 : Int32).toInt64)]) (rest := []) (ct_X1_tell l G a r0 ((x4 : Int32).toInt64) s163 () s170 h170) hC hW hl.1 vy_X1_tell (Or.inl q1013) g163 rfl rfl rfl rfl (Nat.le_of_ble_eq_true rfl) ⟨Nat.le_of_ble_eq_true rfl, Nat.le_of_ble_eq_true rfl⟩ ⟨Nat.le_of_ble_eq_true rfl, Nat.le_of_ble_eq_true rfl⟩ dX1_ever_170 (fun H locs hW => ?_)
        refine lv_iload_n hx hb dX1_ever_173 rfl (lv_at hl 3 rfl) ?_
        obtain ⟨e1, e2⟩ := so_inj hf
        exact aw_iret hC hW hr rfl (p_eq hP (congrArg (fun z => some (Value.int z)) e1) e2) (Nat.le_of_ble_eq_true rfl) (Nat.le_of_ble_eq_true rfl) dX1_ever_174
      · have hf := ifn c62 hf
        refine lv_iload_n hx hb dX1_ever_65 rfl (lv_at hl 2 rfl) ?_
        refine lv_istore (lv' := [(6, .int x2), (0, .ref (a r0)), (1, .int x1), (2, .int x2), (3, .int x3), (4, .int x4), (5, .int x5)]) hx hb dX1_ever_66 hl (by decide) rfl (fun ls hl => ?_)
        refine lv_iconst (v := 0) hx hb dX1_ever_68 (by decide) ?_
        refine lv_istore (lv' := [(7, .int 0), (6, .int x2), (0, .ref (a r0)), (1, .int x1), (2, .int x2), (3, .int x3), (4, .int x4), (5, .int x5)]) hx hb dX1_ever_69 hl (by decide) rfl (fun ls hl => ?_)
        exact B71 (f_X1_ever_b59 n) ih fuel r0 x1 x2 x3 x5 x2 0 s hf _ _ _ (lv_sub hl [2, 3, 4, 5, 7, 1, 0] rfl) hW
  have B38 : ∀ (r0 : Nat) (x1 : Int32) (t0 : Int32) (t1 : Int32) (s : ST), f_X1_ever_b38 r0 x1 t0 t1 s = some (rv, sf) → ∀ (H : Heap) (locs : List Loc) (ls : Array Slot), lv_has ls 8 [(0, .ref (a r0)), (1, .int x1)] → AW G a A s s0.heap H locs → WB p l e (rmD 127) s0 m args below meth c H locs G A P 38 ls [.int t0, .int t1] := by
    intro r0 x1 t0 t1 s hf H locs ls hl hW
    unfold f_X1_ever_b38 at hf
    refine lv_ishl hx hb dX1_ever_38 ?_
    obtain ⟨v39, ev39, hf⟩ := bnd_some hf
    refine top_i ev39 ?_
    refine lv_istore_n (lv' := [(2, .int v39), (0, .ref (a r0)), (1, .int x1)]) hx hb dX1_ever_39 rfl hl (by decide) rfl (fun ls hl => ?_)
    refine lv_iconst (v := 0) hx hb dX1_ever_40 (by decide) ?_
    refine lv_istore_n (lv' := [(3, .int 0), (2, .int v39), (0, .ref (a r0)), (1, .int x1)]) hx hb dX1_ever_41 rfl hl (by decide) rfl (fun ls hl => ?_)
    refine lv_iconst (v := 0) hx hb dX1_ever_42 (by decide) ?_
    refine lv_istore (lv' := [(4, .int 0), (3, .int 0), (2, .int v39), (0, .ref (a r0)), (1, .int x1)]) hx hb dX1_ever_43 hl (by decide) rfl (fun ls hl => ?_)
    refine lv_aload_n hx hb dX1_ever_45 rfl (lv_at hl 3 rfl) ?_
    obtain ⟨g46, hf⟩ := gd_some hf
    obtain ⟨q46, hq46, hf⟩ := bi_some hf
    refine aw_gR hC hW g46 fl_X1_22 rfl hq46 dX1_ever_46 ?_
    refine lv_aload_n hx hb dX1_ever_49 rfl (lv_at hl 3 rfl) ?_
    obtain ⟨q50, hq50, hf⟩ := bi_some hf
    refine aw_gR hC hW g46 fl_X1_18 rfl hq50 dX1_ever_50 ?_
    obtain ⟨g53, hf⟩ := gd_some hf
    obtain ⟨_, s53, h53, hf⟩ := ob_some hf
    refine aw_dV0 (r := q46) (As := [.ref (a q50)]) (rest := []) (ct_X2_be l G a q46 q50 s () s53 h53) hC hW hl.1 vy_X2_be (Or.inl q917) g53 rfl rfl rfl rfl (Nat.le_of_ble_eq_true rfl) ⟨Nat.le_of_ble_eq_true rfl, Nat.le_of_ble_eq_true rfl⟩ ⟨Nat.le_of_ble_eq_true rfl, Nat.le_of_ble_eq_true rfl⟩ dX1_ever_53 (fun H locs hW => ?_)
    refine lv_iconst (v := 0) hx hb dX1_ever_56 (by decide) ?_
    refine lv_istore (lv' := [(5, .int 0), (4, .int 0), (3, .int 0), (2, .int v39), (0, .ref (a r0)), (1, .int x1)]) hx hb dX1_ever_57 hl (by decide) rfl (fun ls hl => ?_)
    exact B59 fuel r0 x1 v39 0 0 0 s53 hf _ _ _ (lv_sub hl [4, 5, 3, 2, 1, 0] rfl) hW
  unfold f_X1_ever at hf
  refine lv_iload_n hx hb dX1_ever_0 rfl (lv_at hl 1 rfl) ?_
  refine lv_i2l (v := (x1 : Int32).toInt64) hx hb dX1_ever_1 rfl ?_
  refine lv_lconst (v := 0) hx hb dX1_ever_2 (by decide) ?_
  refine lv_ldc2 (v := 12) hx hb hC.2.2.2.1 (hts _ q1076) dX1_ever_3 ?_
  obtain ⟨v6, ev6, hf⟩ := bnd_some hf
  refine aw_dS1 (As := [.long ((x1 : Int32).toInt64), .long 0, .long 12]) (rest := []) (pc_X1_in l G a ((x1 : Int32).toInt64) 0 12 s) hC hW hl.1 sy_X1_in (Or.inl q514) rfl rfl (Nat.le_of_ble_eq_true rfl) ⟨Nat.le_of_ble_eq_true rfl, Nat.le_of_ble_eq_true rfl⟩ ⟨Nat.le_of_ble_eq_true rfl, Nat.le_of_ble_eq_true rfl⟩ dX1_ever_6 (fun H locs hW => ?_)
  refine top_i ev6 ?_
  refine lv_if_ne (tgt := 14) hx hb dX1_ever_9 (by decide) (fun c9 => ?_) (fun c9 => ?_)
  · have hf := ifn c9 hf
    refine lv_iconst (v := 1) hx hb dX1_ever_14 (by decide) ?_
    refine lv_aload_n hx hb dX1_ever_15 rfl (lv_at hl 0 rfl) ?_
    obtain ⟨g16, hf⟩ := gd_some hf
    obtain ⟨q16, hq16, hf⟩ := bi_some hf
    refine aw_gR hC hW g16 fl_X1_18 rfl hq16 dX1_ever_16 ?_
    obtain ⟨g19, hf⟩ := gd_some hf
    refine aw_gI hC hW g19 fl_X1_315 rfl dX1_ever_19 ?_
    refine lv_iconst (v := (-1)) hx hb dX1_ever_22 (by decide) ?_
    refine lv_icmp_ne (tgt := 31) hx hb dX1_ever_23 (by decide) (fun c23 => ?_) (fun c23 => ?_)
    · have hf := ifn c23 hf
      refine lv_aload_n hx hb dX1_ever_31 rfl (lv_at hl 0 rfl) ?_
      obtain ⟨q32, hq32, hf⟩ := bi_some hf
      refine aw_gR hC hW g16 fl_X1_18 rfl hq32 dX1_ever_32 ?_
      obtain ⟨g35, hf⟩ := gd_some hf
      refine aw_gI hC hW g35 fl_X1_315 rfl dX1_ever_35 ?_
      exact B38 o x1 (gi s q32 7) 1 s hf _ _ _ (lv_sub hl [0, 1] rfl) hW
    · have hf := ifp c23 hf
      refine lv_bipush (v := 8) hx hb dX1_ever_26 (by decide) ?_
      refine lv_goto (tgt := 38) hx hb dX1_ever_28 (by decide) ?_
      exact B38 o x1 8 1 s hf _ _ _ (lv_sub hl [0, 1] rfl) hW
  · have hf := ifp c9 hf
    refine lv_iconst (v := (-1)) hx hb dX1_ever_12 (by decide) ?_
    obtain ⟨e1, e2⟩ := so_inj hf
    exact aw_iret hC hW hr rfl (p_eq hP (congrArg (fun z => some (Value.int z)) e1) e2) (Nat.le_of_ble_eq_true rfl) (Nat.le_of_ble_eq_true rfl) dX1_ever_13
