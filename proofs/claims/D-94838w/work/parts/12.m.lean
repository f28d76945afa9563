set_option maxRecDepth 100000
def f_X14_isSo_b84 (K45 : Nat → Int32 → Int32 → Int32 → Int32 → ST → Option (Int32 × ST)) (r0 : Nat) (x1 : Int32) (x2 : Int32) (x3 : Int32) (x4 : Int32) (s : ST) : Option (Int32 × ST) :=
  bnd (x4 + 1 : Int32) fun v84 =>
  K45 r0 x1 x2 x3 v84 s
def f_X14_isSo_b45 (K31 : Nat → Int32 → Int32 → Int32 → ST → Option (Int32 × ST)) : Nat → Nat → Int32 → Int32 → Int32 → Int32 → ST → Option (Int32 × ST)
  | 0, _, _, _, _, _, _ => none
  | n + 1, r0, x1, x2, x3, x4, s =>
  gd (r0 < s.1 ∧ (kd s r0).1 = 14) <|
  if (gi s r0 37) ≤ x4 then (bnd (x3 + 1 : Int32) fun v90 =>
  K31 r0 x1 x2 v90 s) else (gr s r0 39).bind fun q55 =>
  gd (q55 < s.1 ∧ (kd s q55).1 = 100 ∧ ¬ ((x4 : Int32) < 0 ∨ (kd s q55).2 ≤ (x4 : Int32).toNatClampNeg)) <|
  if (gi s q55 (x4 : Int32).toNatClampNeg) = x3 then ((gr s r0 11).bind fun q66 =>
  gd (q66 < s.1 ∧ (kd s q66).1 = 100 ∧ ¬ ((17 : Int32) < 0 ∨ (kd s q66).2 ≤ (17 : Int32).toNatClampNeg)) <|
  (gr s r0 38).bind fun q73 =>
  gd (q73 < s.1 ∧ (kd s q73).1 = 100 ∧ ¬ ((x4 : Int32) < 0 ∨ (kd s q73).2 ≤ (x4 : Int32).toNatClampNeg)) <|
  if (gi s q66 (17 : Int32).toNatClampNeg) = (gi s q73 (x4 : Int32).toNatClampNeg) then (f_X14_isSo_b84 (f_X14_isSo_b45 K31 n) r0 x1 x2 x3 x4 s) else some (0, s)) else f_X14_isSo_b84 (f_X14_isSo_b45 K31 n) r0 x1 x2 x3 x4 s
def f_X14_isSo_b31 : Nat → Nat → Int32 → Int32 → Int32 → ST → Option (Int32 × ST)
  | 0, _, _, _, _, _ => none
  | n + 1, r0, x1, x2, x3, s =>
  if x2 < x3 then (some (1, s)) else gd (r0 < s.1 ∧ (kd s r0).1 = 14) <|
  ob (f_X14_goesBy r0 1 x1 s) fun _ s39 =>
  f_X14_isSo_b45 (f_X14_isSo_b31 n) fuel r0 x1 x2 x3 0 s39
def f_X14_isSo_b4 : Nat → Nat → Int32 → Int32 → Int32 → ST → Option (Int32 × ST)
  | 0, _, _, _, _, _ => none
  | n + 1, r0, x1, x2, x3, s =>
  gd (r0 < s.1 ∧ (kd s r0).1 = 14) <|
  if (gi s r0 37) ≤ x3 then (f_X14_isSo_b31 fuel r0 x1 x2 1 s) else (gr s r0 39).bind fun q14 =>
  gd (q14 < s.1 ∧ (kd s q14).1 = 100 ∧ ¬ ((x3 : Int32) < 0 ∨ (kd s q14).2 ≤ (x3 : Int32).toNatClampNeg)) <|
  bnd (p_max x2 (gi s q14 (x3 : Int32).toNatClampNeg)) fun v19 =>
  bnd (x3 + 1 : Int32) fun v23 =>
  f_X14_isSo_b4 n r0 x1 v19 v23 s
def f_X14_isSo (o : Nat) (x1 : Int32) (s : ST) : Option (Int32 × ST) :=
  f_X14_isSo_b4 fuel o x1 0 0 s
set_option maxHeartbeats 4000000 in
theorem ct_X14_isSo (l : Launch) (G : GM) (a : Nat → Nat) (o : Nat) (x1 : Int32) (s : ST) (rv : Int32) (sf : ST) (hf : f_X14_isSo o x1 s = some (rv, sf)) : MD l G yX14_isSo (ws_ yX14_isSo cX14_isSo 5 (some .boolean)) 6 [.ref (a o), .int x1] a s (some (.int rv)) sf := by
  refine md_of (d := 6) (lv := [(0, .ref (a o)), (1, .int x1)]) (Or.inl (by decide)) (Nat.le_of_ble_eq_true rfl) rfl ?_
  intro p e s0 m args below meth c ls A P hP hC hr hnm hW hl
  have hx := hC.1
  have hb := hC.2.1
  have hts := hC.2.2.2.2.1
  have B84 : ∀ (K45 : Nat → Int32 → Int32 → Int32 → Int32 → ST → Option (Int32 × ST)) (hK45 : ∀ (r0 : Nat) (x1 : Int32) (x2 : Int32) (x3 : Int32) (x4 : Int32) (s : ST), K45 r0 x1 x2 x3 x4 s = some (rv, sf) → ∀ (H : Heap) (locs : List Loc) (ls : Array Slot), lv_has ls 5 [(0, .ref (a r0)), (1, .int x1), (2, .int x2), (3, .int x3), (4, .int x4)] → AW G a A s s0.heap H locs → WB p l e (rmD 6) s0 m args below meth c H locs G A P 45 ls []), ∀ (r0 : Nat) (x1 : Int32) (x2 : Int32) (x3 : Int32) (x4 : Int32) (s : ST), f_X14_isSo_b84 K45 r0 x1 x2 x3 x4 s = some (rv, sf) → ∀ (H : Heap) (locs : List Loc) (ls : Array Slot), lv_has ls 5 [(0, .ref (a r0)), (1, .int x1), (2, .int x2), (3, .int x3), (4, .int x4)] → AW G a A s s0.heap H locs → WB p l e (rmD 6) s0 m args below meth c H locs G A P 84 ls [] := by
    intro K45 hK45 r0 x1 x2 x3 x4 s hf H locs ls hl hW
    unfold f_X14_isSo_b84 at hf
    obtain ⟨v84, ev84, hf⟩ := bnd_some hf
    refine lv_iinc (v := v84) (lv' := [(4, .int v84), (0, .ref (a r0)), (1, .int x1), (2, .int x2), (3, .int x3)]) hx hb dX14_isSo_84 hl (k := 4) rfl (by rw [ev84]; rfl) (by decide) rfl (fun ls hl => ?_)
    refine lv_goto (tgt := 45) hx hb dX14_isSo_87 (by decide) ?_
    exact hK45 r0 x1 x2 x3 v84 s hf _ _ _ (lv_sub hl [1, 2, 3, 4, 0] rfl) hW
  have B45 : ∀ (K31 : Nat → Int32 → Int32 → Int32 → ST → Option (Int32 × ST)) (hK31 : ∀ (r0 : Nat) (x1 : Int32) (x2 : Int32) (x3 : Int32) (s : ST), K31 r0 x1 x2 x3 s = some (rv, sf) → ∀ (H : Heap) (locs : List Loc) (ls : Array Slot), lv_has ls 5 [(0, .ref (a r0)), (1, .int x1), (2, .int x2), (3, .int x3)] → AW G a A s s0.heap H locs → WB p l e (rmD 6) s0 m args below meth c H locs G A P 31 ls []), ∀ (n : Nat), ∀ (r0 : Nat) (x1 : Int32) (x2 : Int32) (x3 : Int32) (x4 : Int32) (s : ST), f_X14_isSo_b45 K31 n r0 x1 x2 x3 x4 s = some (rv, sf) → ∀ (H : Heap) (locs : List Loc) (ls : Array Slot), lv_has ls 5 [(0, .ref (a r0)), (1, .int x1), (2, .int x2), (3, .int x3), (4, .int x4)] → AW G a A s s0.heap H locs → WB p l e (rmD 6) s0 m args below meth c H locs G A P 45 ls [] := by
    intro K31 hK31
    intro n
    induction n with
    | zero => intro r0 x1 x2 x3 x4 s hf; cases hf
    | succ n ih =>
      intro r0 x1 x2 x3 x4 s hf H locs ls hl hW
      rw [f_X14_isSo_b45] at hf
      refine lv_iload hx hb dX14_isSo_45 (lv_at hl 4 rfl) ?_
      refine lv_aload_n hx hb dX14_isSo_47 rfl (lv_at hl 0 rfl) ?_
      obtain ⟨g48, hf⟩ := gd_some hf
      refine aw_gI hC hW g48 fl_X14_368 rfl dX14_isSo_48 ?_
      refine lv_icmp_ge (tgt := 90) hx hb dX14_isSo_51 (by decide) (fun c51 => ?_) (fun c51 => ?_)
      · have hf := ifp c51 hf
        obtain ⟨v90, ev90, hf⟩ := bnd_some hf
        refine lv_iinc (v := v90) (lv' := [(3, .int v90), (0, .ref (a r0)), (1, .int x1), (2, .int x2), (4, .int x4)]) hx hb dX14_isSo_90 hl (k := 3) rfl (by rw [ev90]; rfl) (by decide) rfl (fun ls hl => ?_)
        refine lv_goto (tgt := 31) hx hb dX14_isSo_93 (by decide) ?_
        exact hK31 r0 x1 x2 v90 s hf _ _ _ (lv_sub hl [1, 2, 3, 0] rfl) hW
      · have hf := ifn c51 hf
        refine lv_aload_n hx hb dX14_isSo_54 rfl (lv_at hl 0 rfl) ?_
        obtain ⟨q55, hq55, hf⟩ := bi_some hf
        refine aw_gR hC hW g48 fl_X14_95 rfl hq55 dX14_isSo_55 ?_
        refine lv_iload hx hb dX14_isSo_58 (lv_at hl 4 rfl) ?_
        obtain ⟨g60, hf⟩ := gd_some hf
        refine aw_iald hC hW g60 dX14_isSo_60 ?_
        refine lv_iload_n hx hb dX14_isSo_61 rfl (lv_at hl 3 rfl) ?_
        refine lv_icmp_ne (tgt := 84) hx hb dX14_isSo_62 (by decide) (fun c62 => ?_) (fun c62 => ?_)
        · have hf := ifn c62 hf
          exact B84 (f_X14_isSo_b45 K31 n) ih r0 x1 x2 x3 x4 s hf _ _ _ (lv_sub hl [0, 1, 2, 3, 4] rfl) hW
        · have hf := ifp c62 hf
          refine lv_aload_n hx hb dX14_isSo_65 rfl (lv_at hl 0 rfl) ?_
          obtain ⟨q66, hq66, hf⟩ := bi_some hf
          refine aw_gR hC hW g48 fl_X14_47 rfl hq66 dX14_isSo_66 ?_
          refine lv_bipush (v := 17) hx hb dX14_isSo_69 (by decide) ?_
          obtain ⟨g71, hf⟩ := gd_some hf
          refine aw_iald hC hW g71 dX14_isSo_71 ?_
          refine lv_aload_n hx hb dX14_isSo_72 rfl (lv_at hl 0 rfl) ?_
          obtain ⟨q73, hq73, hf⟩ := bi_some hf
          refine aw_gR hC hW g48 fl_X14_92 rfl hq73 dX14_isSo_73 ?_
          refine lv_iload hx hb dX14_isSo_76 (lv_at hl 4 rfl) ?_
          obtain ⟨g78, hf⟩ := gd_some hf
          refine aw_iald hC hW g78 dX14_isSo_78 ?_
          refine lv_icmp_eq (tgt := 84) hx hb dX14_isSo_79 (by decide) (fun c79 => ?_) (fun c79 => ?_)
          · have hf := ifp c79 hf
            exact B84 (f_X14_isSo_b45 K31 n) ih r0 x1 x2 x3 x4 s hf _ _ _ (lv_sub hl [0, 1, 2, 3, 4] rfl) hW
          · have hf := ifn c79 hf
            refine lv_iconst (v := 0) hx hb dX14_isSo_82 (by decide) ?_
            obtain ⟨e1, e2⟩ := so_inj hf
            exact aw_iret hC hW hr rfl (p_eq hP (congrArg (fun z => some (Value.int z)) e1) e2) (Nat.le_of_ble_eq_true rfl) (Nat.le_of_ble_eq_true rfl) dX14_isSo_83
  have B31 : ∀ (n : Nat), ∀ (r0 : Nat) (x1 : Int32) (x2 : Int32) (x3 : Int32) (s : ST), f_X14_isSo_b31 n r0 x1 x2 x3 s = some (rv, sf) → ∀ (H : Heap) (locs : List Loc) (ls : Array Slot), lv_has ls 5 [(0, .ref (a r0)), (1, .int x1), (2, .int x2), (3, .int x3)] → AW G a A s s0.heap H locs → WB p l e (rmD 6) s0 m args below meth c H locs G A P 31 ls [] := by
    intro n
    induction n with
    | zero => intro r0 x1 x2 x3 s hf; cases hf
    | succ n ih =>
      intro r0 x1 x2 x3 s hf H locs ls hl hW
      rw [f_X14_isSo_b31] at hf
      refine lv_iload_n hx hb dX14_isSo_31 rfl (lv_at hl 3 rfl) ?_
      refine lv_iload_n hx hb dX14_isSo_32 rfl (lv_at hl 2 rfl) ?_
      refine lv_icmp_gt (tgt := 96) hx hb dX14_isSo_33 (by decide) (fun c33 => ?_) (fun c33 => ?_)
      · have hf := ifp c33 hf
        refine lv_iconst (v := 1) hx hb dX14_isSo_96 (by decide) ?_
        obtain ⟨e1, e2⟩ := so_inj hf
        exact aw_iret hC hW hr rfl (p_eq hP (congrArg (fun z => some (Value.int z)) e1) e2) (Nat.le_of_ble_eq_true rfl) (Nat.le_of_ble_eq_true rfl) dX14_isSo_97
      · have hf := ifn c33 hf
        refine lv_aload_n hx hb dX14_isSo_36 rfl (lv_at hl 0 rfl) ?_
        refine lv_iconst (v := 1) hx hb dX14_isSo_37 (by decide) ?_
        refine lv_iload_n hx hb dX14_isSo_38 rfl (lv_at hl 1 rfl) ?_
        obtain ⟨g39, hf⟩ := gd_some hf
        obtain ⟨_, s39, h39, hf⟩ := ob_some hf
        refine aw_dV0 (r := r0) (As := [.int 1, .int x1]) (rest := []) (ct_X14_goesBy l G a r0 1 x1 s () s39 h39) hC hW hl.1 vy_X14_goesBy (Or.inl q1756) g39 rfl rfl rfl rfl (Nat.le_of_ble_eq_true rfl) ⟨Nat.le_of_ble_eq_true rfl, Nat.le_of_ble_eq_true rfl⟩ ⟨Nat.le_of_ble_eq_true rfl, Nat.le_of_ble_eq_true rfl⟩ dX14_isSo_39 (fun H locs hW => ?_)
        refine lv_iconst (v := 0) hx hb dX14_isSo_42 (by decide) ?_
        refine lv_istore (lv' := [(4, .int 0), (0, .ref (a r0)), (1, .int x1), (2, .int x2), (3, .int x3)]) hx hb dX14_isSo_43 hl (by decide) rfl (fun ls hl => ?_)
        exact B45 (f_X14_isSo_b31 n) ih fuel r0 x1 x2 x3 0 s39 hf _ _ _ (lv_sub hl [1, 2, 3, 4, 0] rfl) hW
  have B4 : ∀ (n : Nat), ∀ (r0 : Nat) (x1 : Int32) (x2 : Int32) (x3 : Int32) (s : ST), f_X14_isSo_b4 n r0 x1 x2 x3 s = some (rv, sf) → ∀ (H : Heap) (locs : List Loc) (ls : Array Slot), lv_has ls 5 [(0, .ref (a r0)), (1, .int x1), (2, .int x2), (3, .int x3)] → AW G a A s s0.heap H locs → WB p l e (rmD 6) s0 m args below meth c H locs G A P 4 ls [] := by
    intro n
    induction n with
    | zero => intro r0 x1 x2 x3 s hf; cases hf
    | succ n ih =>
      intro r0 x1 x2 x3 s hf H locs ls hl hW
      rw [f_X14_isSo_b4] at hf
      refine lv_iload_n hx hb dX14_isSo_4 rfl (lv_at hl 3 rfl) ?_
      refine lv_aload_n hx hb dX14_isSo_5 rfl (lv_at hl 0 rfl) ?_
      obtain ⟨g6, hf⟩ := gd_some hf
      refine aw_gI hC hW g6 fl_X14_368 rfl dX14_isSo_6 ?_
      refine lv_icmp_ge (tgt := 29) hx hb dX14_isSo_9 (by decide) (fun c9 => ?_) (fun c9 => ?_)
      · have hf := ifp c9 hf
        refine lv_iconst (v := 1) hx hb dX14_isSo_29 (by decide) ?_
        refine lv_istore_n (lv' := [(3, .int 1), (0, .ref (a r0)), (1, .int x1), (2, .int x2)]) hx hb dX14_isSo_30 rfl hl (by decide) rfl (fun ls hl => ?_)
        exact B31 fuel r0 x1 x2 1 s hf _ _ _ (lv_sub hl [1, 2, 3, 0] rfl) hW
      · have hf := ifn c9 hf
        refine lv_iload_n hx hb dX14_isSo_12 rfl (lv_at hl 2 rfl) ?_
        refine lv_aload_n hx hb dX14_isSo_13 rfl (lv_at hl 0 rfl) ?_
        obtain ⟨q14, hq14, hf⟩ := bi_some hf
        refine aw_gR hC hW g6 fl_X14_95 rfl hq14 dX14_isSo_14 ?_
        refine lv_iload_n hx hb dX14_isSo_17 rfl (lv_at hl 3 rfl) ?_
        obtain ⟨g18, hf⟩ := gd_some hf
        refine aw_iald hC hW g18 dX14_isSo_18 ?_
        obtain ⟨v19, ev19, hf⟩ := bnd_some hf
        refine aw_dS1 (As := [.int x2, .int (gi s q14 (x3 : Int32).toNatClampNeg)]) (rest := []) (pc_J0_max l G a x2 (gi s q14 (x3 : Int32).toNatClampNeg) s) hC hW hl.1 sy_J0_max (Or.inl q1633) rfl rfl (Nat.le_of_ble_eq_true rfl) ⟨Nat.le_of_ble_eq_true rfl, Nat.le_of_ble_eq_true rfl⟩ ⟨Nat.le_of_ble_eq_true rfl, Nat.le_of_ble_eq_true rfl⟩ dX14_isSo_19 (fun H locs hW => ?_)
        refine top_i ev19 ?_
        refine lv_istore_n (lv' := [(2, .int v19), (0, .ref (a r0)), (1, .int x1), (3, .int x3)]) hx hb dX14_isSo_22 rfl hl (by decide) rfl (fun ls hl => ?_)
        obtain ⟨v23, ev23, hf⟩ := bnd_some hf
        refine lv_iinc (v := v23) (lv' := [(3, .int v23), (2, .int v19), (0, .ref (a r0)), (1, .int x1)]) hx hb dX14_isSo_23 hl (k := 3) rfl (by rw [ev23]; rfl) (by decide) rfl (fun ls hl => ?_)
        refine lv_goto (tgt := 4) hx hb dX14_isSo_26 (by decide) ?_
        exact ih r0 x1 v19 v23 s hf _ _ _ (lv_sub hl [2, 3, 1, 0] rfl) hW
  unfold f_X14_isSo at hf
  refine lv_iconst (v := 0) hx hb dX14_isSo_0 (by decide) ?_
  refine lv_istore_n (lv' := [(2, .int 0), (0, .ref (a o)), (1, .int x1)]) hx hb dX14_isSo_1 rfl hl (by decide) rfl (fun ls hl => ?_)
  refine lv_iconst (v := 0) hx hb dX14_isSo_2 (by decide) ?_
  refine lv_istore_n (lv' := [(3, .int 0), (2, .int 0), (0, .ref (a o)), (1, .int x1)]) hx hb dX14_isSo_3 rfl hl (by decide) rfl (fun ls hl => ?_)
  exact B4 fuel o x1 0 0 s hf _ _ _ (lv_sub hl [2, 3, 1, 0] rfl) hW
def f_X14_puts_b2 : Nat → Nat → Nat → Int32 → ST → Option (Unit × ST)
  | 0, _, _, _, _ => none
  | n + 1, r0, r1, x2, s =>
  if 117 ≤ x2 then (some ((), s)) else gd (r0 < s.1 ∧ (kd s r0).1 = 100 ∧ ¬ ((x2 : Int32) < 0 ∨ (kd s r0).2 ≤ (x2 : Int32).toNatClampNeg)) <|
  gd (r1 < s.1 ∧ (kd s r1).1 = 100 ∧ ¬ ((x2 : Int32) < 0 ∨ (kd s r1).2 ≤ (x2 : Int32).toNatClampNeg)) <|
  bnd (pI s r1 (x2 : Int32).toNatClampNeg (gi s r0 (x2 : Int32).toNatClampNeg)) fun s13 =>
  bnd (x2 + 1 : Int32) fun v14 =>
  f_X14_puts_b2 n r0 r1 v14 s13
def f_X14_puts (r0 : Nat) (r1 : Nat) (s : ST) : Option (Unit × ST) :=
  f_X14_puts_b2 fuel r0 r1 0 s
set_option maxHeartbeats 4000000 in
theorem ct_X14_puts (l : Launch) (G : GM) (a : Nat → Nat) (r0 : Nat) (r1 : Nat) (s : ST) (rv : Unit) (sf : ST) (hf : f_X14_puts r0 r1 s = some (rv, sf)) : MD l G yX14_puts (ws_ yX14_puts cX14_puts 3 none) 0 [.ref (a r0), .ref (a r1)] a s none sf := by
  refine md_of (d := 0) (lv := [(0, .ref (a r0)), (1, .ref (a r1))]) (Or.inl (by decide)) (Nat.le_of_ble_eq_true rfl) rfl ?_
  intro p e s0 m args below meth c ls A P hP hC hr hnm hW hl
  have hx := hC.1
  have hb := hC.2.1
  have hts := hC.2.2.2.2.1
  have B2 : ∀ (n : Nat), ∀ (r0 : Nat) (r1 : Nat) (x2 : Int32) (s : ST), f_X14_puts_b2 n r0 r1 x2 s = some (rv, sf) → ∀ (H : Heap) (locs : List Loc) (ls : Array Slot), lv_has ls 3 [(0, .ref (a r0)), (1, .ref (a r1)), (2, .int x2)] → AW G a A s s0.heap H locs → WB p l e (rmD 0) s0 m args below meth c H locs G A P 2 ls [] := by
    intro n
    induction n with
    | zero => intro r0 r1 x2 s hf; cases hf
    | succ n ih =>
      intro r0 r1 x2 s hf H locs ls hl hW
      rw [f_X14_puts_b2] at hf
      refine lv_iload_n hx hb dX14_puts_2 rfl (lv_at hl 2 rfl) ?_
      refine lv_bipush (v := 117) hx hb dX14_puts_3 (by decide) ?_
      refine lv_icmp_ge (tgt := 20) hx hb dX14_puts_5 (by decide) (fun c5 => ?_) (fun c5 => ?_)
      · have hf := ifp c5 hf
        obtain ⟨e1, e2⟩ := so_inj hf
        exact aw_vret hC hW hr (p_eq hP rfl e2) (Nat.le_of_ble_eq_true rfl) (Nat.le_of_ble_eq_true rfl) dX14_puts_20
      · have hf := ifn c5 hf
        refine lv_aload_n hx hb dX14_puts_8 rfl (lv_at hl 1 rfl) ?_
        refine lv_iload_n hx hb dX14_puts_9 rfl (lv_at hl 2 rfl) ?_
        refine lv_aload_n hx hb dX14_puts_10 rfl (lv_at hl 0 rfl) ?_
        refine lv_iload_n hx hb dX14_puts_11 rfl (lv_at hl 2 rfl) ?_
        obtain ⟨g12, hf⟩ := gd_some hf
        refine aw_iald hC hW g12 dX14_puts_12 ?_
        obtain ⟨g13, hf⟩ := gd_some hf
        obtain ⟨s13, e13, hf⟩ := bnd_some hf
        refine aw_iast e13 hC hW g13 dX14_puts_13 (fun H locs hW => ?_)
        obtain ⟨v14, ev14, hf⟩ := bnd_some hf
        refine lv_iinc (v := v14) (lv' := [(2, .int v14), (0, .ref (a r0)), (1, .ref (a r1))]) hx hb dX14_puts_14 hl (k := 2) rfl (by rw [ev14]; rfl) (by decide) rfl (fun ls hl => ?_)
        refine lv_goto (tgt := 2) hx hb dX14_puts_17 (by decide) ?_
        exact ih r0 r1 v14 s13 hf _ _ _ (lv_sub hl [1, 2, 0] rfl) hW
  unfold f_X14_puts at hf
  refine lv_iconst (v := 0) hx hb dX14_puts_0 (by decide) ?_
  refine lv_istore_n (lv' := [(2, .int 0), (0, .ref (a r0)), (1, .ref (a r1))]) hx hb dX14_puts_1 rfl hl (by decide) rfl (fun ls hl => ?_)
  exact B2 fuel r0 r1 0 s hf _ _ _ (lv_sub hl [1, 2, 0] rfl) hW
def f_X14_starts_b13 : Nat → Nat → Int32 → ST → Option (Unit × ST)
  | 0, _, _, _ => none
  | n + 1, r0, x1, s =>
  if 8 ≤ x1 then (some ((), s)) else gd (r0 < s.1 ∧ (kd s r0).1 = 14) <|
  (gr s r0 32).bind fun q20 =>
  gd (q20 < s.1 ∧ (kd s q20).1 = 100 ∧ ¬ ((x1 : Int32) < 0 ∨ (kd s q20).2 ≤ (x1 : Int32).toNatClampNeg)) <|
  bnd (pI s q20 (x1 : Int32).toNatClampNeg 0) fun s25 =>
  bnd (x1 + 1 : Int32) fun v26 =>
  f_X14_starts_b13 n r0 v26 s25
def f_X14_starts (o : Nat) (s : ST) : Option (Unit × ST) :=
  gd (o < s.1 ∧ (kd s o).1 = 14) <|
  (gr s o 10).bind fun q1 =>
  (gr s o 11).bind fun q5 =>
  ob (f_X14_puts q1 q5 s) fun _ s8 =>
  f_X14_starts_b13 fuel o 0 s8
set_option maxHeartbeats 4000000 in
theorem ct_X14_starts (l : Launch) (G : GM) (a : Nat → Nat) (o : Nat) (s : ST) (rv : Unit) (sf : ST) (hf : f_X14_starts o s = some (rv, sf)) : MD l G yX14_starts (ws_ yX14_starts cX14_starts 2 none) 1 [.ref (a o)] a s none sf := by
  refine md_of (d := 1) (lv := [(0, .ref (a o))]) (Or.inl (by decide)) (Nat.le_of_ble_eq_true rfl) rfl ?_
  intro p e s0 m args below meth c ls A P hP hC hr hnm hW hl
  have hx := hC.1
  have hb := hC.2.1
  have hts := hC.2.2.2.2.1
  have B13 : ∀ (n : Nat), ∀ (r0 : Nat) (x1 : Int32) (s : ST), f_X14_starts_b13 n r0 x1 s = some (rv, sf) → ∀ (H : Heap) (locs : List Loc) (ls : Array Slot), lv_has ls 2 [(0, .ref (a r0)), (1, .int x1)] → AW G a A s s0.heap H locs → WB p l e (rmD 1) s0 m args below meth c H locs G A P 13 ls [] := by
    intro n
    induction n with
    | zero => intro r0 x1 s hf; cases hf
    | succ n ih =>
      intro r0 x1 s hf H locs ls hl hW
      rw [f_X14_starts_b13] at hf
      refine lv_iload_n hx hb dX14_starts_13 rfl (lv_at hl 1 rfl) ?_
      refine lv_bipush (v := 8) hx hb dX14_starts_14 (by decide) ?_
      refine lv_icmp_ge (tgt := 32) hx hb dX14_starts_16 (by decide) (fun c16 => ?_) (fun c16 => ?_)
      · have hf := ifp c16 hf
        obtain ⟨e1, e2⟩ := so_inj hf
        exact aw_vret hC hW hr (p_eq hP rfl e2) (Nat.le_of_ble_eq_true rfl) (Nat.le_of_ble_eq_true rfl) dX14_starts_32
      · have hf := ifn c16 hf
        refine lv_aload_n hx hb dX14_starts_19 rfl (lv_at hl 0 rfl) ?_
        obtain ⟨g20, hf⟩ := gd_some hf
        obtain ⟨q20, hq20, hf⟩ := bi_some hf
        refine aw_gR hC hW g20 fl_X14_80 rfl hq20 dX14_starts_20 ?_
        refine lv_iload_n hx hb dX14_starts_23 rfl (lv_at hl 1 rfl) ?_
        refine lv_iconst (v := 0) hx hb dX14_starts_24 (by decide) ?_
        obtain ⟨g25, hf⟩ := gd_some hf
        obtain ⟨s25, e25, hf⟩ := bnd_some hf
        refine aw_iast e25 hC hW g25 dX14_starts_25 (fun H locs hW => ?_)
        have g20 := ko_pI e25 g20
        obtain ⟨v26, ev26, hf⟩ := bnd_some hf
        refine lv_iinc (v := v26) (lv' := [(1, .int v26), (0, .ref (a r0))]) hx hb dX14_starts_26 hl (k := 1) rfl (by rw [ev26]; rfl) (by decide) rfl (fun ls hl => ?_)
        refine lv_goto (tgt := 13) hx hb dX14_starts_29 (by decide) ?_
        exact ih r0 v26 s25 hf _ _ _ (lv_sub hl [1, 0] rfl) hW
  unfold f_X14_starts at hf
  refine lv_aload_n hx hb dX14_starts_0 rfl (lv_at hl 0 rfl) ?_
  obtain ⟨g1, hf⟩ := gd_some hf
  obtain ⟨q1, hq1, hf⟩ := bi_some hf
  refine aw_gR hC hW g1 fl_X14_44 rfl hq1 dX14_starts_1 ?_
  refine lv_aload_n hx hb dX14_starts_4 rfl (lv_at hl 0 rfl) ?_
  obtain ⟨q5, hq5, hf⟩ := bi_some hf
  refine aw_gR hC hW g1 fl_X14_47 rfl hq5 dX14_starts_5 ?_
  obtain ⟨_, s8, h8, hf⟩ := ob_some hf
  refine aw_dS0 (As := [.ref (a q1), .ref (a q5)]) (rest := []) (ct_X14_puts l G a q1 q5 s () s8 h8) hC hW hl.1 sy_X14_puts (Or.inl q1753) rfl rfl (Nat.le_of_ble_eq_true rfl) ⟨Nat.le_of_ble_eq_true rfl, Nat.le_of_ble_eq_true rfl⟩ ⟨Nat.le_of_ble_eq_true rfl, Nat.le_of_ble_eq_true rfl⟩ dX14_starts_8 (fun H locs hW => ?_)
  refine lv_iconst (v := 0) hx hb dX14_starts_11 (by decide) ?_
  refine lv_istore_n (lv' := [(1, .int 0), (0, .ref (a o))]) hx hb dX14_starts_12 rfl hl (by decide) rfl (fun ls hl => ?_)
  exact B13 fuel o 0 s8 hf _ _ _ (lv_sub hl [1, 0] rfl) hW
def f_X14_isPerson (o : Nat) (x1 : Int32) (s : ST) : Option (Int32 × ST) :=
  gd (o < s.1 ∧ (kd s o).1 = 14) <|
  bnd (p_in ((x1 : Int32).toInt64) 0 ((((gi s o 3) - 1) : Int32).toInt64)) fun v10 =>
  gd (v10 = 0 ∨ v10 = 1) <|
  some (v10, s)
set_option maxHeartbeats 4000000 in
theorem ct_X14_isPerson (l : Launch) (G : GM) (a : Nat → Nat) (o : Nat) (x1 : Int32) (s : ST) (rv : Int32) (sf : ST) (hf : f_X14_isPerson o x1 s = some (rv, sf)) : MD l G yX14_isPerson (ws_ yX14_isPerson cX14_isPerson 2 (some .boolean)) 1 [.ref (a o), .int x1] a s (some (.int rv)) sf := by
  refine md_of (d := 1) (lv := [(0, .ref (a o)), (1, .int x1)]) (Or.inl (by decide)) (Nat.le_of_ble_eq_true rfl) rfl ?_
  intro p e s0 m args below meth c ls A P hP hC hr hnm hW hl
  have hx := hC.1
  have hb := hC.2.1
  have hts := hC.2.2.2.2.1
  unfold f_X14_isPerson at hf
  refine lv_iload_n hx hb dX14_isPerson_0 rfl (lv_at hl 1 rfl) ?_
  refine lv_i2l (v := (x1 : Int32).toInt64) hx hb dX14_isPerson_1 rfl ?_
  refine lv_lconst (v := 0) hx hb dX14_isPerson_2 (by decide) ?_
  refine lv_aload_n hx hb dX14_isPerson_3 rfl (lv_at hl 0 rfl) ?_
  obtain ⟨g4, hf⟩ := gd_some hf
  refine aw_gI hC hW g4 fl_X14_117 rfl dX14_isPerson_4 ?_
  refine lv_iconst (v := 1) hx hb dX14_isPerson_7 (by decide) ?_
  refine lv_isub hx hb dX14_isPerson_8 ?_
  refine lv_i2l (v := (((gi s o 3) - 1) : Int32).toInt64) hx hb dX14_isPerson_9 rfl ?_
  obtain ⟨v10, ev10, hf⟩ := bnd_some hf
  refine aw_dS1 (As := [.long ((x1 : Int32).toInt64), .long 0, .long ((((gi s o 3) - 1) : Int32).toInt64)]) (rest := []) (pc_X14_in l G a ((x1 : Int32).toInt64) 0 ((((gi s o 3) - 1) : Int32).toInt64) s) hC hW hl.1 sy_X14_in (Or.inl q1514) rfl rfl (Nat.le_of_ble_eq_true rfl) ⟨Nat.le_of_ble_eq_true rfl, Nat.le_of_ble_eq_true rfl⟩ ⟨Nat.le_of_ble_eq_true rfl, Nat.le_of_ble_eq_true rfl⟩ dX14_isPerson_10 (fun H locs hW => ?_)
  refine top_i ev10 ?_
  obtain ⟨gz13, hf⟩ := gd_some hf
  obtain ⟨e1, e2⟩ := so_inj hf
  exact aw_iret hC hW hr (nb01 gz13) (p_eq hP (congrArg (fun z => some (Value.int z)) e1) e2) (Nat.le_of_ble_eq_true rfl) (Nat.le_of_ble_eq_true rfl) dX14_isPerson_13
def f_X14_isAlive (o : Nat) (x1 : Int32) (s : ST) : Option (Int32 × ST) :=
  gd (o < s.1 ∧ (kd s o).1 = 14) <|
  ob (f_X14_isPerson o x1 s) fun v2 s2 =>
  if v2 = 0 then (some (0, s2)) else gd (o < s2.1 ∧ (kd s2 o).1 = 14) <|
  (gr s2 o 10).bind fun q9 =>
  gd (q9 < s2.1 ∧ (kd s2 q9).1 = 100 ∧ ¬ ((16 : Int32) < 0 ∨ (kd s2 q9).2 ≤ (16 : Int32).toNatClampNeg)) <|
  bnd (p_has (gi s2 q9 (16 : Int32).toNatClampNeg) x1) fun v16 =>
  if v16 = 0 then (some (0, s2)) else some (1, s2)
set_option maxHeartbeats 4000000 in
theorem ct_X14_isAlive (l : Launch) (G : GM) (a : Nat → Nat) (o : Nat) (x1 : Int32) (s : ST) (rv : Int32) (sf : ST) (hf : f_X14_isAlive o x1 s = some (rv, sf)) : MD l G yX14_isAlive (ws_ yX14_isAlive cX14_isAlive 2 (some .boolean)) 2 [.ref (a o), .int x1] a s (some (.int rv)) sf := by
  refine md_of (d := 2) (lv := [(0, .ref (a o)), (1, .int x1)]) (Or.inl (by decide)) (Nat.le_of_ble_eq_true rfl) rfl ?_
  intro p e s0 m args below meth c ls A P hP hC hr hnm hW hl
  have hx := hC.1
  have hb := hC.2.1
  have hts := hC.2.2.2.2.1
  unfold f_X14_isAlive at hf
  refine lv_aload_n hx hb dX14_isAlive_0 rfl (lv_at hl 0 rfl) ?_
  refine lv_iload_n hx hb dX14_isAlive_1 rfl (lv_at hl 1 rfl) ?_
  obtain ⟨g2, hf⟩ := gd_some hf
  obtain ⟨v2, s2, h2, hf⟩ := ob_some hf
  refine aw_dV1 (r := o) (As := [.int x1]) (rest := []) (ct_X14_isPerson l G a o x1 s v2 s2 h2) hC hW hl.1 vy_X14_isPerson (Or.inl q1594) g2 rfl rfl rfl rfl (Nat.le_of_ble_eq_true rfl) ⟨Nat.le_of_ble_eq_true rfl, Nat.le_of_ble_eq_true rfl⟩ ⟨Nat.le_of_ble_eq_true rfl, Nat.le_of_ble_eq_true rfl⟩ dX14_isAlive_2 (fun H locs hW => ?_)
  refine lv_if_eq (tgt := 26) hx hb dX14_isAlive_5 (by decide) (fun c5 => ?_) (fun c5 => ?_)
  · have hf := ifp c5 hf
    refine lv_iconst (v := 0) hx hb dX14_isAlive_26 (by decide) ?_
    obtain ⟨e1, e2⟩ := so_inj hf
    exact aw_iret hC hW hr rfl (p_eq hP (congrArg (fun z => some (Value.int z)) e1) e2) (Nat.le_of_ble_eq_true rfl) (Nat.le_of_ble_eq_true rfl) dX14_isAlive_27
  · have hf := ifn c5 hf
    refine lv_aload_n hx hb dX14_isAlive_8 rfl (lv_at hl 0 rfl) ?_
    obtain ⟨g9, hf⟩ := gd_some hf
    obtain ⟨q9, hq9, hf⟩ := bi_some hf
    refine aw_gR hC hW g9 fl_X14_44 rfl hq9 dX14_isAlive_9 ?_
    refine lv_bipush (v := 16) hx hb dX14_isAlive_12 (by decide) ?_
    obtain ⟨g14, hf⟩ := gd_some hf
    refine aw_iald hC hW g14 dX14_isAlive_14 ?_
    refine lv_iload_n hx hb dX14_isAlive_15 rfl (lv_at hl 1 rfl) ?_
    obtain ⟨v16, ev16, hf⟩ := bnd_some hf
    refine aw_dS1 (As := [.int (gi s2 q9 (16 : Int32).toNatClampNeg), .int x1]) (rest := []) (pc_X14_has l G a (gi s2 q9 (16 : Int32).toNatClampNeg) x1 s2) hC hW hl.1 sy_X14_has (Or.inl q1626) rfl rfl (Nat.le_of_ble_eq_true rfl) ⟨Nat.le_of_ble_eq_true rfl, Nat.le_of_ble_eq_true rfl⟩ ⟨Nat.le_of_ble_eq_true rfl, Nat.le_of_ble_eq_true rfl⟩ dX14_isAlive_16 (fun H locs hW => ?_)
    refine top_i ev16 ?_
    refine lv_if_eq (tgt := 26) hx hb dX14_isAlive_19 (by decide) (fun c19 => ?_) (fun c19 => ?_)
    · have hf := ifp c19 hf
      refine lv_iconst (v := 0) hx hb dX14_isAlive_26 (by decide) ?_
      obtain ⟨e1, e2⟩ := so_inj hf
      exact aw_iret hC hW hr rfl (p_eq hP (congrArg (fun z => some (Value.int z)) e1) e2) (Nat.le_of_ble_eq_true rfl) (Nat.le_of_ble_eq_true rfl) dX14_isAlive_27
    · have hf := ifn c19 hf
      refine lv_iconst (v := 1) hx hb dX14_isAlive_22 (by decide) ?_
      refine lv_goto (tgt := 27) hx hb dX14_isAlive_23 (by decide) ?_
      obtain ⟨e1, e2⟩ := so_inj hf
      exact aw_iret hC hW hr rfl (p_eq hP (congrArg (fun z => some (Value.int z)) e1) e2) (Nat.le_of_ble_eq_true rfl) (Nat.le_of_ble_eq_true rfl) dX14_isAlive_27
def f_X14_enters (o : Nat) (y1 : Int64) (s : ST) : Option (Unit × ST) :=
  gd (o < s.1 ∧ (kd s o).1 = 14) <|
  (gr s o 2).bind fun q1 =>
  gd (q1 < s.1 ∧ (kd s q1).1 = 104 ∧ ¬ (((gi s o 1) : Int32) < 0 ∨ (kd s q1).2 ≤ ((gi s o 1) : Int32).toNatClampNeg)) <|
  bnd (pL s q1 ((gi s o 1) : Int32).toNatClampNeg y1) fun s9 =>
  bnd (pI s9 o 1 ((gi s9 o 1) + 1)) fun s17 =>
  some ((), s17)
set_option maxHeartbeats 4000000 in
theorem ct_X14_enters (l : Launch) (G : GM) (a : Nat → Nat) (o : Nat) (y1 : Int64) (s : ST) (rv : Unit) (sf : ST) (hf : f_X14_enters o y1 s = some (rv, sf)) : MD l G yX14_enters (ws_ yX14_enters cX14_enters 3 none) 0 [.ref (a o), .long y1] a s none sf := by
  refine md_of (d := 0) (lv := [(0, .ref (a o)), (1, .long y1)]) (Or.inl (by decide)) (Nat.le_of_ble_eq_true rfl) rfl ?_
  intro p e s0 m args below meth c ls A P hP hC hr hnm hW hl
  have hx := hC.1
  have hb := hC.2.1
  have hts := hC.2.2.2.2.1
  unfold f_X14_enters at hf
  refine lv_aload_n hx hb dX14_enters_0 rfl (lv_at hl 0 rfl) ?_
  obtain ⟨g1, hf⟩ := gd_some hf
  obtain ⟨q1, hq1, hf⟩ := bi_some hf
  refine aw_gR hC hW g1 fl_X14_11 rfl hq1 dX14_enters_1 ?_
  refine lv_aload_n hx hb dX14_enters_4 rfl (lv_at hl 0 rfl) ?_
  refine aw_gI hC hW g1 fl_X14_15 rfl dX14_enters_5 ?_
  refine lv_lload_n hx hb dX14_enters_8 rfl (lv_at hl 1 rfl) ?_
  obtain ⟨g9, hf⟩ := gd_some hf
  obtain ⟨s9, e9, hf⟩ := bnd_some hf
  refine aw_last e9 hC hW g9 dX14_enters_9 (fun H locs hW => ?_)
  have g1 := ko_pL e9 g1
  refine lv_aload_n hx hb dX14_enters_10 rfl (lv_at hl 0 rfl) ?_
  refine lv_dup hx hb dX14_enters_11 rfl ?_
  refine aw_gI hC hW g1 fl_X14_15 rfl dX14_enters_12 ?_
  refine lv_iconst (v := 1) hx hb dX14_enters_15 (by decide) ?_
  refine lv_iadd hx hb dX14_enters_16 ?_
  obtain ⟨s17, e17, hf⟩ := bnd_some hf
  refine aw_pI e17 hC hW g1 fl_X14_15 (Or.inl fn_13_1) rfl rfl rfl dX14_enters_17 (fun H locs hW => ?_)
  have g1 := ko_pI e17 g1
  obtain ⟨e1, e2⟩ := so_inj hf
  exact aw_vret hC hW hr (p_eq hP rfl e2) (Nat.le_of_ble_eq_true rfl) (Nat.le_of_ble_eq_true rfl) dX14_enters_20
def f_X14_absent_b47 (K9 : Nat → Int32 → Int32 → ST → Option (Int32 × ST)) (r0 : Nat) (x2 : Int32) (t0 : Int32) (t1 : Int32) (s : ST) : Option (Int32 × ST) :=
  bnd ((t1 ||| t0) : Int32) fun v48 =>
  bnd (x2 + 1 : Int32) fun v49 =>
  K9 r0 v48 v49 s
def f_X14_absent_b46 (K9 : Nat → Int32 → Int32 → ST → Option (Int32 × ST)) (r0 : Nat) (x2 : Int32) (t0 : Int32) (s : ST) : Option (Int32 × ST) :=
  f_X14_absent_b47 K9 r0 x2 0 t0 s
def f_X14_absent_b9 : Nat → Nat → Int32 → Int32 → ST → Option (Int32 × ST)
  | 0, _, _, _, _ => none
  | n + 1, r0, x1, x2, s =>
  gd (r0 < s.1 ∧ (kd s r0).1 = 14) <|
  if (gi s r0 3) ≤ x2 then (ob (f_X14_starts r0 s) fun _ s56 =>
  gd (r0 < s56.1 ∧ (kd s56 r0).1 = 14) <|
  bnd (pI s56 r0 1 0) fun s61 =>
  ob (f_X14_isSo r0 0 s61) fun v67 s67 =>
  bnd (p_flag v67) fun v70 =>
  gd (r0 < s67.1 ∧ (kd s67 r0).1 = 14) <|
  ob (f_X14_enters r0 ((v70 : Int32).toInt64) s67) fun _ s74 =>
  some (x1, s74)) else ob (f_X14_starts r0 s) fun _ s18 =>
  gd (r0 < s18.1 ∧ (kd s18 r0).1 = 14) <|
  ob (f_X14_isAlive r0 x2 s18) fun v24 s24 =>
  if v24 = 0 then (f_X14_absent_b46 (f_X14_absent_b9 n) r0 x2 x1 s24) else gd (r0 < s24.1 ∧ (kd s24 r0).1 = 14) <|
  ob (f_X14_isSo r0 (1 <<< (x2 &&& 31)) s24) fun v34 s34 =>
  if v34 = 0 then (f_X14_absent_b46 (f_X14_absent_b9 n) r0 x2 x1 s34) else f_X14_absent_b47 (f_X14_absent_b9 n) r0 x2 (1 <<< (x2 &&& 31)) x1 s34
def f_X14_absent (o : Nat) (s : ST) : Option (Int32 × ST) :=
  gd (o < s.1 ∧ (kd s o).1 = 14) <|
  bnd (pI s o 0 0) fun s2 =>
  f_X14_absent_b9 fuel o 0 0 s2
set_option maxHeartbeats 4000000 in
theorem ct_X14_absent (l : Launch) (G : GM) (a : Nat → Nat) (o : Nat) (s : ST) (rv : Int32) (sf : ST) (hf : f_X14_absent o s = some (rv, sf)) : MD l G yX14_absent (ws_ yX14_absent cX14_absent 3 (some .int)) 7 [.ref (a o)] a s (some (.int rv)) sf := by
  refine md_of (d := 7) (lv := [(0, .ref (a o))]) (Or.inl (by decide)) (Nat.le_of_ble_eq_true rfl) rfl ?_
  intro p e s0 m args below meth c ls A P hP hC hr hnm hW hl
  have hx := hC.1
  have hb := hC.2.1
  have hts := hC.2.2.2.2.1
  have B47 : ∀ (K9 : Nat → Int32 → Int32 → ST → Option (Int32 × ST)) (hK9 : ∀ (r0 : Nat) (x1 : Int32) (x2 : Int32) (s : ST), K9 r0 x1 x2 s = some (rv, sf) → ∀ (H : Heap) (locs : List Loc) (ls : Array Slot), lv_has ls 3 [(0, .ref (a r0)), (1, .int x1), (2, .int x2)] → AW G a A s s0.heap H locs → WB p l e (rmD 7) s0 m args below meth c H locs G A P 9 ls []), ∀ (r0 : Nat) (x2 : Int32) (t0 : Int32) (t1 : Int32) (s : ST), f_X14_absent_b47 K9 r0 x2 t0 t1 s = some (rv, sf) → ∀ (H : Heap) (locs : List Loc) (ls : Array Slot), lv_has ls 3 [(0, .ref (a r0)), (2, .int x2)] → AW G a A s s0.heap H locs → WB p l e (rmD 7) s0 m args below meth c H locs G A P 47 ls [.int t0, .int t1] := by
    intro K9 hK9 r0 x2 t0 t1 s hf H locs ls hl hW
    unfold f_X14_absent_b47 at hf
    refine lv_ior hx hb dX14_absent_47 ?_
    obtain ⟨v48, ev48, hf⟩ := bnd_some hf
    refine top_i ev48 ?_
    refine lv_istore_n (lv' := [(1, .int v48), (0, .ref (a r0)), (2, .int x2)]) hx hb dX14_absent_48 rfl hl (by decide) rfl (fun ls hl => ?_)
    obtain ⟨v49, ev49, hf⟩ := bnd_some hf
    refine lv_iinc (v := v49) (lv' := [(2, .int v49), (1, .int v48), (0, .ref (a r0))]) hx hb dX14_absent_49 hl (k := 2) rfl (by rw [ev49]; rfl) (by decide) rfl (fun ls hl => ?_)
    refine lv_goto (tgt := 9) hx hb dX14_absent_52 (by decide) ?_
    exact hK9 r0 v48 v49 s hf _ _ _ (lv_sub hl [2, 1, 0] rfl) hW
  have B46 : ∀ (K9 : Nat → Int32 → Int32 → ST → Option (Int32 × ST)) (hK9 : ∀ (r0 : Nat) (x1 : Int32) (x2 : Int32) (s : ST), K9 r0 x1 x2 s = some (rv, sf) → ∀ (H : Heap) (locs : List Loc) (ls : Array Slot), lv_has ls 3 [(0, .ref (a r0)), (1, .int x1), (2, .int x2)] → AW G a A s s0.heap H locs → WB p l e (rmD 7) s0 m args below meth c H locs G A P 9 ls []), ∀ (r0 : Nat) (x2 : Int32) (t0 : Int32) (s : ST), f_X14_absent_b46 K9 r0 x2 t0 s = some (rv, sf) → ∀ (H : Heap) (locs : List Loc) (ls : Array Slot), lv_has ls 3 [(0, .ref (a r0)), (2, .int x2)] → AW G a A s s0.heap H locs → WB p l e (rmD 7) s0 m args below meth c H locs G A P 46 ls [.int t0] := by
    intro K9 hK9 r0 x2 t0 s hf H locs ls hl hW
    unfold f_X14_absent_b46 at hf
    refine lv_iconst (v := 0) hx hb dX14_absent_46 (by decide) ?_
    exact B47 K9 hK9 r0 x2 0 t0 s hf _ _ _ (lv_sub hl [0, 1] rfl) hW
  have B9 : ∀ (n : Nat), ∀ (r0 : Nat) (x1 : Int32) (x2 : Int32) (s : ST), f_X14_absent_b9 n r0 x1 x2 s = some (rv, sf) → ∀ (H : Heap) (locs : List Loc) (ls : Array Slot), lv_has ls 3 [(0, .ref (a r0)), (1, .int x1), (2, .int x2)] → AW G a A s s0.heap H locs → WB p l e (rmD 7) s0 m args below meth c H locs G A P 9 ls [] := by
    intro n
    induction n with
    | zero => intro r0 x1 x2 s hf; cases hf
    | succ n ih =>
      intro r0 x1 x2 s hf H locs ls hl hW
      rw [f_X14_absent_b9] at hf
      refine lv_iload_n hx hb dX14_absent_9 rfl (lv_at hl 2 rfl) ?_
      refine lv_aload_n hx hb dX14_absent_10 rfl (lv_at hl 0 rfl) ?_
      obtain ⟨g11, hf⟩ := gd_some hf
      refine aw_gI hC hW g11 fl_X14_117 rfl dX14_absent_11 ?_
      refine lv_icmp_ge (tgt := 55) hx hb dX14_absent_14 (by decide) (fun c14 => ?_) (fun c14 => ?_)
      · have hf := ifp c14 hf
        refine lv_aload_n hx hb dX14_absent_55 rfl (lv_at hl 0 rfl) ?_
        obtain ⟨_, s56, h56, hf⟩ := ob_some hf
        refine aw_dV0 (r := r0) (As := []) (rest := []) (ct_X14_starts l G a r0 s () s56 h56) hC hW hl.1 vy_X14_starts (Or.inl q1749) g11 rfl rfl rfl rfl (Nat.le_of_ble_eq_true rfl) ⟨Nat.le_of_ble_eq_true rfl, Nat.le_of_ble_eq_true rfl⟩ ⟨Nat.le_of_ble_eq_true rfl, Nat.le_of_ble_eq_true rfl⟩ dX14_absent_56 (fun H locs hW => ?_)
        refine lv_aload_n hx hb dX14_absent_59 rfl (lv_at hl 0 rfl) ?_
        refine lv_iconst (v := 0) hx hb dX14_absent_60 (by decide) ?_
        obtain ⟨g61, hf⟩ := gd_some hf
        obtain ⟨s61, e61, hf⟩ := bnd_some hf
        refine aw_pI e61 hC hW g61 fl_X14_15 (Or.inl fn_13_1) rfl rfl rfl dX14_absent_61 (fun H locs hW => ?_)
        have g61 := ko_pI e61 g61
        refine lv_aload_n hx hb dX14_absent_64 rfl (lv_at hl 0 rfl) ?_
        refine lv_aload_n hx hb dX14_absent_65 rfl (lv_at hl 0 rfl) ?_
        refine lv_iconst (v := 0) hx hb dX14_absent_66 (by decide) ?_
        obtain ⟨v67, s67, h67, hf⟩ := ob_some hf
        refine aw_dV1 (r := r0) (As := [.int 0]) (rest := [.ref (a r0)]) (ct_X14_isSo l G a r0 0 s61 v67 s67 h67) hC hW hl.1 vy_X14_isSo (Or.inl q1890) g61 rfl rfl rfl rfl (Nat.le_of_ble_eq_true rfl) ⟨Nat.le_of_ble_eq_true rfl, Nat.le_of_ble_eq_true rfl⟩ ⟨Nat.le_of_ble_eq_true rfl, Nat.le_of_ble_eq_true rfl⟩ dX14_absent_67 (fun H locs hW => ?_)
        obtain ⟨v70, ev70, hf⟩ := bnd_some hf
        refine aw_dS1 (As := [.int v67]) (rest := [.ref (a r0)]) (pc_X14_flag l G a v67 s67) hC hW hl.1 sy_X14_flag (Or.inl q1544) rfl rfl (Nat.le_of_ble_eq_true rfl) ⟨Nat.le_of_ble_eq_true rfl, Nat.le_of_ble_eq_true rfl⟩ ⟨Nat.le_of_ble_eq_true rfl, Nat.le_of_ble_eq_true rfl⟩ dX14_absent_70 (fun H locs hW => ?_)
        refine top_i ev70 ?_
        refine lv_i2l (v := (v70 : Int32).toInt64) hx hb dX14_absent_73 rfl ?_
        obtain ⟨g74, hf⟩ := gd_some hf
        obtain ⟨_, s74, h74, hf⟩ := ob_some hf
        refine aw_dV0 (r := r0) (As := [.long ((v70 : Int32).toInt64)]) (rest := []) (ct_X14_enters l G a r0 ((v70 : Int32).toInt64) s67 () s74 h74) hC hW hl.1 vy_X14_enters (Or.inl q1689) g74 rfl rfl rfl rfl (Nat.le_of_ble_eq_true rfl) ⟨Nat.le_of_ble_eq_true rfl, Nat.le_of_ble_eq_true rfl⟩ ⟨Nat.le_of_ble_eq_true rfl, Nat.le_of_ble_eq_true rfl⟩ dX14_absent_74 (fun H locs hW => ?_)
        refine lv_iload_n hx hb dX14_absent_77 rfl (lv_at hl 1 rfl) ?_
        obtain ⟨e1, e2⟩ := so_inj hf
        exact aw_iret hC hW hr rfl (p_eq hP (congrArg (fun z => some (Value.int z)) e1) e2) (Nat.le_of_ble_eq_true rfl) (Nat.le_of_ble_eq_true rfl) dX14_absent_78
      · have hf := ifn c14 hf
        refine lv_aload_n hx hb dX14_absent_17 rfl (lv_at hl 0 rfl) ?_
        obtain ⟨_, s18, h18, hf⟩ := ob_some hf
        refine aw_dV0 (r := r0) (As := []) (rest := []) (ct_X14_starts l G a r0 s () s18 h18) hC hW hl.1 vy_X14_starts (Or.inl q1749) g11 rfl rfl rfl rfl (Nat.le_of_ble_eq_true rfl) ⟨Nat.le_of_ble_eq_true rfl, Nat.le_of_ble_eq_true rfl⟩ ⟨Nat.le_of_ble_eq_true rfl, Nat.le_of_ble_eq_true rfl⟩ dX14_absent_18 (fun H locs hW => ?_)
        refine lv_iload_n hx hb dX14_absent_21 rfl (lv_at hl 1 rfl) ?_
        refine lv_aload_n hx hb dX14_absent_22 rfl (lv_at hl 0 rfl) ?_
        refine lv_iload_n hx hb dX14_absent_23 rfl (lv_at hl 2 rfl) ?_
        obtain ⟨g24, hf⟩ := gd_some hf
        obtain ⟨v24, s24, h24, hf⟩ := ob_some hf
        refine aw_dV1 (r := r0) (As := [.int x2]) (rest := [.int x1]) (ct_X14_isAlive l G a r0 x2 s18 v24 s24 h24) hC hW hl.1 vy_X14_isAlive (Or.inl q1722) g24 rfl rfl rfl rfl (Nat.le_of_ble_eq_true rfl) ⟨Nat.le_of_ble_eq_true rfl, Nat.le_of_ble_eq_true rfl⟩ ⟨Nat.le_of_ble_eq_true rfl, Nat.le_of_ble_eq_true rfl⟩ dX14_absent_24 (fun H locs hW => ?_)
        refine lv_if_eq (tgt := 46) hx hb dX14_absent_27 (by decide) (fun c27 => ?_) (fun c27 => ?_)
        · have hf := ifp c27 hf
          exact B46 (f_X14_absent_b9 n) ih r0 x2 x1 s24 hf _ _ _ (lv_sub hl [0, 2] rfl) hW
        · have hf := ifn c27 hf
          refine lv_aload_n hx hb dX14_absent_30 rfl (lv_at hl 0 rfl) ?_
          refine lv_iconst (v := 1) hx hb dX14_absent_31 (by decide) ?_
          refine lv_iload_n hx hb dX14_absent_32 rfl (lv_at hl 2 rfl) ?_
          refine lv_ishl hx hb dX14_absent_33 ?_
          obtain ⟨g34, hf⟩ := gd_some hf
          obtain ⟨v34, s34, h34, hf⟩ := ob_some hf
          refine aw_dV1 (r := r0) (As := [.int (1 <<< (x2 &&& 31))]) (rest := [.int x1]) (ct_X14_isSo l G a r0 (1 <<< (x2 &&& 31)) s24 v34 s34 h34) hC hW hl.1 vy_X14_isSo (Or.inl q1890) g34 rfl rfl rfl rfl (Nat.le_of_ble_eq_true rfl) ⟨Nat.le_of_ble_eq_true rfl, Nat.le_of_ble_eq_true rfl⟩ ⟨Nat.le_of_ble_eq_true rfl, Nat.le_of_ble_eq_true rfl⟩ dX14_absent_34 (fun H locs hW => ?_)
          refine lv_if_eq (tgt := 46) hx hb dX14_absent_37 (by decide) (fun c37 => ?_) (fun c37 => ?_)
          · have hf := ifp c37 hf
            exact B46 (f_X14_absent_b9 n) ih r0 x2 x1 s34 hf _ _ _ (lv_sub hl [0, 2] rfl) hW
          · have hf := ifn c37 hf
            refine lv_iconst (v := 1) hx hb dX14_absent_40 (by decide) ?_
            refine lv_iload_n hx hb dX14_absent_41 rfl (lv_at hl 2 rfl) ?_
            refine lv_ishl hx hb dX14_absent_42 ?_
            refine lv_goto (tgt := 47) hx hb dX14_absent_43 (by decide) ?_
            exact B47 (f_X14_absent_b9 n) ih r0 x2 (1 <<< (x2 &&& 31)) x1 s34 hf _ _ _ (lv_sub hl [0, 2] rfl) hW
  unfold f_X14_absent at hf
  refine lv_aload_n hx hb dX14_absent_0 rfl (lv_at hl 0 rfl) ?_
  refine lv_iconst (v := 0) hx hb dX14_absent_1 (by decide) ?_
  obtain ⟨g2, hf⟩ := gd_some hf
  obtain ⟨s2, e2, hf⟩ := bnd_some hf
  refine aw_pI e2 hC hW g2 fl_X14_3 (Or.inl fn_13_0) rfl rfl rfl dX14_absent_2 (fun H locs hW => ?_)
  have g2 := ko_pI e2 g2
  refine lv_iconst (v := 0) hx hb dX14_absent_5 (by decide) ?_
  refine lv_istore_n (lv' := [(1, .int 0), (0, .ref (a o))]) hx hb dX14_absent_6 rfl hl (by decide) rfl (fun ls hl => ?_)
  refine lv_iconst (v := 0) hx hb dX14_absent_7 (by decide) ?_
  refine lv_istore_n (lv' := [(2, .int 0), (1, .int 0), (0, .ref (a o))]) hx hb dX14_absent_8 rfl hl (by decide) rfl (fun ls hl => ?_)
  exact B9 fuel o 0 0 s2 hf _ _ _ (lv_sub hl [2, 1, 0] rfl) hW
def f_X14_again_b43 : Nat → Nat → Int32 → Int32 → ST → Option (Int32 × ST)
  | 0, _, _, _, _ => none
  | n + 1, r0, x1, x2, s =>
  if 117 ≤ x2 then (gd (r0 < s.1 ∧ (kd s r0).1 = 14) <|
  bnd (pI s r0 28 0) fun s74 =>
  some (1, s74)) else gd (r0 < s.1 ∧ (kd s r0).1 = 14) <|
  (gr s r0 10).bind fun q50 =>
  (gr s r0 45).bind fun q55 =>
  gd (q55 < s.1 ∧ (kd s q55).1 = 100 ∧ ¬ ((((117 * x1) + x2) : Int32) < 0 ∨ (kd s q55).2 ≤ (((117 * x1) + x2) : Int32).toNatClampNeg)) <|
  gd (q50 < s.1 ∧ (kd s q50).1 = 100 ∧ ¬ ((x2 : Int32) < 0 ∨ (kd s q50).2 ≤ (x2 : Int32).toNatClampNeg)) <|
  bnd (pI s q50 (x2 : Int32).toNatClampNeg (gi s q55 (((117 * x1) + x2) : Int32).toNatClampNeg)) fun s65 =>
  bnd (x2 + 1 : Int32) fun v66 =>
  f_X14_again_b43 n r0 x1 v66 s65
def f_X14_again (o : Nat) (x1 : Int32) (s : ST) : Option (Int32 × ST) :=
  gd (o < s.1 ∧ (kd s o).1 = 14) <|
  bnd (pI s o 0 0) fun s2 =>
  bnd (p_in ((x1 : Int32).toInt64) 0 2) fun v11 =>
  if v11 = 0 then (some (0, s2)) else (gr s2 o 43).bind fun q18 =>
  gd (q18 < s2.1 ∧ (kd s2 q18).1 = 103 ∧ ¬ ((x1 : Int32) < 0 ∨ (kd s2 q18).2 ≤ (x1 : Int32).toNatClampNeg)) <|
  if (gi s2 q18 (x1 : Int32).toNatClampNeg) = 0 then (some (0, s2)) else (gr s2 o 44).bind fun q27 =>
  gd (q27 < s2.1 ∧ (kd s2 q27).1 = 100 ∧ ¬ ((x1 : Int32) < 0 ∨ (kd s2 q27).2 ≤ (x1 : Int32).toNatClampNeg)) <|
  if (gi s2 q27 (x1 : Int32).toNatClampNeg) = (gi s2 o 3) then (f_X14_again_b43 fuel o x1 0 s2) else some (0, s2)
set_option maxHeartbeats 4000000 in
theorem ct_X14_again (l : Launch) (G : GM) (a : Nat → Nat) (o : Nat) (x1 : Int32) (s : ST) (rv : Int32) (sf : ST) (hf : f_X14_again o x1 s = some (rv, sf)) : MD l G yX14_again (ws_ yX14_again cX14_again 3 (some .boolean)) 1 [.ref (a o), .int x1] a s (some (.int rv)) sf := by
  refine md_of (d := 1) (lv := [(0, .ref (a o)), (1, .int x1)]) (Or.inl (by decide)) (Nat.le_of_ble_eq_true rfl) rfl ?_
  intro p e s0 m args below meth c ls A P hP hC hr hnm hW hl
  have hx := hC.1
  have hb := hC.2.1
  have hts := hC.2.2.2.2.1
  have B43 : ∀ (n : Nat), ∀ (r0 : Nat) (x1 : Int32) (x2 : Int32) (s : ST), f_X14_again_b43 n r0 x1 x2 s = some (rv, sf) → ∀ (H : Heap) (locs : List Loc) (ls : Array Slot), lv_has ls 3 [(0, .ref (a r0)), (1, .int x1), (2, .int x2)] → AW G a A s s0.heap H locs → WB p l e (rmD 1) s0 m args below meth c H locs G A P 43 ls [] := by
    intro n
    induction n with
    | zero => intro r0 x1 x2 s hf; cases hf
    | succ n ih =>
      intro r0 x1 x2 s hf H locs ls hl hW
      rw [f_X14_again_b43] at hf
      refine lv_iload_n hx hb dX14_again_43 rfl (lv_at hl 2 rfl) ?_
      refine lv_bipush (v := 117) hx hb dX14_again_44 (by decide) ?_
      refine lv_icmp_ge (tgt := 72) hx hb dX14_again_46 (by decide) (fun c46 => ?_) (fun c46 => ?_)
      · have hf := ifp c46 hf
        refine lv_aload_n hx hb dX14_again_72 rfl (lv_at hl 0 rfl) ?_
        refine lv_iconst (v := 0) hx hb dX14_again_73 (by decide) ?_
        obtain ⟨g74, hf⟩ := gd_some hf
        obtain ⟨s74, e74, hf⟩ := bnd_some hf
        refine aw_pI e74 hC hW g74 fl_X14_207 (Or.inl fn_13_28) rfl rfl rfl dX14_again_74 (fun H locs hW => ?_)
        have g74 := ko_pI e74 g74
        refine lv_iconst (v := 1) hx hb dX14_again_77 (by decide) ?_
        obtain ⟨e1, e2⟩ := so_inj hf
        exact aw_iret hC hW hr rfl (p_eq hP (congrArg (fun z => some (Value.int z)) e1) e2) (Nat.le_of_ble_eq_true rfl) (Nat.le_of_ble_eq_true rfl) dX14_again_78
      · have hf := ifn c46 hf
        refine lv_aload_n hx hb dX14_again_49 rfl (lv_at hl 0 rfl) ?_
        obtain ⟨g50, hf⟩ := gd_some hf
        obtain ⟨q50, hq50, hf⟩ := bi_some hf
        refine aw_gR hC hW g50 fl_X14_44 rfl hq50 dX14_again_50 ?_
        refine lv_iload_n hx hb dX14_again_53 rfl (lv_at hl 2 rfl) ?_
        refine lv_aload_n hx hb dX14_again_54 rfl (lv_at hl 0 rfl) ?_
        obtain ⟨q55, hq55, hf⟩ := bi_some hf
        refine aw_gR hC hW g50 fl_X14_114 rfl hq55 dX14_again_55 ?_
        refine lv_bipush (v := 117) hx hb dX14_again_58 (by decide) ?_
        refine lv_iload_n hx hb dX14_again_60 rfl (lv_at hl 1 rfl) ?_
        refine lv_imul hx hb dX14_again_61 ?_
        refine lv_iload_n hx hb dX14_again_62 rfl (lv_at hl 2 rfl) ?_
        refine lv_iadd hx hb dX14_again_63 ?_
        obtain ⟨g64, hf⟩ := gd_some hf
        refine aw_iald hC hW g64 dX14_again_64 ?_
        obtain ⟨g65, hf⟩ := gd_some hf
        obtain ⟨s65, e65, hf⟩ := bnd_some hf
        refine aw_iast e65 hC hW g65 dX14_again_65 (fun H locs hW => ?_)
        have g50 := ko_pI e65 g50
        obtain ⟨v66, ev66, hf⟩ := bnd_some hf
        refine lv_iinc (v := v66) (lv' := [(2, .int v66), (0, .ref (a r0)), (1, .int x1)]) hx hb dX14_again_66 hl (k := 2) rfl (by rw [ev66]; rfl) (by decide) rfl (fun ls hl => ?_)
        refine lv_goto (tgt := 43) hx hb dX14_again_69 (by decide) ?_
        exact ih r0 x1 v66 s65 hf _ _ _ (lv_sub hl [1, 2, 0] rfl) hW
  unfold f_X14_again at hf
  refine lv_aload_n hx hb dX14_again_0 rfl (lv_at hl 0 rfl) ?_
  refine lv_iconst (v := 0) hx hb dX14_again_1 (by decide) ?_
  obtain ⟨g2, hf⟩ := gd_some hf
  obtain ⟨s2, e2, hf⟩ := bnd_some hf
  refine aw_pI e2 hC hW g2 fl_X14_3 (Or.inl fn_13_0) rfl rfl rfl dX14_again_2 (fun H locs hW => ?_)
  have g2 := ko_pI e2 g2
  refine lv_iload_n hx hb dX14_again_5 rfl (lv_at hl 1 rfl) ?_
  refine lv_i2l (v := (x1 : Int32).toInt64) hx hb dX14_again_6 rfl ?_
  refine lv_lconst (v := 0) hx hb dX14_again_7 (by decide) ?_
  refine lv_ldc2 (v := 2) hx hb hC.2.2.2.1 (hts _ q1906) dX14_again_8 ?_
  obtain ⟨v11, ev11, hf⟩ := bnd_some hf
  refine aw_dS1 (As := [.long ((x1 : Int32).toInt64), .long 0, .long 2]) (rest := []) (pc_X14_in l G a ((x1 : Int32).toInt64) 0 2 s2) hC hW hl.1 sy_X14_in (Or.inl q1514) rfl rfl (Nat.le_of_ble_eq_true rfl) ⟨Nat.le_of_ble_eq_true rfl, Nat.le_of_ble_eq_true rfl⟩ ⟨Nat.le_of_ble_eq_true rfl, Nat.le_of_ble_eq_true rfl⟩ dX14_again_11 (fun H locs hW => ?_)
  refine top_i ev11 ?_
  refine lv_if_eq (tgt := 39) hx hb dX14_again_14 (by decide) (fun c14 => ?_) (fun c14 => ?_)
  · have hf := ifp c14 hf
    refine lv_iconst (v := 0) hx hb dX14_again_39 (by decide) ?_
    obtain ⟨e1, e2⟩ := so_inj hf
    exact aw_iret hC hW hr rfl (p_eq hP (congrArg (fun z => some (Value.int z)) e1) e2) (Nat.le_of_ble_eq_true rfl) (Nat.le_of_ble_eq_true rfl) dX14_again_40
  · have hf := ifn c14 hf
    refine lv_aload_n hx hb dX14_again_17 rfl (lv_at hl 0 rfl) ?_
    obtain ⟨q18, hq18, hf⟩ := bi_some hf
    refine aw_gR hC hW g2 fl_X14_107 rfl hq18 dX14_again_18 ?_
    refine lv_iload_n hx hb dX14_again_21 rfl (lv_at hl 1 rfl) ?_
    obtain ⟨g22, hf⟩ := gd_some hf
    refine aw_zald hC hW g22 dX14_again_22 ?_
    refine lv_if_eq (tgt := 39) hx hb dX14_again_23 (by decide) (fun c23 => ?_) (fun c23 => ?_)
    · have hf := ifp c23 hf
      refine lv_iconst (v := 0) hx hb dX14_again_39 (by decide) ?_
      obtain ⟨e1, e2⟩ := so_inj hf
      exact aw_iret hC hW hr rfl (p_eq hP (congrArg (fun z => some (Value.int z)) e1) e2) (Nat.le_of_ble_eq_true rfl) (Nat.le_of_ble_eq_true rfl) dX14_again_40
    · have hf := ifn c23 hf
      refine lv_aload_n hx hb dX14_again_26 rfl (lv_at hl 0 rfl) ?_
      obtain ⟨q27, hq27, hf⟩ := bi_some hf
      refine aw_gR hC hW g2 fl_X14_111 rfl hq27 dX14_again_27 ?_
      refine lv_iload_n hx hb dX14_again_30 rfl (lv_at hl 1 rfl) ?_
      obtain ⟨g31, hf⟩ := gd_some hf
      refine aw_iald hC hW g31 dX14_again_31 ?_
      refine lv_aload_n hx hb dX14_again_32 rfl (lv_at hl 0 rfl) ?_
      refine aw_gI hC hW g2 fl_X14_117 rfl dX14_again_33 ?_
      refine lv_icmp_eq (tgt := 41) hx hb dX14_again_36 (by decide) (fun c36 => ?_) (fun c36 => ?_)
      · have hf := ifp c36 hf
        refine lv_iconst (v := 0) hx hb dX14_again_41 (by decide) ?_
        refine lv_istore_n (lv' := [(2, .int 0), (0, .ref (a o)), (1, .int x1)]) hx hb dX14_again_42 rfl hl (by decide) rfl (fun ls hl => ?_)
        exact B43 fuel o x1 0 s2 hf _ _ _ (lv_sub hl [1, 2, 0] rfl) hW
      · have hf := ifn c36 hf
        refine lv_iconst (v := 0) hx hb dX14_again_39 (by decide) ?_
        obtain ⟨e1, e2⟩ := so_inj hf
        exact aw_iret hC hW hr rfl (p_eq hP (congrArg (fun z => some (Value.int z)) e1) e2) (Nat.le_of_ble_eq_true rfl) (Nat.le_of_ble_eq_true rfl) dX14_again_40
def f_X14_among_b2 : Nat → Nat → Nat → Int32 → ST → Option (Int32 × ST)
  | 0, _, _, _, _ => none
  | n + 1, r0, i1, x2, s =>
  gd (i1 < 6) <|
  ob (f_J3_length i1 s) fun v4 s4 =>
  if v4 ≤ x2 then (some ((-1), s4)) else gd (r0 < s4.1 ∧ (kd s4 r0).1 = 14) <|
  if (gi s4 r0 15) ≤ (gi s4 r0 14) then (some ((-1), s4)) else ob (f_J3_charAt i1 x2 s4) fun v23 s23 =>
  gd (r0 < s23.1 ∧ (kd s23 r0).1 = 14) <|
  (gr s23 r0 12).bind fun q27 =>
  gd (q27 < s23.1 ∧ (kd s23 q27).1 = 100 ∧ ¬ (((gi s23 r0 14) : Int32) < 0 ∨ (kd s23 q27).2 ≤ ((gi s23 r0 14) : Int32).toNatClampNeg)) <|
  if v23 = (gi s23 q27 ((gi s23 r0 14) : Int32).toNatClampNeg) then (some (x2, s23)) else bnd (x2 + 1 : Int32) fun v40 =>
  f_X14_among_b2 n r0 i1 v40 s23
def f_X14_among (o : Nat) (i1 : Nat) (s : ST) : Option (Int32 × ST) :=
  f_X14_among_b2 fuel o i1 0 s
set_option maxHeartbeats 4000000 in
theorem ct_X14_among (l : Launch) (G : GM) (a : Nat → Nat) (o : Nat) (i1 : Nat) (s : ST) (rv : Int32) (sf : ST) (hf : f_X14_among o i1 s = some (rv, sf)) : MD l G yX14_among (ws_ yX14_among cX14_among 3 (some .int)) 4 [.ref (a o), .ref (G.2.2.2.1 i1)] a s (some (.int rv)) sf := by
  refine md_of (d := 4) (lv := [(0, .ref (a o)), (1, .ref (G.2.2.2.1 i1))]) (Or.inl (by decide)) (Nat.le_of_ble_eq_true rfl) rfl ?_
  intro p e s0 m args below meth c ls A P hP hC hr hnm hW hl
  have hx := hC.1
  have hb := hC.2.1
  have hts := hC.2.2.2.2.1
  have B2 : ∀ (n : Nat), ∀ (r0 : Nat) (i1 : Nat) (x2 : Int32) (s : ST), f_X14_among_b2 n r0 i1 x2 s = some (rv, sf) → ∀ (H : Heap) (locs : List Loc) (ls : Array Slot), lv_has ls 3 [(0, .ref (a r0)), (1, .ref (G.2.2.2.1 i1)), (2, .int x2)] → AW G a A s s0.heap H locs → WB p l e (rmD 4) s0 m args below meth c H locs G A P 2 ls [] := by
    intro n
    induction n with
    | zero => intro r0 i1 x2 s hf; cases hf
    | succ n ih =>
      intro r0 i1 x2 s hf H locs ls hl hW
      rw [f_X14_among_b2] at hf
      refine lv_iload_n hx hb dX14_among_2 rfl (lv_at hl 2 rfl) ?_
      refine lv_aload_n hx hb dX14_among_3 rfl (lv_at hl 1 rfl) ?_
      obtain ⟨gs4, hf⟩ := gd_some hf
      obtain ⟨v4, s4, h4, hf⟩ := ob_some hf
      refine aw_dSt1 (i := i1) (As := []) (rest := [.int x2]) gs4 (ct_J3_length l G a i1 s v4 s4 h4) hC hW hl.1 vy_J3_length rfl q1552 rfl rfl (Nat.le_of_ble_eq_true rfl) ⟨Nat.le_of_ble_eq_true rfl, Nat.le_of_ble_eq_true rfl⟩ ⟨Nat.le_of_ble_eq_true rfl, Nat.le_of_ble_eq_true rfl⟩ dX14_among_4 (fun H locs hW => ?_)
      refine lv_icmp_ge (tgt := 46) hx hb dX14_among_7 (by decide) (fun c7 => ?_) (fun c7 => ?_)
      · have hf := ifp c7 hf
        refine lv_iconst (v := (-1)) hx hb dX14_among_46 (by decide) ?_
        obtain ⟨e1, e2⟩ := so_inj hf
        exact aw_iret hC hW hr rfl (p_eq hP (congrArg (fun z => some (Value.int z)) e1) e2) (Nat.le_of_ble_eq_true rfl) (Nat.le_of_ble_eq_true rfl) dX14_among_47
      · have hf := ifn c7 hf
        refine lv_aload_n hx hb dX14_among_10 rfl (lv_at hl 0 rfl) ?_
        obtain ⟨g11, hf⟩ := gd_some hf
        refine aw_gI hC hW g11 fl_X14_135 rfl dX14_among_11 ?_
        refine lv_aload_n hx hb dX14_among_14 rfl (lv_at hl 0 rfl) ?_
        refine aw_gI hC hW g11 fl_X14_147 rfl dX14_among_15 ?_
        refine lv_icmp_ge (tgt := 46) hx hb dX14_among_18 (by decide) (fun c18 => ?_) (fun c18 => ?_)
        · have hf := ifp c18 hf
          refine lv_iconst (v := (-1)) hx hb dX14_among_46 (by decide) ?_
          obtain ⟨e1, e2⟩ := so_inj hf
          exact aw_iret hC hW hr rfl (p_eq hP (congrArg (fun z => some (Value.int z)) e1) e2) (Nat.le_of_ble_eq_true rfl) (Nat.le_of_ble_eq_true rfl) dX14_among_47
        · have hf := ifn c18 hf
          refine lv_aload_n hx hb dX14_among_21 rfl (lv_at hl 1 rfl) ?_
          refine lv_iload_n hx hb dX14_among_22 rfl (lv_at hl 2 rfl) ?_
          obtain ⟨v23, s23, h23, hf⟩ := ob_some hf
          refine aw_dSt1 (i := i1) (As := [.int x2]) (rest := []) gs4 (ct_J3_charAt l G a i1 x2 s4 v23 s23 h23) hC hW hl.1 vy_J3_charAt rfl q1553 rfl rfl (Nat.le_of_ble_eq_true rfl) ⟨Nat.le_of_ble_eq_true rfl, Nat.le_of_ble_eq_true rfl⟩ ⟨Nat.le_of_ble_eq_true rfl, Nat.le_of_ble_eq_true rfl⟩ dX14_among_23 (fun H locs hW => ?_)
          refine lv_aload_n hx hb dX14_among_26 rfl (lv_at hl 0 rfl) ?_
          obtain ⟨g27, hf⟩ := gd_some hf
          obtain ⟨q27, hq27, hf⟩ := bi_some hf
          refine aw_gR hC hW g27 fl_X14_50 rfl hq27 dX14_among_27 ?_
          refine lv_aload_n hx hb dX14_among_30 rfl (lv_at hl 0 rfl) ?_
          refine aw_gI hC hW g27 fl_X14_135 rfl dX14_among_31 ?_
          obtain ⟨g34, hf⟩ := gd_some hf
          refine aw_iald hC hW g34 dX14_among_34 ?_
          refine lv_icmp_ne (tgt := 40) hx hb dX14_among_35 (by decide) (fun c35 => ?_) (fun c35 => ?_)
          · have hf := ifn c35 hf
            obtain ⟨v40, ev40, hf⟩ := bnd_some hf
            refine lv_iinc (v := v40) (lv' := [(2, .int v40), (0, .ref (a r0)), (1, .ref (G.2.2.2.1 i1))]) hx hb dX14_among_40 hl (k := 2) rfl (by rw [ev40]; rfl) (by decide) rfl (fun ls hl => ?_)
            refine lv_goto (tgt := 2) hx hb dX14_among_43 (by decide) ?_
            exact ih r0 i1 v40 s23 hf _ _ _ (lv_sub hl [1, 2, 0] rfl) hW
          · have hf := ifp c35 hf
            refine lv_iload_n hx hb dX14_among_38 rfl (lv_at hl 2 rfl) ?_
            obtain ⟨e1, e2⟩ := so_inj hf
            exact aw_iret hC hW hr rfl (p_eq hP (congrArg (fun z => some (Value.int z)) e1) e2) (Nat.le_of_ble_eq_true rfl) (Nat.le_of_ble_eq_true rfl) dX14_among_39
  unfold f_X14_among at hf
  refine lv_iconst (v := 0) hx hb dX14_among_0 (by decide) ?_
  refine lv_istore_n (lv' := [(2, .int 0), (0, .ref (a o)), (1, .ref (G.2.2.2.1 i1))]) hx hb dX14_among_1 rfl hl (by decide) rfl (fun ls hl => ?_)
  exact B2 fuel o i1 0 s hf _ _ _ (lv_sub hl [1, 2, 0] rfl) hW
def f_X14_areSixty (x0 : Int32) (s : ST) : Option (Int32 × ST) :=
  bnd (p_in ((x0 : Int32).toInt64) 0 60) fun v6 =>
  gd (v6 = 0 ∨ v6 = 1) <|
  some (v6, s)
set_option maxHeartbeats 4000000 in
theorem ct_X14_areSixty (l : Launch) (G : GM) (a : Nat → Nat) (x0 : Int32) (s : ST) (rv : Int32) (sf : ST) (hf : f_X14_areSixty x0 s = some (rv, sf)) : MD l G yX14_areSixty (ws_ yX14_areSixty cX14_areSixty 1 (some .boolean)) 1 [.int x0] a s (some (.int rv)) sf := by
  refine md_of (d := 1) (lv := [(0, .int x0)]) (Or.inl (by decide)) (Nat.le_of_ble_eq_true rfl) rfl ?_
  intro p e s0 m args below meth c ls A P hP hC hr hnm hW hl
  have hx := hC.1
  have hb := hC.2.1
  have hts := hC.2.2.2.2.1
  unfold f_X14_areSixty at hf
  refine lv_iload_n hx hb dX14_areSixty_0 rfl (lv_at hl 0 rfl) ?_
  refine lv_i2l (v := (x0 : Int32).toInt64) hx hb dX14_areSixty_1 rfl ?_
  refine lv_lconst (v := 0) hx hb dX14_areSixty_2 (by decide) ?_
  refine lv_ldc2 (v := 60) hx hb hC.2.2.2.1 (hts _ q1820) dX14_areSixty_3 ?_
  obtain ⟨v6, ev6, hf⟩ := bnd_some hf
  refine aw_dS1 (As := [.long ((x0 : Int32).toInt64), .long 0, .long 60]) (rest := []) (pc_X14_in l G a ((x0 : Int32).toInt64) 0 60 s) hC hW hl.1 sy_X14_in (Or.inl q1514) rfl rfl (Nat.le_of_ble_eq_true rfl) ⟨Nat.le_of_ble_eq_true rfl, Nat.le_of_ble_eq_true rfl⟩ ⟨Nat.le_of_ble_eq_true rfl, Nat.le_of_ble_eq_true rfl⟩ dX14_areSixty_6 (fun H locs hW => ?_)
  refine top_i ev6 ?_
  obtain ⟨gz9, hf⟩ := gd_some hf
  obtain ⟨e1, e2⟩ := so_inj hf
  exact aw_iret hC hW hr (nb01 gz9) (p_eq hP (congrArg (fun z => some (Value.int z)) e1) e2) (Nat.le_of_ble_eq_true rfl) (Nat.le_of_ble_eq_true rfl) dX14_areSixty_9
def f_X14_areWeeks (x0 : Int32) (s : ST) : Option (Int32 × ST) :=
  bnd (p_in ((x0 : Int32).toInt64) 0 99) fun v6 =>
  gd (v6 = 0 ∨ v6 = 1) <|
  some (v6, s)
set_option maxHeartbeats 4000000 in
theorem ct_X14_areWeeks (l : Launch) (G : GM) (a : Nat → Nat) (x0 : Int32) (s : ST) (rv : Int32) (sf : ST) (hf : f_X14_areWeeks x0 s = some (rv, sf)) : MD l G yX14_areWeeks (ws_ yX14_areWeeks cX14_areWeeks 1 (some .boolean)) 1 [.int x0] a s (some (.int rv)) sf := by
  refine md_of (d := 1) (lv := [(0, .int x0)]) (Or.inl (by decide)) (Nat.le_of_ble_eq_true rfl) rfl ?_
  intro p e s0 m args below meth c ls A P hP hC hr hnm hW hl
  have hx := hC.1
  have hb := hC.2.1
  have hts := hC.2.2.2.2.1
  unfold f_X14_areWeeks at hf
  refine lv_iload_n hx hb dX14_areWeeks_0 rfl (lv_at hl 0 rfl) ?_
  refine lv_i2l (v := (x0 : Int32).toInt64) hx hb dX14_areWeeks_1 rfl ?_
  refine lv_lconst (v := 0) hx hb dX14_areWeeks_2 (by decide) ?_
  refine lv_ldc2 (v := 99) hx hb hC.2.2.2.1 (hts _ q1697) dX14_areWeeks_3 ?_
  obtain ⟨v6, ev6, hf⟩ := bnd_some hf
  refine aw_dS1 (As := [.long ((x0 : Int32).toInt64), .long 0, .long 99]) (rest := []) (pc_X14_in l G a ((x0 : Int32).toInt64) 0 99 s) hC hW hl.1 sy_X14_in (Or.inl q1514) rfl rfl (Nat.le_of_ble_eq_true rfl) ⟨Nat.le_of_ble_eq_true rfl, Nat.le_of_ble_eq_true rfl⟩ ⟨Nat.le_of_ble_eq_true rfl, Nat.le_of_ble_eq_true rfl⟩ dX14_areWeeks_6 (fun H locs hW => ?_)
  refine top_i ev6 ?_
  obtain ⟨gz9, hf⟩ := gd_some hf
  obtain ⟨e1, e2⟩ := so_inj hf
  exact aw_iret hC hW hr (nb01 gz9) (p_eq hP (congrArg (fun z => some (Value.int z)) e1) e2) (Nat.le_of_ble_eq_true rfl) (Nat.le_of_ble_eq_true rfl) dX14_areWeeks_9
def f_X14_begins (o : Nat) (x1 : Int32) (s : ST) : Option (Int32 × ST) :=
  gd (o < s.1 ∧ (kd s o).1 = 14) <|
  bnd ((gi s o 13) : Int32) fun v4 =>
  bnd (pI s o 13 0) fun s7 =>
  bnd (pI s7 o 14 0) fun s12 =>
  bnd (pI s12 o 16 0) fun s17 =>
  bnd (p_min v4 x1) fun v23 =>
  bnd (pI s17 o 15 v23) fun s26 =>
  some (v4, s26)
set_option maxHeartbeats 4000000 in
theorem ct_X14_begins (l : Launch) (G : GM) (a : Nat → Nat) (o : Nat) (x1 : Int32) (s : ST) (rv : Int32) (sf : ST) (hf : f_X14_begins o x1 s = some (rv, sf)) : MD l G yX14_begins (ws_ yX14_begins cX14_begins 3 (some .int)) 1 [.ref (a o), .int x1] a s (some (.int rv)) sf := by
  refine md_of (d := 1) (lv := [(0, .ref (a o)), (1, .int x1)]) (Or.inl (by decide)) (Nat.le_of_ble_eq_true rfl) rfl ?_
  intro p e s0 m args below meth c ls A P hP hC hr hnm hW hl
  have hx := hC.1
  have hb := hC.2.1
  have hts := hC.2.2.2.2.1
  unfold f_X14_begins at hf
  refine lv_aload_n hx hb dX14_begins_0 rfl (lv_at hl 0 rfl) ?_
  obtain ⟨g1, hf⟩ := gd_some hf
  refine aw_gI hC hW g1 fl_X14_132 rfl dX14_begins_1 ?_
  obtain ⟨v4, ev4, hf⟩ := bnd_some hf
  refine top_i ev4 ?_
  refine lv_istore_n (lv' := [(2, .int v4), (0, .ref (a o)), (1, .int x1)]) hx hb dX14_begins_4 rfl hl (by decide) rfl (fun ls hl => ?_)
  refine lv_aload_n hx hb dX14_begins_5 rfl (lv_at hl 1 rfl) ?_
  refine lv_iconst (v := 0) hx hb dX14_begins_6 (by decide) ?_
  obtain ⟨s7, e7, hf⟩ := bnd_some hf
  refine aw_pI e7 hC hW g1 fl_X14_132 (Or.inl fn_13_13) rfl rfl rfl dX14_begins_7 (fun H locs hW => ?_)
  have g1 := ko_pI e7 g1
  refine lv_aload_n hx hb dX14_begins_10 rfl (lv_at hl 1 rfl) ?_
  refine lv_iconst (v := 0) hx hb dX14_begins_11 (by decide) ?_
  obtain ⟨s12, e12, hf⟩ := bnd_some hf
  refine aw_pI e12 hC hW g1 fl_X14_135 (Or.inl fn_13_14) rfl rfl rfl dX14_begins_12 (fun H locs hW => ?_)
  have g1 := ko_pI e12 g1
  refine lv_aload_n hx hb dX14_begins_15 rfl (lv_at hl 1 rfl) ?_
  refine lv_iconst (v := 0) hx hb dX14_begins_16 (by decide) ?_
  obtain ⟨s17, e17, hf⟩ := bnd_some hf
  refine aw_pI e17 hC hW g1 fl_X14_138 (Or.inl fn_13_16) rfl rfl rfl dX14_begins_17 (fun H locs hW => ?_)
  have g1 := ko_pI e17 g1
  refine lv_aload_n hx hb dX14_begins_20 rfl (lv_at hl 1 rfl) ?_
  refine lv_iload_n hx hb dX14_begins_21 rfl (lv_at hl 0 rfl) ?_
  refine lv_iload_n hx hb dX14_begins_22 rfl (lv_at hl 2 rfl) ?_
  obtain ⟨v23, ev23, hf⟩ := bnd_some hf
  refine aw_dS1 (As := [.int v4, .int x1]) (rest := [.ref (a o)]) (pc_J0_min l G a v4 x1 s17) hC hW hl.1 sy_J0_min (Or.inl q1525) rfl rfl (Nat.le_of_ble_eq_true rfl) ⟨Nat.le_of_ble_eq_true rfl, Nat.le_of_ble_eq_true rfl⟩ ⟨Nat.le_of_ble_eq_true rfl, Nat.le_of_ble_eq_true rfl⟩ dX14_begins_23 (fun H locs hW => ?_)
  refine top_i ev23 ?_
  obtain ⟨s26, e26, hf⟩ := bnd_some hf
  refine aw_pI e26 hC hW g1 fl_X14_147 (Or.inl fn_13_15) rfl rfl rfl dX14_begins_26 (fun H locs hW => ?_)
  have g1 := ko_pI e26 g1
  refine lv_iload_n hx hb dX14_begins_29 rfl (lv_at hl 0 rfl) ?_
  obtain ⟨e1, e2⟩ := so_inj hf
  exact aw_iret hC hW hr rfl (p_eq hP (congrArg (fun z => some (Value.int z)) e1) e2) (Nat.le_of_ble_eq_true rfl) (Nat.le_of_ble_eq_true rfl) dX14_begins_30
def f_X14_startsWith (o : Nat) (x1 : Int32) (x2 : Int32) (s : ST) : Option (Unit × ST) :=
  gd (o < s.1 ∧ (kd s o).1 = 14) <|
  ob (f_X14_starts o s) fun _ s1 =>
  gd (o < s1.1 ∧ (kd s1 o).1 = 14) <|
  (gr s1 o 11).bind fun q5 =>
  (gr s1 o 11).bind fun q14 =>
  gd (q14 < s1.1 ∧ (kd s1 q14).1 = 100 ∧ ¬ ((x1 : Int32) < 0 ∨ (kd s1 q14).2 ≤ (x1 : Int32).toNatClampNeg)) <|
  bnd (p_min 999 ((gi s1 q14 (x1 : Int32).toNatClampNeg) + x2)) fun v21 =>
  bnd (p_max 1 v21) fun v24 =>
  gd (q5 < s1.1 ∧ (kd s1 q5).1 = 100 ∧ ¬ ((x1 : Int32) < 0 ∨ (kd s1 q5).2 ≤ (x1 : Int32).toNatClampNeg)) <|
  bnd (pI s1 q5 (x1 : Int32).toNatClampNeg v24) fun s27 =>
  some ((), s27)
set_option maxHeartbeats 4000000 in
theorem ct_X14_startsWith (l : Launch) (G : GM) (a : Nat → Nat) (o : Nat) (x1 : Int32) (x2 : Int32) (s : ST) (rv : Unit) (sf : ST) (hf : f_X14_startsWith o x1 x2 s = some (rv, sf)) : MD l G yX14_startsWith (ws_ yX14_startsWith cX14_startsWith 3 none) 2 [.ref (a o), .int x1, .int x2] a s none sf := by
  refine md_of (d := 2) (lv := [(0, .ref (a o)), (1, .int x1), (2, .int x2)]) (Or.inl (by decide)) (Nat.le_of_ble_eq_true rfl) rfl ?_
  intro p e s0 m args below meth c ls A P hP hC hr hnm hW hl
  have hx := hC.1
  have hb := hC.2.1
  have hts := hC.2.2.2.2.1
  unfold f_X14_startsWith at hf
  refine lv_aload_n hx hb dX14_startsWith_0 rfl (lv_at hl 0 rfl) ?_
  obtain ⟨g1, hf⟩ := gd_some hf
  obtain ⟨_, s1, h1, hf⟩ := ob_some hf
  refine aw_dV0 (r := o) (As := []) (rest := []) (ct_X14_starts l G a o s () s1 h1) hC hW hl.1 vy_X14_starts (Or.inl q1749) g1 rfl rfl rfl rfl (Nat.le_of_ble_eq_true rfl) ⟨Nat.le_of_ble_eq_true rfl, Nat.le_of_ble_eq_true rfl⟩ ⟨Nat.le_of_ble_eq_true rfl, Nat.le_of_ble_eq_true rfl⟩ dX14_startsWith_1 (fun H locs hW => ?_)
  refine lv_aload_n hx hb dX14_startsWith_4 rfl (lv_at hl 0 rfl) ?_
  obtain ⟨g5, hf⟩ := gd_some hf
  obtain ⟨q5, hq5, hf⟩ := bi_some hf
  refine aw_gR hC hW g5 fl_X14_47 rfl hq5 dX14_startsWith_5 ?_
  refine lv_iload_n hx hb dX14_startsWith_8 rfl (lv_at hl 1 rfl) ?_
  refine lv_iconst (v := 1) hx hb dX14_startsWith_9 (by decide) ?_
  refine lv_sipush (v := 999) hx hb dX14_startsWith_10 (by decide) ?_
  refine lv_aload_n hx hb dX14_startsWith_13 rfl (lv_at hl 0 rfl) ?_
  obtain ⟨q14, hq14, hf⟩ := bi_some hf
  refine aw_gR hC hW g5 fl_X14_47 rfl hq14 dX14_startsWith_14 ?_
  refine lv_iload_n hx hb dX14_startsWith_17 rfl (lv_at hl 1 rfl) ?_
  obtain ⟨g18, hf⟩ := gd_some hf
  refine aw_iald hC hW g18 dX14_startsWith_18 ?_
  refine lv_iload_n hx hb dX14_startsWith_19 rfl (lv_at hl 2 rfl) ?_
  refine lv_iadd hx hb dX14_startsWith_20 ?_
  obtain ⟨v21, ev21, hf⟩ := bnd_some hf
  refine aw_dS1 (As := [.int 999, .int ((gi s1 q14 (x1 : Int32).toNatClampNeg) + x2)]) (rest := [.int 1, .int x1, .ref (a q5)]) (pc_J0_min l G a 999 ((gi s1 q14 (x1 : Int32).toNatClampNeg) + x2) s1) hC hW hl.1 sy_J0_min (Or.inl q1525) rfl rfl (Nat.le_of_ble_eq_true rfl) ⟨Nat.le_of_ble_eq_true rfl, Nat.le_of_ble_eq_true rfl⟩ ⟨Nat.le_of_ble_eq_true rfl, Nat.le_of_ble_eq_true rfl⟩ dX14_startsWith_21 (fun H locs hW => ?_)
  refine top_i ev21 ?_
  obtain ⟨v24, ev24, hf⟩ := bnd_some hf
  refine aw_dS1 (As := [.int 1, .int v21]) (rest := [.int x1, .ref (a q5)]) (pc_J0_max l G a 1 v21 s1) hC hW hl.1 sy_J0_max (Or.inl q1633) rfl rfl (Nat.le_of_ble_eq_true rfl) ⟨Nat.le_of_ble_eq_true rfl, Nat.le_of_ble_eq_true rfl⟩ ⟨Nat.le_of_ble_eq_true rfl, Nat.le_of_ble_eq_true rfl⟩ dX14_startsWith_24 (fun H locs hW => ?_)
  refine top_i ev24 ?_
  obtain ⟨g27, hf⟩ := gd_some hf
  obtain ⟨s27, e27, hf⟩ := bnd_some hf
  refine aw_iast e27 hC hW g27 dX14_startsWith_27 (fun H locs hW => ?_)
  have g5 := ko_pI e27 g5
  obtain ⟨e1, e2⟩ := so_inj hf
  exact aw_vret hC hW hr (p_eq hP rfl e2) (Nat.le_of_ble_eq_true rfl) (Nat.le_of_ble_eq_true rfl) dX14_startsWith_28
def f_X14_bribe_b29 : Nat → Nat → Int32 → Int32 → Int32 → ST → Option (Int32 × ST)
  | 0, _, _, _, _, _ => none
  | n + 1, r0, x1, x2, x3, s =>
  if 999 < x3 then (some ((-2), s)) else gd (r0 < s.1 ∧ (kd s r0).1 = 14) <|
  ob (f_X14_startsWith r0 x1 x3 s) fun _ s39 =>
  gd (r0 < s39.1 ∧ (kd s39 r0).1 = 14) <|
  ob (f_X14_goesBy r0 x2 0 s39) fun _ s45 =>
  gd (r0 < s45.1 ∧ (kd s45 r0).1 = 14) <|
  (gr s45 r0 11).bind fun q49 =>
  gd (q49 < s45.1 ∧ (kd s45 q49).1 = 100 ∧ ¬ ((17 : Int32) < 0 ∨ (kd s45 q49).2 ≤ (17 : Int32).toNatClampNeg)) <|
  if (gi s45 q49 (17 : Int32).toNatClampNeg) = x1 then (bnd (pI s45 r0 1 0) fun s61 =>
  (gr s61 r0 32).bind fun q66 =>
  gd (q66 < s61.1 ∧ (kd s61 q66).1 = 100 ∧ ¬ ((x1 : Int32) < 0 ∨ (kd s61 q66).2 ≤ (x1 : Int32).toNatClampNeg)) <|
  ob (f_X14_enters r0 (((gi s61 q66 (x1 : Int32).toNatClampNeg) : Int32).toInt64) s61) fun _ s72 =>
  some (x3, s72)) else bnd (x3 + 1 : Int32) fun v77 =>
  f_X14_bribe_b29 n r0 x1 x2 v77 s45
def f_X14_bribe (o : Nat) (x1 : Int32) (x2 : Int32) (s : ST) : Option (Int32 × ST) :=
  gd (o < s.1 ∧ (kd s o).1 = 14) <|
  bnd (pI s o 0 0) fun s2 =>
  ob (f_X14_isAlive o x1 s2) fun v7 s7 =>
  if v7 = 0 then (some ((-1), s7)) else bnd (p_in ((x2 : Int32).toInt64) 1 60) fun v19 =>
  if v19 = 0 then (some ((-1), s7)) else f_X14_bribe_b29 fuel o x1 x2 0 s7
set_option maxHeartbeats 4000000 in
theorem ct_X14_bribe (l : Launch) (G : GM) (a : Nat → Nat) (o : Nat) (x1 : Int32) (x2 : Int32) (s : ST) (rv : Int32) (sf : ST) (hf : f_X14_bribe o x1 x2 s = some (rv, sf)) : MD l G yX14_bribe (ws_ yX14_bribe cX14_bribe 4 (some .int)) 6 [.ref (a o), .int x1, .int x2] a s (some (.int rv)) sf := by
  refine md_of (d := 6) (lv := [(0, .ref (a o)), (1, .int x1), (2, .int x2)]) (Or.inl (by decide)) (Nat.le_of_ble_eq_true rfl) rfl ?_
  intro p e s0 m args below meth c ls A P hP hC hr hnm hW hl
  have hx := hC.1
  have hb := hC.2.1
  have hts := hC.2.2.2.2.1
  have B29 : ∀ (n : Nat), ∀ (r0 : Nat) (x1 : Int32) (x2 : Int32) (x3 : Int32) (s : ST), f_X14_bribe_b29 n r0 x1 x2 x3 s = some (rv, sf) → ∀ (H : Heap) (locs : List Loc) (ls : Array Slot), lv_has ls 4 [(0, .ref (a r0)), (1, .int x1), (2, .int x2), (3, .int x3)] → AW G a A s s0.heap H locs → WB p l e (rmD 6) s0 m args below meth c H locs G A P 29 ls [] := by
    intro n
    induction n with
    | zero => intro r0 x1 x2 x3 s hf; cases hf
    | succ n ih =>
      intro r0 x1 x2 x3 s hf H locs ls hl hW
      rw [f_X14_bribe_b29] at hf
      refine lv_iload_n hx hb dX14_bribe_29 rfl (lv_at hl 3 rfl) ?_
      refine lv_sipush (v := 999) hx hb dX14_bribe_30 (by decide) ?_
      refine lv_icmp_gt (tgt := 83) hx hb dX14_bribe_33 (by decide) (fun c33 => ?_) (fun c33 => ?_)
      · have hf := ifp c33 hf
        refine lv_bipush (v := (-2)) hx hb dX14_bribe_83 (by decide) ?_
        obtain ⟨e1, e2⟩ := so_inj hf
        exact aw_iret hC hW hr rfl (p_eq hP (congrArg (fun z => some (Value.int z)) e1) e2) (Nat.le_of_ble_eq_true rfl) (Nat.le_of_ble_eq_true rfl) dX14_bribe_85
      · have hf := ifn c33 hf
        refine lv_aload_n hx hb dX14_bribe_36 rfl (lv_at hl 0 rfl) ?_
        refine lv_iload_n hx hb dX14_bribe_37 rfl (lv_at hl 1 rfl) ?_
        refine lv_iload_n hx hb dX14_bribe_38 rfl (lv_at hl 3 rfl) ?_
        obtain ⟨g39, hf⟩ := gd_some hf
        obtain ⟨_, s39, h39, hf⟩ := ob_some hf
        refine aw_dV0 (r := r0) (As := [.int x1, .int x3]) (rest := []) (ct_X14_startsWith l G a r0 x1 x3 s () s39 h39) hC hW hl.1 vy_X14_startsWith (Or.inl q1821) g39 rfl rfl rfl rfl (Nat.le_of_ble_eq_true rfl) ⟨Nat.le_of_ble_eq_true rfl, Nat.le_of_ble_eq_true rfl⟩ ⟨Nat.le_of_ble_eq_true rfl, Nat.le_of_ble_eq_true rfl⟩ dX14_bribe_39 (fun H locs hW => ?_)
        refine lv_aload_n hx hb dX14_bribe_42 rfl (lv_at hl 0 rfl) ?_
        refine lv_iload_n hx hb dX14_bribe_43 rfl (lv_at hl 2 rfl) ?_
        refine lv_iconst (v := 0) hx hb dX14_bribe_44 (by decide) ?_
        obtain ⟨g45, hf⟩ := gd_some hf
        obtain ⟨_, s45, h45, hf⟩ := ob_some hf
        refine aw_dV0 (r := r0) (As := [.int x2, .int 0]) (rest := []) (ct_X14_goesBy l G a r0 x2 0 s39 () s45 h45) hC hW hl.1 vy_X14_goesBy (Or.inl q1756) g45 rfl rfl rfl rfl (Nat.le_of_ble_eq_true rfl) ⟨Nat.le_of_ble_eq_true rfl, Nat.le_of_ble_eq_true rfl⟩ ⟨Nat.le_of_ble_eq_true rfl, Nat.le_of_ble_eq_true rfl⟩ dX14_bribe_45 (fun H locs hW => ?_)
        refine lv_aload_n hx hb dX14_bribe_48 rfl (lv_at hl 0 rfl) ?_
        obtain ⟨g49, hf⟩ := gd_some hf
        obtain ⟨q49, hq49, hf⟩ := bi_some hf
        refine aw_gR hC hW g49 fl_X14_47 rfl hq49 dX14_bribe_49 ?_
        refine lv_bipush (v := 17) hx hb dX14_bribe_52 (by decide) ?_
        obtain ⟨g54, hf⟩ := gd_some hf
        refine aw_iald hC hW g54 dX14_bribe_54 ?_
        refine lv_iload_n hx hb dX14_bribe_55 rfl (lv_at hl 1 rfl) ?_
        refine lv_icmp_ne (tgt := 77) hx hb dX14_bribe_56 (by decide) (fun c56 => ?_) (fun c56 => ?_)
        · have hf := ifn c56 hf
          obtain ⟨v77, ev77, hf⟩ := bnd_some hf
          refine lv_iinc (v := v77) (lv' := [(3, .int v77), (0, .ref (a r0)), (1, .int x1), (2, .int x2)]) hx hb dX14_bribe_77 hl (k := 3) rfl (by rw [ev77]; rfl) (by decide) rfl (fun ls hl => ?_)
          refine lv_goto (tgt := 29) hx hb dX14_bribe_80 (by decide) ?_
          exact ih r0 x1 x2 v77 s45 hf _ _ _ (lv_sub hl [1, 2, 3, 0] rfl) hW
        · have hf := ifp c56 hf
          refine lv_aload_n hx hb dX14_bribe_59 rfl (lv_at hl 0 rfl) ?_
          refine lv_iconst (v := 0) hx hb dX14_bribe_60 (by decide) ?_
          obtain ⟨s61, e61, hf⟩ := bnd_some hf
          refine aw_pI e61 hC hW g49 fl_X14_15 (Or.inl fn_13_1) rfl rfl rfl dX14_bribe_61 (fun H locs hW => ?_)
          have g49 := ko_pI e61 g49
          refine lv_aload_n hx hb dX14_bribe_64 rfl (lv_at hl 0 rfl) ?_
          refine lv_aload_n hx hb dX14_bribe_65 rfl (lv_at hl 0 rfl) ?_
          obtain ⟨q66, hq66, hf⟩ := bi_some hf
          refine aw_gR hC hW g49 fl_X14_80 rfl hq66 dX14_bribe_66 ?_
          refine lv_iload_n hx hb dX14_bribe_69 rfl (lv_at hl 1 rfl) ?_
          obtain ⟨g70, hf⟩ := gd_some hf
          refine aw_iald hC hW g70 dX14_bribe_70 ?_
          refine lv_i2l (v := ((gi s61 q66 (x1 : Int32).toNatClampNeg) : Int32).toInt64) hx hb dX14_bribe_71 rfl ?_
          obtain ⟨_, s72, h72, hf⟩ := ob_some hf
          refine aw_dV0 (r := r0) (As := [.long (((gi s61 q66 (x1 : Int32).toNatClampNeg) : Int32).toInt64)]) (rest := []) (ct_X14_enters l G a r0 (((gi s61 q66 (x1 : Int32).toNatClampNeg) : Int32).toInt64) s61 () s72 h72) hC hW hl.1 vy_X14_enters (Or.inl q1689) g49 rfl rfl rfl rfl (Nat.le_of_ble_eq_true rfl) ⟨Nat.le_of_ble_eq_true rfl, Nat.le_of_ble_eq_true rfl⟩ ⟨Nat.le_of_ble_eq_true rfl, Nat.le_of_ble_eq_true rfl⟩ dX14_bribe_72 (fun H locs hW => ?_)
          refine lv_iload_n hx hb dX14_bribe_75 rfl (lv_at hl 3 rfl) ?_
          obtain ⟨e1, e2⟩ := so_inj hf
          exact aw_iret hC hW hr rfl (p_eq hP (congrArg (fun z => some (Value.int z)) e1) e2) (Nat.le_of_ble_eq_true rfl) (Nat.le_of_ble_eq_true rfl) dX14_bribe_76
  unfold f_X14_bribe at hf
  refine lv_aload_n hx hb dX14_bribe_0 rfl (lv_at hl 0 rfl) ?_
  refine lv_iconst (v := 0) hx hb dX14_bribe_1 (by decide) ?_
  obtain ⟨g2, hf⟩ := gd_some hf
  obtain ⟨s2, e2, hf⟩ := bnd_some hf
  refine aw_pI e2 hC hW g2 fl_X14_3 (Or.inl fn_13_0) rfl rfl rfl dX14_bribe_2 (fun H locs hW => ?_)
  have g2 := ko_pI e2 g2
  refine lv_aload_n hx hb dX14_bribe_5 rfl (lv_at hl 0 rfl) ?_
  refine lv_iload_n hx hb dX14_bribe_6 rfl (lv_at hl 1 rfl) ?_
  obtain ⟨v7, s7, h7, hf⟩ := ob_some hf
  refine aw_dV1 (r := o) (As := [.int x1]) (rest := []) (ct_X14_isAlive l G a o x1 s2 v7 s7 h7) hC hW hl.1 vy_X14_isAlive (Or.inl q1722) g2 rfl rfl rfl rfl (Nat.le_of_ble_eq_true rfl) ⟨Nat.le_of_ble_eq_true rfl, Nat.le_of_ble_eq_true rfl⟩ ⟨Nat.le_of_ble_eq_true rfl, Nat.le_of_ble_eq_true rfl⟩ dX14_bribe_7 (fun H locs hW => ?_)
  refine lv_if_eq (tgt := 25) hx hb dX14_bribe_10 (by decide) (fun c10 => ?_) (fun c10 => ?_)
  · have hf := ifp c10 hf
    refine lv_iconst (v := (-1)) hx hb dX14_bribe_25 (by decide) ?_
    obtain ⟨e1, e2⟩ := so_inj hf
    exact aw_iret hC hW hr rfl (p_eq hP (congrArg (fun z => some (Value.int z)) e1) e2) (Nat.le_of_ble_eq_true rfl) (Nat.le_of_ble_eq_true rfl) dX14_bribe_26
  · have hf := ifn c10 hf
    refine lv_iload_n hx hb dX14_bribe_13 rfl (lv_at hl 2 rfl) ?_
    refine lv_i2l (v := (x2 : Int32).toInt64) hx hb dX14_bribe_14 rfl ?_
    refine lv_lconst (v := 1) hx hb dX14_bribe_15 (by decide) ?_
    refine lv_ldc2 (v := 60) hx hb hC.2.2.2.1 (hts _ q1820) dX14_bribe_16 ?_
    obtain ⟨v19, ev19, hf⟩ := bnd_some hf
    refine aw_dS1 (As := [.long ((x2 : Int32).toInt64), .long 1, .long 60]) (rest := []) (pc_X14_in l G a ((x2 : Int32).toInt64) 1 60 s7) hC hW hl.1 sy_X14_in (Or.inl q1514) rfl rfl (Nat.le_of_ble_eq_true rfl) ⟨Nat.le_of_ble_eq_true rfl, Nat.le_of_ble_eq_true rfl⟩ ⟨Nat.le_of_ble_eq_true rfl, Nat.le_of_ble_eq_true rfl⟩ dX14_bribe_19 (fun H locs hW => ?_)
    refine top_i ev19 ?_
    refine lv_if_ne (tgt := 27) hx hb dX14_bribe_22 (by decide) (fun c22 => ?_) (fun c22 => ?_)
    · have hf := ifn c22 hf
      refine lv_iconst (v := 0) hx hb dX14_bribe_27 (by decide) ?_
      refine lv_istore_n (lv' := [(3, .int 0), (0, .ref (a o)), (1, .int x1), (2, .int x2)]) hx hb dX14_bribe_28 rfl hl (by decide) rfl (fun ls hl => ?_)
      exact B29 fuel o x1 x2 0 s7 hf _ _ _ (lv_sub hl [1, 2, 3, 0] rfl) hW
    · have hf := ifp c22 hf
      refine lv_iconst (v := (-1)) hx hb dX14_bribe_25 (by decide) ?_
      obtain ⟨e1, e2⟩ := so_inj hf
      exact aw_iret hC hW hr rfl (p_eq hP (congrArg (fun z => some (Value.int z)) e1) e2) (Nat.le_of_ble_eq_true rfl) (Nat.le_of_ble_eq_true rfl) dX14_bribe_26
def f_X14_byPlans_b50 (K17 : Nat → Int32 → Int32 → Int32 → Int32 → Int32 → ST → Option (Int32 × ST)) (r0 : Nat) (x1 : Int32) (x2 : Int32) (x3 : Int32) (x5 : Int32) (t0 : Int32) (t1 : Int32) (s : ST) : Option (Int32 × ST) :=
  bnd ((t1 ||| t0) : Int32) fun v51 =>
  bnd (x5 + 1 : Int32) fun v53 =>
  K17 r0 x1 x2 x3 v51 v53 s
def f_X14_byPlans_b17 (K6 : Nat → Int32 → Int32 → Int32 → ST → Option (Int32 × ST)) : Nat → Nat → Int32 → Int32 → Int32 → Int32 → Int32 → ST → Option (Int32 × ST)
  | 0, _, _, _, _, _, _, _ => none
  | n + 1, r0, x1, x2, x3, x4, x5, s =>
  gd (r0 < s.1 ∧ (kd s r0).1 = 14) <|
  if (gi s r0 3) ≤ x5 then (ob (f_X14_goesNext r0 x4 s) fun _ s62 =>
  bnd (x3 + 1 : Int32) fun v65 =>
  K6 r0 x1 x2 v65 s62) else (gr s r0 33).bind fun q29 =>
  gd (q29 < s.1 ∧ (kd s q29).1 = 100 ∧ ¬ ((x5 : Int32) < 0 ∨ (kd s q29).2 ≤ (x5 : Int32).toNatClampNeg)) <|
  bnd (p_has (gi s q29 (x5 : Int32).toNatClampNeg) x3) fun v36 =>
  if v36 = 0 then (f_X14_byPlans_b50 (f_X14_byPlans_b17 K6 n) r0 x1 x2 x3 x5 0 x4 s) else f_X14_byPlans_b50 (f_X14_byPlans_b17 K6 n) r0 x1 x2 x3 x5 (1 <<< (x5 &&& 31)) x4 s
def f_X14_byPlans_b6 : Nat → Nat → Int32 → Int32 → Int32 → ST → Option (Int32 × ST)
  | 0, _, _, _, _, _ => none
  | n + 1, r0, x1, x2, x3, s =>
  if x2 ≤ x3 then (gd (r0 < s.1 ∧ (kd s r0).1 = 14) <|
  (gr s r0 32).bind fun q72 =>
  gd (q72 < s.1 ∧ (kd s q72).1 = 100 ∧ ¬ ((x1 : Int32) < 0 ∨ (kd s q72).2 ≤ (x1 : Int32).toNatClampNeg)) <|
  some ((gi s q72 (x1 : Int32).toNatClampNeg), s)) else f_X14_byPlans_b17 (f_X14_byPlans_b6 n) fuel r0 x1 x2 x3 0 0 s
def f_X14_byPlans (o : Nat) (x1 : Int32) (x2 : Int32) (s : ST) : Option (Int32 × ST) :=
  gd (o < s.1 ∧ (kd s o).1 = 14) <|
  ob (f_X14_starts o s) fun _ s1 =>
  f_X14_byPlans_b6 fuel o x1 x2 0 s1
set_option maxHeartbeats 4000000 in
theorem ct_X14_byPlans (l : Launch) (G : GM) (a : Nat → Nat) (o : Nat) (x1 : Int32) (x2 : Int32) (s : ST) (rv : Int32) (sf : ST) (hf : f_X14_byPlans o x1 x2 s = some (rv, sf)) : MD l G yX14_byPlans (ws_ yX14_byPlans cX14_byPlans 6 (some .int)) 4 [.ref (a o), .int x1, .int x2] a s (some (.int rv)) sf := by
  refine md_of (d := 4) (lv := [(0, .ref (a o)), (1, .int x1), (2, .int x2)]) (Or.inl (by decide)) (Nat.le_of_ble_eq_true rfl) rfl ?_
  intro p e s0 m args below meth c ls A P hP hC hr hnm hW hl
  have hx := hC.1
  have hb := hC.2.1
  have hts := hC.2.2.2.2.1
  have B50 : ∀ (K17 : Nat → Int32 → Int32 → Int32 → Int32 → Int32 → ST → Option (Int32 × ST)) (hK17 : ∀ (r0 : Nat) (x1 : Int32) (x2 : Int32) (x3 : Int32) (x4 : Int32) (x5 : Int32) (s : ST), K17 r0 x1 x2 x3 x4 x5 s = some (rv, sf) → ∀ (H : Heap) (locs : List Loc) (ls : Array Slot), lv_has ls 6 [(0, .ref (a r0)), (1, .int x1), (2, .int x2), (3, .int x3), (4, .int x4), (5, .int x5)] → AW G a A s s0.heap H locs → WB p l e (rmD 4) s0 m args below meth c H locs G A P 17 ls []), ∀ (r0 : Nat) (x1 : Int32) (x2 : Int32) (x3 : Int32) (x5 : Int32) (t0 : Int32) (t1 : Int32) (s : ST), f_X14_byPlans_b50 K17 r0 x1 x2 x3 x5 t0 t1 s = some (rv, sf) → ∀ (H : Heap) (locs : List Loc) (ls : Array Slot), lv_has ls 6 [(0, .ref (a r0)), (1, .int x1), (2, .int x2), (3, .int x3), (5, .int x5)] → AW G a A s s0.heap H locs → WB p l e (rmD 4) s0 m args below meth c H locs G A P 50 ls [.int t0, .int t1] := by
    intro K17 hK17 r0 x1 x2 x3 x5 t0 t1 s hf H locs ls hl hW
    unfold f_X14_byPlans_b50 at hf
    refine lv_ior hx hb dX14_byPlans_50 ?_
    obtain ⟨v51, ev51, hf⟩ := bnd_some hf
    refine top_i ev51 ?_
    refine lv_istore (lv' := [(4, .int v51), (0, .ref (a r0)), (1, .int x1), (2, .int x2), (3, .int x3), (5, .int x5)]) hx hb dX14_byPlans_51 hl (by decide) rfl (fun ls hl => ?_)
    obtain ⟨v53, ev53, hf⟩ := bnd_some hf
    refine lv_iinc (v := v53) (lv' := [(5, .int v53), (4, .int v51), (0, .ref (a r0)), (1, .int x1), (2, .int x2), (3, .int x3)]) hx hb dX14_byPlans_53 hl (k := 5) rfl (by rw [ev53]; rfl) (by decide) rfl (fun ls hl => ?_)
    refine lv_goto (tgt := 17) hx hb dX14_byPlans_56 (by decide) ?_
    exact hK17 r0 x1 x2 x3 v51 v53 s hf _ _ _ (lv_sub hl [2, 3, 4, 5, 1, 0] rfl) hW
  have B17 : ∀ (K6 : Nat → Int32 → Int32 → Int32 → ST → Option (Int32 × ST)) (hK6 : ∀ (r0 : Nat) (x1 : Int32) (x2 : Int32) (x3 : Int32) (s : ST), K6 r0 x1 x2 x3 s = some (rv, sf) → ∀ (H : Heap) (locs : List Loc) (ls : Array Slot), lv_has ls 6 [(0, .ref (a r0)), (1, .int x1), (2, .int x2), (3, .int x3)] → AW G a A s s0.heap H locs → WB p l e (rmD 4) s0 m args below meth c H locs G A P 6 ls []), ∀ (n : Nat), ∀ (r0 : Nat) (x1 : Int32) (x2 : Int32) (x3 : Int32) (x4 : Int32) (x5 : Int32) (s : ST), f_X14_byPlans_b17 K6 n r0 x1 x2 x3 x4 x5 s = some (rv, sf) → ∀ (H : Heap) (locs : List Loc) (ls : Array Slot), lv_has ls 6 [(0, .ref (a r0)), (1, .int x1), (2, .int x2), (3, .int x3), (4, .int x4), (5, .int x5)] → AW G a A s s0.heap H locs → WB p l e (rmD 4) s0 m args below meth c H locs G A P 17 ls [] := by
    intro K6 hK6
    intro n
    induction n with
    | zero => intro r0 x1 x2 x3 x4 x5 s hf; cases hf
    | succ n ih =>
      intro r0 x1 x2 x3 x4 x5 s hf H locs ls hl hW
      rw [f_X14_byPlans_b17] at hf
      refine lv_iload hx hb dX14_byPlans_17 (lv_at hl 5 rfl) ?_
      refine lv_aload_n hx hb dX14_byPlans_19 rfl (lv_at hl 0 rfl) ?_
      obtain ⟨g20, hf⟩ := gd_some hf
      refine aw_gI hC hW g20 fl_X14_117 rfl dX14_byPlans_20 ?_
      refine lv_icmp_ge (tgt := 59) hx hb dX14_byPlans_23 (by decide) (fun c23 => ?_) (fun c23 => ?_)
      · have hf := ifp c23 hf
        refine lv_aload_n hx hb dX14_byPlans_59 rfl (lv_at hl 0 rfl) ?_
        refine lv_iload hx hb dX14_byPlans_60 (lv_at hl 4 rfl) ?_
        obtain ⟨_, s62, h62, hf⟩ := ob_some hf
        refine aw_dV0 (r := r0) (As := [.int x4]) (rest := []) (ct_X14_goesNext l G a r0 x4 s () s62 h62) hC hW hl.1 vy_X14_goesNext (Or.inl q1760) g20 rfl rfl rfl rfl (Nat.le_of_ble_eq_true rfl) ⟨Nat.le_of_ble_eq_true rfl, Nat.le_of_ble_eq_true rfl⟩ ⟨Nat.le_of_ble_eq_true rfl, Nat.le_of_ble_eq_true rfl⟩ dX14_byPlans_62 (fun H locs hW => ?_)
        obtain ⟨v65, ev65, hf⟩ := bnd_some hf
        refine lv_iinc (v := v65) (lv' := [(3, .int v65), (0, .ref (a r0)), (1, .int x1), (2, .int x2), (4, .int x4), (5, .int x5)]) hx hb dX14_byPlans_65 hl (k := 3) rfl (by rw [ev65]; rfl) (by decide) rfl (fun ls hl => ?_)
        refine lv_goto (tgt := 6) hx hb dX14_byPlans_68 (by decide) ?_
        exact hK6 r0 x1 x2 v65 s62 hf _ _ _ (lv_sub hl [1, 2, 3, 0] rfl) hW
      · have hf := ifn c23 hf
        refine lv_iload hx hb dX14_byPlans_26 (lv_at hl 4 rfl) ?_
        refine lv_aload_n hx hb dX14_byPlans_28 rfl (lv_at hl 0 rfl) ?_
        obtain ⟨q29, hq29, hf⟩ := bi_some hf
        refine aw_gR hC hW g20 fl_X14_83 rfl hq29 dX14_byPlans_29 ?_
        refine lv_iload hx hb dX14_byPlans_32 (lv_at hl 5 rfl) ?_
        obtain ⟨g34, hf⟩ := gd_some hf
        refine aw_iald hC hW g34 dX14_byPlans_34 ?_
        refine lv_iload_n hx hb dX14_byPlans_35 rfl (lv_at hl 3 rfl) ?_
        obtain ⟨v36, ev36, hf⟩ := bnd_some hf
        refine aw_dS1 (As := [.int (gi s q29 (x5 : Int32).toNatClampNeg), .int x3]) (rest := [.int x4]) (pc_X14_has l G a (gi s q29 (x5 : Int32).toNatClampNeg) x3 s) hC hW hl.1 sy_X14_has (Or.inl q1626) rfl rfl (Nat.le_of_ble_eq_true rfl) ⟨Nat.le_of_ble_eq_true rfl, Nat.le_of_ble_eq_true rfl⟩ ⟨Nat.le_of_ble_eq_true rfl, Nat.le_of_ble_eq_true rfl⟩ dX14_byPlans_36 (fun H locs hW => ?_)
        refine top_i ev36 ?_
        refine lv_if_eq (tgt := 49) hx hb dX14_byPlans_39 (by decide) (fun c39 => ?_) (fun c39 => ?_)
        · have hf := ifp c39 hf
          refine lv_iconst (v := 0) hx hb dX14_byPlans_49 (by decide) ?_
          exact B50 (f_X14_byPlans_b17 K6 n) ih r0 x1 x2 x3 x5 0 x4 s hf _ _ _ (lv_sub hl [0, 1, 2, 3, 5] rfl) hW
        · have hf := ifn c39 hf
          refine lv_iconst (v := 1) hx hb dX14_byPlans_42 (by decide) ?_
          refine lv_iload hx hb dX14_byPlans_43 (lv_at hl 5 rfl) ?_
          refine lv_ishl hx hb dX14_byPlans_45 ?_
          refine lv_goto (tgt := 50) hx hb dX14_byPlans_46 (by decide) ?_
          exact B50 (f_X14_byPlans_b17 K6 n) ih r0 x1 x2 x3 x5 (1 <<< (x5 &&& 31)) x4 s hf _ _ _ (lv_sub hl [0, 1, 2, 3, 5] rfl) hW
  have B6 : ∀ (n : Nat), ∀ (r0 : Nat) (x1 : Int32) (x2 : Int32) (x3 : Int32) (s : ST), f_X14_byPlans_b6 n r0 x1 x2 x3 s = some (rv, sf) → ∀ (H : Heap) (locs : List Loc) (ls : Array Slot), lv_has ls 6 [(0, .ref (a r0)), (1, .int x1), (2, .int x2), (3, .int x3)] → AW G a A s s0.heap H locs → WB p l e (rmD 4) s0 m args below meth c H locs G A P 6 ls [] := by
    intro n
    induction n with
    | zero => intro r0 x1 x2 x3 s hf; cases hf
    | succ n ih =>
      intro r0 x1 x2 x3 s hf H locs ls hl hW
      rw [f_X14_byPlans_b6] at hf
      refine lv_iload_n hx hb dX14_byPlans_6 rfl (lv_at hl 3 rfl) ?_
      refine lv_iload_n hx hb dX14_byPlans_7 rfl (lv_at hl 2 rfl) ?_
      refine lv_icmp_ge (tgt := 71) hx hb dX14_byPlans_8 (by decide) (fun c8 => ?_) (fun c8 => ?_)
      · have hf := ifp c8 hf
        refine lv_aload_n hx hb dX14_byPlans_71 rfl (lv_at hl 0 rfl) ?_
        obtain ⟨g72, hf⟩ := gd_some hf
        obtain ⟨q72, hq72, hf⟩ := bi_some hf
        refine aw_gR hC hW g72 fl_X14_80 rfl hq72 dX14_byPlans_72 ?_
        refine lv_iload_n hx hb dX14_byPlans_75 rfl (lv_at hl 1 rfl) ?_
        obtain ⟨g76, hf⟩ := gd_some hf
        refine aw_iald hC hW g76 dX14_byPlans_76 ?_
        obtain ⟨e1, e2⟩ := so_inj hf
        exact aw_iret hC hW hr rfl (p_eq hP (congrArg (fun z => some (Value.int z)) e1) e2) (Nat.le_of_ble_eq_true rfl) (Nat.le_of_ble_eq_true rfl) dX14_byPlans_77
      · have hf := ifn c8 hf
        refine lv_iconst (v := 0) hx hb dX14_byPlans_11 (by decide) ?_
        refine lv_istore (lv' := [(4, .int 0), (0, .ref (a r0)), (1, .int x1), (2, .int x2), (3, .int x3)]) hx hb dX14_byPlans_12 hl (by decide) rfl (fun ls hl => ?_)
        refine lv_iconst (v := 0) hx hb dX14_byPlans_14 (by decide) ?_
        refine lv_istore (lv' := [(5, .int 0), (4, .int 0), (0, .ref (a r0)), (1, .int x1), (2, .int x2), (3, .int x3)]) hx hb dX14_byPlans_15 hl (by decide) rfl (fun ls hl => ?_)
        exact B17 (f_X14_byPlans_b6 n) ih fuel r0 x1 x2 x3 0 0 s hf _ _ _ (lv_sub hl [2, 3, 4, 5, 1, 0] rfl) hW
  unfold f_X14_byPlans at hf
  refine lv_aload_n hx hb dX14_byPlans_0 rfl (lv_at hl 0 rfl) ?_
  obtain ⟨g1, hf⟩ := gd_some hf
  obtain ⟨_, s1, h1, hf⟩ := ob_some hf
  refine aw_dV0 (r := o) (As := []) (rest := []) (ct_X14_starts l G a o s () s1 h1) hC hW hl.1 vy_X14_starts (Or.inl q1749) g1 rfl rfl rfl rfl (Nat.le_of_ble_eq_true rfl) ⟨Nat.le_of_ble_eq_true rfl, Nat.le_of_ble_eq_true rfl⟩ ⟨Nat.le_of_ble_eq_true rfl, Nat.le_of_ble_eq_true rfl⟩ dX14_byPlans_1 (fun H locs hW => ?_)
  refine lv_iconst (v := 0) hx hb dX14_byPlans_4 (by decide) ?_
  refine lv_istore_n (lv' := [(3, .int 0), (0, .ref (a o)), (1, .int x1), (2, .int x2)]) hx hb dX14_byPlans_5 rfl hl (by decide) rfl (fun ls hl => ?_)
  exact B6 fuel o x1 x2 0 s1 hf _ _ _ (lv_sub hl [1, 2, 3, 0] rfl) hW
def f_X14_servedBy_b33 (K4 : Nat → Int32 → Int32 → Int32 → ST → Option (Int32 × ST)) (r0 : Nat) (x1 : Int32) (x3 : Int32) (t0 : Int32) (t1 : Int32) (s : ST) : Option (Int32 × ST) :=
  bnd ((t1 + t0) : Int32) fun v34 =>
  bnd (x3 + 1 : Int32) fun v35 =>
  K4 r0 x1 v34 v35 s
def f_X14_servedBy_b4 : Nat → Nat → Int32 → Int32 → Int32 → ST → Option (Int32 × ST)
  | 0, _, _, _, _, _ => none
  | n + 1, r0, x1, x2, x3, s =>
  gd (r0 < s.1 ∧ (kd s r0).1 = 14) <|
  if (gi s r0 3) ≤ x3 then (some (x2, s)) else (gr s r0 4).bind fun q14 =>
  gd (q14 < s.1 ∧ (kd s q14).1 = 100 ∧ ¬ ((x3 : Int32) < 0 ∨ (kd s q14).2 ≤ (x3 : Int32).toNatClampNeg)) <|
  if (gi s q14 (x3 : Int32).toNatClampNeg) = x1 then ((gr s r0 32).bind fun q24 =>
  gd (q24 < s.1 ∧ (kd s q24).1 = 100 ∧ ¬ ((x3 : Int32) < 0 ∨ (kd s q24).2 ≤ (x3 : Int32).toNatClampNeg)) <|
  f_X14_servedBy_b33 (f_X14_servedBy_b4 n) r0 x1 x3 (gi s q24 (x3 : Int32).toNatClampNeg) x2 s) else f_X14_servedBy_b33 (f_X14_servedBy_b4 n) r0 x1 x3 0 x2 s
def f_X14_servedBy (o : Nat) (x1 : Int32) (s : ST) : Option (Int32 × ST) :=
  f_X14_servedBy_b4 fuel o x1 0 0 s
set_option maxHeartbeats 4000000 in
theorem ct_X14_servedBy (l : Launch) (G : GM) (a : Nat → Nat) (o : Nat) (x1 : Int32) (s : ST) (rv : Int32) (sf : ST) (hf : f_X14_servedBy o x1 s = some (rv, sf)) : MD l G yX14_servedBy (ws_ yX14_servedBy cX14_servedBy 4 (some .int)) 0 [.ref (a o), .int x1] a s (some (.int rv)) sf := by
  refine md_of (d := 0) (lv := [(0, .ref (a o)), (1, .int x1)]) (Or.inl (by decide)) (Nat.le_of_ble_eq_true rfl) rfl ?_
  intro p e s0 m args below meth c ls A P hP hC hr hnm hW hl
  have hx := hC.1
  have hb := hC.2.1
  have hts := hC.2.2.2.2.1
  have B33 : ∀ (K4 : Nat → Int32 → Int32 → Int32 → ST → Option (Int32 × ST)) (hK4 : ∀ (r0 : Nat) (x1 : Int32) (x2 : Int32) (x3 : Int32) (s : ST), K4 r0 x1 x2 x3 s = some (rv, sf) → ∀ (H : Heap) (locs : List Loc) (ls : Array Slot), lv_has ls 4 [(0, .ref (a r0)), (1, .int x1), (2, .int x2), (3, .int x3)] → AW G a A s s0.heap H locs → WB p l e (rmD 0) s0 m args below meth c H locs G A P 4 ls []), ∀ (r0 : Nat) (x1 : Int32) (x3 : Int32) (t0 : Int32) (t1 : Int32) (s : ST), f_X14_servedBy_b33 K4 r0 x1 x3 t0 t1 s = some (rv, sf) → ∀ (H : Heap) (locs : List Loc) (ls : Array Slot), lv_has ls 4 [(0, .ref (a r0)), (1, .int x1), (3, .int x3)] → AW G a A s s0.heap H locs → WB p l e (rmD 0) s0 m args below meth c H locs G A P 33 ls [.int t0, .int t1] := by
    intro K4 hK4 r0 x1 x3 t0 t1 s hf H locs ls hl hW
    unfold f_X14_servedBy_b33 at hf
    refine lv_iadd hx hb dX14_servedBy_33 ?_
    obtain ⟨v34, ev34, hf⟩ := bnd_some hf
    refine top_i ev34 ?_
    refine lv_istore_n (lv' := [(2, .int v34), (0, .ref (a r0)), (1, .int x1), (3, .int x3)]) hx hb dX14_servedBy_34 rfl hl (by decide) rfl (fun ls hl => ?_)
    obtain ⟨v35, ev35, hf⟩ := bnd_some hf
    refine lv_iinc (v := v35) (lv' := [(3, .int v35), (2, .int v34), (0, .ref (a r0)), (1, .int x1)]) hx hb dX14_servedBy_35 hl (k := 3) rfl (by rw [ev35]; rfl) (by decide) rfl (fun ls hl => ?_)
    refine lv_goto (tgt := 4) hx hb dX14_servedBy_38 (by decide) ?_
    exact hK4 r0 x1 v34 v35 s hf _ _ _ (lv_sub hl [2, 3, 1, 0] rfl) hW
  have B4 : ∀ (n : Nat), ∀ (r0 : Nat) (x1 : Int32) (x2 : Int32) (x3 : Int32) (s : ST), f_X14_servedBy_b4 n r0 x1 x2 x3 s = some (rv, sf) → ∀ (H : Heap) (locs : List Loc) (ls : Array Slot), lv_has ls 4 [(0, .ref (a r0)), (1, .int x1), (2, .int x2), (3, .int x3)] → AW G a A s s0.heap H locs → WB p l e (rmD 0) s0 m args below meth c H locs G A P 4 ls [] := by
    intro n
    induction n with
    | zero => intro r0 x1 x2 x3 s hf; cases hf
    | succ n ih =>
      intro r0 x1 x2 x3 s hf H locs ls hl hW
      rw [f_X14_servedBy_b4] at hf
      refine lv_iload_n hx hb dX14_servedBy_4 rfl (lv_at hl 3 rfl) ?_
      refine lv_aload_n hx hb dX14_servedBy_5 rfl (lv_at hl 0 rfl) ?_
      obtain ⟨g6, hf⟩ := gd_some hf
      refine aw_gI hC hW g6 fl_X14_117 rfl dX14_servedBy_6 ?_
      refine lv_icmp_ge (tgt := 41) hx hb dX14_servedBy_9 (by decide) (fun c9 => ?_) (fun c9 => ?_)
      · have hf := ifp c9 hf
        refine lv_iload_n hx hb dX14_servedBy_41 rfl (lv_at hl 2 rfl) ?_
        obtain ⟨e1, e2⟩ := so_inj hf
        exact aw_iret hC hW hr rfl (p_eq hP (congrArg (fun z => some (Value.int z)) e1) e2) (Nat.le_of_ble_eq_true rfl) (Nat.le_of_ble_eq_true rfl) dX14_servedBy_42
      · have hf := ifn c9 hf
        refine lv_iload_n hx hb dX14_servedBy_12 rfl (lv_at hl 2 rfl) ?_
        refine lv_aload_n hx hb dX14_servedBy_13 rfl (lv_at hl 0 rfl) ?_
        obtain ⟨q14, hq14, hf⟩ := bi_some hf
        refine aw_gR hC hW g6 fl_X14_28 rfl hq14 dX14_servedBy_14 ?_
        refine lv_iload_n hx hb dX14_servedBy_17 rfl (lv_at hl 3 rfl) ?_
        obtain ⟨g18, hf⟩ := gd_some hf
        refine aw_iald hC hW g18 dX14_servedBy_18 ?_
        refine lv_iload_n hx hb dX14_servedBy_19 rfl (lv_at hl 1 rfl) ?_
        refine lv_icmp_ne (tgt := 32) hx hb dX14_servedBy_20 (by decide) (fun c20 => ?_) (fun c20 => ?_)
        · have hf := ifn c20 hf
          refine lv_iconst (v := 0) hx hb dX14_servedBy_32 (by decide) ?_
          exact B33 (f_X14_servedBy_b4 n) ih r0 x1 x3 0 x2 s hf _ _ _ (lv_sub hl [0, 1, 3] rfl) hW
        · have hf := ifp c20 hf
          refine lv_aload_n hx hb dX14_servedBy_23 rfl (lv_at hl 0 rfl) ?_
          obtain ⟨q24, hq24, hf⟩ := bi_some hf
          refine aw_gR hC hW g6 fl_X14_80 rfl hq24 dX14_servedBy_24 ?_
          refine lv_iload_n hx hb dX14_servedBy_27 rfl (lv_at hl 3 rfl) ?_
          obtain ⟨g28, hf⟩ := gd_some hf
          refine aw_iald hC hW g28 dX14_servedBy_28 ?_
          refine lv_goto (tgt := 33) hx hb dX14_servedBy_29 (by decide) ?_
          exact B33 (f_X14_servedBy_b4 n) ih r0 x1 x3 (gi s q24 (x3 : Int32).toNatClampNeg) x2 s hf _ _ _ (lv_sub hl [0, 1, 3] rfl) hW
  unfold f_X14_servedBy at hf
  refine lv_iconst (v := 0) hx hb dX14_servedBy_0 (by decide) ?_
  refine lv_istore_n (lv' := [(2, .int 0), (0, .ref (a o)), (1, .int x1)]) hx hb dX14_servedBy_1 rfl hl (by decide) rfl (fun ls hl => ?_)
  refine lv_iconst (v := 0) hx hb dX14_servedBy_2 (by decide) ?_
  refine lv_istore_n (lv' := [(3, .int 0), (2, .int 0), (0, .ref (a o)), (1, .int x1)]) hx hb dX14_servedBy_3 rfl hl (by decide) rfl (fun ls hl => ?_)
  exact B4 fuel o x1 0 0 s hf _ _ _ (lv_sub hl [2, 3, 1, 0] rfl) hW
